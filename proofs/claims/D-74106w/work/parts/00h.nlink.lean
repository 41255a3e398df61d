/-! LinkTimes -/
set_option maxRecDepth 100000
abbrev cX1_init : ByteArray := prog_1_method_4_code
def yX1_init : MethodName := ⟨RX1, "<init>", "()V"⟩
def dkwX1_init_4 : List UInt8 := [16, 120, 188, 10, 181, 0, 63, 42, 16, 10, 188, 10, 181, 0, 66, 42, 16, 120, 188, 4, 181, 0, 69, 177]
abbrev dktX1_init_4 : List UInt8 := dkwX1_init_4 ++ []
def dkwX1_init_3 : List UInt8 := [16, 121, 188, 10, 181, 0, 54, 42, 16, 120, 188, 10, 181, 0, 57, 42, 16, 120, 188, 10, 181, 0, 60, 42]
abbrev dktX1_init_3 : List UInt8 := dkwX1_init_3 ++ dktX1_init_4
def dkwX1_init_2 : List UInt8 := [181, 0, 37, 42, 187, 0, 41, 89, 42, 183, 0, 43, 181, 0, 46, 42, 16, 121, 188, 10, 181, 0, 50, 42]
abbrev dktX1_init_2 : List UInt8 := dkwX1_init_2 ++ dktX1_init_3
def dkwX1_init_1 : List UInt8 := [187, 0, 22, 89, 183, 0, 24, 183, 0, 25, 181, 0, 28, 42, 187, 0, 32, 89, 16, 10, 183, 0, 34]
abbrev dktX1_init_1 : List UInt8 := dkwX1_init_1 ++ dktX1_init_2
def dkwX1_init_0 : List UInt8 := [42, 183, 0, 10, 42, 2, 181, 0, 7, 42, 17, 3, 132, 188, 8, 181, 0, 16, 42, 187, 0, 20, 89]
abbrev dktX1_init_0 : List UInt8 := dkwX1_init_0 ++ dktX1_init_1
theorem dksX1_init_0 : cX1_init.data.toList.drop 0 = dktX1_init_0 := by decide +kernel
theorem dksX1_init_1 : cX1_init.data.toList.drop 23 = dktX1_init_1 := dk_seg dksX1_init_0 23 rfl rfl
theorem dksX1_init_2 : cX1_init.data.toList.drop 46 = dktX1_init_2 := dk_seg dksX1_init_1 23 rfl rfl
theorem dksX1_init_3 : cX1_init.data.toList.drop 70 = dktX1_init_3 := dk_seg dksX1_init_2 24 rfl rfl
theorem dksX1_init_4 : cX1_init.data.toList.drop 94 = dktX1_init_4 := dk_seg dksX1_init_3 24 rfl rfl
theorem dX1_init_0 : decode cX1_init 0 = .ok (.aload_n 0, 1) := dk_42 (dk_at dksX1_init_0 0 rfl rfl)
theorem dX1_init_1 : decode cX1_init 1 = .ok (.invokespecial 10, 3) := dk_183 0 10 (dk_at dksX1_init_0 1 rfl rfl)
theorem dX1_init_4 : decode cX1_init 4 = .ok (.aload_n 0, 1) := dk_42 (dk_at dksX1_init_0 4 rfl rfl)
theorem dX1_init_5 : decode cX1_init 5 = .ok (.iconst (-1), 1) := dk_2 (dk_at dksX1_init_0 5 rfl rfl)
theorem dX1_init_6 : decode cX1_init 6 = .ok (.putfield 7, 3) := dk_181 0 7 (dk_at dksX1_init_0 6 rfl rfl)
theorem dX1_init_9 : decode cX1_init 9 = .ok (.aload_n 0, 1) := dk_42 (dk_at dksX1_init_0 9 rfl rfl)
theorem dX1_init_10 : decode cX1_init 10 = .ok (.sipush 900, 3) := dk_17 3 132 (dk_at dksX1_init_0 10 rfl rfl)
theorem dX1_init_13 : decode cX1_init 13 = .ok (.newarray .byte, 2) := dk_188_8 (dk_at dksX1_init_0 13 rfl rfl)
theorem dX1_init_15 : decode cX1_init 15 = .ok (.putfield 16, 3) := dk_181 0 16 (dk_at dksX1_init_0 15 rfl rfl)
theorem dX1_init_18 : decode cX1_init 18 = .ok (.aload_n 0, 1) := dk_42 (dk_at dksX1_init_0 18 rfl rfl)
theorem dX1_init_19 : decode cX1_init 19 = .ok (.new 20, 3) := dk_187 0 20 (dk_at dksX1_init_0 19 rfl rfl)
theorem dX1_init_22 : decode cX1_init 22 = .ok (.dup, 1) := dk_89 (dk_at dksX1_init_0 22 rfl rfl)
theorem dX1_init_23 : decode cX1_init 23 = .ok (.new 22, 3) := dk_187 0 22 (dk_at dksX1_init_1 0 rfl rfl)
theorem dX1_init_26 : decode cX1_init 26 = .ok (.dup, 1) := dk_89 (dk_at dksX1_init_1 3 rfl rfl)
theorem dX1_init_27 : decode cX1_init 27 = .ok (.invokespecial 24, 3) := dk_183 0 24 (dk_at dksX1_init_1 4 rfl rfl)
theorem dX1_init_30 : decode cX1_init 30 = .ok (.invokespecial 25, 3) := dk_183 0 25 (dk_at dksX1_init_1 7 rfl rfl)
theorem dX1_init_33 : decode cX1_init 33 = .ok (.putfield 28, 3) := dk_181 0 28 (dk_at dksX1_init_1 10 rfl rfl)
theorem dX1_init_36 : decode cX1_init 36 = .ok (.aload_n 0, 1) := dk_42 (dk_at dksX1_init_1 13 rfl rfl)
theorem dX1_init_37 : decode cX1_init 37 = .ok (.new 32, 3) := dk_187 0 32 (dk_at dksX1_init_1 14 rfl rfl)
theorem dX1_init_40 : decode cX1_init 40 = .ok (.dup, 1) := dk_89 (dk_at dksX1_init_1 17 rfl rfl)
theorem dX1_init_41 : decode cX1_init 41 = .ok (.bipush 10, 2) := dk_16 10 (dk_at dksX1_init_1 18 rfl rfl)
theorem dX1_init_43 : decode cX1_init 43 = .ok (.invokespecial 34, 3) := dk_183 0 34 (dk_at dksX1_init_1 20 rfl rfl)
theorem dX1_init_46 : decode cX1_init 46 = .ok (.putfield 37, 3) := dk_181 0 37 (dk_at dksX1_init_2 0 rfl rfl)
theorem dX1_init_49 : decode cX1_init 49 = .ok (.aload_n 0, 1) := dk_42 (dk_at dksX1_init_2 3 rfl rfl)
theorem dX1_init_50 : decode cX1_init 50 = .ok (.new 41, 3) := dk_187 0 41 (dk_at dksX1_init_2 4 rfl rfl)
theorem dX1_init_53 : decode cX1_init 53 = .ok (.dup, 1) := dk_89 (dk_at dksX1_init_2 7 rfl rfl)
theorem dX1_init_54 : decode cX1_init 54 = .ok (.aload_n 0, 1) := dk_42 (dk_at dksX1_init_2 8 rfl rfl)
theorem dX1_init_55 : decode cX1_init 55 = .ok (.invokespecial 43, 3) := dk_183 0 43 (dk_at dksX1_init_2 9 rfl rfl)
theorem dX1_init_58 : decode cX1_init 58 = .ok (.putfield 46, 3) := dk_181 0 46 (dk_at dksX1_init_2 12 rfl rfl)
theorem dX1_init_61 : decode cX1_init 61 = .ok (.aload_n 0, 1) := dk_42 (dk_at dksX1_init_2 15 rfl rfl)
theorem dX1_init_62 : decode cX1_init 62 = .ok (.bipush 121, 2) := dk_16 121 (dk_at dksX1_init_2 16 rfl rfl)
theorem dX1_init_64 : decode cX1_init 64 = .ok (.newarray .int, 2) := dk_188_10 (dk_at dksX1_init_2 18 rfl rfl)
theorem dX1_init_66 : decode cX1_init 66 = .ok (.putfield 50, 3) := dk_181 0 50 (dk_at dksX1_init_2 20 rfl rfl)
theorem dX1_init_69 : decode cX1_init 69 = .ok (.aload_n 0, 1) := dk_42 (dk_at dksX1_init_2 23 rfl rfl)
theorem dX1_init_70 : decode cX1_init 70 = .ok (.bipush 121, 2) := dk_16 121 (dk_at dksX1_init_3 0 rfl rfl)
theorem dX1_init_72 : decode cX1_init 72 = .ok (.newarray .int, 2) := dk_188_10 (dk_at dksX1_init_3 2 rfl rfl)
theorem dX1_init_74 : decode cX1_init 74 = .ok (.putfield 54, 3) := dk_181 0 54 (dk_at dksX1_init_3 4 rfl rfl)
theorem dX1_init_77 : decode cX1_init 77 = .ok (.aload_n 0, 1) := dk_42 (dk_at dksX1_init_3 7 rfl rfl)
theorem dX1_init_78 : decode cX1_init 78 = .ok (.bipush 120, 2) := dk_16 120 (dk_at dksX1_init_3 8 rfl rfl)
theorem dX1_init_80 : decode cX1_init 80 = .ok (.newarray .int, 2) := dk_188_10 (dk_at dksX1_init_3 10 rfl rfl)
theorem dX1_init_82 : decode cX1_init 82 = .ok (.putfield 57, 3) := dk_181 0 57 (dk_at dksX1_init_3 12 rfl rfl)
theorem dX1_init_85 : decode cX1_init 85 = .ok (.aload_n 0, 1) := dk_42 (dk_at dksX1_init_3 15 rfl rfl)
theorem dX1_init_86 : decode cX1_init 86 = .ok (.bipush 120, 2) := dk_16 120 (dk_at dksX1_init_3 16 rfl rfl)
theorem dX1_init_88 : decode cX1_init 88 = .ok (.newarray .int, 2) := dk_188_10 (dk_at dksX1_init_3 18 rfl rfl)
theorem dX1_init_90 : decode cX1_init 90 = .ok (.putfield 60, 3) := dk_181 0 60 (dk_at dksX1_init_3 20 rfl rfl)
theorem dX1_init_93 : decode cX1_init 93 = .ok (.aload_n 0, 1) := dk_42 (dk_at dksX1_init_3 23 rfl rfl)
theorem dX1_init_94 : decode cX1_init 94 = .ok (.bipush 120, 2) := dk_16 120 (dk_at dksX1_init_4 0 rfl rfl)
theorem dX1_init_96 : decode cX1_init 96 = .ok (.newarray .int, 2) := dk_188_10 (dk_at dksX1_init_4 2 rfl rfl)
theorem dX1_init_98 : decode cX1_init 98 = .ok (.putfield 63, 3) := dk_181 0 63 (dk_at dksX1_init_4 4 rfl rfl)
theorem dX1_init_101 : decode cX1_init 101 = .ok (.aload_n 0, 1) := dk_42 (dk_at dksX1_init_4 7 rfl rfl)
theorem dX1_init_102 : decode cX1_init 102 = .ok (.bipush 10, 2) := dk_16 10 (dk_at dksX1_init_4 8 rfl rfl)
theorem dX1_init_104 : decode cX1_init 104 = .ok (.newarray .int, 2) := dk_188_10 (dk_at dksX1_init_4 10 rfl rfl)
theorem dX1_init_106 : decode cX1_init 106 = .ok (.putfield 66, 3) := dk_181 0 66 (dk_at dksX1_init_4 12 rfl rfl)
theorem dX1_init_109 : decode cX1_init 109 = .ok (.aload_n 0, 1) := dk_42 (dk_at dksX1_init_4 15 rfl rfl)
theorem dX1_init_110 : decode cX1_init 110 = .ok (.bipush 120, 2) := dk_16 120 (dk_at dksX1_init_4 16 rfl rfl)
theorem dX1_init_112 : decode cX1_init 112 = .ok (.newarray .boolean, 2) := dk_188_4 (dk_at dksX1_init_4 18 rfl rfl)
theorem dX1_init_114 : decode cX1_init 114 = .ok (.putfield 69, 3) := dk_181 0 69 (dk_at dksX1_init_4 20 rfl rfl)
theorem dX1_init_117 : decode cX1_init 117 = .ok (.return_, 1) := dk_177 (dk_at dksX1_init_4 23 rfl rfl)
abbrev cX1_feed : ByteArray := prog_1_method_6_code
def yX1_feed : MethodName := ⟨RX1, "feed", "(IIIII)I"⟩
def dkwX1_feed_2 : List UInt8 := [172]
abbrev dktX1_feed_2 : List UInt8 := dkwX1_feed_2 ++ []
def dkwX1_feed_1 : List UInt8 := [182, 0, 76, 42, 29, 182, 0, 76, 42, 21, 4, 182, 0, 76, 42, 21, 5, 182, 0, 76, 42, 180, 0, 73]
abbrev dktX1_feed_1 : List UInt8 := dkwX1_feed_1 ++ dktX1_feed_2
def dkwX1_feed_0 : List UInt8 := [42, 180, 0, 73, 16, 20, 96, 17, 3, 132, 164, 0, 5, 2, 172, 42, 27, 182, 0, 76, 42, 28]
abbrev dktX1_feed_0 : List UInt8 := dkwX1_feed_0 ++ dktX1_feed_1
theorem dksX1_feed_0 : cX1_feed.data.toList.drop 0 = dktX1_feed_0 := by decide +kernel
theorem dksX1_feed_1 : cX1_feed.data.toList.drop 22 = dktX1_feed_1 := dk_seg dksX1_feed_0 22 rfl rfl
theorem dksX1_feed_2 : cX1_feed.data.toList.drop 46 = dktX1_feed_2 := dk_seg dksX1_feed_1 24 rfl rfl
theorem dX1_feed_0 : decode cX1_feed 0 = .ok (.aload_n 0, 1) := dk_42 (dk_at dksX1_feed_0 0 rfl rfl)
theorem dX1_feed_1 : decode cX1_feed 1 = .ok (.getfield 73, 3) := dk_180 0 73 (dk_at dksX1_feed_0 1 rfl rfl)
theorem dX1_feed_4 : decode cX1_feed 4 = .ok (.bipush 20, 2) := dk_16 20 (dk_at dksX1_feed_0 4 rfl rfl)
theorem dX1_feed_6 : decode cX1_feed 6 = .ok (.iadd, 1) := dk_96 (dk_at dksX1_feed_0 6 rfl rfl)
theorem dX1_feed_7 : decode cX1_feed 7 = .ok (.sipush 900, 3) := dk_17 3 132 (dk_at dksX1_feed_0 7 rfl rfl)
theorem dX1_feed_10 : decode cX1_feed 10 = .ok (.if_icmp .le 5, 3) := dk_164 0 5 (dk_at dksX1_feed_0 10 rfl rfl)
theorem dX1_feed_13 : decode cX1_feed 13 = .ok (.iconst (-1), 1) := dk_2 (dk_at dksX1_feed_0 13 rfl rfl)
theorem dX1_feed_14 : decode cX1_feed 14 = .ok (.ireturn, 1) := dk_172 (dk_at dksX1_feed_0 14 rfl rfl)
theorem dX1_feed_15 : decode cX1_feed 15 = .ok (.aload_n 0, 1) := dk_42 (dk_at dksX1_feed_0 15 rfl rfl)
theorem dX1_feed_16 : decode cX1_feed 16 = .ok (.iload_n 1, 1) := dk_27 (dk_at dksX1_feed_0 16 rfl rfl)
theorem dX1_feed_17 : decode cX1_feed 17 = .ok (.invokevirtual 76, 3) := dk_182 0 76 (dk_at dksX1_feed_0 17 rfl rfl)
theorem dX1_feed_20 : decode cX1_feed 20 = .ok (.aload_n 0, 1) := dk_42 (dk_at dksX1_feed_0 20 rfl rfl)
theorem dX1_feed_21 : decode cX1_feed 21 = .ok (.iload_n 2, 1) := dk_28 (dk_at dksX1_feed_0 21 rfl rfl)
theorem dX1_feed_22 : decode cX1_feed 22 = .ok (.invokevirtual 76, 3) := dk_182 0 76 (dk_at dksX1_feed_1 0 rfl rfl)
theorem dX1_feed_25 : decode cX1_feed 25 = .ok (.aload_n 0, 1) := dk_42 (dk_at dksX1_feed_1 3 rfl rfl)
theorem dX1_feed_26 : decode cX1_feed 26 = .ok (.iload_n 3, 1) := dk_29 (dk_at dksX1_feed_1 4 rfl rfl)
theorem dX1_feed_27 : decode cX1_feed 27 = .ok (.invokevirtual 76, 3) := dk_182 0 76 (dk_at dksX1_feed_1 5 rfl rfl)
theorem dX1_feed_30 : decode cX1_feed 30 = .ok (.aload_n 0, 1) := dk_42 (dk_at dksX1_feed_1 8 rfl rfl)
theorem dX1_feed_31 : decode cX1_feed 31 = .ok (.iload 4, 2) := dk_21 4 (dk_at dksX1_feed_1 9 rfl rfl)
theorem dX1_feed_33 : decode cX1_feed 33 = .ok (.invokevirtual 76, 3) := dk_182 0 76 (dk_at dksX1_feed_1 11 rfl rfl)
theorem dX1_feed_36 : decode cX1_feed 36 = .ok (.aload_n 0, 1) := dk_42 (dk_at dksX1_feed_1 14 rfl rfl)
theorem dX1_feed_37 : decode cX1_feed 37 = .ok (.iload 5, 2) := dk_21 5 (dk_at dksX1_feed_1 15 rfl rfl)
theorem dX1_feed_39 : decode cX1_feed 39 = .ok (.invokevirtual 76, 3) := dk_182 0 76 (dk_at dksX1_feed_1 17 rfl rfl)
theorem dX1_feed_42 : decode cX1_feed 42 = .ok (.aload_n 0, 1) := dk_42 (dk_at dksX1_feed_1 20 rfl rfl)
theorem dX1_feed_43 : decode cX1_feed 43 = .ok (.getfield 73, 3) := dk_180 0 73 (dk_at dksX1_feed_1 21 rfl rfl)
theorem dX1_feed_46 : decode cX1_feed 46 = .ok (.ireturn, 1) := dk_172 (dk_at dksX1_feed_2 0 rfl rfl)
abbrev cX1_feedOne : ByteArray := prog_1_method_5_code
def yX1_feedOne : MethodName := ⟨RX1, "feedOne", "(I)V"⟩
def dkwX1_feedOne_1 : List UInt8 := [180, 0, 73, 4, 96, 181, 0, 73, 132, 2, 248, 167, 255, 226, 177]
abbrev dktX1_feedOne_1 : List UInt8 := dkwX1_feedOne_1 ++ []
def dkwX1_feedOne_0 : List UInt8 := [16, 24, 61, 28, 155, 0, 32, 42, 180, 0, 16, 42, 180, 0, 73, 27, 28, 122, 145, 84, 42, 89]
abbrev dktX1_feedOne_0 : List UInt8 := dkwX1_feedOne_0 ++ dktX1_feedOne_1
theorem dksX1_feedOne_0 : cX1_feedOne.data.toList.drop 0 = dktX1_feedOne_0 := by decide +kernel
theorem dksX1_feedOne_1 : cX1_feedOne.data.toList.drop 22 = dktX1_feedOne_1 := dk_seg dksX1_feedOne_0 22 rfl rfl
theorem dX1_feedOne_0 : decode cX1_feedOne 0 = .ok (.bipush 24, 2) := dk_16 24 (dk_at dksX1_feedOne_0 0 rfl rfl)
theorem dX1_feedOne_2 : decode cX1_feedOne 2 = .ok (.istore_n 2, 1) := dk_61 (dk_at dksX1_feedOne_0 2 rfl rfl)
theorem dX1_feedOne_3 : decode cX1_feedOne 3 = .ok (.iload_n 2, 1) := dk_28 (dk_at dksX1_feedOne_0 3 rfl rfl)
theorem dX1_feedOne_4 : decode cX1_feedOne 4 = .ok (.ifCond .lt 32, 3) := dk_155 0 32 (dk_at dksX1_feedOne_0 4 rfl rfl)
theorem dX1_feedOne_7 : decode cX1_feedOne 7 = .ok (.aload_n 0, 1) := dk_42 (dk_at dksX1_feedOne_0 7 rfl rfl)
theorem dX1_feedOne_8 : decode cX1_feedOne 8 = .ok (.getfield 16, 3) := dk_180 0 16 (dk_at dksX1_feedOne_0 8 rfl rfl)
theorem dX1_feedOne_11 : decode cX1_feedOne 11 = .ok (.aload_n 0, 1) := dk_42 (dk_at dksX1_feedOne_0 11 rfl rfl)
theorem dX1_feedOne_12 : decode cX1_feedOne 12 = .ok (.getfield 73, 3) := dk_180 0 73 (dk_at dksX1_feedOne_0 12 rfl rfl)
theorem dX1_feedOne_15 : decode cX1_feedOne 15 = .ok (.iload_n 1, 1) := dk_27 (dk_at dksX1_feedOne_0 15 rfl rfl)
theorem dX1_feedOne_16 : decode cX1_feedOne 16 = .ok (.iload_n 2, 1) := dk_28 (dk_at dksX1_feedOne_0 16 rfl rfl)
theorem dX1_feedOne_17 : decode cX1_feedOne 17 = .ok (.ishr, 1) := dk_122 (dk_at dksX1_feedOne_0 17 rfl rfl)
theorem dX1_feedOne_18 : decode cX1_feedOne 18 = .ok (.i2b, 1) := dk_145 (dk_at dksX1_feedOne_0 18 rfl rfl)
theorem dX1_feedOne_19 : decode cX1_feedOne 19 = .ok (.bastore, 1) := dk_84 (dk_at dksX1_feedOne_0 19 rfl rfl)
theorem dX1_feedOne_20 : decode cX1_feedOne 20 = .ok (.aload_n 0, 1) := dk_42 (dk_at dksX1_feedOne_0 20 rfl rfl)
theorem dX1_feedOne_21 : decode cX1_feedOne 21 = .ok (.dup, 1) := dk_89 (dk_at dksX1_feedOne_0 21 rfl rfl)
theorem dX1_feedOne_22 : decode cX1_feedOne 22 = .ok (.getfield 73, 3) := dk_180 0 73 (dk_at dksX1_feedOne_1 0 rfl rfl)
theorem dX1_feedOne_25 : decode cX1_feedOne 25 = .ok (.iconst 1, 1) := dk_4 (dk_at dksX1_feedOne_1 3 rfl rfl)
theorem dX1_feedOne_26 : decode cX1_feedOne 26 = .ok (.iadd, 1) := dk_96 (dk_at dksX1_feedOne_1 4 rfl rfl)
theorem dX1_feedOne_27 : decode cX1_feedOne 27 = .ok (.putfield 73, 3) := dk_181 0 73 (dk_at dksX1_feedOne_1 5 rfl rfl)
theorem dX1_feedOne_30 : decode cX1_feedOne 30 = .ok (.iinc 2 (-8), 3) := dk_132 2 248 (dk_at dksX1_feedOne_1 8 rfl rfl)
theorem dX1_feedOne_33 : decode cX1_feedOne 33 = .ok (.goto (-30), 3) := dk_167 255 226 (dk_at dksX1_feedOne_1 11 rfl rfl)
theorem dX1_feedOne_36 : decode cX1_feedOne 36 = .ok (.return_, 1) := dk_177 (dk_at dksX1_feedOne_1 14 rfl rfl)
abbrev cX1_desk : ByteArray := prog_1_method_7_code
def yX1_desk : MethodName := ⟨RX1, "desk", "(I)I"⟩
def dkwX1_desk_6 : List UInt8 := [180, 0, 99, 180, 0, 121, 182, 0, 127, 182, 0, 143, 172]
abbrev dktX1_desk_6 : List UInt8 := dkwX1_desk_6 ++ []
def dkwX1_desk_5 : List UInt8 := [180, 0, 121, 28, 182, 0, 133, 192, 0, 137, 182, 0, 139, 87, 132, 2, 1, 167, 255, 217, 42, 42]
abbrev dktX1_desk_5 : List UInt8 := dkwX1_desk_5 ++ dktX1_desk_6
def dkwX1_desk_4 : List UInt8 := [28, 42, 180, 0, 99, 180, 0, 121, 182, 0, 127, 162, 0, 31, 42, 180, 0, 28, 42, 180, 0, 99]
abbrev dktX1_desk_4 : List UInt8 := dkwX1_desk_4 ++ dktX1_desk_5
def dkwX1_desk_3 : List UInt8 := [180, 0, 114, 181, 0, 7, 2, 172, 42, 180, 0, 37, 182, 0, 117, 42, 180, 0, 28, 182, 0, 120, 3, 61]
abbrev dktX1_desk_3 : List UInt8 := dkwX1_desk_3 ++ dktX1_desk_4
def dkwX1_desk_2 : List UInt8 := [44, 182, 0, 105, 192, 0, 109, 78, 42, 45, 180, 0, 111, 181, 0, 87, 42, 7, 182, 0, 83, 87, 42, 45]
abbrev dktX1_desk_2 : List UInt8 := dkwX1_desk_2 ++ dktX1_desk_3
def dkwX1_desk_1 : List UInt8 := [3, 181, 0, 73, 42, 187, 0, 90, 89, 42, 27, 183, 0, 92, 182, 0, 95, 181, 0, 99, 167, 0, 36, 77]
abbrev dktX1_desk_1 : List UInt8 := dkwX1_desk_1 ++ dktX1_desk_2
def dkwX1_desk_0 : List UInt8 := [27, 3, 42, 180, 0, 73, 184, 0, 79, 154, 0, 9, 42, 5, 182, 0, 83, 172, 42, 3, 181, 0, 87, 42]
abbrev dktX1_desk_0 : List UInt8 := dkwX1_desk_0 ++ dktX1_desk_1
theorem dksX1_desk_0 : cX1_desk.data.toList.drop 0 = dktX1_desk_0 := by decide +kernel
theorem dksX1_desk_1 : cX1_desk.data.toList.drop 24 = dktX1_desk_1 := dk_seg dksX1_desk_0 24 rfl rfl
theorem dksX1_desk_2 : cX1_desk.data.toList.drop 48 = dktX1_desk_2 := dk_seg dksX1_desk_1 24 rfl rfl
theorem dksX1_desk_3 : cX1_desk.data.toList.drop 72 = dktX1_desk_3 := dk_seg dksX1_desk_2 24 rfl rfl
theorem dksX1_desk_4 : cX1_desk.data.toList.drop 96 = dktX1_desk_4 := dk_seg dksX1_desk_3 24 rfl rfl
theorem dksX1_desk_5 : cX1_desk.data.toList.drop 118 = dktX1_desk_5 := dk_seg dksX1_desk_4 22 rfl rfl
theorem dksX1_desk_6 : cX1_desk.data.toList.drop 140 = dktX1_desk_6 := dk_seg dksX1_desk_5 22 rfl rfl
theorem dX1_desk_0 : decode cX1_desk 0 = .ok (.iload_n 1, 1) := dk_27 (dk_at dksX1_desk_0 0 rfl rfl)
theorem dX1_desk_1 : decode cX1_desk 1 = .ok (.iconst 0, 1) := dk_3 (dk_at dksX1_desk_0 1 rfl rfl)
theorem dX1_desk_2 : decode cX1_desk 2 = .ok (.aload_n 0, 1) := dk_42 (dk_at dksX1_desk_0 2 rfl rfl)
theorem dX1_desk_3 : decode cX1_desk 3 = .ok (.getfield 73, 3) := dk_180 0 73 (dk_at dksX1_desk_0 3 rfl rfl)
theorem dX1_desk_6 : decode cX1_desk 6 = .ok (.invokestatic 79, 3) := dk_184 0 79 (dk_at dksX1_desk_0 6 rfl rfl)
theorem dX1_desk_9 : decode cX1_desk 9 = .ok (.ifCond .ne 9, 3) := dk_154 0 9 (dk_at dksX1_desk_0 9 rfl rfl)
theorem dX1_desk_12 : decode cX1_desk 12 = .ok (.aload_n 0, 1) := dk_42 (dk_at dksX1_desk_0 12 rfl rfl)
theorem dX1_desk_13 : decode cX1_desk 13 = .ok (.iconst 2, 1) := dk_5 (dk_at dksX1_desk_0 13 rfl rfl)
theorem dX1_desk_14 : decode cX1_desk 14 = .ok (.invokevirtual 83, 3) := dk_182 0 83 (dk_at dksX1_desk_0 14 rfl rfl)
theorem dX1_desk_17 : decode cX1_desk 17 = .ok (.ireturn, 1) := dk_172 (dk_at dksX1_desk_0 17 rfl rfl)
theorem dX1_desk_18 : decode cX1_desk 18 = .ok (.aload_n 0, 1) := dk_42 (dk_at dksX1_desk_0 18 rfl rfl)
theorem dX1_desk_19 : decode cX1_desk 19 = .ok (.iconst 0, 1) := dk_3 (dk_at dksX1_desk_0 19 rfl rfl)
theorem dX1_desk_20 : decode cX1_desk 20 = .ok (.putfield 87, 3) := dk_181 0 87 (dk_at dksX1_desk_0 20 rfl rfl)
theorem dX1_desk_23 : decode cX1_desk 23 = .ok (.aload_n 0, 1) := dk_42 (dk_at dksX1_desk_0 23 rfl rfl)
theorem dX1_desk_24 : decode cX1_desk 24 = .ok (.iconst 0, 1) := dk_3 (dk_at dksX1_desk_1 0 rfl rfl)
theorem dX1_desk_25 : decode cX1_desk 25 = .ok (.putfield 73, 3) := dk_181 0 73 (dk_at dksX1_desk_1 1 rfl rfl)
theorem dX1_desk_28 : decode cX1_desk 28 = .ok (.aload_n 0, 1) := dk_42 (dk_at dksX1_desk_1 4 rfl rfl)
theorem dX1_desk_29 : decode cX1_desk 29 = .ok (.new 90, 3) := dk_187 0 90 (dk_at dksX1_desk_1 5 rfl rfl)
theorem dX1_desk_32 : decode cX1_desk 32 = .ok (.dup, 1) := dk_89 (dk_at dksX1_desk_1 8 rfl rfl)
theorem dX1_desk_33 : decode cX1_desk 33 = .ok (.aload_n 0, 1) := dk_42 (dk_at dksX1_desk_1 9 rfl rfl)
theorem dX1_desk_34 : decode cX1_desk 34 = .ok (.iload_n 1, 1) := dk_27 (dk_at dksX1_desk_1 10 rfl rfl)
theorem dX1_desk_35 : decode cX1_desk 35 = .ok (.invokespecial 92, 3) := dk_183 0 92 (dk_at dksX1_desk_1 11 rfl rfl)
theorem dX1_desk_38 : decode cX1_desk 38 = .ok (.invokevirtual 95, 3) := dk_182 0 95 (dk_at dksX1_desk_1 14 rfl rfl)
theorem dX1_desk_41 : decode cX1_desk 41 = .ok (.putfield 99, 3) := dk_181 0 99 (dk_at dksX1_desk_1 17 rfl rfl)
theorem dX1_desk_44 : decode cX1_desk 44 = .ok (.goto 36, 3) := dk_167 0 36 (dk_at dksX1_desk_1 20 rfl rfl)
theorem dX1_desk_47 : decode cX1_desk 47 = .ok (.astore_n 2, 1) := dk_77 (dk_at dksX1_desk_1 23 rfl rfl)
theorem dX1_desk_48 : decode cX1_desk 48 = .ok (.aload_n 2, 1) := dk_44 (dk_at dksX1_desk_2 0 rfl rfl)
theorem dX1_desk_49 : decode cX1_desk 49 = .ok (.invokevirtual 105, 3) := dk_182 0 105 (dk_at dksX1_desk_2 1 rfl rfl)
theorem dX1_desk_52 : decode cX1_desk 52 = .ok (.checkcast 109, 3) := dk_192 0 109 (dk_at dksX1_desk_2 4 rfl rfl)
theorem dX1_desk_55 : decode cX1_desk 55 = .ok (.astore_n 3, 1) := dk_78 (dk_at dksX1_desk_2 7 rfl rfl)
theorem dX1_desk_56 : decode cX1_desk 56 = .ok (.aload_n 0, 1) := dk_42 (dk_at dksX1_desk_2 8 rfl rfl)
theorem dX1_desk_57 : decode cX1_desk 57 = .ok (.aload_n 3, 1) := dk_45 (dk_at dksX1_desk_2 9 rfl rfl)
theorem dX1_desk_58 : decode cX1_desk 58 = .ok (.getfield 111, 3) := dk_180 0 111 (dk_at dksX1_desk_2 10 rfl rfl)
theorem dX1_desk_61 : decode cX1_desk 61 = .ok (.putfield 87, 3) := dk_181 0 87 (dk_at dksX1_desk_2 13 rfl rfl)
theorem dX1_desk_64 : decode cX1_desk 64 = .ok (.aload_n 0, 1) := dk_42 (dk_at dksX1_desk_2 16 rfl rfl)
theorem dX1_desk_65 : decode cX1_desk 65 = .ok (.iconst 4, 1) := dk_7 (dk_at dksX1_desk_2 17 rfl rfl)
theorem dX1_desk_66 : decode cX1_desk 66 = .ok (.invokevirtual 83, 3) := dk_182 0 83 (dk_at dksX1_desk_2 18 rfl rfl)
theorem dX1_desk_69 : decode cX1_desk 69 = .ok (.pop, 1) := dk_87 (dk_at dksX1_desk_2 21 rfl rfl)
theorem dX1_desk_70 : decode cX1_desk 70 = .ok (.aload_n 0, 1) := dk_42 (dk_at dksX1_desk_2 22 rfl rfl)
theorem dX1_desk_71 : decode cX1_desk 71 = .ok (.aload_n 3, 1) := dk_45 (dk_at dksX1_desk_2 23 rfl rfl)
theorem dX1_desk_72 : decode cX1_desk 72 = .ok (.getfield 114, 3) := dk_180 0 114 (dk_at dksX1_desk_3 0 rfl rfl)
theorem dX1_desk_75 : decode cX1_desk 75 = .ok (.putfield 7, 3) := dk_181 0 7 (dk_at dksX1_desk_3 3 rfl rfl)
theorem dX1_desk_78 : decode cX1_desk 78 = .ok (.iconst (-1), 1) := dk_2 (dk_at dksX1_desk_3 6 rfl rfl)
theorem dX1_desk_79 : decode cX1_desk 79 = .ok (.ireturn, 1) := dk_172 (dk_at dksX1_desk_3 7 rfl rfl)
theorem dX1_desk_80 : decode cX1_desk 80 = .ok (.aload_n 0, 1) := dk_42 (dk_at dksX1_desk_3 8 rfl rfl)
theorem dX1_desk_81 : decode cX1_desk 81 = .ok (.getfield 37, 3) := dk_180 0 37 (dk_at dksX1_desk_3 9 rfl rfl)
theorem dX1_desk_84 : decode cX1_desk 84 = .ok (.invokevirtual 117, 3) := dk_182 0 117 (dk_at dksX1_desk_3 12 rfl rfl)
theorem dX1_desk_87 : decode cX1_desk 87 = .ok (.aload_n 0, 1) := dk_42 (dk_at dksX1_desk_3 15 rfl rfl)
theorem dX1_desk_88 : decode cX1_desk 88 = .ok (.getfield 28, 3) := dk_180 0 28 (dk_at dksX1_desk_3 16 rfl rfl)
theorem dX1_desk_91 : decode cX1_desk 91 = .ok (.invokevirtual 120, 3) := dk_182 0 120 (dk_at dksX1_desk_3 19 rfl rfl)
theorem dX1_desk_94 : decode cX1_desk 94 = .ok (.iconst 0, 1) := dk_3 (dk_at dksX1_desk_3 22 rfl rfl)
theorem dX1_desk_95 : decode cX1_desk 95 = .ok (.istore_n 2, 1) := dk_61 (dk_at dksX1_desk_3 23 rfl rfl)
theorem dX1_desk_96 : decode cX1_desk 96 = .ok (.iload_n 2, 1) := dk_28 (dk_at dksX1_desk_4 0 rfl rfl)
theorem dX1_desk_97 : decode cX1_desk 97 = .ok (.aload_n 0, 1) := dk_42 (dk_at dksX1_desk_4 1 rfl rfl)
theorem dX1_desk_98 : decode cX1_desk 98 = .ok (.getfield 99, 3) := dk_180 0 99 (dk_at dksX1_desk_4 2 rfl rfl)
theorem dX1_desk_101 : decode cX1_desk 101 = .ok (.getfield 121, 3) := dk_180 0 121 (dk_at dksX1_desk_4 5 rfl rfl)
theorem dX1_desk_104 : decode cX1_desk 104 = .ok (.invokevirtual 127, 3) := dk_182 0 127 (dk_at dksX1_desk_4 8 rfl rfl)
theorem dX1_desk_107 : decode cX1_desk 107 = .ok (.if_icmp .ge 31, 3) := dk_162 0 31 (dk_at dksX1_desk_4 11 rfl rfl)
theorem dX1_desk_110 : decode cX1_desk 110 = .ok (.aload_n 0, 1) := dk_42 (dk_at dksX1_desk_4 14 rfl rfl)
theorem dX1_desk_111 : decode cX1_desk 111 = .ok (.getfield 28, 3) := dk_180 0 28 (dk_at dksX1_desk_4 15 rfl rfl)
theorem dX1_desk_114 : decode cX1_desk 114 = .ok (.aload_n 0, 1) := dk_42 (dk_at dksX1_desk_4 18 rfl rfl)
theorem dX1_desk_115 : decode cX1_desk 115 = .ok (.getfield 99, 3) := dk_180 0 99 (dk_at dksX1_desk_4 19 rfl rfl)
theorem dX1_desk_118 : decode cX1_desk 118 = .ok (.getfield 121, 3) := dk_180 0 121 (dk_at dksX1_desk_5 0 rfl rfl)
theorem dX1_desk_121 : decode cX1_desk 121 = .ok (.iload_n 2, 1) := dk_28 (dk_at dksX1_desk_5 3 rfl rfl)
theorem dX1_desk_122 : decode cX1_desk 122 = .ok (.invokevirtual 133, 3) := dk_182 0 133 (dk_at dksX1_desk_5 4 rfl rfl)
theorem dX1_desk_125 : decode cX1_desk 125 = .ok (.checkcast 137, 3) := dk_192 0 137 (dk_at dksX1_desk_5 7 rfl rfl)
theorem dX1_desk_128 : decode cX1_desk 128 = .ok (.invokevirtual 139, 3) := dk_182 0 139 (dk_at dksX1_desk_5 10 rfl rfl)
theorem dX1_desk_131 : decode cX1_desk 131 = .ok (.pop, 1) := dk_87 (dk_at dksX1_desk_5 13 rfl rfl)
theorem dX1_desk_132 : decode cX1_desk 132 = .ok (.iinc 2 1, 3) := dk_132 2 1 (dk_at dksX1_desk_5 14 rfl rfl)
theorem dX1_desk_135 : decode cX1_desk 135 = .ok (.goto (-39), 3) := dk_167 255 217 (dk_at dksX1_desk_5 17 rfl rfl)
theorem dX1_desk_138 : decode cX1_desk 138 = .ok (.aload_n 0, 1) := dk_42 (dk_at dksX1_desk_5 20 rfl rfl)
theorem dX1_desk_139 : decode cX1_desk 139 = .ok (.aload_n 0, 1) := dk_42 (dk_at dksX1_desk_5 21 rfl rfl)
theorem dX1_desk_140 : decode cX1_desk 140 = .ok (.getfield 99, 3) := dk_180 0 99 (dk_at dksX1_desk_6 0 rfl rfl)
theorem dX1_desk_143 : decode cX1_desk 143 = .ok (.getfield 121, 3) := dk_180 0 121 (dk_at dksX1_desk_6 3 rfl rfl)
theorem dX1_desk_146 : decode cX1_desk 146 = .ok (.invokevirtual 127, 3) := dk_182 0 127 (dk_at dksX1_desk_6 6 rfl rfl)
theorem dX1_desk_149 : decode cX1_desk 149 = .ok (.invokevirtual 143, 3) := dk_182 0 143 (dk_at dksX1_desk_6 9 rfl rfl)
theorem dX1_desk_152 : decode cX1_desk 152 = .ok (.ireturn, 1) := dk_172 (dk_at dksX1_desk_6 12 rfl rfl)
abbrev cX1_isIn : ByteArray := prog_1_method_1_code
def yX1_isIn : MethodName := ⟨RX1, "isIn", "(III)Z"⟩
def dkwX1_isIn_0 : List UInt8 := [26, 27, 161, 0, 12, 26, 28, 163, 0, 7, 4, 167, 0, 4, 3, 172]
abbrev dktX1_isIn_0 : List UInt8 := dkwX1_isIn_0 ++ []
theorem dksX1_isIn_0 : cX1_isIn.data.toList.drop 0 = dktX1_isIn_0 := by decide +kernel
theorem dX1_isIn_0 : decode cX1_isIn 0 = .ok (.iload_n 0, 1) := dk_26 (dk_at dksX1_isIn_0 0 rfl rfl)
theorem dX1_isIn_1 : decode cX1_isIn 1 = .ok (.iload_n 1, 1) := dk_27 (dk_at dksX1_isIn_0 1 rfl rfl)
theorem dX1_isIn_2 : decode cX1_isIn 2 = .ok (.if_icmp .lt 12, 3) := dk_161 0 12 (dk_at dksX1_isIn_0 2 rfl rfl)
theorem dX1_isIn_5 : decode cX1_isIn 5 = .ok (.iload_n 0, 1) := dk_26 (dk_at dksX1_isIn_0 5 rfl rfl)
theorem dX1_isIn_6 : decode cX1_isIn 6 = .ok (.iload_n 2, 1) := dk_28 (dk_at dksX1_isIn_0 6 rfl rfl)
theorem dX1_isIn_7 : decode cX1_isIn 7 = .ok (.if_icmp .gt 7, 3) := dk_163 0 7 (dk_at dksX1_isIn_0 7 rfl rfl)
theorem dX1_isIn_10 : decode cX1_isIn 10 = .ok (.iconst 1, 1) := dk_4 (dk_at dksX1_isIn_0 10 rfl rfl)
theorem dX1_isIn_11 : decode cX1_isIn 11 = .ok (.goto 4, 3) := dk_167 0 4 (dk_at dksX1_isIn_0 11 rfl rfl)
theorem dX1_isIn_14 : decode cX1_isIn 14 = .ok (.iconst 0, 1) := dk_3 (dk_at dksX1_isIn_0 14 rfl rfl)
theorem dX1_isIn_15 : decode cX1_isIn 15 = .ok (.ireturn, 1) := dk_172 (dk_at dksX1_isIn_0 15 rfl rfl)
abbrev cX1_refused : ByteArray := prog_1_method_2_code
def yX1_refused : MethodName := ⟨RX1, "refused", "(I)I"⟩
def dkwX1_refused_0 : List UInt8 := [42, 27, 181, 0, 1, 42, 2, 181, 0, 7, 2, 172]
abbrev dktX1_refused_0 : List UInt8 := dkwX1_refused_0 ++ []
theorem dksX1_refused_0 : cX1_refused.data.toList.drop 0 = dktX1_refused_0 := by decide +kernel
theorem dX1_refused_0 : decode cX1_refused 0 = .ok (.aload_n 0, 1) := dk_42 (dk_at dksX1_refused_0 0 rfl rfl)
theorem dX1_refused_1 : decode cX1_refused 1 = .ok (.iload_n 1, 1) := dk_27 (dk_at dksX1_refused_0 1 rfl rfl)
theorem dX1_refused_2 : decode cX1_refused 2 = .ok (.putfield 1, 3) := dk_181 0 1 (dk_at dksX1_refused_0 2 rfl rfl)
theorem dX1_refused_5 : decode cX1_refused 5 = .ok (.aload_n 0, 1) := dk_42 (dk_at dksX1_refused_0 5 rfl rfl)
theorem dX1_refused_6 : decode cX1_refused 6 = .ok (.iconst (-1), 1) := dk_2 (dk_at dksX1_refused_0 6 rfl rfl)
theorem dX1_refused_7 : decode cX1_refused 7 = .ok (.putfield 7, 3) := dk_181 0 7 (dk_at dksX1_refused_0 7 rfl rfl)
theorem dX1_refused_10 : decode cX1_refused 10 = .ok (.iconst (-1), 1) := dk_2 (dk_at dksX1_refused_0 10 rfl rfl)
theorem dX1_refused_11 : decode cX1_refused 11 = .ok (.ireturn, 1) := dk_172 (dk_at dksX1_refused_0 11 rfl rfl)
abbrev cX1_fine : ByteArray := prog_1_method_3_code
def yX1_fine : MethodName := ⟨RX1, "fine", "(I)I"⟩
def dkwX1_fine_0 : List UInt8 := [42, 3, 181, 0, 1, 42, 2, 181, 0, 7, 27, 172]
abbrev dktX1_fine_0 : List UInt8 := dkwX1_fine_0 ++ []
theorem dksX1_fine_0 : cX1_fine.data.toList.drop 0 = dktX1_fine_0 := by decide +kernel
theorem dX1_fine_0 : decode cX1_fine 0 = .ok (.aload_n 0, 1) := dk_42 (dk_at dksX1_fine_0 0 rfl rfl)
theorem dX1_fine_1 : decode cX1_fine 1 = .ok (.iconst 0, 1) := dk_3 (dk_at dksX1_fine_0 1 rfl rfl)
theorem dX1_fine_2 : decode cX1_fine 2 = .ok (.putfield 1, 3) := dk_181 0 1 (dk_at dksX1_fine_0 2 rfl rfl)
theorem dX1_fine_5 : decode cX1_fine 5 = .ok (.aload_n 0, 1) := dk_42 (dk_at dksX1_fine_0 5 rfl rfl)
theorem dX1_fine_6 : decode cX1_fine 6 = .ok (.iconst (-1), 1) := dk_2 (dk_at dksX1_fine_0 6 rfl rfl)
theorem dX1_fine_7 : decode cX1_fine 7 = .ok (.putfield 7, 3) := dk_181 0 7 (dk_at dksX1_fine_0 7 rfl rfl)
theorem dX1_fine_10 : decode cX1_fine 10 = .ok (.iload_n 1, 1) := dk_27 (dk_at dksX1_fine_0 10 rfl rfl)
theorem dX1_fine_11 : decode cX1_fine 11 = .ok (.ireturn, 1) := dk_172 (dk_at dksX1_fine_0 11 rfl rfl)
abbrev cX1_fault : ByteArray := prog_1_method_8_code
def yX1_fault : MethodName := ⟨RX1, "fault", "()I"⟩
theorem dX1_fault_0 : decode cX1_fault 0 = .ok (.aload_n 0, 1) := by decide +kernel
theorem dX1_fault_1 : decode cX1_fault 1 = .ok (.getfield 87, 3) := by decide +kernel
theorem dX1_fault_4 : decode cX1_fault 4 = .ok (.ireturn, 1) := by decide +kernel
abbrev cX1_where : ByteArray := prog_1_method_9_code
def yX1_where : MethodName := ⟨RX1, "where", "()I"⟩
theorem dX1_where_0 : decode cX1_where 0 = .ok (.aload_n 0, 1) := by decide +kernel
theorem dX1_where_1 : decode cX1_where 1 = .ok (.getfield 7, 3) := by decide +kernel
theorem dX1_where_4 : decode cX1_where 4 = .ok (.ireturn, 1) := by decide +kernel
abbrev cX1_about : ByteArray := prog_1_method_10_code
def yX1_about : MethodName := ⟨RX1, "about", "(I)I"⟩
def dkwX1_about_5 : List UInt8 := [180, 0, 28, 182, 0, 158, 182, 0, 143, 172, 42, 4, 182, 0, 83, 172]
abbrev dktX1_about_5 : List UInt8 := dkwX1_about_5 ++ []
def dkwX1_about_4 : List UInt8 := [180, 0, 155, 182, 0, 143, 172, 42, 42, 180, 0, 99, 180, 0, 121, 182, 0, 127, 182, 0, 143, 172, 42, 42]
abbrev dktX1_about_4 : List UInt8 := dkwX1_about_4 ++ dktX1_about_5
def dkwX1_about_3 : List UInt8 := [182, 0, 143, 172, 42, 42, 180, 0, 99, 180, 0, 152, 182, 0, 127, 182, 0, 143, 172, 42, 42, 180, 0, 99]
abbrev dktX1_about_3 : List UInt8 := dkwX1_about_3 ++ dktX1_about_4
def dkwX1_about_2 : List UInt8 := [42, 42, 180, 0, 99, 180, 0, 146, 182, 0, 143, 172, 42, 42, 180, 0, 99, 180, 0, 149, 182, 0, 127]
abbrev dktX1_about_2 : List UInt8 := dkwX1_about_2 ++ dktX1_about_3
def dkwX1_about_1 : List UInt8 := [170, 0, 0, 0, 0, 119, 0, 0, 0, 0, 0, 0, 0, 5, 0, 0, 0, 38, 0, 0, 0, 50, 0, 0, 0, 65, 0, 0, 0, 80, 0, 0, 0, 92, 0, 0, 0, 107]
abbrev dktX1_about_1 : List UInt8 := dkwX1_about_1 ++ dktX1_about_2
def dkwX1_about_0 : List UInt8 := [42, 180, 0, 99, 199, 0, 9, 42, 4, 182, 0, 83, 172, 27]
abbrev dktX1_about_0 : List UInt8 := dkwX1_about_0 ++ dktX1_about_1
theorem dksX1_about_0 : cX1_about.data.toList.drop 0 = dktX1_about_0 := by decide +kernel
theorem dksX1_about_1 : cX1_about.data.toList.drop 14 = dktX1_about_1 := dk_seg dksX1_about_0 14 rfl rfl
theorem dksX1_about_2 : cX1_about.data.toList.drop 52 = dktX1_about_2 := dk_seg dksX1_about_1 38 rfl rfl
theorem dksX1_about_3 : cX1_about.data.toList.drop 75 = dktX1_about_3 := dk_seg dksX1_about_2 23 rfl rfl
theorem dksX1_about_4 : cX1_about.data.toList.drop 99 = dktX1_about_4 := dk_seg dksX1_about_3 24 rfl rfl
theorem dksX1_about_5 : cX1_about.data.toList.drop 123 = dktX1_about_5 := dk_seg dksX1_about_4 24 rfl rfl
theorem dX1_about_0 : decode cX1_about 0 = .ok (.aload_n 0, 1) := dk_42 (dk_at dksX1_about_0 0 rfl rfl)
theorem dX1_about_1 : decode cX1_about 1 = .ok (.getfield 99, 3) := dk_180 0 99 (dk_at dksX1_about_0 1 rfl rfl)
theorem dX1_about_4 : decode cX1_about 4 = .ok (.ifnonnull 9, 3) := dk_199 0 9 (dk_at dksX1_about_0 4 rfl rfl)
theorem dX1_about_7 : decode cX1_about 7 = .ok (.aload_n 0, 1) := dk_42 (dk_at dksX1_about_0 7 rfl rfl)
theorem dX1_about_8 : decode cX1_about 8 = .ok (.iconst 1, 1) := dk_4 (dk_at dksX1_about_0 8 rfl rfl)
theorem dX1_about_9 : decode cX1_about 9 = .ok (.invokevirtual 83, 3) := dk_182 0 83 (dk_at dksX1_about_0 9 rfl rfl)
theorem dX1_about_12 : decode cX1_about 12 = .ok (.ireturn, 1) := dk_172 (dk_at dksX1_about_0 12 rfl rfl)
theorem dX1_about_13 : decode cX1_about 13 = .ok (.iload_n 1, 1) := dk_27 (dk_at dksX1_about_0 13 rfl rfl)
theorem dX1_about_14 : decode cX1_about 14 = .ok (.tableswitch 119 0 5 #[38, 50, 65, 80, 92, 107], 38) := by decide +kernel
theorem dX1_about_52 : decode cX1_about 52 = .ok (.aload_n 0, 1) := dk_42 (dk_at dksX1_about_2 0 rfl rfl)
theorem dX1_about_53 : decode cX1_about 53 = .ok (.aload_n 0, 1) := dk_42 (dk_at dksX1_about_2 1 rfl rfl)
theorem dX1_about_54 : decode cX1_about 54 = .ok (.getfield 99, 3) := dk_180 0 99 (dk_at dksX1_about_2 2 rfl rfl)
theorem dX1_about_57 : decode cX1_about 57 = .ok (.getfield 146, 3) := dk_180 0 146 (dk_at dksX1_about_2 5 rfl rfl)
theorem dX1_about_60 : decode cX1_about 60 = .ok (.invokevirtual 143, 3) := dk_182 0 143 (dk_at dksX1_about_2 8 rfl rfl)
theorem dX1_about_63 : decode cX1_about 63 = .ok (.ireturn, 1) := dk_172 (dk_at dksX1_about_2 11 rfl rfl)
theorem dX1_about_64 : decode cX1_about 64 = .ok (.aload_n 0, 1) := dk_42 (dk_at dksX1_about_2 12 rfl rfl)
theorem dX1_about_65 : decode cX1_about 65 = .ok (.aload_n 0, 1) := dk_42 (dk_at dksX1_about_2 13 rfl rfl)
theorem dX1_about_66 : decode cX1_about 66 = .ok (.getfield 99, 3) := dk_180 0 99 (dk_at dksX1_about_2 14 rfl rfl)
theorem dX1_about_69 : decode cX1_about 69 = .ok (.getfield 149, 3) := dk_180 0 149 (dk_at dksX1_about_2 17 rfl rfl)
theorem dX1_about_72 : decode cX1_about 72 = .ok (.invokevirtual 127, 3) := dk_182 0 127 (dk_at dksX1_about_2 20 rfl rfl)
theorem dX1_about_75 : decode cX1_about 75 = .ok (.invokevirtual 143, 3) := dk_182 0 143 (dk_at dksX1_about_3 0 rfl rfl)
theorem dX1_about_78 : decode cX1_about 78 = .ok (.ireturn, 1) := dk_172 (dk_at dksX1_about_3 3 rfl rfl)
theorem dX1_about_79 : decode cX1_about 79 = .ok (.aload_n 0, 1) := dk_42 (dk_at dksX1_about_3 4 rfl rfl)
theorem dX1_about_80 : decode cX1_about 80 = .ok (.aload_n 0, 1) := dk_42 (dk_at dksX1_about_3 5 rfl rfl)
theorem dX1_about_81 : decode cX1_about 81 = .ok (.getfield 99, 3) := dk_180 0 99 (dk_at dksX1_about_3 6 rfl rfl)
theorem dX1_about_84 : decode cX1_about 84 = .ok (.getfield 152, 3) := dk_180 0 152 (dk_at dksX1_about_3 9 rfl rfl)
theorem dX1_about_87 : decode cX1_about 87 = .ok (.invokevirtual 127, 3) := dk_182 0 127 (dk_at dksX1_about_3 12 rfl rfl)
theorem dX1_about_90 : decode cX1_about 90 = .ok (.invokevirtual 143, 3) := dk_182 0 143 (dk_at dksX1_about_3 15 rfl rfl)
theorem dX1_about_93 : decode cX1_about 93 = .ok (.ireturn, 1) := dk_172 (dk_at dksX1_about_3 18 rfl rfl)
theorem dX1_about_94 : decode cX1_about 94 = .ok (.aload_n 0, 1) := dk_42 (dk_at dksX1_about_3 19 rfl rfl)
theorem dX1_about_95 : decode cX1_about 95 = .ok (.aload_n 0, 1) := dk_42 (dk_at dksX1_about_3 20 rfl rfl)
theorem dX1_about_96 : decode cX1_about 96 = .ok (.getfield 99, 3) := dk_180 0 99 (dk_at dksX1_about_3 21 rfl rfl)
theorem dX1_about_99 : decode cX1_about 99 = .ok (.getfield 155, 3) := dk_180 0 155 (dk_at dksX1_about_4 0 rfl rfl)
theorem dX1_about_102 : decode cX1_about 102 = .ok (.invokevirtual 143, 3) := dk_182 0 143 (dk_at dksX1_about_4 3 rfl rfl)
theorem dX1_about_105 : decode cX1_about 105 = .ok (.ireturn, 1) := dk_172 (dk_at dksX1_about_4 6 rfl rfl)
theorem dX1_about_106 : decode cX1_about 106 = .ok (.aload_n 0, 1) := dk_42 (dk_at dksX1_about_4 7 rfl rfl)
theorem dX1_about_107 : decode cX1_about 107 = .ok (.aload_n 0, 1) := dk_42 (dk_at dksX1_about_4 8 rfl rfl)
theorem dX1_about_108 : decode cX1_about 108 = .ok (.getfield 99, 3) := dk_180 0 99 (dk_at dksX1_about_4 9 rfl rfl)
theorem dX1_about_111 : decode cX1_about 111 = .ok (.getfield 121, 3) := dk_180 0 121 (dk_at dksX1_about_4 12 rfl rfl)
theorem dX1_about_114 : decode cX1_about 114 = .ok (.invokevirtual 127, 3) := dk_182 0 127 (dk_at dksX1_about_4 15 rfl rfl)
theorem dX1_about_117 : decode cX1_about 117 = .ok (.invokevirtual 143, 3) := dk_182 0 143 (dk_at dksX1_about_4 18 rfl rfl)
theorem dX1_about_120 : decode cX1_about 120 = .ok (.ireturn, 1) := dk_172 (dk_at dksX1_about_4 21 rfl rfl)
theorem dX1_about_121 : decode cX1_about 121 = .ok (.aload_n 0, 1) := dk_42 (dk_at dksX1_about_4 22 rfl rfl)
theorem dX1_about_122 : decode cX1_about 122 = .ok (.aload_n 0, 1) := dk_42 (dk_at dksX1_about_4 23 rfl rfl)
theorem dX1_about_123 : decode cX1_about 123 = .ok (.getfield 28, 3) := dk_180 0 28 (dk_at dksX1_about_5 0 rfl rfl)
theorem dX1_about_126 : decode cX1_about 126 = .ok (.invokevirtual 158, 3) := dk_182 0 158 (dk_at dksX1_about_5 3 rfl rfl)
theorem dX1_about_129 : decode cX1_about 129 = .ok (.invokevirtual 143, 3) := dk_182 0 143 (dk_at dksX1_about_5 6 rfl rfl)
theorem dX1_about_132 : decode cX1_about 132 = .ok (.ireturn, 1) := dk_172 (dk_at dksX1_about_5 9 rfl rfl)
theorem dX1_about_133 : decode cX1_about 133 = .ok (.aload_n 0, 1) := dk_42 (dk_at dksX1_about_5 10 rfl rfl)
theorem dX1_about_134 : decode cX1_about 134 = .ok (.iconst 1, 1) := dk_4 (dk_at dksX1_about_5 11 rfl rfl)
theorem dX1_about_135 : decode cX1_about 135 = .ok (.invokevirtual 83, 3) := dk_182 0 83 (dk_at dksX1_about_5 12 rfl rfl)
theorem dX1_about_138 : decode cX1_about 138 = .ok (.ireturn, 1) := dk_172 (dk_at dksX1_about_5 15 rfl rfl)
abbrev cX1_spot : ByteArray := prog_1_method_14_code
def yX1_spot : MethodName := ⟨RX1, "spot", "(II)I"⟩
def dkwX1_spot_4 : List UInt8 := [182, 0, 181, 182, 0, 143, 172, 42, 42, 27, 3, 182, 0, 181, 182, 0, 143, 172, 42, 4, 182, 0, 83, 172]
abbrev dktX1_spot_4 : List UInt8 := dkwX1_spot_4 ++ []
def dkwX1_spot_3 : List UInt8 := [180, 0, 99, 180, 0, 149, 27, 182, 0, 133, 192, 0, 173, 180, 0, 178, 182, 0, 143, 172, 42, 42, 27, 4]
abbrev dktX1_spot_3 : List UInt8 := dkwX1_spot_3 ++ dktX1_spot_4
def dkwX1_spot_2 : List UInt8 := [42, 42, 180, 0, 99, 180, 0, 149, 27, 182, 0, 133, 192, 0, 173, 180, 0, 175, 182, 0, 143, 172, 42, 42]
abbrev dktX1_spot_2 : List UInt8 := dkwX1_spot_2 ++ dktX1_spot_3
def dkwX1_spot_1 : List UInt8 := [170, 0, 0, 0, 95, 0, 0, 0, 0, 0, 0, 0, 3, 0, 0, 0, 29, 0, 0, 0, 51, 0, 0, 0, 73, 0, 0, 0, 84]
abbrev dktX1_spot_1 : List UInt8 := dkwX1_spot_1 ++ dktX1_spot_2
def dkwX1_spot_0 : List UInt8 := [42, 27, 182, 0, 169, 154, 0, 9, 42, 4, 182, 0, 83, 172, 28]
abbrev dktX1_spot_0 : List UInt8 := dkwX1_spot_0 ++ dktX1_spot_1
theorem dksX1_spot_0 : cX1_spot.data.toList.drop 0 = dktX1_spot_0 := by decide +kernel
theorem dksX1_spot_1 : cX1_spot.data.toList.drop 15 = dktX1_spot_1 := dk_seg dksX1_spot_0 15 rfl rfl
theorem dksX1_spot_2 : cX1_spot.data.toList.drop 44 = dktX1_spot_2 := dk_seg dksX1_spot_1 29 rfl rfl
theorem dksX1_spot_3 : cX1_spot.data.toList.drop 68 = dktX1_spot_3 := dk_seg dksX1_spot_2 24 rfl rfl
theorem dksX1_spot_4 : cX1_spot.data.toList.drop 92 = dktX1_spot_4 := dk_seg dksX1_spot_3 24 rfl rfl
theorem dX1_spot_0 : decode cX1_spot 0 = .ok (.aload_n 0, 1) := dk_42 (dk_at dksX1_spot_0 0 rfl rfl)
theorem dX1_spot_1 : decode cX1_spot 1 = .ok (.iload_n 1, 1) := dk_27 (dk_at dksX1_spot_0 1 rfl rfl)
theorem dX1_spot_2 : decode cX1_spot 2 = .ok (.invokevirtual 169, 3) := dk_182 0 169 (dk_at dksX1_spot_0 2 rfl rfl)
theorem dX1_spot_5 : decode cX1_spot 5 = .ok (.ifCond .ne 9, 3) := dk_154 0 9 (dk_at dksX1_spot_0 5 rfl rfl)
theorem dX1_spot_8 : decode cX1_spot 8 = .ok (.aload_n 0, 1) := dk_42 (dk_at dksX1_spot_0 8 rfl rfl)
theorem dX1_spot_9 : decode cX1_spot 9 = .ok (.iconst 1, 1) := dk_4 (dk_at dksX1_spot_0 9 rfl rfl)
theorem dX1_spot_10 : decode cX1_spot 10 = .ok (.invokevirtual 83, 3) := dk_182 0 83 (dk_at dksX1_spot_0 10 rfl rfl)
theorem dX1_spot_13 : decode cX1_spot 13 = .ok (.ireturn, 1) := dk_172 (dk_at dksX1_spot_0 13 rfl rfl)
theorem dX1_spot_14 : decode cX1_spot 14 = .ok (.iload_n 2, 1) := dk_28 (dk_at dksX1_spot_0 14 rfl rfl)
theorem dX1_spot_15 : decode cX1_spot 15 = .ok (.tableswitch 95 0 3 #[29, 51, 73, 84], 29) := by decide +kernel
theorem dX1_spot_44 : decode cX1_spot 44 = .ok (.aload_n 0, 1) := dk_42 (dk_at dksX1_spot_2 0 rfl rfl)
theorem dX1_spot_45 : decode cX1_spot 45 = .ok (.aload_n 0, 1) := dk_42 (dk_at dksX1_spot_2 1 rfl rfl)
theorem dX1_spot_46 : decode cX1_spot 46 = .ok (.getfield 99, 3) := dk_180 0 99 (dk_at dksX1_spot_2 2 rfl rfl)
theorem dX1_spot_49 : decode cX1_spot 49 = .ok (.getfield 149, 3) := dk_180 0 149 (dk_at dksX1_spot_2 5 rfl rfl)
theorem dX1_spot_52 : decode cX1_spot 52 = .ok (.iload_n 1, 1) := dk_27 (dk_at dksX1_spot_2 8 rfl rfl)
theorem dX1_spot_53 : decode cX1_spot 53 = .ok (.invokevirtual 133, 3) := dk_182 0 133 (dk_at dksX1_spot_2 9 rfl rfl)
theorem dX1_spot_56 : decode cX1_spot 56 = .ok (.checkcast 173, 3) := dk_192 0 173 (dk_at dksX1_spot_2 12 rfl rfl)
theorem dX1_spot_59 : decode cX1_spot 59 = .ok (.getfield 175, 3) := dk_180 0 175 (dk_at dksX1_spot_2 15 rfl rfl)
theorem dX1_spot_62 : decode cX1_spot 62 = .ok (.invokevirtual 143, 3) := dk_182 0 143 (dk_at dksX1_spot_2 18 rfl rfl)
theorem dX1_spot_65 : decode cX1_spot 65 = .ok (.ireturn, 1) := dk_172 (dk_at dksX1_spot_2 21 rfl rfl)
theorem dX1_spot_66 : decode cX1_spot 66 = .ok (.aload_n 0, 1) := dk_42 (dk_at dksX1_spot_2 22 rfl rfl)
theorem dX1_spot_67 : decode cX1_spot 67 = .ok (.aload_n 0, 1) := dk_42 (dk_at dksX1_spot_2 23 rfl rfl)
theorem dX1_spot_68 : decode cX1_spot 68 = .ok (.getfield 99, 3) := dk_180 0 99 (dk_at dksX1_spot_3 0 rfl rfl)
theorem dX1_spot_71 : decode cX1_spot 71 = .ok (.getfield 149, 3) := dk_180 0 149 (dk_at dksX1_spot_3 3 rfl rfl)
theorem dX1_spot_74 : decode cX1_spot 74 = .ok (.iload_n 1, 1) := dk_27 (dk_at dksX1_spot_3 6 rfl rfl)
theorem dX1_spot_75 : decode cX1_spot 75 = .ok (.invokevirtual 133, 3) := dk_182 0 133 (dk_at dksX1_spot_3 7 rfl rfl)
theorem dX1_spot_78 : decode cX1_spot 78 = .ok (.checkcast 173, 3) := dk_192 0 173 (dk_at dksX1_spot_3 10 rfl rfl)
theorem dX1_spot_81 : decode cX1_spot 81 = .ok (.getfield 178, 3) := dk_180 0 178 (dk_at dksX1_spot_3 13 rfl rfl)
theorem dX1_spot_84 : decode cX1_spot 84 = .ok (.invokevirtual 143, 3) := dk_182 0 143 (dk_at dksX1_spot_3 16 rfl rfl)
theorem dX1_spot_87 : decode cX1_spot 87 = .ok (.ireturn, 1) := dk_172 (dk_at dksX1_spot_3 19 rfl rfl)
theorem dX1_spot_88 : decode cX1_spot 88 = .ok (.aload_n 0, 1) := dk_42 (dk_at dksX1_spot_3 20 rfl rfl)
theorem dX1_spot_89 : decode cX1_spot 89 = .ok (.aload_n 0, 1) := dk_42 (dk_at dksX1_spot_3 21 rfl rfl)
theorem dX1_spot_90 : decode cX1_spot 90 = .ok (.iload_n 1, 1) := dk_27 (dk_at dksX1_spot_3 22 rfl rfl)
theorem dX1_spot_91 : decode cX1_spot 91 = .ok (.iconst 1, 1) := dk_4 (dk_at dksX1_spot_3 23 rfl rfl)
theorem dX1_spot_92 : decode cX1_spot 92 = .ok (.invokevirtual 181, 3) := dk_182 0 181 (dk_at dksX1_spot_4 0 rfl rfl)
theorem dX1_spot_95 : decode cX1_spot 95 = .ok (.invokevirtual 143, 3) := dk_182 0 143 (dk_at dksX1_spot_4 3 rfl rfl)
theorem dX1_spot_98 : decode cX1_spot 98 = .ok (.ireturn, 1) := dk_172 (dk_at dksX1_spot_4 6 rfl rfl)
theorem dX1_spot_99 : decode cX1_spot 99 = .ok (.aload_n 0, 1) := dk_42 (dk_at dksX1_spot_4 7 rfl rfl)
theorem dX1_spot_100 : decode cX1_spot 100 = .ok (.aload_n 0, 1) := dk_42 (dk_at dksX1_spot_4 8 rfl rfl)
theorem dX1_spot_101 : decode cX1_spot 101 = .ok (.iload_n 1, 1) := dk_27 (dk_at dksX1_spot_4 9 rfl rfl)
theorem dX1_spot_102 : decode cX1_spot 102 = .ok (.iconst 0, 1) := dk_3 (dk_at dksX1_spot_4 10 rfl rfl)
theorem dX1_spot_103 : decode cX1_spot 103 = .ok (.invokevirtual 181, 3) := dk_182 0 181 (dk_at dksX1_spot_4 11 rfl rfl)
theorem dX1_spot_106 : decode cX1_spot 106 = .ok (.invokevirtual 143, 3) := dk_182 0 143 (dk_at dksX1_spot_4 14 rfl rfl)
theorem dX1_spot_109 : decode cX1_spot 109 = .ok (.ireturn, 1) := dk_172 (dk_at dksX1_spot_4 17 rfl rfl)
theorem dX1_spot_110 : decode cX1_spot 110 = .ok (.aload_n 0, 1) := dk_42 (dk_at dksX1_spot_4 18 rfl rfl)
theorem dX1_spot_111 : decode cX1_spot 111 = .ok (.iconst 1, 1) := dk_4 (dk_at dksX1_spot_4 19 rfl rfl)
theorem dX1_spot_112 : decode cX1_spot 112 = .ok (.invokevirtual 83, 3) := dk_182 0 83 (dk_at dksX1_spot_4 20 rfl rfl)
theorem dX1_spot_115 : decode cX1_spot 115 = .ok (.ireturn, 1) := dk_172 (dk_at dksX1_spot_4 23 rfl rfl)
abbrev cX1_isSpot : ByteArray := prog_1_method_11_code
def yX1_isSpot : MethodName := ⟨RX1, "isSpot", "(I)Z"⟩
def dkwX1_isSpot_1 : List UInt8 := [153, 0, 7, 4, 167, 0, 4, 3, 172]
abbrev dktX1_isSpot_1 : List UInt8 := dkwX1_isSpot_1 ++ []
def dkwX1_isSpot_0 : List UInt8 := [42, 180, 0, 99, 198, 0, 27, 27, 3, 42, 180, 0, 99, 180, 0, 149, 182, 0, 127, 4, 100, 184, 0, 79]
abbrev dktX1_isSpot_0 : List UInt8 := dkwX1_isSpot_0 ++ dktX1_isSpot_1
theorem dksX1_isSpot_0 : cX1_isSpot.data.toList.drop 0 = dktX1_isSpot_0 := by decide +kernel
theorem dksX1_isSpot_1 : cX1_isSpot.data.toList.drop 24 = dktX1_isSpot_1 := dk_seg dksX1_isSpot_0 24 rfl rfl
theorem dX1_isSpot_0 : decode cX1_isSpot 0 = .ok (.aload_n 0, 1) := dk_42 (dk_at dksX1_isSpot_0 0 rfl rfl)
theorem dX1_isSpot_1 : decode cX1_isSpot 1 = .ok (.getfield 99, 3) := dk_180 0 99 (dk_at dksX1_isSpot_0 1 rfl rfl)
theorem dX1_isSpot_4 : decode cX1_isSpot 4 = .ok (.ifnull 27, 3) := dk_198 0 27 (dk_at dksX1_isSpot_0 4 rfl rfl)
theorem dX1_isSpot_7 : decode cX1_isSpot 7 = .ok (.iload_n 1, 1) := dk_27 (dk_at dksX1_isSpot_0 7 rfl rfl)
theorem dX1_isSpot_8 : decode cX1_isSpot 8 = .ok (.iconst 0, 1) := dk_3 (dk_at dksX1_isSpot_0 8 rfl rfl)
theorem dX1_isSpot_9 : decode cX1_isSpot 9 = .ok (.aload_n 0, 1) := dk_42 (dk_at dksX1_isSpot_0 9 rfl rfl)
theorem dX1_isSpot_10 : decode cX1_isSpot 10 = .ok (.getfield 99, 3) := dk_180 0 99 (dk_at dksX1_isSpot_0 10 rfl rfl)
theorem dX1_isSpot_13 : decode cX1_isSpot 13 = .ok (.getfield 149, 3) := dk_180 0 149 (dk_at dksX1_isSpot_0 13 rfl rfl)
theorem dX1_isSpot_16 : decode cX1_isSpot 16 = .ok (.invokevirtual 127, 3) := dk_182 0 127 (dk_at dksX1_isSpot_0 16 rfl rfl)
theorem dX1_isSpot_19 : decode cX1_isSpot 19 = .ok (.iconst 1, 1) := dk_4 (dk_at dksX1_isSpot_0 19 rfl rfl)
theorem dX1_isSpot_20 : decode cX1_isSpot 20 = .ok (.isub, 1) := dk_100 (dk_at dksX1_isSpot_0 20 rfl rfl)
theorem dX1_isSpot_21 : decode cX1_isSpot 21 = .ok (.invokestatic 79, 3) := dk_184 0 79 (dk_at dksX1_isSpot_0 21 rfl rfl)
theorem dX1_isSpot_24 : decode cX1_isSpot 24 = .ok (.ifCond .eq 7, 3) := dk_153 0 7 (dk_at dksX1_isSpot_1 0 rfl rfl)
theorem dX1_isSpot_27 : decode cX1_isSpot 27 = .ok (.iconst 1, 1) := dk_4 (dk_at dksX1_isSpot_1 3 rfl rfl)
theorem dX1_isSpot_28 : decode cX1_isSpot 28 = .ok (.goto 4, 3) := dk_167 0 4 (dk_at dksX1_isSpot_1 4 rfl rfl)
theorem dX1_isSpot_31 : decode cX1_isSpot 31 = .ok (.iconst 0, 1) := dk_3 (dk_at dksX1_isSpot_1 7 rfl rfl)
theorem dX1_isSpot_32 : decode cX1_isSpot 32 = .ok (.ireturn, 1) := dk_172 (dk_at dksX1_isSpot_1 8 rfl rfl)
abbrev cX1_at : ByteArray := prog_1_method_13_code
def yX1_at : MethodName := ⟨RX1, "at", "(IZ)I"⟩
def dkwX1_at_3 : List UInt8 := [132, 4, 1, 167, 255, 189, 29, 172]
abbrev dktX1_at_3 : List UInt8 := dkwX1_at_3 ++ []
def dkwX1_at_2 : List UInt8 := [153, 0, 11, 25, 5, 180, 0, 163, 167, 0, 8, 25, 5, 180, 0, 166, 27, 160, 0, 6, 132, 3, 1]
abbrev dktX1_at_2 : List UInt8 := dkwX1_at_2 ++ dktX1_at_3
def dkwX1_at_1 : List UInt8 := [180, 0, 121, 21, 4, 182, 0, 133, 192, 0, 137, 58, 5, 25, 5, 180, 0, 159, 153, 0, 27, 28]
abbrev dktX1_at_1 : List UInt8 := dkwX1_at_1 ++ dktX1_at_2
def dkwX1_at_0 : List UInt8 := [3, 62, 3, 54, 4, 21, 4, 42, 180, 0, 99, 180, 0, 121, 182, 0, 127, 162, 0, 58, 42, 180, 0, 99]
abbrev dktX1_at_0 : List UInt8 := dkwX1_at_0 ++ dktX1_at_1
theorem dksX1_at_0 : cX1_at.data.toList.drop 0 = dktX1_at_0 := by decide +kernel
theorem dksX1_at_1 : cX1_at.data.toList.drop 24 = dktX1_at_1 := dk_seg dksX1_at_0 24 rfl rfl
theorem dksX1_at_2 : cX1_at.data.toList.drop 46 = dktX1_at_2 := dk_seg dksX1_at_1 22 rfl rfl
theorem dksX1_at_3 : cX1_at.data.toList.drop 69 = dktX1_at_3 := dk_seg dksX1_at_2 23 rfl rfl
theorem dX1_at_0 : decode cX1_at 0 = .ok (.iconst 0, 1) := dk_3 (dk_at dksX1_at_0 0 rfl rfl)
theorem dX1_at_1 : decode cX1_at 1 = .ok (.istore_n 3, 1) := dk_62 (dk_at dksX1_at_0 1 rfl rfl)
theorem dX1_at_2 : decode cX1_at 2 = .ok (.iconst 0, 1) := dk_3 (dk_at dksX1_at_0 2 rfl rfl)
theorem dX1_at_3 : decode cX1_at 3 = .ok (.istore 4, 2) := dk_54 4 (dk_at dksX1_at_0 3 rfl rfl)
theorem dX1_at_5 : decode cX1_at 5 = .ok (.iload 4, 2) := dk_21 4 (dk_at dksX1_at_0 5 rfl rfl)
theorem dX1_at_7 : decode cX1_at 7 = .ok (.aload_n 0, 1) := dk_42 (dk_at dksX1_at_0 7 rfl rfl)
theorem dX1_at_8 : decode cX1_at 8 = .ok (.getfield 99, 3) := dk_180 0 99 (dk_at dksX1_at_0 8 rfl rfl)
theorem dX1_at_11 : decode cX1_at 11 = .ok (.getfield 121, 3) := dk_180 0 121 (dk_at dksX1_at_0 11 rfl rfl)
theorem dX1_at_14 : decode cX1_at 14 = .ok (.invokevirtual 127, 3) := dk_182 0 127 (dk_at dksX1_at_0 14 rfl rfl)
theorem dX1_at_17 : decode cX1_at 17 = .ok (.if_icmp .ge 58, 3) := dk_162 0 58 (dk_at dksX1_at_0 17 rfl rfl)
theorem dX1_at_20 : decode cX1_at 20 = .ok (.aload_n 0, 1) := dk_42 (dk_at dksX1_at_0 20 rfl rfl)
theorem dX1_at_21 : decode cX1_at 21 = .ok (.getfield 99, 3) := dk_180 0 99 (dk_at dksX1_at_0 21 rfl rfl)
theorem dX1_at_24 : decode cX1_at 24 = .ok (.getfield 121, 3) := dk_180 0 121 (dk_at dksX1_at_1 0 rfl rfl)
theorem dX1_at_27 : decode cX1_at 27 = .ok (.iload 4, 2) := dk_21 4 (dk_at dksX1_at_1 3 rfl rfl)
theorem dX1_at_29 : decode cX1_at 29 = .ok (.invokevirtual 133, 3) := dk_182 0 133 (dk_at dksX1_at_1 5 rfl rfl)
theorem dX1_at_32 : decode cX1_at 32 = .ok (.checkcast 137, 3) := dk_192 0 137 (dk_at dksX1_at_1 8 rfl rfl)
theorem dX1_at_35 : decode cX1_at 35 = .ok (.astore 5, 2) := dk_58 5 (dk_at dksX1_at_1 11 rfl rfl)
theorem dX1_at_37 : decode cX1_at 37 = .ok (.aload 5, 2) := dk_25 5 (dk_at dksX1_at_1 13 rfl rfl)
theorem dX1_at_39 : decode cX1_at 39 = .ok (.getfield 159, 3) := dk_180 0 159 (dk_at dksX1_at_1 15 rfl rfl)
theorem dX1_at_42 : decode cX1_at 42 = .ok (.ifCond .eq 27, 3) := dk_153 0 27 (dk_at dksX1_at_1 18 rfl rfl)
theorem dX1_at_45 : decode cX1_at 45 = .ok (.iload_n 2, 1) := dk_28 (dk_at dksX1_at_1 21 rfl rfl)
theorem dX1_at_46 : decode cX1_at 46 = .ok (.ifCond .eq 11, 3) := dk_153 0 11 (dk_at dksX1_at_2 0 rfl rfl)
theorem dX1_at_49 : decode cX1_at 49 = .ok (.aload 5, 2) := dk_25 5 (dk_at dksX1_at_2 3 rfl rfl)
theorem dX1_at_51 : decode cX1_at 51 = .ok (.getfield 163, 3) := dk_180 0 163 (dk_at dksX1_at_2 5 rfl rfl)
theorem dX1_at_54 : decode cX1_at 54 = .ok (.goto 8, 3) := dk_167 0 8 (dk_at dksX1_at_2 8 rfl rfl)
theorem dX1_at_57 : decode cX1_at 57 = .ok (.aload 5, 2) := dk_25 5 (dk_at dksX1_at_2 11 rfl rfl)
theorem dX1_at_59 : decode cX1_at 59 = .ok (.getfield 166, 3) := dk_180 0 166 (dk_at dksX1_at_2 13 rfl rfl)
theorem dX1_at_62 : decode cX1_at 62 = .ok (.iload_n 1, 1) := dk_27 (dk_at dksX1_at_2 16 rfl rfl)
theorem dX1_at_63 : decode cX1_at 63 = .ok (.if_icmp .ne 6, 3) := dk_160 0 6 (dk_at dksX1_at_2 17 rfl rfl)
theorem dX1_at_66 : decode cX1_at 66 = .ok (.iinc 3 1, 3) := dk_132 3 1 (dk_at dksX1_at_2 20 rfl rfl)
theorem dX1_at_69 : decode cX1_at 69 = .ok (.iinc 4 1, 3) := dk_132 4 1 (dk_at dksX1_at_3 0 rfl rfl)
theorem dX1_at_72 : decode cX1_at 72 = .ok (.goto (-67), 3) := dk_167 255 189 (dk_at dksX1_at_3 3 rfl rfl)
theorem dX1_at_75 : decode cX1_at 75 = .ok (.iload_n 3, 1) := dk_29 (dk_at dksX1_at_3 6 rfl rfl)
theorem dX1_at_76 : decode cX1_at 76 = .ok (.ireturn, 1) := dk_172 (dk_at dksX1_at_3 7 rfl rfl)
abbrev cX1_departure : ByteArray := prog_1_method_15_code
def yX1_departure : MethodName := ⟨RX1, "departure", "(II)I"⟩
def dkwX1_departure_6 : List UInt8 := [42, 45, 180, 0, 200, 182, 0, 143, 172, 42, 4, 182, 0, 83, 172]
abbrev dktX1_departure_6 : List UInt8 := dkwX1_departure_6 ++ []
def dkwX1_departure_5 : List UInt8 := [180, 0, 197, 182, 0, 143, 172, 42, 45, 180, 0, 159, 153, 0, 7, 4, 167, 0, 4, 3, 182, 0, 143, 172]
abbrev dktX1_departure_5 : List UInt8 := dkwX1_departure_5 ++ dktX1_departure_6
def dkwX1_departure_4 : List UInt8 := [182, 0, 143, 172, 42, 45, 182, 0, 191, 182, 0, 143, 172, 42, 45, 182, 0, 194, 182, 0, 143, 172, 42, 45]
abbrev dktX1_departure_4 : List UInt8 := dkwX1_departure_4 ++ dktX1_departure_5
def dkwX1_departure_3 : List UInt8 := [42, 45, 180, 0, 188, 182, 0, 143, 172, 42, 45, 180, 0, 163, 182, 0, 143, 172, 42, 45, 180, 0, 166]
abbrev dktX1_departure_3 : List UInt8 := dkwX1_departure_3 ++ dktX1_departure_4
def dkwX1_departure_2 : List UInt8 := [170, 0, 0, 0, 0, 126, 0, 0, 0, 0, 0, 0, 0, 7, 0, 0, 0, 46, 0, 0, 0, 55, 0, 0, 0, 64, 0, 0, 0, 73, 0, 0, 0, 82, 0, 0, 0, 91, 0, 0, 0, 100, 0, 0, 0, 117]
abbrev dktX1_departure_2 : List UInt8 := dkwX1_departure_2 ++ dktX1_departure_3
def dkwX1_departure_1 : List UInt8 := [182, 0, 133, 192, 0, 137, 78, 28]
abbrev dktX1_departure_1 : List UInt8 := dkwX1_departure_1 ++ dktX1_departure_2
def dkwX1_departure_0 : List UInt8 := [42, 27, 182, 0, 185, 154, 0, 9, 42, 4, 182, 0, 83, 172, 42, 180, 0, 99, 180, 0, 121, 27]
abbrev dktX1_departure_0 : List UInt8 := dkwX1_departure_0 ++ dktX1_departure_1
theorem dksX1_departure_0 : cX1_departure.data.toList.drop 0 = dktX1_departure_0 := by decide +kernel
theorem dksX1_departure_1 : cX1_departure.data.toList.drop 22 = dktX1_departure_1 := dk_seg dksX1_departure_0 22 rfl rfl
theorem dksX1_departure_2 : cX1_departure.data.toList.drop 30 = dktX1_departure_2 := dk_seg dksX1_departure_1 8 rfl rfl
theorem dksX1_departure_3 : cX1_departure.data.toList.drop 76 = dktX1_departure_3 := dk_seg dksX1_departure_2 46 rfl rfl
theorem dksX1_departure_4 : cX1_departure.data.toList.drop 99 = dktX1_departure_4 := dk_seg dksX1_departure_3 23 rfl rfl
theorem dksX1_departure_5 : cX1_departure.data.toList.drop 123 = dktX1_departure_5 := dk_seg dksX1_departure_4 24 rfl rfl
theorem dksX1_departure_6 : cX1_departure.data.toList.drop 147 = dktX1_departure_6 := dk_seg dksX1_departure_5 24 rfl rfl
theorem dX1_departure_0 : decode cX1_departure 0 = .ok (.aload_n 0, 1) := dk_42 (dk_at dksX1_departure_0 0 rfl rfl)
theorem dX1_departure_1 : decode cX1_departure 1 = .ok (.iload_n 1, 1) := dk_27 (dk_at dksX1_departure_0 1 rfl rfl)
theorem dX1_departure_2 : decode cX1_departure 2 = .ok (.invokevirtual 185, 3) := dk_182 0 185 (dk_at dksX1_departure_0 2 rfl rfl)
theorem dX1_departure_5 : decode cX1_departure 5 = .ok (.ifCond .ne 9, 3) := dk_154 0 9 (dk_at dksX1_departure_0 5 rfl rfl)
theorem dX1_departure_8 : decode cX1_departure 8 = .ok (.aload_n 0, 1) := dk_42 (dk_at dksX1_departure_0 8 rfl rfl)
theorem dX1_departure_9 : decode cX1_departure 9 = .ok (.iconst 1, 1) := dk_4 (dk_at dksX1_departure_0 9 rfl rfl)
theorem dX1_departure_10 : decode cX1_departure 10 = .ok (.invokevirtual 83, 3) := dk_182 0 83 (dk_at dksX1_departure_0 10 rfl rfl)
theorem dX1_departure_13 : decode cX1_departure 13 = .ok (.ireturn, 1) := dk_172 (dk_at dksX1_departure_0 13 rfl rfl)
theorem dX1_departure_14 : decode cX1_departure 14 = .ok (.aload_n 0, 1) := dk_42 (dk_at dksX1_departure_0 14 rfl rfl)
theorem dX1_departure_15 : decode cX1_departure 15 = .ok (.getfield 99, 3) := dk_180 0 99 (dk_at dksX1_departure_0 15 rfl rfl)
theorem dX1_departure_18 : decode cX1_departure 18 = .ok (.getfield 121, 3) := dk_180 0 121 (dk_at dksX1_departure_0 18 rfl rfl)
theorem dX1_departure_21 : decode cX1_departure 21 = .ok (.iload_n 1, 1) := dk_27 (dk_at dksX1_departure_0 21 rfl rfl)
theorem dX1_departure_22 : decode cX1_departure 22 = .ok (.invokevirtual 133, 3) := dk_182 0 133 (dk_at dksX1_departure_1 0 rfl rfl)
theorem dX1_departure_25 : decode cX1_departure 25 = .ok (.checkcast 137, 3) := dk_192 0 137 (dk_at dksX1_departure_1 3 rfl rfl)
theorem dX1_departure_28 : decode cX1_departure 28 = .ok (.astore_n 3, 1) := dk_78 (dk_at dksX1_departure_1 6 rfl rfl)
theorem dX1_departure_29 : decode cX1_departure 29 = .ok (.iload_n 2, 1) := dk_28 (dk_at dksX1_departure_1 7 rfl rfl)
theorem dX1_departure_30 : decode cX1_departure 30 = .ok (.tableswitch 126 0 7 #[46, 55, 64, 73, 82, 91, 100, 117], 46) := by decide +kernel
theorem dX1_departure_76 : decode cX1_departure 76 = .ok (.aload_n 0, 1) := dk_42 (dk_at dksX1_departure_3 0 rfl rfl)
theorem dX1_departure_77 : decode cX1_departure 77 = .ok (.aload_n 3, 1) := dk_45 (dk_at dksX1_departure_3 1 rfl rfl)
theorem dX1_departure_78 : decode cX1_departure 78 = .ok (.getfield 188, 3) := dk_180 0 188 (dk_at dksX1_departure_3 2 rfl rfl)
theorem dX1_departure_81 : decode cX1_departure 81 = .ok (.invokevirtual 143, 3) := dk_182 0 143 (dk_at dksX1_departure_3 5 rfl rfl)
theorem dX1_departure_84 : decode cX1_departure 84 = .ok (.ireturn, 1) := dk_172 (dk_at dksX1_departure_3 8 rfl rfl)
theorem dX1_departure_85 : decode cX1_departure 85 = .ok (.aload_n 0, 1) := dk_42 (dk_at dksX1_departure_3 9 rfl rfl)
theorem dX1_departure_86 : decode cX1_departure 86 = .ok (.aload_n 3, 1) := dk_45 (dk_at dksX1_departure_3 10 rfl rfl)
theorem dX1_departure_87 : decode cX1_departure 87 = .ok (.getfield 163, 3) := dk_180 0 163 (dk_at dksX1_departure_3 11 rfl rfl)
theorem dX1_departure_90 : decode cX1_departure 90 = .ok (.invokevirtual 143, 3) := dk_182 0 143 (dk_at dksX1_departure_3 14 rfl rfl)
theorem dX1_departure_93 : decode cX1_departure 93 = .ok (.ireturn, 1) := dk_172 (dk_at dksX1_departure_3 17 rfl rfl)
theorem dX1_departure_94 : decode cX1_departure 94 = .ok (.aload_n 0, 1) := dk_42 (dk_at dksX1_departure_3 18 rfl rfl)
theorem dX1_departure_95 : decode cX1_departure 95 = .ok (.aload_n 3, 1) := dk_45 (dk_at dksX1_departure_3 19 rfl rfl)
theorem dX1_departure_96 : decode cX1_departure 96 = .ok (.getfield 166, 3) := dk_180 0 166 (dk_at dksX1_departure_3 20 rfl rfl)
theorem dX1_departure_99 : decode cX1_departure 99 = .ok (.invokevirtual 143, 3) := dk_182 0 143 (dk_at dksX1_departure_4 0 rfl rfl)
theorem dX1_departure_102 : decode cX1_departure 102 = .ok (.ireturn, 1) := dk_172 (dk_at dksX1_departure_4 3 rfl rfl)
theorem dX1_departure_103 : decode cX1_departure 103 = .ok (.aload_n 0, 1) := dk_42 (dk_at dksX1_departure_4 4 rfl rfl)
theorem dX1_departure_104 : decode cX1_departure 104 = .ok (.aload_n 3, 1) := dk_45 (dk_at dksX1_departure_4 5 rfl rfl)
theorem dX1_departure_105 : decode cX1_departure 105 = .ok (.invokevirtual 191, 3) := dk_182 0 191 (dk_at dksX1_departure_4 6 rfl rfl)
theorem dX1_departure_108 : decode cX1_departure 108 = .ok (.invokevirtual 143, 3) := dk_182 0 143 (dk_at dksX1_departure_4 9 rfl rfl)
theorem dX1_departure_111 : decode cX1_departure 111 = .ok (.ireturn, 1) := dk_172 (dk_at dksX1_departure_4 12 rfl rfl)
theorem dX1_departure_112 : decode cX1_departure 112 = .ok (.aload_n 0, 1) := dk_42 (dk_at dksX1_departure_4 13 rfl rfl)
theorem dX1_departure_113 : decode cX1_departure 113 = .ok (.aload_n 3, 1) := dk_45 (dk_at dksX1_departure_4 14 rfl rfl)
theorem dX1_departure_114 : decode cX1_departure 114 = .ok (.invokevirtual 194, 3) := dk_182 0 194 (dk_at dksX1_departure_4 15 rfl rfl)
theorem dX1_departure_117 : decode cX1_departure 117 = .ok (.invokevirtual 143, 3) := dk_182 0 143 (dk_at dksX1_departure_4 18 rfl rfl)
theorem dX1_departure_120 : decode cX1_departure 120 = .ok (.ireturn, 1) := dk_172 (dk_at dksX1_departure_4 21 rfl rfl)
theorem dX1_departure_121 : decode cX1_departure 121 = .ok (.aload_n 0, 1) := dk_42 (dk_at dksX1_departure_4 22 rfl rfl)
theorem dX1_departure_122 : decode cX1_departure 122 = .ok (.aload_n 3, 1) := dk_45 (dk_at dksX1_departure_4 23 rfl rfl)
theorem dX1_departure_123 : decode cX1_departure 123 = .ok (.getfield 197, 3) := dk_180 0 197 (dk_at dksX1_departure_5 0 rfl rfl)
theorem dX1_departure_126 : decode cX1_departure 126 = .ok (.invokevirtual 143, 3) := dk_182 0 143 (dk_at dksX1_departure_5 3 rfl rfl)
theorem dX1_departure_129 : decode cX1_departure 129 = .ok (.ireturn, 1) := dk_172 (dk_at dksX1_departure_5 6 rfl rfl)
theorem dX1_departure_130 : decode cX1_departure 130 = .ok (.aload_n 0, 1) := dk_42 (dk_at dksX1_departure_5 7 rfl rfl)
theorem dX1_departure_131 : decode cX1_departure 131 = .ok (.aload_n 3, 1) := dk_45 (dk_at dksX1_departure_5 8 rfl rfl)
theorem dX1_departure_132 : decode cX1_departure 132 = .ok (.getfield 159, 3) := dk_180 0 159 (dk_at dksX1_departure_5 9 rfl rfl)
theorem dX1_departure_135 : decode cX1_departure 135 = .ok (.ifCond .eq 7, 3) := dk_153 0 7 (dk_at dksX1_departure_5 12 rfl rfl)
theorem dX1_departure_138 : decode cX1_departure 138 = .ok (.iconst 1, 1) := dk_4 (dk_at dksX1_departure_5 15 rfl rfl)
theorem dX1_departure_139 : decode cX1_departure 139 = .ok (.goto 4, 3) := dk_167 0 4 (dk_at dksX1_departure_5 16 rfl rfl)
theorem dX1_departure_142 : decode cX1_departure 142 = .ok (.iconst 0, 1) := dk_3 (dk_at dksX1_departure_5 19 rfl rfl)
theorem dX1_departure_143 : decode cX1_departure 143 = .ok (.invokevirtual 143, 3) := dk_182 0 143 (dk_at dksX1_departure_5 20 rfl rfl)
theorem dX1_departure_146 : decode cX1_departure 146 = .ok (.ireturn, 1) := dk_172 (dk_at dksX1_departure_5 23 rfl rfl)
theorem dX1_departure_147 : decode cX1_departure 147 = .ok (.aload_n 0, 1) := dk_42 (dk_at dksX1_departure_6 0 rfl rfl)
theorem dX1_departure_148 : decode cX1_departure 148 = .ok (.aload_n 3, 1) := dk_45 (dk_at dksX1_departure_6 1 rfl rfl)
theorem dX1_departure_149 : decode cX1_departure 149 = .ok (.getfield 200, 3) := dk_180 0 200 (dk_at dksX1_departure_6 2 rfl rfl)
theorem dX1_departure_152 : decode cX1_departure 152 = .ok (.invokevirtual 143, 3) := dk_182 0 143 (dk_at dksX1_departure_6 5 rfl rfl)
theorem dX1_departure_155 : decode cX1_departure 155 = .ok (.ireturn, 1) := dk_172 (dk_at dksX1_departure_6 8 rfl rfl)
theorem dX1_departure_156 : decode cX1_departure 156 = .ok (.aload_n 0, 1) := dk_42 (dk_at dksX1_departure_6 9 rfl rfl)
theorem dX1_departure_157 : decode cX1_departure 157 = .ok (.iconst 1, 1) := dk_4 (dk_at dksX1_departure_6 10 rfl rfl)
theorem dX1_departure_158 : decode cX1_departure 158 = .ok (.invokevirtual 83, 3) := dk_182 0 83 (dk_at dksX1_departure_6 11 rfl rfl)
theorem dX1_departure_161 : decode cX1_departure 161 = .ok (.ireturn, 1) := dk_172 (dk_at dksX1_departure_6 14 rfl rfl)
abbrev cX1_isDeparture : ByteArray := prog_1_method_12_code
def yX1_isDeparture : MethodName := ⟨RX1, "isDeparture", "(I)Z"⟩
def dkwX1_isDeparture_1 : List UInt8 := [153, 0, 7, 4, 167, 0, 4, 3, 172]
abbrev dktX1_isDeparture_1 : List UInt8 := dkwX1_isDeparture_1 ++ []
def dkwX1_isDeparture_0 : List UInt8 := [42, 180, 0, 99, 198, 0, 27, 27, 3, 42, 180, 0, 99, 180, 0, 121, 182, 0, 127, 4, 100, 184, 0, 79]
abbrev dktX1_isDeparture_0 : List UInt8 := dkwX1_isDeparture_0 ++ dktX1_isDeparture_1
theorem dksX1_isDeparture_0 : cX1_isDeparture.data.toList.drop 0 = dktX1_isDeparture_0 := by decide +kernel
theorem dksX1_isDeparture_1 : cX1_isDeparture.data.toList.drop 24 = dktX1_isDeparture_1 := dk_seg dksX1_isDeparture_0 24 rfl rfl
theorem dX1_isDeparture_0 : decode cX1_isDeparture 0 = .ok (.aload_n 0, 1) := dk_42 (dk_at dksX1_isDeparture_0 0 rfl rfl)
theorem dX1_isDeparture_1 : decode cX1_isDeparture 1 = .ok (.getfield 99, 3) := dk_180 0 99 (dk_at dksX1_isDeparture_0 1 rfl rfl)
theorem dX1_isDeparture_4 : decode cX1_isDeparture 4 = .ok (.ifnull 27, 3) := dk_198 0 27 (dk_at dksX1_isDeparture_0 4 rfl rfl)
theorem dX1_isDeparture_7 : decode cX1_isDeparture 7 = .ok (.iload_n 1, 1) := dk_27 (dk_at dksX1_isDeparture_0 7 rfl rfl)
theorem dX1_isDeparture_8 : decode cX1_isDeparture 8 = .ok (.iconst 0, 1) := dk_3 (dk_at dksX1_isDeparture_0 8 rfl rfl)
theorem dX1_isDeparture_9 : decode cX1_isDeparture 9 = .ok (.aload_n 0, 1) := dk_42 (dk_at dksX1_isDeparture_0 9 rfl rfl)
theorem dX1_isDeparture_10 : decode cX1_isDeparture 10 = .ok (.getfield 99, 3) := dk_180 0 99 (dk_at dksX1_isDeparture_0 10 rfl rfl)
theorem dX1_isDeparture_13 : decode cX1_isDeparture 13 = .ok (.getfield 121, 3) := dk_180 0 121 (dk_at dksX1_isDeparture_0 13 rfl rfl)
theorem dX1_isDeparture_16 : decode cX1_isDeparture 16 = .ok (.invokevirtual 127, 3) := dk_182 0 127 (dk_at dksX1_isDeparture_0 16 rfl rfl)
theorem dX1_isDeparture_19 : decode cX1_isDeparture 19 = .ok (.iconst 1, 1) := dk_4 (dk_at dksX1_isDeparture_0 19 rfl rfl)
theorem dX1_isDeparture_20 : decode cX1_isDeparture 20 = .ok (.isub, 1) := dk_100 (dk_at dksX1_isDeparture_0 20 rfl rfl)
theorem dX1_isDeparture_21 : decode cX1_isDeparture 21 = .ok (.invokestatic 79, 3) := dk_184 0 79 (dk_at dksX1_isDeparture_0 21 rfl rfl)
theorem dX1_isDeparture_24 : decode cX1_isDeparture 24 = .ok (.ifCond .eq 7, 3) := dk_153 0 7 (dk_at dksX1_isDeparture_1 0 rfl rfl)
theorem dX1_isDeparture_27 : decode cX1_isDeparture 27 = .ok (.iconst 1, 1) := dk_4 (dk_at dksX1_isDeparture_1 3 rfl rfl)
theorem dX1_isDeparture_28 : decode cX1_isDeparture 28 = .ok (.goto 4, 3) := dk_167 0 4 (dk_at dksX1_isDeparture_1 4 rfl rfl)
theorem dX1_isDeparture_31 : decode cX1_isDeparture 31 = .ok (.iconst 0, 1) := dk_3 (dk_at dksX1_isDeparture_1 7 rfl rfl)
theorem dX1_isDeparture_32 : decode cX1_isDeparture 32 = .ok (.ireturn, 1) := dk_172 (dk_at dksX1_isDeparture_1 8 rfl rfl)
abbrev cX1_ordered : ByteArray := prog_1_method_16_code
def yX1_ordered : MethodName := ⟨RX1, "ordered", "(I)I"⟩
def dkwX1_ordered_3 : List UInt8 := [182, 0, 143, 172]
abbrev dktX1_ordered_3 : List UInt8 := dkwX1_ordered_3 ++ []
def dkwX1_ordered_2 : List UInt8 := [42, 180, 0, 28, 44, 182, 0, 207, 192, 0, 137, 77, 132, 3, 1, 167, 255, 236, 42, 44, 180, 0, 211]
abbrev dktX1_ordered_2 : List UInt8 := dkwX1_ordered_2 ++ dktX1_ordered_3
def dkwX1_ordered_1 : List UInt8 := [42, 4, 182, 0, 83, 172, 42, 180, 0, 28, 182, 0, 203, 192, 0, 137, 77, 3, 62, 29, 27, 162, 0, 21]
abbrev dktX1_ordered_1 : List UInt8 := dkwX1_ordered_1 ++ dktX1_ordered_2
def dkwX1_ordered_0 : List UInt8 := [42, 180, 0, 99, 198, 0, 20, 27, 3, 42, 180, 0, 28, 182, 0, 158, 4, 100, 184, 0, 79, 154, 0, 9]
abbrev dktX1_ordered_0 : List UInt8 := dkwX1_ordered_0 ++ dktX1_ordered_1
theorem dksX1_ordered_0 : cX1_ordered.data.toList.drop 0 = dktX1_ordered_0 := by decide +kernel
theorem dksX1_ordered_1 : cX1_ordered.data.toList.drop 24 = dktX1_ordered_1 := dk_seg dksX1_ordered_0 24 rfl rfl
theorem dksX1_ordered_2 : cX1_ordered.data.toList.drop 48 = dktX1_ordered_2 := dk_seg dksX1_ordered_1 24 rfl rfl
theorem dksX1_ordered_3 : cX1_ordered.data.toList.drop 71 = dktX1_ordered_3 := dk_seg dksX1_ordered_2 23 rfl rfl
theorem dX1_ordered_0 : decode cX1_ordered 0 = .ok (.aload_n 0, 1) := dk_42 (dk_at dksX1_ordered_0 0 rfl rfl)
theorem dX1_ordered_1 : decode cX1_ordered 1 = .ok (.getfield 99, 3) := dk_180 0 99 (dk_at dksX1_ordered_0 1 rfl rfl)
theorem dX1_ordered_4 : decode cX1_ordered 4 = .ok (.ifnull 20, 3) := dk_198 0 20 (dk_at dksX1_ordered_0 4 rfl rfl)
theorem dX1_ordered_7 : decode cX1_ordered 7 = .ok (.iload_n 1, 1) := dk_27 (dk_at dksX1_ordered_0 7 rfl rfl)
theorem dX1_ordered_8 : decode cX1_ordered 8 = .ok (.iconst 0, 1) := dk_3 (dk_at dksX1_ordered_0 8 rfl rfl)
theorem dX1_ordered_9 : decode cX1_ordered 9 = .ok (.aload_n 0, 1) := dk_42 (dk_at dksX1_ordered_0 9 rfl rfl)
theorem dX1_ordered_10 : decode cX1_ordered 10 = .ok (.getfield 28, 3) := dk_180 0 28 (dk_at dksX1_ordered_0 10 rfl rfl)
theorem dX1_ordered_13 : decode cX1_ordered 13 = .ok (.invokevirtual 158, 3) := dk_182 0 158 (dk_at dksX1_ordered_0 13 rfl rfl)
theorem dX1_ordered_16 : decode cX1_ordered 16 = .ok (.iconst 1, 1) := dk_4 (dk_at dksX1_ordered_0 16 rfl rfl)
theorem dX1_ordered_17 : decode cX1_ordered 17 = .ok (.isub, 1) := dk_100 (dk_at dksX1_ordered_0 17 rfl rfl)
theorem dX1_ordered_18 : decode cX1_ordered 18 = .ok (.invokestatic 79, 3) := dk_184 0 79 (dk_at dksX1_ordered_0 18 rfl rfl)
theorem dX1_ordered_21 : decode cX1_ordered 21 = .ok (.ifCond .ne 9, 3) := dk_154 0 9 (dk_at dksX1_ordered_0 21 rfl rfl)
theorem dX1_ordered_24 : decode cX1_ordered 24 = .ok (.aload_n 0, 1) := dk_42 (dk_at dksX1_ordered_1 0 rfl rfl)
theorem dX1_ordered_25 : decode cX1_ordered 25 = .ok (.iconst 1, 1) := dk_4 (dk_at dksX1_ordered_1 1 rfl rfl)
theorem dX1_ordered_26 : decode cX1_ordered 26 = .ok (.invokevirtual 83, 3) := dk_182 0 83 (dk_at dksX1_ordered_1 2 rfl rfl)
theorem dX1_ordered_29 : decode cX1_ordered 29 = .ok (.ireturn, 1) := dk_172 (dk_at dksX1_ordered_1 5 rfl rfl)
theorem dX1_ordered_30 : decode cX1_ordered 30 = .ok (.aload_n 0, 1) := dk_42 (dk_at dksX1_ordered_1 6 rfl rfl)
theorem dX1_ordered_31 : decode cX1_ordered 31 = .ok (.getfield 28, 3) := dk_180 0 28 (dk_at dksX1_ordered_1 7 rfl rfl)
theorem dX1_ordered_34 : decode cX1_ordered 34 = .ok (.invokevirtual 203, 3) := dk_182 0 203 (dk_at dksX1_ordered_1 10 rfl rfl)
theorem dX1_ordered_37 : decode cX1_ordered 37 = .ok (.checkcast 137, 3) := dk_192 0 137 (dk_at dksX1_ordered_1 13 rfl rfl)
theorem dX1_ordered_40 : decode cX1_ordered 40 = .ok (.astore_n 2, 1) := dk_77 (dk_at dksX1_ordered_1 16 rfl rfl)
theorem dX1_ordered_41 : decode cX1_ordered 41 = .ok (.iconst 0, 1) := dk_3 (dk_at dksX1_ordered_1 17 rfl rfl)
theorem dX1_ordered_42 : decode cX1_ordered 42 = .ok (.istore_n 3, 1) := dk_62 (dk_at dksX1_ordered_1 18 rfl rfl)
theorem dX1_ordered_43 : decode cX1_ordered 43 = .ok (.iload_n 3, 1) := dk_29 (dk_at dksX1_ordered_1 19 rfl rfl)
theorem dX1_ordered_44 : decode cX1_ordered 44 = .ok (.iload_n 1, 1) := dk_27 (dk_at dksX1_ordered_1 20 rfl rfl)
theorem dX1_ordered_45 : decode cX1_ordered 45 = .ok (.if_icmp .ge 21, 3) := dk_162 0 21 (dk_at dksX1_ordered_1 21 rfl rfl)
theorem dX1_ordered_48 : decode cX1_ordered 48 = .ok (.aload_n 0, 1) := dk_42 (dk_at dksX1_ordered_2 0 rfl rfl)
theorem dX1_ordered_49 : decode cX1_ordered 49 = .ok (.getfield 28, 3) := dk_180 0 28 (dk_at dksX1_ordered_2 1 rfl rfl)
theorem dX1_ordered_52 : decode cX1_ordered 52 = .ok (.aload_n 2, 1) := dk_44 (dk_at dksX1_ordered_2 4 rfl rfl)
theorem dX1_ordered_53 : decode cX1_ordered 53 = .ok (.invokevirtual 207, 3) := dk_182 0 207 (dk_at dksX1_ordered_2 5 rfl rfl)
theorem dX1_ordered_56 : decode cX1_ordered 56 = .ok (.checkcast 137, 3) := dk_192 0 137 (dk_at dksX1_ordered_2 8 rfl rfl)
theorem dX1_ordered_59 : decode cX1_ordered 59 = .ok (.astore_n 2, 1) := dk_77 (dk_at dksX1_ordered_2 11 rfl rfl)
theorem dX1_ordered_60 : decode cX1_ordered 60 = .ok (.iinc 3 1, 3) := dk_132 3 1 (dk_at dksX1_ordered_2 12 rfl rfl)
theorem dX1_ordered_63 : decode cX1_ordered 63 = .ok (.goto (-20), 3) := dk_167 255 236 (dk_at dksX1_ordered_2 15 rfl rfl)
theorem dX1_ordered_66 : decode cX1_ordered 66 = .ok (.aload_n 0, 1) := dk_42 (dk_at dksX1_ordered_2 18 rfl rfl)
theorem dX1_ordered_67 : decode cX1_ordered 67 = .ok (.aload_n 2, 1) := dk_44 (dk_at dksX1_ordered_2 19 rfl rfl)
theorem dX1_ordered_68 : decode cX1_ordered 68 = .ok (.getfield 211, 3) := dk_180 0 211 (dk_at dksX1_ordered_2 20 rfl rfl)
theorem dX1_ordered_71 : decode cX1_ordered 71 = .ok (.invokevirtual 143, 3) := dk_182 0 143 (dk_at dksX1_ordered_3 0 rfl rfl)
theorem dX1_ordered_74 : decode cX1_ordered 74 = .ok (.ireturn, 1) := dk_172 (dk_at dksX1_ordered_3 3 rfl rfl)
abbrev cX1_arrives : ByteArray := prog_1_method_19_code
def yX1_arrives : MethodName := ⟨RX1, "arrives", "(III)I"⟩
def dkwX1_arrives_1 : List UInt8 := [42, 182, 0, 222, 27, 28, 29, 182, 0, 226, 182, 0, 143, 172]
abbrev dktX1_arrives_1 : List UInt8 := dkwX1_arrives_1 ++ []
def dkwX1_arrives_0 : List UInt8 := [42, 27, 28, 29, 182, 0, 218, 54, 4, 21, 4, 158, 0, 12, 42, 21, 4, 182, 0, 83, 167, 0, 17, 42]
abbrev dktX1_arrives_0 : List UInt8 := dkwX1_arrives_0 ++ dktX1_arrives_1
theorem dksX1_arrives_0 : cX1_arrives.data.toList.drop 0 = dktX1_arrives_0 := by decide +kernel
theorem dksX1_arrives_1 : cX1_arrives.data.toList.drop 24 = dktX1_arrives_1 := dk_seg dksX1_arrives_0 24 rfl rfl
theorem dX1_arrives_0 : decode cX1_arrives 0 = .ok (.aload_n 0, 1) := dk_42 (dk_at dksX1_arrives_0 0 rfl rfl)
theorem dX1_arrives_1 : decode cX1_arrives 1 = .ok (.iload_n 1, 1) := dk_27 (dk_at dksX1_arrives_0 1 rfl rfl)
theorem dX1_arrives_2 : decode cX1_arrives 2 = .ok (.iload_n 2, 1) := dk_28 (dk_at dksX1_arrives_0 2 rfl rfl)
theorem dX1_arrives_3 : decode cX1_arrives 3 = .ok (.iload_n 3, 1) := dk_29 (dk_at dksX1_arrives_0 3 rfl rfl)
theorem dX1_arrives_4 : decode cX1_arrives 4 = .ok (.invokevirtual 218, 3) := dk_182 0 218 (dk_at dksX1_arrives_0 4 rfl rfl)
theorem dX1_arrives_7 : decode cX1_arrives 7 = .ok (.istore 4, 2) := dk_54 4 (dk_at dksX1_arrives_0 7 rfl rfl)
theorem dX1_arrives_9 : decode cX1_arrives 9 = .ok (.iload 4, 2) := dk_21 4 (dk_at dksX1_arrives_0 9 rfl rfl)
theorem dX1_arrives_11 : decode cX1_arrives 11 = .ok (.ifCond .le 12, 3) := dk_158 0 12 (dk_at dksX1_arrives_0 11 rfl rfl)
theorem dX1_arrives_14 : decode cX1_arrives 14 = .ok (.aload_n 0, 1) := dk_42 (dk_at dksX1_arrives_0 14 rfl rfl)
theorem dX1_arrives_15 : decode cX1_arrives 15 = .ok (.iload 4, 2) := dk_21 4 (dk_at dksX1_arrives_0 15 rfl rfl)
theorem dX1_arrives_17 : decode cX1_arrives 17 = .ok (.invokevirtual 83, 3) := dk_182 0 83 (dk_at dksX1_arrives_0 17 rfl rfl)
theorem dX1_arrives_20 : decode cX1_arrives 20 = .ok (.goto 17, 3) := dk_167 0 17 (dk_at dksX1_arrives_0 20 rfl rfl)
theorem dX1_arrives_23 : decode cX1_arrives 23 = .ok (.aload_n 0, 1) := dk_42 (dk_at dksX1_arrives_0 23 rfl rfl)
theorem dX1_arrives_24 : decode cX1_arrives 24 = .ok (.aload_n 0, 1) := dk_42 (dk_at dksX1_arrives_1 0 rfl rfl)
theorem dX1_arrives_25 : decode cX1_arrives 25 = .ok (.invokevirtual 222, 3) := dk_182 0 222 (dk_at dksX1_arrives_1 1 rfl rfl)
theorem dX1_arrives_28 : decode cX1_arrives 28 = .ok (.iload_n 1, 1) := dk_27 (dk_at dksX1_arrives_1 4 rfl rfl)
theorem dX1_arrives_29 : decode cX1_arrives 29 = .ok (.iload_n 2, 1) := dk_28 (dk_at dksX1_arrives_1 5 rfl rfl)
theorem dX1_arrives_30 : decode cX1_arrives 30 = .ok (.iload_n 3, 1) := dk_29 (dk_at dksX1_arrives_1 6 rfl rfl)
theorem dX1_arrives_31 : decode cX1_arrives 31 = .ok (.invokevirtual 226, 3) := dk_182 0 226 (dk_at dksX1_arrives_1 7 rfl rfl)
theorem dX1_arrives_34 : decode cX1_arrives 34 = .ok (.invokevirtual 143, 3) := dk_182 0 143 (dk_at dksX1_arrives_1 10 rfl rfl)
theorem dX1_arrives_37 : decode cX1_arrives 37 = .ok (.ireturn, 1) := dk_172 (dk_at dksX1_arrives_1 13 rfl rfl)
abbrev cX1_refuses : ByteArray := prog_1_method_18_code
def yX1_refuses : MethodName := ⟨RX1, "refuses", "(III)I"⟩
def dkwX1_refuses_1 : List UInt8 := [17, 7, 207, 184, 0, 79, 153, 0, 7, 3, 167, 0, 4, 5, 172]
abbrev dktX1_refuses_1 : List UInt8 := dkwX1_refuses_1 ++ []
def dkwX1_refuses_0 : List UInt8 := [42, 27, 182, 0, 169, 153, 0, 11, 42, 28, 182, 0, 169, 154, 0, 7, 4, 167, 0, 19, 29, 3]
abbrev dktX1_refuses_0 : List UInt8 := dkwX1_refuses_0 ++ dktX1_refuses_1
theorem dksX1_refuses_0 : cX1_refuses.data.toList.drop 0 = dktX1_refuses_0 := by decide +kernel
theorem dksX1_refuses_1 : cX1_refuses.data.toList.drop 22 = dktX1_refuses_1 := dk_seg dksX1_refuses_0 22 rfl rfl
theorem dX1_refuses_0 : decode cX1_refuses 0 = .ok (.aload_n 0, 1) := dk_42 (dk_at dksX1_refuses_0 0 rfl rfl)
theorem dX1_refuses_1 : decode cX1_refuses 1 = .ok (.iload_n 1, 1) := dk_27 (dk_at dksX1_refuses_0 1 rfl rfl)
theorem dX1_refuses_2 : decode cX1_refuses 2 = .ok (.invokevirtual 169, 3) := dk_182 0 169 (dk_at dksX1_refuses_0 2 rfl rfl)
theorem dX1_refuses_5 : decode cX1_refuses 5 = .ok (.ifCond .eq 11, 3) := dk_153 0 11 (dk_at dksX1_refuses_0 5 rfl rfl)
theorem dX1_refuses_8 : decode cX1_refuses 8 = .ok (.aload_n 0, 1) := dk_42 (dk_at dksX1_refuses_0 8 rfl rfl)
theorem dX1_refuses_9 : decode cX1_refuses 9 = .ok (.iload_n 2, 1) := dk_28 (dk_at dksX1_refuses_0 9 rfl rfl)
theorem dX1_refuses_10 : decode cX1_refuses 10 = .ok (.invokevirtual 169, 3) := dk_182 0 169 (dk_at dksX1_refuses_0 10 rfl rfl)
theorem dX1_refuses_13 : decode cX1_refuses 13 = .ok (.ifCond .ne 7, 3) := dk_154 0 7 (dk_at dksX1_refuses_0 13 rfl rfl)
theorem dX1_refuses_16 : decode cX1_refuses 16 = .ok (.iconst 1, 1) := dk_4 (dk_at dksX1_refuses_0 16 rfl rfl)
theorem dX1_refuses_17 : decode cX1_refuses 17 = .ok (.goto 19, 3) := dk_167 0 19 (dk_at dksX1_refuses_0 17 rfl rfl)
theorem dX1_refuses_20 : decode cX1_refuses 20 = .ok (.iload_n 3, 1) := dk_29 (dk_at dksX1_refuses_0 20 rfl rfl)
theorem dX1_refuses_21 : decode cX1_refuses 21 = .ok (.iconst 0, 1) := dk_3 (dk_at dksX1_refuses_0 21 rfl rfl)
theorem dX1_refuses_22 : decode cX1_refuses 22 = .ok (.sipush 1999, 3) := dk_17 7 207 (dk_at dksX1_refuses_1 0 rfl rfl)
theorem dX1_refuses_25 : decode cX1_refuses 25 = .ok (.invokestatic 79, 3) := dk_184 0 79 (dk_at dksX1_refuses_1 3 rfl rfl)
theorem dX1_refuses_28 : decode cX1_refuses 28 = .ok (.ifCond .eq 7, 3) := dk_153 0 7 (dk_at dksX1_refuses_1 6 rfl rfl)
theorem dX1_refuses_31 : decode cX1_refuses 31 = .ok (.iconst 0, 1) := dk_3 (dk_at dksX1_refuses_1 9 rfl rfl)
theorem dX1_refuses_32 : decode cX1_refuses 32 = .ok (.goto 4, 3) := dk_167 0 4 (dk_at dksX1_refuses_1 10 rfl rfl)
theorem dX1_refuses_35 : decode cX1_refuses 35 = .ok (.iconst 2, 1) := dk_5 (dk_at dksX1_refuses_1 13 rfl rfl)
theorem dX1_refuses_36 : decode cX1_refuses 36 = .ok (.ireturn, 1) := dk_172 (dk_at dksX1_refuses_1 14 rfl rfl)
abbrev cX1_asIs : ByteArray := prog_1_method_17_code
def yX1_asIs : MethodName := ⟨RX1, "asIs", "()LLinkTimes$Search;"⟩
def dkwX1_asIs_0 : List UInt8 := [42, 180, 0, 46, 2, 2, 3, 182, 0, 214, 176]
abbrev dktX1_asIs_0 : List UInt8 := dkwX1_asIs_0 ++ []
theorem dksX1_asIs_0 : cX1_asIs.data.toList.drop 0 = dktX1_asIs_0 := by decide +kernel
theorem dX1_asIs_0 : decode cX1_asIs 0 = .ok (.aload_n 0, 1) := dk_42 (dk_at dksX1_asIs_0 0 rfl rfl)
theorem dX1_asIs_1 : decode cX1_asIs 1 = .ok (.getfield 46, 3) := dk_180 0 46 (dk_at dksX1_asIs_0 1 rfl rfl)
theorem dX1_asIs_4 : decode cX1_asIs 4 = .ok (.iconst (-1), 1) := dk_2 (dk_at dksX1_asIs_0 4 rfl rfl)
theorem dX1_asIs_5 : decode cX1_asIs 5 = .ok (.iconst (-1), 1) := dk_2 (dk_at dksX1_asIs_0 5 rfl rfl)
theorem dX1_asIs_6 : decode cX1_asIs 6 = .ok (.iconst 0, 1) := dk_3 (dk_at dksX1_asIs_0 6 rfl rfl)
theorem dX1_asIs_7 : decode cX1_asIs 7 = .ok (.invokevirtual 214, 3) := dk_182 0 214 (dk_at dksX1_asIs_0 7 rfl rfl)
theorem dX1_asIs_10 : decode cX1_asIs 10 = .ok (.areturn, 1) := dk_176 (dk_at dksX1_asIs_0 10 rfl rfl)
abbrev cX1_changes : ByteArray := prog_1_method_20_code
def yX1_changes : MethodName := ⟨RX1, "changes", "(III)I"⟩
def dkwX1_changes_2 : List UInt8 := [167, 0, 18, 16, 254, 167, 0, 13, 42, 180, 0, 46, 180, 0, 231, 21, 5, 46, 182, 0, 143, 172]
abbrev dktX1_changes_2 : List UInt8 := dkwX1_changes_2 ++ []
def dkwX1_changes_1 : List UInt8 := [182, 0, 222, 27, 28, 29, 182, 0, 228, 54, 5, 42, 21, 5, 2, 160, 0, 17, 27, 28, 160, 0, 7, 3]
abbrev dktX1_changes_1 : List UInt8 := dkwX1_changes_1 ++ dktX1_changes_2
def dkwX1_changes_0 : List UInt8 := [42, 27, 28, 29, 182, 0, 218, 54, 4, 21, 4, 158, 0, 10, 42, 21, 4, 182, 0, 83, 172, 42]
abbrev dktX1_changes_0 : List UInt8 := dkwX1_changes_0 ++ dktX1_changes_1
theorem dksX1_changes_0 : cX1_changes.data.toList.drop 0 = dktX1_changes_0 := by decide +kernel
theorem dksX1_changes_1 : cX1_changes.data.toList.drop 22 = dktX1_changes_1 := dk_seg dksX1_changes_0 22 rfl rfl
theorem dksX1_changes_2 : cX1_changes.data.toList.drop 46 = dktX1_changes_2 := dk_seg dksX1_changes_1 24 rfl rfl
theorem dX1_changes_0 : decode cX1_changes 0 = .ok (.aload_n 0, 1) := dk_42 (dk_at dksX1_changes_0 0 rfl rfl)
theorem dX1_changes_1 : decode cX1_changes 1 = .ok (.iload_n 1, 1) := dk_27 (dk_at dksX1_changes_0 1 rfl rfl)
theorem dX1_changes_2 : decode cX1_changes 2 = .ok (.iload_n 2, 1) := dk_28 (dk_at dksX1_changes_0 2 rfl rfl)
theorem dX1_changes_3 : decode cX1_changes 3 = .ok (.iload_n 3, 1) := dk_29 (dk_at dksX1_changes_0 3 rfl rfl)
theorem dX1_changes_4 : decode cX1_changes 4 = .ok (.invokevirtual 218, 3) := dk_182 0 218 (dk_at dksX1_changes_0 4 rfl rfl)
theorem dX1_changes_7 : decode cX1_changes 7 = .ok (.istore 4, 2) := dk_54 4 (dk_at dksX1_changes_0 7 rfl rfl)
theorem dX1_changes_9 : decode cX1_changes 9 = .ok (.iload 4, 2) := dk_21 4 (dk_at dksX1_changes_0 9 rfl rfl)
theorem dX1_changes_11 : decode cX1_changes 11 = .ok (.ifCond .le 10, 3) := dk_158 0 10 (dk_at dksX1_changes_0 11 rfl rfl)
theorem dX1_changes_14 : decode cX1_changes 14 = .ok (.aload_n 0, 1) := dk_42 (dk_at dksX1_changes_0 14 rfl rfl)
theorem dX1_changes_15 : decode cX1_changes 15 = .ok (.iload 4, 2) := dk_21 4 (dk_at dksX1_changes_0 15 rfl rfl)
theorem dX1_changes_17 : decode cX1_changes 17 = .ok (.invokevirtual 83, 3) := dk_182 0 83 (dk_at dksX1_changes_0 17 rfl rfl)
theorem dX1_changes_20 : decode cX1_changes 20 = .ok (.ireturn, 1) := dk_172 (dk_at dksX1_changes_0 20 rfl rfl)
theorem dX1_changes_21 : decode cX1_changes 21 = .ok (.aload_n 0, 1) := dk_42 (dk_at dksX1_changes_0 21 rfl rfl)
theorem dX1_changes_22 : decode cX1_changes 22 = .ok (.invokevirtual 222, 3) := dk_182 0 222 (dk_at dksX1_changes_1 0 rfl rfl)
theorem dX1_changes_25 : decode cX1_changes 25 = .ok (.iload_n 1, 1) := dk_27 (dk_at dksX1_changes_1 3 rfl rfl)
theorem dX1_changes_26 : decode cX1_changes 26 = .ok (.iload_n 2, 1) := dk_28 (dk_at dksX1_changes_1 4 rfl rfl)
theorem dX1_changes_27 : decode cX1_changes 27 = .ok (.iload_n 3, 1) := dk_29 (dk_at dksX1_changes_1 5 rfl rfl)
theorem dX1_changes_28 : decode cX1_changes 28 = .ok (.invokevirtual 228, 3) := dk_182 0 228 (dk_at dksX1_changes_1 6 rfl rfl)
theorem dX1_changes_31 : decode cX1_changes 31 = .ok (.istore 5, 2) := dk_54 5 (dk_at dksX1_changes_1 9 rfl rfl)
theorem dX1_changes_33 : decode cX1_changes 33 = .ok (.aload_n 0, 1) := dk_42 (dk_at dksX1_changes_1 11 rfl rfl)
theorem dX1_changes_34 : decode cX1_changes 34 = .ok (.iload 5, 2) := dk_21 5 (dk_at dksX1_changes_1 12 rfl rfl)
theorem dX1_changes_36 : decode cX1_changes 36 = .ok (.iconst (-1), 1) := dk_2 (dk_at dksX1_changes_1 14 rfl rfl)
theorem dX1_changes_37 : decode cX1_changes 37 = .ok (.if_icmp .ne 17, 3) := dk_160 0 17 (dk_at dksX1_changes_1 15 rfl rfl)
theorem dX1_changes_40 : decode cX1_changes 40 = .ok (.iload_n 1, 1) := dk_27 (dk_at dksX1_changes_1 18 rfl rfl)
theorem dX1_changes_41 : decode cX1_changes 41 = .ok (.iload_n 2, 1) := dk_28 (dk_at dksX1_changes_1 19 rfl rfl)
theorem dX1_changes_42 : decode cX1_changes 42 = .ok (.if_icmp .ne 7, 3) := dk_160 0 7 (dk_at dksX1_changes_1 20 rfl rfl)
theorem dX1_changes_45 : decode cX1_changes 45 = .ok (.iconst 0, 1) := dk_3 (dk_at dksX1_changes_1 23 rfl rfl)
theorem dX1_changes_46 : decode cX1_changes 46 = .ok (.goto 18, 3) := dk_167 0 18 (dk_at dksX1_changes_2 0 rfl rfl)
theorem dX1_changes_49 : decode cX1_changes 49 = .ok (.bipush (-2), 2) := dk_16 254 (dk_at dksX1_changes_2 3 rfl rfl)
theorem dX1_changes_51 : decode cX1_changes 51 = .ok (.goto 13, 3) := dk_167 0 13 (dk_at dksX1_changes_2 5 rfl rfl)
theorem dX1_changes_54 : decode cX1_changes 54 = .ok (.aload_n 0, 1) := dk_42 (dk_at dksX1_changes_2 8 rfl rfl)
theorem dX1_changes_55 : decode cX1_changes 55 = .ok (.getfield 46, 3) := dk_180 0 46 (dk_at dksX1_changes_2 9 rfl rfl)
theorem dX1_changes_58 : decode cX1_changes 58 = .ok (.getfield 231, 3) := dk_180 0 231 (dk_at dksX1_changes_2 12 rfl rfl)
theorem dX1_changes_61 : decode cX1_changes 61 = .ok (.iload 5, 2) := dk_21 5 (dk_at dksX1_changes_2 15 rfl rfl)
theorem dX1_changes_63 : decode cX1_changes 63 = .ok (.iaload, 1) := dk_46 (dk_at dksX1_changes_2 17 rfl rfl)
theorem dX1_changes_64 : decode cX1_changes 64 = .ok (.invokevirtual 143, 3) := dk_182 0 143 (dk_at dksX1_changes_2 18 rfl rfl)
theorem dX1_changes_67 : decode cX1_changes 67 = .ok (.ireturn, 1) := dk_172 (dk_at dksX1_changes_2 21 rfl rfl)
abbrev cX1_leaves : ByteArray := prog_1_method_21_code
def yX1_leaves : MethodName := ⟨RX1, "leaves", "(III)I"⟩
def dkwX1_leaves_2 : List UInt8 := [167, 0, 18, 16, 254, 167, 0, 13, 42, 180, 0, 46, 180, 0, 234, 21, 5, 46, 182, 0, 143, 172]
abbrev dktX1_leaves_2 : List UInt8 := dkwX1_leaves_2 ++ []
def dkwX1_leaves_1 : List UInt8 := [182, 0, 222, 27, 28, 29, 182, 0, 228, 54, 5, 42, 21, 5, 2, 160, 0, 17, 27, 28, 160, 0, 7, 29]
abbrev dktX1_leaves_1 : List UInt8 := dkwX1_leaves_1 ++ dktX1_leaves_2
def dkwX1_leaves_0 : List UInt8 := [42, 27, 28, 29, 182, 0, 218, 54, 4, 21, 4, 158, 0, 10, 42, 21, 4, 182, 0, 83, 172, 42]
abbrev dktX1_leaves_0 : List UInt8 := dkwX1_leaves_0 ++ dktX1_leaves_1
theorem dksX1_leaves_0 : cX1_leaves.data.toList.drop 0 = dktX1_leaves_0 := by decide +kernel
theorem dksX1_leaves_1 : cX1_leaves.data.toList.drop 22 = dktX1_leaves_1 := dk_seg dksX1_leaves_0 22 rfl rfl
theorem dksX1_leaves_2 : cX1_leaves.data.toList.drop 46 = dktX1_leaves_2 := dk_seg dksX1_leaves_1 24 rfl rfl
theorem dX1_leaves_0 : decode cX1_leaves 0 = .ok (.aload_n 0, 1) := dk_42 (dk_at dksX1_leaves_0 0 rfl rfl)
theorem dX1_leaves_1 : decode cX1_leaves 1 = .ok (.iload_n 1, 1) := dk_27 (dk_at dksX1_leaves_0 1 rfl rfl)
theorem dX1_leaves_2 : decode cX1_leaves 2 = .ok (.iload_n 2, 1) := dk_28 (dk_at dksX1_leaves_0 2 rfl rfl)
theorem dX1_leaves_3 : decode cX1_leaves 3 = .ok (.iload_n 3, 1) := dk_29 (dk_at dksX1_leaves_0 3 rfl rfl)
theorem dX1_leaves_4 : decode cX1_leaves 4 = .ok (.invokevirtual 218, 3) := dk_182 0 218 (dk_at dksX1_leaves_0 4 rfl rfl)
theorem dX1_leaves_7 : decode cX1_leaves 7 = .ok (.istore 4, 2) := dk_54 4 (dk_at dksX1_leaves_0 7 rfl rfl)
theorem dX1_leaves_9 : decode cX1_leaves 9 = .ok (.iload 4, 2) := dk_21 4 (dk_at dksX1_leaves_0 9 rfl rfl)
theorem dX1_leaves_11 : decode cX1_leaves 11 = .ok (.ifCond .le 10, 3) := dk_158 0 10 (dk_at dksX1_leaves_0 11 rfl rfl)
theorem dX1_leaves_14 : decode cX1_leaves 14 = .ok (.aload_n 0, 1) := dk_42 (dk_at dksX1_leaves_0 14 rfl rfl)
theorem dX1_leaves_15 : decode cX1_leaves 15 = .ok (.iload 4, 2) := dk_21 4 (dk_at dksX1_leaves_0 15 rfl rfl)
theorem dX1_leaves_17 : decode cX1_leaves 17 = .ok (.invokevirtual 83, 3) := dk_182 0 83 (dk_at dksX1_leaves_0 17 rfl rfl)
theorem dX1_leaves_20 : decode cX1_leaves 20 = .ok (.ireturn, 1) := dk_172 (dk_at dksX1_leaves_0 20 rfl rfl)
theorem dX1_leaves_21 : decode cX1_leaves 21 = .ok (.aload_n 0, 1) := dk_42 (dk_at dksX1_leaves_0 21 rfl rfl)
theorem dX1_leaves_22 : decode cX1_leaves 22 = .ok (.invokevirtual 222, 3) := dk_182 0 222 (dk_at dksX1_leaves_1 0 rfl rfl)
theorem dX1_leaves_25 : decode cX1_leaves 25 = .ok (.iload_n 1, 1) := dk_27 (dk_at dksX1_leaves_1 3 rfl rfl)
theorem dX1_leaves_26 : decode cX1_leaves 26 = .ok (.iload_n 2, 1) := dk_28 (dk_at dksX1_leaves_1 4 rfl rfl)
theorem dX1_leaves_27 : decode cX1_leaves 27 = .ok (.iload_n 3, 1) := dk_29 (dk_at dksX1_leaves_1 5 rfl rfl)
theorem dX1_leaves_28 : decode cX1_leaves 28 = .ok (.invokevirtual 228, 3) := dk_182 0 228 (dk_at dksX1_leaves_1 6 rfl rfl)
theorem dX1_leaves_31 : decode cX1_leaves 31 = .ok (.istore 5, 2) := dk_54 5 (dk_at dksX1_leaves_1 9 rfl rfl)
theorem dX1_leaves_33 : decode cX1_leaves 33 = .ok (.aload_n 0, 1) := dk_42 (dk_at dksX1_leaves_1 11 rfl rfl)
theorem dX1_leaves_34 : decode cX1_leaves 34 = .ok (.iload 5, 2) := dk_21 5 (dk_at dksX1_leaves_1 12 rfl rfl)
theorem dX1_leaves_36 : decode cX1_leaves 36 = .ok (.iconst (-1), 1) := dk_2 (dk_at dksX1_leaves_1 14 rfl rfl)
theorem dX1_leaves_37 : decode cX1_leaves 37 = .ok (.if_icmp .ne 17, 3) := dk_160 0 17 (dk_at dksX1_leaves_1 15 rfl rfl)
theorem dX1_leaves_40 : decode cX1_leaves 40 = .ok (.iload_n 1, 1) := dk_27 (dk_at dksX1_leaves_1 18 rfl rfl)
theorem dX1_leaves_41 : decode cX1_leaves 41 = .ok (.iload_n 2, 1) := dk_28 (dk_at dksX1_leaves_1 19 rfl rfl)
theorem dX1_leaves_42 : decode cX1_leaves 42 = .ok (.if_icmp .ne 7, 3) := dk_160 0 7 (dk_at dksX1_leaves_1 20 rfl rfl)
theorem dX1_leaves_45 : decode cX1_leaves 45 = .ok (.iload_n 3, 1) := dk_29 (dk_at dksX1_leaves_1 23 rfl rfl)
theorem dX1_leaves_46 : decode cX1_leaves 46 = .ok (.goto 18, 3) := dk_167 0 18 (dk_at dksX1_leaves_2 0 rfl rfl)
theorem dX1_leaves_49 : decode cX1_leaves 49 = .ok (.bipush (-2), 2) := dk_16 254 (dk_at dksX1_leaves_2 3 rfl rfl)
theorem dX1_leaves_51 : decode cX1_leaves 51 = .ok (.goto 13, 3) := dk_167 0 13 (dk_at dksX1_leaves_2 5 rfl rfl)
theorem dX1_leaves_54 : decode cX1_leaves 54 = .ok (.aload_n 0, 1) := dk_42 (dk_at dksX1_leaves_2 8 rfl rfl)
theorem dX1_leaves_55 : decode cX1_leaves 55 = .ok (.getfield 46, 3) := dk_180 0 46 (dk_at dksX1_leaves_2 9 rfl rfl)
theorem dX1_leaves_58 : decode cX1_leaves 58 = .ok (.getfield 234, 3) := dk_180 0 234 (dk_at dksX1_leaves_2 12 rfl rfl)
theorem dX1_leaves_61 : decode cX1_leaves 61 = .ok (.iload 5, 2) := dk_21 5 (dk_at dksX1_leaves_2 15 rfl rfl)
theorem dX1_leaves_63 : decode cX1_leaves 63 = .ok (.iaload, 1) := dk_46 (dk_at dksX1_leaves_2 17 rfl rfl)
theorem dX1_leaves_64 : decode cX1_leaves 64 = .ok (.invokevirtual 143, 3) := dk_182 0 143 (dk_at dksX1_leaves_2 18 rfl rfl)
theorem dX1_leaves_67 : decode cX1_leaves 67 = .ok (.ireturn, 1) := dk_172 (dk_at dksX1_leaves_2 21 rfl rfl)
abbrev cX1_rides : ByteArray := prog_1_method_22_code
def yX1_rides : MethodName := ⟨RX1, "rides", "(III)I"⟩
def dkwX1_rides_2 : List UInt8 := [167, 0, 18, 16, 254, 167, 0, 13, 42, 180, 0, 46, 180, 0, 236, 21, 5, 46, 182, 0, 143, 172]
abbrev dktX1_rides_2 : List UInt8 := dkwX1_rides_2 ++ []
def dkwX1_rides_1 : List UInt8 := [182, 0, 222, 27, 28, 29, 182, 0, 228, 54, 5, 42, 21, 5, 2, 160, 0, 17, 27, 28, 160, 0, 7, 3]
abbrev dktX1_rides_1 : List UInt8 := dkwX1_rides_1 ++ dktX1_rides_2
def dkwX1_rides_0 : List UInt8 := [42, 27, 28, 29, 182, 0, 218, 54, 4, 21, 4, 158, 0, 10, 42, 21, 4, 182, 0, 83, 172, 42]
abbrev dktX1_rides_0 : List UInt8 := dkwX1_rides_0 ++ dktX1_rides_1
theorem dksX1_rides_0 : cX1_rides.data.toList.drop 0 = dktX1_rides_0 := by decide +kernel
theorem dksX1_rides_1 : cX1_rides.data.toList.drop 22 = dktX1_rides_1 := dk_seg dksX1_rides_0 22 rfl rfl
theorem dksX1_rides_2 : cX1_rides.data.toList.drop 46 = dktX1_rides_2 := dk_seg dksX1_rides_1 24 rfl rfl
theorem dX1_rides_0 : decode cX1_rides 0 = .ok (.aload_n 0, 1) := dk_42 (dk_at dksX1_rides_0 0 rfl rfl)
theorem dX1_rides_1 : decode cX1_rides 1 = .ok (.iload_n 1, 1) := dk_27 (dk_at dksX1_rides_0 1 rfl rfl)
theorem dX1_rides_2 : decode cX1_rides 2 = .ok (.iload_n 2, 1) := dk_28 (dk_at dksX1_rides_0 2 rfl rfl)
theorem dX1_rides_3 : decode cX1_rides 3 = .ok (.iload_n 3, 1) := dk_29 (dk_at dksX1_rides_0 3 rfl rfl)
theorem dX1_rides_4 : decode cX1_rides 4 = .ok (.invokevirtual 218, 3) := dk_182 0 218 (dk_at dksX1_rides_0 4 rfl rfl)
theorem dX1_rides_7 : decode cX1_rides 7 = .ok (.istore 4, 2) := dk_54 4 (dk_at dksX1_rides_0 7 rfl rfl)
theorem dX1_rides_9 : decode cX1_rides 9 = .ok (.iload 4, 2) := dk_21 4 (dk_at dksX1_rides_0 9 rfl rfl)
theorem dX1_rides_11 : decode cX1_rides 11 = .ok (.ifCond .le 10, 3) := dk_158 0 10 (dk_at dksX1_rides_0 11 rfl rfl)
theorem dX1_rides_14 : decode cX1_rides 14 = .ok (.aload_n 0, 1) := dk_42 (dk_at dksX1_rides_0 14 rfl rfl)
theorem dX1_rides_15 : decode cX1_rides 15 = .ok (.iload 4, 2) := dk_21 4 (dk_at dksX1_rides_0 15 rfl rfl)
theorem dX1_rides_17 : decode cX1_rides 17 = .ok (.invokevirtual 83, 3) := dk_182 0 83 (dk_at dksX1_rides_0 17 rfl rfl)
theorem dX1_rides_20 : decode cX1_rides 20 = .ok (.ireturn, 1) := dk_172 (dk_at dksX1_rides_0 20 rfl rfl)
theorem dX1_rides_21 : decode cX1_rides 21 = .ok (.aload_n 0, 1) := dk_42 (dk_at dksX1_rides_0 21 rfl rfl)
theorem dX1_rides_22 : decode cX1_rides 22 = .ok (.invokevirtual 222, 3) := dk_182 0 222 (dk_at dksX1_rides_1 0 rfl rfl)
theorem dX1_rides_25 : decode cX1_rides 25 = .ok (.iload_n 1, 1) := dk_27 (dk_at dksX1_rides_1 3 rfl rfl)
theorem dX1_rides_26 : decode cX1_rides 26 = .ok (.iload_n 2, 1) := dk_28 (dk_at dksX1_rides_1 4 rfl rfl)
theorem dX1_rides_27 : decode cX1_rides 27 = .ok (.iload_n 3, 1) := dk_29 (dk_at dksX1_rides_1 5 rfl rfl)
theorem dX1_rides_28 : decode cX1_rides 28 = .ok (.invokevirtual 228, 3) := dk_182 0 228 (dk_at dksX1_rides_1 6 rfl rfl)
theorem dX1_rides_31 : decode cX1_rides 31 = .ok (.istore 5, 2) := dk_54 5 (dk_at dksX1_rides_1 9 rfl rfl)
theorem dX1_rides_33 : decode cX1_rides 33 = .ok (.aload_n 0, 1) := dk_42 (dk_at dksX1_rides_1 11 rfl rfl)
theorem dX1_rides_34 : decode cX1_rides 34 = .ok (.iload 5, 2) := dk_21 5 (dk_at dksX1_rides_1 12 rfl rfl)
theorem dX1_rides_36 : decode cX1_rides 36 = .ok (.iconst (-1), 1) := dk_2 (dk_at dksX1_rides_1 14 rfl rfl)
theorem dX1_rides_37 : decode cX1_rides 37 = .ok (.if_icmp .ne 17, 3) := dk_160 0 17 (dk_at dksX1_rides_1 15 rfl rfl)
theorem dX1_rides_40 : decode cX1_rides 40 = .ok (.iload_n 1, 1) := dk_27 (dk_at dksX1_rides_1 18 rfl rfl)
theorem dX1_rides_41 : decode cX1_rides 41 = .ok (.iload_n 2, 1) := dk_28 (dk_at dksX1_rides_1 19 rfl rfl)
theorem dX1_rides_42 : decode cX1_rides 42 = .ok (.if_icmp .ne 7, 3) := dk_160 0 7 (dk_at dksX1_rides_1 20 rfl rfl)
theorem dX1_rides_45 : decode cX1_rides 45 = .ok (.iconst 0, 1) := dk_3 (dk_at dksX1_rides_1 23 rfl rfl)
theorem dX1_rides_46 : decode cX1_rides 46 = .ok (.goto 18, 3) := dk_167 0 18 (dk_at dksX1_rides_2 0 rfl rfl)
theorem dX1_rides_49 : decode cX1_rides 49 = .ok (.bipush (-2), 2) := dk_16 254 (dk_at dksX1_rides_2 3 rfl rfl)
theorem dX1_rides_51 : decode cX1_rides 51 = .ok (.goto 13, 3) := dk_167 0 13 (dk_at dksX1_rides_2 5 rfl rfl)
theorem dX1_rides_54 : decode cX1_rides 54 = .ok (.aload_n 0, 1) := dk_42 (dk_at dksX1_rides_2 8 rfl rfl)
theorem dX1_rides_55 : decode cX1_rides 55 = .ok (.getfield 46, 3) := dk_180 0 46 (dk_at dksX1_rides_2 9 rfl rfl)
theorem dX1_rides_58 : decode cX1_rides 58 = .ok (.getfield 236, 3) := dk_180 0 236 (dk_at dksX1_rides_2 12 rfl rfl)
theorem dX1_rides_61 : decode cX1_rides 61 = .ok (.iload 5, 2) := dk_21 5 (dk_at dksX1_rides_2 15 rfl rfl)
theorem dX1_rides_63 : decode cX1_rides 63 = .ok (.iaload, 1) := dk_46 (dk_at dksX1_rides_2 17 rfl rfl)
theorem dX1_rides_64 : decode cX1_rides 64 = .ok (.invokevirtual 143, 3) := dk_182 0 143 (dk_at dksX1_rides_2 18 rfl rfl)
theorem dX1_rides_67 : decode cX1_rides 67 = .ok (.ireturn, 1) := dk_172 (dk_at dksX1_rides_2 21 rfl rfl)
abbrev cX1_ride : ByteArray := prog_1_method_23_code
def yX1_ride : MethodName := ⟨RX1, "ride", "(IIII)I"⟩
def dkwX1_ride_5 : List UInt8 := [180, 0, 46, 180, 0, 242, 21, 6, 50, 180, 0, 211, 182, 0, 143, 172]
abbrev dktX1_ride_5 : List UInt8 := dkwX1_ride_5 ++ []
def dkwX1_ride_4 : List UInt8 := [162, 0, 21, 42, 180, 0, 46, 180, 0, 239, 21, 6, 46, 54, 6, 132, 7, 1, 167, 255, 234, 42, 42]
abbrev dktX1_ride_4 : List UInt8 := dkwX1_ride_4 ++ dktX1_ride_5
def dkwX1_ride_3 : List UInt8 := [46, 4, 100, 184, 0, 79, 154, 0, 9, 42, 4, 182, 0, 83, 172, 3, 54, 7, 21, 7, 21, 4]
abbrev dktX1_ride_3 : List UInt8 := dkwX1_ride_3 ++ dktX1_ride_4
def dkwX1_ride_2 : List UInt8 := [16, 254, 182, 0, 143, 172, 21, 6, 2, 159, 0, 24, 21, 4, 3, 42, 180, 0, 46, 180, 0, 236, 21, 6]
abbrev dktX1_ride_2 : List UInt8 := dkwX1_ride_2 ++ dktX1_ride_3
def dkwX1_ride_1 : List UInt8 := [182, 0, 222, 27, 28, 29, 182, 0, 228, 54, 6, 21, 6, 2, 160, 0, 15, 27, 28, 159, 0, 10, 42]
abbrev dktX1_ride_1 : List UInt8 := dkwX1_ride_1 ++ dktX1_ride_2
def dkwX1_ride_0 : List UInt8 := [42, 27, 28, 29, 182, 0, 218, 54, 5, 21, 5, 158, 0, 10, 42, 21, 5, 182, 0, 83, 172, 42]
abbrev dktX1_ride_0 : List UInt8 := dkwX1_ride_0 ++ dktX1_ride_1
theorem dksX1_ride_0 : cX1_ride.data.toList.drop 0 = dktX1_ride_0 := by decide +kernel
theorem dksX1_ride_1 : cX1_ride.data.toList.drop 22 = dktX1_ride_1 := dk_seg dksX1_ride_0 22 rfl rfl
theorem dksX1_ride_2 : cX1_ride.data.toList.drop 45 = dktX1_ride_2 := dk_seg dksX1_ride_1 23 rfl rfl
theorem dksX1_ride_3 : cX1_ride.data.toList.drop 69 = dktX1_ride_3 := dk_seg dksX1_ride_2 24 rfl rfl
theorem dksX1_ride_4 : cX1_ride.data.toList.drop 91 = dktX1_ride_4 := dk_seg dksX1_ride_3 22 rfl rfl
theorem dksX1_ride_5 : cX1_ride.data.toList.drop 114 = dktX1_ride_5 := dk_seg dksX1_ride_4 23 rfl rfl
theorem dX1_ride_0 : decode cX1_ride 0 = .ok (.aload_n 0, 1) := dk_42 (dk_at dksX1_ride_0 0 rfl rfl)
theorem dX1_ride_1 : decode cX1_ride 1 = .ok (.iload_n 1, 1) := dk_27 (dk_at dksX1_ride_0 1 rfl rfl)
theorem dX1_ride_2 : decode cX1_ride 2 = .ok (.iload_n 2, 1) := dk_28 (dk_at dksX1_ride_0 2 rfl rfl)
theorem dX1_ride_3 : decode cX1_ride 3 = .ok (.iload_n 3, 1) := dk_29 (dk_at dksX1_ride_0 3 rfl rfl)
theorem dX1_ride_4 : decode cX1_ride 4 = .ok (.invokevirtual 218, 3) := dk_182 0 218 (dk_at dksX1_ride_0 4 rfl rfl)
theorem dX1_ride_7 : decode cX1_ride 7 = .ok (.istore 5, 2) := dk_54 5 (dk_at dksX1_ride_0 7 rfl rfl)
theorem dX1_ride_9 : decode cX1_ride 9 = .ok (.iload 5, 2) := dk_21 5 (dk_at dksX1_ride_0 9 rfl rfl)
theorem dX1_ride_11 : decode cX1_ride 11 = .ok (.ifCond .le 10, 3) := dk_158 0 10 (dk_at dksX1_ride_0 11 rfl rfl)
theorem dX1_ride_14 : decode cX1_ride 14 = .ok (.aload_n 0, 1) := dk_42 (dk_at dksX1_ride_0 14 rfl rfl)
theorem dX1_ride_15 : decode cX1_ride 15 = .ok (.iload 5, 2) := dk_21 5 (dk_at dksX1_ride_0 15 rfl rfl)
theorem dX1_ride_17 : decode cX1_ride 17 = .ok (.invokevirtual 83, 3) := dk_182 0 83 (dk_at dksX1_ride_0 17 rfl rfl)
theorem dX1_ride_20 : decode cX1_ride 20 = .ok (.ireturn, 1) := dk_172 (dk_at dksX1_ride_0 20 rfl rfl)
theorem dX1_ride_21 : decode cX1_ride 21 = .ok (.aload_n 0, 1) := dk_42 (dk_at dksX1_ride_0 21 rfl rfl)
theorem dX1_ride_22 : decode cX1_ride 22 = .ok (.invokevirtual 222, 3) := dk_182 0 222 (dk_at dksX1_ride_1 0 rfl rfl)
theorem dX1_ride_25 : decode cX1_ride 25 = .ok (.iload_n 1, 1) := dk_27 (dk_at dksX1_ride_1 3 rfl rfl)
theorem dX1_ride_26 : decode cX1_ride 26 = .ok (.iload_n 2, 1) := dk_28 (dk_at dksX1_ride_1 4 rfl rfl)
theorem dX1_ride_27 : decode cX1_ride 27 = .ok (.iload_n 3, 1) := dk_29 (dk_at dksX1_ride_1 5 rfl rfl)
theorem dX1_ride_28 : decode cX1_ride 28 = .ok (.invokevirtual 228, 3) := dk_182 0 228 (dk_at dksX1_ride_1 6 rfl rfl)
theorem dX1_ride_31 : decode cX1_ride 31 = .ok (.istore 6, 2) := dk_54 6 (dk_at dksX1_ride_1 9 rfl rfl)
theorem dX1_ride_33 : decode cX1_ride 33 = .ok (.iload 6, 2) := dk_21 6 (dk_at dksX1_ride_1 11 rfl rfl)
theorem dX1_ride_35 : decode cX1_ride 35 = .ok (.iconst (-1), 1) := dk_2 (dk_at dksX1_ride_1 13 rfl rfl)
theorem dX1_ride_36 : decode cX1_ride 36 = .ok (.if_icmp .ne 15, 3) := dk_160 0 15 (dk_at dksX1_ride_1 14 rfl rfl)
theorem dX1_ride_39 : decode cX1_ride 39 = .ok (.iload_n 1, 1) := dk_27 (dk_at dksX1_ride_1 17 rfl rfl)
theorem dX1_ride_40 : decode cX1_ride 40 = .ok (.iload_n 2, 1) := dk_28 (dk_at dksX1_ride_1 18 rfl rfl)
theorem dX1_ride_41 : decode cX1_ride 41 = .ok (.if_icmp .eq 10, 3) := dk_159 0 10 (dk_at dksX1_ride_1 19 rfl rfl)
theorem dX1_ride_44 : decode cX1_ride 44 = .ok (.aload_n 0, 1) := dk_42 (dk_at dksX1_ride_1 22 rfl rfl)
theorem dX1_ride_45 : decode cX1_ride 45 = .ok (.bipush (-2), 2) := dk_16 254 (dk_at dksX1_ride_2 0 rfl rfl)
theorem dX1_ride_47 : decode cX1_ride 47 = .ok (.invokevirtual 143, 3) := dk_182 0 143 (dk_at dksX1_ride_2 2 rfl rfl)
theorem dX1_ride_50 : decode cX1_ride 50 = .ok (.ireturn, 1) := dk_172 (dk_at dksX1_ride_2 5 rfl rfl)
theorem dX1_ride_51 : decode cX1_ride 51 = .ok (.iload 6, 2) := dk_21 6 (dk_at dksX1_ride_2 6 rfl rfl)
theorem dX1_ride_53 : decode cX1_ride 53 = .ok (.iconst (-1), 1) := dk_2 (dk_at dksX1_ride_2 8 rfl rfl)
theorem dX1_ride_54 : decode cX1_ride 54 = .ok (.if_icmp .eq 24, 3) := dk_159 0 24 (dk_at dksX1_ride_2 9 rfl rfl)
theorem dX1_ride_57 : decode cX1_ride 57 = .ok (.iload 4, 2) := dk_21 4 (dk_at dksX1_ride_2 12 rfl rfl)
theorem dX1_ride_59 : decode cX1_ride 59 = .ok (.iconst 0, 1) := dk_3 (dk_at dksX1_ride_2 14 rfl rfl)
theorem dX1_ride_60 : decode cX1_ride 60 = .ok (.aload_n 0, 1) := dk_42 (dk_at dksX1_ride_2 15 rfl rfl)
theorem dX1_ride_61 : decode cX1_ride 61 = .ok (.getfield 46, 3) := dk_180 0 46 (dk_at dksX1_ride_2 16 rfl rfl)
theorem dX1_ride_64 : decode cX1_ride 64 = .ok (.getfield 236, 3) := dk_180 0 236 (dk_at dksX1_ride_2 19 rfl rfl)
theorem dX1_ride_67 : decode cX1_ride 67 = .ok (.iload 6, 2) := dk_21 6 (dk_at dksX1_ride_2 22 rfl rfl)
theorem dX1_ride_69 : decode cX1_ride 69 = .ok (.iaload, 1) := dk_46 (dk_at dksX1_ride_3 0 rfl rfl)
theorem dX1_ride_70 : decode cX1_ride 70 = .ok (.iconst 1, 1) := dk_4 (dk_at dksX1_ride_3 1 rfl rfl)
theorem dX1_ride_71 : decode cX1_ride 71 = .ok (.isub, 1) := dk_100 (dk_at dksX1_ride_3 2 rfl rfl)
theorem dX1_ride_72 : decode cX1_ride 72 = .ok (.invokestatic 79, 3) := dk_184 0 79 (dk_at dksX1_ride_3 3 rfl rfl)
theorem dX1_ride_75 : decode cX1_ride 75 = .ok (.ifCond .ne 9, 3) := dk_154 0 9 (dk_at dksX1_ride_3 6 rfl rfl)
theorem dX1_ride_78 : decode cX1_ride 78 = .ok (.aload_n 0, 1) := dk_42 (dk_at dksX1_ride_3 9 rfl rfl)
theorem dX1_ride_79 : decode cX1_ride 79 = .ok (.iconst 1, 1) := dk_4 (dk_at dksX1_ride_3 10 rfl rfl)
theorem dX1_ride_80 : decode cX1_ride 80 = .ok (.invokevirtual 83, 3) := dk_182 0 83 (dk_at dksX1_ride_3 11 rfl rfl)
theorem dX1_ride_83 : decode cX1_ride 83 = .ok (.ireturn, 1) := dk_172 (dk_at dksX1_ride_3 14 rfl rfl)
theorem dX1_ride_84 : decode cX1_ride 84 = .ok (.iconst 0, 1) := dk_3 (dk_at dksX1_ride_3 15 rfl rfl)
theorem dX1_ride_85 : decode cX1_ride 85 = .ok (.istore 7, 2) := dk_54 7 (dk_at dksX1_ride_3 16 rfl rfl)
theorem dX1_ride_87 : decode cX1_ride 87 = .ok (.iload 7, 2) := dk_21 7 (dk_at dksX1_ride_3 18 rfl rfl)
theorem dX1_ride_89 : decode cX1_ride 89 = .ok (.iload 4, 2) := dk_21 4 (dk_at dksX1_ride_3 20 rfl rfl)
theorem dX1_ride_91 : decode cX1_ride 91 = .ok (.if_icmp .ge 21, 3) := dk_162 0 21 (dk_at dksX1_ride_4 0 rfl rfl)
theorem dX1_ride_94 : decode cX1_ride 94 = .ok (.aload_n 0, 1) := dk_42 (dk_at dksX1_ride_4 3 rfl rfl)
theorem dX1_ride_95 : decode cX1_ride 95 = .ok (.getfield 46, 3) := dk_180 0 46 (dk_at dksX1_ride_4 4 rfl rfl)
theorem dX1_ride_98 : decode cX1_ride 98 = .ok (.getfield 239, 3) := dk_180 0 239 (dk_at dksX1_ride_4 7 rfl rfl)
theorem dX1_ride_101 : decode cX1_ride 101 = .ok (.iload 6, 2) := dk_21 6 (dk_at dksX1_ride_4 10 rfl rfl)
theorem dX1_ride_103 : decode cX1_ride 103 = .ok (.iaload, 1) := dk_46 (dk_at dksX1_ride_4 12 rfl rfl)
theorem dX1_ride_104 : decode cX1_ride 104 = .ok (.istore 6, 2) := dk_54 6 (dk_at dksX1_ride_4 13 rfl rfl)
theorem dX1_ride_106 : decode cX1_ride 106 = .ok (.iinc 7 1, 3) := dk_132 7 1 (dk_at dksX1_ride_4 15 rfl rfl)
theorem dX1_ride_109 : decode cX1_ride 109 = .ok (.goto (-22), 3) := dk_167 255 234 (dk_at dksX1_ride_4 18 rfl rfl)
theorem dX1_ride_112 : decode cX1_ride 112 = .ok (.aload_n 0, 1) := dk_42 (dk_at dksX1_ride_4 21 rfl rfl)
theorem dX1_ride_113 : decode cX1_ride 113 = .ok (.aload_n 0, 1) := dk_42 (dk_at dksX1_ride_4 22 rfl rfl)
theorem dX1_ride_114 : decode cX1_ride 114 = .ok (.getfield 46, 3) := dk_180 0 46 (dk_at dksX1_ride_5 0 rfl rfl)
theorem dX1_ride_117 : decode cX1_ride 117 = .ok (.getfield 242, 3) := dk_180 0 242 (dk_at dksX1_ride_5 3 rfl rfl)
theorem dX1_ride_120 : decode cX1_ride 120 = .ok (.iload 6, 2) := dk_21 6 (dk_at dksX1_ride_5 6 rfl rfl)
theorem dX1_ride_122 : decode cX1_ride 122 = .ok (.aaload, 1) := dk_50 (dk_at dksX1_ride_5 8 rfl rfl)
theorem dX1_ride_123 : decode cX1_ride 123 = .ok (.getfield 211, 3) := dk_180 0 211 (dk_at dksX1_ride_5 9 rfl rfl)
theorem dX1_ride_126 : decode cX1_ride 126 = .ok (.invokevirtual 143, 3) := dk_182 0 143 (dk_at dksX1_ride_5 12 rfl rfl)
theorem dX1_ride_129 : decode cX1_ride 129 = .ok (.ireturn, 1) := dk_172 (dk_at dksX1_ride_5 15 rfl rfl)
abbrev cX1_stands : ByteArray := prog_1_method_24_code
def yX1_stands : MethodName := ⟨RX1, "stands", "(III)I"⟩
def dkwX1_stands_5 : List UInt8 := [54, 7, 167, 255, 208, 42, 21, 6, 182, 0, 143, 172]
abbrev dktX1_stands_5 : List UInt8 := dkwX1_stands_5 ++ []
def dkwX1_stands_4 : List UInt8 := [180, 0, 246, 21, 5, 46, 100, 96, 54, 6, 21, 7, 54, 5, 42, 180, 0, 46, 180, 0, 239, 21, 7, 46]
abbrev dktX1_stands_4 : List UInt8 := dkwX1_stands_4 ++ dktX1_stands_5
def dkwX1_stands_3 : List UInt8 := [21, 7, 2, 159, 0, 48, 21, 6, 42, 180, 0, 46, 180, 0, 234, 21, 7, 46, 42, 180, 0, 46]
abbrev dktX1_stands_3 : List UInt8 := dkwX1_stands_3 ++ dktX1_stands_4
def dkwX1_stands_2 : List UInt8 := [167, 0, 5, 16, 254, 182, 0, 143, 172, 3, 54, 6, 42, 180, 0, 46, 180, 0, 239, 21, 5, 46, 54, 7]
abbrev dktX1_stands_2 : List UInt8 := dkwX1_stands_2 ++ dktX1_stands_3
def dkwX1_stands_1 : List UInt8 := [182, 0, 222, 27, 28, 29, 182, 0, 228, 54, 5, 21, 5, 2, 160, 0, 19, 42, 27, 28, 160, 0, 7, 3]
abbrev dktX1_stands_1 : List UInt8 := dkwX1_stands_1 ++ dktX1_stands_2
def dkwX1_stands_0 : List UInt8 := [42, 27, 28, 29, 182, 0, 218, 54, 4, 21, 4, 158, 0, 10, 42, 21, 4, 182, 0, 83, 172, 42]
abbrev dktX1_stands_0 : List UInt8 := dkwX1_stands_0 ++ dktX1_stands_1
theorem dksX1_stands_0 : cX1_stands.data.toList.drop 0 = dktX1_stands_0 := by decide +kernel
theorem dksX1_stands_1 : cX1_stands.data.toList.drop 22 = dktX1_stands_1 := dk_seg dksX1_stands_0 22 rfl rfl
theorem dksX1_stands_2 : cX1_stands.data.toList.drop 46 = dktX1_stands_2 := dk_seg dksX1_stands_1 24 rfl rfl
theorem dksX1_stands_3 : cX1_stands.data.toList.drop 70 = dktX1_stands_3 := dk_seg dksX1_stands_2 24 rfl rfl
theorem dksX1_stands_4 : cX1_stands.data.toList.drop 92 = dktX1_stands_4 := dk_seg dksX1_stands_3 22 rfl rfl
theorem dksX1_stands_5 : cX1_stands.data.toList.drop 116 = dktX1_stands_5 := dk_seg dksX1_stands_4 24 rfl rfl
theorem dX1_stands_0 : decode cX1_stands 0 = .ok (.aload_n 0, 1) := dk_42 (dk_at dksX1_stands_0 0 rfl rfl)
theorem dX1_stands_1 : decode cX1_stands 1 = .ok (.iload_n 1, 1) := dk_27 (dk_at dksX1_stands_0 1 rfl rfl)
theorem dX1_stands_2 : decode cX1_stands 2 = .ok (.iload_n 2, 1) := dk_28 (dk_at dksX1_stands_0 2 rfl rfl)
theorem dX1_stands_3 : decode cX1_stands 3 = .ok (.iload_n 3, 1) := dk_29 (dk_at dksX1_stands_0 3 rfl rfl)
theorem dX1_stands_4 : decode cX1_stands 4 = .ok (.invokevirtual 218, 3) := dk_182 0 218 (dk_at dksX1_stands_0 4 rfl rfl)
theorem dX1_stands_7 : decode cX1_stands 7 = .ok (.istore 4, 2) := dk_54 4 (dk_at dksX1_stands_0 7 rfl rfl)
theorem dX1_stands_9 : decode cX1_stands 9 = .ok (.iload 4, 2) := dk_21 4 (dk_at dksX1_stands_0 9 rfl rfl)
theorem dX1_stands_11 : decode cX1_stands 11 = .ok (.ifCond .le 10, 3) := dk_158 0 10 (dk_at dksX1_stands_0 11 rfl rfl)
theorem dX1_stands_14 : decode cX1_stands 14 = .ok (.aload_n 0, 1) := dk_42 (dk_at dksX1_stands_0 14 rfl rfl)
theorem dX1_stands_15 : decode cX1_stands 15 = .ok (.iload 4, 2) := dk_21 4 (dk_at dksX1_stands_0 15 rfl rfl)
theorem dX1_stands_17 : decode cX1_stands 17 = .ok (.invokevirtual 83, 3) := dk_182 0 83 (dk_at dksX1_stands_0 17 rfl rfl)
theorem dX1_stands_20 : decode cX1_stands 20 = .ok (.ireturn, 1) := dk_172 (dk_at dksX1_stands_0 20 rfl rfl)
theorem dX1_stands_21 : decode cX1_stands 21 = .ok (.aload_n 0, 1) := dk_42 (dk_at dksX1_stands_0 21 rfl rfl)
theorem dX1_stands_22 : decode cX1_stands 22 = .ok (.invokevirtual 222, 3) := dk_182 0 222 (dk_at dksX1_stands_1 0 rfl rfl)
theorem dX1_stands_25 : decode cX1_stands 25 = .ok (.iload_n 1, 1) := dk_27 (dk_at dksX1_stands_1 3 rfl rfl)
theorem dX1_stands_26 : decode cX1_stands 26 = .ok (.iload_n 2, 1) := dk_28 (dk_at dksX1_stands_1 4 rfl rfl)
theorem dX1_stands_27 : decode cX1_stands 27 = .ok (.iload_n 3, 1) := dk_29 (dk_at dksX1_stands_1 5 rfl rfl)
theorem dX1_stands_28 : decode cX1_stands 28 = .ok (.invokevirtual 228, 3) := dk_182 0 228 (dk_at dksX1_stands_1 6 rfl rfl)
theorem dX1_stands_31 : decode cX1_stands 31 = .ok (.istore 5, 2) := dk_54 5 (dk_at dksX1_stands_1 9 rfl rfl)
theorem dX1_stands_33 : decode cX1_stands 33 = .ok (.iload 5, 2) := dk_21 5 (dk_at dksX1_stands_1 11 rfl rfl)
theorem dX1_stands_35 : decode cX1_stands 35 = .ok (.iconst (-1), 1) := dk_2 (dk_at dksX1_stands_1 13 rfl rfl)
theorem dX1_stands_36 : decode cX1_stands 36 = .ok (.if_icmp .ne 19, 3) := dk_160 0 19 (dk_at dksX1_stands_1 14 rfl rfl)
theorem dX1_stands_39 : decode cX1_stands 39 = .ok (.aload_n 0, 1) := dk_42 (dk_at dksX1_stands_1 17 rfl rfl)
theorem dX1_stands_40 : decode cX1_stands 40 = .ok (.iload_n 1, 1) := dk_27 (dk_at dksX1_stands_1 18 rfl rfl)
theorem dX1_stands_41 : decode cX1_stands 41 = .ok (.iload_n 2, 1) := dk_28 (dk_at dksX1_stands_1 19 rfl rfl)
theorem dX1_stands_42 : decode cX1_stands 42 = .ok (.if_icmp .ne 7, 3) := dk_160 0 7 (dk_at dksX1_stands_1 20 rfl rfl)
theorem dX1_stands_45 : decode cX1_stands 45 = .ok (.iconst 0, 1) := dk_3 (dk_at dksX1_stands_1 23 rfl rfl)
theorem dX1_stands_46 : decode cX1_stands 46 = .ok (.goto 5, 3) := dk_167 0 5 (dk_at dksX1_stands_2 0 rfl rfl)
theorem dX1_stands_49 : decode cX1_stands 49 = .ok (.bipush (-2), 2) := dk_16 254 (dk_at dksX1_stands_2 3 rfl rfl)
theorem dX1_stands_51 : decode cX1_stands 51 = .ok (.invokevirtual 143, 3) := dk_182 0 143 (dk_at dksX1_stands_2 5 rfl rfl)
theorem dX1_stands_54 : decode cX1_stands 54 = .ok (.ireturn, 1) := dk_172 (dk_at dksX1_stands_2 8 rfl rfl)
theorem dX1_stands_55 : decode cX1_stands 55 = .ok (.iconst 0, 1) := dk_3 (dk_at dksX1_stands_2 9 rfl rfl)
theorem dX1_stands_56 : decode cX1_stands 56 = .ok (.istore 6, 2) := dk_54 6 (dk_at dksX1_stands_2 10 rfl rfl)
theorem dX1_stands_58 : decode cX1_stands 58 = .ok (.aload_n 0, 1) := dk_42 (dk_at dksX1_stands_2 12 rfl rfl)
theorem dX1_stands_59 : decode cX1_stands 59 = .ok (.getfield 46, 3) := dk_180 0 46 (dk_at dksX1_stands_2 13 rfl rfl)
theorem dX1_stands_62 : decode cX1_stands 62 = .ok (.getfield 239, 3) := dk_180 0 239 (dk_at dksX1_stands_2 16 rfl rfl)
theorem dX1_stands_65 : decode cX1_stands 65 = .ok (.iload 5, 2) := dk_21 5 (dk_at dksX1_stands_2 19 rfl rfl)
theorem dX1_stands_67 : decode cX1_stands 67 = .ok (.iaload, 1) := dk_46 (dk_at dksX1_stands_2 21 rfl rfl)
theorem dX1_stands_68 : decode cX1_stands 68 = .ok (.istore 7, 2) := dk_54 7 (dk_at dksX1_stands_2 22 rfl rfl)
theorem dX1_stands_70 : decode cX1_stands 70 = .ok (.iload 7, 2) := dk_21 7 (dk_at dksX1_stands_3 0 rfl rfl)
theorem dX1_stands_72 : decode cX1_stands 72 = .ok (.iconst (-1), 1) := dk_2 (dk_at dksX1_stands_3 2 rfl rfl)
theorem dX1_stands_73 : decode cX1_stands 73 = .ok (.if_icmp .eq 48, 3) := dk_159 0 48 (dk_at dksX1_stands_3 3 rfl rfl)
theorem dX1_stands_76 : decode cX1_stands 76 = .ok (.iload 6, 2) := dk_21 6 (dk_at dksX1_stands_3 6 rfl rfl)
theorem dX1_stands_78 : decode cX1_stands 78 = .ok (.aload_n 0, 1) := dk_42 (dk_at dksX1_stands_3 8 rfl rfl)
theorem dX1_stands_79 : decode cX1_stands 79 = .ok (.getfield 46, 3) := dk_180 0 46 (dk_at dksX1_stands_3 9 rfl rfl)
theorem dX1_stands_82 : decode cX1_stands 82 = .ok (.getfield 234, 3) := dk_180 0 234 (dk_at dksX1_stands_3 12 rfl rfl)
theorem dX1_stands_85 : decode cX1_stands 85 = .ok (.iload 7, 2) := dk_21 7 (dk_at dksX1_stands_3 15 rfl rfl)
theorem dX1_stands_87 : decode cX1_stands 87 = .ok (.iaload, 1) := dk_46 (dk_at dksX1_stands_3 17 rfl rfl)
theorem dX1_stands_88 : decode cX1_stands 88 = .ok (.aload_n 0, 1) := dk_42 (dk_at dksX1_stands_3 18 rfl rfl)
theorem dX1_stands_89 : decode cX1_stands 89 = .ok (.getfield 46, 3) := dk_180 0 46 (dk_at dksX1_stands_3 19 rfl rfl)
theorem dX1_stands_92 : decode cX1_stands 92 = .ok (.getfield 246, 3) := dk_180 0 246 (dk_at dksX1_stands_4 0 rfl rfl)
theorem dX1_stands_95 : decode cX1_stands 95 = .ok (.iload 5, 2) := dk_21 5 (dk_at dksX1_stands_4 3 rfl rfl)
theorem dX1_stands_97 : decode cX1_stands 97 = .ok (.iaload, 1) := dk_46 (dk_at dksX1_stands_4 5 rfl rfl)
theorem dX1_stands_98 : decode cX1_stands 98 = .ok (.isub, 1) := dk_100 (dk_at dksX1_stands_4 6 rfl rfl)
theorem dX1_stands_99 : decode cX1_stands 99 = .ok (.iadd, 1) := dk_96 (dk_at dksX1_stands_4 7 rfl rfl)
theorem dX1_stands_100 : decode cX1_stands 100 = .ok (.istore 6, 2) := dk_54 6 (dk_at dksX1_stands_4 8 rfl rfl)
theorem dX1_stands_102 : decode cX1_stands 102 = .ok (.iload 7, 2) := dk_21 7 (dk_at dksX1_stands_4 10 rfl rfl)
theorem dX1_stands_104 : decode cX1_stands 104 = .ok (.istore 5, 2) := dk_54 5 (dk_at dksX1_stands_4 12 rfl rfl)
theorem dX1_stands_106 : decode cX1_stands 106 = .ok (.aload_n 0, 1) := dk_42 (dk_at dksX1_stands_4 14 rfl rfl)
theorem dX1_stands_107 : decode cX1_stands 107 = .ok (.getfield 46, 3) := dk_180 0 46 (dk_at dksX1_stands_4 15 rfl rfl)
theorem dX1_stands_110 : decode cX1_stands 110 = .ok (.getfield 239, 3) := dk_180 0 239 (dk_at dksX1_stands_4 18 rfl rfl)
theorem dX1_stands_113 : decode cX1_stands 113 = .ok (.iload 7, 2) := dk_21 7 (dk_at dksX1_stands_4 21 rfl rfl)
theorem dX1_stands_115 : decode cX1_stands 115 = .ok (.iaload, 1) := dk_46 (dk_at dksX1_stands_4 23 rfl rfl)
theorem dX1_stands_116 : decode cX1_stands 116 = .ok (.istore 7, 2) := dk_54 7 (dk_at dksX1_stands_5 0 rfl rfl)
theorem dX1_stands_118 : decode cX1_stands 118 = .ok (.goto (-48), 3) := dk_167 255 208 (dk_at dksX1_stands_5 2 rfl rfl)
theorem dX1_stands_121 : decode cX1_stands 121 = .ok (.aload_n 0, 1) := dk_42 (dk_at dksX1_stands_5 5 rfl rfl)
theorem dX1_stands_122 : decode cX1_stands 122 = .ok (.iload 6, 2) := dk_21 6 (dk_at dksX1_stands_5 6 rfl rfl)
theorem dX1_stands_124 : decode cX1_stands 124 = .ok (.invokevirtual 143, 3) := dk_182 0 143 (dk_at dksX1_stands_5 8 rfl rfl)
theorem dX1_stands_127 : decode cX1_stands 127 = .ok (.ireturn, 1) := dk_172 (dk_at dksX1_stands_5 11 rfl rfl)
abbrev cX1_trades : ByteArray := prog_1_method_26_code
def yX1_trades : MethodName := ⟨RX1, "trades", "(III)I"⟩
def dkwX1_trades_1 : List UInt8 := [29, 182, 0, 253, 54, 5, 42, 21, 5, 154, 0, 8, 16, 254, 167, 0, 5, 21, 5, 182, 0, 143, 172]
abbrev dktX1_trades_1 : List UInt8 := dkwX1_trades_1 ++ []
def dkwX1_trades_0 : List UInt8 := [42, 27, 28, 29, 182, 0, 218, 54, 4, 21, 4, 158, 0, 10, 42, 21, 4, 182, 0, 83, 172, 42, 27, 28]
abbrev dktX1_trades_0 : List UInt8 := dkwX1_trades_0 ++ dktX1_trades_1
theorem dksX1_trades_0 : cX1_trades.data.toList.drop 0 = dktX1_trades_0 := by decide +kernel
theorem dksX1_trades_1 : cX1_trades.data.toList.drop 24 = dktX1_trades_1 := dk_seg dksX1_trades_0 24 rfl rfl
theorem dX1_trades_0 : decode cX1_trades 0 = .ok (.aload_n 0, 1) := dk_42 (dk_at dksX1_trades_0 0 rfl rfl)
theorem dX1_trades_1 : decode cX1_trades 1 = .ok (.iload_n 1, 1) := dk_27 (dk_at dksX1_trades_0 1 rfl rfl)
theorem dX1_trades_2 : decode cX1_trades 2 = .ok (.iload_n 2, 1) := dk_28 (dk_at dksX1_trades_0 2 rfl rfl)
theorem dX1_trades_3 : decode cX1_trades 3 = .ok (.iload_n 3, 1) := dk_29 (dk_at dksX1_trades_0 3 rfl rfl)
theorem dX1_trades_4 : decode cX1_trades 4 = .ok (.invokevirtual 218, 3) := dk_182 0 218 (dk_at dksX1_trades_0 4 rfl rfl)
theorem dX1_trades_7 : decode cX1_trades 7 = .ok (.istore 4, 2) := dk_54 4 (dk_at dksX1_trades_0 7 rfl rfl)
theorem dX1_trades_9 : decode cX1_trades 9 = .ok (.iload 4, 2) := dk_21 4 (dk_at dksX1_trades_0 9 rfl rfl)
theorem dX1_trades_11 : decode cX1_trades 11 = .ok (.ifCond .le 10, 3) := dk_158 0 10 (dk_at dksX1_trades_0 11 rfl rfl)
theorem dX1_trades_14 : decode cX1_trades 14 = .ok (.aload_n 0, 1) := dk_42 (dk_at dksX1_trades_0 14 rfl rfl)
theorem dX1_trades_15 : decode cX1_trades 15 = .ok (.iload 4, 2) := dk_21 4 (dk_at dksX1_trades_0 15 rfl rfl)
theorem dX1_trades_17 : decode cX1_trades 17 = .ok (.invokevirtual 83, 3) := dk_182 0 83 (dk_at dksX1_trades_0 17 rfl rfl)
theorem dX1_trades_20 : decode cX1_trades 20 = .ok (.ireturn, 1) := dk_172 (dk_at dksX1_trades_0 20 rfl rfl)
theorem dX1_trades_21 : decode cX1_trades 21 = .ok (.aload_n 0, 1) := dk_42 (dk_at dksX1_trades_0 21 rfl rfl)
theorem dX1_trades_22 : decode cX1_trades 22 = .ok (.iload_n 1, 1) := dk_27 (dk_at dksX1_trades_0 22 rfl rfl)
theorem dX1_trades_23 : decode cX1_trades 23 = .ok (.iload_n 2, 1) := dk_28 (dk_at dksX1_trades_0 23 rfl rfl)
theorem dX1_trades_24 : decode cX1_trades 24 = .ok (.iload_n 3, 1) := dk_29 (dk_at dksX1_trades_1 0 rfl rfl)
theorem dX1_trades_25 : decode cX1_trades 25 = .ok (.invokevirtual 253, 3) := dk_182 0 253 (dk_at dksX1_trades_1 1 rfl rfl)
theorem dX1_trades_28 : decode cX1_trades 28 = .ok (.istore 5, 2) := dk_54 5 (dk_at dksX1_trades_1 4 rfl rfl)
theorem dX1_trades_30 : decode cX1_trades 30 = .ok (.aload_n 0, 1) := dk_42 (dk_at dksX1_trades_1 6 rfl rfl)
theorem dX1_trades_31 : decode cX1_trades 31 = .ok (.iload 5, 2) := dk_21 5 (dk_at dksX1_trades_1 7 rfl rfl)
theorem dX1_trades_33 : decode cX1_trades 33 = .ok (.ifCond .ne 8, 3) := dk_154 0 8 (dk_at dksX1_trades_1 9 rfl rfl)
theorem dX1_trades_36 : decode cX1_trades 36 = .ok (.bipush (-2), 2) := dk_16 254 (dk_at dksX1_trades_1 12 rfl rfl)
theorem dX1_trades_38 : decode cX1_trades 38 = .ok (.goto 5, 3) := dk_167 0 5 (dk_at dksX1_trades_1 14 rfl rfl)
theorem dX1_trades_41 : decode cX1_trades 41 = .ok (.iload 5, 2) := dk_21 5 (dk_at dksX1_trades_1 17 rfl rfl)
theorem dX1_trades_43 : decode cX1_trades 43 = .ok (.invokevirtual 143, 3) := dk_182 0 143 (dk_at dksX1_trades_1 19 rfl rfl)
theorem dX1_trades_46 : decode cX1_trades 46 = .ok (.ireturn, 1) := dk_172 (dk_at dksX1_trades_1 22 rfl rfl)
abbrev cX1_laysTrades : ByteArray := prog_1_method_25_code
def yX1_laysTrades : MethodName := ⟨RX1, "laysTrades", "(III)I"⟩
def dkwX1_laysTrades_4 : List UInt8 := [21, 5, 172]
abbrev dktX1_laysTrades_4 : List UInt8 := dkwX1_laysTrades_4 ++ []
def dkwX1_laysTrades_3 : List UInt8 := [21, 5, 21, 8, 79, 42, 180, 0, 54, 21, 5, 21, 7, 79, 132, 5, 1, 132, 7, 1, 167, 255, 186]
abbrev dktX1_laysTrades_3 : List UInt8 := dkwX1_laysTrades_3 ++ dktX1_laysTrades_4
def dkwX1_laysTrades_2 : List UInt8 := [54, 8, 21, 8, 16, 254, 159, 0, 35, 21, 8, 21, 6, 162, 0, 28, 21, 8, 54, 6, 42, 180, 0, 50]
abbrev dktX1_laysTrades_2 : List UInt8 := dkwX1_laysTrades_2 ++ dktX1_laysTrades_3
def dkwX1_laysTrades_1 : List UInt8 := [16, 254, 159, 0, 69, 21, 6, 21, 4, 159, 0, 62, 42, 180, 0, 46, 27, 28, 29, 21, 7, 182, 0, 249]
abbrev dktX1_laysTrades_1 : List UInt8 := dkwX1_laysTrades_1 ++ dktX1_laysTrades_2
def dkwX1_laysTrades_0 : List UInt8 := [42, 182, 0, 222, 27, 28, 29, 182, 0, 226, 54, 4, 3, 54, 5, 18, 248, 54, 6, 3, 54, 7, 21, 4]
abbrev dktX1_laysTrades_0 : List UInt8 := dkwX1_laysTrades_0 ++ dktX1_laysTrades_1
theorem dksX1_laysTrades_0 : cX1_laysTrades.data.toList.drop 0 = dktX1_laysTrades_0 := by decide +kernel
theorem dksX1_laysTrades_1 : cX1_laysTrades.data.toList.drop 24 = dktX1_laysTrades_1 := dk_seg dksX1_laysTrades_0 24 rfl rfl
theorem dksX1_laysTrades_2 : cX1_laysTrades.data.toList.drop 48 = dktX1_laysTrades_2 := dk_seg dksX1_laysTrades_1 24 rfl rfl
theorem dksX1_laysTrades_3 : cX1_laysTrades.data.toList.drop 72 = dktX1_laysTrades_3 := dk_seg dksX1_laysTrades_2 24 rfl rfl
theorem dksX1_laysTrades_4 : cX1_laysTrades.data.toList.drop 95 = dktX1_laysTrades_4 := dk_seg dksX1_laysTrades_3 23 rfl rfl
theorem dX1_laysTrades_0 : decode cX1_laysTrades 0 = .ok (.aload_n 0, 1) := dk_42 (dk_at dksX1_laysTrades_0 0 rfl rfl)
theorem dX1_laysTrades_1 : decode cX1_laysTrades 1 = .ok (.invokevirtual 222, 3) := dk_182 0 222 (dk_at dksX1_laysTrades_0 1 rfl rfl)
theorem dX1_laysTrades_4 : decode cX1_laysTrades 4 = .ok (.iload_n 1, 1) := dk_27 (dk_at dksX1_laysTrades_0 4 rfl rfl)
theorem dX1_laysTrades_5 : decode cX1_laysTrades 5 = .ok (.iload_n 2, 1) := dk_28 (dk_at dksX1_laysTrades_0 5 rfl rfl)
theorem dX1_laysTrades_6 : decode cX1_laysTrades 6 = .ok (.iload_n 3, 1) := dk_29 (dk_at dksX1_laysTrades_0 6 rfl rfl)
theorem dX1_laysTrades_7 : decode cX1_laysTrades 7 = .ok (.invokevirtual 226, 3) := dk_182 0 226 (dk_at dksX1_laysTrades_0 7 rfl rfl)
theorem dX1_laysTrades_10 : decode cX1_laysTrades 10 = .ok (.istore 4, 2) := dk_54 4 (dk_at dksX1_laysTrades_0 10 rfl rfl)
theorem dX1_laysTrades_12 : decode cX1_laysTrades 12 = .ok (.iconst 0, 1) := dk_3 (dk_at dksX1_laysTrades_0 12 rfl rfl)
theorem dX1_laysTrades_13 : decode cX1_laysTrades 13 = .ok (.istore 5, 2) := dk_54 5 (dk_at dksX1_laysTrades_0 13 rfl rfl)
theorem dX1_laysTrades_15 : decode cX1_laysTrades 15 = .ok (.ldc 248, 2) := dk_18 248 (dk_at dksX1_laysTrades_0 15 rfl rfl)
theorem dX1_laysTrades_17 : decode cX1_laysTrades 17 = .ok (.istore 6, 2) := dk_54 6 (dk_at dksX1_laysTrades_0 17 rfl rfl)
theorem dX1_laysTrades_19 : decode cX1_laysTrades 19 = .ok (.iconst 0, 1) := dk_3 (dk_at dksX1_laysTrades_0 19 rfl rfl)
theorem dX1_laysTrades_20 : decode cX1_laysTrades 20 = .ok (.istore 7, 2) := dk_54 7 (dk_at dksX1_laysTrades_0 20 rfl rfl)
theorem dX1_laysTrades_22 : decode cX1_laysTrades 22 = .ok (.iload 4, 2) := dk_21 4 (dk_at dksX1_laysTrades_0 22 rfl rfl)
theorem dX1_laysTrades_24 : decode cX1_laysTrades 24 = .ok (.bipush (-2), 2) := dk_16 254 (dk_at dksX1_laysTrades_1 0 rfl rfl)
theorem dX1_laysTrades_26 : decode cX1_laysTrades 26 = .ok (.if_icmp .eq 69, 3) := dk_159 0 69 (dk_at dksX1_laysTrades_1 2 rfl rfl)
theorem dX1_laysTrades_29 : decode cX1_laysTrades 29 = .ok (.iload 6, 2) := dk_21 6 (dk_at dksX1_laysTrades_1 5 rfl rfl)
theorem dX1_laysTrades_31 : decode cX1_laysTrades 31 = .ok (.iload 4, 2) := dk_21 4 (dk_at dksX1_laysTrades_1 7 rfl rfl)
theorem dX1_laysTrades_33 : decode cX1_laysTrades 33 = .ok (.if_icmp .eq 62, 3) := dk_159 0 62 (dk_at dksX1_laysTrades_1 9 rfl rfl)
theorem dX1_laysTrades_36 : decode cX1_laysTrades 36 = .ok (.aload_n 0, 1) := dk_42 (dk_at dksX1_laysTrades_1 12 rfl rfl)
theorem dX1_laysTrades_37 : decode cX1_laysTrades 37 = .ok (.getfield 46, 3) := dk_180 0 46 (dk_at dksX1_laysTrades_1 13 rfl rfl)
theorem dX1_laysTrades_40 : decode cX1_laysTrades 40 = .ok (.iload_n 1, 1) := dk_27 (dk_at dksX1_laysTrades_1 16 rfl rfl)
theorem dX1_laysTrades_41 : decode cX1_laysTrades 41 = .ok (.iload_n 2, 1) := dk_28 (dk_at dksX1_laysTrades_1 17 rfl rfl)
theorem dX1_laysTrades_42 : decode cX1_laysTrades 42 = .ok (.iload_n 3, 1) := dk_29 (dk_at dksX1_laysTrades_1 18 rfl rfl)
theorem dX1_laysTrades_43 : decode cX1_laysTrades 43 = .ok (.iload 7, 2) := dk_21 7 (dk_at dksX1_laysTrades_1 19 rfl rfl)
theorem dX1_laysTrades_45 : decode cX1_laysTrades 45 = .ok (.invokevirtual 249, 3) := dk_182 0 249 (dk_at dksX1_laysTrades_1 21 rfl rfl)
theorem dX1_laysTrades_48 : decode cX1_laysTrades 48 = .ok (.istore 8, 2) := dk_54 8 (dk_at dksX1_laysTrades_2 0 rfl rfl)
theorem dX1_laysTrades_50 : decode cX1_laysTrades 50 = .ok (.iload 8, 2) := dk_21 8 (dk_at dksX1_laysTrades_2 2 rfl rfl)
theorem dX1_laysTrades_52 : decode cX1_laysTrades 52 = .ok (.bipush (-2), 2) := dk_16 254 (dk_at dksX1_laysTrades_2 4 rfl rfl)
theorem dX1_laysTrades_54 : decode cX1_laysTrades 54 = .ok (.if_icmp .eq 35, 3) := dk_159 0 35 (dk_at dksX1_laysTrades_2 6 rfl rfl)
theorem dX1_laysTrades_57 : decode cX1_laysTrades 57 = .ok (.iload 8, 2) := dk_21 8 (dk_at dksX1_laysTrades_2 9 rfl rfl)
theorem dX1_laysTrades_59 : decode cX1_laysTrades 59 = .ok (.iload 6, 2) := dk_21 6 (dk_at dksX1_laysTrades_2 11 rfl rfl)
theorem dX1_laysTrades_61 : decode cX1_laysTrades 61 = .ok (.if_icmp .ge 28, 3) := dk_162 0 28 (dk_at dksX1_laysTrades_2 13 rfl rfl)
theorem dX1_laysTrades_64 : decode cX1_laysTrades 64 = .ok (.iload 8, 2) := dk_21 8 (dk_at dksX1_laysTrades_2 16 rfl rfl)
theorem dX1_laysTrades_66 : decode cX1_laysTrades 66 = .ok (.istore 6, 2) := dk_54 6 (dk_at dksX1_laysTrades_2 18 rfl rfl)
theorem dX1_laysTrades_68 : decode cX1_laysTrades 68 = .ok (.aload_n 0, 1) := dk_42 (dk_at dksX1_laysTrades_2 20 rfl rfl)
theorem dX1_laysTrades_69 : decode cX1_laysTrades 69 = .ok (.getfield 50, 3) := dk_180 0 50 (dk_at dksX1_laysTrades_2 21 rfl rfl)
theorem dX1_laysTrades_72 : decode cX1_laysTrades 72 = .ok (.iload 5, 2) := dk_21 5 (dk_at dksX1_laysTrades_3 0 rfl rfl)
theorem dX1_laysTrades_74 : decode cX1_laysTrades 74 = .ok (.iload 8, 2) := dk_21 8 (dk_at dksX1_laysTrades_3 2 rfl rfl)
theorem dX1_laysTrades_76 : decode cX1_laysTrades 76 = .ok (.iastore, 1) := dk_79 (dk_at dksX1_laysTrades_3 4 rfl rfl)
theorem dX1_laysTrades_77 : decode cX1_laysTrades 77 = .ok (.aload_n 0, 1) := dk_42 (dk_at dksX1_laysTrades_3 5 rfl rfl)
theorem dX1_laysTrades_78 : decode cX1_laysTrades 78 = .ok (.getfield 54, 3) := dk_180 0 54 (dk_at dksX1_laysTrades_3 6 rfl rfl)
theorem dX1_laysTrades_81 : decode cX1_laysTrades 81 = .ok (.iload 5, 2) := dk_21 5 (dk_at dksX1_laysTrades_3 9 rfl rfl)
theorem dX1_laysTrades_83 : decode cX1_laysTrades 83 = .ok (.iload 7, 2) := dk_21 7 (dk_at dksX1_laysTrades_3 11 rfl rfl)
theorem dX1_laysTrades_85 : decode cX1_laysTrades 85 = .ok (.iastore, 1) := dk_79 (dk_at dksX1_laysTrades_3 13 rfl rfl)
theorem dX1_laysTrades_86 : decode cX1_laysTrades 86 = .ok (.iinc 5 1, 3) := dk_132 5 1 (dk_at dksX1_laysTrades_3 14 rfl rfl)
theorem dX1_laysTrades_89 : decode cX1_laysTrades 89 = .ok (.iinc 7 1, 3) := dk_132 7 1 (dk_at dksX1_laysTrades_3 17 rfl rfl)
theorem dX1_laysTrades_92 : decode cX1_laysTrades 92 = .ok (.goto (-70), 3) := dk_167 255 186 (dk_at dksX1_laysTrades_3 20 rfl rfl)
theorem dX1_laysTrades_95 : decode cX1_laysTrades 95 = .ok (.iload 5, 2) := dk_21 5 (dk_at dksX1_laysTrades_4 0 rfl rfl)
theorem dX1_laysTrades_97 : decode cX1_laysTrades 97 = .ok (.ireturn, 1) := dk_172 (dk_at dksX1_laysTrades_4 2 rfl rfl)
abbrev cX1_trade : ByteArray := prog_1_method_27_code
def yX1_trade : MethodName := ⟨RX1, "trade", "(IIIII)I"⟩
def dkwX1_trade_6 : List UInt8 := [172]
abbrev dktX1_trade_6 : List UInt8 := dkwX1_trade_6 ++ []
def dkwX1_trade_5 : List UInt8 := [180, 0, 234, 42, 180, 0, 46, 27, 28, 29, 42, 180, 0, 50, 21, 4, 46, 182, 1, 0, 46, 182, 0, 143]
abbrev dktX1_trade_5 : List UInt8 := dkwX1_trade_5 ++ dktX1_trade_6
def dkwX1_trade_4 : List UInt8 := [180, 0, 54, 21, 4, 46, 182, 0, 143, 172, 42, 27, 28, 160, 0, 7, 29, 167, 0, 28, 42, 180, 0, 46]
abbrev dktX1_trade_4 : List UInt8 := dkwX1_trade_4 ++ dktX1_trade_5
def dkwX1_trade_3 : List UInt8 := [21, 5, 5, 162, 0, 30, 42, 21, 5, 154, 0, 13, 42, 180, 0, 50, 21, 4, 46, 167, 0, 10, 42]
abbrev dktX1_trade_3 : List UInt8 := dkwX1_trade_3 ++ dktX1_trade_4
def dkwX1_trade_2 : List UInt8 := [100, 184, 0, 79, 153, 0, 13, 21, 5, 3, 5, 184, 0, 79, 154, 0, 9, 42, 4, 182, 0, 83, 172]
abbrev dktX1_trade_2 : List UInt8 := dkwX1_trade_2 ++ dktX1_trade_3
def dkwX1_trade_1 : List UInt8 := [29, 182, 0, 253, 54, 7, 21, 7, 154, 0, 10, 42, 16, 254, 182, 0, 143, 172, 21, 4, 3, 21, 7, 4]
abbrev dktX1_trade_1 : List UInt8 := dkwX1_trade_1 ++ dktX1_trade_2
def dkwX1_trade_0 : List UInt8 := [42, 27, 28, 29, 182, 0, 218, 54, 6, 21, 6, 158, 0, 10, 42, 21, 6, 182, 0, 83, 172, 42, 27, 28]
abbrev dktX1_trade_0 : List UInt8 := dkwX1_trade_0 ++ dktX1_trade_1
theorem dksX1_trade_0 : cX1_trade.data.toList.drop 0 = dktX1_trade_0 := by decide +kernel
theorem dksX1_trade_1 : cX1_trade.data.toList.drop 24 = dktX1_trade_1 := dk_seg dksX1_trade_0 24 rfl rfl
theorem dksX1_trade_2 : cX1_trade.data.toList.drop 48 = dktX1_trade_2 := dk_seg dksX1_trade_1 24 rfl rfl
theorem dksX1_trade_3 : cX1_trade.data.toList.drop 71 = dktX1_trade_3 := dk_seg dksX1_trade_2 23 rfl rfl
theorem dksX1_trade_4 : cX1_trade.data.toList.drop 94 = dktX1_trade_4 := dk_seg dksX1_trade_3 23 rfl rfl
theorem dksX1_trade_5 : cX1_trade.data.toList.drop 118 = dktX1_trade_5 := dk_seg dksX1_trade_4 24 rfl rfl
theorem dksX1_trade_6 : cX1_trade.data.toList.drop 142 = dktX1_trade_6 := dk_seg dksX1_trade_5 24 rfl rfl
theorem dX1_trade_0 : decode cX1_trade 0 = .ok (.aload_n 0, 1) := dk_42 (dk_at dksX1_trade_0 0 rfl rfl)
theorem dX1_trade_1 : decode cX1_trade 1 = .ok (.iload_n 1, 1) := dk_27 (dk_at dksX1_trade_0 1 rfl rfl)
theorem dX1_trade_2 : decode cX1_trade 2 = .ok (.iload_n 2, 1) := dk_28 (dk_at dksX1_trade_0 2 rfl rfl)
theorem dX1_trade_3 : decode cX1_trade 3 = .ok (.iload_n 3, 1) := dk_29 (dk_at dksX1_trade_0 3 rfl rfl)
theorem dX1_trade_4 : decode cX1_trade 4 = .ok (.invokevirtual 218, 3) := dk_182 0 218 (dk_at dksX1_trade_0 4 rfl rfl)
theorem dX1_trade_7 : decode cX1_trade 7 = .ok (.istore 6, 2) := dk_54 6 (dk_at dksX1_trade_0 7 rfl rfl)
theorem dX1_trade_9 : decode cX1_trade 9 = .ok (.iload 6, 2) := dk_21 6 (dk_at dksX1_trade_0 9 rfl rfl)
theorem dX1_trade_11 : decode cX1_trade 11 = .ok (.ifCond .le 10, 3) := dk_158 0 10 (dk_at dksX1_trade_0 11 rfl rfl)
theorem dX1_trade_14 : decode cX1_trade 14 = .ok (.aload_n 0, 1) := dk_42 (dk_at dksX1_trade_0 14 rfl rfl)
theorem dX1_trade_15 : decode cX1_trade 15 = .ok (.iload 6, 2) := dk_21 6 (dk_at dksX1_trade_0 15 rfl rfl)
theorem dX1_trade_17 : decode cX1_trade 17 = .ok (.invokevirtual 83, 3) := dk_182 0 83 (dk_at dksX1_trade_0 17 rfl rfl)
theorem dX1_trade_20 : decode cX1_trade 20 = .ok (.ireturn, 1) := dk_172 (dk_at dksX1_trade_0 20 rfl rfl)
theorem dX1_trade_21 : decode cX1_trade 21 = .ok (.aload_n 0, 1) := dk_42 (dk_at dksX1_trade_0 21 rfl rfl)
theorem dX1_trade_22 : decode cX1_trade 22 = .ok (.iload_n 1, 1) := dk_27 (dk_at dksX1_trade_0 22 rfl rfl)
theorem dX1_trade_23 : decode cX1_trade 23 = .ok (.iload_n 2, 1) := dk_28 (dk_at dksX1_trade_0 23 rfl rfl)
theorem dX1_trade_24 : decode cX1_trade 24 = .ok (.iload_n 3, 1) := dk_29 (dk_at dksX1_trade_1 0 rfl rfl)
theorem dX1_trade_25 : decode cX1_trade 25 = .ok (.invokevirtual 253, 3) := dk_182 0 253 (dk_at dksX1_trade_1 1 rfl rfl)
theorem dX1_trade_28 : decode cX1_trade 28 = .ok (.istore 7, 2) := dk_54 7 (dk_at dksX1_trade_1 4 rfl rfl)
theorem dX1_trade_30 : decode cX1_trade 30 = .ok (.iload 7, 2) := dk_21 7 (dk_at dksX1_trade_1 6 rfl rfl)
theorem dX1_trade_32 : decode cX1_trade 32 = .ok (.ifCond .ne 10, 3) := dk_154 0 10 (dk_at dksX1_trade_1 8 rfl rfl)
theorem dX1_trade_35 : decode cX1_trade 35 = .ok (.aload_n 0, 1) := dk_42 (dk_at dksX1_trade_1 11 rfl rfl)
theorem dX1_trade_36 : decode cX1_trade 36 = .ok (.bipush (-2), 2) := dk_16 254 (dk_at dksX1_trade_1 12 rfl rfl)
theorem dX1_trade_38 : decode cX1_trade 38 = .ok (.invokevirtual 143, 3) := dk_182 0 143 (dk_at dksX1_trade_1 14 rfl rfl)
theorem dX1_trade_41 : decode cX1_trade 41 = .ok (.ireturn, 1) := dk_172 (dk_at dksX1_trade_1 17 rfl rfl)
theorem dX1_trade_42 : decode cX1_trade 42 = .ok (.iload 4, 2) := dk_21 4 (dk_at dksX1_trade_1 18 rfl rfl)
theorem dX1_trade_44 : decode cX1_trade 44 = .ok (.iconst 0, 1) := dk_3 (dk_at dksX1_trade_1 20 rfl rfl)
theorem dX1_trade_45 : decode cX1_trade 45 = .ok (.iload 7, 2) := dk_21 7 (dk_at dksX1_trade_1 21 rfl rfl)
theorem dX1_trade_47 : decode cX1_trade 47 = .ok (.iconst 1, 1) := dk_4 (dk_at dksX1_trade_1 23 rfl rfl)
theorem dX1_trade_48 : decode cX1_trade 48 = .ok (.isub, 1) := dk_100 (dk_at dksX1_trade_2 0 rfl rfl)
theorem dX1_trade_49 : decode cX1_trade 49 = .ok (.invokestatic 79, 3) := dk_184 0 79 (dk_at dksX1_trade_2 1 rfl rfl)
theorem dX1_trade_52 : decode cX1_trade 52 = .ok (.ifCond .eq 13, 3) := dk_153 0 13 (dk_at dksX1_trade_2 4 rfl rfl)
theorem dX1_trade_55 : decode cX1_trade 55 = .ok (.iload 5, 2) := dk_21 5 (dk_at dksX1_trade_2 7 rfl rfl)
theorem dX1_trade_57 : decode cX1_trade 57 = .ok (.iconst 0, 1) := dk_3 (dk_at dksX1_trade_2 9 rfl rfl)
theorem dX1_trade_58 : decode cX1_trade 58 = .ok (.iconst 2, 1) := dk_5 (dk_at dksX1_trade_2 10 rfl rfl)
theorem dX1_trade_59 : decode cX1_trade 59 = .ok (.invokestatic 79, 3) := dk_184 0 79 (dk_at dksX1_trade_2 11 rfl rfl)
theorem dX1_trade_62 : decode cX1_trade 62 = .ok (.ifCond .ne 9, 3) := dk_154 0 9 (dk_at dksX1_trade_2 14 rfl rfl)
theorem dX1_trade_65 : decode cX1_trade 65 = .ok (.aload_n 0, 1) := dk_42 (dk_at dksX1_trade_2 17 rfl rfl)
theorem dX1_trade_66 : decode cX1_trade 66 = .ok (.iconst 1, 1) := dk_4 (dk_at dksX1_trade_2 18 rfl rfl)
theorem dX1_trade_67 : decode cX1_trade 67 = .ok (.invokevirtual 83, 3) := dk_182 0 83 (dk_at dksX1_trade_2 19 rfl rfl)
theorem dX1_trade_70 : decode cX1_trade 70 = .ok (.ireturn, 1) := dk_172 (dk_at dksX1_trade_2 22 rfl rfl)
theorem dX1_trade_71 : decode cX1_trade 71 = .ok (.iload 5, 2) := dk_21 5 (dk_at dksX1_trade_3 0 rfl rfl)
theorem dX1_trade_73 : decode cX1_trade 73 = .ok (.iconst 2, 1) := dk_5 (dk_at dksX1_trade_3 2 rfl rfl)
theorem dX1_trade_74 : decode cX1_trade 74 = .ok (.if_icmp .ge 30, 3) := dk_162 0 30 (dk_at dksX1_trade_3 3 rfl rfl)
theorem dX1_trade_77 : decode cX1_trade 77 = .ok (.aload_n 0, 1) := dk_42 (dk_at dksX1_trade_3 6 rfl rfl)
theorem dX1_trade_78 : decode cX1_trade 78 = .ok (.iload 5, 2) := dk_21 5 (dk_at dksX1_trade_3 7 rfl rfl)
theorem dX1_trade_80 : decode cX1_trade 80 = .ok (.ifCond .ne 13, 3) := dk_154 0 13 (dk_at dksX1_trade_3 9 rfl rfl)
theorem dX1_trade_83 : decode cX1_trade 83 = .ok (.aload_n 0, 1) := dk_42 (dk_at dksX1_trade_3 12 rfl rfl)
theorem dX1_trade_84 : decode cX1_trade 84 = .ok (.getfield 50, 3) := dk_180 0 50 (dk_at dksX1_trade_3 13 rfl rfl)
theorem dX1_trade_87 : decode cX1_trade 87 = .ok (.iload 4, 2) := dk_21 4 (dk_at dksX1_trade_3 16 rfl rfl)
theorem dX1_trade_89 : decode cX1_trade 89 = .ok (.iaload, 1) := dk_46 (dk_at dksX1_trade_3 18 rfl rfl)
theorem dX1_trade_90 : decode cX1_trade 90 = .ok (.goto 10, 3) := dk_167 0 10 (dk_at dksX1_trade_3 19 rfl rfl)
theorem dX1_trade_93 : decode cX1_trade 93 = .ok (.aload_n 0, 1) := dk_42 (dk_at dksX1_trade_3 22 rfl rfl)
theorem dX1_trade_94 : decode cX1_trade 94 = .ok (.getfield 54, 3) := dk_180 0 54 (dk_at dksX1_trade_4 0 rfl rfl)
theorem dX1_trade_97 : decode cX1_trade 97 = .ok (.iload 4, 2) := dk_21 4 (dk_at dksX1_trade_4 3 rfl rfl)
theorem dX1_trade_99 : decode cX1_trade 99 = .ok (.iaload, 1) := dk_46 (dk_at dksX1_trade_4 5 rfl rfl)
theorem dX1_trade_100 : decode cX1_trade 100 = .ok (.invokevirtual 143, 3) := dk_182 0 143 (dk_at dksX1_trade_4 6 rfl rfl)
theorem dX1_trade_103 : decode cX1_trade 103 = .ok (.ireturn, 1) := dk_172 (dk_at dksX1_trade_4 9 rfl rfl)
theorem dX1_trade_104 : decode cX1_trade 104 = .ok (.aload_n 0, 1) := dk_42 (dk_at dksX1_trade_4 10 rfl rfl)
theorem dX1_trade_105 : decode cX1_trade 105 = .ok (.iload_n 1, 1) := dk_27 (dk_at dksX1_trade_4 11 rfl rfl)
theorem dX1_trade_106 : decode cX1_trade 106 = .ok (.iload_n 2, 1) := dk_28 (dk_at dksX1_trade_4 12 rfl rfl)
theorem dX1_trade_107 : decode cX1_trade 107 = .ok (.if_icmp .ne 7, 3) := dk_160 0 7 (dk_at dksX1_trade_4 13 rfl rfl)
theorem dX1_trade_110 : decode cX1_trade 110 = .ok (.iload_n 3, 1) := dk_29 (dk_at dksX1_trade_4 16 rfl rfl)
theorem dX1_trade_111 : decode cX1_trade 111 = .ok (.goto 28, 3) := dk_167 0 28 (dk_at dksX1_trade_4 17 rfl rfl)
theorem dX1_trade_114 : decode cX1_trade 114 = .ok (.aload_n 0, 1) := dk_42 (dk_at dksX1_trade_4 20 rfl rfl)
theorem dX1_trade_115 : decode cX1_trade 115 = .ok (.getfield 46, 3) := dk_180 0 46 (dk_at dksX1_trade_4 21 rfl rfl)
theorem dX1_trade_118 : decode cX1_trade 118 = .ok (.getfield 234, 3) := dk_180 0 234 (dk_at dksX1_trade_5 0 rfl rfl)
theorem dX1_trade_121 : decode cX1_trade 121 = .ok (.aload_n 0, 1) := dk_42 (dk_at dksX1_trade_5 3 rfl rfl)
theorem dX1_trade_122 : decode cX1_trade 122 = .ok (.getfield 46, 3) := dk_180 0 46 (dk_at dksX1_trade_5 4 rfl rfl)
theorem dX1_trade_125 : decode cX1_trade 125 = .ok (.iload_n 1, 1) := dk_27 (dk_at dksX1_trade_5 7 rfl rfl)
theorem dX1_trade_126 : decode cX1_trade 126 = .ok (.iload_n 2, 1) := dk_28 (dk_at dksX1_trade_5 8 rfl rfl)
theorem dX1_trade_127 : decode cX1_trade 127 = .ok (.iload_n 3, 1) := dk_29 (dk_at dksX1_trade_5 9 rfl rfl)
theorem dX1_trade_128 : decode cX1_trade 128 = .ok (.aload_n 0, 1) := dk_42 (dk_at dksX1_trade_5 10 rfl rfl)
theorem dX1_trade_129 : decode cX1_trade 129 = .ok (.getfield 50, 3) := dk_180 0 50 (dk_at dksX1_trade_5 11 rfl rfl)
theorem dX1_trade_132 : decode cX1_trade 132 = .ok (.iload 4, 2) := dk_21 4 (dk_at dksX1_trade_5 14 rfl rfl)
theorem dX1_trade_134 : decode cX1_trade 134 = .ok (.iaload, 1) := dk_46 (dk_at dksX1_trade_5 16 rfl rfl)
theorem dX1_trade_135 : decode cX1_trade 135 = .ok (.invokevirtual 256, 3) := dk_182 1 0 (dk_at dksX1_trade_5 17 rfl rfl)
theorem dX1_trade_138 : decode cX1_trade 138 = .ok (.iaload, 1) := dk_46 (dk_at dksX1_trade_5 20 rfl rfl)
theorem dX1_trade_139 : decode cX1_trade 139 = .ok (.invokevirtual 143, 3) := dk_182 0 143 (dk_at dksX1_trade_5 21 rfl rfl)
theorem dX1_trade_142 : decode cX1_trade 142 = .ok (.ireturn, 1) := dk_172 (dk_at dksX1_trade_6 0 rfl rfl)
abbrev cX1_within : ByteArray := prog_1_method_28_code
def yX1_within : MethodName := ⟨RX1, "within", "(IIII)I"⟩
def dkwX1_within_2 : List UInt8 := [182, 0, 222, 27, 28, 29, 21, 4, 182, 0, 249, 182, 0, 143, 172]
abbrev dktX1_within_2 : List UInt8 := dkwX1_within_2 ++ []
def dkwX1_within_1 : List UInt8 := [154, 0, 6, 5, 54, 5, 21, 5, 158, 0, 12, 42, 21, 5, 182, 0, 83, 167, 0, 19, 42, 42]
abbrev dktX1_within_1 : List UInt8 := dkwX1_within_1 ++ dktX1_within_2
def dkwX1_within_0 : List UInt8 := [42, 27, 28, 29, 182, 0, 218, 54, 5, 21, 5, 154, 0, 17, 21, 4, 3, 16, 20, 184, 0, 79]
abbrev dktX1_within_0 : List UInt8 := dkwX1_within_0 ++ dktX1_within_1
theorem dksX1_within_0 : cX1_within.data.toList.drop 0 = dktX1_within_0 := by decide +kernel
theorem dksX1_within_1 : cX1_within.data.toList.drop 22 = dktX1_within_1 := dk_seg dksX1_within_0 22 rfl rfl
theorem dksX1_within_2 : cX1_within.data.toList.drop 44 = dktX1_within_2 := dk_seg dksX1_within_1 22 rfl rfl
theorem dX1_within_0 : decode cX1_within 0 = .ok (.aload_n 0, 1) := dk_42 (dk_at dksX1_within_0 0 rfl rfl)
theorem dX1_within_1 : decode cX1_within 1 = .ok (.iload_n 1, 1) := dk_27 (dk_at dksX1_within_0 1 rfl rfl)
theorem dX1_within_2 : decode cX1_within 2 = .ok (.iload_n 2, 1) := dk_28 (dk_at dksX1_within_0 2 rfl rfl)
theorem dX1_within_3 : decode cX1_within 3 = .ok (.iload_n 3, 1) := dk_29 (dk_at dksX1_within_0 3 rfl rfl)
theorem dX1_within_4 : decode cX1_within 4 = .ok (.invokevirtual 218, 3) := dk_182 0 218 (dk_at dksX1_within_0 4 rfl rfl)
theorem dX1_within_7 : decode cX1_within 7 = .ok (.istore 5, 2) := dk_54 5 (dk_at dksX1_within_0 7 rfl rfl)
theorem dX1_within_9 : decode cX1_within 9 = .ok (.iload 5, 2) := dk_21 5 (dk_at dksX1_within_0 9 rfl rfl)
theorem dX1_within_11 : decode cX1_within 11 = .ok (.ifCond .ne 17, 3) := dk_154 0 17 (dk_at dksX1_within_0 11 rfl rfl)
theorem dX1_within_14 : decode cX1_within 14 = .ok (.iload 4, 2) := dk_21 4 (dk_at dksX1_within_0 14 rfl rfl)
theorem dX1_within_16 : decode cX1_within 16 = .ok (.iconst 0, 1) := dk_3 (dk_at dksX1_within_0 16 rfl rfl)
theorem dX1_within_17 : decode cX1_within 17 = .ok (.bipush 20, 2) := dk_16 20 (dk_at dksX1_within_0 17 rfl rfl)
theorem dX1_within_19 : decode cX1_within 19 = .ok (.invokestatic 79, 3) := dk_184 0 79 (dk_at dksX1_within_0 19 rfl rfl)
theorem dX1_within_22 : decode cX1_within 22 = .ok (.ifCond .ne 6, 3) := dk_154 0 6 (dk_at dksX1_within_1 0 rfl rfl)
theorem dX1_within_25 : decode cX1_within 25 = .ok (.iconst 2, 1) := dk_5 (dk_at dksX1_within_1 3 rfl rfl)
theorem dX1_within_26 : decode cX1_within 26 = .ok (.istore 5, 2) := dk_54 5 (dk_at dksX1_within_1 4 rfl rfl)
theorem dX1_within_28 : decode cX1_within 28 = .ok (.iload 5, 2) := dk_21 5 (dk_at dksX1_within_1 6 rfl rfl)
theorem dX1_within_30 : decode cX1_within 30 = .ok (.ifCond .le 12, 3) := dk_158 0 12 (dk_at dksX1_within_1 8 rfl rfl)
theorem dX1_within_33 : decode cX1_within 33 = .ok (.aload_n 0, 1) := dk_42 (dk_at dksX1_within_1 11 rfl rfl)
theorem dX1_within_34 : decode cX1_within 34 = .ok (.iload 5, 2) := dk_21 5 (dk_at dksX1_within_1 12 rfl rfl)
theorem dX1_within_36 : decode cX1_within 36 = .ok (.invokevirtual 83, 3) := dk_182 0 83 (dk_at dksX1_within_1 14 rfl rfl)
theorem dX1_within_39 : decode cX1_within 39 = .ok (.goto 19, 3) := dk_167 0 19 (dk_at dksX1_within_1 17 rfl rfl)
theorem dX1_within_42 : decode cX1_within 42 = .ok (.aload_n 0, 1) := dk_42 (dk_at dksX1_within_1 20 rfl rfl)
theorem dX1_within_43 : decode cX1_within 43 = .ok (.aload_n 0, 1) := dk_42 (dk_at dksX1_within_1 21 rfl rfl)
theorem dX1_within_44 : decode cX1_within 44 = .ok (.invokevirtual 222, 3) := dk_182 0 222 (dk_at dksX1_within_2 0 rfl rfl)
theorem dX1_within_47 : decode cX1_within 47 = .ok (.iload_n 1, 1) := dk_27 (dk_at dksX1_within_2 3 rfl rfl)
theorem dX1_within_48 : decode cX1_within 48 = .ok (.iload_n 2, 1) := dk_28 (dk_at dksX1_within_2 4 rfl rfl)
theorem dX1_within_49 : decode cX1_within 49 = .ok (.iload_n 3, 1) := dk_29 (dk_at dksX1_within_2 5 rfl rfl)
theorem dX1_within_50 : decode cX1_within 50 = .ok (.iload 4, 2) := dk_21 4 (dk_at dksX1_within_2 6 rfl rfl)
theorem dX1_within_52 : decode cX1_within 52 = .ok (.invokevirtual 249, 3) := dk_182 0 249 (dk_at dksX1_within_2 8 rfl rfl)
theorem dX1_within_55 : decode cX1_within 55 = .ok (.invokevirtual 143, 3) := dk_182 0 143 (dk_at dksX1_within_2 11 rfl rfl)
theorem dX1_within_58 : decode cX1_within 58 = .ok (.ireturn, 1) := dk_172 (dk_at dksX1_within_2 14 rfl rfl)
abbrev cX1_latest : ByteArray := prog_1_method_29_code
def yX1_latest : MethodName := ⟨RX1, "latest", "(III)I"⟩
def dkwX1_latest_1 : List UInt8 := [160, 0, 7, 29, 167, 0, 13, 42, 182, 0, 222, 27, 28, 29, 182, 1, 3, 182, 0, 143, 172]
abbrev dktX1_latest_1 : List UInt8 := dkwX1_latest_1 ++ []
def dkwX1_latest_0 : List UInt8 := [42, 27, 28, 29, 182, 0, 218, 54, 4, 21, 4, 158, 0, 10, 42, 21, 4, 182, 0, 83, 172, 42, 27, 28]
abbrev dktX1_latest_0 : List UInt8 := dkwX1_latest_0 ++ dktX1_latest_1
theorem dksX1_latest_0 : cX1_latest.data.toList.drop 0 = dktX1_latest_0 := by decide +kernel
theorem dksX1_latest_1 : cX1_latest.data.toList.drop 24 = dktX1_latest_1 := dk_seg dksX1_latest_0 24 rfl rfl
theorem dX1_latest_0 : decode cX1_latest 0 = .ok (.aload_n 0, 1) := dk_42 (dk_at dksX1_latest_0 0 rfl rfl)
theorem dX1_latest_1 : decode cX1_latest 1 = .ok (.iload_n 1, 1) := dk_27 (dk_at dksX1_latest_0 1 rfl rfl)
theorem dX1_latest_2 : decode cX1_latest 2 = .ok (.iload_n 2, 1) := dk_28 (dk_at dksX1_latest_0 2 rfl rfl)
theorem dX1_latest_3 : decode cX1_latest 3 = .ok (.iload_n 3, 1) := dk_29 (dk_at dksX1_latest_0 3 rfl rfl)
theorem dX1_latest_4 : decode cX1_latest 4 = .ok (.invokevirtual 218, 3) := dk_182 0 218 (dk_at dksX1_latest_0 4 rfl rfl)
theorem dX1_latest_7 : decode cX1_latest 7 = .ok (.istore 4, 2) := dk_54 4 (dk_at dksX1_latest_0 7 rfl rfl)
theorem dX1_latest_9 : decode cX1_latest 9 = .ok (.iload 4, 2) := dk_21 4 (dk_at dksX1_latest_0 9 rfl rfl)
theorem dX1_latest_11 : decode cX1_latest 11 = .ok (.ifCond .le 10, 3) := dk_158 0 10 (dk_at dksX1_latest_0 11 rfl rfl)
theorem dX1_latest_14 : decode cX1_latest 14 = .ok (.aload_n 0, 1) := dk_42 (dk_at dksX1_latest_0 14 rfl rfl)
theorem dX1_latest_15 : decode cX1_latest 15 = .ok (.iload 4, 2) := dk_21 4 (dk_at dksX1_latest_0 15 rfl rfl)
theorem dX1_latest_17 : decode cX1_latest 17 = .ok (.invokevirtual 83, 3) := dk_182 0 83 (dk_at dksX1_latest_0 17 rfl rfl)
theorem dX1_latest_20 : decode cX1_latest 20 = .ok (.ireturn, 1) := dk_172 (dk_at dksX1_latest_0 20 rfl rfl)
theorem dX1_latest_21 : decode cX1_latest 21 = .ok (.aload_n 0, 1) := dk_42 (dk_at dksX1_latest_0 21 rfl rfl)
theorem dX1_latest_22 : decode cX1_latest 22 = .ok (.iload_n 1, 1) := dk_27 (dk_at dksX1_latest_0 22 rfl rfl)
theorem dX1_latest_23 : decode cX1_latest 23 = .ok (.iload_n 2, 1) := dk_28 (dk_at dksX1_latest_0 23 rfl rfl)
theorem dX1_latest_24 : decode cX1_latest 24 = .ok (.if_icmp .ne 7, 3) := dk_160 0 7 (dk_at dksX1_latest_1 0 rfl rfl)
theorem dX1_latest_27 : decode cX1_latest 27 = .ok (.iload_n 3, 1) := dk_29 (dk_at dksX1_latest_1 3 rfl rfl)
theorem dX1_latest_28 : decode cX1_latest 28 = .ok (.goto 13, 3) := dk_167 0 13 (dk_at dksX1_latest_1 4 rfl rfl)
theorem dX1_latest_31 : decode cX1_latest 31 = .ok (.aload_n 0, 1) := dk_42 (dk_at dksX1_latest_1 7 rfl rfl)
theorem dX1_latest_32 : decode cX1_latest 32 = .ok (.invokevirtual 222, 3) := dk_182 0 222 (dk_at dksX1_latest_1 8 rfl rfl)
theorem dX1_latest_35 : decode cX1_latest 35 = .ok (.iload_n 1, 1) := dk_27 (dk_at dksX1_latest_1 11 rfl rfl)
theorem dX1_latest_36 : decode cX1_latest 36 = .ok (.iload_n 2, 1) := dk_28 (dk_at dksX1_latest_1 12 rfl rfl)
theorem dX1_latest_37 : decode cX1_latest 37 = .ok (.iload_n 3, 1) := dk_29 (dk_at dksX1_latest_1 13 rfl rfl)
theorem dX1_latest_38 : decode cX1_latest 38 = .ok (.invokevirtual 259, 3) := dk_182 1 3 (dk_at dksX1_latest_1 14 rfl rfl)
theorem dX1_latest_41 : decode cX1_latest 41 = .ok (.invokevirtual 143, 3) := dk_182 0 143 (dk_at dksX1_latest_1 17 rfl rfl)
theorem dX1_latest_44 : decode cX1_latest 44 = .ok (.ireturn, 1) := dk_172 (dk_at dksX1_latest_1 20 rfl rfl)
abbrev cX1_reach : ByteArray := prog_1_method_30_code
def yX1_reach : MethodName := ⟨RX1, "reach", "(III)I"⟩
def dkwX1_reach_5 : List UInt8 := [172]
abbrev dktX1_reach_5 : List UInt8 := dkwX1_reach_5 ++ []
def dkwX1_reach_4 : List UInt8 := [163, 0, 12, 21, 5, 4, 21, 6, 120, 128, 54, 5, 132, 6, 1, 167, 255, 203, 42, 21, 5, 182, 0, 143]
abbrev dktX1_reach_4 : List UInt8 := dkwX1_reach_4 ++ dktX1_reach_5
def dkwX1_reach_3 : List UInt8 := [180, 0, 46, 27, 21, 6, 28, 182, 0, 226, 54, 7, 21, 7, 16, 254, 159, 0, 18, 21, 7, 29]
abbrev dktX1_reach_3 : List UInt8 := dkwX1_reach_3 ++ dktX1_reach_4
def dkwX1_reach_2 : List UInt8 := [182, 0, 222, 87, 3, 54, 6, 21, 6, 42, 180, 0, 99, 180, 0, 149, 182, 0, 127, 162, 0, 44, 42]
abbrev dktX1_reach_2 : List UInt8 := dkwX1_reach_2 ++ dktX1_reach_3
def dkwX1_reach_1 : List UInt8 := [154, 0, 6, 5, 54, 4, 21, 4, 158, 0, 10, 42, 21, 4, 182, 0, 83, 172, 3, 54, 5, 42]
abbrev dktX1_reach_1 : List UInt8 := dkwX1_reach_1 ++ dktX1_reach_2
def dkwX1_reach_0 : List UInt8 := [42, 27, 27, 28, 182, 0, 218, 54, 4, 21, 4, 154, 0, 17, 29, 3, 17, 7, 207, 184, 0, 79]
abbrev dktX1_reach_0 : List UInt8 := dkwX1_reach_0 ++ dktX1_reach_1
theorem dksX1_reach_0 : cX1_reach.data.toList.drop 0 = dktX1_reach_0 := by decide +kernel
theorem dksX1_reach_1 : cX1_reach.data.toList.drop 22 = dktX1_reach_1 := dk_seg dksX1_reach_0 22 rfl rfl
theorem dksX1_reach_2 : cX1_reach.data.toList.drop 44 = dktX1_reach_2 := dk_seg dksX1_reach_1 22 rfl rfl
theorem dksX1_reach_3 : cX1_reach.data.toList.drop 67 = dktX1_reach_3 := dk_seg dksX1_reach_2 23 rfl rfl
theorem dksX1_reach_4 : cX1_reach.data.toList.drop 89 = dktX1_reach_4 := dk_seg dksX1_reach_3 22 rfl rfl
theorem dksX1_reach_5 : cX1_reach.data.toList.drop 113 = dktX1_reach_5 := dk_seg dksX1_reach_4 24 rfl rfl
theorem dX1_reach_0 : decode cX1_reach 0 = .ok (.aload_n 0, 1) := dk_42 (dk_at dksX1_reach_0 0 rfl rfl)
theorem dX1_reach_1 : decode cX1_reach 1 = .ok (.iload_n 1, 1) := dk_27 (dk_at dksX1_reach_0 1 rfl rfl)
theorem dX1_reach_2 : decode cX1_reach 2 = .ok (.iload_n 1, 1) := dk_27 (dk_at dksX1_reach_0 2 rfl rfl)
theorem dX1_reach_3 : decode cX1_reach 3 = .ok (.iload_n 2, 1) := dk_28 (dk_at dksX1_reach_0 3 rfl rfl)
theorem dX1_reach_4 : decode cX1_reach 4 = .ok (.invokevirtual 218, 3) := dk_182 0 218 (dk_at dksX1_reach_0 4 rfl rfl)
theorem dX1_reach_7 : decode cX1_reach 7 = .ok (.istore 4, 2) := dk_54 4 (dk_at dksX1_reach_0 7 rfl rfl)
theorem dX1_reach_9 : decode cX1_reach 9 = .ok (.iload 4, 2) := dk_21 4 (dk_at dksX1_reach_0 9 rfl rfl)
theorem dX1_reach_11 : decode cX1_reach 11 = .ok (.ifCond .ne 17, 3) := dk_154 0 17 (dk_at dksX1_reach_0 11 rfl rfl)
theorem dX1_reach_14 : decode cX1_reach 14 = .ok (.iload_n 3, 1) := dk_29 (dk_at dksX1_reach_0 14 rfl rfl)
theorem dX1_reach_15 : decode cX1_reach 15 = .ok (.iconst 0, 1) := dk_3 (dk_at dksX1_reach_0 15 rfl rfl)
theorem dX1_reach_16 : decode cX1_reach 16 = .ok (.sipush 1999, 3) := dk_17 7 207 (dk_at dksX1_reach_0 16 rfl rfl)
theorem dX1_reach_19 : decode cX1_reach 19 = .ok (.invokestatic 79, 3) := dk_184 0 79 (dk_at dksX1_reach_0 19 rfl rfl)
theorem dX1_reach_22 : decode cX1_reach 22 = .ok (.ifCond .ne 6, 3) := dk_154 0 6 (dk_at dksX1_reach_1 0 rfl rfl)
theorem dX1_reach_25 : decode cX1_reach 25 = .ok (.iconst 2, 1) := dk_5 (dk_at dksX1_reach_1 3 rfl rfl)
theorem dX1_reach_26 : decode cX1_reach 26 = .ok (.istore 4, 2) := dk_54 4 (dk_at dksX1_reach_1 4 rfl rfl)
theorem dX1_reach_28 : decode cX1_reach 28 = .ok (.iload 4, 2) := dk_21 4 (dk_at dksX1_reach_1 6 rfl rfl)
theorem dX1_reach_30 : decode cX1_reach 30 = .ok (.ifCond .le 10, 3) := dk_158 0 10 (dk_at dksX1_reach_1 8 rfl rfl)
theorem dX1_reach_33 : decode cX1_reach 33 = .ok (.aload_n 0, 1) := dk_42 (dk_at dksX1_reach_1 11 rfl rfl)
theorem dX1_reach_34 : decode cX1_reach 34 = .ok (.iload 4, 2) := dk_21 4 (dk_at dksX1_reach_1 12 rfl rfl)
theorem dX1_reach_36 : decode cX1_reach 36 = .ok (.invokevirtual 83, 3) := dk_182 0 83 (dk_at dksX1_reach_1 14 rfl rfl)
theorem dX1_reach_39 : decode cX1_reach 39 = .ok (.ireturn, 1) := dk_172 (dk_at dksX1_reach_1 17 rfl rfl)
theorem dX1_reach_40 : decode cX1_reach 40 = .ok (.iconst 0, 1) := dk_3 (dk_at dksX1_reach_1 18 rfl rfl)
theorem dX1_reach_41 : decode cX1_reach 41 = .ok (.istore 5, 2) := dk_54 5 (dk_at dksX1_reach_1 19 rfl rfl)
theorem dX1_reach_43 : decode cX1_reach 43 = .ok (.aload_n 0, 1) := dk_42 (dk_at dksX1_reach_1 21 rfl rfl)
theorem dX1_reach_44 : decode cX1_reach 44 = .ok (.invokevirtual 222, 3) := dk_182 0 222 (dk_at dksX1_reach_2 0 rfl rfl)
theorem dX1_reach_47 : decode cX1_reach 47 = .ok (.pop, 1) := dk_87 (dk_at dksX1_reach_2 3 rfl rfl)
theorem dX1_reach_48 : decode cX1_reach 48 = .ok (.iconst 0, 1) := dk_3 (dk_at dksX1_reach_2 4 rfl rfl)
theorem dX1_reach_49 : decode cX1_reach 49 = .ok (.istore 6, 2) := dk_54 6 (dk_at dksX1_reach_2 5 rfl rfl)
theorem dX1_reach_51 : decode cX1_reach 51 = .ok (.iload 6, 2) := dk_21 6 (dk_at dksX1_reach_2 7 rfl rfl)
theorem dX1_reach_53 : decode cX1_reach 53 = .ok (.aload_n 0, 1) := dk_42 (dk_at dksX1_reach_2 9 rfl rfl)
theorem dX1_reach_54 : decode cX1_reach 54 = .ok (.getfield 99, 3) := dk_180 0 99 (dk_at dksX1_reach_2 10 rfl rfl)
theorem dX1_reach_57 : decode cX1_reach 57 = .ok (.getfield 149, 3) := dk_180 0 149 (dk_at dksX1_reach_2 13 rfl rfl)
theorem dX1_reach_60 : decode cX1_reach 60 = .ok (.invokevirtual 127, 3) := dk_182 0 127 (dk_at dksX1_reach_2 16 rfl rfl)
theorem dX1_reach_63 : decode cX1_reach 63 = .ok (.if_icmp .ge 44, 3) := dk_162 0 44 (dk_at dksX1_reach_2 19 rfl rfl)
theorem dX1_reach_66 : decode cX1_reach 66 = .ok (.aload_n 0, 1) := dk_42 (dk_at dksX1_reach_2 22 rfl rfl)
theorem dX1_reach_67 : decode cX1_reach 67 = .ok (.getfield 46, 3) := dk_180 0 46 (dk_at dksX1_reach_3 0 rfl rfl)
theorem dX1_reach_70 : decode cX1_reach 70 = .ok (.iload_n 1, 1) := dk_27 (dk_at dksX1_reach_3 3 rfl rfl)
theorem dX1_reach_71 : decode cX1_reach 71 = .ok (.iload 6, 2) := dk_21 6 (dk_at dksX1_reach_3 4 rfl rfl)
theorem dX1_reach_73 : decode cX1_reach 73 = .ok (.iload_n 2, 1) := dk_28 (dk_at dksX1_reach_3 6 rfl rfl)
theorem dX1_reach_74 : decode cX1_reach 74 = .ok (.invokevirtual 226, 3) := dk_182 0 226 (dk_at dksX1_reach_3 7 rfl rfl)
theorem dX1_reach_77 : decode cX1_reach 77 = .ok (.istore 7, 2) := dk_54 7 (dk_at dksX1_reach_3 10 rfl rfl)
theorem dX1_reach_79 : decode cX1_reach 79 = .ok (.iload 7, 2) := dk_21 7 (dk_at dksX1_reach_3 12 rfl rfl)
theorem dX1_reach_81 : decode cX1_reach 81 = .ok (.bipush (-2), 2) := dk_16 254 (dk_at dksX1_reach_3 14 rfl rfl)
theorem dX1_reach_83 : decode cX1_reach 83 = .ok (.if_icmp .eq 18, 3) := dk_159 0 18 (dk_at dksX1_reach_3 16 rfl rfl)
theorem dX1_reach_86 : decode cX1_reach 86 = .ok (.iload 7, 2) := dk_21 7 (dk_at dksX1_reach_3 19 rfl rfl)
theorem dX1_reach_88 : decode cX1_reach 88 = .ok (.iload_n 3, 1) := dk_29 (dk_at dksX1_reach_3 21 rfl rfl)
theorem dX1_reach_89 : decode cX1_reach 89 = .ok (.if_icmp .gt 12, 3) := dk_163 0 12 (dk_at dksX1_reach_4 0 rfl rfl)
theorem dX1_reach_92 : decode cX1_reach 92 = .ok (.iload 5, 2) := dk_21 5 (dk_at dksX1_reach_4 3 rfl rfl)
theorem dX1_reach_94 : decode cX1_reach 94 = .ok (.iconst 1, 1) := dk_4 (dk_at dksX1_reach_4 5 rfl rfl)
theorem dX1_reach_95 : decode cX1_reach 95 = .ok (.iload 6, 2) := dk_21 6 (dk_at dksX1_reach_4 6 rfl rfl)
theorem dX1_reach_97 : decode cX1_reach 97 = .ok (.ishl, 1) := dk_120 (dk_at dksX1_reach_4 8 rfl rfl)
theorem dX1_reach_98 : decode cX1_reach 98 = .ok (.ior, 1) := dk_128 (dk_at dksX1_reach_4 9 rfl rfl)
theorem dX1_reach_99 : decode cX1_reach 99 = .ok (.istore 5, 2) := dk_54 5 (dk_at dksX1_reach_4 10 rfl rfl)
theorem dX1_reach_101 : decode cX1_reach 101 = .ok (.iinc 6 1, 3) := dk_132 6 1 (dk_at dksX1_reach_4 12 rfl rfl)
theorem dX1_reach_104 : decode cX1_reach 104 = .ok (.goto (-53), 3) := dk_167 255 203 (dk_at dksX1_reach_4 15 rfl rfl)
theorem dX1_reach_107 : decode cX1_reach 107 = .ok (.aload_n 0, 1) := dk_42 (dk_at dksX1_reach_4 18 rfl rfl)
theorem dX1_reach_108 : decode cX1_reach 108 = .ok (.iload 5, 2) := dk_21 5 (dk_at dksX1_reach_4 19 rfl rfl)
theorem dX1_reach_110 : decode cX1_reach 110 = .ok (.invokevirtual 143, 3) := dk_182 0 143 (dk_at dksX1_reach_4 21 rfl rfl)
theorem dX1_reach_113 : decode cX1_reach 113 = .ok (.ireturn, 1) := dk_172 (dk_at dksX1_reach_5 0 rfl rfl)
abbrev cX1_farthest : ByteArray := prog_1_method_31_code
def yX1_farthest : MethodName := ⟨RX1, "farthest", "(II)I"⟩
def dkwX1_farthest_3 : List UInt8 := [54, 5, 21, 6, 54, 4, 132, 6, 1, 167, 255, 207, 42, 21, 4, 182, 0, 143, 172]
abbrev dktX1_farthest_3 : List UInt8 := dkwX1_farthest_3 ++ []
def dkwX1_farthest_2 : List UInt8 := [180, 0, 46, 27, 21, 6, 28, 182, 0, 226, 54, 7, 21, 7, 21, 5, 163, 0, 6, 167, 0, 11, 21, 7]
abbrev dktX1_farthest_2 : List UInt8 := dkwX1_farthest_2 ++ dktX1_farthest_3
def dkwX1_farthest_1 : List UInt8 := [42, 182, 0, 222, 87, 3, 54, 6, 21, 6, 42, 180, 0, 99, 180, 0, 149, 182, 0, 127, 162, 0, 40, 42]
abbrev dktX1_farthest_1 : List UInt8 := dkwX1_farthest_1 ++ dktX1_farthest_2
def dkwX1_farthest_0 : List UInt8 := [42, 27, 27, 28, 182, 0, 218, 62, 29, 158, 0, 9, 42, 29, 182, 0, 83, 172, 2, 54, 4, 2, 54, 5]
abbrev dktX1_farthest_0 : List UInt8 := dkwX1_farthest_0 ++ dktX1_farthest_1
theorem dksX1_farthest_0 : cX1_farthest.data.toList.drop 0 = dktX1_farthest_0 := by decide +kernel
theorem dksX1_farthest_1 : cX1_farthest.data.toList.drop 24 = dktX1_farthest_1 := dk_seg dksX1_farthest_0 24 rfl rfl
theorem dksX1_farthest_2 : cX1_farthest.data.toList.drop 48 = dktX1_farthest_2 := dk_seg dksX1_farthest_1 24 rfl rfl
theorem dksX1_farthest_3 : cX1_farthest.data.toList.drop 72 = dktX1_farthest_3 := dk_seg dksX1_farthest_2 24 rfl rfl
theorem dX1_farthest_0 : decode cX1_farthest 0 = .ok (.aload_n 0, 1) := dk_42 (dk_at dksX1_farthest_0 0 rfl rfl)
theorem dX1_farthest_1 : decode cX1_farthest 1 = .ok (.iload_n 1, 1) := dk_27 (dk_at dksX1_farthest_0 1 rfl rfl)
theorem dX1_farthest_2 : decode cX1_farthest 2 = .ok (.iload_n 1, 1) := dk_27 (dk_at dksX1_farthest_0 2 rfl rfl)
theorem dX1_farthest_3 : decode cX1_farthest 3 = .ok (.iload_n 2, 1) := dk_28 (dk_at dksX1_farthest_0 3 rfl rfl)
theorem dX1_farthest_4 : decode cX1_farthest 4 = .ok (.invokevirtual 218, 3) := dk_182 0 218 (dk_at dksX1_farthest_0 4 rfl rfl)
theorem dX1_farthest_7 : decode cX1_farthest 7 = .ok (.istore_n 3, 1) := dk_62 (dk_at dksX1_farthest_0 7 rfl rfl)
theorem dX1_farthest_8 : decode cX1_farthest 8 = .ok (.iload_n 3, 1) := dk_29 (dk_at dksX1_farthest_0 8 rfl rfl)
theorem dX1_farthest_9 : decode cX1_farthest 9 = .ok (.ifCond .le 9, 3) := dk_158 0 9 (dk_at dksX1_farthest_0 9 rfl rfl)
theorem dX1_farthest_12 : decode cX1_farthest 12 = .ok (.aload_n 0, 1) := dk_42 (dk_at dksX1_farthest_0 12 rfl rfl)
theorem dX1_farthest_13 : decode cX1_farthest 13 = .ok (.iload_n 3, 1) := dk_29 (dk_at dksX1_farthest_0 13 rfl rfl)
theorem dX1_farthest_14 : decode cX1_farthest 14 = .ok (.invokevirtual 83, 3) := dk_182 0 83 (dk_at dksX1_farthest_0 14 rfl rfl)
theorem dX1_farthest_17 : decode cX1_farthest 17 = .ok (.ireturn, 1) := dk_172 (dk_at dksX1_farthest_0 17 rfl rfl)
theorem dX1_farthest_18 : decode cX1_farthest 18 = .ok (.iconst (-1), 1) := dk_2 (dk_at dksX1_farthest_0 18 rfl rfl)
theorem dX1_farthest_19 : decode cX1_farthest 19 = .ok (.istore 4, 2) := dk_54 4 (dk_at dksX1_farthest_0 19 rfl rfl)
theorem dX1_farthest_21 : decode cX1_farthest 21 = .ok (.iconst (-1), 1) := dk_2 (dk_at dksX1_farthest_0 21 rfl rfl)
theorem dX1_farthest_22 : decode cX1_farthest 22 = .ok (.istore 5, 2) := dk_54 5 (dk_at dksX1_farthest_0 22 rfl rfl)
theorem dX1_farthest_24 : decode cX1_farthest 24 = .ok (.aload_n 0, 1) := dk_42 (dk_at dksX1_farthest_1 0 rfl rfl)
theorem dX1_farthest_25 : decode cX1_farthest 25 = .ok (.invokevirtual 222, 3) := dk_182 0 222 (dk_at dksX1_farthest_1 1 rfl rfl)
theorem dX1_farthest_28 : decode cX1_farthest 28 = .ok (.pop, 1) := dk_87 (dk_at dksX1_farthest_1 4 rfl rfl)
theorem dX1_farthest_29 : decode cX1_farthest 29 = .ok (.iconst 0, 1) := dk_3 (dk_at dksX1_farthest_1 5 rfl rfl)
theorem dX1_farthest_30 : decode cX1_farthest 30 = .ok (.istore 6, 2) := dk_54 6 (dk_at dksX1_farthest_1 6 rfl rfl)
theorem dX1_farthest_32 : decode cX1_farthest 32 = .ok (.iload 6, 2) := dk_21 6 (dk_at dksX1_farthest_1 8 rfl rfl)
theorem dX1_farthest_34 : decode cX1_farthest 34 = .ok (.aload_n 0, 1) := dk_42 (dk_at dksX1_farthest_1 10 rfl rfl)
theorem dX1_farthest_35 : decode cX1_farthest 35 = .ok (.getfield 99, 3) := dk_180 0 99 (dk_at dksX1_farthest_1 11 rfl rfl)
theorem dX1_farthest_38 : decode cX1_farthest 38 = .ok (.getfield 149, 3) := dk_180 0 149 (dk_at dksX1_farthest_1 14 rfl rfl)
theorem dX1_farthest_41 : decode cX1_farthest 41 = .ok (.invokevirtual 127, 3) := dk_182 0 127 (dk_at dksX1_farthest_1 17 rfl rfl)
theorem dX1_farthest_44 : decode cX1_farthest 44 = .ok (.if_icmp .ge 40, 3) := dk_162 0 40 (dk_at dksX1_farthest_1 20 rfl rfl)
theorem dX1_farthest_47 : decode cX1_farthest 47 = .ok (.aload_n 0, 1) := dk_42 (dk_at dksX1_farthest_1 23 rfl rfl)
theorem dX1_farthest_48 : decode cX1_farthest 48 = .ok (.getfield 46, 3) := dk_180 0 46 (dk_at dksX1_farthest_2 0 rfl rfl)
theorem dX1_farthest_51 : decode cX1_farthest 51 = .ok (.iload_n 1, 1) := dk_27 (dk_at dksX1_farthest_2 3 rfl rfl)
theorem dX1_farthest_52 : decode cX1_farthest 52 = .ok (.iload 6, 2) := dk_21 6 (dk_at dksX1_farthest_2 4 rfl rfl)
theorem dX1_farthest_54 : decode cX1_farthest 54 = .ok (.iload_n 2, 1) := dk_28 (dk_at dksX1_farthest_2 6 rfl rfl)
theorem dX1_farthest_55 : decode cX1_farthest 55 = .ok (.invokevirtual 226, 3) := dk_182 0 226 (dk_at dksX1_farthest_2 7 rfl rfl)
theorem dX1_farthest_58 : decode cX1_farthest 58 = .ok (.istore 7, 2) := dk_54 7 (dk_at dksX1_farthest_2 10 rfl rfl)
theorem dX1_farthest_60 : decode cX1_farthest 60 = .ok (.iload 7, 2) := dk_21 7 (dk_at dksX1_farthest_2 12 rfl rfl)
theorem dX1_farthest_62 : decode cX1_farthest 62 = .ok (.iload 5, 2) := dk_21 5 (dk_at dksX1_farthest_2 14 rfl rfl)
theorem dX1_farthest_64 : decode cX1_farthest 64 = .ok (.if_icmp .gt 6, 3) := dk_163 0 6 (dk_at dksX1_farthest_2 16 rfl rfl)
theorem dX1_farthest_67 : decode cX1_farthest 67 = .ok (.goto 11, 3) := dk_167 0 11 (dk_at dksX1_farthest_2 19 rfl rfl)
theorem dX1_farthest_70 : decode cX1_farthest 70 = .ok (.iload 7, 2) := dk_21 7 (dk_at dksX1_farthest_2 22 rfl rfl)
theorem dX1_farthest_72 : decode cX1_farthest 72 = .ok (.istore 5, 2) := dk_54 5 (dk_at dksX1_farthest_3 0 rfl rfl)
theorem dX1_farthest_74 : decode cX1_farthest 74 = .ok (.iload 6, 2) := dk_21 6 (dk_at dksX1_farthest_3 2 rfl rfl)
theorem dX1_farthest_76 : decode cX1_farthest 76 = .ok (.istore 4, 2) := dk_54 4 (dk_at dksX1_farthest_3 4 rfl rfl)
theorem dX1_farthest_78 : decode cX1_farthest 78 = .ok (.iinc 6 1, 3) := dk_132 6 1 (dk_at dksX1_farthest_3 6 rfl rfl)
theorem dX1_farthest_81 : decode cX1_farthest 81 = .ok (.goto (-49), 3) := dk_167 255 207 (dk_at dksX1_farthest_3 9 rfl rfl)
theorem dX1_farthest_84 : decode cX1_farthest 84 = .ok (.aload_n 0, 1) := dk_42 (dk_at dksX1_farthest_3 12 rfl rfl)
theorem dX1_farthest_85 : decode cX1_farthest 85 = .ok (.iload 4, 2) := dk_21 4 (dk_at dksX1_farthest_3 13 rfl rfl)
theorem dX1_farthest_87 : decode cX1_farthest 87 = .ok (.invokevirtual 143, 3) := dk_182 0 143 (dk_at dksX1_farthest_3 15 rfl rfl)
theorem dX1_farthest_90 : decode cX1_farthest 90 = .ok (.ireturn, 1) := dk_172 (dk_at dksX1_farthest_3 18 rfl rfl)
abbrev cX1_meets : ByteArray := prog_1_method_32_code
def yX1_meets : MethodName := ⟨RX1, "meets", "(III)I"⟩
def dkwX1_meets_5 : List UInt8 := [54, 5, 132, 7, 1, 167, 255, 170, 42, 21, 5, 182, 0, 143, 172]
abbrev dktX1_meets_5 : List UInt8 := dkwX1_meets_5 ++ []
def dkwX1_meets_4 : List UInt8 := [21, 9, 184, 1, 6, 21, 6, 161, 0, 6, 167, 0, 16, 21, 8, 21, 9, 184, 1, 6, 54, 6, 21, 7]
abbrev dktX1_meets_4 : List UInt8 := dkwX1_meets_4 ++ dktX1_meets_5
def dkwX1_meets_3 : List UInt8 := [21, 7, 29, 182, 0, 226, 54, 9, 21, 8, 16, 254, 159, 0, 38, 21, 9, 16, 254, 159, 0, 31, 21, 8]
abbrev dktX1_meets_3 : List UInt8 := dkwX1_meets_3 ++ dktX1_meets_4
def dkwX1_meets_2 : List UInt8 := [182, 0, 127, 162, 0, 77, 42, 180, 0, 46, 27, 21, 7, 29, 182, 0, 226, 54, 8, 42, 180, 0, 46, 28]
abbrev dktX1_meets_2 : List UInt8 := dkwX1_meets_2 ++ dktX1_meets_3
def dkwX1_meets_1 : List UInt8 := [54, 5, 18, 248, 54, 6, 42, 182, 0, 222, 87, 3, 54, 7, 21, 7, 42, 180, 0, 99, 180, 0, 149]
abbrev dktX1_meets_1 : List UInt8 := dkwX1_meets_1 ++ dktX1_meets_2
def dkwX1_meets_0 : List UInt8 := [42, 27, 28, 29, 182, 0, 218, 54, 4, 21, 4, 158, 0, 10, 42, 21, 4, 182, 0, 83, 172, 16, 254]
abbrev dktX1_meets_0 : List UInt8 := dkwX1_meets_0 ++ dktX1_meets_1
theorem dksX1_meets_0 : cX1_meets.data.toList.drop 0 = dktX1_meets_0 := by decide +kernel
theorem dksX1_meets_1 : cX1_meets.data.toList.drop 23 = dktX1_meets_1 := dk_seg dksX1_meets_0 23 rfl rfl
theorem dksX1_meets_2 : cX1_meets.data.toList.drop 46 = dktX1_meets_2 := dk_seg dksX1_meets_1 23 rfl rfl
theorem dksX1_meets_3 : cX1_meets.data.toList.drop 70 = dktX1_meets_3 := dk_seg dksX1_meets_2 24 rfl rfl
theorem dksX1_meets_4 : cX1_meets.data.toList.drop 94 = dktX1_meets_4 := dk_seg dksX1_meets_3 24 rfl rfl
theorem dksX1_meets_5 : cX1_meets.data.toList.drop 118 = dktX1_meets_5 := dk_seg dksX1_meets_4 24 rfl rfl
theorem dX1_meets_0 : decode cX1_meets 0 = .ok (.aload_n 0, 1) := dk_42 (dk_at dksX1_meets_0 0 rfl rfl)
theorem dX1_meets_1 : decode cX1_meets 1 = .ok (.iload_n 1, 1) := dk_27 (dk_at dksX1_meets_0 1 rfl rfl)
theorem dX1_meets_2 : decode cX1_meets 2 = .ok (.iload_n 2, 1) := dk_28 (dk_at dksX1_meets_0 2 rfl rfl)
theorem dX1_meets_3 : decode cX1_meets 3 = .ok (.iload_n 3, 1) := dk_29 (dk_at dksX1_meets_0 3 rfl rfl)
theorem dX1_meets_4 : decode cX1_meets 4 = .ok (.invokevirtual 218, 3) := dk_182 0 218 (dk_at dksX1_meets_0 4 rfl rfl)
theorem dX1_meets_7 : decode cX1_meets 7 = .ok (.istore 4, 2) := dk_54 4 (dk_at dksX1_meets_0 7 rfl rfl)
theorem dX1_meets_9 : decode cX1_meets 9 = .ok (.iload 4, 2) := dk_21 4 (dk_at dksX1_meets_0 9 rfl rfl)
theorem dX1_meets_11 : decode cX1_meets 11 = .ok (.ifCond .le 10, 3) := dk_158 0 10 (dk_at dksX1_meets_0 11 rfl rfl)
theorem dX1_meets_14 : decode cX1_meets 14 = .ok (.aload_n 0, 1) := dk_42 (dk_at dksX1_meets_0 14 rfl rfl)
theorem dX1_meets_15 : decode cX1_meets 15 = .ok (.iload 4, 2) := dk_21 4 (dk_at dksX1_meets_0 15 rfl rfl)
theorem dX1_meets_17 : decode cX1_meets 17 = .ok (.invokevirtual 83, 3) := dk_182 0 83 (dk_at dksX1_meets_0 17 rfl rfl)
theorem dX1_meets_20 : decode cX1_meets 20 = .ok (.ireturn, 1) := dk_172 (dk_at dksX1_meets_0 20 rfl rfl)
theorem dX1_meets_21 : decode cX1_meets 21 = .ok (.bipush (-2), 2) := dk_16 254 (dk_at dksX1_meets_0 21 rfl rfl)
theorem dX1_meets_23 : decode cX1_meets 23 = .ok (.istore 5, 2) := dk_54 5 (dk_at dksX1_meets_1 0 rfl rfl)
theorem dX1_meets_25 : decode cX1_meets 25 = .ok (.ldc 248, 2) := dk_18 248 (dk_at dksX1_meets_1 2 rfl rfl)
theorem dX1_meets_27 : decode cX1_meets 27 = .ok (.istore 6, 2) := dk_54 6 (dk_at dksX1_meets_1 4 rfl rfl)
theorem dX1_meets_29 : decode cX1_meets 29 = .ok (.aload_n 0, 1) := dk_42 (dk_at dksX1_meets_1 6 rfl rfl)
theorem dX1_meets_30 : decode cX1_meets 30 = .ok (.invokevirtual 222, 3) := dk_182 0 222 (dk_at dksX1_meets_1 7 rfl rfl)
theorem dX1_meets_33 : decode cX1_meets 33 = .ok (.pop, 1) := dk_87 (dk_at dksX1_meets_1 10 rfl rfl)
theorem dX1_meets_34 : decode cX1_meets 34 = .ok (.iconst 0, 1) := dk_3 (dk_at dksX1_meets_1 11 rfl rfl)
theorem dX1_meets_35 : decode cX1_meets 35 = .ok (.istore 7, 2) := dk_54 7 (dk_at dksX1_meets_1 12 rfl rfl)
theorem dX1_meets_37 : decode cX1_meets 37 = .ok (.iload 7, 2) := dk_21 7 (dk_at dksX1_meets_1 14 rfl rfl)
theorem dX1_meets_39 : decode cX1_meets 39 = .ok (.aload_n 0, 1) := dk_42 (dk_at dksX1_meets_1 16 rfl rfl)
theorem dX1_meets_40 : decode cX1_meets 40 = .ok (.getfield 99, 3) := dk_180 0 99 (dk_at dksX1_meets_1 17 rfl rfl)
theorem dX1_meets_43 : decode cX1_meets 43 = .ok (.getfield 149, 3) := dk_180 0 149 (dk_at dksX1_meets_1 20 rfl rfl)
theorem dX1_meets_46 : decode cX1_meets 46 = .ok (.invokevirtual 127, 3) := dk_182 0 127 (dk_at dksX1_meets_2 0 rfl rfl)
theorem dX1_meets_49 : decode cX1_meets 49 = .ok (.if_icmp .ge 77, 3) := dk_162 0 77 (dk_at dksX1_meets_2 3 rfl rfl)
theorem dX1_meets_52 : decode cX1_meets 52 = .ok (.aload_n 0, 1) := dk_42 (dk_at dksX1_meets_2 6 rfl rfl)
theorem dX1_meets_53 : decode cX1_meets 53 = .ok (.getfield 46, 3) := dk_180 0 46 (dk_at dksX1_meets_2 7 rfl rfl)
theorem dX1_meets_56 : decode cX1_meets 56 = .ok (.iload_n 1, 1) := dk_27 (dk_at dksX1_meets_2 10 rfl rfl)
theorem dX1_meets_57 : decode cX1_meets 57 = .ok (.iload 7, 2) := dk_21 7 (dk_at dksX1_meets_2 11 rfl rfl)
theorem dX1_meets_59 : decode cX1_meets 59 = .ok (.iload_n 3, 1) := dk_29 (dk_at dksX1_meets_2 13 rfl rfl)
theorem dX1_meets_60 : decode cX1_meets 60 = .ok (.invokevirtual 226, 3) := dk_182 0 226 (dk_at dksX1_meets_2 14 rfl rfl)
theorem dX1_meets_63 : decode cX1_meets 63 = .ok (.istore 8, 2) := dk_54 8 (dk_at dksX1_meets_2 17 rfl rfl)
theorem dX1_meets_65 : decode cX1_meets 65 = .ok (.aload_n 0, 1) := dk_42 (dk_at dksX1_meets_2 19 rfl rfl)
theorem dX1_meets_66 : decode cX1_meets 66 = .ok (.getfield 46, 3) := dk_180 0 46 (dk_at dksX1_meets_2 20 rfl rfl)
theorem dX1_meets_69 : decode cX1_meets 69 = .ok (.iload_n 2, 1) := dk_28 (dk_at dksX1_meets_2 23 rfl rfl)
theorem dX1_meets_70 : decode cX1_meets 70 = .ok (.iload 7, 2) := dk_21 7 (dk_at dksX1_meets_3 0 rfl rfl)
theorem dX1_meets_72 : decode cX1_meets 72 = .ok (.iload_n 3, 1) := dk_29 (dk_at dksX1_meets_3 2 rfl rfl)
theorem dX1_meets_73 : decode cX1_meets 73 = .ok (.invokevirtual 226, 3) := dk_182 0 226 (dk_at dksX1_meets_3 3 rfl rfl)
theorem dX1_meets_76 : decode cX1_meets 76 = .ok (.istore 9, 2) := dk_54 9 (dk_at dksX1_meets_3 6 rfl rfl)
theorem dX1_meets_78 : decode cX1_meets 78 = .ok (.iload 8, 2) := dk_21 8 (dk_at dksX1_meets_3 8 rfl rfl)
theorem dX1_meets_80 : decode cX1_meets 80 = .ok (.bipush (-2), 2) := dk_16 254 (dk_at dksX1_meets_3 10 rfl rfl)
theorem dX1_meets_82 : decode cX1_meets 82 = .ok (.if_icmp .eq 38, 3) := dk_159 0 38 (dk_at dksX1_meets_3 12 rfl rfl)
theorem dX1_meets_85 : decode cX1_meets 85 = .ok (.iload 9, 2) := dk_21 9 (dk_at dksX1_meets_3 15 rfl rfl)
theorem dX1_meets_87 : decode cX1_meets 87 = .ok (.bipush (-2), 2) := dk_16 254 (dk_at dksX1_meets_3 17 rfl rfl)
theorem dX1_meets_89 : decode cX1_meets 89 = .ok (.if_icmp .eq 31, 3) := dk_159 0 31 (dk_at dksX1_meets_3 19 rfl rfl)
theorem dX1_meets_92 : decode cX1_meets 92 = .ok (.iload 8, 2) := dk_21 8 (dk_at dksX1_meets_3 22 rfl rfl)
theorem dX1_meets_94 : decode cX1_meets 94 = .ok (.iload 9, 2) := dk_21 9 (dk_at dksX1_meets_4 0 rfl rfl)
theorem dX1_meets_96 : decode cX1_meets 96 = .ok (.invokestatic 262, 3) := dk_184 1 6 (dk_at dksX1_meets_4 2 rfl rfl)
theorem dX1_meets_99 : decode cX1_meets 99 = .ok (.iload 6, 2) := dk_21 6 (dk_at dksX1_meets_4 5 rfl rfl)
theorem dX1_meets_101 : decode cX1_meets 101 = .ok (.if_icmp .lt 6, 3) := dk_161 0 6 (dk_at dksX1_meets_4 7 rfl rfl)
theorem dX1_meets_104 : decode cX1_meets 104 = .ok (.goto 16, 3) := dk_167 0 16 (dk_at dksX1_meets_4 10 rfl rfl)
theorem dX1_meets_107 : decode cX1_meets 107 = .ok (.iload 8, 2) := dk_21 8 (dk_at dksX1_meets_4 13 rfl rfl)
theorem dX1_meets_109 : decode cX1_meets 109 = .ok (.iload 9, 2) := dk_21 9 (dk_at dksX1_meets_4 15 rfl rfl)
theorem dX1_meets_111 : decode cX1_meets 111 = .ok (.invokestatic 262, 3) := dk_184 1 6 (dk_at dksX1_meets_4 17 rfl rfl)
theorem dX1_meets_114 : decode cX1_meets 114 = .ok (.istore 6, 2) := dk_54 6 (dk_at dksX1_meets_4 20 rfl rfl)
theorem dX1_meets_116 : decode cX1_meets 116 = .ok (.iload 7, 2) := dk_21 7 (dk_at dksX1_meets_4 22 rfl rfl)
theorem dX1_meets_118 : decode cX1_meets 118 = .ok (.istore 5, 2) := dk_54 5 (dk_at dksX1_meets_5 0 rfl rfl)
theorem dX1_meets_120 : decode cX1_meets 120 = .ok (.iinc 7 1, 3) := dk_132 7 1 (dk_at dksX1_meets_5 2 rfl rfl)
theorem dX1_meets_123 : decode cX1_meets 123 = .ok (.goto (-86), 3) := dk_167 255 170 (dk_at dksX1_meets_5 5 rfl rfl)
theorem dX1_meets_126 : decode cX1_meets 126 = .ok (.aload_n 0, 1) := dk_42 (dk_at dksX1_meets_5 8 rfl rfl)
theorem dX1_meets_127 : decode cX1_meets 127 = .ok (.iload 5, 2) := dk_21 5 (dk_at dksX1_meets_5 9 rfl rfl)
theorem dX1_meets_129 : decode cX1_meets 129 = .ok (.invokevirtual 143, 3) := dk_182 0 143 (dk_at dksX1_meets_5 11 rfl rfl)
theorem dX1_meets_132 : decode cX1_meets 132 = .ok (.ireturn, 1) := dk_172 (dk_at dksX1_meets_5 14 rfl rfl)
abbrev cX1_round : ByteArray := prog_1_method_33_code
def yX1_round : MethodName := ⟨RX1, "round", "(IIII)I"⟩
def dkwX1_round_3 : List UInt8 := [27, 21, 6, 21, 4, 96, 182, 0, 226, 182, 0, 143, 172]
abbrev dktX1_round_3 : List UInt8 := dkwX1_round_3 ++ []
def dkwX1_round_2 : List UInt8 := [29, 182, 0, 226, 54, 6, 42, 21, 6, 16, 254, 160, 0, 8, 16, 254, 167, 0, 17, 42, 180, 0, 46, 28]
abbrev dktX1_round_2 : List UInt8 := dkwX1_round_2 ++ dktX1_round_3
def dkwX1_round_1 : List UInt8 := [154, 0, 6, 5, 54, 5, 21, 5, 158, 0, 10, 42, 21, 5, 182, 0, 83, 172, 42, 182, 0, 222, 27, 28]
abbrev dktX1_round_1 : List UInt8 := dkwX1_round_1 ++ dktX1_round_2
def dkwX1_round_0 : List UInt8 := [42, 27, 28, 29, 182, 0, 218, 54, 5, 21, 5, 154, 0, 18, 21, 4, 3, 17, 3, 231, 184, 0, 79]
abbrev dktX1_round_0 : List UInt8 := dkwX1_round_0 ++ dktX1_round_1
theorem dksX1_round_0 : cX1_round.data.toList.drop 0 = dktX1_round_0 := by decide +kernel
theorem dksX1_round_1 : cX1_round.data.toList.drop 23 = dktX1_round_1 := dk_seg dksX1_round_0 23 rfl rfl
theorem dksX1_round_2 : cX1_round.data.toList.drop 47 = dktX1_round_2 := dk_seg dksX1_round_1 24 rfl rfl
theorem dksX1_round_3 : cX1_round.data.toList.drop 71 = dktX1_round_3 := dk_seg dksX1_round_2 24 rfl rfl
theorem dX1_round_0 : decode cX1_round 0 = .ok (.aload_n 0, 1) := dk_42 (dk_at dksX1_round_0 0 rfl rfl)
theorem dX1_round_1 : decode cX1_round 1 = .ok (.iload_n 1, 1) := dk_27 (dk_at dksX1_round_0 1 rfl rfl)
theorem dX1_round_2 : decode cX1_round 2 = .ok (.iload_n 2, 1) := dk_28 (dk_at dksX1_round_0 2 rfl rfl)
theorem dX1_round_3 : decode cX1_round 3 = .ok (.iload_n 3, 1) := dk_29 (dk_at dksX1_round_0 3 rfl rfl)
theorem dX1_round_4 : decode cX1_round 4 = .ok (.invokevirtual 218, 3) := dk_182 0 218 (dk_at dksX1_round_0 4 rfl rfl)
theorem dX1_round_7 : decode cX1_round 7 = .ok (.istore 5, 2) := dk_54 5 (dk_at dksX1_round_0 7 rfl rfl)
theorem dX1_round_9 : decode cX1_round 9 = .ok (.iload 5, 2) := dk_21 5 (dk_at dksX1_round_0 9 rfl rfl)
theorem dX1_round_11 : decode cX1_round 11 = .ok (.ifCond .ne 18, 3) := dk_154 0 18 (dk_at dksX1_round_0 11 rfl rfl)
theorem dX1_round_14 : decode cX1_round 14 = .ok (.iload 4, 2) := dk_21 4 (dk_at dksX1_round_0 14 rfl rfl)
theorem dX1_round_16 : decode cX1_round 16 = .ok (.iconst 0, 1) := dk_3 (dk_at dksX1_round_0 16 rfl rfl)
theorem dX1_round_17 : decode cX1_round 17 = .ok (.sipush 999, 3) := dk_17 3 231 (dk_at dksX1_round_0 17 rfl rfl)
theorem dX1_round_20 : decode cX1_round 20 = .ok (.invokestatic 79, 3) := dk_184 0 79 (dk_at dksX1_round_0 20 rfl rfl)
theorem dX1_round_23 : decode cX1_round 23 = .ok (.ifCond .ne 6, 3) := dk_154 0 6 (dk_at dksX1_round_1 0 rfl rfl)
theorem dX1_round_26 : decode cX1_round 26 = .ok (.iconst 2, 1) := dk_5 (dk_at dksX1_round_1 3 rfl rfl)
theorem dX1_round_27 : decode cX1_round 27 = .ok (.istore 5, 2) := dk_54 5 (dk_at dksX1_round_1 4 rfl rfl)
theorem dX1_round_29 : decode cX1_round 29 = .ok (.iload 5, 2) := dk_21 5 (dk_at dksX1_round_1 6 rfl rfl)
theorem dX1_round_31 : decode cX1_round 31 = .ok (.ifCond .le 10, 3) := dk_158 0 10 (dk_at dksX1_round_1 8 rfl rfl)
theorem dX1_round_34 : decode cX1_round 34 = .ok (.aload_n 0, 1) := dk_42 (dk_at dksX1_round_1 11 rfl rfl)
theorem dX1_round_35 : decode cX1_round 35 = .ok (.iload 5, 2) := dk_21 5 (dk_at dksX1_round_1 12 rfl rfl)
theorem dX1_round_37 : decode cX1_round 37 = .ok (.invokevirtual 83, 3) := dk_182 0 83 (dk_at dksX1_round_1 14 rfl rfl)
theorem dX1_round_40 : decode cX1_round 40 = .ok (.ireturn, 1) := dk_172 (dk_at dksX1_round_1 17 rfl rfl)
theorem dX1_round_41 : decode cX1_round 41 = .ok (.aload_n 0, 1) := dk_42 (dk_at dksX1_round_1 18 rfl rfl)
theorem dX1_round_42 : decode cX1_round 42 = .ok (.invokevirtual 222, 3) := dk_182 0 222 (dk_at dksX1_round_1 19 rfl rfl)
theorem dX1_round_45 : decode cX1_round 45 = .ok (.iload_n 1, 1) := dk_27 (dk_at dksX1_round_1 22 rfl rfl)
theorem dX1_round_46 : decode cX1_round 46 = .ok (.iload_n 2, 1) := dk_28 (dk_at dksX1_round_1 23 rfl rfl)
theorem dX1_round_47 : decode cX1_round 47 = .ok (.iload_n 3, 1) := dk_29 (dk_at dksX1_round_2 0 rfl rfl)
theorem dX1_round_48 : decode cX1_round 48 = .ok (.invokevirtual 226, 3) := dk_182 0 226 (dk_at dksX1_round_2 1 rfl rfl)
theorem dX1_round_51 : decode cX1_round 51 = .ok (.istore 6, 2) := dk_54 6 (dk_at dksX1_round_2 4 rfl rfl)
theorem dX1_round_53 : decode cX1_round 53 = .ok (.aload_n 0, 1) := dk_42 (dk_at dksX1_round_2 6 rfl rfl)
theorem dX1_round_54 : decode cX1_round 54 = .ok (.iload 6, 2) := dk_21 6 (dk_at dksX1_round_2 7 rfl rfl)
theorem dX1_round_56 : decode cX1_round 56 = .ok (.bipush (-2), 2) := dk_16 254 (dk_at dksX1_round_2 9 rfl rfl)
theorem dX1_round_58 : decode cX1_round 58 = .ok (.if_icmp .ne 8, 3) := dk_160 0 8 (dk_at dksX1_round_2 11 rfl rfl)
theorem dX1_round_61 : decode cX1_round 61 = .ok (.bipush (-2), 2) := dk_16 254 (dk_at dksX1_round_2 14 rfl rfl)
theorem dX1_round_63 : decode cX1_round 63 = .ok (.goto 17, 3) := dk_167 0 17 (dk_at dksX1_round_2 16 rfl rfl)
theorem dX1_round_66 : decode cX1_round 66 = .ok (.aload_n 0, 1) := dk_42 (dk_at dksX1_round_2 19 rfl rfl)
theorem dX1_round_67 : decode cX1_round 67 = .ok (.getfield 46, 3) := dk_180 0 46 (dk_at dksX1_round_2 20 rfl rfl)
theorem dX1_round_70 : decode cX1_round 70 = .ok (.iload_n 2, 1) := dk_28 (dk_at dksX1_round_2 23 rfl rfl)
theorem dX1_round_71 : decode cX1_round 71 = .ok (.iload_n 1, 1) := dk_27 (dk_at dksX1_round_3 0 rfl rfl)
theorem dX1_round_72 : decode cX1_round 72 = .ok (.iload 6, 2) := dk_21 6 (dk_at dksX1_round_3 1 rfl rfl)
theorem dX1_round_74 : decode cX1_round 74 = .ok (.iload 4, 2) := dk_21 4 (dk_at dksX1_round_3 3 rfl rfl)
theorem dX1_round_76 : decode cX1_round 76 = .ok (.iadd, 1) := dk_96 (dk_at dksX1_round_3 5 rfl rfl)
theorem dX1_round_77 : decode cX1_round 77 = .ok (.invokevirtual 226, 3) := dk_182 0 226 (dk_at dksX1_round_3 6 rfl rfl)
theorem dX1_round_80 : decode cX1_round 80 = .ok (.invokevirtual 143, 3) := dk_182 0 143 (dk_at dksX1_round_3 9 rfl rfl)
theorem dX1_round_83 : decode cX1_round 83 = .ok (.ireturn, 1) := dk_172 (dk_at dksX1_round_3 12 rfl rfl)
abbrev cX1_steps : ByteArray := prog_1_method_36_code
def yX1_steps : MethodName := ⟨RX1, "steps", "(II)I"⟩
def dkwX1_steps_1 : List UInt8 := [180, 1, 15, 182, 0, 143, 172]
abbrev dktX1_steps_1 : List UInt8 := dkwX1_steps_1 ++ []
def dkwX1_steps_0 : List UInt8 := [42, 27, 28, 182, 1, 21, 154, 0, 9, 42, 4, 182, 0, 83, 172, 42, 27, 28, 182, 1, 25, 42, 42]
abbrev dktX1_steps_0 : List UInt8 := dkwX1_steps_0 ++ dktX1_steps_1
theorem dksX1_steps_0 : cX1_steps.data.toList.drop 0 = dktX1_steps_0 := by decide +kernel
theorem dksX1_steps_1 : cX1_steps.data.toList.drop 23 = dktX1_steps_1 := dk_seg dksX1_steps_0 23 rfl rfl
theorem dX1_steps_0 : decode cX1_steps 0 = .ok (.aload_n 0, 1) := dk_42 (dk_at dksX1_steps_0 0 rfl rfl)
theorem dX1_steps_1 : decode cX1_steps 1 = .ok (.iload_n 1, 1) := dk_27 (dk_at dksX1_steps_0 1 rfl rfl)
theorem dX1_steps_2 : decode cX1_steps 2 = .ok (.iload_n 2, 1) := dk_28 (dk_at dksX1_steps_0 2 rfl rfl)
theorem dX1_steps_3 : decode cX1_steps 3 = .ok (.invokevirtual 277, 3) := dk_182 1 21 (dk_at dksX1_steps_0 3 rfl rfl)
theorem dX1_steps_6 : decode cX1_steps 6 = .ok (.ifCond .ne 9, 3) := dk_154 0 9 (dk_at dksX1_steps_0 6 rfl rfl)
theorem dX1_steps_9 : decode cX1_steps 9 = .ok (.aload_n 0, 1) := dk_42 (dk_at dksX1_steps_0 9 rfl rfl)
theorem dX1_steps_10 : decode cX1_steps 10 = .ok (.iconst 1, 1) := dk_4 (dk_at dksX1_steps_0 10 rfl rfl)
theorem dX1_steps_11 : decode cX1_steps 11 = .ok (.invokevirtual 83, 3) := dk_182 0 83 (dk_at dksX1_steps_0 11 rfl rfl)
theorem dX1_steps_14 : decode cX1_steps 14 = .ok (.ireturn, 1) := dk_172 (dk_at dksX1_steps_0 14 rfl rfl)
theorem dX1_steps_15 : decode cX1_steps 15 = .ok (.aload_n 0, 1) := dk_42 (dk_at dksX1_steps_0 15 rfl rfl)
theorem dX1_steps_16 : decode cX1_steps 16 = .ok (.iload_n 1, 1) := dk_27 (dk_at dksX1_steps_0 16 rfl rfl)
theorem dX1_steps_17 : decode cX1_steps 17 = .ok (.iload_n 2, 1) := dk_28 (dk_at dksX1_steps_0 17 rfl rfl)
theorem dX1_steps_18 : decode cX1_steps 18 = .ok (.invokevirtual 281, 3) := dk_182 1 25 (dk_at dksX1_steps_0 18 rfl rfl)
theorem dX1_steps_21 : decode cX1_steps 21 = .ok (.aload_n 0, 1) := dk_42 (dk_at dksX1_steps_0 21 rfl rfl)
theorem dX1_steps_22 : decode cX1_steps 22 = .ok (.aload_n 0, 1) := dk_42 (dk_at dksX1_steps_0 22 rfl rfl)
theorem dX1_steps_23 : decode cX1_steps 23 = .ok (.getfield 271, 3) := dk_180 1 15 (dk_at dksX1_steps_1 0 rfl rfl)
theorem dX1_steps_26 : decode cX1_steps 26 = .ok (.invokevirtual 143, 3) := dk_182 0 143 (dk_at dksX1_steps_1 3 rfl rfl)
theorem dX1_steps_29 : decode cX1_steps 29 = .ok (.ireturn, 1) := dk_172 (dk_at dksX1_steps_1 6 rfl rfl)
abbrev cX1_areTwo : ByteArray := prog_1_method_35_code
def yX1_areTwo : MethodName := ⟨RX1, "areTwo", "(II)Z"⟩
def dkwX1_areTwo_1 : List UInt8 := [167, 0, 4, 3, 172]
abbrev dktX1_areTwo_1 : List UInt8 := dkwX1_areTwo_1 ++ []
def dkwX1_areTwo_0 : List UInt8 := [42, 27, 182, 0, 169, 153, 0, 20, 42, 28, 182, 0, 169, 153, 0, 12, 27, 28, 159, 0, 7, 4]
abbrev dktX1_areTwo_0 : List UInt8 := dkwX1_areTwo_0 ++ dktX1_areTwo_1
theorem dksX1_areTwo_0 : cX1_areTwo.data.toList.drop 0 = dktX1_areTwo_0 := by decide +kernel
theorem dksX1_areTwo_1 : cX1_areTwo.data.toList.drop 22 = dktX1_areTwo_1 := dk_seg dksX1_areTwo_0 22 rfl rfl
theorem dX1_areTwo_0 : decode cX1_areTwo 0 = .ok (.aload_n 0, 1) := dk_42 (dk_at dksX1_areTwo_0 0 rfl rfl)
theorem dX1_areTwo_1 : decode cX1_areTwo 1 = .ok (.iload_n 1, 1) := dk_27 (dk_at dksX1_areTwo_0 1 rfl rfl)
theorem dX1_areTwo_2 : decode cX1_areTwo 2 = .ok (.invokevirtual 169, 3) := dk_182 0 169 (dk_at dksX1_areTwo_0 2 rfl rfl)
theorem dX1_areTwo_5 : decode cX1_areTwo 5 = .ok (.ifCond .eq 20, 3) := dk_153 0 20 (dk_at dksX1_areTwo_0 5 rfl rfl)
theorem dX1_areTwo_8 : decode cX1_areTwo 8 = .ok (.aload_n 0, 1) := dk_42 (dk_at dksX1_areTwo_0 8 rfl rfl)
theorem dX1_areTwo_9 : decode cX1_areTwo 9 = .ok (.iload_n 2, 1) := dk_28 (dk_at dksX1_areTwo_0 9 rfl rfl)
theorem dX1_areTwo_10 : decode cX1_areTwo 10 = .ok (.invokevirtual 169, 3) := dk_182 0 169 (dk_at dksX1_areTwo_0 10 rfl rfl)
theorem dX1_areTwo_13 : decode cX1_areTwo 13 = .ok (.ifCond .eq 12, 3) := dk_153 0 12 (dk_at dksX1_areTwo_0 13 rfl rfl)
theorem dX1_areTwo_16 : decode cX1_areTwo 16 = .ok (.iload_n 1, 1) := dk_27 (dk_at dksX1_areTwo_0 16 rfl rfl)
theorem dX1_areTwo_17 : decode cX1_areTwo 17 = .ok (.iload_n 2, 1) := dk_28 (dk_at dksX1_areTwo_0 17 rfl rfl)
theorem dX1_areTwo_18 : decode cX1_areTwo 18 = .ok (.if_icmp .eq 7, 3) := dk_159 0 7 (dk_at dksX1_areTwo_0 18 rfl rfl)
theorem dX1_areTwo_21 : decode cX1_areTwo 21 = .ok (.iconst 1, 1) := dk_4 (dk_at dksX1_areTwo_0 21 rfl rfl)
theorem dX1_areTwo_22 : decode cX1_areTwo 22 = .ok (.goto 4, 3) := dk_167 0 4 (dk_at dksX1_areTwo_1 0 rfl rfl)
theorem dX1_areTwo_25 : decode cX1_areTwo 25 = .ok (.iconst 0, 1) := dk_3 (dk_at dksX1_areTwo_1 3 rfl rfl)
theorem dX1_areTwo_26 : decode cX1_areTwo 26 = .ok (.ireturn, 1) := dk_172 (dk_at dksX1_areTwo_1 4 rfl rfl)
abbrev cX1_laysSteps : ByteArray := prog_1_method_34_code
def yX1_laysSteps : MethodName := ⟨RX1, "laysSteps", "(II)V"⟩
def dkwX1_laysSteps_6 : List UInt8 := [180, 1, 15, 29, 79, 42, 89, 180, 1, 15, 4, 96, 181, 1, 15, 132, 4, 255, 167, 255, 123, 177]
abbrev dktX1_laysSteps_6 : List UInt8 := dkwX1_laysSteps_6 ++ []
def dkwX1_laysSteps_5 : List UInt8 := [42, 180, 0, 57, 42, 180, 1, 15, 42, 180, 0, 46, 180, 0, 234, 21, 4, 46, 79, 42, 180, 0, 60, 42]
abbrev dktX1_laysSteps_5 : List UInt8 := dkwX1_laysSteps_5 ++ dktX1_laysSteps_6
def dkwX1_laysSteps_4 : List UInt8 := [46, 42, 180, 0, 46, 180, 0, 234, 21, 4, 46, 160, 0, 13, 42, 89, 180, 1, 15, 4, 100, 181, 1, 15]
abbrev dktX1_laysSteps_4 : List UInt8 := dkwX1_laysSteps_4 ++ dktX1_laysSteps_5
def dkwX1_laysSteps_3 : List UInt8 := [180, 0, 231, 21, 4, 46, 62, 42, 180, 1, 15, 158, 0, 37, 42, 180, 0, 57, 42, 180, 1, 15, 4, 100]
abbrev dktX1_laysSteps_3 : List UInt8 := dkwX1_laysSteps_3 ++ dktX1_laysSteps_4
def dkwX1_laysSteps_2 : List UInt8 := [160, 0, 111, 42, 180, 0, 46, 180, 0, 231, 21, 4, 46, 29, 161, 0, 6, 167, 0, 94, 42, 180, 0, 46]
abbrev dktX1_laysSteps_2 : List UInt8 := dkwX1_laysSteps_2 ++ dktX1_laysSteps_3
def dkwX1_laysSteps_1 : List UInt8 := [100, 54, 4, 21, 4, 155, 0, 134, 42, 180, 0, 46, 180, 0, 242, 21, 4, 50, 180, 0, 163, 27]
abbrev dktX1_laysSteps_1 : List UInt8 := dkwX1_laysSteps_1 ++ dktX1_laysSteps_2
def dkwX1_laysSteps_0 : List UInt8 := [42, 182, 0, 222, 28, 182, 1, 12, 42, 3, 181, 1, 15, 18, 248, 62, 42, 180, 0, 46, 180, 1, 18, 4]
abbrev dktX1_laysSteps_0 : List UInt8 := dkwX1_laysSteps_0 ++ dktX1_laysSteps_1
theorem dksX1_laysSteps_0 : cX1_laysSteps.data.toList.drop 0 = dktX1_laysSteps_0 := by decide +kernel
theorem dksX1_laysSteps_1 : cX1_laysSteps.data.toList.drop 24 = dktX1_laysSteps_1 := dk_seg dksX1_laysSteps_0 24 rfl rfl
theorem dksX1_laysSteps_2 : cX1_laysSteps.data.toList.drop 46 = dktX1_laysSteps_2 := dk_seg dksX1_laysSteps_1 22 rfl rfl
theorem dksX1_laysSteps_3 : cX1_laysSteps.data.toList.drop 70 = dktX1_laysSteps_3 := dk_seg dksX1_laysSteps_2 24 rfl rfl
theorem dksX1_laysSteps_4 : cX1_laysSteps.data.toList.drop 94 = dktX1_laysSteps_4 := dk_seg dksX1_laysSteps_3 24 rfl rfl
theorem dksX1_laysSteps_5 : cX1_laysSteps.data.toList.drop 118 = dktX1_laysSteps_5 := dk_seg dksX1_laysSteps_4 24 rfl rfl
theorem dksX1_laysSteps_6 : cX1_laysSteps.data.toList.drop 142 = dktX1_laysSteps_6 := dk_seg dksX1_laysSteps_5 24 rfl rfl
theorem dX1_laysSteps_0 : decode cX1_laysSteps 0 = .ok (.aload_n 0, 1) := dk_42 (dk_at dksX1_laysSteps_0 0 rfl rfl)
theorem dX1_laysSteps_1 : decode cX1_laysSteps 1 = .ok (.invokevirtual 222, 3) := dk_182 0 222 (dk_at dksX1_laysSteps_0 1 rfl rfl)
theorem dX1_laysSteps_4 : decode cX1_laysSteps 4 = .ok (.iload_n 2, 1) := dk_28 (dk_at dksX1_laysSteps_0 4 rfl rfl)
theorem dX1_laysSteps_5 : decode cX1_laysSteps 5 = .ok (.invokevirtual 268, 3) := dk_182 1 12 (dk_at dksX1_laysSteps_0 5 rfl rfl)
theorem dX1_laysSteps_8 : decode cX1_laysSteps 8 = .ok (.aload_n 0, 1) := dk_42 (dk_at dksX1_laysSteps_0 8 rfl rfl)
theorem dX1_laysSteps_9 : decode cX1_laysSteps 9 = .ok (.iconst 0, 1) := dk_3 (dk_at dksX1_laysSteps_0 9 rfl rfl)
theorem dX1_laysSteps_10 : decode cX1_laysSteps 10 = .ok (.putfield 271, 3) := dk_181 1 15 (dk_at dksX1_laysSteps_0 10 rfl rfl)
theorem dX1_laysSteps_13 : decode cX1_laysSteps 13 = .ok (.ldc 248, 2) := dk_18 248 (dk_at dksX1_laysSteps_0 13 rfl rfl)
theorem dX1_laysSteps_15 : decode cX1_laysSteps 15 = .ok (.istore_n 3, 1) := dk_62 (dk_at dksX1_laysSteps_0 15 rfl rfl)
theorem dX1_laysSteps_16 : decode cX1_laysSteps 16 = .ok (.aload_n 0, 1) := dk_42 (dk_at dksX1_laysSteps_0 16 rfl rfl)
theorem dX1_laysSteps_17 : decode cX1_laysSteps 17 = .ok (.getfield 46, 3) := dk_180 0 46 (dk_at dksX1_laysSteps_0 17 rfl rfl)
theorem dX1_laysSteps_20 : decode cX1_laysSteps 20 = .ok (.getfield 274, 3) := dk_180 1 18 (dk_at dksX1_laysSteps_0 20 rfl rfl)
theorem dX1_laysSteps_23 : decode cX1_laysSteps 23 = .ok (.iconst 1, 1) := dk_4 (dk_at dksX1_laysSteps_0 23 rfl rfl)
theorem dX1_laysSteps_24 : decode cX1_laysSteps 24 = .ok (.isub, 1) := dk_100 (dk_at dksX1_laysSteps_1 0 rfl rfl)
theorem dX1_laysSteps_25 : decode cX1_laysSteps 25 = .ok (.istore 4, 2) := dk_54 4 (dk_at dksX1_laysSteps_1 1 rfl rfl)
theorem dX1_laysSteps_27 : decode cX1_laysSteps 27 = .ok (.iload 4, 2) := dk_21 4 (dk_at dksX1_laysSteps_1 3 rfl rfl)
theorem dX1_laysSteps_29 : decode cX1_laysSteps 29 = .ok (.ifCond .lt 134, 3) := dk_155 0 134 (dk_at dksX1_laysSteps_1 5 rfl rfl)
theorem dX1_laysSteps_32 : decode cX1_laysSteps 32 = .ok (.aload_n 0, 1) := dk_42 (dk_at dksX1_laysSteps_1 8 rfl rfl)
theorem dX1_laysSteps_33 : decode cX1_laysSteps 33 = .ok (.getfield 46, 3) := dk_180 0 46 (dk_at dksX1_laysSteps_1 9 rfl rfl)
theorem dX1_laysSteps_36 : decode cX1_laysSteps 36 = .ok (.getfield 242, 3) := dk_180 0 242 (dk_at dksX1_laysSteps_1 12 rfl rfl)
theorem dX1_laysSteps_39 : decode cX1_laysSteps 39 = .ok (.iload 4, 2) := dk_21 4 (dk_at dksX1_laysSteps_1 15 rfl rfl)
theorem dX1_laysSteps_41 : decode cX1_laysSteps 41 = .ok (.aaload, 1) := dk_50 (dk_at dksX1_laysSteps_1 17 rfl rfl)
theorem dX1_laysSteps_42 : decode cX1_laysSteps 42 = .ok (.getfield 163, 3) := dk_180 0 163 (dk_at dksX1_laysSteps_1 18 rfl rfl)
theorem dX1_laysSteps_45 : decode cX1_laysSteps 45 = .ok (.iload_n 1, 1) := dk_27 (dk_at dksX1_laysSteps_1 21 rfl rfl)
theorem dX1_laysSteps_46 : decode cX1_laysSteps 46 = .ok (.if_icmp .ne 111, 3) := dk_160 0 111 (dk_at dksX1_laysSteps_2 0 rfl rfl)
theorem dX1_laysSteps_49 : decode cX1_laysSteps 49 = .ok (.aload_n 0, 1) := dk_42 (dk_at dksX1_laysSteps_2 3 rfl rfl)
theorem dX1_laysSteps_50 : decode cX1_laysSteps 50 = .ok (.getfield 46, 3) := dk_180 0 46 (dk_at dksX1_laysSteps_2 4 rfl rfl)
theorem dX1_laysSteps_53 : decode cX1_laysSteps 53 = .ok (.getfield 231, 3) := dk_180 0 231 (dk_at dksX1_laysSteps_2 7 rfl rfl)
theorem dX1_laysSteps_56 : decode cX1_laysSteps 56 = .ok (.iload 4, 2) := dk_21 4 (dk_at dksX1_laysSteps_2 10 rfl rfl)
theorem dX1_laysSteps_58 : decode cX1_laysSteps 58 = .ok (.iaload, 1) := dk_46 (dk_at dksX1_laysSteps_2 12 rfl rfl)
theorem dX1_laysSteps_59 : decode cX1_laysSteps 59 = .ok (.iload_n 3, 1) := dk_29 (dk_at dksX1_laysSteps_2 13 rfl rfl)
theorem dX1_laysSteps_60 : decode cX1_laysSteps 60 = .ok (.if_icmp .lt 6, 3) := dk_161 0 6 (dk_at dksX1_laysSteps_2 14 rfl rfl)
theorem dX1_laysSteps_63 : decode cX1_laysSteps 63 = .ok (.goto 94, 3) := dk_167 0 94 (dk_at dksX1_laysSteps_2 17 rfl rfl)
theorem dX1_laysSteps_66 : decode cX1_laysSteps 66 = .ok (.aload_n 0, 1) := dk_42 (dk_at dksX1_laysSteps_2 20 rfl rfl)
theorem dX1_laysSteps_67 : decode cX1_laysSteps 67 = .ok (.getfield 46, 3) := dk_180 0 46 (dk_at dksX1_laysSteps_2 21 rfl rfl)
theorem dX1_laysSteps_70 : decode cX1_laysSteps 70 = .ok (.getfield 231, 3) := dk_180 0 231 (dk_at dksX1_laysSteps_3 0 rfl rfl)
theorem dX1_laysSteps_73 : decode cX1_laysSteps 73 = .ok (.iload 4, 2) := dk_21 4 (dk_at dksX1_laysSteps_3 3 rfl rfl)
theorem dX1_laysSteps_75 : decode cX1_laysSteps 75 = .ok (.iaload, 1) := dk_46 (dk_at dksX1_laysSteps_3 5 rfl rfl)
theorem dX1_laysSteps_76 : decode cX1_laysSteps 76 = .ok (.istore_n 3, 1) := dk_62 (dk_at dksX1_laysSteps_3 6 rfl rfl)
theorem dX1_laysSteps_77 : decode cX1_laysSteps 77 = .ok (.aload_n 0, 1) := dk_42 (dk_at dksX1_laysSteps_3 7 rfl rfl)
theorem dX1_laysSteps_78 : decode cX1_laysSteps 78 = .ok (.getfield 271, 3) := dk_180 1 15 (dk_at dksX1_laysSteps_3 8 rfl rfl)
theorem dX1_laysSteps_81 : decode cX1_laysSteps 81 = .ok (.ifCond .le 37, 3) := dk_158 0 37 (dk_at dksX1_laysSteps_3 11 rfl rfl)
theorem dX1_laysSteps_84 : decode cX1_laysSteps 84 = .ok (.aload_n 0, 1) := dk_42 (dk_at dksX1_laysSteps_3 14 rfl rfl)
theorem dX1_laysSteps_85 : decode cX1_laysSteps 85 = .ok (.getfield 57, 3) := dk_180 0 57 (dk_at dksX1_laysSteps_3 15 rfl rfl)
theorem dX1_laysSteps_88 : decode cX1_laysSteps 88 = .ok (.aload_n 0, 1) := dk_42 (dk_at dksX1_laysSteps_3 18 rfl rfl)
theorem dX1_laysSteps_89 : decode cX1_laysSteps 89 = .ok (.getfield 271, 3) := dk_180 1 15 (dk_at dksX1_laysSteps_3 19 rfl rfl)
theorem dX1_laysSteps_92 : decode cX1_laysSteps 92 = .ok (.iconst 1, 1) := dk_4 (dk_at dksX1_laysSteps_3 22 rfl rfl)
theorem dX1_laysSteps_93 : decode cX1_laysSteps 93 = .ok (.isub, 1) := dk_100 (dk_at dksX1_laysSteps_3 23 rfl rfl)
theorem dX1_laysSteps_94 : decode cX1_laysSteps 94 = .ok (.iaload, 1) := dk_46 (dk_at dksX1_laysSteps_4 0 rfl rfl)
theorem dX1_laysSteps_95 : decode cX1_laysSteps 95 = .ok (.aload_n 0, 1) := dk_42 (dk_at dksX1_laysSteps_4 1 rfl rfl)
theorem dX1_laysSteps_96 : decode cX1_laysSteps 96 = .ok (.getfield 46, 3) := dk_180 0 46 (dk_at dksX1_laysSteps_4 2 rfl rfl)
theorem dX1_laysSteps_99 : decode cX1_laysSteps 99 = .ok (.getfield 234, 3) := dk_180 0 234 (dk_at dksX1_laysSteps_4 5 rfl rfl)
theorem dX1_laysSteps_102 : decode cX1_laysSteps 102 = .ok (.iload 4, 2) := dk_21 4 (dk_at dksX1_laysSteps_4 8 rfl rfl)
theorem dX1_laysSteps_104 : decode cX1_laysSteps 104 = .ok (.iaload, 1) := dk_46 (dk_at dksX1_laysSteps_4 10 rfl rfl)
theorem dX1_laysSteps_105 : decode cX1_laysSteps 105 = .ok (.if_icmp .ne 13, 3) := dk_160 0 13 (dk_at dksX1_laysSteps_4 11 rfl rfl)
theorem dX1_laysSteps_108 : decode cX1_laysSteps 108 = .ok (.aload_n 0, 1) := dk_42 (dk_at dksX1_laysSteps_4 14 rfl rfl)
theorem dX1_laysSteps_109 : decode cX1_laysSteps 109 = .ok (.dup, 1) := dk_89 (dk_at dksX1_laysSteps_4 15 rfl rfl)
theorem dX1_laysSteps_110 : decode cX1_laysSteps 110 = .ok (.getfield 271, 3) := dk_180 1 15 (dk_at dksX1_laysSteps_4 16 rfl rfl)
theorem dX1_laysSteps_113 : decode cX1_laysSteps 113 = .ok (.iconst 1, 1) := dk_4 (dk_at dksX1_laysSteps_4 19 rfl rfl)
theorem dX1_laysSteps_114 : decode cX1_laysSteps 114 = .ok (.isub, 1) := dk_100 (dk_at dksX1_laysSteps_4 20 rfl rfl)
theorem dX1_laysSteps_115 : decode cX1_laysSteps 115 = .ok (.putfield 271, 3) := dk_181 1 15 (dk_at dksX1_laysSteps_4 21 rfl rfl)
theorem dX1_laysSteps_118 : decode cX1_laysSteps 118 = .ok (.aload_n 0, 1) := dk_42 (dk_at dksX1_laysSteps_5 0 rfl rfl)
theorem dX1_laysSteps_119 : decode cX1_laysSteps 119 = .ok (.getfield 57, 3) := dk_180 0 57 (dk_at dksX1_laysSteps_5 1 rfl rfl)
theorem dX1_laysSteps_122 : decode cX1_laysSteps 122 = .ok (.aload_n 0, 1) := dk_42 (dk_at dksX1_laysSteps_5 4 rfl rfl)
theorem dX1_laysSteps_123 : decode cX1_laysSteps 123 = .ok (.getfield 271, 3) := dk_180 1 15 (dk_at dksX1_laysSteps_5 5 rfl rfl)
theorem dX1_laysSteps_126 : decode cX1_laysSteps 126 = .ok (.aload_n 0, 1) := dk_42 (dk_at dksX1_laysSteps_5 8 rfl rfl)
theorem dX1_laysSteps_127 : decode cX1_laysSteps 127 = .ok (.getfield 46, 3) := dk_180 0 46 (dk_at dksX1_laysSteps_5 9 rfl rfl)
theorem dX1_laysSteps_130 : decode cX1_laysSteps 130 = .ok (.getfield 234, 3) := dk_180 0 234 (dk_at dksX1_laysSteps_5 12 rfl rfl)
theorem dX1_laysSteps_133 : decode cX1_laysSteps 133 = .ok (.iload 4, 2) := dk_21 4 (dk_at dksX1_laysSteps_5 15 rfl rfl)
theorem dX1_laysSteps_135 : decode cX1_laysSteps 135 = .ok (.iaload, 1) := dk_46 (dk_at dksX1_laysSteps_5 17 rfl rfl)
theorem dX1_laysSteps_136 : decode cX1_laysSteps 136 = .ok (.iastore, 1) := dk_79 (dk_at dksX1_laysSteps_5 18 rfl rfl)
theorem dX1_laysSteps_137 : decode cX1_laysSteps 137 = .ok (.aload_n 0, 1) := dk_42 (dk_at dksX1_laysSteps_5 19 rfl rfl)
theorem dX1_laysSteps_138 : decode cX1_laysSteps 138 = .ok (.getfield 60, 3) := dk_180 0 60 (dk_at dksX1_laysSteps_5 20 rfl rfl)
theorem dX1_laysSteps_141 : decode cX1_laysSteps 141 = .ok (.aload_n 0, 1) := dk_42 (dk_at dksX1_laysSteps_5 23 rfl rfl)
theorem dX1_laysSteps_142 : decode cX1_laysSteps 142 = .ok (.getfield 271, 3) := dk_180 1 15 (dk_at dksX1_laysSteps_6 0 rfl rfl)
theorem dX1_laysSteps_145 : decode cX1_laysSteps 145 = .ok (.iload_n 3, 1) := dk_29 (dk_at dksX1_laysSteps_6 3 rfl rfl)
theorem dX1_laysSteps_146 : decode cX1_laysSteps 146 = .ok (.iastore, 1) := dk_79 (dk_at dksX1_laysSteps_6 4 rfl rfl)
theorem dX1_laysSteps_147 : decode cX1_laysSteps 147 = .ok (.aload_n 0, 1) := dk_42 (dk_at dksX1_laysSteps_6 5 rfl rfl)
theorem dX1_laysSteps_148 : decode cX1_laysSteps 148 = .ok (.dup, 1) := dk_89 (dk_at dksX1_laysSteps_6 6 rfl rfl)
theorem dX1_laysSteps_149 : decode cX1_laysSteps 149 = .ok (.getfield 271, 3) := dk_180 1 15 (dk_at dksX1_laysSteps_6 7 rfl rfl)
theorem dX1_laysSteps_152 : decode cX1_laysSteps 152 = .ok (.iconst 1, 1) := dk_4 (dk_at dksX1_laysSteps_6 10 rfl rfl)
theorem dX1_laysSteps_153 : decode cX1_laysSteps 153 = .ok (.iadd, 1) := dk_96 (dk_at dksX1_laysSteps_6 11 rfl rfl)
theorem dX1_laysSteps_154 : decode cX1_laysSteps 154 = .ok (.putfield 271, 3) := dk_181 1 15 (dk_at dksX1_laysSteps_6 12 rfl rfl)
theorem dX1_laysSteps_157 : decode cX1_laysSteps 157 = .ok (.iinc 4 (-1), 3) := dk_132 4 255 (dk_at dksX1_laysSteps_6 15 rfl rfl)
theorem dX1_laysSteps_160 : decode cX1_laysSteps 160 = .ok (.goto (-133), 3) := dk_167 255 123 (dk_at dksX1_laysSteps_6 18 rfl rfl)
theorem dX1_laysSteps_163 : decode cX1_laysSteps 163 = .ok (.return_, 1) := dk_177 (dk_at dksX1_laysSteps_6 21 rfl rfl)
abbrev cX1_step : ByteArray := prog_1_method_38_code
def yX1_step : MethodName := ⟨RX1, "step", "(IIII)I"⟩
def dkwX1_step_6 : List UInt8 := [172, 42, 4, 182, 0, 83, 172]
abbrev dktX1_step_6 : List UInt8 := dkwX1_step_6 ++ []
def dkwX1_step_5 : List UInt8 := [42, 42, 27, 28, 42, 180, 0, 57, 21, 5, 46, 42, 180, 0, 60, 21, 5, 46, 182, 1, 35, 182, 0, 143]
abbrev dktX1_step_5 : List UInt8 := dkwX1_step_5 ++ dktX1_step_6
def dkwX1_step_4 : List UInt8 := [42, 42, 180, 0, 57, 21, 5, 46, 182, 0, 143, 172, 42, 42, 180, 0, 60, 21, 5, 46, 182, 0, 143, 172]
abbrev dktX1_step_4 : List UInt8 := dkwX1_step_4 ++ dktX1_step_5
def dkwX1_step_3 : List UInt8 := [170, 0, 0, 0, 0, 0, 76, 0, 0, 0, 0, 0, 0, 0, 2, 0, 0, 0, 27, 0, 0, 0, 39, 0, 0, 0, 51]
abbrev dktX1_step_3 : List UInt8 := dkwX1_step_3 ++ dktX1_step_4
def dkwX1_step_2 : List UInt8 := [100, 54, 5, 21, 4]
abbrev dktX1_step_2 : List UInt8 := dkwX1_step_2 ++ dktX1_step_3
def dkwX1_step_1 : List UInt8 := [180, 1, 15, 4, 100, 184, 0, 79, 154, 0, 9, 42, 4, 182, 0, 83, 172, 42, 180, 1, 15, 4, 100, 29]
abbrev dktX1_step_1 : List UInt8 := dkwX1_step_1 ++ dktX1_step_2
def dkwX1_step_0 : List UInt8 := [42, 27, 28, 182, 1, 21, 154, 0, 9, 42, 4, 182, 0, 83, 172, 42, 27, 28, 182, 1, 25, 29, 3, 42]
abbrev dktX1_step_0 : List UInt8 := dkwX1_step_0 ++ dktX1_step_1
theorem dksX1_step_0 : cX1_step.data.toList.drop 0 = dktX1_step_0 := by decide +kernel
theorem dksX1_step_1 : cX1_step.data.toList.drop 24 = dktX1_step_1 := dk_seg dksX1_step_0 24 rfl rfl
theorem dksX1_step_2 : cX1_step.data.toList.drop 48 = dktX1_step_2 := dk_seg dksX1_step_1 24 rfl rfl
theorem dksX1_step_3 : cX1_step.data.toList.drop 53 = dktX1_step_3 := dk_seg dksX1_step_2 5 rfl rfl
theorem dksX1_step_4 : cX1_step.data.toList.drop 80 = dktX1_step_4 := dk_seg dksX1_step_3 27 rfl rfl
theorem dksX1_step_5 : cX1_step.data.toList.drop 104 = dktX1_step_5 := dk_seg dksX1_step_4 24 rfl rfl
theorem dksX1_step_6 : cX1_step.data.toList.drop 128 = dktX1_step_6 := dk_seg dksX1_step_5 24 rfl rfl
theorem dX1_step_0 : decode cX1_step 0 = .ok (.aload_n 0, 1) := dk_42 (dk_at dksX1_step_0 0 rfl rfl)
theorem dX1_step_1 : decode cX1_step 1 = .ok (.iload_n 1, 1) := dk_27 (dk_at dksX1_step_0 1 rfl rfl)
theorem dX1_step_2 : decode cX1_step 2 = .ok (.iload_n 2, 1) := dk_28 (dk_at dksX1_step_0 2 rfl rfl)
theorem dX1_step_3 : decode cX1_step 3 = .ok (.invokevirtual 277, 3) := dk_182 1 21 (dk_at dksX1_step_0 3 rfl rfl)
theorem dX1_step_6 : decode cX1_step 6 = .ok (.ifCond .ne 9, 3) := dk_154 0 9 (dk_at dksX1_step_0 6 rfl rfl)
theorem dX1_step_9 : decode cX1_step 9 = .ok (.aload_n 0, 1) := dk_42 (dk_at dksX1_step_0 9 rfl rfl)
theorem dX1_step_10 : decode cX1_step 10 = .ok (.iconst 1, 1) := dk_4 (dk_at dksX1_step_0 10 rfl rfl)
theorem dX1_step_11 : decode cX1_step 11 = .ok (.invokevirtual 83, 3) := dk_182 0 83 (dk_at dksX1_step_0 11 rfl rfl)
theorem dX1_step_14 : decode cX1_step 14 = .ok (.ireturn, 1) := dk_172 (dk_at dksX1_step_0 14 rfl rfl)
theorem dX1_step_15 : decode cX1_step 15 = .ok (.aload_n 0, 1) := dk_42 (dk_at dksX1_step_0 15 rfl rfl)
theorem dX1_step_16 : decode cX1_step 16 = .ok (.iload_n 1, 1) := dk_27 (dk_at dksX1_step_0 16 rfl rfl)
theorem dX1_step_17 : decode cX1_step 17 = .ok (.iload_n 2, 1) := dk_28 (dk_at dksX1_step_0 17 rfl rfl)
theorem dX1_step_18 : decode cX1_step 18 = .ok (.invokevirtual 281, 3) := dk_182 1 25 (dk_at dksX1_step_0 18 rfl rfl)
theorem dX1_step_21 : decode cX1_step 21 = .ok (.iload_n 3, 1) := dk_29 (dk_at dksX1_step_0 21 rfl rfl)
theorem dX1_step_22 : decode cX1_step 22 = .ok (.iconst 0, 1) := dk_3 (dk_at dksX1_step_0 22 rfl rfl)
theorem dX1_step_23 : decode cX1_step 23 = .ok (.aload_n 0, 1) := dk_42 (dk_at dksX1_step_0 23 rfl rfl)
theorem dX1_step_24 : decode cX1_step 24 = .ok (.getfield 271, 3) := dk_180 1 15 (dk_at dksX1_step_1 0 rfl rfl)
theorem dX1_step_27 : decode cX1_step 27 = .ok (.iconst 1, 1) := dk_4 (dk_at dksX1_step_1 3 rfl rfl)
theorem dX1_step_28 : decode cX1_step 28 = .ok (.isub, 1) := dk_100 (dk_at dksX1_step_1 4 rfl rfl)
theorem dX1_step_29 : decode cX1_step 29 = .ok (.invokestatic 79, 3) := dk_184 0 79 (dk_at dksX1_step_1 5 rfl rfl)
theorem dX1_step_32 : decode cX1_step 32 = .ok (.ifCond .ne 9, 3) := dk_154 0 9 (dk_at dksX1_step_1 8 rfl rfl)
theorem dX1_step_35 : decode cX1_step 35 = .ok (.aload_n 0, 1) := dk_42 (dk_at dksX1_step_1 11 rfl rfl)
theorem dX1_step_36 : decode cX1_step 36 = .ok (.iconst 1, 1) := dk_4 (dk_at dksX1_step_1 12 rfl rfl)
theorem dX1_step_37 : decode cX1_step 37 = .ok (.invokevirtual 83, 3) := dk_182 0 83 (dk_at dksX1_step_1 13 rfl rfl)
theorem dX1_step_40 : decode cX1_step 40 = .ok (.ireturn, 1) := dk_172 (dk_at dksX1_step_1 16 rfl rfl)
theorem dX1_step_41 : decode cX1_step 41 = .ok (.aload_n 0, 1) := dk_42 (dk_at dksX1_step_1 17 rfl rfl)
theorem dX1_step_42 : decode cX1_step 42 = .ok (.getfield 271, 3) := dk_180 1 15 (dk_at dksX1_step_1 18 rfl rfl)
theorem dX1_step_45 : decode cX1_step 45 = .ok (.iconst 1, 1) := dk_4 (dk_at dksX1_step_1 21 rfl rfl)
theorem dX1_step_46 : decode cX1_step 46 = .ok (.isub, 1) := dk_100 (dk_at dksX1_step_1 22 rfl rfl)
theorem dX1_step_47 : decode cX1_step 47 = .ok (.iload_n 3, 1) := dk_29 (dk_at dksX1_step_1 23 rfl rfl)
theorem dX1_step_48 : decode cX1_step 48 = .ok (.isub, 1) := dk_100 (dk_at dksX1_step_2 0 rfl rfl)
theorem dX1_step_49 : decode cX1_step 49 = .ok (.istore 5, 2) := dk_54 5 (dk_at dksX1_step_2 1 rfl rfl)
theorem dX1_step_51 : decode cX1_step 51 = .ok (.iload 4, 2) := dk_21 4 (dk_at dksX1_step_2 3 rfl rfl)
theorem dX1_step_53 : decode cX1_step 53 = .ok (.tableswitch 76 0 2 #[27, 39, 51], 27) := by decide +kernel
theorem dX1_step_80 : decode cX1_step 80 = .ok (.aload_n 0, 1) := dk_42 (dk_at dksX1_step_4 0 rfl rfl)
theorem dX1_step_81 : decode cX1_step 81 = .ok (.aload_n 0, 1) := dk_42 (dk_at dksX1_step_4 1 rfl rfl)
theorem dX1_step_82 : decode cX1_step 82 = .ok (.getfield 57, 3) := dk_180 0 57 (dk_at dksX1_step_4 2 rfl rfl)
theorem dX1_step_85 : decode cX1_step 85 = .ok (.iload 5, 2) := dk_21 5 (dk_at dksX1_step_4 5 rfl rfl)
theorem dX1_step_87 : decode cX1_step 87 = .ok (.iaload, 1) := dk_46 (dk_at dksX1_step_4 7 rfl rfl)
theorem dX1_step_88 : decode cX1_step 88 = .ok (.invokevirtual 143, 3) := dk_182 0 143 (dk_at dksX1_step_4 8 rfl rfl)
theorem dX1_step_91 : decode cX1_step 91 = .ok (.ireturn, 1) := dk_172 (dk_at dksX1_step_4 11 rfl rfl)
theorem dX1_step_92 : decode cX1_step 92 = .ok (.aload_n 0, 1) := dk_42 (dk_at dksX1_step_4 12 rfl rfl)
theorem dX1_step_93 : decode cX1_step 93 = .ok (.aload_n 0, 1) := dk_42 (dk_at dksX1_step_4 13 rfl rfl)
theorem dX1_step_94 : decode cX1_step 94 = .ok (.getfield 60, 3) := dk_180 0 60 (dk_at dksX1_step_4 14 rfl rfl)
theorem dX1_step_97 : decode cX1_step 97 = .ok (.iload 5, 2) := dk_21 5 (dk_at dksX1_step_4 17 rfl rfl)
theorem dX1_step_99 : decode cX1_step 99 = .ok (.iaload, 1) := dk_46 (dk_at dksX1_step_4 19 rfl rfl)
theorem dX1_step_100 : decode cX1_step 100 = .ok (.invokevirtual 143, 3) := dk_182 0 143 (dk_at dksX1_step_4 20 rfl rfl)
theorem dX1_step_103 : decode cX1_step 103 = .ok (.ireturn, 1) := dk_172 (dk_at dksX1_step_4 23 rfl rfl)
theorem dX1_step_104 : decode cX1_step 104 = .ok (.aload_n 0, 1) := dk_42 (dk_at dksX1_step_5 0 rfl rfl)
theorem dX1_step_105 : decode cX1_step 105 = .ok (.aload_n 0, 1) := dk_42 (dk_at dksX1_step_5 1 rfl rfl)
theorem dX1_step_106 : decode cX1_step 106 = .ok (.iload_n 1, 1) := dk_27 (dk_at dksX1_step_5 2 rfl rfl)
theorem dX1_step_107 : decode cX1_step 107 = .ok (.iload_n 2, 1) := dk_28 (dk_at dksX1_step_5 3 rfl rfl)
theorem dX1_step_108 : decode cX1_step 108 = .ok (.aload_n 0, 1) := dk_42 (dk_at dksX1_step_5 4 rfl rfl)
theorem dX1_step_109 : decode cX1_step 109 = .ok (.getfield 57, 3) := dk_180 0 57 (dk_at dksX1_step_5 5 rfl rfl)
theorem dX1_step_112 : decode cX1_step 112 = .ok (.iload 5, 2) := dk_21 5 (dk_at dksX1_step_5 8 rfl rfl)
theorem dX1_step_114 : decode cX1_step 114 = .ok (.iaload, 1) := dk_46 (dk_at dksX1_step_5 10 rfl rfl)
theorem dX1_step_115 : decode cX1_step 115 = .ok (.aload_n 0, 1) := dk_42 (dk_at dksX1_step_5 11 rfl rfl)
theorem dX1_step_116 : decode cX1_step 116 = .ok (.getfield 60, 3) := dk_180 0 60 (dk_at dksX1_step_5 12 rfl rfl)
theorem dX1_step_119 : decode cX1_step 119 = .ok (.iload 5, 2) := dk_21 5 (dk_at dksX1_step_5 15 rfl rfl)
theorem dX1_step_121 : decode cX1_step 121 = .ok (.iaload, 1) := dk_46 (dk_at dksX1_step_5 17 rfl rfl)
theorem dX1_step_122 : decode cX1_step 122 = .ok (.invokevirtual 291, 3) := dk_182 1 35 (dk_at dksX1_step_5 18 rfl rfl)
theorem dX1_step_125 : decode cX1_step 125 = .ok (.invokevirtual 143, 3) := dk_182 0 143 (dk_at dksX1_step_5 21 rfl rfl)
theorem dX1_step_128 : decode cX1_step 128 = .ok (.ireturn, 1) := dk_172 (dk_at dksX1_step_6 0 rfl rfl)
theorem dX1_step_129 : decode cX1_step 129 = .ok (.aload_n 0, 1) := dk_42 (dk_at dksX1_step_6 1 rfl rfl)
theorem dX1_step_130 : decode cX1_step 130 = .ok (.iconst 1, 1) := dk_4 (dk_at dksX1_step_6 2 rfl rfl)
theorem dX1_step_131 : decode cX1_step 131 = .ok (.invokevirtual 83, 3) := dk_182 0 83 (dk_at dksX1_step_6 3 rfl rfl)
theorem dX1_step_134 : decode cX1_step 134 = .ok (.ireturn, 1) := dk_172 (dk_at dksX1_step_6 6 rfl rfl)
abbrev cX1_changesOf : ByteArray := prog_1_method_37_code
def yX1_changesOf : MethodName := ⟨RX1, "changesOf", "(IIII)I"⟩
def dkwX1_changesOf_3 : List UInt8 := [46, 184, 1, 32, 54, 5, 132, 6, 1, 167, 255, 193, 21, 5, 172]
abbrev dktX1_changesOf_3 : List UInt8 := dkwX1_changesOf_3 ++ []
def dkwX1_changesOf_2 : List UInt8 := [180, 0, 46, 180, 0, 234, 21, 6, 46, 29, 160, 0, 20, 21, 5, 42, 180, 0, 46, 180, 0, 231, 21, 6]
abbrev dktX1_changesOf_2 : List UInt8 := dkwX1_changesOf_2 ++ dktX1_changesOf_3
def dkwX1_changesOf_1 : List UInt8 := [180, 1, 18, 162, 0, 57, 42, 180, 0, 46, 180, 0, 242, 21, 6, 50, 180, 0, 163, 27, 160, 0, 34, 42]
abbrev dktX1_changesOf_1 : List UInt8 := dkwX1_changesOf_1 ++ dktX1_changesOf_2
def dkwX1_changesOf_0 : List UInt8 := [42, 180, 0, 46, 28, 21, 4, 182, 1, 29, 18, 248, 54, 5, 3, 54, 6, 21, 6, 42, 180, 0, 46]
abbrev dktX1_changesOf_0 : List UInt8 := dkwX1_changesOf_0 ++ dktX1_changesOf_1
theorem dksX1_changesOf_0 : cX1_changesOf.data.toList.drop 0 = dktX1_changesOf_0 := by decide +kernel
theorem dksX1_changesOf_1 : cX1_changesOf.data.toList.drop 23 = dktX1_changesOf_1 := dk_seg dksX1_changesOf_0 23 rfl rfl
theorem dksX1_changesOf_2 : cX1_changesOf.data.toList.drop 47 = dktX1_changesOf_2 := dk_seg dksX1_changesOf_1 24 rfl rfl
theorem dksX1_changesOf_3 : cX1_changesOf.data.toList.drop 71 = dktX1_changesOf_3 := dk_seg dksX1_changesOf_2 24 rfl rfl
theorem dX1_changesOf_0 : decode cX1_changesOf 0 = .ok (.aload_n 0, 1) := dk_42 (dk_at dksX1_changesOf_0 0 rfl rfl)
theorem dX1_changesOf_1 : decode cX1_changesOf 1 = .ok (.getfield 46, 3) := dk_180 0 46 (dk_at dksX1_changesOf_0 1 rfl rfl)
theorem dX1_changesOf_4 : decode cX1_changesOf 4 = .ok (.iload_n 2, 1) := dk_28 (dk_at dksX1_changesOf_0 4 rfl rfl)
theorem dX1_changesOf_5 : decode cX1_changesOf 5 = .ok (.iload 4, 2) := dk_21 4 (dk_at dksX1_changesOf_0 5 rfl rfl)
theorem dX1_changesOf_7 : decode cX1_changesOf 7 = .ok (.invokevirtual 285, 3) := dk_182 1 29 (dk_at dksX1_changesOf_0 7 rfl rfl)
theorem dX1_changesOf_10 : decode cX1_changesOf 10 = .ok (.ldc 248, 2) := dk_18 248 (dk_at dksX1_changesOf_0 10 rfl rfl)
theorem dX1_changesOf_12 : decode cX1_changesOf 12 = .ok (.istore 5, 2) := dk_54 5 (dk_at dksX1_changesOf_0 12 rfl rfl)
theorem dX1_changesOf_14 : decode cX1_changesOf 14 = .ok (.iconst 0, 1) := dk_3 (dk_at dksX1_changesOf_0 14 rfl rfl)
theorem dX1_changesOf_15 : decode cX1_changesOf 15 = .ok (.istore 6, 2) := dk_54 6 (dk_at dksX1_changesOf_0 15 rfl rfl)
theorem dX1_changesOf_17 : decode cX1_changesOf 17 = .ok (.iload 6, 2) := dk_21 6 (dk_at dksX1_changesOf_0 17 rfl rfl)
theorem dX1_changesOf_19 : decode cX1_changesOf 19 = .ok (.aload_n 0, 1) := dk_42 (dk_at dksX1_changesOf_0 19 rfl rfl)
theorem dX1_changesOf_20 : decode cX1_changesOf 20 = .ok (.getfield 46, 3) := dk_180 0 46 (dk_at dksX1_changesOf_0 20 rfl rfl)
theorem dX1_changesOf_23 : decode cX1_changesOf 23 = .ok (.getfield 274, 3) := dk_180 1 18 (dk_at dksX1_changesOf_1 0 rfl rfl)
theorem dX1_changesOf_26 : decode cX1_changesOf 26 = .ok (.if_icmp .ge 57, 3) := dk_162 0 57 (dk_at dksX1_changesOf_1 3 rfl rfl)
theorem dX1_changesOf_29 : decode cX1_changesOf 29 = .ok (.aload_n 0, 1) := dk_42 (dk_at dksX1_changesOf_1 6 rfl rfl)
theorem dX1_changesOf_30 : decode cX1_changesOf 30 = .ok (.getfield 46, 3) := dk_180 0 46 (dk_at dksX1_changesOf_1 7 rfl rfl)
theorem dX1_changesOf_33 : decode cX1_changesOf 33 = .ok (.getfield 242, 3) := dk_180 0 242 (dk_at dksX1_changesOf_1 10 rfl rfl)
theorem dX1_changesOf_36 : decode cX1_changesOf 36 = .ok (.iload 6, 2) := dk_21 6 (dk_at dksX1_changesOf_1 13 rfl rfl)
theorem dX1_changesOf_38 : decode cX1_changesOf 38 = .ok (.aaload, 1) := dk_50 (dk_at dksX1_changesOf_1 15 rfl rfl)
theorem dX1_changesOf_39 : decode cX1_changesOf 39 = .ok (.getfield 163, 3) := dk_180 0 163 (dk_at dksX1_changesOf_1 16 rfl rfl)
theorem dX1_changesOf_42 : decode cX1_changesOf 42 = .ok (.iload_n 1, 1) := dk_27 (dk_at dksX1_changesOf_1 19 rfl rfl)
theorem dX1_changesOf_43 : decode cX1_changesOf 43 = .ok (.if_icmp .ne 34, 3) := dk_160 0 34 (dk_at dksX1_changesOf_1 20 rfl rfl)
theorem dX1_changesOf_46 : decode cX1_changesOf 46 = .ok (.aload_n 0, 1) := dk_42 (dk_at dksX1_changesOf_1 23 rfl rfl)
theorem dX1_changesOf_47 : decode cX1_changesOf 47 = .ok (.getfield 46, 3) := dk_180 0 46 (dk_at dksX1_changesOf_2 0 rfl rfl)
theorem dX1_changesOf_50 : decode cX1_changesOf 50 = .ok (.getfield 234, 3) := dk_180 0 234 (dk_at dksX1_changesOf_2 3 rfl rfl)
theorem dX1_changesOf_53 : decode cX1_changesOf 53 = .ok (.iload 6, 2) := dk_21 6 (dk_at dksX1_changesOf_2 6 rfl rfl)
theorem dX1_changesOf_55 : decode cX1_changesOf 55 = .ok (.iaload, 1) := dk_46 (dk_at dksX1_changesOf_2 8 rfl rfl)
theorem dX1_changesOf_56 : decode cX1_changesOf 56 = .ok (.iload_n 3, 1) := dk_29 (dk_at dksX1_changesOf_2 9 rfl rfl)
theorem dX1_changesOf_57 : decode cX1_changesOf 57 = .ok (.if_icmp .ne 20, 3) := dk_160 0 20 (dk_at dksX1_changesOf_2 10 rfl rfl)
theorem dX1_changesOf_60 : decode cX1_changesOf 60 = .ok (.iload 5, 2) := dk_21 5 (dk_at dksX1_changesOf_2 13 rfl rfl)
theorem dX1_changesOf_62 : decode cX1_changesOf 62 = .ok (.aload_n 0, 1) := dk_42 (dk_at dksX1_changesOf_2 15 rfl rfl)
theorem dX1_changesOf_63 : decode cX1_changesOf 63 = .ok (.getfield 46, 3) := dk_180 0 46 (dk_at dksX1_changesOf_2 16 rfl rfl)
theorem dX1_changesOf_66 : decode cX1_changesOf 66 = .ok (.getfield 231, 3) := dk_180 0 231 (dk_at dksX1_changesOf_2 19 rfl rfl)
theorem dX1_changesOf_69 : decode cX1_changesOf 69 = .ok (.iload 6, 2) := dk_21 6 (dk_at dksX1_changesOf_2 22 rfl rfl)
theorem dX1_changesOf_71 : decode cX1_changesOf 71 = .ok (.iaload, 1) := dk_46 (dk_at dksX1_changesOf_3 0 rfl rfl)
theorem dX1_changesOf_72 : decode cX1_changesOf 72 = .ok (.invokestatic 288, 3) := dk_184 1 32 (dk_at dksX1_changesOf_3 1 rfl rfl)
theorem dX1_changesOf_75 : decode cX1_changesOf 75 = .ok (.istore 5, 2) := dk_54 5 (dk_at dksX1_changesOf_3 4 rfl rfl)
theorem dX1_changesOf_77 : decode cX1_changesOf 77 = .ok (.iinc 6 1, 3) := dk_132 6 1 (dk_at dksX1_changesOf_3 6 rfl rfl)
theorem dX1_changesOf_80 : decode cX1_changesOf 80 = .ok (.goto (-63), 3) := dk_167 255 193 (dk_at dksX1_changesOf_3 9 rfl rfl)
theorem dX1_changesOf_83 : decode cX1_changesOf 83 = .ok (.iload 5, 2) := dk_21 5 (dk_at dksX1_changesOf_3 12 rfl rfl)
theorem dX1_changesOf_85 : decode cX1_changesOf 85 = .ok (.ireturn, 1) := dk_172 (dk_at dksX1_changesOf_3 14 rfl rfl)
abbrev cX1_quickest : ByteArray := prog_1_method_39_code
def yX1_quickest : MethodName := ⟨RX1, "quickest", "(II)I"⟩
def dkwX1_quickest_3 : List UInt8 := [167, 0, 4, 29, 182, 0, 143, 172]
abbrev dktX1_quickest_3 : List UInt8 := dkwX1_quickest_3 ++ []
def dkwX1_quickest_2 : List UInt8 := [21, 4, 46, 100, 184, 1, 32, 62, 132, 4, 1, 167, 255, 224, 42, 29, 18, 248, 160, 0, 8, 16, 254]
abbrev dktX1_quickest_2 : List UInt8 := dkwX1_quickest_2 ++ dktX1_quickest_3
def dkwX1_quickest_1 : List UInt8 := [3, 54, 4, 21, 4, 42, 180, 1, 15, 162, 0, 29, 29, 42, 180, 0, 60, 21, 4, 46, 42, 180, 0, 57]
abbrev dktX1_quickest_1 : List UInt8 := dkwX1_quickest_1 ++ dktX1_quickest_2
def dkwX1_quickest_0 : List UInt8 := [42, 27, 28, 182, 1, 21, 154, 0, 9, 42, 4, 182, 0, 83, 172, 42, 27, 28, 182, 1, 25, 18, 248, 62]
abbrev dktX1_quickest_0 : List UInt8 := dkwX1_quickest_0 ++ dktX1_quickest_1
theorem dksX1_quickest_0 : cX1_quickest.data.toList.drop 0 = dktX1_quickest_0 := by decide +kernel
theorem dksX1_quickest_1 : cX1_quickest.data.toList.drop 24 = dktX1_quickest_1 := dk_seg dksX1_quickest_0 24 rfl rfl
theorem dksX1_quickest_2 : cX1_quickest.data.toList.drop 48 = dktX1_quickest_2 := dk_seg dksX1_quickest_1 24 rfl rfl
theorem dksX1_quickest_3 : cX1_quickest.data.toList.drop 71 = dktX1_quickest_3 := dk_seg dksX1_quickest_2 23 rfl rfl
theorem dX1_quickest_0 : decode cX1_quickest 0 = .ok (.aload_n 0, 1) := dk_42 (dk_at dksX1_quickest_0 0 rfl rfl)
theorem dX1_quickest_1 : decode cX1_quickest 1 = .ok (.iload_n 1, 1) := dk_27 (dk_at dksX1_quickest_0 1 rfl rfl)
theorem dX1_quickest_2 : decode cX1_quickest 2 = .ok (.iload_n 2, 1) := dk_28 (dk_at dksX1_quickest_0 2 rfl rfl)
theorem dX1_quickest_3 : decode cX1_quickest 3 = .ok (.invokevirtual 277, 3) := dk_182 1 21 (dk_at dksX1_quickest_0 3 rfl rfl)
theorem dX1_quickest_6 : decode cX1_quickest 6 = .ok (.ifCond .ne 9, 3) := dk_154 0 9 (dk_at dksX1_quickest_0 6 rfl rfl)
theorem dX1_quickest_9 : decode cX1_quickest 9 = .ok (.aload_n 0, 1) := dk_42 (dk_at dksX1_quickest_0 9 rfl rfl)
theorem dX1_quickest_10 : decode cX1_quickest 10 = .ok (.iconst 1, 1) := dk_4 (dk_at dksX1_quickest_0 10 rfl rfl)
theorem dX1_quickest_11 : decode cX1_quickest 11 = .ok (.invokevirtual 83, 3) := dk_182 0 83 (dk_at dksX1_quickest_0 11 rfl rfl)
theorem dX1_quickest_14 : decode cX1_quickest 14 = .ok (.ireturn, 1) := dk_172 (dk_at dksX1_quickest_0 14 rfl rfl)
theorem dX1_quickest_15 : decode cX1_quickest 15 = .ok (.aload_n 0, 1) := dk_42 (dk_at dksX1_quickest_0 15 rfl rfl)
theorem dX1_quickest_16 : decode cX1_quickest 16 = .ok (.iload_n 1, 1) := dk_27 (dk_at dksX1_quickest_0 16 rfl rfl)
theorem dX1_quickest_17 : decode cX1_quickest 17 = .ok (.iload_n 2, 1) := dk_28 (dk_at dksX1_quickest_0 17 rfl rfl)
theorem dX1_quickest_18 : decode cX1_quickest 18 = .ok (.invokevirtual 281, 3) := dk_182 1 25 (dk_at dksX1_quickest_0 18 rfl rfl)
theorem dX1_quickest_21 : decode cX1_quickest 21 = .ok (.ldc 248, 2) := dk_18 248 (dk_at dksX1_quickest_0 21 rfl rfl)
theorem dX1_quickest_23 : decode cX1_quickest 23 = .ok (.istore_n 3, 1) := dk_62 (dk_at dksX1_quickest_0 23 rfl rfl)
theorem dX1_quickest_24 : decode cX1_quickest 24 = .ok (.iconst 0, 1) := dk_3 (dk_at dksX1_quickest_1 0 rfl rfl)
theorem dX1_quickest_25 : decode cX1_quickest 25 = .ok (.istore 4, 2) := dk_54 4 (dk_at dksX1_quickest_1 1 rfl rfl)
theorem dX1_quickest_27 : decode cX1_quickest 27 = .ok (.iload 4, 2) := dk_21 4 (dk_at dksX1_quickest_1 3 rfl rfl)
theorem dX1_quickest_29 : decode cX1_quickest 29 = .ok (.aload_n 0, 1) := dk_42 (dk_at dksX1_quickest_1 5 rfl rfl)
theorem dX1_quickest_30 : decode cX1_quickest 30 = .ok (.getfield 271, 3) := dk_180 1 15 (dk_at dksX1_quickest_1 6 rfl rfl)
theorem dX1_quickest_33 : decode cX1_quickest 33 = .ok (.if_icmp .ge 29, 3) := dk_162 0 29 (dk_at dksX1_quickest_1 9 rfl rfl)
theorem dX1_quickest_36 : decode cX1_quickest 36 = .ok (.iload_n 3, 1) := dk_29 (dk_at dksX1_quickest_1 12 rfl rfl)
theorem dX1_quickest_37 : decode cX1_quickest 37 = .ok (.aload_n 0, 1) := dk_42 (dk_at dksX1_quickest_1 13 rfl rfl)
theorem dX1_quickest_38 : decode cX1_quickest 38 = .ok (.getfield 60, 3) := dk_180 0 60 (dk_at dksX1_quickest_1 14 rfl rfl)
theorem dX1_quickest_41 : decode cX1_quickest 41 = .ok (.iload 4, 2) := dk_21 4 (dk_at dksX1_quickest_1 17 rfl rfl)
theorem dX1_quickest_43 : decode cX1_quickest 43 = .ok (.iaload, 1) := dk_46 (dk_at dksX1_quickest_1 19 rfl rfl)
theorem dX1_quickest_44 : decode cX1_quickest 44 = .ok (.aload_n 0, 1) := dk_42 (dk_at dksX1_quickest_1 20 rfl rfl)
theorem dX1_quickest_45 : decode cX1_quickest 45 = .ok (.getfield 57, 3) := dk_180 0 57 (dk_at dksX1_quickest_1 21 rfl rfl)
theorem dX1_quickest_48 : decode cX1_quickest 48 = .ok (.iload 4, 2) := dk_21 4 (dk_at dksX1_quickest_2 0 rfl rfl)
theorem dX1_quickest_50 : decode cX1_quickest 50 = .ok (.iaload, 1) := dk_46 (dk_at dksX1_quickest_2 2 rfl rfl)
theorem dX1_quickest_51 : decode cX1_quickest 51 = .ok (.isub, 1) := dk_100 (dk_at dksX1_quickest_2 3 rfl rfl)
theorem dX1_quickest_52 : decode cX1_quickest 52 = .ok (.invokestatic 288, 3) := dk_184 1 32 (dk_at dksX1_quickest_2 4 rfl rfl)
theorem dX1_quickest_55 : decode cX1_quickest 55 = .ok (.istore_n 3, 1) := dk_62 (dk_at dksX1_quickest_2 7 rfl rfl)
theorem dX1_quickest_56 : decode cX1_quickest 56 = .ok (.iinc 4 1, 3) := dk_132 4 1 (dk_at dksX1_quickest_2 8 rfl rfl)
theorem dX1_quickest_59 : decode cX1_quickest 59 = .ok (.goto (-32), 3) := dk_167 255 224 (dk_at dksX1_quickest_2 11 rfl rfl)
theorem dX1_quickest_62 : decode cX1_quickest 62 = .ok (.aload_n 0, 1) := dk_42 (dk_at dksX1_quickest_2 14 rfl rfl)
theorem dX1_quickest_63 : decode cX1_quickest 63 = .ok (.iload_n 3, 1) := dk_29 (dk_at dksX1_quickest_2 15 rfl rfl)
theorem dX1_quickest_64 : decode cX1_quickest 64 = .ok (.ldc 248, 2) := dk_18 248 (dk_at dksX1_quickest_2 16 rfl rfl)
theorem dX1_quickest_66 : decode cX1_quickest 66 = .ok (.if_icmp .ne 8, 3) := dk_160 0 8 (dk_at dksX1_quickest_2 18 rfl rfl)
theorem dX1_quickest_69 : decode cX1_quickest 69 = .ok (.bipush (-2), 2) := dk_16 254 (dk_at dksX1_quickest_2 21 rfl rfl)
theorem dX1_quickest_71 : decode cX1_quickest 71 = .ok (.goto 4, 3) := dk_167 0 4 (dk_at dksX1_quickest_3 0 rfl rfl)
theorem dX1_quickest_74 : decode cX1_quickest 74 = .ok (.iload_n 3, 1) := dk_29 (dk_at dksX1_quickest_3 3 rfl rfl)
theorem dX1_quickest_75 : decode cX1_quickest 75 = .ok (.invokevirtual 143, 3) := dk_182 0 143 (dk_at dksX1_quickest_3 4 rfl rfl)
theorem dX1_quickest_78 : decode cX1_quickest 78 = .ok (.ireturn, 1) := dk_172 (dk_at dksX1_quickest_3 7 rfl rfl)
abbrev cX1_spent : ByteArray := prog_1_method_40_code
def yX1_spent : MethodName := ⟨RX1, "spent", "(IIII)I"⟩
def dkwX1_spent_5 : List UInt8 := [96, 54, 5, 132, 7, 1, 167, 255, 196, 42, 21, 5, 182, 0, 143, 172]
abbrev dktX1_spent_5 : List UInt8 := dkwX1_spent_5 ++ []
def dkwX1_spent_4 : List UInt8 := [21, 6, 156, 0, 10, 42, 16, 254, 182, 0, 143, 172, 21, 5, 42, 180, 0, 60, 21, 6, 46, 21, 7, 100]
abbrev dktX1_spent_4 : List UInt8 := dkwX1_spent_4 ++ dktX1_spent_5
def dkwX1_spent_3 : List UInt8 := [21, 6, 155, 0, 21, 42, 180, 0, 57, 21, 6, 46, 21, 7, 162, 0, 9, 132, 6, 255, 167, 255, 236]
abbrev dktX1_spent_3 : List UInt8 := dkwX1_spent_3 ++ dktX1_spent_4
def dkwX1_spent_2 : List UInt8 := [182, 1, 25, 3, 54, 5, 42, 180, 1, 15, 4, 100, 54, 6, 29, 54, 7, 21, 7, 21, 4, 163, 0, 59]
abbrev dktX1_spent_2 : List UInt8 := dkwX1_spent_2 ++ dktX1_spent_3
def dkwX1_spent_1 : List UInt8 := [153, 0, 15, 21, 4, 29, 17, 7, 207, 184, 0, 79, 154, 0, 9, 42, 5, 182, 0, 83, 172, 42, 27, 28]
abbrev dktX1_spent_1 : List UInt8 := dkwX1_spent_1 ++ dktX1_spent_2
def dkwX1_spent_0 : List UInt8 := [42, 27, 28, 182, 1, 21, 154, 0, 9, 42, 4, 182, 0, 83, 172, 29, 3, 17, 7, 207, 184, 0, 79]
abbrev dktX1_spent_0 : List UInt8 := dkwX1_spent_0 ++ dktX1_spent_1
theorem dksX1_spent_0 : cX1_spent.data.toList.drop 0 = dktX1_spent_0 := by decide +kernel
theorem dksX1_spent_1 : cX1_spent.data.toList.drop 23 = dktX1_spent_1 := dk_seg dksX1_spent_0 23 rfl rfl
theorem dksX1_spent_2 : cX1_spent.data.toList.drop 47 = dktX1_spent_2 := dk_seg dksX1_spent_1 24 rfl rfl
theorem dksX1_spent_3 : cX1_spent.data.toList.drop 71 = dktX1_spent_3 := dk_seg dksX1_spent_2 24 rfl rfl
theorem dksX1_spent_4 : cX1_spent.data.toList.drop 94 = dktX1_spent_4 := dk_seg dksX1_spent_3 23 rfl rfl
theorem dksX1_spent_5 : cX1_spent.data.toList.drop 118 = dktX1_spent_5 := dk_seg dksX1_spent_4 24 rfl rfl
theorem dX1_spent_0 : decode cX1_spent 0 = .ok (.aload_n 0, 1) := dk_42 (dk_at dksX1_spent_0 0 rfl rfl)
theorem dX1_spent_1 : decode cX1_spent 1 = .ok (.iload_n 1, 1) := dk_27 (dk_at dksX1_spent_0 1 rfl rfl)
theorem dX1_spent_2 : decode cX1_spent 2 = .ok (.iload_n 2, 1) := dk_28 (dk_at dksX1_spent_0 2 rfl rfl)
theorem dX1_spent_3 : decode cX1_spent 3 = .ok (.invokevirtual 277, 3) := dk_182 1 21 (dk_at dksX1_spent_0 3 rfl rfl)
theorem dX1_spent_6 : decode cX1_spent 6 = .ok (.ifCond .ne 9, 3) := dk_154 0 9 (dk_at dksX1_spent_0 6 rfl rfl)
theorem dX1_spent_9 : decode cX1_spent 9 = .ok (.aload_n 0, 1) := dk_42 (dk_at dksX1_spent_0 9 rfl rfl)
theorem dX1_spent_10 : decode cX1_spent 10 = .ok (.iconst 1, 1) := dk_4 (dk_at dksX1_spent_0 10 rfl rfl)
theorem dX1_spent_11 : decode cX1_spent 11 = .ok (.invokevirtual 83, 3) := dk_182 0 83 (dk_at dksX1_spent_0 11 rfl rfl)
theorem dX1_spent_14 : decode cX1_spent 14 = .ok (.ireturn, 1) := dk_172 (dk_at dksX1_spent_0 14 rfl rfl)
theorem dX1_spent_15 : decode cX1_spent 15 = .ok (.iload_n 3, 1) := dk_29 (dk_at dksX1_spent_0 15 rfl rfl)
theorem dX1_spent_16 : decode cX1_spent 16 = .ok (.iconst 0, 1) := dk_3 (dk_at dksX1_spent_0 16 rfl rfl)
theorem dX1_spent_17 : decode cX1_spent 17 = .ok (.sipush 1999, 3) := dk_17 7 207 (dk_at dksX1_spent_0 17 rfl rfl)
theorem dX1_spent_20 : decode cX1_spent 20 = .ok (.invokestatic 79, 3) := dk_184 0 79 (dk_at dksX1_spent_0 20 rfl rfl)
theorem dX1_spent_23 : decode cX1_spent 23 = .ok (.ifCond .eq 15, 3) := dk_153 0 15 (dk_at dksX1_spent_1 0 rfl rfl)
theorem dX1_spent_26 : decode cX1_spent 26 = .ok (.iload 4, 2) := dk_21 4 (dk_at dksX1_spent_1 3 rfl rfl)
theorem dX1_spent_28 : decode cX1_spent 28 = .ok (.iload_n 3, 1) := dk_29 (dk_at dksX1_spent_1 5 rfl rfl)
theorem dX1_spent_29 : decode cX1_spent 29 = .ok (.sipush 1999, 3) := dk_17 7 207 (dk_at dksX1_spent_1 6 rfl rfl)
theorem dX1_spent_32 : decode cX1_spent 32 = .ok (.invokestatic 79, 3) := dk_184 0 79 (dk_at dksX1_spent_1 9 rfl rfl)
theorem dX1_spent_35 : decode cX1_spent 35 = .ok (.ifCond .ne 9, 3) := dk_154 0 9 (dk_at dksX1_spent_1 12 rfl rfl)
theorem dX1_spent_38 : decode cX1_spent 38 = .ok (.aload_n 0, 1) := dk_42 (dk_at dksX1_spent_1 15 rfl rfl)
theorem dX1_spent_39 : decode cX1_spent 39 = .ok (.iconst 2, 1) := dk_5 (dk_at dksX1_spent_1 16 rfl rfl)
theorem dX1_spent_40 : decode cX1_spent 40 = .ok (.invokevirtual 83, 3) := dk_182 0 83 (dk_at dksX1_spent_1 17 rfl rfl)
theorem dX1_spent_43 : decode cX1_spent 43 = .ok (.ireturn, 1) := dk_172 (dk_at dksX1_spent_1 20 rfl rfl)
theorem dX1_spent_44 : decode cX1_spent 44 = .ok (.aload_n 0, 1) := dk_42 (dk_at dksX1_spent_1 21 rfl rfl)
theorem dX1_spent_45 : decode cX1_spent 45 = .ok (.iload_n 1, 1) := dk_27 (dk_at dksX1_spent_1 22 rfl rfl)
theorem dX1_spent_46 : decode cX1_spent 46 = .ok (.iload_n 2, 1) := dk_28 (dk_at dksX1_spent_1 23 rfl rfl)
theorem dX1_spent_47 : decode cX1_spent 47 = .ok (.invokevirtual 281, 3) := dk_182 1 25 (dk_at dksX1_spent_2 0 rfl rfl)
theorem dX1_spent_50 : decode cX1_spent 50 = .ok (.iconst 0, 1) := dk_3 (dk_at dksX1_spent_2 3 rfl rfl)
theorem dX1_spent_51 : decode cX1_spent 51 = .ok (.istore 5, 2) := dk_54 5 (dk_at dksX1_spent_2 4 rfl rfl)
theorem dX1_spent_53 : decode cX1_spent 53 = .ok (.aload_n 0, 1) := dk_42 (dk_at dksX1_spent_2 6 rfl rfl)
theorem dX1_spent_54 : decode cX1_spent 54 = .ok (.getfield 271, 3) := dk_180 1 15 (dk_at dksX1_spent_2 7 rfl rfl)
theorem dX1_spent_57 : decode cX1_spent 57 = .ok (.iconst 1, 1) := dk_4 (dk_at dksX1_spent_2 10 rfl rfl)
theorem dX1_spent_58 : decode cX1_spent 58 = .ok (.isub, 1) := dk_100 (dk_at dksX1_spent_2 11 rfl rfl)
theorem dX1_spent_59 : decode cX1_spent 59 = .ok (.istore 6, 2) := dk_54 6 (dk_at dksX1_spent_2 12 rfl rfl)
theorem dX1_spent_61 : decode cX1_spent 61 = .ok (.iload_n 3, 1) := dk_29 (dk_at dksX1_spent_2 14 rfl rfl)
theorem dX1_spent_62 : decode cX1_spent 62 = .ok (.istore 7, 2) := dk_54 7 (dk_at dksX1_spent_2 15 rfl rfl)
theorem dX1_spent_64 : decode cX1_spent 64 = .ok (.iload 7, 2) := dk_21 7 (dk_at dksX1_spent_2 17 rfl rfl)
theorem dX1_spent_66 : decode cX1_spent 66 = .ok (.iload 4, 2) := dk_21 4 (dk_at dksX1_spent_2 19 rfl rfl)
theorem dX1_spent_68 : decode cX1_spent 68 = .ok (.if_icmp .gt 59, 3) := dk_163 0 59 (dk_at dksX1_spent_2 21 rfl rfl)
theorem dX1_spent_71 : decode cX1_spent 71 = .ok (.iload 6, 2) := dk_21 6 (dk_at dksX1_spent_3 0 rfl rfl)
theorem dX1_spent_73 : decode cX1_spent 73 = .ok (.ifCond .lt 21, 3) := dk_155 0 21 (dk_at dksX1_spent_3 2 rfl rfl)
theorem dX1_spent_76 : decode cX1_spent 76 = .ok (.aload_n 0, 1) := dk_42 (dk_at dksX1_spent_3 5 rfl rfl)
theorem dX1_spent_77 : decode cX1_spent 77 = .ok (.getfield 57, 3) := dk_180 0 57 (dk_at dksX1_spent_3 6 rfl rfl)
theorem dX1_spent_80 : decode cX1_spent 80 = .ok (.iload 6, 2) := dk_21 6 (dk_at dksX1_spent_3 9 rfl rfl)
theorem dX1_spent_82 : decode cX1_spent 82 = .ok (.iaload, 1) := dk_46 (dk_at dksX1_spent_3 11 rfl rfl)
theorem dX1_spent_83 : decode cX1_spent 83 = .ok (.iload 7, 2) := dk_21 7 (dk_at dksX1_spent_3 12 rfl rfl)
theorem dX1_spent_85 : decode cX1_spent 85 = .ok (.if_icmp .ge 9, 3) := dk_162 0 9 (dk_at dksX1_spent_3 14 rfl rfl)
theorem dX1_spent_88 : decode cX1_spent 88 = .ok (.iinc 6 (-1), 3) := dk_132 6 255 (dk_at dksX1_spent_3 17 rfl rfl)
theorem dX1_spent_91 : decode cX1_spent 91 = .ok (.goto (-20), 3) := dk_167 255 236 (dk_at dksX1_spent_3 20 rfl rfl)
theorem dX1_spent_94 : decode cX1_spent 94 = .ok (.iload 6, 2) := dk_21 6 (dk_at dksX1_spent_4 0 rfl rfl)
theorem dX1_spent_96 : decode cX1_spent 96 = .ok (.ifCond .ge 10, 3) := dk_156 0 10 (dk_at dksX1_spent_4 2 rfl rfl)
theorem dX1_spent_99 : decode cX1_spent 99 = .ok (.aload_n 0, 1) := dk_42 (dk_at dksX1_spent_4 5 rfl rfl)
theorem dX1_spent_100 : decode cX1_spent 100 = .ok (.bipush (-2), 2) := dk_16 254 (dk_at dksX1_spent_4 6 rfl rfl)
theorem dX1_spent_102 : decode cX1_spent 102 = .ok (.invokevirtual 143, 3) := dk_182 0 143 (dk_at dksX1_spent_4 8 rfl rfl)
theorem dX1_spent_105 : decode cX1_spent 105 = .ok (.ireturn, 1) := dk_172 (dk_at dksX1_spent_4 11 rfl rfl)
theorem dX1_spent_106 : decode cX1_spent 106 = .ok (.iload 5, 2) := dk_21 5 (dk_at dksX1_spent_4 12 rfl rfl)
theorem dX1_spent_108 : decode cX1_spent 108 = .ok (.aload_n 0, 1) := dk_42 (dk_at dksX1_spent_4 14 rfl rfl)
theorem dX1_spent_109 : decode cX1_spent 109 = .ok (.getfield 60, 3) := dk_180 0 60 (dk_at dksX1_spent_4 15 rfl rfl)
theorem dX1_spent_112 : decode cX1_spent 112 = .ok (.iload 6, 2) := dk_21 6 (dk_at dksX1_spent_4 18 rfl rfl)
theorem dX1_spent_114 : decode cX1_spent 114 = .ok (.iaload, 1) := dk_46 (dk_at dksX1_spent_4 20 rfl rfl)
theorem dX1_spent_115 : decode cX1_spent 115 = .ok (.iload 7, 2) := dk_21 7 (dk_at dksX1_spent_4 21 rfl rfl)
theorem dX1_spent_117 : decode cX1_spent 117 = .ok (.isub, 1) := dk_100 (dk_at dksX1_spent_4 23 rfl rfl)
theorem dX1_spent_118 : decode cX1_spent 118 = .ok (.iadd, 1) := dk_96 (dk_at dksX1_spent_5 0 rfl rfl)
theorem dX1_spent_119 : decode cX1_spent 119 = .ok (.istore 5, 2) := dk_54 5 (dk_at dksX1_spent_5 1 rfl rfl)
theorem dX1_spent_121 : decode cX1_spent 121 = .ok (.iinc 7 1, 3) := dk_132 7 1 (dk_at dksX1_spent_5 3 rfl rfl)
theorem dX1_spent_124 : decode cX1_spent 124 = .ok (.goto (-60), 3) := dk_167 255 196 (dk_at dksX1_spent_5 6 rfl rfl)
theorem dX1_spent_127 : decode cX1_spent 127 = .ok (.aload_n 0, 1) := dk_42 (dk_at dksX1_spent_5 9 rfl rfl)
theorem dX1_spent_128 : decode cX1_spent 128 = .ok (.iload 5, 2) := dk_21 5 (dk_at dksX1_spent_5 10 rfl rfl)
theorem dX1_spent_130 : decode cX1_spent 130 = .ok (.invokevirtual 143, 3) := dk_182 0 143 (dk_at dksX1_spent_5 12 rfl rfl)
theorem dX1_spent_133 : decode cX1_spent 133 = .ok (.ireturn, 1) := dk_172 (dk_at dksX1_spent_5 15 rfl rfl)
abbrev cX1_others : ByteArray := prog_1_method_43_code
def yX1_others : MethodName := ⟨RX1, "others", "(III)I"⟩
def dkwX1_others_1 : List UInt8 := [42, 27, 28, 29, 182, 1, 45, 182, 0, 143, 172]
abbrev dktX1_others_1 : List UInt8 := dkwX1_others_1 ++ []
def dkwX1_others_0 : List UInt8 := [42, 27, 28, 29, 182, 1, 42, 54, 4, 21, 4, 158, 0, 12, 42, 21, 4, 182, 0, 83, 167, 0, 14, 42]
abbrev dktX1_others_0 : List UInt8 := dkwX1_others_0 ++ dktX1_others_1
theorem dksX1_others_0 : cX1_others.data.toList.drop 0 = dktX1_others_0 := by decide +kernel
theorem dksX1_others_1 : cX1_others.data.toList.drop 24 = dktX1_others_1 := dk_seg dksX1_others_0 24 rfl rfl
theorem dX1_others_0 : decode cX1_others 0 = .ok (.aload_n 0, 1) := dk_42 (dk_at dksX1_others_0 0 rfl rfl)
theorem dX1_others_1 : decode cX1_others 1 = .ok (.iload_n 1, 1) := dk_27 (dk_at dksX1_others_0 1 rfl rfl)
theorem dX1_others_2 : decode cX1_others 2 = .ok (.iload_n 2, 1) := dk_28 (dk_at dksX1_others_0 2 rfl rfl)
theorem dX1_others_3 : decode cX1_others 3 = .ok (.iload_n 3, 1) := dk_29 (dk_at dksX1_others_0 3 rfl rfl)
theorem dX1_others_4 : decode cX1_others 4 = .ok (.invokevirtual 298, 3) := dk_182 1 42 (dk_at dksX1_others_0 4 rfl rfl)
theorem dX1_others_7 : decode cX1_others 7 = .ok (.istore 4, 2) := dk_54 4 (dk_at dksX1_others_0 7 rfl rfl)
theorem dX1_others_9 : decode cX1_others 9 = .ok (.iload 4, 2) := dk_21 4 (dk_at dksX1_others_0 9 rfl rfl)
theorem dX1_others_11 : decode cX1_others 11 = .ok (.ifCond .le 12, 3) := dk_158 0 12 (dk_at dksX1_others_0 11 rfl rfl)
theorem dX1_others_14 : decode cX1_others 14 = .ok (.aload_n 0, 1) := dk_42 (dk_at dksX1_others_0 14 rfl rfl)
theorem dX1_others_15 : decode cX1_others 15 = .ok (.iload 4, 2) := dk_21 4 (dk_at dksX1_others_0 15 rfl rfl)
theorem dX1_others_17 : decode cX1_others 17 = .ok (.invokevirtual 83, 3) := dk_182 0 83 (dk_at dksX1_others_0 17 rfl rfl)
theorem dX1_others_20 : decode cX1_others 20 = .ok (.goto 14, 3) := dk_167 0 14 (dk_at dksX1_others_0 20 rfl rfl)
theorem dX1_others_23 : decode cX1_others 23 = .ok (.aload_n 0, 1) := dk_42 (dk_at dksX1_others_0 23 rfl rfl)
theorem dX1_others_24 : decode cX1_others 24 = .ok (.aload_n 0, 1) := dk_42 (dk_at dksX1_others_1 0 rfl rfl)
theorem dX1_others_25 : decode cX1_others 25 = .ok (.iload_n 1, 1) := dk_27 (dk_at dksX1_others_1 1 rfl rfl)
theorem dX1_others_26 : decode cX1_others 26 = .ok (.iload_n 2, 1) := dk_28 (dk_at dksX1_others_1 2 rfl rfl)
theorem dX1_others_27 : decode cX1_others 27 = .ok (.iload_n 3, 1) := dk_29 (dk_at dksX1_others_1 3 rfl rfl)
theorem dX1_others_28 : decode cX1_others 28 = .ok (.invokevirtual 301, 3) := dk_182 1 45 (dk_at dksX1_others_1 4 rfl rfl)
theorem dX1_others_31 : decode cX1_others 31 = .ok (.invokevirtual 143, 3) := dk_182 0 143 (dk_at dksX1_others_1 7 rfl rfl)
theorem dX1_others_34 : decode cX1_others 34 = .ok (.ireturn, 1) := dk_172 (dk_at dksX1_others_1 10 rfl rfl)
abbrev cX1_refusesTwo : ByteArray := prog_1_method_42_code
def yX1_refusesTwo : MethodName := ⟨RX1, "refusesTwo", "(III)I"⟩
def dkwX1_refusesTwo_1 : List UInt8 := [3, 167, 0, 4, 5, 172]
abbrev dktX1_refusesTwo_1 : List UInt8 := dkwX1_refusesTwo_1 ++ []
def dkwX1_refusesTwo_0 : List UInt8 := [42, 27, 28, 182, 1, 21, 154, 0, 7, 4, 167, 0, 19, 29, 3, 17, 7, 207, 184, 0, 79, 153, 0, 7]
abbrev dktX1_refusesTwo_0 : List UInt8 := dkwX1_refusesTwo_0 ++ dktX1_refusesTwo_1
theorem dksX1_refusesTwo_0 : cX1_refusesTwo.data.toList.drop 0 = dktX1_refusesTwo_0 := by decide +kernel
theorem dksX1_refusesTwo_1 : cX1_refusesTwo.data.toList.drop 24 = dktX1_refusesTwo_1 := dk_seg dksX1_refusesTwo_0 24 rfl rfl
theorem dX1_refusesTwo_0 : decode cX1_refusesTwo 0 = .ok (.aload_n 0, 1) := dk_42 (dk_at dksX1_refusesTwo_0 0 rfl rfl)
theorem dX1_refusesTwo_1 : decode cX1_refusesTwo 1 = .ok (.iload_n 1, 1) := dk_27 (dk_at dksX1_refusesTwo_0 1 rfl rfl)
theorem dX1_refusesTwo_2 : decode cX1_refusesTwo 2 = .ok (.iload_n 2, 1) := dk_28 (dk_at dksX1_refusesTwo_0 2 rfl rfl)
theorem dX1_refusesTwo_3 : decode cX1_refusesTwo 3 = .ok (.invokevirtual 277, 3) := dk_182 1 21 (dk_at dksX1_refusesTwo_0 3 rfl rfl)
theorem dX1_refusesTwo_6 : decode cX1_refusesTwo 6 = .ok (.ifCond .ne 7, 3) := dk_154 0 7 (dk_at dksX1_refusesTwo_0 6 rfl rfl)
theorem dX1_refusesTwo_9 : decode cX1_refusesTwo 9 = .ok (.iconst 1, 1) := dk_4 (dk_at dksX1_refusesTwo_0 9 rfl rfl)
theorem dX1_refusesTwo_10 : decode cX1_refusesTwo 10 = .ok (.goto 19, 3) := dk_167 0 19 (dk_at dksX1_refusesTwo_0 10 rfl rfl)
theorem dX1_refusesTwo_13 : decode cX1_refusesTwo 13 = .ok (.iload_n 3, 1) := dk_29 (dk_at dksX1_refusesTwo_0 13 rfl rfl)
theorem dX1_refusesTwo_14 : decode cX1_refusesTwo 14 = .ok (.iconst 0, 1) := dk_3 (dk_at dksX1_refusesTwo_0 14 rfl rfl)
theorem dX1_refusesTwo_15 : decode cX1_refusesTwo 15 = .ok (.sipush 1999, 3) := dk_17 7 207 (dk_at dksX1_refusesTwo_0 15 rfl rfl)
theorem dX1_refusesTwo_18 : decode cX1_refusesTwo 18 = .ok (.invokestatic 79, 3) := dk_184 0 79 (dk_at dksX1_refusesTwo_0 18 rfl rfl)
theorem dX1_refusesTwo_21 : decode cX1_refusesTwo 21 = .ok (.ifCond .eq 7, 3) := dk_153 0 7 (dk_at dksX1_refusesTwo_0 21 rfl rfl)
theorem dX1_refusesTwo_24 : decode cX1_refusesTwo 24 = .ok (.iconst 0, 1) := dk_3 (dk_at dksX1_refusesTwo_1 0 rfl rfl)
theorem dX1_refusesTwo_25 : decode cX1_refusesTwo 25 = .ok (.goto 4, 3) := dk_167 0 4 (dk_at dksX1_refusesTwo_1 1 rfl rfl)
theorem dX1_refusesTwo_28 : decode cX1_refusesTwo 28 = .ok (.iconst 2, 1) := dk_5 (dk_at dksX1_refusesTwo_1 4 rfl rfl)
theorem dX1_refusesTwo_29 : decode cX1_refusesTwo 29 = .ok (.ireturn, 1) := dk_172 (dk_at dksX1_refusesTwo_1 5 rfl rfl)
abbrev cX1_laysOthers : ByteArray := prog_1_method_41_code
def yX1_laysOthers : MethodName := ⟨RX1, "laysOthers", "(III)I"⟩
def dkwX1_laysOthers_5 : List UInt8 := [29, 182, 0, 228, 54, 5, 167, 255, 171, 21, 4, 172]
abbrev dktX1_laysOthers_5 : List UInt8 := dkwX1_laysOthers_5 ++ []
def dkwX1_laysOthers_4 : List UInt8 := [21, 5, 46, 54, 5, 167, 255, 202, 132, 4, 1, 42, 180, 0, 46, 42, 180, 0, 69, 182, 1, 38, 27, 28]
abbrev dktX1_laysOthers_4 : List UInt8 := dkwX1_laysOthers_4 ++ dktX1_laysOthers_5
def dkwX1_laysOthers_3 : List UInt8 := [180, 0, 63, 21, 4, 42, 180, 0, 46, 180, 0, 246, 21, 5, 46, 79, 42, 180, 0, 46, 180, 0, 239]
abbrev dktX1_laysOthers_3 : List UInt8 := dkwX1_laysOthers_3 ++ dktX1_laysOthers_4
def dkwX1_laysOthers_2 : List UInt8 := [159, 0, 54, 42, 180, 0, 69, 42, 180, 0, 46, 180, 0, 242, 21, 5, 50, 180, 0, 211, 4, 84, 42]
abbrev dktX1_laysOthers_2 : List UInt8 := dkwX1_laysOthers_2 ++ dktX1_laysOthers_3
def dkwX1_laysOthers_1 : List UInt8 := [3, 54, 4, 42, 182, 0, 222, 27, 28, 29, 182, 0, 228, 54, 5, 21, 5, 2, 159, 0, 85, 21, 5, 2]
abbrev dktX1_laysOthers_1 : List UInt8 := dkwX1_laysOthers_1 ++ dktX1_laysOthers_2
def dkwX1_laysOthers_0 : List UInt8 := [3, 54, 4, 21, 4, 16, 120, 162, 0, 17, 42, 180, 0, 69, 21, 4, 3, 84, 132, 4, 1, 167, 255, 238]
abbrev dktX1_laysOthers_0 : List UInt8 := dkwX1_laysOthers_0 ++ dktX1_laysOthers_1
theorem dksX1_laysOthers_0 : cX1_laysOthers.data.toList.drop 0 = dktX1_laysOthers_0 := by decide +kernel
theorem dksX1_laysOthers_1 : cX1_laysOthers.data.toList.drop 24 = dktX1_laysOthers_1 := dk_seg dksX1_laysOthers_0 24 rfl rfl
theorem dksX1_laysOthers_2 : cX1_laysOthers.data.toList.drop 48 = dktX1_laysOthers_2 := dk_seg dksX1_laysOthers_1 24 rfl rfl
theorem dksX1_laysOthers_3 : cX1_laysOthers.data.toList.drop 71 = dktX1_laysOthers_3 := dk_seg dksX1_laysOthers_2 23 rfl rfl
theorem dksX1_laysOthers_4 : cX1_laysOthers.data.toList.drop 94 = dktX1_laysOthers_4 := dk_seg dksX1_laysOthers_3 23 rfl rfl
theorem dksX1_laysOthers_5 : cX1_laysOthers.data.toList.drop 118 = dktX1_laysOthers_5 := dk_seg dksX1_laysOthers_4 24 rfl rfl
theorem dX1_laysOthers_0 : decode cX1_laysOthers 0 = .ok (.iconst 0, 1) := dk_3 (dk_at dksX1_laysOthers_0 0 rfl rfl)
theorem dX1_laysOthers_1 : decode cX1_laysOthers 1 = .ok (.istore 4, 2) := dk_54 4 (dk_at dksX1_laysOthers_0 1 rfl rfl)
theorem dX1_laysOthers_3 : decode cX1_laysOthers 3 = .ok (.iload 4, 2) := dk_21 4 (dk_at dksX1_laysOthers_0 3 rfl rfl)
theorem dX1_laysOthers_5 : decode cX1_laysOthers 5 = .ok (.bipush 120, 2) := dk_16 120 (dk_at dksX1_laysOthers_0 5 rfl rfl)
theorem dX1_laysOthers_7 : decode cX1_laysOthers 7 = .ok (.if_icmp .ge 17, 3) := dk_162 0 17 (dk_at dksX1_laysOthers_0 7 rfl rfl)
theorem dX1_laysOthers_10 : decode cX1_laysOthers 10 = .ok (.aload_n 0, 1) := dk_42 (dk_at dksX1_laysOthers_0 10 rfl rfl)
theorem dX1_laysOthers_11 : decode cX1_laysOthers 11 = .ok (.getfield 69, 3) := dk_180 0 69 (dk_at dksX1_laysOthers_0 11 rfl rfl)
theorem dX1_laysOthers_14 : decode cX1_laysOthers 14 = .ok (.iload 4, 2) := dk_21 4 (dk_at dksX1_laysOthers_0 14 rfl rfl)
theorem dX1_laysOthers_16 : decode cX1_laysOthers 16 = .ok (.iconst 0, 1) := dk_3 (dk_at dksX1_laysOthers_0 16 rfl rfl)
theorem dX1_laysOthers_17 : decode cX1_laysOthers 17 = .ok (.bastore, 1) := dk_84 (dk_at dksX1_laysOthers_0 17 rfl rfl)
theorem dX1_laysOthers_18 : decode cX1_laysOthers 18 = .ok (.iinc 4 1, 3) := dk_132 4 1 (dk_at dksX1_laysOthers_0 18 rfl rfl)
theorem dX1_laysOthers_21 : decode cX1_laysOthers 21 = .ok (.goto (-18), 3) := dk_167 255 238 (dk_at dksX1_laysOthers_0 21 rfl rfl)
theorem dX1_laysOthers_24 : decode cX1_laysOthers 24 = .ok (.iconst 0, 1) := dk_3 (dk_at dksX1_laysOthers_1 0 rfl rfl)
theorem dX1_laysOthers_25 : decode cX1_laysOthers 25 = .ok (.istore 4, 2) := dk_54 4 (dk_at dksX1_laysOthers_1 1 rfl rfl)
theorem dX1_laysOthers_27 : decode cX1_laysOthers 27 = .ok (.aload_n 0, 1) := dk_42 (dk_at dksX1_laysOthers_1 3 rfl rfl)
theorem dX1_laysOthers_28 : decode cX1_laysOthers 28 = .ok (.invokevirtual 222, 3) := dk_182 0 222 (dk_at dksX1_laysOthers_1 4 rfl rfl)
theorem dX1_laysOthers_31 : decode cX1_laysOthers 31 = .ok (.iload_n 1, 1) := dk_27 (dk_at dksX1_laysOthers_1 7 rfl rfl)
theorem dX1_laysOthers_32 : decode cX1_laysOthers 32 = .ok (.iload_n 2, 1) := dk_28 (dk_at dksX1_laysOthers_1 8 rfl rfl)
theorem dX1_laysOthers_33 : decode cX1_laysOthers 33 = .ok (.iload_n 3, 1) := dk_29 (dk_at dksX1_laysOthers_1 9 rfl rfl)
theorem dX1_laysOthers_34 : decode cX1_laysOthers 34 = .ok (.invokevirtual 228, 3) := dk_182 0 228 (dk_at dksX1_laysOthers_1 10 rfl rfl)
theorem dX1_laysOthers_37 : decode cX1_laysOthers 37 = .ok (.istore 5, 2) := dk_54 5 (dk_at dksX1_laysOthers_1 13 rfl rfl)
theorem dX1_laysOthers_39 : decode cX1_laysOthers 39 = .ok (.iload 5, 2) := dk_21 5 (dk_at dksX1_laysOthers_1 15 rfl rfl)
theorem dX1_laysOthers_41 : decode cX1_laysOthers 41 = .ok (.iconst (-1), 1) := dk_2 (dk_at dksX1_laysOthers_1 17 rfl rfl)
theorem dX1_laysOthers_42 : decode cX1_laysOthers 42 = .ok (.if_icmp .eq 85, 3) := dk_159 0 85 (dk_at dksX1_laysOthers_1 18 rfl rfl)
theorem dX1_laysOthers_45 : decode cX1_laysOthers 45 = .ok (.iload 5, 2) := dk_21 5 (dk_at dksX1_laysOthers_1 21 rfl rfl)
theorem dX1_laysOthers_47 : decode cX1_laysOthers 47 = .ok (.iconst (-1), 1) := dk_2 (dk_at dksX1_laysOthers_1 23 rfl rfl)
theorem dX1_laysOthers_48 : decode cX1_laysOthers 48 = .ok (.if_icmp .eq 54, 3) := dk_159 0 54 (dk_at dksX1_laysOthers_2 0 rfl rfl)
theorem dX1_laysOthers_51 : decode cX1_laysOthers 51 = .ok (.aload_n 0, 1) := dk_42 (dk_at dksX1_laysOthers_2 3 rfl rfl)
theorem dX1_laysOthers_52 : decode cX1_laysOthers 52 = .ok (.getfield 69, 3) := dk_180 0 69 (dk_at dksX1_laysOthers_2 4 rfl rfl)
theorem dX1_laysOthers_55 : decode cX1_laysOthers 55 = .ok (.aload_n 0, 1) := dk_42 (dk_at dksX1_laysOthers_2 7 rfl rfl)
theorem dX1_laysOthers_56 : decode cX1_laysOthers 56 = .ok (.getfield 46, 3) := dk_180 0 46 (dk_at dksX1_laysOthers_2 8 rfl rfl)
theorem dX1_laysOthers_59 : decode cX1_laysOthers 59 = .ok (.getfield 242, 3) := dk_180 0 242 (dk_at dksX1_laysOthers_2 11 rfl rfl)
theorem dX1_laysOthers_62 : decode cX1_laysOthers 62 = .ok (.iload 5, 2) := dk_21 5 (dk_at dksX1_laysOthers_2 14 rfl rfl)
theorem dX1_laysOthers_64 : decode cX1_laysOthers 64 = .ok (.aaload, 1) := dk_50 (dk_at dksX1_laysOthers_2 16 rfl rfl)
theorem dX1_laysOthers_65 : decode cX1_laysOthers 65 = .ok (.getfield 211, 3) := dk_180 0 211 (dk_at dksX1_laysOthers_2 17 rfl rfl)
theorem dX1_laysOthers_68 : decode cX1_laysOthers 68 = .ok (.iconst 1, 1) := dk_4 (dk_at dksX1_laysOthers_2 20 rfl rfl)
theorem dX1_laysOthers_69 : decode cX1_laysOthers 69 = .ok (.bastore, 1) := dk_84 (dk_at dksX1_laysOthers_2 21 rfl rfl)
theorem dX1_laysOthers_70 : decode cX1_laysOthers 70 = .ok (.aload_n 0, 1) := dk_42 (dk_at dksX1_laysOthers_2 22 rfl rfl)
theorem dX1_laysOthers_71 : decode cX1_laysOthers 71 = .ok (.getfield 63, 3) := dk_180 0 63 (dk_at dksX1_laysOthers_3 0 rfl rfl)
theorem dX1_laysOthers_74 : decode cX1_laysOthers 74 = .ok (.iload 4, 2) := dk_21 4 (dk_at dksX1_laysOthers_3 3 rfl rfl)
theorem dX1_laysOthers_76 : decode cX1_laysOthers 76 = .ok (.aload_n 0, 1) := dk_42 (dk_at dksX1_laysOthers_3 5 rfl rfl)
theorem dX1_laysOthers_77 : decode cX1_laysOthers 77 = .ok (.getfield 46, 3) := dk_180 0 46 (dk_at dksX1_laysOthers_3 6 rfl rfl)
theorem dX1_laysOthers_80 : decode cX1_laysOthers 80 = .ok (.getfield 246, 3) := dk_180 0 246 (dk_at dksX1_laysOthers_3 9 rfl rfl)
theorem dX1_laysOthers_83 : decode cX1_laysOthers 83 = .ok (.iload 5, 2) := dk_21 5 (dk_at dksX1_laysOthers_3 12 rfl rfl)
theorem dX1_laysOthers_85 : decode cX1_laysOthers 85 = .ok (.iaload, 1) := dk_46 (dk_at dksX1_laysOthers_3 14 rfl rfl)
theorem dX1_laysOthers_86 : decode cX1_laysOthers 86 = .ok (.iastore, 1) := dk_79 (dk_at dksX1_laysOthers_3 15 rfl rfl)
theorem dX1_laysOthers_87 : decode cX1_laysOthers 87 = .ok (.aload_n 0, 1) := dk_42 (dk_at dksX1_laysOthers_3 16 rfl rfl)
theorem dX1_laysOthers_88 : decode cX1_laysOthers 88 = .ok (.getfield 46, 3) := dk_180 0 46 (dk_at dksX1_laysOthers_3 17 rfl rfl)
theorem dX1_laysOthers_91 : decode cX1_laysOthers 91 = .ok (.getfield 239, 3) := dk_180 0 239 (dk_at dksX1_laysOthers_3 20 rfl rfl)
theorem dX1_laysOthers_94 : decode cX1_laysOthers 94 = .ok (.iload 5, 2) := dk_21 5 (dk_at dksX1_laysOthers_4 0 rfl rfl)
theorem dX1_laysOthers_96 : decode cX1_laysOthers 96 = .ok (.iaload, 1) := dk_46 (dk_at dksX1_laysOthers_4 2 rfl rfl)
theorem dX1_laysOthers_97 : decode cX1_laysOthers 97 = .ok (.istore 5, 2) := dk_54 5 (dk_at dksX1_laysOthers_4 3 rfl rfl)
theorem dX1_laysOthers_99 : decode cX1_laysOthers 99 = .ok (.goto (-54), 3) := dk_167 255 202 (dk_at dksX1_laysOthers_4 5 rfl rfl)
theorem dX1_laysOthers_102 : decode cX1_laysOthers 102 = .ok (.iinc 4 1, 3) := dk_132 4 1 (dk_at dksX1_laysOthers_4 8 rfl rfl)
theorem dX1_laysOthers_105 : decode cX1_laysOthers 105 = .ok (.aload_n 0, 1) := dk_42 (dk_at dksX1_laysOthers_4 11 rfl rfl)
theorem dX1_laysOthers_106 : decode cX1_laysOthers 106 = .ok (.getfield 46, 3) := dk_180 0 46 (dk_at dksX1_laysOthers_4 12 rfl rfl)
theorem dX1_laysOthers_109 : decode cX1_laysOthers 109 = .ok (.aload_n 0, 1) := dk_42 (dk_at dksX1_laysOthers_4 15 rfl rfl)
theorem dX1_laysOthers_110 : decode cX1_laysOthers 110 = .ok (.getfield 69, 3) := dk_180 0 69 (dk_at dksX1_laysOthers_4 16 rfl rfl)
theorem dX1_laysOthers_113 : decode cX1_laysOthers 113 = .ok (.invokevirtual 294, 3) := dk_182 1 38 (dk_at dksX1_laysOthers_4 19 rfl rfl)
theorem dX1_laysOthers_116 : decode cX1_laysOthers 116 = .ok (.iload_n 1, 1) := dk_27 (dk_at dksX1_laysOthers_4 22 rfl rfl)
theorem dX1_laysOthers_117 : decode cX1_laysOthers 117 = .ok (.iload_n 2, 1) := dk_28 (dk_at dksX1_laysOthers_4 23 rfl rfl)
theorem dX1_laysOthers_118 : decode cX1_laysOthers 118 = .ok (.iload_n 3, 1) := dk_29 (dk_at dksX1_laysOthers_5 0 rfl rfl)
theorem dX1_laysOthers_119 : decode cX1_laysOthers 119 = .ok (.invokevirtual 228, 3) := dk_182 0 228 (dk_at dksX1_laysOthers_5 1 rfl rfl)
theorem dX1_laysOthers_122 : decode cX1_laysOthers 122 = .ok (.istore 5, 2) := dk_54 5 (dk_at dksX1_laysOthers_5 4 rfl rfl)
theorem dX1_laysOthers_124 : decode cX1_laysOthers 124 = .ok (.goto (-85), 3) := dk_167 255 171 (dk_at dksX1_laysOthers_5 6 rfl rfl)
theorem dX1_laysOthers_127 : decode cX1_laysOthers 127 = .ok (.iload 4, 2) := dk_21 4 (dk_at dksX1_laysOthers_5 9 rfl rfl)
theorem dX1_laysOthers_129 : decode cX1_laysOthers 129 = .ok (.ireturn, 1) := dk_172 (dk_at dksX1_laysOthers_5 11 rfl rfl)
abbrev cX1_other : ByteArray := prog_1_method_44_code
def yX1_other : MethodName := ⟨RX1, "other", "(IIII)I"⟩
def dkwX1_other_2 : List UInt8 := [21, 4, 46, 182, 0, 143, 167, 0, 8, 42, 4, 182, 0, 83, 172]
abbrev dktX1_other_2 : List UInt8 := dkwX1_other_2 ++ []
def dkwX1_other_1 : List UInt8 := [29, 182, 1, 45, 54, 6, 21, 4, 3, 21, 6, 4, 100, 184, 0, 79, 153, 0, 17, 42, 42, 180, 0, 63]
abbrev dktX1_other_1 : List UInt8 := dkwX1_other_1 ++ dktX1_other_2
def dkwX1_other_0 : List UInt8 := [42, 27, 28, 29, 182, 1, 42, 54, 5, 21, 5, 158, 0, 10, 42, 21, 5, 182, 0, 83, 172, 42, 27, 28]
abbrev dktX1_other_0 : List UInt8 := dkwX1_other_0 ++ dktX1_other_1
theorem dksX1_other_0 : cX1_other.data.toList.drop 0 = dktX1_other_0 := by decide +kernel
theorem dksX1_other_1 : cX1_other.data.toList.drop 24 = dktX1_other_1 := dk_seg dksX1_other_0 24 rfl rfl
theorem dksX1_other_2 : cX1_other.data.toList.drop 48 = dktX1_other_2 := dk_seg dksX1_other_1 24 rfl rfl
theorem dX1_other_0 : decode cX1_other 0 = .ok (.aload_n 0, 1) := dk_42 (dk_at dksX1_other_0 0 rfl rfl)
theorem dX1_other_1 : decode cX1_other 1 = .ok (.iload_n 1, 1) := dk_27 (dk_at dksX1_other_0 1 rfl rfl)
theorem dX1_other_2 : decode cX1_other 2 = .ok (.iload_n 2, 1) := dk_28 (dk_at dksX1_other_0 2 rfl rfl)
theorem dX1_other_3 : decode cX1_other 3 = .ok (.iload_n 3, 1) := dk_29 (dk_at dksX1_other_0 3 rfl rfl)
theorem dX1_other_4 : decode cX1_other 4 = .ok (.invokevirtual 298, 3) := dk_182 1 42 (dk_at dksX1_other_0 4 rfl rfl)
theorem dX1_other_7 : decode cX1_other 7 = .ok (.istore 5, 2) := dk_54 5 (dk_at dksX1_other_0 7 rfl rfl)
theorem dX1_other_9 : decode cX1_other 9 = .ok (.iload 5, 2) := dk_21 5 (dk_at dksX1_other_0 9 rfl rfl)
theorem dX1_other_11 : decode cX1_other 11 = .ok (.ifCond .le 10, 3) := dk_158 0 10 (dk_at dksX1_other_0 11 rfl rfl)
theorem dX1_other_14 : decode cX1_other 14 = .ok (.aload_n 0, 1) := dk_42 (dk_at dksX1_other_0 14 rfl rfl)
theorem dX1_other_15 : decode cX1_other 15 = .ok (.iload 5, 2) := dk_21 5 (dk_at dksX1_other_0 15 rfl rfl)
theorem dX1_other_17 : decode cX1_other 17 = .ok (.invokevirtual 83, 3) := dk_182 0 83 (dk_at dksX1_other_0 17 rfl rfl)
theorem dX1_other_20 : decode cX1_other 20 = .ok (.ireturn, 1) := dk_172 (dk_at dksX1_other_0 20 rfl rfl)
theorem dX1_other_21 : decode cX1_other 21 = .ok (.aload_n 0, 1) := dk_42 (dk_at dksX1_other_0 21 rfl rfl)
theorem dX1_other_22 : decode cX1_other 22 = .ok (.iload_n 1, 1) := dk_27 (dk_at dksX1_other_0 22 rfl rfl)
theorem dX1_other_23 : decode cX1_other 23 = .ok (.iload_n 2, 1) := dk_28 (dk_at dksX1_other_0 23 rfl rfl)
theorem dX1_other_24 : decode cX1_other 24 = .ok (.iload_n 3, 1) := dk_29 (dk_at dksX1_other_1 0 rfl rfl)
theorem dX1_other_25 : decode cX1_other 25 = .ok (.invokevirtual 301, 3) := dk_182 1 45 (dk_at dksX1_other_1 1 rfl rfl)
theorem dX1_other_28 : decode cX1_other 28 = .ok (.istore 6, 2) := dk_54 6 (dk_at dksX1_other_1 4 rfl rfl)
theorem dX1_other_30 : decode cX1_other 30 = .ok (.iload 4, 2) := dk_21 4 (dk_at dksX1_other_1 6 rfl rfl)
theorem dX1_other_32 : decode cX1_other 32 = .ok (.iconst 0, 1) := dk_3 (dk_at dksX1_other_1 8 rfl rfl)
theorem dX1_other_33 : decode cX1_other 33 = .ok (.iload 6, 2) := dk_21 6 (dk_at dksX1_other_1 9 rfl rfl)
theorem dX1_other_35 : decode cX1_other 35 = .ok (.iconst 1, 1) := dk_4 (dk_at dksX1_other_1 11 rfl rfl)
theorem dX1_other_36 : decode cX1_other 36 = .ok (.isub, 1) := dk_100 (dk_at dksX1_other_1 12 rfl rfl)
theorem dX1_other_37 : decode cX1_other 37 = .ok (.invokestatic 79, 3) := dk_184 0 79 (dk_at dksX1_other_1 13 rfl rfl)
theorem dX1_other_40 : decode cX1_other 40 = .ok (.ifCond .eq 17, 3) := dk_153 0 17 (dk_at dksX1_other_1 16 rfl rfl)
theorem dX1_other_43 : decode cX1_other 43 = .ok (.aload_n 0, 1) := dk_42 (dk_at dksX1_other_1 19 rfl rfl)
theorem dX1_other_44 : decode cX1_other 44 = .ok (.aload_n 0, 1) := dk_42 (dk_at dksX1_other_1 20 rfl rfl)
theorem dX1_other_45 : decode cX1_other 45 = .ok (.getfield 63, 3) := dk_180 0 63 (dk_at dksX1_other_1 21 rfl rfl)
theorem dX1_other_48 : decode cX1_other 48 = .ok (.iload 4, 2) := dk_21 4 (dk_at dksX1_other_2 0 rfl rfl)
theorem dX1_other_50 : decode cX1_other 50 = .ok (.iaload, 1) := dk_46 (dk_at dksX1_other_2 2 rfl rfl)
theorem dX1_other_51 : decode cX1_other 51 = .ok (.invokevirtual 143, 3) := dk_182 0 143 (dk_at dksX1_other_2 3 rfl rfl)
theorem dX1_other_54 : decode cX1_other 54 = .ok (.goto 8, 3) := dk_167 0 8 (dk_at dksX1_other_2 6 rfl rfl)
theorem dX1_other_57 : decode cX1_other 57 = .ok (.aload_n 0, 1) := dk_42 (dk_at dksX1_other_2 9 rfl rfl)
theorem dX1_other_58 : decode cX1_other 58 = .ok (.iconst 1, 1) := dk_4 (dk_at dksX1_other_2 10 rfl rfl)
theorem dX1_other_59 : decode cX1_other 59 = .ok (.invokevirtual 83, 3) := dk_182 0 83 (dk_at dksX1_other_2 11 rfl rfl)
theorem dX1_other_62 : decode cX1_other 62 = .ok (.ireturn, 1) := dk_172 (dk_at dksX1_other_2 14 rfl rfl)
abbrev cX1_pairs : ByteArray := prog_1_method_48_code
def yX1_pairs : MethodName := ⟨RX1, "pairs", "(I)I"⟩
def dkwX1_pairs_1 : List UInt8 := [180, 1, 48, 182, 0, 143, 172]
abbrev dktX1_pairs_1 : List UInt8 := dkwX1_pairs_1 ++ []
def dkwX1_pairs_0 : List UInt8 := [42, 27, 182, 1, 60, 61, 28, 158, 0, 9, 42, 28, 182, 0, 83, 172, 42, 27, 182, 1, 63, 42, 42]
abbrev dktX1_pairs_0 : List UInt8 := dkwX1_pairs_0 ++ dktX1_pairs_1
theorem dksX1_pairs_0 : cX1_pairs.data.toList.drop 0 = dktX1_pairs_0 := by decide +kernel
theorem dksX1_pairs_1 : cX1_pairs.data.toList.drop 23 = dktX1_pairs_1 := dk_seg dksX1_pairs_0 23 rfl rfl
theorem dX1_pairs_0 : decode cX1_pairs 0 = .ok (.aload_n 0, 1) := dk_42 (dk_at dksX1_pairs_0 0 rfl rfl)
theorem dX1_pairs_1 : decode cX1_pairs 1 = .ok (.iload_n 1, 1) := dk_27 (dk_at dksX1_pairs_0 1 rfl rfl)
theorem dX1_pairs_2 : decode cX1_pairs 2 = .ok (.invokevirtual 316, 3) := dk_182 1 60 (dk_at dksX1_pairs_0 2 rfl rfl)
theorem dX1_pairs_5 : decode cX1_pairs 5 = .ok (.istore_n 2, 1) := dk_61 (dk_at dksX1_pairs_0 5 rfl rfl)
theorem dX1_pairs_6 : decode cX1_pairs 6 = .ok (.iload_n 2, 1) := dk_28 (dk_at dksX1_pairs_0 6 rfl rfl)
theorem dX1_pairs_7 : decode cX1_pairs 7 = .ok (.ifCond .le 9, 3) := dk_158 0 9 (dk_at dksX1_pairs_0 7 rfl rfl)
theorem dX1_pairs_10 : decode cX1_pairs 10 = .ok (.aload_n 0, 1) := dk_42 (dk_at dksX1_pairs_0 10 rfl rfl)
theorem dX1_pairs_11 : decode cX1_pairs 11 = .ok (.iload_n 2, 1) := dk_28 (dk_at dksX1_pairs_0 11 rfl rfl)
theorem dX1_pairs_12 : decode cX1_pairs 12 = .ok (.invokevirtual 83, 3) := dk_182 0 83 (dk_at dksX1_pairs_0 12 rfl rfl)
theorem dX1_pairs_15 : decode cX1_pairs 15 = .ok (.ireturn, 1) := dk_172 (dk_at dksX1_pairs_0 15 rfl rfl)
theorem dX1_pairs_16 : decode cX1_pairs 16 = .ok (.aload_n 0, 1) := dk_42 (dk_at dksX1_pairs_0 16 rfl rfl)
theorem dX1_pairs_17 : decode cX1_pairs 17 = .ok (.iload_n 1, 1) := dk_27 (dk_at dksX1_pairs_0 17 rfl rfl)
theorem dX1_pairs_18 : decode cX1_pairs 18 = .ok (.invokevirtual 319, 3) := dk_182 1 63 (dk_at dksX1_pairs_0 18 rfl rfl)
theorem dX1_pairs_21 : decode cX1_pairs 21 = .ok (.aload_n 0, 1) := dk_42 (dk_at dksX1_pairs_0 21 rfl rfl)
theorem dX1_pairs_22 : decode cX1_pairs 22 = .ok (.aload_n 0, 1) := dk_42 (dk_at dksX1_pairs_0 22 rfl rfl)
theorem dX1_pairs_23 : decode cX1_pairs 23 = .ok (.getfield 304, 3) := dk_180 1 48 (dk_at dksX1_pairs_1 0 rfl rfl)
theorem dX1_pairs_26 : decode cX1_pairs 26 = .ok (.invokevirtual 143, 3) := dk_182 0 143 (dk_at dksX1_pairs_1 3 rfl rfl)
theorem dX1_pairs_29 : decode cX1_pairs 29 = .ok (.ireturn, 1) := dk_172 (dk_at dksX1_pairs_1 6 rfl rfl)
abbrev cX1_refusesTime : ByteArray := prog_1_method_47_code
def yX1_refusesTime : MethodName := ⟨RX1, "refusesTime", "(I)I"⟩
def dkwX1_refusesTime_1 : List UInt8 := [167, 0, 4, 5, 172]
abbrev dktX1_refusesTime_1 : List UInt8 := dkwX1_refusesTime_1 ++ []
def dkwX1_refusesTime_0 : List UInt8 := [42, 180, 0, 99, 199, 0, 7, 4, 167, 0, 19, 27, 3, 17, 7, 207, 184, 0, 79, 153, 0, 7, 3]
abbrev dktX1_refusesTime_0 : List UInt8 := dkwX1_refusesTime_0 ++ dktX1_refusesTime_1
theorem dksX1_refusesTime_0 : cX1_refusesTime.data.toList.drop 0 = dktX1_refusesTime_0 := by decide +kernel
theorem dksX1_refusesTime_1 : cX1_refusesTime.data.toList.drop 23 = dktX1_refusesTime_1 := dk_seg dksX1_refusesTime_0 23 rfl rfl
theorem dX1_refusesTime_0 : decode cX1_refusesTime 0 = .ok (.aload_n 0, 1) := dk_42 (dk_at dksX1_refusesTime_0 0 rfl rfl)
theorem dX1_refusesTime_1 : decode cX1_refusesTime 1 = .ok (.getfield 99, 3) := dk_180 0 99 (dk_at dksX1_refusesTime_0 1 rfl rfl)
theorem dX1_refusesTime_4 : decode cX1_refusesTime 4 = .ok (.ifnonnull 7, 3) := dk_199 0 7 (dk_at dksX1_refusesTime_0 4 rfl rfl)
theorem dX1_refusesTime_7 : decode cX1_refusesTime 7 = .ok (.iconst 1, 1) := dk_4 (dk_at dksX1_refusesTime_0 7 rfl rfl)
theorem dX1_refusesTime_8 : decode cX1_refusesTime 8 = .ok (.goto 19, 3) := dk_167 0 19 (dk_at dksX1_refusesTime_0 8 rfl rfl)
theorem dX1_refusesTime_11 : decode cX1_refusesTime 11 = .ok (.iload_n 1, 1) := dk_27 (dk_at dksX1_refusesTime_0 11 rfl rfl)
theorem dX1_refusesTime_12 : decode cX1_refusesTime 12 = .ok (.iconst 0, 1) := dk_3 (dk_at dksX1_refusesTime_0 12 rfl rfl)
theorem dX1_refusesTime_13 : decode cX1_refusesTime 13 = .ok (.sipush 1999, 3) := dk_17 7 207 (dk_at dksX1_refusesTime_0 13 rfl rfl)
theorem dX1_refusesTime_16 : decode cX1_refusesTime 16 = .ok (.invokestatic 79, 3) := dk_184 0 79 (dk_at dksX1_refusesTime_0 16 rfl rfl)
theorem dX1_refusesTime_19 : decode cX1_refusesTime 19 = .ok (.ifCond .eq 7, 3) := dk_153 0 7 (dk_at dksX1_refusesTime_0 19 rfl rfl)
theorem dX1_refusesTime_22 : decode cX1_refusesTime 22 = .ok (.iconst 0, 1) := dk_3 (dk_at dksX1_refusesTime_0 22 rfl rfl)
theorem dX1_refusesTime_23 : decode cX1_refusesTime 23 = .ok (.goto 4, 3) := dk_167 0 4 (dk_at dksX1_refusesTime_1 0 rfl rfl)
theorem dX1_refusesTime_26 : decode cX1_refusesTime 26 = .ok (.iconst 2, 1) := dk_5 (dk_at dksX1_refusesTime_1 3 rfl rfl)
theorem dX1_refusesTime_27 : decode cX1_refusesTime 27 = .ok (.ireturn, 1) := dk_172 (dk_at dksX1_refusesTime_1 4 rfl rfl)
abbrev cX1_laysAll : ByteArray := prog_1_method_45_code
def yX1_laysAll : MethodName := ⟨RX1, "laysAll", "(I)V"⟩
def dkwX1_laysAll_3 : List UInt8 := [159, 0, 10, 42, 28, 29, 27, 182, 1, 54, 132, 3, 1, 167, 255, 227, 132, 2, 1, 167, 255, 205, 177]
abbrev dktX1_laysAll_3 : List UInt8 := dkwX1_laysAll_3 ++ []
def dkwX1_laysAll_2 : List UInt8 := [182, 0, 127, 162, 0, 43, 3, 62, 29, 42, 180, 0, 99, 180, 0, 149, 182, 0, 127, 162, 0, 21, 28, 29]
abbrev dktX1_laysAll_2 : List UInt8 := dkwX1_laysAll_2 ++ dktX1_laysAll_3
def dkwX1_laysAll_1 : List UInt8 := [3, 79, 132, 2, 1, 167, 255, 240, 42, 182, 0, 222, 87, 3, 61, 28, 42, 180, 0, 99, 180, 0, 149]
abbrev dktX1_laysAll_1 : List UInt8 := dkwX1_laysAll_1 ++ dktX1_laysAll_2
def dkwX1_laysAll_0 : List UInt8 := [42, 3, 181, 1, 48, 42, 16, 254, 181, 1, 51, 3, 61, 28, 16, 10, 162, 0, 16, 42, 180, 0, 66, 28]
abbrev dktX1_laysAll_0 : List UInt8 := dkwX1_laysAll_0 ++ dktX1_laysAll_1
theorem dksX1_laysAll_0 : cX1_laysAll.data.toList.drop 0 = dktX1_laysAll_0 := by decide +kernel
theorem dksX1_laysAll_1 : cX1_laysAll.data.toList.drop 24 = dktX1_laysAll_1 := dk_seg dksX1_laysAll_0 24 rfl rfl
theorem dksX1_laysAll_2 : cX1_laysAll.data.toList.drop 47 = dktX1_laysAll_2 := dk_seg dksX1_laysAll_1 23 rfl rfl
theorem dksX1_laysAll_3 : cX1_laysAll.data.toList.drop 71 = dktX1_laysAll_3 := dk_seg dksX1_laysAll_2 24 rfl rfl
theorem dX1_laysAll_0 : decode cX1_laysAll 0 = .ok (.aload_n 0, 1) := dk_42 (dk_at dksX1_laysAll_0 0 rfl rfl)
theorem dX1_laysAll_1 : decode cX1_laysAll 1 = .ok (.iconst 0, 1) := dk_3 (dk_at dksX1_laysAll_0 1 rfl rfl)
theorem dX1_laysAll_2 : decode cX1_laysAll 2 = .ok (.putfield 304, 3) := dk_181 1 48 (dk_at dksX1_laysAll_0 2 rfl rfl)
theorem dX1_laysAll_5 : decode cX1_laysAll 5 = .ok (.aload_n 0, 1) := dk_42 (dk_at dksX1_laysAll_0 5 rfl rfl)
theorem dX1_laysAll_6 : decode cX1_laysAll 6 = .ok (.bipush (-2), 2) := dk_16 254 (dk_at dksX1_laysAll_0 6 rfl rfl)
theorem dX1_laysAll_8 : decode cX1_laysAll 8 = .ok (.putfield 307, 3) := dk_181 1 51 (dk_at dksX1_laysAll_0 8 rfl rfl)
theorem dX1_laysAll_11 : decode cX1_laysAll 11 = .ok (.iconst 0, 1) := dk_3 (dk_at dksX1_laysAll_0 11 rfl rfl)
theorem dX1_laysAll_12 : decode cX1_laysAll 12 = .ok (.istore_n 2, 1) := dk_61 (dk_at dksX1_laysAll_0 12 rfl rfl)
theorem dX1_laysAll_13 : decode cX1_laysAll 13 = .ok (.iload_n 2, 1) := dk_28 (dk_at dksX1_laysAll_0 13 rfl rfl)
theorem dX1_laysAll_14 : decode cX1_laysAll 14 = .ok (.bipush 10, 2) := dk_16 10 (dk_at dksX1_laysAll_0 14 rfl rfl)
theorem dX1_laysAll_16 : decode cX1_laysAll 16 = .ok (.if_icmp .ge 16, 3) := dk_162 0 16 (dk_at dksX1_laysAll_0 16 rfl rfl)
theorem dX1_laysAll_19 : decode cX1_laysAll 19 = .ok (.aload_n 0, 1) := dk_42 (dk_at dksX1_laysAll_0 19 rfl rfl)
theorem dX1_laysAll_20 : decode cX1_laysAll 20 = .ok (.getfield 66, 3) := dk_180 0 66 (dk_at dksX1_laysAll_0 20 rfl rfl)
theorem dX1_laysAll_23 : decode cX1_laysAll 23 = .ok (.iload_n 2, 1) := dk_28 (dk_at dksX1_laysAll_0 23 rfl rfl)
theorem dX1_laysAll_24 : decode cX1_laysAll 24 = .ok (.iconst 0, 1) := dk_3 (dk_at dksX1_laysAll_1 0 rfl rfl)
theorem dX1_laysAll_25 : decode cX1_laysAll 25 = .ok (.iastore, 1) := dk_79 (dk_at dksX1_laysAll_1 1 rfl rfl)
theorem dX1_laysAll_26 : decode cX1_laysAll 26 = .ok (.iinc 2 1, 3) := dk_132 2 1 (dk_at dksX1_laysAll_1 2 rfl rfl)
theorem dX1_laysAll_29 : decode cX1_laysAll 29 = .ok (.goto (-16), 3) := dk_167 255 240 (dk_at dksX1_laysAll_1 5 rfl rfl)
theorem dX1_laysAll_32 : decode cX1_laysAll 32 = .ok (.aload_n 0, 1) := dk_42 (dk_at dksX1_laysAll_1 8 rfl rfl)
theorem dX1_laysAll_33 : decode cX1_laysAll 33 = .ok (.invokevirtual 222, 3) := dk_182 0 222 (dk_at dksX1_laysAll_1 9 rfl rfl)
theorem dX1_laysAll_36 : decode cX1_laysAll 36 = .ok (.pop, 1) := dk_87 (dk_at dksX1_laysAll_1 12 rfl rfl)
theorem dX1_laysAll_37 : decode cX1_laysAll 37 = .ok (.iconst 0, 1) := dk_3 (dk_at dksX1_laysAll_1 13 rfl rfl)
theorem dX1_laysAll_38 : decode cX1_laysAll 38 = .ok (.istore_n 2, 1) := dk_61 (dk_at dksX1_laysAll_1 14 rfl rfl)
theorem dX1_laysAll_39 : decode cX1_laysAll 39 = .ok (.iload_n 2, 1) := dk_28 (dk_at dksX1_laysAll_1 15 rfl rfl)
theorem dX1_laysAll_40 : decode cX1_laysAll 40 = .ok (.aload_n 0, 1) := dk_42 (dk_at dksX1_laysAll_1 16 rfl rfl)
theorem dX1_laysAll_41 : decode cX1_laysAll 41 = .ok (.getfield 99, 3) := dk_180 0 99 (dk_at dksX1_laysAll_1 17 rfl rfl)
theorem dX1_laysAll_44 : decode cX1_laysAll 44 = .ok (.getfield 149, 3) := dk_180 0 149 (dk_at dksX1_laysAll_1 20 rfl rfl)
theorem dX1_laysAll_47 : decode cX1_laysAll 47 = .ok (.invokevirtual 127, 3) := dk_182 0 127 (dk_at dksX1_laysAll_2 0 rfl rfl)
theorem dX1_laysAll_50 : decode cX1_laysAll 50 = .ok (.if_icmp .ge 43, 3) := dk_162 0 43 (dk_at dksX1_laysAll_2 3 rfl rfl)
theorem dX1_laysAll_53 : decode cX1_laysAll 53 = .ok (.iconst 0, 1) := dk_3 (dk_at dksX1_laysAll_2 6 rfl rfl)
theorem dX1_laysAll_54 : decode cX1_laysAll 54 = .ok (.istore_n 3, 1) := dk_62 (dk_at dksX1_laysAll_2 7 rfl rfl)
theorem dX1_laysAll_55 : decode cX1_laysAll 55 = .ok (.iload_n 3, 1) := dk_29 (dk_at dksX1_laysAll_2 8 rfl rfl)
theorem dX1_laysAll_56 : decode cX1_laysAll 56 = .ok (.aload_n 0, 1) := dk_42 (dk_at dksX1_laysAll_2 9 rfl rfl)
theorem dX1_laysAll_57 : decode cX1_laysAll 57 = .ok (.getfield 99, 3) := dk_180 0 99 (dk_at dksX1_laysAll_2 10 rfl rfl)
theorem dX1_laysAll_60 : decode cX1_laysAll 60 = .ok (.getfield 149, 3) := dk_180 0 149 (dk_at dksX1_laysAll_2 13 rfl rfl)
theorem dX1_laysAll_63 : decode cX1_laysAll 63 = .ok (.invokevirtual 127, 3) := dk_182 0 127 (dk_at dksX1_laysAll_2 16 rfl rfl)
theorem dX1_laysAll_66 : decode cX1_laysAll 66 = .ok (.if_icmp .ge 21, 3) := dk_162 0 21 (dk_at dksX1_laysAll_2 19 rfl rfl)
theorem dX1_laysAll_69 : decode cX1_laysAll 69 = .ok (.iload_n 2, 1) := dk_28 (dk_at dksX1_laysAll_2 22 rfl rfl)
theorem dX1_laysAll_70 : decode cX1_laysAll 70 = .ok (.iload_n 3, 1) := dk_29 (dk_at dksX1_laysAll_2 23 rfl rfl)
theorem dX1_laysAll_71 : decode cX1_laysAll 71 = .ok (.if_icmp .eq 10, 3) := dk_159 0 10 (dk_at dksX1_laysAll_3 0 rfl rfl)
theorem dX1_laysAll_74 : decode cX1_laysAll 74 = .ok (.aload_n 0, 1) := dk_42 (dk_at dksX1_laysAll_3 3 rfl rfl)
theorem dX1_laysAll_75 : decode cX1_laysAll 75 = .ok (.iload_n 2, 1) := dk_28 (dk_at dksX1_laysAll_3 4 rfl rfl)
theorem dX1_laysAll_76 : decode cX1_laysAll 76 = .ok (.iload_n 3, 1) := dk_29 (dk_at dksX1_laysAll_3 5 rfl rfl)
theorem dX1_laysAll_77 : decode cX1_laysAll 77 = .ok (.iload_n 1, 1) := dk_27 (dk_at dksX1_laysAll_3 6 rfl rfl)
theorem dX1_laysAll_78 : decode cX1_laysAll 78 = .ok (.invokevirtual 310, 3) := dk_182 1 54 (dk_at dksX1_laysAll_3 7 rfl rfl)
theorem dX1_laysAll_81 : decode cX1_laysAll 81 = .ok (.iinc 3 1, 3) := dk_132 3 1 (dk_at dksX1_laysAll_3 10 rfl rfl)
theorem dX1_laysAll_84 : decode cX1_laysAll 84 = .ok (.goto (-29), 3) := dk_167 255 227 (dk_at dksX1_laysAll_3 13 rfl rfl)
theorem dX1_laysAll_87 : decode cX1_laysAll 87 = .ok (.iinc 2 1, 3) := dk_132 2 1 (dk_at dksX1_laysAll_3 16 rfl rfl)
theorem dX1_laysAll_90 : decode cX1_laysAll 90 = .ok (.goto (-51), 3) := dk_167 255 205 (dk_at dksX1_laysAll_3 19 rfl rfl)
theorem dX1_laysAll_93 : decode cX1_laysAll 93 = .ok (.return_, 1) := dk_177 (dk_at dksX1_laysAll_3 22 rfl rfl)
abbrev cX1_lays : ByteArray := prog_1_method_46_code
def yX1_lays : MethodName := ⟨RX1, "lays", "(III)V"⟩
def dkwX1_lays_5 : List UInt8 := [21, 4, 46, 29, 100, 184, 1, 6, 181, 1, 51, 177]
abbrev dktX1_lays_5 : List UInt8 := dkwX1_lays_5 ++ []
def dkwX1_lays_4 : List UInt8 := [180, 0, 239, 21, 5, 46, 54, 5, 167, 255, 197, 42, 42, 180, 1, 51, 42, 180, 0, 46, 180, 0, 246]
abbrev dktX1_lays_4 : List UInt8 := dkwX1_lays_4 ++ dktX1_lays_5
def dkwX1_lays_3 : List UInt8 := [180, 0, 242, 21, 5, 50, 180, 0, 163, 92, 46, 4, 96, 79, 21, 5, 54, 4, 42, 180, 0, 46]
abbrev dktX1_lays_3 : List UInt8 := dkwX1_lays_3 ++ dktX1_lays_4
def dkwX1_lays_2 : List UInt8 := [180, 0, 46, 21, 4, 21, 5, 182, 1, 57, 4, 160, 0, 25, 42, 180, 0, 66, 42, 180, 0, 46]
abbrev dktX1_lays_2 : List UInt8 := dkwX1_lays_2 ++ dktX1_lays_3
def dkwX1_lays_1 : List UInt8 := [4, 96, 181, 1, 48, 42, 180, 0, 46, 180, 0, 239, 21, 4, 46, 54, 5, 21, 5, 2, 159, 0, 59, 42]
abbrev dktX1_lays_1 : List UInt8 := dkwX1_lays_1 ++ dktX1_lays_2
def dkwX1_lays_0 : List UInt8 := [42, 180, 0, 46, 27, 28, 29, 182, 0, 228, 54, 4, 21, 4, 2, 160, 0, 4, 177, 42, 89, 180, 1, 48]
abbrev dktX1_lays_0 : List UInt8 := dkwX1_lays_0 ++ dktX1_lays_1
theorem dksX1_lays_0 : cX1_lays.data.toList.drop 0 = dktX1_lays_0 := by decide +kernel
theorem dksX1_lays_1 : cX1_lays.data.toList.drop 24 = dktX1_lays_1 := dk_seg dksX1_lays_0 24 rfl rfl
theorem dksX1_lays_2 : cX1_lays.data.toList.drop 48 = dktX1_lays_2 := dk_seg dksX1_lays_1 24 rfl rfl
theorem dksX1_lays_3 : cX1_lays.data.toList.drop 70 = dktX1_lays_3 := dk_seg dksX1_lays_2 22 rfl rfl
theorem dksX1_lays_4 : cX1_lays.data.toList.drop 92 = dktX1_lays_4 := dk_seg dksX1_lays_3 22 rfl rfl
theorem dksX1_lays_5 : cX1_lays.data.toList.drop 115 = dktX1_lays_5 := dk_seg dksX1_lays_4 23 rfl rfl
theorem dX1_lays_0 : decode cX1_lays 0 = .ok (.aload_n 0, 1) := dk_42 (dk_at dksX1_lays_0 0 rfl rfl)
theorem dX1_lays_1 : decode cX1_lays 1 = .ok (.getfield 46, 3) := dk_180 0 46 (dk_at dksX1_lays_0 1 rfl rfl)
theorem dX1_lays_4 : decode cX1_lays 4 = .ok (.iload_n 1, 1) := dk_27 (dk_at dksX1_lays_0 4 rfl rfl)
theorem dX1_lays_5 : decode cX1_lays 5 = .ok (.iload_n 2, 1) := dk_28 (dk_at dksX1_lays_0 5 rfl rfl)
theorem dX1_lays_6 : decode cX1_lays 6 = .ok (.iload_n 3, 1) := dk_29 (dk_at dksX1_lays_0 6 rfl rfl)
theorem dX1_lays_7 : decode cX1_lays 7 = .ok (.invokevirtual 228, 3) := dk_182 0 228 (dk_at dksX1_lays_0 7 rfl rfl)
theorem dX1_lays_10 : decode cX1_lays 10 = .ok (.istore 4, 2) := dk_54 4 (dk_at dksX1_lays_0 10 rfl rfl)
theorem dX1_lays_12 : decode cX1_lays 12 = .ok (.iload 4, 2) := dk_21 4 (dk_at dksX1_lays_0 12 rfl rfl)
theorem dX1_lays_14 : decode cX1_lays 14 = .ok (.iconst (-1), 1) := dk_2 (dk_at dksX1_lays_0 14 rfl rfl)
theorem dX1_lays_15 : decode cX1_lays 15 = .ok (.if_icmp .ne 4, 3) := dk_160 0 4 (dk_at dksX1_lays_0 15 rfl rfl)
theorem dX1_lays_18 : decode cX1_lays 18 = .ok (.return_, 1) := dk_177 (dk_at dksX1_lays_0 18 rfl rfl)
theorem dX1_lays_19 : decode cX1_lays 19 = .ok (.aload_n 0, 1) := dk_42 (dk_at dksX1_lays_0 19 rfl rfl)
theorem dX1_lays_20 : decode cX1_lays 20 = .ok (.dup, 1) := dk_89 (dk_at dksX1_lays_0 20 rfl rfl)
theorem dX1_lays_21 : decode cX1_lays 21 = .ok (.getfield 304, 3) := dk_180 1 48 (dk_at dksX1_lays_0 21 rfl rfl)
theorem dX1_lays_24 : decode cX1_lays 24 = .ok (.iconst 1, 1) := dk_4 (dk_at dksX1_lays_1 0 rfl rfl)
theorem dX1_lays_25 : decode cX1_lays 25 = .ok (.iadd, 1) := dk_96 (dk_at dksX1_lays_1 1 rfl rfl)
theorem dX1_lays_26 : decode cX1_lays 26 = .ok (.putfield 304, 3) := dk_181 1 48 (dk_at dksX1_lays_1 2 rfl rfl)
theorem dX1_lays_29 : decode cX1_lays 29 = .ok (.aload_n 0, 1) := dk_42 (dk_at dksX1_lays_1 5 rfl rfl)
theorem dX1_lays_30 : decode cX1_lays 30 = .ok (.getfield 46, 3) := dk_180 0 46 (dk_at dksX1_lays_1 6 rfl rfl)
theorem dX1_lays_33 : decode cX1_lays 33 = .ok (.getfield 239, 3) := dk_180 0 239 (dk_at dksX1_lays_1 9 rfl rfl)
theorem dX1_lays_36 : decode cX1_lays 36 = .ok (.iload 4, 2) := dk_21 4 (dk_at dksX1_lays_1 12 rfl rfl)
theorem dX1_lays_38 : decode cX1_lays 38 = .ok (.iaload, 1) := dk_46 (dk_at dksX1_lays_1 14 rfl rfl)
theorem dX1_lays_39 : decode cX1_lays 39 = .ok (.istore 5, 2) := dk_54 5 (dk_at dksX1_lays_1 15 rfl rfl)
theorem dX1_lays_41 : decode cX1_lays 41 = .ok (.iload 5, 2) := dk_21 5 (dk_at dksX1_lays_1 17 rfl rfl)
theorem dX1_lays_43 : decode cX1_lays 43 = .ok (.iconst (-1), 1) := dk_2 (dk_at dksX1_lays_1 19 rfl rfl)
theorem dX1_lays_44 : decode cX1_lays 44 = .ok (.if_icmp .eq 59, 3) := dk_159 0 59 (dk_at dksX1_lays_1 20 rfl rfl)
theorem dX1_lays_47 : decode cX1_lays 47 = .ok (.aload_n 0, 1) := dk_42 (dk_at dksX1_lays_1 23 rfl rfl)
theorem dX1_lays_48 : decode cX1_lays 48 = .ok (.getfield 46, 3) := dk_180 0 46 (dk_at dksX1_lays_2 0 rfl rfl)
theorem dX1_lays_51 : decode cX1_lays 51 = .ok (.iload 4, 2) := dk_21 4 (dk_at dksX1_lays_2 3 rfl rfl)
theorem dX1_lays_53 : decode cX1_lays 53 = .ok (.iload 5, 2) := dk_21 5 (dk_at dksX1_lays_2 5 rfl rfl)
theorem dX1_lays_55 : decode cX1_lays 55 = .ok (.invokevirtual 313, 3) := dk_182 1 57 (dk_at dksX1_lays_2 7 rfl rfl)
theorem dX1_lays_58 : decode cX1_lays 58 = .ok (.iconst 1, 1) := dk_4 (dk_at dksX1_lays_2 10 rfl rfl)
theorem dX1_lays_59 : decode cX1_lays 59 = .ok (.if_icmp .ne 25, 3) := dk_160 0 25 (dk_at dksX1_lays_2 11 rfl rfl)
theorem dX1_lays_62 : decode cX1_lays 62 = .ok (.aload_n 0, 1) := dk_42 (dk_at dksX1_lays_2 14 rfl rfl)
theorem dX1_lays_63 : decode cX1_lays 63 = .ok (.getfield 66, 3) := dk_180 0 66 (dk_at dksX1_lays_2 15 rfl rfl)
theorem dX1_lays_66 : decode cX1_lays 66 = .ok (.aload_n 0, 1) := dk_42 (dk_at dksX1_lays_2 18 rfl rfl)
theorem dX1_lays_67 : decode cX1_lays 67 = .ok (.getfield 46, 3) := dk_180 0 46 (dk_at dksX1_lays_2 19 rfl rfl)
theorem dX1_lays_70 : decode cX1_lays 70 = .ok (.getfield 242, 3) := dk_180 0 242 (dk_at dksX1_lays_3 0 rfl rfl)
theorem dX1_lays_73 : decode cX1_lays 73 = .ok (.iload 5, 2) := dk_21 5 (dk_at dksX1_lays_3 3 rfl rfl)
theorem dX1_lays_75 : decode cX1_lays 75 = .ok (.aaload, 1) := dk_50 (dk_at dksX1_lays_3 5 rfl rfl)
theorem dX1_lays_76 : decode cX1_lays 76 = .ok (.getfield 163, 3) := dk_180 0 163 (dk_at dksX1_lays_3 6 rfl rfl)
theorem dX1_lays_79 : decode cX1_lays 79 = .ok (.dup2, 1) := dk_92 (dk_at dksX1_lays_3 9 rfl rfl)
theorem dX1_lays_80 : decode cX1_lays 80 = .ok (.iaload, 1) := dk_46 (dk_at dksX1_lays_3 10 rfl rfl)
theorem dX1_lays_81 : decode cX1_lays 81 = .ok (.iconst 1, 1) := dk_4 (dk_at dksX1_lays_3 11 rfl rfl)
theorem dX1_lays_82 : decode cX1_lays 82 = .ok (.iadd, 1) := dk_96 (dk_at dksX1_lays_3 12 rfl rfl)
theorem dX1_lays_83 : decode cX1_lays 83 = .ok (.iastore, 1) := dk_79 (dk_at dksX1_lays_3 13 rfl rfl)
theorem dX1_lays_84 : decode cX1_lays 84 = .ok (.iload 5, 2) := dk_21 5 (dk_at dksX1_lays_3 14 rfl rfl)
theorem dX1_lays_86 : decode cX1_lays 86 = .ok (.istore 4, 2) := dk_54 4 (dk_at dksX1_lays_3 16 rfl rfl)
theorem dX1_lays_88 : decode cX1_lays 88 = .ok (.aload_n 0, 1) := dk_42 (dk_at dksX1_lays_3 18 rfl rfl)
theorem dX1_lays_89 : decode cX1_lays 89 = .ok (.getfield 46, 3) := dk_180 0 46 (dk_at dksX1_lays_3 19 rfl rfl)
theorem dX1_lays_92 : decode cX1_lays 92 = .ok (.getfield 239, 3) := dk_180 0 239 (dk_at dksX1_lays_4 0 rfl rfl)
theorem dX1_lays_95 : decode cX1_lays 95 = .ok (.iload 5, 2) := dk_21 5 (dk_at dksX1_lays_4 3 rfl rfl)
theorem dX1_lays_97 : decode cX1_lays 97 = .ok (.iaload, 1) := dk_46 (dk_at dksX1_lays_4 5 rfl rfl)
theorem dX1_lays_98 : decode cX1_lays 98 = .ok (.istore 5, 2) := dk_54 5 (dk_at dksX1_lays_4 6 rfl rfl)
theorem dX1_lays_100 : decode cX1_lays 100 = .ok (.goto (-59), 3) := dk_167 255 197 (dk_at dksX1_lays_4 8 rfl rfl)
theorem dX1_lays_103 : decode cX1_lays 103 = .ok (.aload_n 0, 1) := dk_42 (dk_at dksX1_lays_4 11 rfl rfl)
theorem dX1_lays_104 : decode cX1_lays 104 = .ok (.aload_n 0, 1) := dk_42 (dk_at dksX1_lays_4 12 rfl rfl)
theorem dX1_lays_105 : decode cX1_lays 105 = .ok (.getfield 307, 3) := dk_180 1 51 (dk_at dksX1_lays_4 13 rfl rfl)
theorem dX1_lays_108 : decode cX1_lays 108 = .ok (.aload_n 0, 1) := dk_42 (dk_at dksX1_lays_4 16 rfl rfl)
theorem dX1_lays_109 : decode cX1_lays 109 = .ok (.getfield 46, 3) := dk_180 0 46 (dk_at dksX1_lays_4 17 rfl rfl)
theorem dX1_lays_112 : decode cX1_lays 112 = .ok (.getfield 246, 3) := dk_180 0 246 (dk_at dksX1_lays_4 20 rfl rfl)
theorem dX1_lays_115 : decode cX1_lays 115 = .ok (.iload 4, 2) := dk_21 4 (dk_at dksX1_lays_5 0 rfl rfl)
theorem dX1_lays_117 : decode cX1_lays 117 = .ok (.iaload, 1) := dk_46 (dk_at dksX1_lays_5 2 rfl rfl)
theorem dX1_lays_118 : decode cX1_lays 118 = .ok (.iload_n 3, 1) := dk_29 (dk_at dksX1_lays_5 3 rfl rfl)
theorem dX1_lays_119 : decode cX1_lays 119 = .ok (.isub, 1) := dk_100 (dk_at dksX1_lays_5 4 rfl rfl)
theorem dX1_lays_120 : decode cX1_lays 120 = .ok (.invokestatic 262, 3) := dk_184 1 6 (dk_at dksX1_lays_5 5 rfl rfl)
theorem dX1_lays_123 : decode cX1_lays 123 = .ok (.putfield 307, 3) := dk_181 1 51 (dk_at dksX1_lays_5 8 rfl rfl)
theorem dX1_lays_126 : decode cX1_lays 126 = .ok (.return_, 1) := dk_177 (dk_at dksX1_lays_5 11 rfl rfl)
abbrev cX1_hub : ByteArray := prog_1_method_49_code
def yX1_hub : MethodName := ⟨RX1, "hub", "(I)I"⟩
def dkwX1_hub_3 : List UInt8 := [42, 29, 182, 0, 143, 172]
abbrev dktX1_hub_3 : List UInt8 := dkwX1_hub_3 ++ []
def dkwX1_hub_2 : List UInt8 := [163, 0, 6, 167, 0, 15, 42, 180, 0, 66, 21, 5, 46, 54, 4, 21, 5, 62, 132, 5, 1, 167, 255, 219]
abbrev dktX1_hub_2 : List UInt8 := dkwX1_hub_2 ++ dktX1_hub_3
def dkwX1_hub_1 : List UInt8 := [3, 54, 4, 3, 54, 5, 21, 5, 16, 10, 162, 0, 36, 42, 180, 0, 66, 21, 5, 46, 21, 4]
abbrev dktX1_hub_1 : List UInt8 := dkwX1_hub_1 ++ dktX1_hub_2
def dkwX1_hub_0 : List UInt8 := [42, 27, 182, 1, 60, 61, 28, 158, 0, 9, 42, 28, 182, 0, 83, 172, 42, 27, 182, 1, 63, 16, 254, 62]
abbrev dktX1_hub_0 : List UInt8 := dkwX1_hub_0 ++ dktX1_hub_1
theorem dksX1_hub_0 : cX1_hub.data.toList.drop 0 = dktX1_hub_0 := by decide +kernel
theorem dksX1_hub_1 : cX1_hub.data.toList.drop 24 = dktX1_hub_1 := dk_seg dksX1_hub_0 24 rfl rfl
theorem dksX1_hub_2 : cX1_hub.data.toList.drop 46 = dktX1_hub_2 := dk_seg dksX1_hub_1 22 rfl rfl
theorem dksX1_hub_3 : cX1_hub.data.toList.drop 70 = dktX1_hub_3 := dk_seg dksX1_hub_2 24 rfl rfl
theorem dX1_hub_0 : decode cX1_hub 0 = .ok (.aload_n 0, 1) := dk_42 (dk_at dksX1_hub_0 0 rfl rfl)
theorem dX1_hub_1 : decode cX1_hub 1 = .ok (.iload_n 1, 1) := dk_27 (dk_at dksX1_hub_0 1 rfl rfl)
theorem dX1_hub_2 : decode cX1_hub 2 = .ok (.invokevirtual 316, 3) := dk_182 1 60 (dk_at dksX1_hub_0 2 rfl rfl)
theorem dX1_hub_5 : decode cX1_hub 5 = .ok (.istore_n 2, 1) := dk_61 (dk_at dksX1_hub_0 5 rfl rfl)
theorem dX1_hub_6 : decode cX1_hub 6 = .ok (.iload_n 2, 1) := dk_28 (dk_at dksX1_hub_0 6 rfl rfl)
theorem dX1_hub_7 : decode cX1_hub 7 = .ok (.ifCond .le 9, 3) := dk_158 0 9 (dk_at dksX1_hub_0 7 rfl rfl)
theorem dX1_hub_10 : decode cX1_hub 10 = .ok (.aload_n 0, 1) := dk_42 (dk_at dksX1_hub_0 10 rfl rfl)
theorem dX1_hub_11 : decode cX1_hub 11 = .ok (.iload_n 2, 1) := dk_28 (dk_at dksX1_hub_0 11 rfl rfl)
theorem dX1_hub_12 : decode cX1_hub 12 = .ok (.invokevirtual 83, 3) := dk_182 0 83 (dk_at dksX1_hub_0 12 rfl rfl)
theorem dX1_hub_15 : decode cX1_hub 15 = .ok (.ireturn, 1) := dk_172 (dk_at dksX1_hub_0 15 rfl rfl)
theorem dX1_hub_16 : decode cX1_hub 16 = .ok (.aload_n 0, 1) := dk_42 (dk_at dksX1_hub_0 16 rfl rfl)
theorem dX1_hub_17 : decode cX1_hub 17 = .ok (.iload_n 1, 1) := dk_27 (dk_at dksX1_hub_0 17 rfl rfl)
theorem dX1_hub_18 : decode cX1_hub 18 = .ok (.invokevirtual 319, 3) := dk_182 1 63 (dk_at dksX1_hub_0 18 rfl rfl)
theorem dX1_hub_21 : decode cX1_hub 21 = .ok (.bipush (-2), 2) := dk_16 254 (dk_at dksX1_hub_0 21 rfl rfl)
theorem dX1_hub_23 : decode cX1_hub 23 = .ok (.istore_n 3, 1) := dk_62 (dk_at dksX1_hub_0 23 rfl rfl)
theorem dX1_hub_24 : decode cX1_hub 24 = .ok (.iconst 0, 1) := dk_3 (dk_at dksX1_hub_1 0 rfl rfl)
theorem dX1_hub_25 : decode cX1_hub 25 = .ok (.istore 4, 2) := dk_54 4 (dk_at dksX1_hub_1 1 rfl rfl)
theorem dX1_hub_27 : decode cX1_hub 27 = .ok (.iconst 0, 1) := dk_3 (dk_at dksX1_hub_1 3 rfl rfl)
theorem dX1_hub_28 : decode cX1_hub 28 = .ok (.istore 5, 2) := dk_54 5 (dk_at dksX1_hub_1 4 rfl rfl)
theorem dX1_hub_30 : decode cX1_hub 30 = .ok (.iload 5, 2) := dk_21 5 (dk_at dksX1_hub_1 6 rfl rfl)
theorem dX1_hub_32 : decode cX1_hub 32 = .ok (.bipush 10, 2) := dk_16 10 (dk_at dksX1_hub_1 8 rfl rfl)
theorem dX1_hub_34 : decode cX1_hub 34 = .ok (.if_icmp .ge 36, 3) := dk_162 0 36 (dk_at dksX1_hub_1 10 rfl rfl)
theorem dX1_hub_37 : decode cX1_hub 37 = .ok (.aload_n 0, 1) := dk_42 (dk_at dksX1_hub_1 13 rfl rfl)
theorem dX1_hub_38 : decode cX1_hub 38 = .ok (.getfield 66, 3) := dk_180 0 66 (dk_at dksX1_hub_1 14 rfl rfl)
theorem dX1_hub_41 : decode cX1_hub 41 = .ok (.iload 5, 2) := dk_21 5 (dk_at dksX1_hub_1 17 rfl rfl)
theorem dX1_hub_43 : decode cX1_hub 43 = .ok (.iaload, 1) := dk_46 (dk_at dksX1_hub_1 19 rfl rfl)
theorem dX1_hub_44 : decode cX1_hub 44 = .ok (.iload 4, 2) := dk_21 4 (dk_at dksX1_hub_1 20 rfl rfl)
theorem dX1_hub_46 : decode cX1_hub 46 = .ok (.if_icmp .gt 6, 3) := dk_163 0 6 (dk_at dksX1_hub_2 0 rfl rfl)
theorem dX1_hub_49 : decode cX1_hub 49 = .ok (.goto 15, 3) := dk_167 0 15 (dk_at dksX1_hub_2 3 rfl rfl)
theorem dX1_hub_52 : decode cX1_hub 52 = .ok (.aload_n 0, 1) := dk_42 (dk_at dksX1_hub_2 6 rfl rfl)
theorem dX1_hub_53 : decode cX1_hub 53 = .ok (.getfield 66, 3) := dk_180 0 66 (dk_at dksX1_hub_2 7 rfl rfl)
theorem dX1_hub_56 : decode cX1_hub 56 = .ok (.iload 5, 2) := dk_21 5 (dk_at dksX1_hub_2 10 rfl rfl)
theorem dX1_hub_58 : decode cX1_hub 58 = .ok (.iaload, 1) := dk_46 (dk_at dksX1_hub_2 12 rfl rfl)
theorem dX1_hub_59 : decode cX1_hub 59 = .ok (.istore 4, 2) := dk_54 4 (dk_at dksX1_hub_2 13 rfl rfl)
theorem dX1_hub_61 : decode cX1_hub 61 = .ok (.iload 5, 2) := dk_21 5 (dk_at dksX1_hub_2 15 rfl rfl)
theorem dX1_hub_63 : decode cX1_hub 63 = .ok (.istore_n 3, 1) := dk_62 (dk_at dksX1_hub_2 17 rfl rfl)
theorem dX1_hub_64 : decode cX1_hub 64 = .ok (.iinc 5 1, 3) := dk_132 5 1 (dk_at dksX1_hub_2 18 rfl rfl)
theorem dX1_hub_67 : decode cX1_hub 67 = .ok (.goto (-37), 3) := dk_167 255 219 (dk_at dksX1_hub_2 21 rfl rfl)
theorem dX1_hub_70 : decode cX1_hub 70 = .ok (.aload_n 0, 1) := dk_42 (dk_at dksX1_hub_3 0 rfl rfl)
theorem dX1_hub_71 : decode cX1_hub 71 = .ok (.iload_n 3, 1) := dk_29 (dk_at dksX1_hub_3 1 rfl rfl)
theorem dX1_hub_72 : decode cX1_hub 72 = .ok (.invokevirtual 143, 3) := dk_182 0 143 (dk_at dksX1_hub_3 2 rfl rfl)
theorem dX1_hub_75 : decode cX1_hub 75 = .ok (.ireturn, 1) := dk_172 (dk_at dksX1_hub_3 5 rfl rfl)
abbrev cX1_slowest : ByteArray := prog_1_method_50_code
def yX1_slowest : MethodName := ⟨RX1, "slowest", "(I)I"⟩
def dkwX1_slowest_1 : List UInt8 := [180, 1, 51, 182, 0, 143, 172]
abbrev dktX1_slowest_1 : List UInt8 := dkwX1_slowest_1 ++ []
def dkwX1_slowest_0 : List UInt8 := [42, 27, 182, 1, 60, 61, 28, 158, 0, 9, 42, 28, 182, 0, 83, 172, 42, 27, 182, 1, 63, 42, 42]
abbrev dktX1_slowest_0 : List UInt8 := dkwX1_slowest_0 ++ dktX1_slowest_1
theorem dksX1_slowest_0 : cX1_slowest.data.toList.drop 0 = dktX1_slowest_0 := by decide +kernel
theorem dksX1_slowest_1 : cX1_slowest.data.toList.drop 23 = dktX1_slowest_1 := dk_seg dksX1_slowest_0 23 rfl rfl
theorem dX1_slowest_0 : decode cX1_slowest 0 = .ok (.aload_n 0, 1) := dk_42 (dk_at dksX1_slowest_0 0 rfl rfl)
theorem dX1_slowest_1 : decode cX1_slowest 1 = .ok (.iload_n 1, 1) := dk_27 (dk_at dksX1_slowest_0 1 rfl rfl)
theorem dX1_slowest_2 : decode cX1_slowest 2 = .ok (.invokevirtual 316, 3) := dk_182 1 60 (dk_at dksX1_slowest_0 2 rfl rfl)
theorem dX1_slowest_5 : decode cX1_slowest 5 = .ok (.istore_n 2, 1) := dk_61 (dk_at dksX1_slowest_0 5 rfl rfl)
theorem dX1_slowest_6 : decode cX1_slowest 6 = .ok (.iload_n 2, 1) := dk_28 (dk_at dksX1_slowest_0 6 rfl rfl)
theorem dX1_slowest_7 : decode cX1_slowest 7 = .ok (.ifCond .le 9, 3) := dk_158 0 9 (dk_at dksX1_slowest_0 7 rfl rfl)
theorem dX1_slowest_10 : decode cX1_slowest 10 = .ok (.aload_n 0, 1) := dk_42 (dk_at dksX1_slowest_0 10 rfl rfl)
theorem dX1_slowest_11 : decode cX1_slowest 11 = .ok (.iload_n 2, 1) := dk_28 (dk_at dksX1_slowest_0 11 rfl rfl)
theorem dX1_slowest_12 : decode cX1_slowest 12 = .ok (.invokevirtual 83, 3) := dk_182 0 83 (dk_at dksX1_slowest_0 12 rfl rfl)
theorem dX1_slowest_15 : decode cX1_slowest 15 = .ok (.ireturn, 1) := dk_172 (dk_at dksX1_slowest_0 15 rfl rfl)
theorem dX1_slowest_16 : decode cX1_slowest 16 = .ok (.aload_n 0, 1) := dk_42 (dk_at dksX1_slowest_0 16 rfl rfl)
theorem dX1_slowest_17 : decode cX1_slowest 17 = .ok (.iload_n 1, 1) := dk_27 (dk_at dksX1_slowest_0 17 rfl rfl)
theorem dX1_slowest_18 : decode cX1_slowest 18 = .ok (.invokevirtual 319, 3) := dk_182 1 63 (dk_at dksX1_slowest_0 18 rfl rfl)
theorem dX1_slowest_21 : decode cX1_slowest 21 = .ok (.aload_n 0, 1) := dk_42 (dk_at dksX1_slowest_0 21 rfl rfl)
theorem dX1_slowest_22 : decode cX1_slowest 22 = .ok (.aload_n 0, 1) := dk_42 (dk_at dksX1_slowest_0 22 rfl rfl)
theorem dX1_slowest_23 : decode cX1_slowest 23 = .ok (.getfield 307, 3) := dk_180 1 51 (dk_at dksX1_slowest_1 0 rfl rfl)
theorem dX1_slowest_26 : decode cX1_slowest 26 = .ok (.invokevirtual 143, 3) := dk_182 0 143 (dk_at dksX1_slowest_1 3 rfl rfl)
theorem dX1_slowest_29 : decode cX1_slowest 29 = .ok (.ireturn, 1) := dk_172 (dk_at dksX1_slowest_1 6 rfl rfl)
abbrev cX1_needs : ByteArray := prog_1_method_53_code
def yX1_needs : MethodName := ⟨RX1, "needs", "(IIII)I"⟩
def dkwX1_needs_2 : List UInt8 := [42, 27, 28, 29, 21, 4, 21, 6, 182, 1, 69, 182, 0, 143, 172]
abbrev dktX1_needs_2 : List UInt8 := dkwX1_needs_2 ++ []
def dkwX1_needs_1 : List UInt8 := [182, 0, 222, 27, 28, 29, 182, 0, 226, 54, 6, 42, 21, 6, 16, 254, 160, 0, 8, 16, 253, 167, 0, 14]
abbrev dktX1_needs_1 : List UInt8 := dkwX1_needs_1 ++ dktX1_needs_2
def dkwX1_needs_0 : List UInt8 := [42, 27, 28, 29, 21, 4, 182, 1, 66, 54, 5, 21, 5, 158, 0, 10, 42, 21, 5, 182, 0, 83, 172, 42]
abbrev dktX1_needs_0 : List UInt8 := dkwX1_needs_0 ++ dktX1_needs_1
theorem dksX1_needs_0 : cX1_needs.data.toList.drop 0 = dktX1_needs_0 := by decide +kernel
theorem dksX1_needs_1 : cX1_needs.data.toList.drop 24 = dktX1_needs_1 := dk_seg dksX1_needs_0 24 rfl rfl
theorem dksX1_needs_2 : cX1_needs.data.toList.drop 48 = dktX1_needs_2 := dk_seg dksX1_needs_1 24 rfl rfl
theorem dX1_needs_0 : decode cX1_needs 0 = .ok (.aload_n 0, 1) := dk_42 (dk_at dksX1_needs_0 0 rfl rfl)
theorem dX1_needs_1 : decode cX1_needs 1 = .ok (.iload_n 1, 1) := dk_27 (dk_at dksX1_needs_0 1 rfl rfl)
theorem dX1_needs_2 : decode cX1_needs 2 = .ok (.iload_n 2, 1) := dk_28 (dk_at dksX1_needs_0 2 rfl rfl)
theorem dX1_needs_3 : decode cX1_needs 3 = .ok (.iload_n 3, 1) := dk_29 (dk_at dksX1_needs_0 3 rfl rfl)
theorem dX1_needs_4 : decode cX1_needs 4 = .ok (.iload 4, 2) := dk_21 4 (dk_at dksX1_needs_0 4 rfl rfl)
theorem dX1_needs_6 : decode cX1_needs 6 = .ok (.invokevirtual 322, 3) := dk_182 1 66 (dk_at dksX1_needs_0 6 rfl rfl)
theorem dX1_needs_9 : decode cX1_needs 9 = .ok (.istore 5, 2) := dk_54 5 (dk_at dksX1_needs_0 9 rfl rfl)
theorem dX1_needs_11 : decode cX1_needs 11 = .ok (.iload 5, 2) := dk_21 5 (dk_at dksX1_needs_0 11 rfl rfl)
theorem dX1_needs_13 : decode cX1_needs 13 = .ok (.ifCond .le 10, 3) := dk_158 0 10 (dk_at dksX1_needs_0 13 rfl rfl)
theorem dX1_needs_16 : decode cX1_needs 16 = .ok (.aload_n 0, 1) := dk_42 (dk_at dksX1_needs_0 16 rfl rfl)
theorem dX1_needs_17 : decode cX1_needs 17 = .ok (.iload 5, 2) := dk_21 5 (dk_at dksX1_needs_0 17 rfl rfl)
theorem dX1_needs_19 : decode cX1_needs 19 = .ok (.invokevirtual 83, 3) := dk_182 0 83 (dk_at dksX1_needs_0 19 rfl rfl)
theorem dX1_needs_22 : decode cX1_needs 22 = .ok (.ireturn, 1) := dk_172 (dk_at dksX1_needs_0 22 rfl rfl)
theorem dX1_needs_23 : decode cX1_needs 23 = .ok (.aload_n 0, 1) := dk_42 (dk_at dksX1_needs_0 23 rfl rfl)
theorem dX1_needs_24 : decode cX1_needs 24 = .ok (.invokevirtual 222, 3) := dk_182 0 222 (dk_at dksX1_needs_1 0 rfl rfl)
theorem dX1_needs_27 : decode cX1_needs 27 = .ok (.iload_n 1, 1) := dk_27 (dk_at dksX1_needs_1 3 rfl rfl)
theorem dX1_needs_28 : decode cX1_needs 28 = .ok (.iload_n 2, 1) := dk_28 (dk_at dksX1_needs_1 4 rfl rfl)
theorem dX1_needs_29 : decode cX1_needs 29 = .ok (.iload_n 3, 1) := dk_29 (dk_at dksX1_needs_1 5 rfl rfl)
theorem dX1_needs_30 : decode cX1_needs 30 = .ok (.invokevirtual 226, 3) := dk_182 0 226 (dk_at dksX1_needs_1 6 rfl rfl)
theorem dX1_needs_33 : decode cX1_needs 33 = .ok (.istore 6, 2) := dk_54 6 (dk_at dksX1_needs_1 9 rfl rfl)
theorem dX1_needs_35 : decode cX1_needs 35 = .ok (.aload_n 0, 1) := dk_42 (dk_at dksX1_needs_1 11 rfl rfl)
theorem dX1_needs_36 : decode cX1_needs 36 = .ok (.iload 6, 2) := dk_21 6 (dk_at dksX1_needs_1 12 rfl rfl)
theorem dX1_needs_38 : decode cX1_needs 38 = .ok (.bipush (-2), 2) := dk_16 254 (dk_at dksX1_needs_1 14 rfl rfl)
theorem dX1_needs_40 : decode cX1_needs 40 = .ok (.if_icmp .ne 8, 3) := dk_160 0 8 (dk_at dksX1_needs_1 16 rfl rfl)
theorem dX1_needs_43 : decode cX1_needs 43 = .ok (.bipush (-3), 2) := dk_16 253 (dk_at dksX1_needs_1 19 rfl rfl)
theorem dX1_needs_45 : decode cX1_needs 45 = .ok (.goto 14, 3) := dk_167 0 14 (dk_at dksX1_needs_1 21 rfl rfl)
theorem dX1_needs_48 : decode cX1_needs 48 = .ok (.aload_n 0, 1) := dk_42 (dk_at dksX1_needs_2 0 rfl rfl)
theorem dX1_needs_49 : decode cX1_needs 49 = .ok (.iload_n 1, 1) := dk_27 (dk_at dksX1_needs_2 1 rfl rfl)
theorem dX1_needs_50 : decode cX1_needs 50 = .ok (.iload_n 2, 1) := dk_28 (dk_at dksX1_needs_2 2 rfl rfl)
theorem dX1_needs_51 : decode cX1_needs 51 = .ok (.iload_n 3, 1) := dk_29 (dk_at dksX1_needs_2 3 rfl rfl)
theorem dX1_needs_52 : decode cX1_needs 52 = .ok (.iload 4, 2) := dk_21 4 (dk_at dksX1_needs_2 4 rfl rfl)
theorem dX1_needs_54 : decode cX1_needs 54 = .ok (.iload 6, 2) := dk_21 6 (dk_at dksX1_needs_2 6 rfl rfl)
theorem dX1_needs_56 : decode cX1_needs 56 = .ok (.invokevirtual 325, 3) := dk_182 1 69 (dk_at dksX1_needs_2 8 rfl rfl)
theorem dX1_needs_59 : decode cX1_needs 59 = .ok (.invokevirtual 143, 3) := dk_182 0 143 (dk_at dksX1_needs_2 11 rfl rfl)
theorem dX1_needs_62 : decode cX1_needs 62 = .ok (.ireturn, 1) := dk_172 (dk_at dksX1_needs_2 14 rfl rfl)
abbrev cX1_refusesOne : ByteArray := prog_1_method_51_code
def yX1_refusesOne : MethodName := ⟨RX1, "refusesOne", "(IIII)I"⟩
def dkwX1_refusesOne_1 : List UInt8 := [4, 167, 0, 5, 21, 5, 172]
abbrev dktX1_refusesOne_1 : List UInt8 := dkwX1_refusesOne_1 ++ []
def dkwX1_refusesOne_0 : List UInt8 := [42, 27, 28, 29, 182, 0, 218, 54, 5, 21, 5, 4, 159, 0, 12, 42, 21, 4, 182, 0, 185, 154, 0, 7]
abbrev dktX1_refusesOne_0 : List UInt8 := dkwX1_refusesOne_0 ++ dktX1_refusesOne_1
theorem dksX1_refusesOne_0 : cX1_refusesOne.data.toList.drop 0 = dktX1_refusesOne_0 := by decide +kernel
theorem dksX1_refusesOne_1 : cX1_refusesOne.data.toList.drop 24 = dktX1_refusesOne_1 := dk_seg dksX1_refusesOne_0 24 rfl rfl
theorem dX1_refusesOne_0 : decode cX1_refusesOne 0 = .ok (.aload_n 0, 1) := dk_42 (dk_at dksX1_refusesOne_0 0 rfl rfl)
theorem dX1_refusesOne_1 : decode cX1_refusesOne 1 = .ok (.iload_n 1, 1) := dk_27 (dk_at dksX1_refusesOne_0 1 rfl rfl)
theorem dX1_refusesOne_2 : decode cX1_refusesOne 2 = .ok (.iload_n 2, 1) := dk_28 (dk_at dksX1_refusesOne_0 2 rfl rfl)
theorem dX1_refusesOne_3 : decode cX1_refusesOne 3 = .ok (.iload_n 3, 1) := dk_29 (dk_at dksX1_refusesOne_0 3 rfl rfl)
theorem dX1_refusesOne_4 : decode cX1_refusesOne 4 = .ok (.invokevirtual 218, 3) := dk_182 0 218 (dk_at dksX1_refusesOne_0 4 rfl rfl)
theorem dX1_refusesOne_7 : decode cX1_refusesOne 7 = .ok (.istore 5, 2) := dk_54 5 (dk_at dksX1_refusesOne_0 7 rfl rfl)
theorem dX1_refusesOne_9 : decode cX1_refusesOne 9 = .ok (.iload 5, 2) := dk_21 5 (dk_at dksX1_refusesOne_0 9 rfl rfl)
theorem dX1_refusesOne_11 : decode cX1_refusesOne 11 = .ok (.iconst 1, 1) := dk_4 (dk_at dksX1_refusesOne_0 11 rfl rfl)
theorem dX1_refusesOne_12 : decode cX1_refusesOne 12 = .ok (.if_icmp .eq 12, 3) := dk_159 0 12 (dk_at dksX1_refusesOne_0 12 rfl rfl)
theorem dX1_refusesOne_15 : decode cX1_refusesOne 15 = .ok (.aload_n 0, 1) := dk_42 (dk_at dksX1_refusesOne_0 15 rfl rfl)
theorem dX1_refusesOne_16 : decode cX1_refusesOne 16 = .ok (.iload 4, 2) := dk_21 4 (dk_at dksX1_refusesOne_0 16 rfl rfl)
theorem dX1_refusesOne_18 : decode cX1_refusesOne 18 = .ok (.invokevirtual 185, 3) := dk_182 0 185 (dk_at dksX1_refusesOne_0 18 rfl rfl)
theorem dX1_refusesOne_21 : decode cX1_refusesOne 21 = .ok (.ifCond .ne 7, 3) := dk_154 0 7 (dk_at dksX1_refusesOne_0 21 rfl rfl)
theorem dX1_refusesOne_24 : decode cX1_refusesOne 24 = .ok (.iconst 1, 1) := dk_4 (dk_at dksX1_refusesOne_1 0 rfl rfl)
theorem dX1_refusesOne_25 : decode cX1_refusesOne 25 = .ok (.goto 5, 3) := dk_167 0 5 (dk_at dksX1_refusesOne_1 1 rfl rfl)
theorem dX1_refusesOne_28 : decode cX1_refusesOne 28 = .ok (.iload 5, 2) := dk_21 5 (dk_at dksX1_refusesOne_1 4 rfl rfl)
theorem dX1_refusesOne_30 : decode cX1_refusesOne 30 = .ok (.ireturn, 1) := dk_172 (dk_at dksX1_refusesOne_1 6 rfl rfl)
abbrev cX1_missed : ByteArray := prog_1_method_52_code
def yX1_missed : MethodName := ⟨RX1, "missed", "(IIIII)I"⟩
def dkwX1_missed_1 : List UInt8 := [160, 0, 8, 16, 254, 167, 0, 8, 21, 6, 21, 5, 100, 172]
abbrev dktX1_missed_1 : List UInt8 := dkwX1_missed_1 ++ []
def dkwX1_missed_0 : List UInt8 := [42, 180, 0, 46, 21, 4, 2, 3, 182, 0, 214, 27, 28, 29, 182, 0, 226, 54, 6, 21, 6, 16, 254]
abbrev dktX1_missed_0 : List UInt8 := dkwX1_missed_0 ++ dktX1_missed_1
theorem dksX1_missed_0 : cX1_missed.data.toList.drop 0 = dktX1_missed_0 := by decide +kernel
theorem dksX1_missed_1 : cX1_missed.data.toList.drop 23 = dktX1_missed_1 := dk_seg dksX1_missed_0 23 rfl rfl
theorem dX1_missed_0 : decode cX1_missed 0 = .ok (.aload_n 0, 1) := dk_42 (dk_at dksX1_missed_0 0 rfl rfl)
theorem dX1_missed_1 : decode cX1_missed 1 = .ok (.getfield 46, 3) := dk_180 0 46 (dk_at dksX1_missed_0 1 rfl rfl)
theorem dX1_missed_4 : decode cX1_missed 4 = .ok (.iload 4, 2) := dk_21 4 (dk_at dksX1_missed_0 4 rfl rfl)
theorem dX1_missed_6 : decode cX1_missed 6 = .ok (.iconst (-1), 1) := dk_2 (dk_at dksX1_missed_0 6 rfl rfl)
theorem dX1_missed_7 : decode cX1_missed 7 = .ok (.iconst 0, 1) := dk_3 (dk_at dksX1_missed_0 7 rfl rfl)
theorem dX1_missed_8 : decode cX1_missed 8 = .ok (.invokevirtual 214, 3) := dk_182 0 214 (dk_at dksX1_missed_0 8 rfl rfl)
theorem dX1_missed_11 : decode cX1_missed 11 = .ok (.iload_n 1, 1) := dk_27 (dk_at dksX1_missed_0 11 rfl rfl)
theorem dX1_missed_12 : decode cX1_missed 12 = .ok (.iload_n 2, 1) := dk_28 (dk_at dksX1_missed_0 12 rfl rfl)
theorem dX1_missed_13 : decode cX1_missed 13 = .ok (.iload_n 3, 1) := dk_29 (dk_at dksX1_missed_0 13 rfl rfl)
theorem dX1_missed_14 : decode cX1_missed 14 = .ok (.invokevirtual 226, 3) := dk_182 0 226 (dk_at dksX1_missed_0 14 rfl rfl)
theorem dX1_missed_17 : decode cX1_missed 17 = .ok (.istore 6, 2) := dk_54 6 (dk_at dksX1_missed_0 17 rfl rfl)
theorem dX1_missed_19 : decode cX1_missed 19 = .ok (.iload 6, 2) := dk_21 6 (dk_at dksX1_missed_0 19 rfl rfl)
theorem dX1_missed_21 : decode cX1_missed 21 = .ok (.bipush (-2), 2) := dk_16 254 (dk_at dksX1_missed_0 21 rfl rfl)
theorem dX1_missed_23 : decode cX1_missed 23 = .ok (.if_icmp .ne 8, 3) := dk_160 0 8 (dk_at dksX1_missed_1 0 rfl rfl)
theorem dX1_missed_26 : decode cX1_missed 26 = .ok (.bipush (-2), 2) := dk_16 254 (dk_at dksX1_missed_1 3 rfl rfl)
theorem dX1_missed_28 : decode cX1_missed 28 = .ok (.goto 8, 3) := dk_167 0 8 (dk_at dksX1_missed_1 5 rfl rfl)
theorem dX1_missed_31 : decode cX1_missed 31 = .ok (.iload 6, 2) := dk_21 6 (dk_at dksX1_missed_1 8 rfl rfl)
theorem dX1_missed_33 : decode cX1_missed 33 = .ok (.iload 5, 2) := dk_21 5 (dk_at dksX1_missed_1 10 rfl rfl)
theorem dX1_missed_35 : decode cX1_missed 35 = .ok (.isub, 1) := dk_100 (dk_at dksX1_missed_1 12 rfl rfl)
theorem dX1_missed_36 : decode cX1_missed 36 = .ok (.ireturn, 1) := dk_172 (dk_at dksX1_missed_1 13 rfl rfl)
abbrev cX1_vital : ByteArray := prog_1_method_54_code
def yX1_vital : MethodName := ⟨RX1, "vital", "(III)I"⟩
def dkwX1_vital_5 : List UInt8 := [182, 0, 143, 172]
abbrev dktX1_vital_5 : List UInt8 := dkwX1_vital_5 ++ []
def dkwX1_vital_4 : List UInt8 := [21, 7, 21, 5, 182, 1, 69, 153, 0, 6, 132, 6, 1, 132, 7, 1, 167, 255, 200, 42, 21, 6]
abbrev dktX1_vital_4 : List UInt8 := dkwX1_vital_4 ++ dktX1_vital_5
def dkwX1_vital_3 : List UInt8 := [180, 0, 99, 180, 0, 121, 21, 7, 182, 0, 133, 192, 0, 137, 180, 0, 159, 153, 0, 20, 42, 27, 28, 29]
abbrev dktX1_vital_3 : List UInt8 := dkwX1_vital_3 ++ dktX1_vital_4
def dkwX1_vital_2 : List UInt8 := [172, 3, 54, 6, 3, 54, 7, 21, 7, 42, 180, 0, 99, 180, 0, 121, 182, 0, 127, 162, 0, 47, 42]
abbrev dktX1_vital_2 : List UInt8 := dkwX1_vital_2 ++ dktX1_vital_3
def dkwX1_vital_1 : List UInt8 := [182, 0, 222, 27, 28, 29, 182, 0, 226, 54, 5, 21, 5, 16, 254, 160, 0, 10, 42, 16, 254, 182, 0, 143]
abbrev dktX1_vital_1 : List UInt8 := dkwX1_vital_1 ++ dktX1_vital_2
def dkwX1_vital_0 : List UInt8 := [42, 27, 28, 29, 182, 0, 218, 54, 4, 21, 4, 158, 0, 10, 42, 21, 4, 182, 0, 83, 172, 42]
abbrev dktX1_vital_0 : List UInt8 := dkwX1_vital_0 ++ dktX1_vital_1
theorem dksX1_vital_0 : cX1_vital.data.toList.drop 0 = dktX1_vital_0 := by decide +kernel
theorem dksX1_vital_1 : cX1_vital.data.toList.drop 22 = dktX1_vital_1 := dk_seg dksX1_vital_0 22 rfl rfl
theorem dksX1_vital_2 : cX1_vital.data.toList.drop 46 = dktX1_vital_2 := dk_seg dksX1_vital_1 24 rfl rfl
theorem dksX1_vital_3 : cX1_vital.data.toList.drop 69 = dktX1_vital_3 := dk_seg dksX1_vital_2 23 rfl rfl
theorem dksX1_vital_4 : cX1_vital.data.toList.drop 93 = dktX1_vital_4 := dk_seg dksX1_vital_3 24 rfl rfl
theorem dksX1_vital_5 : cX1_vital.data.toList.drop 115 = dktX1_vital_5 := dk_seg dksX1_vital_4 22 rfl rfl
theorem dX1_vital_0 : decode cX1_vital 0 = .ok (.aload_n 0, 1) := dk_42 (dk_at dksX1_vital_0 0 rfl rfl)
theorem dX1_vital_1 : decode cX1_vital 1 = .ok (.iload_n 1, 1) := dk_27 (dk_at dksX1_vital_0 1 rfl rfl)
theorem dX1_vital_2 : decode cX1_vital 2 = .ok (.iload_n 2, 1) := dk_28 (dk_at dksX1_vital_0 2 rfl rfl)
theorem dX1_vital_3 : decode cX1_vital 3 = .ok (.iload_n 3, 1) := dk_29 (dk_at dksX1_vital_0 3 rfl rfl)
theorem dX1_vital_4 : decode cX1_vital 4 = .ok (.invokevirtual 218, 3) := dk_182 0 218 (dk_at dksX1_vital_0 4 rfl rfl)
theorem dX1_vital_7 : decode cX1_vital 7 = .ok (.istore 4, 2) := dk_54 4 (dk_at dksX1_vital_0 7 rfl rfl)
theorem dX1_vital_9 : decode cX1_vital 9 = .ok (.iload 4, 2) := dk_21 4 (dk_at dksX1_vital_0 9 rfl rfl)
theorem dX1_vital_11 : decode cX1_vital 11 = .ok (.ifCond .le 10, 3) := dk_158 0 10 (dk_at dksX1_vital_0 11 rfl rfl)
theorem dX1_vital_14 : decode cX1_vital 14 = .ok (.aload_n 0, 1) := dk_42 (dk_at dksX1_vital_0 14 rfl rfl)
theorem dX1_vital_15 : decode cX1_vital 15 = .ok (.iload 4, 2) := dk_21 4 (dk_at dksX1_vital_0 15 rfl rfl)
theorem dX1_vital_17 : decode cX1_vital 17 = .ok (.invokevirtual 83, 3) := dk_182 0 83 (dk_at dksX1_vital_0 17 rfl rfl)
theorem dX1_vital_20 : decode cX1_vital 20 = .ok (.ireturn, 1) := dk_172 (dk_at dksX1_vital_0 20 rfl rfl)
theorem dX1_vital_21 : decode cX1_vital 21 = .ok (.aload_n 0, 1) := dk_42 (dk_at dksX1_vital_0 21 rfl rfl)
theorem dX1_vital_22 : decode cX1_vital 22 = .ok (.invokevirtual 222, 3) := dk_182 0 222 (dk_at dksX1_vital_1 0 rfl rfl)
theorem dX1_vital_25 : decode cX1_vital 25 = .ok (.iload_n 1, 1) := dk_27 (dk_at dksX1_vital_1 3 rfl rfl)
theorem dX1_vital_26 : decode cX1_vital 26 = .ok (.iload_n 2, 1) := dk_28 (dk_at dksX1_vital_1 4 rfl rfl)
theorem dX1_vital_27 : decode cX1_vital 27 = .ok (.iload_n 3, 1) := dk_29 (dk_at dksX1_vital_1 5 rfl rfl)
theorem dX1_vital_28 : decode cX1_vital 28 = .ok (.invokevirtual 226, 3) := dk_182 0 226 (dk_at dksX1_vital_1 6 rfl rfl)
theorem dX1_vital_31 : decode cX1_vital 31 = .ok (.istore 5, 2) := dk_54 5 (dk_at dksX1_vital_1 9 rfl rfl)
theorem dX1_vital_33 : decode cX1_vital 33 = .ok (.iload 5, 2) := dk_21 5 (dk_at dksX1_vital_1 11 rfl rfl)
theorem dX1_vital_35 : decode cX1_vital 35 = .ok (.bipush (-2), 2) := dk_16 254 (dk_at dksX1_vital_1 13 rfl rfl)
theorem dX1_vital_37 : decode cX1_vital 37 = .ok (.if_icmp .ne 10, 3) := dk_160 0 10 (dk_at dksX1_vital_1 15 rfl rfl)
theorem dX1_vital_40 : decode cX1_vital 40 = .ok (.aload_n 0, 1) := dk_42 (dk_at dksX1_vital_1 18 rfl rfl)
theorem dX1_vital_41 : decode cX1_vital 41 = .ok (.bipush (-2), 2) := dk_16 254 (dk_at dksX1_vital_1 19 rfl rfl)
theorem dX1_vital_43 : decode cX1_vital 43 = .ok (.invokevirtual 143, 3) := dk_182 0 143 (dk_at dksX1_vital_1 21 rfl rfl)
theorem dX1_vital_46 : decode cX1_vital 46 = .ok (.ireturn, 1) := dk_172 (dk_at dksX1_vital_2 0 rfl rfl)
theorem dX1_vital_47 : decode cX1_vital 47 = .ok (.iconst 0, 1) := dk_3 (dk_at dksX1_vital_2 1 rfl rfl)
theorem dX1_vital_48 : decode cX1_vital 48 = .ok (.istore 6, 2) := dk_54 6 (dk_at dksX1_vital_2 2 rfl rfl)
theorem dX1_vital_50 : decode cX1_vital 50 = .ok (.iconst 0, 1) := dk_3 (dk_at dksX1_vital_2 4 rfl rfl)
theorem dX1_vital_51 : decode cX1_vital 51 = .ok (.istore 7, 2) := dk_54 7 (dk_at dksX1_vital_2 5 rfl rfl)
theorem dX1_vital_53 : decode cX1_vital 53 = .ok (.iload 7, 2) := dk_21 7 (dk_at dksX1_vital_2 7 rfl rfl)
theorem dX1_vital_55 : decode cX1_vital 55 = .ok (.aload_n 0, 1) := dk_42 (dk_at dksX1_vital_2 9 rfl rfl)
theorem dX1_vital_56 : decode cX1_vital 56 = .ok (.getfield 99, 3) := dk_180 0 99 (dk_at dksX1_vital_2 10 rfl rfl)
theorem dX1_vital_59 : decode cX1_vital 59 = .ok (.getfield 121, 3) := dk_180 0 121 (dk_at dksX1_vital_2 13 rfl rfl)
theorem dX1_vital_62 : decode cX1_vital 62 = .ok (.invokevirtual 127, 3) := dk_182 0 127 (dk_at dksX1_vital_2 16 rfl rfl)
theorem dX1_vital_65 : decode cX1_vital 65 = .ok (.if_icmp .ge 47, 3) := dk_162 0 47 (dk_at dksX1_vital_2 19 rfl rfl)
theorem dX1_vital_68 : decode cX1_vital 68 = .ok (.aload_n 0, 1) := dk_42 (dk_at dksX1_vital_2 22 rfl rfl)
theorem dX1_vital_69 : decode cX1_vital 69 = .ok (.getfield 99, 3) := dk_180 0 99 (dk_at dksX1_vital_3 0 rfl rfl)
theorem dX1_vital_72 : decode cX1_vital 72 = .ok (.getfield 121, 3) := dk_180 0 121 (dk_at dksX1_vital_3 3 rfl rfl)
theorem dX1_vital_75 : decode cX1_vital 75 = .ok (.iload 7, 2) := dk_21 7 (dk_at dksX1_vital_3 6 rfl rfl)
theorem dX1_vital_77 : decode cX1_vital 77 = .ok (.invokevirtual 133, 3) := dk_182 0 133 (dk_at dksX1_vital_3 8 rfl rfl)
theorem dX1_vital_80 : decode cX1_vital 80 = .ok (.checkcast 137, 3) := dk_192 0 137 (dk_at dksX1_vital_3 11 rfl rfl)
theorem dX1_vital_83 : decode cX1_vital 83 = .ok (.getfield 159, 3) := dk_180 0 159 (dk_at dksX1_vital_3 14 rfl rfl)
theorem dX1_vital_86 : decode cX1_vital 86 = .ok (.ifCond .eq 20, 3) := dk_153 0 20 (dk_at dksX1_vital_3 17 rfl rfl)
theorem dX1_vital_89 : decode cX1_vital 89 = .ok (.aload_n 0, 1) := dk_42 (dk_at dksX1_vital_3 20 rfl rfl)
theorem dX1_vital_90 : decode cX1_vital 90 = .ok (.iload_n 1, 1) := dk_27 (dk_at dksX1_vital_3 21 rfl rfl)
theorem dX1_vital_91 : decode cX1_vital 91 = .ok (.iload_n 2, 1) := dk_28 (dk_at dksX1_vital_3 22 rfl rfl)
theorem dX1_vital_92 : decode cX1_vital 92 = .ok (.iload_n 3, 1) := dk_29 (dk_at dksX1_vital_3 23 rfl rfl)
theorem dX1_vital_93 : decode cX1_vital 93 = .ok (.iload 7, 2) := dk_21 7 (dk_at dksX1_vital_4 0 rfl rfl)
theorem dX1_vital_95 : decode cX1_vital 95 = .ok (.iload 5, 2) := dk_21 5 (dk_at dksX1_vital_4 2 rfl rfl)
theorem dX1_vital_97 : decode cX1_vital 97 = .ok (.invokevirtual 325, 3) := dk_182 1 69 (dk_at dksX1_vital_4 4 rfl rfl)
theorem dX1_vital_100 : decode cX1_vital 100 = .ok (.ifCond .eq 6, 3) := dk_153 0 6 (dk_at dksX1_vital_4 7 rfl rfl)
theorem dX1_vital_103 : decode cX1_vital 103 = .ok (.iinc 6 1, 3) := dk_132 6 1 (dk_at dksX1_vital_4 10 rfl rfl)
theorem dX1_vital_106 : decode cX1_vital 106 = .ok (.iinc 7 1, 3) := dk_132 7 1 (dk_at dksX1_vital_4 13 rfl rfl)
theorem dX1_vital_109 : decode cX1_vital 109 = .ok (.goto (-56), 3) := dk_167 255 200 (dk_at dksX1_vital_4 16 rfl rfl)
theorem dX1_vital_112 : decode cX1_vital 112 = .ok (.aload_n 0, 1) := dk_42 (dk_at dksX1_vital_4 19 rfl rfl)
theorem dX1_vital_113 : decode cX1_vital 113 = .ok (.iload 6, 2) := dk_21 6 (dk_at dksX1_vital_4 20 rfl rfl)
theorem dX1_vital_115 : decode cX1_vital 115 = .ok (.invokevirtual 143, 3) := dk_182 0 143 (dk_at dksX1_vital_5 0 rfl rfl)
theorem dX1_vital_118 : decode cX1_vital 118 = .ok (.ireturn, 1) := dk_172 (dk_at dksX1_vital_5 3 rfl rfl)
abbrev cX1_slack : ByteArray := prog_1_method_55_code
def yX1_slack : MethodName := ⟨RX1, "slack", "(IIII)I"⟩
def dkwX1_slack_5 : List UInt8 := [167, 255, 193, 42, 21, 7, 182, 0, 143, 172]
abbrev dktX1_slack_5 : List UInt8 := dkwX1_slack_5 ++ []
def dkwX1_slack_4 : List UInt8 := [21, 9, 21, 6, 163, 0, 7, 4, 167, 0, 4, 3, 54, 8, 21, 8, 153, 0, 6, 132, 7, 1]
abbrev dktX1_slack_4 : List UInt8 := dkwX1_slack_4 ++ dktX1_slack_5
def dkwX1_slack_3 : List UInt8 := [21, 4, 21, 7, 4, 96, 182, 0, 214, 27, 28, 29, 182, 0, 226, 54, 9, 21, 9, 16, 254, 159, 0, 14]
abbrev dktX1_slack_3 : List UInt8 := dkwX1_slack_3 ++ dktX1_slack_4
def dkwX1_slack_2 : List UInt8 := [172, 3, 54, 7, 4, 54, 8, 21, 8, 153, 0, 64, 21, 7, 16, 99, 162, 0, 57, 42, 180, 0, 46, 2]
abbrev dktX1_slack_2 : List UInt8 := dkwX1_slack_2 ++ dktX1_slack_3
def dkwX1_slack_1 : List UInt8 := [182, 0, 222, 27, 28, 29, 182, 0, 226, 54, 6, 21, 6, 16, 254, 160, 0, 10, 42, 16, 254, 182, 0, 143]
abbrev dktX1_slack_1 : List UInt8 := dkwX1_slack_1 ++ dktX1_slack_2
def dkwX1_slack_0 : List UInt8 := [42, 27, 28, 29, 21, 4, 182, 1, 66, 54, 5, 21, 5, 158, 0, 10, 42, 21, 5, 182, 0, 83, 172, 42]
abbrev dktX1_slack_0 : List UInt8 := dkwX1_slack_0 ++ dktX1_slack_1
theorem dksX1_slack_0 : cX1_slack.data.toList.drop 0 = dktX1_slack_0 := by decide +kernel
theorem dksX1_slack_1 : cX1_slack.data.toList.drop 24 = dktX1_slack_1 := dk_seg dksX1_slack_0 24 rfl rfl
theorem dksX1_slack_2 : cX1_slack.data.toList.drop 48 = dktX1_slack_2 := dk_seg dksX1_slack_1 24 rfl rfl
theorem dksX1_slack_3 : cX1_slack.data.toList.drop 72 = dktX1_slack_3 := dk_seg dksX1_slack_2 24 rfl rfl
theorem dksX1_slack_4 : cX1_slack.data.toList.drop 96 = dktX1_slack_4 := dk_seg dksX1_slack_3 24 rfl rfl
theorem dksX1_slack_5 : cX1_slack.data.toList.drop 118 = dktX1_slack_5 := dk_seg dksX1_slack_4 22 rfl rfl
theorem dX1_slack_0 : decode cX1_slack 0 = .ok (.aload_n 0, 1) := dk_42 (dk_at dksX1_slack_0 0 rfl rfl)
theorem dX1_slack_1 : decode cX1_slack 1 = .ok (.iload_n 1, 1) := dk_27 (dk_at dksX1_slack_0 1 rfl rfl)
theorem dX1_slack_2 : decode cX1_slack 2 = .ok (.iload_n 2, 1) := dk_28 (dk_at dksX1_slack_0 2 rfl rfl)
theorem dX1_slack_3 : decode cX1_slack 3 = .ok (.iload_n 3, 1) := dk_29 (dk_at dksX1_slack_0 3 rfl rfl)
theorem dX1_slack_4 : decode cX1_slack 4 = .ok (.iload 4, 2) := dk_21 4 (dk_at dksX1_slack_0 4 rfl rfl)
theorem dX1_slack_6 : decode cX1_slack 6 = .ok (.invokevirtual 322, 3) := dk_182 1 66 (dk_at dksX1_slack_0 6 rfl rfl)
theorem dX1_slack_9 : decode cX1_slack 9 = .ok (.istore 5, 2) := dk_54 5 (dk_at dksX1_slack_0 9 rfl rfl)
theorem dX1_slack_11 : decode cX1_slack 11 = .ok (.iload 5, 2) := dk_21 5 (dk_at dksX1_slack_0 11 rfl rfl)
theorem dX1_slack_13 : decode cX1_slack 13 = .ok (.ifCond .le 10, 3) := dk_158 0 10 (dk_at dksX1_slack_0 13 rfl rfl)
theorem dX1_slack_16 : decode cX1_slack 16 = .ok (.aload_n 0, 1) := dk_42 (dk_at dksX1_slack_0 16 rfl rfl)
theorem dX1_slack_17 : decode cX1_slack 17 = .ok (.iload 5, 2) := dk_21 5 (dk_at dksX1_slack_0 17 rfl rfl)
theorem dX1_slack_19 : decode cX1_slack 19 = .ok (.invokevirtual 83, 3) := dk_182 0 83 (dk_at dksX1_slack_0 19 rfl rfl)
theorem dX1_slack_22 : decode cX1_slack 22 = .ok (.ireturn, 1) := dk_172 (dk_at dksX1_slack_0 22 rfl rfl)
theorem dX1_slack_23 : decode cX1_slack 23 = .ok (.aload_n 0, 1) := dk_42 (dk_at dksX1_slack_0 23 rfl rfl)
theorem dX1_slack_24 : decode cX1_slack 24 = .ok (.invokevirtual 222, 3) := dk_182 0 222 (dk_at dksX1_slack_1 0 rfl rfl)
theorem dX1_slack_27 : decode cX1_slack 27 = .ok (.iload_n 1, 1) := dk_27 (dk_at dksX1_slack_1 3 rfl rfl)
theorem dX1_slack_28 : decode cX1_slack 28 = .ok (.iload_n 2, 1) := dk_28 (dk_at dksX1_slack_1 4 rfl rfl)
theorem dX1_slack_29 : decode cX1_slack 29 = .ok (.iload_n 3, 1) := dk_29 (dk_at dksX1_slack_1 5 rfl rfl)
theorem dX1_slack_30 : decode cX1_slack 30 = .ok (.invokevirtual 226, 3) := dk_182 0 226 (dk_at dksX1_slack_1 6 rfl rfl)
theorem dX1_slack_33 : decode cX1_slack 33 = .ok (.istore 6, 2) := dk_54 6 (dk_at dksX1_slack_1 9 rfl rfl)
theorem dX1_slack_35 : decode cX1_slack 35 = .ok (.iload 6, 2) := dk_21 6 (dk_at dksX1_slack_1 11 rfl rfl)
theorem dX1_slack_37 : decode cX1_slack 37 = .ok (.bipush (-2), 2) := dk_16 254 (dk_at dksX1_slack_1 13 rfl rfl)
theorem dX1_slack_39 : decode cX1_slack 39 = .ok (.if_icmp .ne 10, 3) := dk_160 0 10 (dk_at dksX1_slack_1 15 rfl rfl)
theorem dX1_slack_42 : decode cX1_slack 42 = .ok (.aload_n 0, 1) := dk_42 (dk_at dksX1_slack_1 18 rfl rfl)
theorem dX1_slack_43 : decode cX1_slack 43 = .ok (.bipush (-2), 2) := dk_16 254 (dk_at dksX1_slack_1 19 rfl rfl)
theorem dX1_slack_45 : decode cX1_slack 45 = .ok (.invokevirtual 143, 3) := dk_182 0 143 (dk_at dksX1_slack_1 21 rfl rfl)
theorem dX1_slack_48 : decode cX1_slack 48 = .ok (.ireturn, 1) := dk_172 (dk_at dksX1_slack_2 0 rfl rfl)
theorem dX1_slack_49 : decode cX1_slack 49 = .ok (.iconst 0, 1) := dk_3 (dk_at dksX1_slack_2 1 rfl rfl)
theorem dX1_slack_50 : decode cX1_slack 50 = .ok (.istore 7, 2) := dk_54 7 (dk_at dksX1_slack_2 2 rfl rfl)
theorem dX1_slack_52 : decode cX1_slack 52 = .ok (.iconst 1, 1) := dk_4 (dk_at dksX1_slack_2 4 rfl rfl)
theorem dX1_slack_53 : decode cX1_slack 53 = .ok (.istore 8, 2) := dk_54 8 (dk_at dksX1_slack_2 5 rfl rfl)
theorem dX1_slack_55 : decode cX1_slack 55 = .ok (.iload 8, 2) := dk_21 8 (dk_at dksX1_slack_2 7 rfl rfl)
theorem dX1_slack_57 : decode cX1_slack 57 = .ok (.ifCond .eq 64, 3) := dk_153 0 64 (dk_at dksX1_slack_2 9 rfl rfl)
theorem dX1_slack_60 : decode cX1_slack 60 = .ok (.iload 7, 2) := dk_21 7 (dk_at dksX1_slack_2 12 rfl rfl)
theorem dX1_slack_62 : decode cX1_slack 62 = .ok (.bipush 99, 2) := dk_16 99 (dk_at dksX1_slack_2 14 rfl rfl)
theorem dX1_slack_64 : decode cX1_slack 64 = .ok (.if_icmp .ge 57, 3) := dk_162 0 57 (dk_at dksX1_slack_2 16 rfl rfl)
theorem dX1_slack_67 : decode cX1_slack 67 = .ok (.aload_n 0, 1) := dk_42 (dk_at dksX1_slack_2 19 rfl rfl)
theorem dX1_slack_68 : decode cX1_slack 68 = .ok (.getfield 46, 3) := dk_180 0 46 (dk_at dksX1_slack_2 20 rfl rfl)
theorem dX1_slack_71 : decode cX1_slack 71 = .ok (.iconst (-1), 1) := dk_2 (dk_at dksX1_slack_2 23 rfl rfl)
theorem dX1_slack_72 : decode cX1_slack 72 = .ok (.iload 4, 2) := dk_21 4 (dk_at dksX1_slack_3 0 rfl rfl)
theorem dX1_slack_74 : decode cX1_slack 74 = .ok (.iload 7, 2) := dk_21 7 (dk_at dksX1_slack_3 2 rfl rfl)
theorem dX1_slack_76 : decode cX1_slack 76 = .ok (.iconst 1, 1) := dk_4 (dk_at dksX1_slack_3 4 rfl rfl)
theorem dX1_slack_77 : decode cX1_slack 77 = .ok (.iadd, 1) := dk_96 (dk_at dksX1_slack_3 5 rfl rfl)
theorem dX1_slack_78 : decode cX1_slack 78 = .ok (.invokevirtual 214, 3) := dk_182 0 214 (dk_at dksX1_slack_3 6 rfl rfl)
theorem dX1_slack_81 : decode cX1_slack 81 = .ok (.iload_n 1, 1) := dk_27 (dk_at dksX1_slack_3 9 rfl rfl)
theorem dX1_slack_82 : decode cX1_slack 82 = .ok (.iload_n 2, 1) := dk_28 (dk_at dksX1_slack_3 10 rfl rfl)
theorem dX1_slack_83 : decode cX1_slack 83 = .ok (.iload_n 3, 1) := dk_29 (dk_at dksX1_slack_3 11 rfl rfl)
theorem dX1_slack_84 : decode cX1_slack 84 = .ok (.invokevirtual 226, 3) := dk_182 0 226 (dk_at dksX1_slack_3 12 rfl rfl)
theorem dX1_slack_87 : decode cX1_slack 87 = .ok (.istore 9, 2) := dk_54 9 (dk_at dksX1_slack_3 15 rfl rfl)
theorem dX1_slack_89 : decode cX1_slack 89 = .ok (.iload 9, 2) := dk_21 9 (dk_at dksX1_slack_3 17 rfl rfl)
theorem dX1_slack_91 : decode cX1_slack 91 = .ok (.bipush (-2), 2) := dk_16 254 (dk_at dksX1_slack_3 19 rfl rfl)
theorem dX1_slack_93 : decode cX1_slack 93 = .ok (.if_icmp .eq 14, 3) := dk_159 0 14 (dk_at dksX1_slack_3 21 rfl rfl)
theorem dX1_slack_96 : decode cX1_slack 96 = .ok (.iload 9, 2) := dk_21 9 (dk_at dksX1_slack_4 0 rfl rfl)
theorem dX1_slack_98 : decode cX1_slack 98 = .ok (.iload 6, 2) := dk_21 6 (dk_at dksX1_slack_4 2 rfl rfl)
theorem dX1_slack_100 : decode cX1_slack 100 = .ok (.if_icmp .gt 7, 3) := dk_163 0 7 (dk_at dksX1_slack_4 4 rfl rfl)
theorem dX1_slack_103 : decode cX1_slack 103 = .ok (.iconst 1, 1) := dk_4 (dk_at dksX1_slack_4 7 rfl rfl)
theorem dX1_slack_104 : decode cX1_slack 104 = .ok (.goto 4, 3) := dk_167 0 4 (dk_at dksX1_slack_4 8 rfl rfl)
theorem dX1_slack_107 : decode cX1_slack 107 = .ok (.iconst 0, 1) := dk_3 (dk_at dksX1_slack_4 11 rfl rfl)
theorem dX1_slack_108 : decode cX1_slack 108 = .ok (.istore 8, 2) := dk_54 8 (dk_at dksX1_slack_4 12 rfl rfl)
theorem dX1_slack_110 : decode cX1_slack 110 = .ok (.iload 8, 2) := dk_21 8 (dk_at dksX1_slack_4 14 rfl rfl)
theorem dX1_slack_112 : decode cX1_slack 112 = .ok (.ifCond .eq 6, 3) := dk_153 0 6 (dk_at dksX1_slack_4 16 rfl rfl)
theorem dX1_slack_115 : decode cX1_slack 115 = .ok (.iinc 7 1, 3) := dk_132 7 1 (dk_at dksX1_slack_4 19 rfl rfl)
theorem dX1_slack_118 : decode cX1_slack 118 = .ok (.goto (-63), 3) := dk_167 255 193 (dk_at dksX1_slack_5 0 rfl rfl)
theorem dX1_slack_121 : decode cX1_slack 121 = .ok (.aload_n 0, 1) := dk_42 (dk_at dksX1_slack_5 3 rfl rfl)
theorem dX1_slack_122 : decode cX1_slack 122 = .ok (.iload 7, 2) := dk_21 7 (dk_at dksX1_slack_5 4 rfl rfl)
theorem dX1_slack_124 : decode cX1_slack 124 = .ok (.invokevirtual 143, 3) := dk_182 0 143 (dk_at dksX1_slack_5 6 rfl rfl)
theorem dX1_slack_127 : decode cX1_slack 127 = .ok (.ireturn, 1) := dk_172 (dk_at dksX1_slack_5 9 rfl rfl)
abbrev cX1_why : ByteArray := prog_1_method_58_code
def yX1_why : MethodName := ⟨RX1, "why", "(IIII)I"⟩
def dkwX1_why_4 : List UInt8 := [192, 1, 84, 180, 1, 92, 182, 0, 143, 172]
abbrev dktX1_why_4 : List UInt8 := dkwX1_why_4 ++ []
def dkwX1_why_3 : List UInt8 := [182, 1, 89, 58, 7, 132, 8, 1, 167, 255, 234, 42, 25, 7, 199, 0, 7, 3, 167, 0, 11, 25, 7]
abbrev dktX1_why_3 : List UInt8 := dkwX1_why_3 ++ dktX1_why_4
def dkwX1_why_2 : List UInt8 := [58, 6, 25, 6, 58, 7, 3, 54, 8, 21, 8, 21, 4, 162, 0, 21, 25, 7, 198, 0, 16, 25, 7]
abbrev dktX1_why_2 : List UInt8 := dkwX1_why_2 ++ dktX1_why_3
def dkwX1_why_1 : List UInt8 := [158, 0, 10, 42, 21, 5, 182, 0, 83, 172, 42, 27, 28, 29, 3, 182, 1, 80, 42, 3, 182, 0, 143, 172]
abbrev dktX1_why_1 : List UInt8 := dkwX1_why_1 ++ dktX1_why_2
def dkwX1_why_0 : List UInt8 := [42, 27, 28, 29, 182, 0, 218, 54, 5, 21, 5, 154, 0, 11, 21, 4, 156, 0, 6, 5, 54, 5, 21, 5]
abbrev dktX1_why_0 : List UInt8 := dkwX1_why_0 ++ dktX1_why_1
theorem dksX1_why_0 : cX1_why.data.toList.drop 0 = dktX1_why_0 := by decide +kernel
theorem dksX1_why_1 : cX1_why.data.toList.drop 24 = dktX1_why_1 := dk_seg dksX1_why_0 24 rfl rfl
theorem dksX1_why_2 : cX1_why.data.toList.drop 48 = dktX1_why_2 := dk_seg dksX1_why_1 24 rfl rfl
theorem dksX1_why_3 : cX1_why.data.toList.drop 71 = dktX1_why_3 := dk_seg dksX1_why_2 23 rfl rfl
theorem dksX1_why_4 : cX1_why.data.toList.drop 94 = dktX1_why_4 := dk_seg dksX1_why_3 23 rfl rfl
theorem dX1_why_0 : decode cX1_why 0 = .ok (.aload_n 0, 1) := dk_42 (dk_at dksX1_why_0 0 rfl rfl)
theorem dX1_why_1 : decode cX1_why 1 = .ok (.iload_n 1, 1) := dk_27 (dk_at dksX1_why_0 1 rfl rfl)
theorem dX1_why_2 : decode cX1_why 2 = .ok (.iload_n 2, 1) := dk_28 (dk_at dksX1_why_0 2 rfl rfl)
theorem dX1_why_3 : decode cX1_why 3 = .ok (.iload_n 3, 1) := dk_29 (dk_at dksX1_why_0 3 rfl rfl)
theorem dX1_why_4 : decode cX1_why 4 = .ok (.invokevirtual 218, 3) := dk_182 0 218 (dk_at dksX1_why_0 4 rfl rfl)
theorem dX1_why_7 : decode cX1_why 7 = .ok (.istore 5, 2) := dk_54 5 (dk_at dksX1_why_0 7 rfl rfl)
theorem dX1_why_9 : decode cX1_why 9 = .ok (.iload 5, 2) := dk_21 5 (dk_at dksX1_why_0 9 rfl rfl)
theorem dX1_why_11 : decode cX1_why 11 = .ok (.ifCond .ne 11, 3) := dk_154 0 11 (dk_at dksX1_why_0 11 rfl rfl)
theorem dX1_why_14 : decode cX1_why 14 = .ok (.iload 4, 2) := dk_21 4 (dk_at dksX1_why_0 14 rfl rfl)
theorem dX1_why_16 : decode cX1_why 16 = .ok (.ifCond .ge 6, 3) := dk_156 0 6 (dk_at dksX1_why_0 16 rfl rfl)
theorem dX1_why_19 : decode cX1_why 19 = .ok (.iconst 2, 1) := dk_5 (dk_at dksX1_why_0 19 rfl rfl)
theorem dX1_why_20 : decode cX1_why 20 = .ok (.istore 5, 2) := dk_54 5 (dk_at dksX1_why_0 20 rfl rfl)
theorem dX1_why_22 : decode cX1_why 22 = .ok (.iload 5, 2) := dk_21 5 (dk_at dksX1_why_0 22 rfl rfl)
theorem dX1_why_24 : decode cX1_why 24 = .ok (.ifCond .le 10, 3) := dk_158 0 10 (dk_at dksX1_why_1 0 rfl rfl)
theorem dX1_why_27 : decode cX1_why 27 = .ok (.aload_n 0, 1) := dk_42 (dk_at dksX1_why_1 3 rfl rfl)
theorem dX1_why_28 : decode cX1_why 28 = .ok (.iload 5, 2) := dk_21 5 (dk_at dksX1_why_1 4 rfl rfl)
theorem dX1_why_30 : decode cX1_why 30 = .ok (.invokevirtual 83, 3) := dk_182 0 83 (dk_at dksX1_why_1 6 rfl rfl)
theorem dX1_why_33 : decode cX1_why 33 = .ok (.ireturn, 1) := dk_172 (dk_at dksX1_why_1 9 rfl rfl)
theorem dX1_why_34 : decode cX1_why 34 = .ok (.aload_n 0, 1) := dk_42 (dk_at dksX1_why_1 10 rfl rfl)
theorem dX1_why_35 : decode cX1_why 35 = .ok (.iload_n 1, 1) := dk_27 (dk_at dksX1_why_1 11 rfl rfl)
theorem dX1_why_36 : decode cX1_why 36 = .ok (.iload_n 2, 1) := dk_28 (dk_at dksX1_why_1 12 rfl rfl)
theorem dX1_why_37 : decode cX1_why 37 = .ok (.iload_n 3, 1) := dk_29 (dk_at dksX1_why_1 13 rfl rfl)
theorem dX1_why_38 : decode cX1_why 38 = .ok (.iconst 0, 1) := dk_3 (dk_at dksX1_why_1 14 rfl rfl)
theorem dX1_why_39 : decode cX1_why 39 = .ok (.invokevirtual 336, 3) := dk_182 1 80 (dk_at dksX1_why_1 15 rfl rfl)
theorem dX1_why_42 : decode cX1_why 42 = .ok (.aload_n 0, 1) := dk_42 (dk_at dksX1_why_1 18 rfl rfl)
theorem dX1_why_43 : decode cX1_why 43 = .ok (.iconst 0, 1) := dk_3 (dk_at dksX1_why_1 19 rfl rfl)
theorem dX1_why_44 : decode cX1_why 44 = .ok (.invokevirtual 143, 3) := dk_182 0 143 (dk_at dksX1_why_1 20 rfl rfl)
theorem dX1_why_47 : decode cX1_why 47 = .ok (.ireturn, 1) := dk_172 (dk_at dksX1_why_1 23 rfl rfl)
theorem dX1_why_48 : decode cX1_why 48 = .ok (.astore 6, 2) := dk_58 6 (dk_at dksX1_why_2 0 rfl rfl)
theorem dX1_why_50 : decode cX1_why 50 = .ok (.aload 6, 2) := dk_25 6 (dk_at dksX1_why_2 2 rfl rfl)
theorem dX1_why_52 : decode cX1_why 52 = .ok (.astore 7, 2) := dk_58 7 (dk_at dksX1_why_2 4 rfl rfl)
theorem dX1_why_54 : decode cX1_why 54 = .ok (.iconst 0, 1) := dk_3 (dk_at dksX1_why_2 6 rfl rfl)
theorem dX1_why_55 : decode cX1_why 55 = .ok (.istore 8, 2) := dk_54 8 (dk_at dksX1_why_2 7 rfl rfl)
theorem dX1_why_57 : decode cX1_why 57 = .ok (.iload 8, 2) := dk_21 8 (dk_at dksX1_why_2 9 rfl rfl)
theorem dX1_why_59 : decode cX1_why 59 = .ok (.iload 4, 2) := dk_21 4 (dk_at dksX1_why_2 11 rfl rfl)
theorem dX1_why_61 : decode cX1_why 61 = .ok (.if_icmp .ge 21, 3) := dk_162 0 21 (dk_at dksX1_why_2 13 rfl rfl)
theorem dX1_why_64 : decode cX1_why 64 = .ok (.aload 7, 2) := dk_25 7 (dk_at dksX1_why_2 16 rfl rfl)
theorem dX1_why_66 : decode cX1_why 66 = .ok (.ifnull 16, 3) := dk_198 0 16 (dk_at dksX1_why_2 18 rfl rfl)
theorem dX1_why_69 : decode cX1_why 69 = .ok (.aload 7, 2) := dk_25 7 (dk_at dksX1_why_2 21 rfl rfl)
theorem dX1_why_71 : decode cX1_why 71 = .ok (.invokevirtual 345, 3) := dk_182 1 89 (dk_at dksX1_why_3 0 rfl rfl)
theorem dX1_why_74 : decode cX1_why 74 = .ok (.astore 7, 2) := dk_58 7 (dk_at dksX1_why_3 3 rfl rfl)
theorem dX1_why_76 : decode cX1_why 76 = .ok (.iinc 8 1, 3) := dk_132 8 1 (dk_at dksX1_why_3 5 rfl rfl)
theorem dX1_why_79 : decode cX1_why 79 = .ok (.goto (-22), 3) := dk_167 255 234 (dk_at dksX1_why_3 8 rfl rfl)
theorem dX1_why_82 : decode cX1_why 82 = .ok (.aload_n 0, 1) := dk_42 (dk_at dksX1_why_3 11 rfl rfl)
theorem dX1_why_83 : decode cX1_why 83 = .ok (.aload 7, 2) := dk_25 7 (dk_at dksX1_why_3 12 rfl rfl)
theorem dX1_why_85 : decode cX1_why 85 = .ok (.ifnonnull 7, 3) := dk_199 0 7 (dk_at dksX1_why_3 14 rfl rfl)
theorem dX1_why_88 : decode cX1_why 88 = .ok (.iconst 0, 1) := dk_3 (dk_at dksX1_why_3 17 rfl rfl)
theorem dX1_why_89 : decode cX1_why 89 = .ok (.goto 11, 3) := dk_167 0 11 (dk_at dksX1_why_3 18 rfl rfl)
theorem dX1_why_92 : decode cX1_why 92 = .ok (.aload 7, 2) := dk_25 7 (dk_at dksX1_why_3 21 rfl rfl)
theorem dX1_why_94 : decode cX1_why 94 = .ok (.checkcast 340, 3) := dk_192 1 84 (dk_at dksX1_why_4 0 rfl rfl)
theorem dX1_why_97 : decode cX1_why 97 = .ok (.getfield 348, 3) := dk_180 1 92 (dk_at dksX1_why_4 3 rfl rfl)
theorem dX1_why_100 : decode cX1_why 100 = .ok (.invokevirtual 143, 3) := dk_182 0 143 (dk_at dksX1_why_4 6 rfl rfl)
theorem dX1_why_103 : decode cX1_why 103 = .ok (.ireturn, 1) := dk_172 (dk_at dksX1_why_4 9 rfl rfl)
abbrev cX1_asks : ByteArray := prog_1_method_57_code
def yX1_asks : MethodName := ⟨RX1, "asks", "(IIII)V"⟩
def dkwX1_asks_2 : List UInt8 := [4, 96, 25, 5, 183, 1, 86, 191]
abbrev dktX1_asks_2 : List UInt8 := dkwX1_asks_2 ++ []
def dkwX1_asks_1 : List UInt8 := [28, 29, 21, 4, 4, 96, 182, 1, 80, 167, 0, 9, 58, 6, 25, 6, 58, 5, 187, 1, 84, 89, 21, 4]
abbrev dktX1_asks_1 : List UInt8 := dkwX1_asks_1 ++ dktX1_asks_2
def dkwX1_asks_0 : List UInt8 := [42, 27, 28, 29, 21, 4, 182, 1, 76, 153, 0, 4, 177, 1, 58, 5, 21, 4, 5, 163, 0, 14, 42, 27]
abbrev dktX1_asks_0 : List UInt8 := dkwX1_asks_0 ++ dktX1_asks_1
theorem dksX1_asks_0 : cX1_asks.data.toList.drop 0 = dktX1_asks_0 := by decide +kernel
theorem dksX1_asks_1 : cX1_asks.data.toList.drop 24 = dktX1_asks_1 := dk_seg dksX1_asks_0 24 rfl rfl
theorem dksX1_asks_2 : cX1_asks.data.toList.drop 48 = dktX1_asks_2 := dk_seg dksX1_asks_1 24 rfl rfl
theorem dX1_asks_0 : decode cX1_asks 0 = .ok (.aload_n 0, 1) := dk_42 (dk_at dksX1_asks_0 0 rfl rfl)
theorem dX1_asks_1 : decode cX1_asks 1 = .ok (.iload_n 1, 1) := dk_27 (dk_at dksX1_asks_0 1 rfl rfl)
theorem dX1_asks_2 : decode cX1_asks 2 = .ok (.iload_n 2, 1) := dk_28 (dk_at dksX1_asks_0 2 rfl rfl)
theorem dX1_asks_3 : decode cX1_asks 3 = .ok (.iload_n 3, 1) := dk_29 (dk_at dksX1_asks_0 3 rfl rfl)
theorem dX1_asks_4 : decode cX1_asks 4 = .ok (.iload 4, 2) := dk_21 4 (dk_at dksX1_asks_0 4 rfl rfl)
theorem dX1_asks_6 : decode cX1_asks 6 = .ok (.invokevirtual 332, 3) := dk_182 1 76 (dk_at dksX1_asks_0 6 rfl rfl)
theorem dX1_asks_9 : decode cX1_asks 9 = .ok (.ifCond .eq 4, 3) := dk_153 0 4 (dk_at dksX1_asks_0 9 rfl rfl)
theorem dX1_asks_12 : decode cX1_asks 12 = .ok (.return_, 1) := dk_177 (dk_at dksX1_asks_0 12 rfl rfl)
theorem dX1_asks_13 : decode cX1_asks 13 = .ok (.aconst_null, 1) := dk_1 (dk_at dksX1_asks_0 13 rfl rfl)
theorem dX1_asks_14 : decode cX1_asks 14 = .ok (.astore 5, 2) := dk_58 5 (dk_at dksX1_asks_0 14 rfl rfl)
theorem dX1_asks_16 : decode cX1_asks 16 = .ok (.iload 4, 2) := dk_21 4 (dk_at dksX1_asks_0 16 rfl rfl)
theorem dX1_asks_18 : decode cX1_asks 18 = .ok (.iconst 2, 1) := dk_5 (dk_at dksX1_asks_0 18 rfl rfl)
theorem dX1_asks_19 : decode cX1_asks 19 = .ok (.if_icmp .gt 14, 3) := dk_163 0 14 (dk_at dksX1_asks_0 19 rfl rfl)
theorem dX1_asks_22 : decode cX1_asks 22 = .ok (.aload_n 0, 1) := dk_42 (dk_at dksX1_asks_0 22 rfl rfl)
theorem dX1_asks_23 : decode cX1_asks 23 = .ok (.iload_n 1, 1) := dk_27 (dk_at dksX1_asks_0 23 rfl rfl)
theorem dX1_asks_24 : decode cX1_asks 24 = .ok (.iload_n 2, 1) := dk_28 (dk_at dksX1_asks_1 0 rfl rfl)
theorem dX1_asks_25 : decode cX1_asks 25 = .ok (.iload_n 3, 1) := dk_29 (dk_at dksX1_asks_1 1 rfl rfl)
theorem dX1_asks_26 : decode cX1_asks 26 = .ok (.iload 4, 2) := dk_21 4 (dk_at dksX1_asks_1 2 rfl rfl)
theorem dX1_asks_28 : decode cX1_asks 28 = .ok (.iconst 1, 1) := dk_4 (dk_at dksX1_asks_1 4 rfl rfl)
theorem dX1_asks_29 : decode cX1_asks 29 = .ok (.iadd, 1) := dk_96 (dk_at dksX1_asks_1 5 rfl rfl)
theorem dX1_asks_30 : decode cX1_asks 30 = .ok (.invokevirtual 336, 3) := dk_182 1 80 (dk_at dksX1_asks_1 6 rfl rfl)
theorem dX1_asks_33 : decode cX1_asks 33 = .ok (.goto 9, 3) := dk_167 0 9 (dk_at dksX1_asks_1 9 rfl rfl)
theorem dX1_asks_36 : decode cX1_asks 36 = .ok (.astore 6, 2) := dk_58 6 (dk_at dksX1_asks_1 12 rfl rfl)
theorem dX1_asks_38 : decode cX1_asks 38 = .ok (.aload 6, 2) := dk_25 6 (dk_at dksX1_asks_1 14 rfl rfl)
theorem dX1_asks_40 : decode cX1_asks 40 = .ok (.astore 5, 2) := dk_58 5 (dk_at dksX1_asks_1 16 rfl rfl)
theorem dX1_asks_42 : decode cX1_asks 42 = .ok (.new 340, 3) := dk_187 1 84 (dk_at dksX1_asks_1 18 rfl rfl)
theorem dX1_asks_45 : decode cX1_asks 45 = .ok (.dup, 1) := dk_89 (dk_at dksX1_asks_1 21 rfl rfl)
theorem dX1_asks_46 : decode cX1_asks 46 = .ok (.iload 4, 2) := dk_21 4 (dk_at dksX1_asks_1 22 rfl rfl)
theorem dX1_asks_48 : decode cX1_asks 48 = .ok (.iconst 1, 1) := dk_4 (dk_at dksX1_asks_2 0 rfl rfl)
theorem dX1_asks_49 : decode cX1_asks 49 = .ok (.iadd, 1) := dk_96 (dk_at dksX1_asks_2 1 rfl rfl)
theorem dX1_asks_50 : decode cX1_asks 50 = .ok (.aload 5, 2) := dk_25 5 (dk_at dksX1_asks_2 2 rfl rfl)
theorem dX1_asks_52 : decode cX1_asks 52 = .ok (.invokespecial 342, 3) := dk_183 1 86 (dk_at dksX1_asks_2 4 rfl rfl)
theorem dX1_asks_55 : decode cX1_asks 55 = .ok (.athrow, 1) := dk_191 (dk_at dksX1_asks_2 7 rfl rfl)
abbrev cX1_hasWay : ByteArray := prog_1_method_56_code
def yX1_hasWay : MethodName := ⟨RX1, "hasWay", "(IIII)Z"⟩
def dkwX1_hasWay_2 : List UInt8 := [16, 254, 159, 0, 7, 4, 167, 0, 4, 3, 172]
abbrev dktX1_hasWay_2 : List UInt8 := dkwX1_hasWay_2 ++ []
def dkwX1_hasWay_1 : List UInt8 := [182, 1, 73, 58, 5, 25, 5, 27, 28, 21, 4, 5, 164, 0, 7, 3, 167, 0, 4, 29, 182, 0, 226]
abbrev dktX1_hasWay_1 : List UInt8 := dkwX1_hasWay_1 ++ dktX1_hasWay_2
def dkwX1_hasWay_0 : List UInt8 := [21, 4, 154, 0, 10, 42, 182, 0, 222, 167, 0, 16, 42, 180, 0, 46, 21, 4, 5, 184, 1, 32]
abbrev dktX1_hasWay_0 : List UInt8 := dkwX1_hasWay_0 ++ dktX1_hasWay_1
theorem dksX1_hasWay_0 : cX1_hasWay.data.toList.drop 0 = dktX1_hasWay_0 := by decide +kernel
theorem dksX1_hasWay_1 : cX1_hasWay.data.toList.drop 22 = dktX1_hasWay_1 := dk_seg dksX1_hasWay_0 22 rfl rfl
theorem dksX1_hasWay_2 : cX1_hasWay.data.toList.drop 45 = dktX1_hasWay_2 := dk_seg dksX1_hasWay_1 23 rfl rfl
theorem dX1_hasWay_0 : decode cX1_hasWay 0 = .ok (.iload 4, 2) := dk_21 4 (dk_at dksX1_hasWay_0 0 rfl rfl)
theorem dX1_hasWay_2 : decode cX1_hasWay 2 = .ok (.ifCond .ne 10, 3) := dk_154 0 10 (dk_at dksX1_hasWay_0 2 rfl rfl)
theorem dX1_hasWay_5 : decode cX1_hasWay 5 = .ok (.aload_n 0, 1) := dk_42 (dk_at dksX1_hasWay_0 5 rfl rfl)
theorem dX1_hasWay_6 : decode cX1_hasWay 6 = .ok (.invokevirtual 222, 3) := dk_182 0 222 (dk_at dksX1_hasWay_0 6 rfl rfl)
theorem dX1_hasWay_9 : decode cX1_hasWay 9 = .ok (.goto 16, 3) := dk_167 0 16 (dk_at dksX1_hasWay_0 9 rfl rfl)
theorem dX1_hasWay_12 : decode cX1_hasWay 12 = .ok (.aload_n 0, 1) := dk_42 (dk_at dksX1_hasWay_0 12 rfl rfl)
theorem dX1_hasWay_13 : decode cX1_hasWay 13 = .ok (.getfield 46, 3) := dk_180 0 46 (dk_at dksX1_hasWay_0 13 rfl rfl)
theorem dX1_hasWay_16 : decode cX1_hasWay 16 = .ok (.iload 4, 2) := dk_21 4 (dk_at dksX1_hasWay_0 16 rfl rfl)
theorem dX1_hasWay_18 : decode cX1_hasWay 18 = .ok (.iconst 2, 1) := dk_5 (dk_at dksX1_hasWay_0 18 rfl rfl)
theorem dX1_hasWay_19 : decode cX1_hasWay 19 = .ok (.invokestatic 288, 3) := dk_184 1 32 (dk_at dksX1_hasWay_0 19 rfl rfl)
theorem dX1_hasWay_22 : decode cX1_hasWay 22 = .ok (.invokevirtual 329, 3) := dk_182 1 73 (dk_at dksX1_hasWay_1 0 rfl rfl)
theorem dX1_hasWay_25 : decode cX1_hasWay 25 = .ok (.astore 5, 2) := dk_58 5 (dk_at dksX1_hasWay_1 3 rfl rfl)
theorem dX1_hasWay_27 : decode cX1_hasWay 27 = .ok (.aload 5, 2) := dk_25 5 (dk_at dksX1_hasWay_1 5 rfl rfl)
theorem dX1_hasWay_29 : decode cX1_hasWay 29 = .ok (.iload_n 1, 1) := dk_27 (dk_at dksX1_hasWay_1 7 rfl rfl)
theorem dX1_hasWay_30 : decode cX1_hasWay 30 = .ok (.iload_n 2, 1) := dk_28 (dk_at dksX1_hasWay_1 8 rfl rfl)
theorem dX1_hasWay_31 : decode cX1_hasWay 31 = .ok (.iload 4, 2) := dk_21 4 (dk_at dksX1_hasWay_1 9 rfl rfl)
theorem dX1_hasWay_33 : decode cX1_hasWay 33 = .ok (.iconst 2, 1) := dk_5 (dk_at dksX1_hasWay_1 11 rfl rfl)
theorem dX1_hasWay_34 : decode cX1_hasWay 34 = .ok (.if_icmp .le 7, 3) := dk_164 0 7 (dk_at dksX1_hasWay_1 12 rfl rfl)
theorem dX1_hasWay_37 : decode cX1_hasWay 37 = .ok (.iconst 0, 1) := dk_3 (dk_at dksX1_hasWay_1 15 rfl rfl)
theorem dX1_hasWay_38 : decode cX1_hasWay 38 = .ok (.goto 4, 3) := dk_167 0 4 (dk_at dksX1_hasWay_1 16 rfl rfl)
theorem dX1_hasWay_41 : decode cX1_hasWay 41 = .ok (.iload_n 3, 1) := dk_29 (dk_at dksX1_hasWay_1 19 rfl rfl)
theorem dX1_hasWay_42 : decode cX1_hasWay 42 = .ok (.invokevirtual 226, 3) := dk_182 0 226 (dk_at dksX1_hasWay_1 20 rfl rfl)
theorem dX1_hasWay_45 : decode cX1_hasWay 45 = .ok (.bipush (-2), 2) := dk_16 254 (dk_at dksX1_hasWay_2 0 rfl rfl)
theorem dX1_hasWay_47 : decode cX1_hasWay 47 = .ok (.if_icmp .eq 7, 3) := dk_159 0 7 (dk_at dksX1_hasWay_2 2 rfl rfl)
theorem dX1_hasWay_50 : decode cX1_hasWay 50 = .ok (.iconst 1, 1) := dk_4 (dk_at dksX1_hasWay_2 5 rfl rfl)
theorem dX1_hasWay_51 : decode cX1_hasWay 51 = .ok (.goto 4, 3) := dk_167 0 4 (dk_at dksX1_hasWay_2 6 rfl rfl)
theorem dX1_hasWay_54 : decode cX1_hasWay 54 = .ok (.iconst 0, 1) := dk_3 (dk_at dksX1_hasWay_2 9 rfl rfl)
theorem dX1_hasWay_55 : decode cX1_hasWay 55 = .ok (.ireturn, 1) := dk_172 (dk_at dksX1_hasWay_2 10 rfl rfl)
abbrev cX1_cancel : ByteArray := prog_1_method_63_code
def yX1_cancel : MethodName := ⟨RX1, "cancel", "(I)I"⟩
def dkwX1_cancel_0 : List UInt8 := [42, 27, 3, 182, 1, 117, 172]
abbrev dktX1_cancel_0 : List UInt8 := dkwX1_cancel_0 ++ []
theorem dksX1_cancel_0 : cX1_cancel.data.toList.drop 0 = dktX1_cancel_0 := by decide +kernel
theorem dX1_cancel_0 : decode cX1_cancel 0 = .ok (.aload_n 0, 1) := dk_42 (dk_at dksX1_cancel_0 0 rfl rfl)
theorem dX1_cancel_1 : decode cX1_cancel 1 = .ok (.iload_n 1, 1) := dk_27 (dk_at dksX1_cancel_0 1 rfl rfl)
theorem dX1_cancel_2 : decode cX1_cancel 2 = .ok (.iconst 0, 1) := dk_3 (dk_at dksX1_cancel_0 2 rfl rfl)
theorem dX1_cancel_3 : decode cX1_cancel 3 = .ok (.invokevirtual 373, 3) := dk_182 1 117 (dk_at dksX1_cancel_0 3 rfl rfl)
theorem dX1_cancel_6 : decode cX1_cancel 6 = .ok (.ireturn, 1) := dk_172 (dk_at dksX1_cancel_0 6 rfl rfl)
abbrev cX1_turns : ByteArray := prog_1_method_62_code
def yX1_turns : MethodName := ⟨RX1, "turns", "(IZ)I"⟩
def dkwX1_turns_3 : List UInt8 := [180, 0, 28, 182, 0, 158, 182, 0, 143, 172]
abbrev dktX1_turns_3 : List UInt8 := dkwX1_turns_3 ++ []
def dkwX1_turns_2 : List UInt8 := [45, 180, 0, 159, 153, 0, 7, 4, 167, 0, 4, 3, 182, 1, 110, 42, 45, 28, 182, 1, 113, 42, 42]
abbrev dktX1_turns_2 : List UInt8 := dkwX1_turns_2 ++ dktX1_turns_3
def dkwX1_turns_1 : List UInt8 := [182, 0, 133, 192, 0, 137, 78, 45, 180, 0, 159, 28, 160, 0, 9, 42, 8, 182, 0, 83, 172, 42, 3, 27]
abbrev dktX1_turns_1 : List UInt8 := dkwX1_turns_1 ++ dktX1_turns_2
def dkwX1_turns_0 : List UInt8 := [42, 27, 182, 0, 185, 154, 0, 9, 42, 4, 182, 0, 83, 172, 42, 180, 0, 99, 180, 0, 121, 27]
abbrev dktX1_turns_0 : List UInt8 := dkwX1_turns_0 ++ dktX1_turns_1
theorem dksX1_turns_0 : cX1_turns.data.toList.drop 0 = dktX1_turns_0 := by decide +kernel
theorem dksX1_turns_1 : cX1_turns.data.toList.drop 22 = dktX1_turns_1 := dk_seg dksX1_turns_0 22 rfl rfl
theorem dksX1_turns_2 : cX1_turns.data.toList.drop 46 = dktX1_turns_2 := dk_seg dksX1_turns_1 24 rfl rfl
theorem dksX1_turns_3 : cX1_turns.data.toList.drop 69 = dktX1_turns_3 := dk_seg dksX1_turns_2 23 rfl rfl
theorem dX1_turns_0 : decode cX1_turns 0 = .ok (.aload_n 0, 1) := dk_42 (dk_at dksX1_turns_0 0 rfl rfl)
theorem dX1_turns_1 : decode cX1_turns 1 = .ok (.iload_n 1, 1) := dk_27 (dk_at dksX1_turns_0 1 rfl rfl)
theorem dX1_turns_2 : decode cX1_turns 2 = .ok (.invokevirtual 185, 3) := dk_182 0 185 (dk_at dksX1_turns_0 2 rfl rfl)
theorem dX1_turns_5 : decode cX1_turns 5 = .ok (.ifCond .ne 9, 3) := dk_154 0 9 (dk_at dksX1_turns_0 5 rfl rfl)
theorem dX1_turns_8 : decode cX1_turns 8 = .ok (.aload_n 0, 1) := dk_42 (dk_at dksX1_turns_0 8 rfl rfl)
theorem dX1_turns_9 : decode cX1_turns 9 = .ok (.iconst 1, 1) := dk_4 (dk_at dksX1_turns_0 9 rfl rfl)
theorem dX1_turns_10 : decode cX1_turns 10 = .ok (.invokevirtual 83, 3) := dk_182 0 83 (dk_at dksX1_turns_0 10 rfl rfl)
theorem dX1_turns_13 : decode cX1_turns 13 = .ok (.ireturn, 1) := dk_172 (dk_at dksX1_turns_0 13 rfl rfl)
theorem dX1_turns_14 : decode cX1_turns 14 = .ok (.aload_n 0, 1) := dk_42 (dk_at dksX1_turns_0 14 rfl rfl)
theorem dX1_turns_15 : decode cX1_turns 15 = .ok (.getfield 99, 3) := dk_180 0 99 (dk_at dksX1_turns_0 15 rfl rfl)
theorem dX1_turns_18 : decode cX1_turns 18 = .ok (.getfield 121, 3) := dk_180 0 121 (dk_at dksX1_turns_0 18 rfl rfl)
theorem dX1_turns_21 : decode cX1_turns 21 = .ok (.iload_n 1, 1) := dk_27 (dk_at dksX1_turns_0 21 rfl rfl)
theorem dX1_turns_22 : decode cX1_turns 22 = .ok (.invokevirtual 133, 3) := dk_182 0 133 (dk_at dksX1_turns_1 0 rfl rfl)
theorem dX1_turns_25 : decode cX1_turns 25 = .ok (.checkcast 137, 3) := dk_192 0 137 (dk_at dksX1_turns_1 3 rfl rfl)
theorem dX1_turns_28 : decode cX1_turns 28 = .ok (.astore_n 3, 1) := dk_78 (dk_at dksX1_turns_1 6 rfl rfl)
theorem dX1_turns_29 : decode cX1_turns 29 = .ok (.aload_n 3, 1) := dk_45 (dk_at dksX1_turns_1 7 rfl rfl)
theorem dX1_turns_30 : decode cX1_turns 30 = .ok (.getfield 159, 3) := dk_180 0 159 (dk_at dksX1_turns_1 8 rfl rfl)
theorem dX1_turns_33 : decode cX1_turns 33 = .ok (.iload_n 2, 1) := dk_28 (dk_at dksX1_turns_1 11 rfl rfl)
theorem dX1_turns_34 : decode cX1_turns 34 = .ok (.if_icmp .ne 9, 3) := dk_160 0 9 (dk_at dksX1_turns_1 12 rfl rfl)
theorem dX1_turns_37 : decode cX1_turns 37 = .ok (.aload_n 0, 1) := dk_42 (dk_at dksX1_turns_1 15 rfl rfl)
theorem dX1_turns_38 : decode cX1_turns 38 = .ok (.iconst 5, 1) := dk_8 (dk_at dksX1_turns_1 16 rfl rfl)
theorem dX1_turns_39 : decode cX1_turns 39 = .ok (.invokevirtual 83, 3) := dk_182 0 83 (dk_at dksX1_turns_1 17 rfl rfl)
theorem dX1_turns_42 : decode cX1_turns 42 = .ok (.ireturn, 1) := dk_172 (dk_at dksX1_turns_1 20 rfl rfl)
theorem dX1_turns_43 : decode cX1_turns 43 = .ok (.aload_n 0, 1) := dk_42 (dk_at dksX1_turns_1 21 rfl rfl)
theorem dX1_turns_44 : decode cX1_turns 44 = .ok (.iconst 0, 1) := dk_3 (dk_at dksX1_turns_1 22 rfl rfl)
theorem dX1_turns_45 : decode cX1_turns 45 = .ok (.iload_n 1, 1) := dk_27 (dk_at dksX1_turns_1 23 rfl rfl)
theorem dX1_turns_46 : decode cX1_turns 46 = .ok (.aload_n 3, 1) := dk_45 (dk_at dksX1_turns_2 0 rfl rfl)
theorem dX1_turns_47 : decode cX1_turns 47 = .ok (.getfield 159, 3) := dk_180 0 159 (dk_at dksX1_turns_2 1 rfl rfl)
theorem dX1_turns_50 : decode cX1_turns 50 = .ok (.ifCond .eq 7, 3) := dk_153 0 7 (dk_at dksX1_turns_2 4 rfl rfl)
theorem dX1_turns_53 : decode cX1_turns 53 = .ok (.iconst 1, 1) := dk_4 (dk_at dksX1_turns_2 7 rfl rfl)
theorem dX1_turns_54 : decode cX1_turns 54 = .ok (.goto 4, 3) := dk_167 0 4 (dk_at dksX1_turns_2 8 rfl rfl)
theorem dX1_turns_57 : decode cX1_turns 57 = .ok (.iconst 0, 1) := dk_3 (dk_at dksX1_turns_2 11 rfl rfl)
theorem dX1_turns_58 : decode cX1_turns 58 = .ok (.invokevirtual 366, 3) := dk_182 1 110 (dk_at dksX1_turns_2 12 rfl rfl)
theorem dX1_turns_61 : decode cX1_turns 61 = .ok (.aload_n 0, 1) := dk_42 (dk_at dksX1_turns_2 15 rfl rfl)
theorem dX1_turns_62 : decode cX1_turns 62 = .ok (.aload_n 3, 1) := dk_45 (dk_at dksX1_turns_2 16 rfl rfl)
theorem dX1_turns_63 : decode cX1_turns 63 = .ok (.iload_n 2, 1) := dk_28 (dk_at dksX1_turns_2 17 rfl rfl)
theorem dX1_turns_64 : decode cX1_turns 64 = .ok (.invokevirtual 369, 3) := dk_182 1 113 (dk_at dksX1_turns_2 18 rfl rfl)
theorem dX1_turns_67 : decode cX1_turns 67 = .ok (.aload_n 0, 1) := dk_42 (dk_at dksX1_turns_2 21 rfl rfl)
theorem dX1_turns_68 : decode cX1_turns 68 = .ok (.aload_n 0, 1) := dk_42 (dk_at dksX1_turns_2 22 rfl rfl)
theorem dX1_turns_69 : decode cX1_turns 69 = .ok (.getfield 28, 3) := dk_180 0 28 (dk_at dksX1_turns_3 0 rfl rfl)
theorem dX1_turns_72 : decode cX1_turns 72 = .ok (.invokevirtual 158, 3) := dk_182 0 158 (dk_at dksX1_turns_3 3 rfl rfl)
theorem dX1_turns_75 : decode cX1_turns 75 = .ok (.invokevirtual 143, 3) := dk_182 0 143 (dk_at dksX1_turns_3 6 rfl rfl)
theorem dX1_turns_78 : decode cX1_turns 78 = .ok (.ireturn, 1) := dk_172 (dk_at dksX1_turns_3 9 rfl rfl)
abbrev cX1_remembers : ByteArray := prog_1_method_59_code
def yX1_remembers : MethodName := ⟨RX1, "remembers", "(III)V"⟩
def dkwX1_remembers_1 : List UInt8 := [187, 1, 99, 89, 27, 28, 29, 183, 1, 101, 182, 1, 103, 177]
abbrev dktX1_remembers_1 : List UInt8 := dkwX1_remembers_1 ++ []
def dkwX1_remembers_0 : List UInt8 := [42, 180, 0, 37, 182, 1, 95, 16, 10, 160, 0, 11, 42, 180, 0, 37, 182, 1, 96, 87, 42, 180, 0, 37]
abbrev dktX1_remembers_0 : List UInt8 := dkwX1_remembers_0 ++ dktX1_remembers_1
theorem dksX1_remembers_0 : cX1_remembers.data.toList.drop 0 = dktX1_remembers_0 := by decide +kernel
theorem dksX1_remembers_1 : cX1_remembers.data.toList.drop 24 = dktX1_remembers_1 := dk_seg dksX1_remembers_0 24 rfl rfl
theorem dX1_remembers_0 : decode cX1_remembers 0 = .ok (.aload_n 0, 1) := dk_42 (dk_at dksX1_remembers_0 0 rfl rfl)
theorem dX1_remembers_1 : decode cX1_remembers 1 = .ok (.getfield 37, 3) := dk_180 0 37 (dk_at dksX1_remembers_0 1 rfl rfl)
theorem dX1_remembers_4 : decode cX1_remembers 4 = .ok (.invokevirtual 351, 3) := dk_182 1 95 (dk_at dksX1_remembers_0 4 rfl rfl)
theorem dX1_remembers_7 : decode cX1_remembers 7 = .ok (.bipush 10, 2) := dk_16 10 (dk_at dksX1_remembers_0 7 rfl rfl)
theorem dX1_remembers_9 : decode cX1_remembers 9 = .ok (.if_icmp .ne 11, 3) := dk_160 0 11 (dk_at dksX1_remembers_0 9 rfl rfl)
theorem dX1_remembers_12 : decode cX1_remembers 12 = .ok (.aload_n 0, 1) := dk_42 (dk_at dksX1_remembers_0 12 rfl rfl)
theorem dX1_remembers_13 : decode cX1_remembers 13 = .ok (.getfield 37, 3) := dk_180 0 37 (dk_at dksX1_remembers_0 13 rfl rfl)
theorem dX1_remembers_16 : decode cX1_remembers 16 = .ok (.invokevirtual 352, 3) := dk_182 1 96 (dk_at dksX1_remembers_0 16 rfl rfl)
theorem dX1_remembers_19 : decode cX1_remembers 19 = .ok (.pop, 1) := dk_87 (dk_at dksX1_remembers_0 19 rfl rfl)
theorem dX1_remembers_20 : decode cX1_remembers 20 = .ok (.aload_n 0, 1) := dk_42 (dk_at dksX1_remembers_0 20 rfl rfl)
theorem dX1_remembers_21 : decode cX1_remembers 21 = .ok (.getfield 37, 3) := dk_180 0 37 (dk_at dksX1_remembers_0 21 rfl rfl)
theorem dX1_remembers_24 : decode cX1_remembers 24 = .ok (.new 355, 3) := dk_187 1 99 (dk_at dksX1_remembers_1 0 rfl rfl)
theorem dX1_remembers_27 : decode cX1_remembers 27 = .ok (.dup, 1) := dk_89 (dk_at dksX1_remembers_1 3 rfl rfl)
theorem dX1_remembers_28 : decode cX1_remembers 28 = .ok (.iload_n 1, 1) := dk_27 (dk_at dksX1_remembers_1 4 rfl rfl)
theorem dX1_remembers_29 : decode cX1_remembers 29 = .ok (.iload_n 2, 1) := dk_28 (dk_at dksX1_remembers_1 5 rfl rfl)
theorem dX1_remembers_30 : decode cX1_remembers 30 = .ok (.iload_n 3, 1) := dk_29 (dk_at dksX1_remembers_1 6 rfl rfl)
theorem dX1_remembers_31 : decode cX1_remembers 31 = .ok (.invokespecial 357, 3) := dk_183 1 101 (dk_at dksX1_remembers_1 7 rfl rfl)
theorem dX1_remembers_34 : decode cX1_remembers 34 = .ok (.invokevirtual 359, 3) := dk_182 1 103 (dk_at dksX1_remembers_1 10 rfl rfl)
theorem dX1_remembers_37 : decode cX1_remembers 37 = .ok (.return_, 1) := dk_177 (dk_at dksX1_remembers_1 13 rfl rfl)
abbrev cX1_sets : ByteArray := prog_1_method_60_code
def yX1_sets : MethodName := ⟨RX1, "sets", "(LLinkTimes$Departure;Z)V"⟩
def dkwX1_sets_1 : List UInt8 := [153, 0, 12, 42, 180, 0, 28, 43, 182, 0, 139, 87, 177]
abbrev dktX1_sets_1 : List UInt8 := dkwX1_sets_1 ++ []
def dkwX1_sets_0 : List UInt8 := [43, 180, 0, 159, 153, 0, 12, 42, 180, 0, 28, 43, 182, 1, 107, 87, 43, 28, 181, 0, 159, 28]
abbrev dktX1_sets_0 : List UInt8 := dkwX1_sets_0 ++ dktX1_sets_1
theorem dksX1_sets_0 : cX1_sets.data.toList.drop 0 = dktX1_sets_0 := by decide +kernel
theorem dksX1_sets_1 : cX1_sets.data.toList.drop 22 = dktX1_sets_1 := dk_seg dksX1_sets_0 22 rfl rfl
theorem dX1_sets_0 : decode cX1_sets 0 = .ok (.aload_n 1, 1) := dk_43 (dk_at dksX1_sets_0 0 rfl rfl)
theorem dX1_sets_1 : decode cX1_sets 1 = .ok (.getfield 159, 3) := dk_180 0 159 (dk_at dksX1_sets_0 1 rfl rfl)
theorem dX1_sets_4 : decode cX1_sets 4 = .ok (.ifCond .eq 12, 3) := dk_153 0 12 (dk_at dksX1_sets_0 4 rfl rfl)
theorem dX1_sets_7 : decode cX1_sets 7 = .ok (.aload_n 0, 1) := dk_42 (dk_at dksX1_sets_0 7 rfl rfl)
theorem dX1_sets_8 : decode cX1_sets 8 = .ok (.getfield 28, 3) := dk_180 0 28 (dk_at dksX1_sets_0 8 rfl rfl)
theorem dX1_sets_11 : decode cX1_sets 11 = .ok (.aload_n 1, 1) := dk_43 (dk_at dksX1_sets_0 11 rfl rfl)
theorem dX1_sets_12 : decode cX1_sets 12 = .ok (.invokevirtual 363, 3) := dk_182 1 107 (dk_at dksX1_sets_0 12 rfl rfl)
theorem dX1_sets_15 : decode cX1_sets 15 = .ok (.pop, 1) := dk_87 (dk_at dksX1_sets_0 15 rfl rfl)
theorem dX1_sets_16 : decode cX1_sets 16 = .ok (.aload_n 1, 1) := dk_43 (dk_at dksX1_sets_0 16 rfl rfl)
theorem dX1_sets_17 : decode cX1_sets 17 = .ok (.iload_n 2, 1) := dk_28 (dk_at dksX1_sets_0 17 rfl rfl)
theorem dX1_sets_18 : decode cX1_sets 18 = .ok (.putfield 159, 3) := dk_181 0 159 (dk_at dksX1_sets_0 18 rfl rfl)
theorem dX1_sets_21 : decode cX1_sets 21 = .ok (.iload_n 2, 1) := dk_28 (dk_at dksX1_sets_0 21 rfl rfl)
theorem dX1_sets_22 : decode cX1_sets 22 = .ok (.ifCond .eq 12, 3) := dk_153 0 12 (dk_at dksX1_sets_1 0 rfl rfl)
theorem dX1_sets_25 : decode cX1_sets 25 = .ok (.aload_n 0, 1) := dk_42 (dk_at dksX1_sets_1 3 rfl rfl)
theorem dX1_sets_26 : decode cX1_sets 26 = .ok (.getfield 28, 3) := dk_180 0 28 (dk_at dksX1_sets_1 4 rfl rfl)
theorem dX1_sets_29 : decode cX1_sets 29 = .ok (.aload_n 1, 1) := dk_43 (dk_at dksX1_sets_1 7 rfl rfl)
theorem dX1_sets_30 : decode cX1_sets 30 = .ok (.invokevirtual 139, 3) := dk_182 0 139 (dk_at dksX1_sets_1 8 rfl rfl)
theorem dX1_sets_33 : decode cX1_sets 33 = .ok (.pop, 1) := dk_87 (dk_at dksX1_sets_1 11 rfl rfl)
theorem dX1_sets_34 : decode cX1_sets 34 = .ok (.return_, 1) := dk_177 (dk_at dksX1_sets_1 12 rfl rfl)
abbrev cX1_run : ByteArray := prog_1_method_64_code
def yX1_run : MethodName := ⟨RX1, "run", "(I)I"⟩
def dkwX1_run_0 : List UInt8 := [42, 27, 4, 182, 1, 117, 172]
abbrev dktX1_run_0 : List UInt8 := dkwX1_run_0 ++ []
theorem dksX1_run_0 : cX1_run.data.toList.drop 0 = dktX1_run_0 := by decide +kernel
theorem dX1_run_0 : decode cX1_run 0 = .ok (.aload_n 0, 1) := dk_42 (dk_at dksX1_run_0 0 rfl rfl)
theorem dX1_run_1 : decode cX1_run 1 = .ok (.iload_n 1, 1) := dk_27 (dk_at dksX1_run_0 1 rfl rfl)
theorem dX1_run_2 : decode cX1_run 2 = .ok (.iconst 1, 1) := dk_4 (dk_at dksX1_run_0 2 rfl rfl)
theorem dX1_run_3 : decode cX1_run 3 = .ok (.invokevirtual 373, 3) := dk_182 1 117 (dk_at dksX1_run_0 3 rfl rfl)
theorem dX1_run_6 : decode cX1_run 6 = .ok (.ireturn, 1) := dk_172 (dk_at dksX1_run_0 6 rfl rfl)
abbrev cX1_delay : ByteArray := prog_1_method_65_code
def yX1_delay : MethodName := ⟨RX1, "delay", "(II)I"⟩
def dkwX1_delay_3 : List UInt8 := [182, 0, 143, 172]
abbrev dktX1_delay_3 : List UInt8 := dkwX1_delay_3 ++ []
def dkwX1_delay_2 : List UInt8 := [180, 0, 197, 54, 4, 42, 4, 27, 21, 4, 182, 1, 110, 42, 45, 28, 182, 1, 120, 42, 21, 4]
abbrev dktX1_delay_2 : List UInt8 := dkwX1_delay_2 ++ dktX1_delay_3
def dkwX1_delay_1 : List UInt8 := [42, 5, 182, 0, 83, 172, 42, 180, 0, 99, 180, 0, 121, 27, 182, 0, 133, 192, 0, 137, 78, 45]
abbrev dktX1_delay_1 : List UInt8 := dkwX1_delay_1 ++ dktX1_delay_2
def dkwX1_delay_0 : List UInt8 := [42, 27, 182, 0, 185, 154, 0, 9, 42, 4, 182, 0, 83, 172, 28, 3, 16, 99, 184, 0, 79, 154, 0, 9]
abbrev dktX1_delay_0 : List UInt8 := dkwX1_delay_0 ++ dktX1_delay_1
theorem dksX1_delay_0 : cX1_delay.data.toList.drop 0 = dktX1_delay_0 := by decide +kernel
theorem dksX1_delay_1 : cX1_delay.data.toList.drop 24 = dktX1_delay_1 := dk_seg dksX1_delay_0 24 rfl rfl
theorem dksX1_delay_2 : cX1_delay.data.toList.drop 46 = dktX1_delay_2 := dk_seg dksX1_delay_1 22 rfl rfl
theorem dksX1_delay_3 : cX1_delay.data.toList.drop 68 = dktX1_delay_3 := dk_seg dksX1_delay_2 22 rfl rfl
theorem dX1_delay_0 : decode cX1_delay 0 = .ok (.aload_n 0, 1) := dk_42 (dk_at dksX1_delay_0 0 rfl rfl)
theorem dX1_delay_1 : decode cX1_delay 1 = .ok (.iload_n 1, 1) := dk_27 (dk_at dksX1_delay_0 1 rfl rfl)
theorem dX1_delay_2 : decode cX1_delay 2 = .ok (.invokevirtual 185, 3) := dk_182 0 185 (dk_at dksX1_delay_0 2 rfl rfl)
theorem dX1_delay_5 : decode cX1_delay 5 = .ok (.ifCond .ne 9, 3) := dk_154 0 9 (dk_at dksX1_delay_0 5 rfl rfl)
theorem dX1_delay_8 : decode cX1_delay 8 = .ok (.aload_n 0, 1) := dk_42 (dk_at dksX1_delay_0 8 rfl rfl)
theorem dX1_delay_9 : decode cX1_delay 9 = .ok (.iconst 1, 1) := dk_4 (dk_at dksX1_delay_0 9 rfl rfl)
theorem dX1_delay_10 : decode cX1_delay 10 = .ok (.invokevirtual 83, 3) := dk_182 0 83 (dk_at dksX1_delay_0 10 rfl rfl)
theorem dX1_delay_13 : decode cX1_delay 13 = .ok (.ireturn, 1) := dk_172 (dk_at dksX1_delay_0 13 rfl rfl)
theorem dX1_delay_14 : decode cX1_delay 14 = .ok (.iload_n 2, 1) := dk_28 (dk_at dksX1_delay_0 14 rfl rfl)
theorem dX1_delay_15 : decode cX1_delay 15 = .ok (.iconst 0, 1) := dk_3 (dk_at dksX1_delay_0 15 rfl rfl)
theorem dX1_delay_16 : decode cX1_delay 16 = .ok (.bipush 99, 2) := dk_16 99 (dk_at dksX1_delay_0 16 rfl rfl)
theorem dX1_delay_18 : decode cX1_delay 18 = .ok (.invokestatic 79, 3) := dk_184 0 79 (dk_at dksX1_delay_0 18 rfl rfl)
theorem dX1_delay_21 : decode cX1_delay 21 = .ok (.ifCond .ne 9, 3) := dk_154 0 9 (dk_at dksX1_delay_0 21 rfl rfl)
theorem dX1_delay_24 : decode cX1_delay 24 = .ok (.aload_n 0, 1) := dk_42 (dk_at dksX1_delay_1 0 rfl rfl)
theorem dX1_delay_25 : decode cX1_delay 25 = .ok (.iconst 2, 1) := dk_5 (dk_at dksX1_delay_1 1 rfl rfl)
theorem dX1_delay_26 : decode cX1_delay 26 = .ok (.invokevirtual 83, 3) := dk_182 0 83 (dk_at dksX1_delay_1 2 rfl rfl)
theorem dX1_delay_29 : decode cX1_delay 29 = .ok (.ireturn, 1) := dk_172 (dk_at dksX1_delay_1 5 rfl rfl)
theorem dX1_delay_30 : decode cX1_delay 30 = .ok (.aload_n 0, 1) := dk_42 (dk_at dksX1_delay_1 6 rfl rfl)
theorem dX1_delay_31 : decode cX1_delay 31 = .ok (.getfield 99, 3) := dk_180 0 99 (dk_at dksX1_delay_1 7 rfl rfl)
theorem dX1_delay_34 : decode cX1_delay 34 = .ok (.getfield 121, 3) := dk_180 0 121 (dk_at dksX1_delay_1 10 rfl rfl)
theorem dX1_delay_37 : decode cX1_delay 37 = .ok (.iload_n 1, 1) := dk_27 (dk_at dksX1_delay_1 13 rfl rfl)
theorem dX1_delay_38 : decode cX1_delay 38 = .ok (.invokevirtual 133, 3) := dk_182 0 133 (dk_at dksX1_delay_1 14 rfl rfl)
theorem dX1_delay_41 : decode cX1_delay 41 = .ok (.checkcast 137, 3) := dk_192 0 137 (dk_at dksX1_delay_1 17 rfl rfl)
theorem dX1_delay_44 : decode cX1_delay 44 = .ok (.astore_n 3, 1) := dk_78 (dk_at dksX1_delay_1 20 rfl rfl)
theorem dX1_delay_45 : decode cX1_delay 45 = .ok (.aload_n 3, 1) := dk_45 (dk_at dksX1_delay_1 21 rfl rfl)
theorem dX1_delay_46 : decode cX1_delay 46 = .ok (.getfield 197, 3) := dk_180 0 197 (dk_at dksX1_delay_2 0 rfl rfl)
theorem dX1_delay_49 : decode cX1_delay 49 = .ok (.istore 4, 2) := dk_54 4 (dk_at dksX1_delay_2 3 rfl rfl)
theorem dX1_delay_51 : decode cX1_delay 51 = .ok (.aload_n 0, 1) := dk_42 (dk_at dksX1_delay_2 5 rfl rfl)
theorem dX1_delay_52 : decode cX1_delay 52 = .ok (.iconst 1, 1) := dk_4 (dk_at dksX1_delay_2 6 rfl rfl)
theorem dX1_delay_53 : decode cX1_delay 53 = .ok (.iload_n 1, 1) := dk_27 (dk_at dksX1_delay_2 7 rfl rfl)
theorem dX1_delay_54 : decode cX1_delay 54 = .ok (.iload 4, 2) := dk_21 4 (dk_at dksX1_delay_2 8 rfl rfl)
theorem dX1_delay_56 : decode cX1_delay 56 = .ok (.invokevirtual 366, 3) := dk_182 1 110 (dk_at dksX1_delay_2 10 rfl rfl)
theorem dX1_delay_59 : decode cX1_delay 59 = .ok (.aload_n 0, 1) := dk_42 (dk_at dksX1_delay_2 13 rfl rfl)
theorem dX1_delay_60 : decode cX1_delay 60 = .ok (.aload_n 3, 1) := dk_45 (dk_at dksX1_delay_2 14 rfl rfl)
theorem dX1_delay_61 : decode cX1_delay 61 = .ok (.iload_n 2, 1) := dk_28 (dk_at dksX1_delay_2 15 rfl rfl)
theorem dX1_delay_62 : decode cX1_delay 62 = .ok (.invokevirtual 376, 3) := dk_182 1 120 (dk_at dksX1_delay_2 16 rfl rfl)
theorem dX1_delay_65 : decode cX1_delay 65 = .ok (.aload_n 0, 1) := dk_42 (dk_at dksX1_delay_2 19 rfl rfl)
theorem dX1_delay_66 : decode cX1_delay 66 = .ok (.iload 4, 2) := dk_21 4 (dk_at dksX1_delay_2 20 rfl rfl)
theorem dX1_delay_68 : decode cX1_delay 68 = .ok (.invokevirtual 143, 3) := dk_182 0 143 (dk_at dksX1_delay_3 0 rfl rfl)
theorem dX1_delay_71 : decode cX1_delay 71 = .ok (.ireturn, 1) := dk_172 (dk_at dksX1_delay_3 3 rfl rfl)
abbrev cX1_late : ByteArray := prog_1_method_61_code
def yX1_late : MethodName := ⟨RX1, "late", "(LLinkTimes$Departure;I)V"⟩
def dkwX1_late_1 : List UInt8 := [180, 0, 159, 153, 0, 12, 42, 180, 0, 28, 43, 182, 0, 139, 87, 177]
abbrev dktX1_late_1 : List UInt8 := dkwX1_late_1 ++ []
def dkwX1_late_0 : List UInt8 := [43, 180, 0, 159, 153, 0, 12, 42, 180, 0, 28, 43, 182, 1, 107, 87, 43, 28, 181, 0, 197, 43]
abbrev dktX1_late_0 : List UInt8 := dkwX1_late_0 ++ dktX1_late_1
theorem dksX1_late_0 : cX1_late.data.toList.drop 0 = dktX1_late_0 := by decide +kernel
theorem dksX1_late_1 : cX1_late.data.toList.drop 22 = dktX1_late_1 := dk_seg dksX1_late_0 22 rfl rfl
theorem dX1_late_0 : decode cX1_late 0 = .ok (.aload_n 1, 1) := dk_43 (dk_at dksX1_late_0 0 rfl rfl)
theorem dX1_late_1 : decode cX1_late 1 = .ok (.getfield 159, 3) := dk_180 0 159 (dk_at dksX1_late_0 1 rfl rfl)
theorem dX1_late_4 : decode cX1_late 4 = .ok (.ifCond .eq 12, 3) := dk_153 0 12 (dk_at dksX1_late_0 4 rfl rfl)
theorem dX1_late_7 : decode cX1_late 7 = .ok (.aload_n 0, 1) := dk_42 (dk_at dksX1_late_0 7 rfl rfl)
theorem dX1_late_8 : decode cX1_late 8 = .ok (.getfield 28, 3) := dk_180 0 28 (dk_at dksX1_late_0 8 rfl rfl)
theorem dX1_late_11 : decode cX1_late 11 = .ok (.aload_n 1, 1) := dk_43 (dk_at dksX1_late_0 11 rfl rfl)
theorem dX1_late_12 : decode cX1_late 12 = .ok (.invokevirtual 363, 3) := dk_182 1 107 (dk_at dksX1_late_0 12 rfl rfl)
theorem dX1_late_15 : decode cX1_late 15 = .ok (.pop, 1) := dk_87 (dk_at dksX1_late_0 15 rfl rfl)
theorem dX1_late_16 : decode cX1_late 16 = .ok (.aload_n 1, 1) := dk_43 (dk_at dksX1_late_0 16 rfl rfl)
theorem dX1_late_17 : decode cX1_late 17 = .ok (.iload_n 2, 1) := dk_28 (dk_at dksX1_late_0 17 rfl rfl)
theorem dX1_late_18 : decode cX1_late 18 = .ok (.putfield 197, 3) := dk_181 0 197 (dk_at dksX1_late_0 18 rfl rfl)
theorem dX1_late_21 : decode cX1_late 21 = .ok (.aload_n 1, 1) := dk_43 (dk_at dksX1_late_0 21 rfl rfl)
theorem dX1_late_22 : decode cX1_late 22 = .ok (.getfield 159, 3) := dk_180 0 159 (dk_at dksX1_late_1 0 rfl rfl)
theorem dX1_late_25 : decode cX1_late 25 = .ok (.ifCond .eq 12, 3) := dk_153 0 12 (dk_at dksX1_late_1 3 rfl rfl)
theorem dX1_late_28 : decode cX1_late 28 = .ok (.aload_n 0, 1) := dk_42 (dk_at dksX1_late_1 6 rfl rfl)
theorem dX1_late_29 : decode cX1_late 29 = .ok (.getfield 28, 3) := dk_180 0 28 (dk_at dksX1_late_1 7 rfl rfl)
theorem dX1_late_32 : decode cX1_late 32 = .ok (.aload_n 1, 1) := dk_43 (dk_at dksX1_late_1 10 rfl rfl)
theorem dX1_late_33 : decode cX1_late 33 = .ok (.invokevirtual 139, 3) := dk_182 0 139 (dk_at dksX1_late_1 11 rfl rfl)
theorem dX1_late_36 : decode cX1_late 36 = .ok (.pop, 1) := dk_87 (dk_at dksX1_late_1 14 rfl rfl)
theorem dX1_late_37 : decode cX1_late 37 = .ok (.return_, 1) := dk_177 (dk_at dksX1_late_1 15 rfl rfl)
abbrev cX1_change : ByteArray := prog_1_method_66_code
def yX1_change : MethodName := ⟨RX1, "change", "(II)I"⟩
def dkwX1_change_3 : List UInt8 := [181, 0, 175, 42, 29, 182, 0, 143, 172]
abbrev dktX1_change_3 : List UInt8 := dkwX1_change_3 ++ []
def dkwX1_change_2 : List UInt8 := [42, 5, 27, 29, 182, 1, 110, 42, 180, 0, 99, 180, 0, 149, 27, 182, 0, 133, 192, 0, 173, 28]
abbrev dktX1_change_2 : List UInt8 := dkwX1_change_2 ++ dktX1_change_3
def dkwX1_change_1 : List UInt8 := [42, 5, 182, 0, 83, 172, 42, 180, 0, 99, 180, 0, 149, 27, 182, 0, 133, 192, 0, 173, 180, 0, 175, 62]
abbrev dktX1_change_1 : List UInt8 := dkwX1_change_1 ++ dktX1_change_2
def dkwX1_change_0 : List UInt8 := [42, 27, 182, 0, 169, 154, 0, 9, 42, 4, 182, 0, 83, 172, 28, 3, 16, 99, 184, 0, 79, 154, 0, 9]
abbrev dktX1_change_0 : List UInt8 := dkwX1_change_0 ++ dktX1_change_1
theorem dksX1_change_0 : cX1_change.data.toList.drop 0 = dktX1_change_0 := by decide +kernel
theorem dksX1_change_1 : cX1_change.data.toList.drop 24 = dktX1_change_1 := dk_seg dksX1_change_0 24 rfl rfl
theorem dksX1_change_2 : cX1_change.data.toList.drop 48 = dktX1_change_2 := dk_seg dksX1_change_1 24 rfl rfl
theorem dksX1_change_3 : cX1_change.data.toList.drop 70 = dktX1_change_3 := dk_seg dksX1_change_2 22 rfl rfl
theorem dX1_change_0 : decode cX1_change 0 = .ok (.aload_n 0, 1) := dk_42 (dk_at dksX1_change_0 0 rfl rfl)
theorem dX1_change_1 : decode cX1_change 1 = .ok (.iload_n 1, 1) := dk_27 (dk_at dksX1_change_0 1 rfl rfl)
theorem dX1_change_2 : decode cX1_change 2 = .ok (.invokevirtual 169, 3) := dk_182 0 169 (dk_at dksX1_change_0 2 rfl rfl)
theorem dX1_change_5 : decode cX1_change 5 = .ok (.ifCond .ne 9, 3) := dk_154 0 9 (dk_at dksX1_change_0 5 rfl rfl)
theorem dX1_change_8 : decode cX1_change 8 = .ok (.aload_n 0, 1) := dk_42 (dk_at dksX1_change_0 8 rfl rfl)
theorem dX1_change_9 : decode cX1_change 9 = .ok (.iconst 1, 1) := dk_4 (dk_at dksX1_change_0 9 rfl rfl)
theorem dX1_change_10 : decode cX1_change 10 = .ok (.invokevirtual 83, 3) := dk_182 0 83 (dk_at dksX1_change_0 10 rfl rfl)
theorem dX1_change_13 : decode cX1_change 13 = .ok (.ireturn, 1) := dk_172 (dk_at dksX1_change_0 13 rfl rfl)
theorem dX1_change_14 : decode cX1_change 14 = .ok (.iload_n 2, 1) := dk_28 (dk_at dksX1_change_0 14 rfl rfl)
theorem dX1_change_15 : decode cX1_change 15 = .ok (.iconst 0, 1) := dk_3 (dk_at dksX1_change_0 15 rfl rfl)
theorem dX1_change_16 : decode cX1_change 16 = .ok (.bipush 99, 2) := dk_16 99 (dk_at dksX1_change_0 16 rfl rfl)
theorem dX1_change_18 : decode cX1_change 18 = .ok (.invokestatic 79, 3) := dk_184 0 79 (dk_at dksX1_change_0 18 rfl rfl)
theorem dX1_change_21 : decode cX1_change 21 = .ok (.ifCond .ne 9, 3) := dk_154 0 9 (dk_at dksX1_change_0 21 rfl rfl)
theorem dX1_change_24 : decode cX1_change 24 = .ok (.aload_n 0, 1) := dk_42 (dk_at dksX1_change_1 0 rfl rfl)
theorem dX1_change_25 : decode cX1_change 25 = .ok (.iconst 2, 1) := dk_5 (dk_at dksX1_change_1 1 rfl rfl)
theorem dX1_change_26 : decode cX1_change 26 = .ok (.invokevirtual 83, 3) := dk_182 0 83 (dk_at dksX1_change_1 2 rfl rfl)
theorem dX1_change_29 : decode cX1_change 29 = .ok (.ireturn, 1) := dk_172 (dk_at dksX1_change_1 5 rfl rfl)
theorem dX1_change_30 : decode cX1_change 30 = .ok (.aload_n 0, 1) := dk_42 (dk_at dksX1_change_1 6 rfl rfl)
theorem dX1_change_31 : decode cX1_change 31 = .ok (.getfield 99, 3) := dk_180 0 99 (dk_at dksX1_change_1 7 rfl rfl)
theorem dX1_change_34 : decode cX1_change 34 = .ok (.getfield 149, 3) := dk_180 0 149 (dk_at dksX1_change_1 10 rfl rfl)
theorem dX1_change_37 : decode cX1_change 37 = .ok (.iload_n 1, 1) := dk_27 (dk_at dksX1_change_1 13 rfl rfl)
theorem dX1_change_38 : decode cX1_change 38 = .ok (.invokevirtual 133, 3) := dk_182 0 133 (dk_at dksX1_change_1 14 rfl rfl)
theorem dX1_change_41 : decode cX1_change 41 = .ok (.checkcast 173, 3) := dk_192 0 173 (dk_at dksX1_change_1 17 rfl rfl)
theorem dX1_change_44 : decode cX1_change 44 = .ok (.getfield 175, 3) := dk_180 0 175 (dk_at dksX1_change_1 20 rfl rfl)
theorem dX1_change_47 : decode cX1_change 47 = .ok (.istore_n 3, 1) := dk_62 (dk_at dksX1_change_1 23 rfl rfl)
theorem dX1_change_48 : decode cX1_change 48 = .ok (.aload_n 0, 1) := dk_42 (dk_at dksX1_change_2 0 rfl rfl)
theorem dX1_change_49 : decode cX1_change 49 = .ok (.iconst 2, 1) := dk_5 (dk_at dksX1_change_2 1 rfl rfl)
theorem dX1_change_50 : decode cX1_change 50 = .ok (.iload_n 1, 1) := dk_27 (dk_at dksX1_change_2 2 rfl rfl)
theorem dX1_change_51 : decode cX1_change 51 = .ok (.iload_n 3, 1) := dk_29 (dk_at dksX1_change_2 3 rfl rfl)
theorem dX1_change_52 : decode cX1_change 52 = .ok (.invokevirtual 366, 3) := dk_182 1 110 (dk_at dksX1_change_2 4 rfl rfl)
theorem dX1_change_55 : decode cX1_change 55 = .ok (.aload_n 0, 1) := dk_42 (dk_at dksX1_change_2 7 rfl rfl)
theorem dX1_change_56 : decode cX1_change 56 = .ok (.getfield 99, 3) := dk_180 0 99 (dk_at dksX1_change_2 8 rfl rfl)
theorem dX1_change_59 : decode cX1_change 59 = .ok (.getfield 149, 3) := dk_180 0 149 (dk_at dksX1_change_2 11 rfl rfl)
theorem dX1_change_62 : decode cX1_change 62 = .ok (.iload_n 1, 1) := dk_27 (dk_at dksX1_change_2 14 rfl rfl)
theorem dX1_change_63 : decode cX1_change 63 = .ok (.invokevirtual 133, 3) := dk_182 0 133 (dk_at dksX1_change_2 15 rfl rfl)
theorem dX1_change_66 : decode cX1_change 66 = .ok (.checkcast 173, 3) := dk_192 0 173 (dk_at dksX1_change_2 18 rfl rfl)
theorem dX1_change_69 : decode cX1_change 69 = .ok (.iload_n 2, 1) := dk_28 (dk_at dksX1_change_2 21 rfl rfl)
theorem dX1_change_70 : decode cX1_change 70 = .ok (.putfield 175, 3) := dk_181 0 175 (dk_at dksX1_change_3 0 rfl rfl)
theorem dX1_change_73 : decode cX1_change 73 = .ok (.aload_n 0, 1) := dk_42 (dk_at dksX1_change_3 3 rfl rfl)
theorem dX1_change_74 : decode cX1_change 74 = .ok (.iload_n 3, 1) := dk_29 (dk_at dksX1_change_3 4 rfl rfl)
theorem dX1_change_75 : decode cX1_change 75 = .ok (.invokevirtual 143, 3) := dk_182 0 143 (dk_at dksX1_change_3 5 rfl rfl)
theorem dX1_change_78 : decode cX1_change 78 = .ok (.ireturn, 1) := dk_172 (dk_at dksX1_change_3 8 rfl rfl)
abbrev cX1_hold : ByteArray := prog_1_method_67_code
def yX1_hold : MethodName := ⟨RX1, "hold", "(II)I"⟩
def dkwX1_hold_3 : List UInt8 := [192, 0, 173, 28, 156, 0, 8, 16, 254, 167, 0, 4, 28, 181, 0, 178, 42, 29, 182, 0, 143, 172]
abbrev dktX1_hold_3 : List UInt8 := dkwX1_hold_3 ++ []
def dkwX1_hold_2 : List UInt8 := [180, 0, 178, 62, 42, 6, 27, 29, 182, 1, 110, 42, 180, 0, 99, 180, 0, 149, 27, 182, 0, 133]
abbrev dktX1_hold_2 : List UInt8 := dkwX1_hold_2 ++ dktX1_hold_3
def dkwX1_hold_1 : List UInt8 := [154, 0, 9, 42, 5, 182, 0, 83, 172, 42, 180, 0, 99, 180, 0, 149, 27, 182, 0, 133, 192, 0, 173]
abbrev dktX1_hold_1 : List UInt8 := dkwX1_hold_1 ++ dktX1_hold_2
def dkwX1_hold_0 : List UInt8 := [42, 27, 182, 0, 169, 154, 0, 9, 42, 4, 182, 0, 83, 172, 28, 2, 17, 3, 231, 184, 0, 79]
abbrev dktX1_hold_0 : List UInt8 := dkwX1_hold_0 ++ dktX1_hold_1
theorem dksX1_hold_0 : cX1_hold.data.toList.drop 0 = dktX1_hold_0 := by decide +kernel
theorem dksX1_hold_1 : cX1_hold.data.toList.drop 22 = dktX1_hold_1 := dk_seg dksX1_hold_0 22 rfl rfl
theorem dksX1_hold_2 : cX1_hold.data.toList.drop 45 = dktX1_hold_2 := dk_seg dksX1_hold_1 23 rfl rfl
theorem dksX1_hold_3 : cX1_hold.data.toList.drop 67 = dktX1_hold_3 := dk_seg dksX1_hold_2 22 rfl rfl
theorem dX1_hold_0 : decode cX1_hold 0 = .ok (.aload_n 0, 1) := dk_42 (dk_at dksX1_hold_0 0 rfl rfl)
theorem dX1_hold_1 : decode cX1_hold 1 = .ok (.iload_n 1, 1) := dk_27 (dk_at dksX1_hold_0 1 rfl rfl)
theorem dX1_hold_2 : decode cX1_hold 2 = .ok (.invokevirtual 169, 3) := dk_182 0 169 (dk_at dksX1_hold_0 2 rfl rfl)
theorem dX1_hold_5 : decode cX1_hold 5 = .ok (.ifCond .ne 9, 3) := dk_154 0 9 (dk_at dksX1_hold_0 5 rfl rfl)
theorem dX1_hold_8 : decode cX1_hold 8 = .ok (.aload_n 0, 1) := dk_42 (dk_at dksX1_hold_0 8 rfl rfl)
theorem dX1_hold_9 : decode cX1_hold 9 = .ok (.iconst 1, 1) := dk_4 (dk_at dksX1_hold_0 9 rfl rfl)
theorem dX1_hold_10 : decode cX1_hold 10 = .ok (.invokevirtual 83, 3) := dk_182 0 83 (dk_at dksX1_hold_0 10 rfl rfl)
theorem dX1_hold_13 : decode cX1_hold 13 = .ok (.ireturn, 1) := dk_172 (dk_at dksX1_hold_0 13 rfl rfl)
theorem dX1_hold_14 : decode cX1_hold 14 = .ok (.iload_n 2, 1) := dk_28 (dk_at dksX1_hold_0 14 rfl rfl)
theorem dX1_hold_15 : decode cX1_hold 15 = .ok (.iconst (-1), 1) := dk_2 (dk_at dksX1_hold_0 15 rfl rfl)
theorem dX1_hold_16 : decode cX1_hold 16 = .ok (.sipush 999, 3) := dk_17 3 231 (dk_at dksX1_hold_0 16 rfl rfl)
theorem dX1_hold_19 : decode cX1_hold 19 = .ok (.invokestatic 79, 3) := dk_184 0 79 (dk_at dksX1_hold_0 19 rfl rfl)
theorem dX1_hold_22 : decode cX1_hold 22 = .ok (.ifCond .ne 9, 3) := dk_154 0 9 (dk_at dksX1_hold_1 0 rfl rfl)
theorem dX1_hold_25 : decode cX1_hold 25 = .ok (.aload_n 0, 1) := dk_42 (dk_at dksX1_hold_1 3 rfl rfl)
theorem dX1_hold_26 : decode cX1_hold 26 = .ok (.iconst 2, 1) := dk_5 (dk_at dksX1_hold_1 4 rfl rfl)
theorem dX1_hold_27 : decode cX1_hold 27 = .ok (.invokevirtual 83, 3) := dk_182 0 83 (dk_at dksX1_hold_1 5 rfl rfl)
theorem dX1_hold_30 : decode cX1_hold 30 = .ok (.ireturn, 1) := dk_172 (dk_at dksX1_hold_1 8 rfl rfl)
theorem dX1_hold_31 : decode cX1_hold 31 = .ok (.aload_n 0, 1) := dk_42 (dk_at dksX1_hold_1 9 rfl rfl)
theorem dX1_hold_32 : decode cX1_hold 32 = .ok (.getfield 99, 3) := dk_180 0 99 (dk_at dksX1_hold_1 10 rfl rfl)
theorem dX1_hold_35 : decode cX1_hold 35 = .ok (.getfield 149, 3) := dk_180 0 149 (dk_at dksX1_hold_1 13 rfl rfl)
theorem dX1_hold_38 : decode cX1_hold 38 = .ok (.iload_n 1, 1) := dk_27 (dk_at dksX1_hold_1 16 rfl rfl)
theorem dX1_hold_39 : decode cX1_hold 39 = .ok (.invokevirtual 133, 3) := dk_182 0 133 (dk_at dksX1_hold_1 17 rfl rfl)
theorem dX1_hold_42 : decode cX1_hold 42 = .ok (.checkcast 173, 3) := dk_192 0 173 (dk_at dksX1_hold_1 20 rfl rfl)
theorem dX1_hold_45 : decode cX1_hold 45 = .ok (.getfield 178, 3) := dk_180 0 178 (dk_at dksX1_hold_2 0 rfl rfl)
theorem dX1_hold_48 : decode cX1_hold 48 = .ok (.istore_n 3, 1) := dk_62 (dk_at dksX1_hold_2 3 rfl rfl)
theorem dX1_hold_49 : decode cX1_hold 49 = .ok (.aload_n 0, 1) := dk_42 (dk_at dksX1_hold_2 4 rfl rfl)
theorem dX1_hold_50 : decode cX1_hold 50 = .ok (.iconst 3, 1) := dk_6 (dk_at dksX1_hold_2 5 rfl rfl)
theorem dX1_hold_51 : decode cX1_hold 51 = .ok (.iload_n 1, 1) := dk_27 (dk_at dksX1_hold_2 6 rfl rfl)
theorem dX1_hold_52 : decode cX1_hold 52 = .ok (.iload_n 3, 1) := dk_29 (dk_at dksX1_hold_2 7 rfl rfl)
theorem dX1_hold_53 : decode cX1_hold 53 = .ok (.invokevirtual 366, 3) := dk_182 1 110 (dk_at dksX1_hold_2 8 rfl rfl)
theorem dX1_hold_56 : decode cX1_hold 56 = .ok (.aload_n 0, 1) := dk_42 (dk_at dksX1_hold_2 11 rfl rfl)
theorem dX1_hold_57 : decode cX1_hold 57 = .ok (.getfield 99, 3) := dk_180 0 99 (dk_at dksX1_hold_2 12 rfl rfl)
theorem dX1_hold_60 : decode cX1_hold 60 = .ok (.getfield 149, 3) := dk_180 0 149 (dk_at dksX1_hold_2 15 rfl rfl)
theorem dX1_hold_63 : decode cX1_hold 63 = .ok (.iload_n 1, 1) := dk_27 (dk_at dksX1_hold_2 18 rfl rfl)
theorem dX1_hold_64 : decode cX1_hold 64 = .ok (.invokevirtual 133, 3) := dk_182 0 133 (dk_at dksX1_hold_2 19 rfl rfl)
theorem dX1_hold_67 : decode cX1_hold 67 = .ok (.checkcast 173, 3) := dk_192 0 173 (dk_at dksX1_hold_3 0 rfl rfl)
theorem dX1_hold_70 : decode cX1_hold 70 = .ok (.iload_n 2, 1) := dk_28 (dk_at dksX1_hold_3 3 rfl rfl)
theorem dX1_hold_71 : decode cX1_hold 71 = .ok (.ifCond .ge 8, 3) := dk_156 0 8 (dk_at dksX1_hold_3 4 rfl rfl)
theorem dX1_hold_74 : decode cX1_hold 74 = .ok (.bipush (-2), 2) := dk_16 254 (dk_at dksX1_hold_3 7 rfl rfl)
theorem dX1_hold_76 : decode cX1_hold 76 = .ok (.goto 4, 3) := dk_167 0 4 (dk_at dksX1_hold_3 9 rfl rfl)
theorem dX1_hold_79 : decode cX1_hold 79 = .ok (.iload_n 2, 1) := dk_28 (dk_at dksX1_hold_3 12 rfl rfl)
theorem dX1_hold_80 : decode cX1_hold 80 = .ok (.putfield 178, 3) := dk_181 0 178 (dk_at dksX1_hold_3 13 rfl rfl)
theorem dX1_hold_83 : decode cX1_hold 83 = .ok (.aload_n 0, 1) := dk_42 (dk_at dksX1_hold_3 16 rfl rfl)
theorem dX1_hold_84 : decode cX1_hold 84 = .ok (.iload_n 3, 1) := dk_29 (dk_at dksX1_hold_3 17 rfl rfl)
theorem dX1_hold_85 : decode cX1_hold 85 = .ok (.invokevirtual 143, 3) := dk_182 0 143 (dk_at dksX1_hold_3 18 rfl rfl)
theorem dX1_hold_88 : decode cX1_hold 88 = .ok (.ireturn, 1) := dk_172 (dk_at dksX1_hold_3 21 rfl rfl)
abbrev cX1_extra : ByteArray := prog_1_method_68_code
def yX1_extra : MethodName := ⟨RX1, "extra", "(IIIII)I"⟩
def dkwX1_extra_6 : List UInt8 := [180, 0, 28, 25, 7, 182, 0, 139, 87, 42, 21, 6, 182, 0, 143, 172]
abbrev dktX1_extra_6 : List UInt8 := dkwX1_extra_6 ++ []
def dkwX1_extra_5 : List UInt8 := [29, 21, 4, 21, 5, 183, 1, 124, 58, 7, 42, 180, 0, 99, 180, 0, 121, 25, 7, 182, 1, 127, 87, 42]
abbrev dktX1_extra_5 : List UInt8 := dkwX1_extra_5 ++ dktX1_extra_6
def dkwX1_extra_4 : List UInt8 := [42, 6, 182, 0, 83, 172, 42, 7, 21, 6, 3, 182, 1, 110, 187, 0, 137, 89, 21, 6, 16, 254, 27, 28]
abbrev dktX1_extra_4 : List UInt8 := dkwX1_extra_4 ++ dktX1_extra_5
def dkwX1_extra_3 : List UInt8 := [5, 182, 0, 83, 172, 42, 180, 0, 99, 180, 0, 121, 182, 0, 127, 54, 6, 21, 6, 16, 120, 160, 0, 9]
abbrev dktX1_extra_3 : List UInt8 := dkwX1_extra_3 ++ dktX1_extra_4
def dkwX1_extra_2 : List UInt8 := [180, 0, 99, 180, 0, 146, 184, 0, 79, 153, 0, 14, 21, 5, 4, 16, 99, 184, 0, 79, 154, 0, 9, 42]
abbrev dktX1_extra_2 : List UInt8 := dkwX1_extra_2 ++ dktX1_extra_3
def dkwX1_extra_1 : List UInt8 := [153, 0, 12, 42, 28, 29, 182, 1, 21, 154, 0, 9, 42, 4, 182, 0, 83, 172, 21, 4, 3, 42]
abbrev dktX1_extra_1 : List UInt8 := dkwX1_extra_1 ++ dktX1_extra_2
def dkwX1_extra_0 : List UInt8 := [42, 180, 0, 99, 198, 0, 32, 27, 3, 42, 180, 0, 99, 180, 0, 152, 182, 0, 127, 4, 100, 184, 0, 79]
abbrev dktX1_extra_0 : List UInt8 := dkwX1_extra_0 ++ dktX1_extra_1
theorem dksX1_extra_0 : cX1_extra.data.toList.drop 0 = dktX1_extra_0 := by decide +kernel
theorem dksX1_extra_1 : cX1_extra.data.toList.drop 24 = dktX1_extra_1 := dk_seg dksX1_extra_0 24 rfl rfl
theorem dksX1_extra_2 : cX1_extra.data.toList.drop 46 = dktX1_extra_2 := dk_seg dksX1_extra_1 22 rfl rfl
theorem dksX1_extra_3 : cX1_extra.data.toList.drop 70 = dktX1_extra_3 := dk_seg dksX1_extra_2 24 rfl rfl
theorem dksX1_extra_4 : cX1_extra.data.toList.drop 94 = dktX1_extra_4 := dk_seg dksX1_extra_3 24 rfl rfl
theorem dksX1_extra_5 : cX1_extra.data.toList.drop 118 = dktX1_extra_5 := dk_seg dksX1_extra_4 24 rfl rfl
theorem dksX1_extra_6 : cX1_extra.data.toList.drop 142 = dktX1_extra_6 := dk_seg dksX1_extra_5 24 rfl rfl
theorem dX1_extra_0 : decode cX1_extra 0 = .ok (.aload_n 0, 1) := dk_42 (dk_at dksX1_extra_0 0 rfl rfl)
theorem dX1_extra_1 : decode cX1_extra 1 = .ok (.getfield 99, 3) := dk_180 0 99 (dk_at dksX1_extra_0 1 rfl rfl)
theorem dX1_extra_4 : decode cX1_extra 4 = .ok (.ifnull 32, 3) := dk_198 0 32 (dk_at dksX1_extra_0 4 rfl rfl)
theorem dX1_extra_7 : decode cX1_extra 7 = .ok (.iload_n 1, 1) := dk_27 (dk_at dksX1_extra_0 7 rfl rfl)
theorem dX1_extra_8 : decode cX1_extra 8 = .ok (.iconst 0, 1) := dk_3 (dk_at dksX1_extra_0 8 rfl rfl)
theorem dX1_extra_9 : decode cX1_extra 9 = .ok (.aload_n 0, 1) := dk_42 (dk_at dksX1_extra_0 9 rfl rfl)
theorem dX1_extra_10 : decode cX1_extra 10 = .ok (.getfield 99, 3) := dk_180 0 99 (dk_at dksX1_extra_0 10 rfl rfl)
theorem dX1_extra_13 : decode cX1_extra 13 = .ok (.getfield 152, 3) := dk_180 0 152 (dk_at dksX1_extra_0 13 rfl rfl)
theorem dX1_extra_16 : decode cX1_extra 16 = .ok (.invokevirtual 127, 3) := dk_182 0 127 (dk_at dksX1_extra_0 16 rfl rfl)
theorem dX1_extra_19 : decode cX1_extra 19 = .ok (.iconst 1, 1) := dk_4 (dk_at dksX1_extra_0 19 rfl rfl)
theorem dX1_extra_20 : decode cX1_extra 20 = .ok (.isub, 1) := dk_100 (dk_at dksX1_extra_0 20 rfl rfl)
theorem dX1_extra_21 : decode cX1_extra 21 = .ok (.invokestatic 79, 3) := dk_184 0 79 (dk_at dksX1_extra_0 21 rfl rfl)
theorem dX1_extra_24 : decode cX1_extra 24 = .ok (.ifCond .eq 12, 3) := dk_153 0 12 (dk_at dksX1_extra_1 0 rfl rfl)
theorem dX1_extra_27 : decode cX1_extra 27 = .ok (.aload_n 0, 1) := dk_42 (dk_at dksX1_extra_1 3 rfl rfl)
theorem dX1_extra_28 : decode cX1_extra 28 = .ok (.iload_n 2, 1) := dk_28 (dk_at dksX1_extra_1 4 rfl rfl)
theorem dX1_extra_29 : decode cX1_extra 29 = .ok (.iload_n 3, 1) := dk_29 (dk_at dksX1_extra_1 5 rfl rfl)
theorem dX1_extra_30 : decode cX1_extra 30 = .ok (.invokevirtual 277, 3) := dk_182 1 21 (dk_at dksX1_extra_1 6 rfl rfl)
theorem dX1_extra_33 : decode cX1_extra 33 = .ok (.ifCond .ne 9, 3) := dk_154 0 9 (dk_at dksX1_extra_1 9 rfl rfl)
theorem dX1_extra_36 : decode cX1_extra 36 = .ok (.aload_n 0, 1) := dk_42 (dk_at dksX1_extra_1 12 rfl rfl)
theorem dX1_extra_37 : decode cX1_extra 37 = .ok (.iconst 1, 1) := dk_4 (dk_at dksX1_extra_1 13 rfl rfl)
theorem dX1_extra_38 : decode cX1_extra 38 = .ok (.invokevirtual 83, 3) := dk_182 0 83 (dk_at dksX1_extra_1 14 rfl rfl)
theorem dX1_extra_41 : decode cX1_extra 41 = .ok (.ireturn, 1) := dk_172 (dk_at dksX1_extra_1 17 rfl rfl)
theorem dX1_extra_42 : decode cX1_extra 42 = .ok (.iload 4, 2) := dk_21 4 (dk_at dksX1_extra_1 18 rfl rfl)
theorem dX1_extra_44 : decode cX1_extra 44 = .ok (.iconst 0, 1) := dk_3 (dk_at dksX1_extra_1 20 rfl rfl)
theorem dX1_extra_45 : decode cX1_extra 45 = .ok (.aload_n 0, 1) := dk_42 (dk_at dksX1_extra_1 21 rfl rfl)
theorem dX1_extra_46 : decode cX1_extra 46 = .ok (.getfield 99, 3) := dk_180 0 99 (dk_at dksX1_extra_2 0 rfl rfl)
theorem dX1_extra_49 : decode cX1_extra 49 = .ok (.getfield 146, 3) := dk_180 0 146 (dk_at dksX1_extra_2 3 rfl rfl)
theorem dX1_extra_52 : decode cX1_extra 52 = .ok (.invokestatic 79, 3) := dk_184 0 79 (dk_at dksX1_extra_2 6 rfl rfl)
theorem dX1_extra_55 : decode cX1_extra 55 = .ok (.ifCond .eq 14, 3) := dk_153 0 14 (dk_at dksX1_extra_2 9 rfl rfl)
theorem dX1_extra_58 : decode cX1_extra 58 = .ok (.iload 5, 2) := dk_21 5 (dk_at dksX1_extra_2 12 rfl rfl)
theorem dX1_extra_60 : decode cX1_extra 60 = .ok (.iconst 1, 1) := dk_4 (dk_at dksX1_extra_2 14 rfl rfl)
theorem dX1_extra_61 : decode cX1_extra 61 = .ok (.bipush 99, 2) := dk_16 99 (dk_at dksX1_extra_2 15 rfl rfl)
theorem dX1_extra_63 : decode cX1_extra 63 = .ok (.invokestatic 79, 3) := dk_184 0 79 (dk_at dksX1_extra_2 17 rfl rfl)
theorem dX1_extra_66 : decode cX1_extra 66 = .ok (.ifCond .ne 9, 3) := dk_154 0 9 (dk_at dksX1_extra_2 20 rfl rfl)
theorem dX1_extra_69 : decode cX1_extra 69 = .ok (.aload_n 0, 1) := dk_42 (dk_at dksX1_extra_2 23 rfl rfl)
theorem dX1_extra_70 : decode cX1_extra 70 = .ok (.iconst 2, 1) := dk_5 (dk_at dksX1_extra_3 0 rfl rfl)
theorem dX1_extra_71 : decode cX1_extra 71 = .ok (.invokevirtual 83, 3) := dk_182 0 83 (dk_at dksX1_extra_3 1 rfl rfl)
theorem dX1_extra_74 : decode cX1_extra 74 = .ok (.ireturn, 1) := dk_172 (dk_at dksX1_extra_3 4 rfl rfl)
theorem dX1_extra_75 : decode cX1_extra 75 = .ok (.aload_n 0, 1) := dk_42 (dk_at dksX1_extra_3 5 rfl rfl)
theorem dX1_extra_76 : decode cX1_extra 76 = .ok (.getfield 99, 3) := dk_180 0 99 (dk_at dksX1_extra_3 6 rfl rfl)
theorem dX1_extra_79 : decode cX1_extra 79 = .ok (.getfield 121, 3) := dk_180 0 121 (dk_at dksX1_extra_3 9 rfl rfl)
theorem dX1_extra_82 : decode cX1_extra 82 = .ok (.invokevirtual 127, 3) := dk_182 0 127 (dk_at dksX1_extra_3 12 rfl rfl)
theorem dX1_extra_85 : decode cX1_extra 85 = .ok (.istore 6, 2) := dk_54 6 (dk_at dksX1_extra_3 15 rfl rfl)
theorem dX1_extra_87 : decode cX1_extra 87 = .ok (.iload 6, 2) := dk_21 6 (dk_at dksX1_extra_3 17 rfl rfl)
theorem dX1_extra_89 : decode cX1_extra 89 = .ok (.bipush 120, 2) := dk_16 120 (dk_at dksX1_extra_3 19 rfl rfl)
theorem dX1_extra_91 : decode cX1_extra 91 = .ok (.if_icmp .ne 9, 3) := dk_160 0 9 (dk_at dksX1_extra_3 21 rfl rfl)
theorem dX1_extra_94 : decode cX1_extra 94 = .ok (.aload_n 0, 1) := dk_42 (dk_at dksX1_extra_4 0 rfl rfl)
theorem dX1_extra_95 : decode cX1_extra 95 = .ok (.iconst 3, 1) := dk_6 (dk_at dksX1_extra_4 1 rfl rfl)
theorem dX1_extra_96 : decode cX1_extra 96 = .ok (.invokevirtual 83, 3) := dk_182 0 83 (dk_at dksX1_extra_4 2 rfl rfl)
theorem dX1_extra_99 : decode cX1_extra 99 = .ok (.ireturn, 1) := dk_172 (dk_at dksX1_extra_4 5 rfl rfl)
theorem dX1_extra_100 : decode cX1_extra 100 = .ok (.aload_n 0, 1) := dk_42 (dk_at dksX1_extra_4 6 rfl rfl)
theorem dX1_extra_101 : decode cX1_extra 101 = .ok (.iconst 4, 1) := dk_7 (dk_at dksX1_extra_4 7 rfl rfl)
theorem dX1_extra_102 : decode cX1_extra 102 = .ok (.iload 6, 2) := dk_21 6 (dk_at dksX1_extra_4 8 rfl rfl)
theorem dX1_extra_104 : decode cX1_extra 104 = .ok (.iconst 0, 1) := dk_3 (dk_at dksX1_extra_4 10 rfl rfl)
theorem dX1_extra_105 : decode cX1_extra 105 = .ok (.invokevirtual 366, 3) := dk_182 1 110 (dk_at dksX1_extra_4 11 rfl rfl)
theorem dX1_extra_108 : decode cX1_extra 108 = .ok (.new 137, 3) := dk_187 0 137 (dk_at dksX1_extra_4 14 rfl rfl)
theorem dX1_extra_111 : decode cX1_extra 111 = .ok (.dup, 1) := dk_89 (dk_at dksX1_extra_4 17 rfl rfl)
theorem dX1_extra_112 : decode cX1_extra 112 = .ok (.iload 6, 2) := dk_21 6 (dk_at dksX1_extra_4 18 rfl rfl)
theorem dX1_extra_114 : decode cX1_extra 114 = .ok (.bipush (-2), 2) := dk_16 254 (dk_at dksX1_extra_4 20 rfl rfl)
theorem dX1_extra_116 : decode cX1_extra 116 = .ok (.iload_n 1, 1) := dk_27 (dk_at dksX1_extra_4 22 rfl rfl)
theorem dX1_extra_117 : decode cX1_extra 117 = .ok (.iload_n 2, 1) := dk_28 (dk_at dksX1_extra_4 23 rfl rfl)
theorem dX1_extra_118 : decode cX1_extra 118 = .ok (.iload_n 3, 1) := dk_29 (dk_at dksX1_extra_5 0 rfl rfl)
theorem dX1_extra_119 : decode cX1_extra 119 = .ok (.iload 4, 2) := dk_21 4 (dk_at dksX1_extra_5 1 rfl rfl)
theorem dX1_extra_121 : decode cX1_extra 121 = .ok (.iload 5, 2) := dk_21 5 (dk_at dksX1_extra_5 3 rfl rfl)
theorem dX1_extra_123 : decode cX1_extra 123 = .ok (.invokespecial 380, 3) := dk_183 1 124 (dk_at dksX1_extra_5 5 rfl rfl)
theorem dX1_extra_126 : decode cX1_extra 126 = .ok (.astore 7, 2) := dk_58 7 (dk_at dksX1_extra_5 8 rfl rfl)
theorem dX1_extra_128 : decode cX1_extra 128 = .ok (.aload_n 0, 1) := dk_42 (dk_at dksX1_extra_5 10 rfl rfl)
theorem dX1_extra_129 : decode cX1_extra 129 = .ok (.getfield 99, 3) := dk_180 0 99 (dk_at dksX1_extra_5 11 rfl rfl)
theorem dX1_extra_132 : decode cX1_extra 132 = .ok (.getfield 121, 3) := dk_180 0 121 (dk_at dksX1_extra_5 14 rfl rfl)
theorem dX1_extra_135 : decode cX1_extra 135 = .ok (.aload 7, 2) := dk_25 7 (dk_at dksX1_extra_5 17 rfl rfl)
theorem dX1_extra_137 : decode cX1_extra 137 = .ok (.invokevirtual 383, 3) := dk_182 1 127 (dk_at dksX1_extra_5 19 rfl rfl)
theorem dX1_extra_140 : decode cX1_extra 140 = .ok (.pop, 1) := dk_87 (dk_at dksX1_extra_5 22 rfl rfl)
theorem dX1_extra_141 : decode cX1_extra 141 = .ok (.aload_n 0, 1) := dk_42 (dk_at dksX1_extra_5 23 rfl rfl)
theorem dX1_extra_142 : decode cX1_extra 142 = .ok (.getfield 28, 3) := dk_180 0 28 (dk_at dksX1_extra_6 0 rfl rfl)
theorem dX1_extra_145 : decode cX1_extra 145 = .ok (.aload 7, 2) := dk_25 7 (dk_at dksX1_extra_6 3 rfl rfl)
theorem dX1_extra_147 : decode cX1_extra 147 = .ok (.invokevirtual 139, 3) := dk_182 0 139 (dk_at dksX1_extra_6 5 rfl rfl)
theorem dX1_extra_150 : decode cX1_extra 150 = .ok (.pop, 1) := dk_87 (dk_at dksX1_extra_6 8 rfl rfl)
theorem dX1_extra_151 : decode cX1_extra 151 = .ok (.aload_n 0, 1) := dk_42 (dk_at dksX1_extra_6 9 rfl rfl)
theorem dX1_extra_152 : decode cX1_extra 152 = .ok (.iload 6, 2) := dk_21 6 (dk_at dksX1_extra_6 10 rfl rfl)
theorem dX1_extra_154 : decode cX1_extra 154 = .ok (.invokevirtual 143, 3) := dk_182 0 143 (dk_at dksX1_extra_6 12 rfl rfl)
theorem dX1_extra_157 : decode cX1_extra 157 = .ok (.ireturn, 1) := dk_172 (dk_at dksX1_extra_6 15 rfl rfl)
abbrev cX1_undo : ByteArray := prog_1_method_69_code
def yX1_undo : MethodName := ⟨RX1, "undo", "()Z"⟩
def dkwX1_undo_10 : List UInt8 := [4, 172]
abbrev dktX1_undo_10 : List UInt8 := dkwX1_undo_10 ++ []
def dkwX1_undo_9 : List UInt8 := [182, 1, 113, 42, 180, 0, 99, 180, 0, 121, 43, 182, 1, 138, 182, 1, 144, 87, 42, 3, 182, 0, 143, 87]
abbrev dktX1_undo_9 : List UInt8 := dkwX1_undo_9 ++ dktX1_undo_10
def dkwX1_undo_8 : List UInt8 := [167, 0, 40, 42, 42, 180, 0, 99, 180, 0, 121, 43, 182, 1, 138, 182, 0, 133, 192, 0, 137, 3]
abbrev dktX1_undo_8 : List UInt8 := dkwX1_undo_8 ++ dktX1_undo_9
def dkwX1_undo_7 : List UInt8 := [180, 0, 99, 180, 0, 149, 43, 182, 1, 138, 182, 0, 133, 192, 0, 173, 43, 182, 1, 141, 181, 0, 178]
abbrev dktX1_undo_7 : List UInt8 := dkwX1_undo_7 ++ dktX1_undo_8
def dkwX1_undo_6 : List UInt8 := [180, 0, 149, 43, 182, 1, 138, 182, 0, 133, 192, 0, 173, 43, 182, 1, 141, 181, 0, 175, 167, 0, 67, 42]
abbrev dktX1_undo_6 : List UInt8 := dkwX1_undo_6 ++ dktX1_undo_7
def dkwX1_undo_5 : List UInt8 := [182, 1, 138, 182, 0, 133, 192, 0, 137, 43, 182, 1, 141, 182, 1, 120, 167, 0, 94, 42, 180, 0, 99]
abbrev dktX1_undo_5 : List UInt8 := dkwX1_undo_5 ++ dktX1_undo_6
def dkwX1_undo_4 : List UInt8 := [160, 0, 7, 4, 167, 0, 4, 3, 182, 1, 113, 167, 0, 122, 42, 42, 180, 0, 99, 180, 0, 121, 43]
abbrev dktX1_undo_4 : List UInt8 := dkwX1_undo_4 ++ dktX1_undo_5
def dkwX1_undo_3 : List UInt8 := [42, 42, 180, 0, 99, 180, 0, 121, 43, 182, 1, 138, 182, 0, 133, 192, 0, 137, 43, 182, 1, 141, 4]
abbrev dktX1_undo_3 : List UInt8 := dkwX1_undo_3 ++ dktX1_undo_4
def dkwX1_undo_2 : List UInt8 := [170, 0, 0, 0, 0, 0, 0, 151, 0, 0, 0, 0, 0, 0, 0, 3, 0, 0, 0, 32, 0, 0, 0, 69, 0, 0, 0, 97, 0, 0, 0, 124]
abbrev dktX1_undo_2 : List UInt8 := dkwX1_undo_2 ++ dktX1_undo_3
def dkwX1_undo_1 : List UInt8 := [172, 42, 180, 0, 37, 182, 1, 132, 192, 1, 99, 76, 43, 182, 1, 135]
abbrev dktX1_undo_1 : List UInt8 := dkwX1_undo_1 ++ dktX1_undo_2
def dkwX1_undo_0 : List UInt8 := [42, 180, 0, 99, 198, 0, 13, 42, 180, 0, 37, 182, 1, 128, 153, 0, 11, 42, 4, 182, 0, 83, 87, 3]
abbrev dktX1_undo_0 : List UInt8 := dkwX1_undo_0 ++ dktX1_undo_1
theorem dksX1_undo_0 : cX1_undo.data.toList.drop 0 = dktX1_undo_0 := by decide +kernel
theorem dksX1_undo_1 : cX1_undo.data.toList.drop 24 = dktX1_undo_1 := dk_seg dksX1_undo_0 24 rfl rfl
theorem dksX1_undo_2 : cX1_undo.data.toList.drop 40 = dktX1_undo_2 := dk_seg dksX1_undo_1 16 rfl rfl
theorem dksX1_undo_3 : cX1_undo.data.toList.drop 72 = dktX1_undo_3 := dk_seg dksX1_undo_2 32 rfl rfl
theorem dksX1_undo_4 : cX1_undo.data.toList.drop 95 = dktX1_undo_4 := dk_seg dksX1_undo_3 23 rfl rfl
theorem dksX1_undo_5 : cX1_undo.data.toList.drop 118 = dktX1_undo_5 := dk_seg dksX1_undo_4 23 rfl rfl
theorem dksX1_undo_6 : cX1_undo.data.toList.drop 141 = dktX1_undo_6 := dk_seg dksX1_undo_5 23 rfl rfl
theorem dksX1_undo_7 : cX1_undo.data.toList.drop 165 = dktX1_undo_7 := dk_seg dksX1_undo_6 24 rfl rfl
theorem dksX1_undo_8 : cX1_undo.data.toList.drop 188 = dktX1_undo_8 := dk_seg dksX1_undo_7 23 rfl rfl
theorem dksX1_undo_9 : cX1_undo.data.toList.drop 210 = dktX1_undo_9 := dk_seg dksX1_undo_8 22 rfl rfl
theorem dksX1_undo_10 : cX1_undo.data.toList.drop 234 = dktX1_undo_10 := dk_seg dksX1_undo_9 24 rfl rfl
theorem dX1_undo_0 : decode cX1_undo 0 = .ok (.aload_n 0, 1) := dk_42 (dk_at dksX1_undo_0 0 rfl rfl)
theorem dX1_undo_1 : decode cX1_undo 1 = .ok (.getfield 99, 3) := dk_180 0 99 (dk_at dksX1_undo_0 1 rfl rfl)
theorem dX1_undo_4 : decode cX1_undo 4 = .ok (.ifnull 13, 3) := dk_198 0 13 (dk_at dksX1_undo_0 4 rfl rfl)
theorem dX1_undo_7 : decode cX1_undo 7 = .ok (.aload_n 0, 1) := dk_42 (dk_at dksX1_undo_0 7 rfl rfl)
theorem dX1_undo_8 : decode cX1_undo 8 = .ok (.getfield 37, 3) := dk_180 0 37 (dk_at dksX1_undo_0 8 rfl rfl)
theorem dX1_undo_11 : decode cX1_undo 11 = .ok (.invokevirtual 384, 3) := dk_182 1 128 (dk_at dksX1_undo_0 11 rfl rfl)
theorem dX1_undo_14 : decode cX1_undo 14 = .ok (.ifCond .eq 11, 3) := dk_153 0 11 (dk_at dksX1_undo_0 14 rfl rfl)
theorem dX1_undo_17 : decode cX1_undo 17 = .ok (.aload_n 0, 1) := dk_42 (dk_at dksX1_undo_0 17 rfl rfl)
theorem dX1_undo_18 : decode cX1_undo 18 = .ok (.iconst 1, 1) := dk_4 (dk_at dksX1_undo_0 18 rfl rfl)
theorem dX1_undo_19 : decode cX1_undo 19 = .ok (.invokevirtual 83, 3) := dk_182 0 83 (dk_at dksX1_undo_0 19 rfl rfl)
theorem dX1_undo_22 : decode cX1_undo 22 = .ok (.pop, 1) := dk_87 (dk_at dksX1_undo_0 22 rfl rfl)
theorem dX1_undo_23 : decode cX1_undo 23 = .ok (.iconst 0, 1) := dk_3 (dk_at dksX1_undo_0 23 rfl rfl)
theorem dX1_undo_24 : decode cX1_undo 24 = .ok (.ireturn, 1) := dk_172 (dk_at dksX1_undo_1 0 rfl rfl)
theorem dX1_undo_25 : decode cX1_undo 25 = .ok (.aload_n 0, 1) := dk_42 (dk_at dksX1_undo_1 1 rfl rfl)
theorem dX1_undo_26 : decode cX1_undo 26 = .ok (.getfield 37, 3) := dk_180 0 37 (dk_at dksX1_undo_1 2 rfl rfl)
theorem dX1_undo_29 : decode cX1_undo 29 = .ok (.invokevirtual 388, 3) := dk_182 1 132 (dk_at dksX1_undo_1 5 rfl rfl)
theorem dX1_undo_32 : decode cX1_undo 32 = .ok (.checkcast 355, 3) := dk_192 1 99 (dk_at dksX1_undo_1 8 rfl rfl)
theorem dX1_undo_35 : decode cX1_undo 35 = .ok (.astore_n 1, 1) := dk_76 (dk_at dksX1_undo_1 11 rfl rfl)
theorem dX1_undo_36 : decode cX1_undo 36 = .ok (.aload_n 1, 1) := dk_43 (dk_at dksX1_undo_1 12 rfl rfl)
theorem dX1_undo_37 : decode cX1_undo 37 = .ok (.invokevirtual 391, 3) := dk_182 1 135 (dk_at dksX1_undo_1 13 rfl rfl)
theorem dX1_undo_40 : decode cX1_undo 40 = .ok (.tableswitch 151 0 3 #[32, 69, 97, 124], 32) := by decide +kernel
theorem dX1_undo_72 : decode cX1_undo 72 = .ok (.aload_n 0, 1) := dk_42 (dk_at dksX1_undo_3 0 rfl rfl)
theorem dX1_undo_73 : decode cX1_undo 73 = .ok (.aload_n 0, 1) := dk_42 (dk_at dksX1_undo_3 1 rfl rfl)
theorem dX1_undo_74 : decode cX1_undo 74 = .ok (.getfield 99, 3) := dk_180 0 99 (dk_at dksX1_undo_3 2 rfl rfl)
theorem dX1_undo_77 : decode cX1_undo 77 = .ok (.getfield 121, 3) := dk_180 0 121 (dk_at dksX1_undo_3 5 rfl rfl)
theorem dX1_undo_80 : decode cX1_undo 80 = .ok (.aload_n 1, 1) := dk_43 (dk_at dksX1_undo_3 8 rfl rfl)
theorem dX1_undo_81 : decode cX1_undo 81 = .ok (.invokevirtual 394, 3) := dk_182 1 138 (dk_at dksX1_undo_3 9 rfl rfl)
theorem dX1_undo_84 : decode cX1_undo 84 = .ok (.invokevirtual 133, 3) := dk_182 0 133 (dk_at dksX1_undo_3 12 rfl rfl)
theorem dX1_undo_87 : decode cX1_undo 87 = .ok (.checkcast 137, 3) := dk_192 0 137 (dk_at dksX1_undo_3 15 rfl rfl)
theorem dX1_undo_90 : decode cX1_undo 90 = .ok (.aload_n 1, 1) := dk_43 (dk_at dksX1_undo_3 18 rfl rfl)
theorem dX1_undo_91 : decode cX1_undo 91 = .ok (.invokevirtual 397, 3) := dk_182 1 141 (dk_at dksX1_undo_3 19 rfl rfl)
theorem dX1_undo_94 : decode cX1_undo 94 = .ok (.iconst 1, 1) := dk_4 (dk_at dksX1_undo_3 22 rfl rfl)
theorem dX1_undo_95 : decode cX1_undo 95 = .ok (.if_icmp .ne 7, 3) := dk_160 0 7 (dk_at dksX1_undo_4 0 rfl rfl)
theorem dX1_undo_98 : decode cX1_undo 98 = .ok (.iconst 1, 1) := dk_4 (dk_at dksX1_undo_4 3 rfl rfl)
theorem dX1_undo_99 : decode cX1_undo 99 = .ok (.goto 4, 3) := dk_167 0 4 (dk_at dksX1_undo_4 4 rfl rfl)
theorem dX1_undo_102 : decode cX1_undo 102 = .ok (.iconst 0, 1) := dk_3 (dk_at dksX1_undo_4 7 rfl rfl)
theorem dX1_undo_103 : decode cX1_undo 103 = .ok (.invokevirtual 369, 3) := dk_182 1 113 (dk_at dksX1_undo_4 8 rfl rfl)
theorem dX1_undo_106 : decode cX1_undo 106 = .ok (.goto 122, 3) := dk_167 0 122 (dk_at dksX1_undo_4 11 rfl rfl)
theorem dX1_undo_109 : decode cX1_undo 109 = .ok (.aload_n 0, 1) := dk_42 (dk_at dksX1_undo_4 14 rfl rfl)
theorem dX1_undo_110 : decode cX1_undo 110 = .ok (.aload_n 0, 1) := dk_42 (dk_at dksX1_undo_4 15 rfl rfl)
theorem dX1_undo_111 : decode cX1_undo 111 = .ok (.getfield 99, 3) := dk_180 0 99 (dk_at dksX1_undo_4 16 rfl rfl)
theorem dX1_undo_114 : decode cX1_undo 114 = .ok (.getfield 121, 3) := dk_180 0 121 (dk_at dksX1_undo_4 19 rfl rfl)
theorem dX1_undo_117 : decode cX1_undo 117 = .ok (.aload_n 1, 1) := dk_43 (dk_at dksX1_undo_4 22 rfl rfl)
theorem dX1_undo_118 : decode cX1_undo 118 = .ok (.invokevirtual 394, 3) := dk_182 1 138 (dk_at dksX1_undo_5 0 rfl rfl)
theorem dX1_undo_121 : decode cX1_undo 121 = .ok (.invokevirtual 133, 3) := dk_182 0 133 (dk_at dksX1_undo_5 3 rfl rfl)
theorem dX1_undo_124 : decode cX1_undo 124 = .ok (.checkcast 137, 3) := dk_192 0 137 (dk_at dksX1_undo_5 6 rfl rfl)
theorem dX1_undo_127 : decode cX1_undo 127 = .ok (.aload_n 1, 1) := dk_43 (dk_at dksX1_undo_5 9 rfl rfl)
theorem dX1_undo_128 : decode cX1_undo 128 = .ok (.invokevirtual 397, 3) := dk_182 1 141 (dk_at dksX1_undo_5 10 rfl rfl)
theorem dX1_undo_131 : decode cX1_undo 131 = .ok (.invokevirtual 376, 3) := dk_182 1 120 (dk_at dksX1_undo_5 13 rfl rfl)
theorem dX1_undo_134 : decode cX1_undo 134 = .ok (.goto 94, 3) := dk_167 0 94 (dk_at dksX1_undo_5 16 rfl rfl)
theorem dX1_undo_137 : decode cX1_undo 137 = .ok (.aload_n 0, 1) := dk_42 (dk_at dksX1_undo_5 19 rfl rfl)
theorem dX1_undo_138 : decode cX1_undo 138 = .ok (.getfield 99, 3) := dk_180 0 99 (dk_at dksX1_undo_5 20 rfl rfl)
theorem dX1_undo_141 : decode cX1_undo 141 = .ok (.getfield 149, 3) := dk_180 0 149 (dk_at dksX1_undo_6 0 rfl rfl)
theorem dX1_undo_144 : decode cX1_undo 144 = .ok (.aload_n 1, 1) := dk_43 (dk_at dksX1_undo_6 3 rfl rfl)
theorem dX1_undo_145 : decode cX1_undo 145 = .ok (.invokevirtual 394, 3) := dk_182 1 138 (dk_at dksX1_undo_6 4 rfl rfl)
theorem dX1_undo_148 : decode cX1_undo 148 = .ok (.invokevirtual 133, 3) := dk_182 0 133 (dk_at dksX1_undo_6 7 rfl rfl)
theorem dX1_undo_151 : decode cX1_undo 151 = .ok (.checkcast 173, 3) := dk_192 0 173 (dk_at dksX1_undo_6 10 rfl rfl)
theorem dX1_undo_154 : decode cX1_undo 154 = .ok (.aload_n 1, 1) := dk_43 (dk_at dksX1_undo_6 13 rfl rfl)
theorem dX1_undo_155 : decode cX1_undo 155 = .ok (.invokevirtual 397, 3) := dk_182 1 141 (dk_at dksX1_undo_6 14 rfl rfl)
theorem dX1_undo_158 : decode cX1_undo 158 = .ok (.putfield 175, 3) := dk_181 0 175 (dk_at dksX1_undo_6 17 rfl rfl)
theorem dX1_undo_161 : decode cX1_undo 161 = .ok (.goto 67, 3) := dk_167 0 67 (dk_at dksX1_undo_6 20 rfl rfl)
theorem dX1_undo_164 : decode cX1_undo 164 = .ok (.aload_n 0, 1) := dk_42 (dk_at dksX1_undo_6 23 rfl rfl)
theorem dX1_undo_165 : decode cX1_undo 165 = .ok (.getfield 99, 3) := dk_180 0 99 (dk_at dksX1_undo_7 0 rfl rfl)
theorem dX1_undo_168 : decode cX1_undo 168 = .ok (.getfield 149, 3) := dk_180 0 149 (dk_at dksX1_undo_7 3 rfl rfl)
theorem dX1_undo_171 : decode cX1_undo 171 = .ok (.aload_n 1, 1) := dk_43 (dk_at dksX1_undo_7 6 rfl rfl)
theorem dX1_undo_172 : decode cX1_undo 172 = .ok (.invokevirtual 394, 3) := dk_182 1 138 (dk_at dksX1_undo_7 7 rfl rfl)
theorem dX1_undo_175 : decode cX1_undo 175 = .ok (.invokevirtual 133, 3) := dk_182 0 133 (dk_at dksX1_undo_7 10 rfl rfl)
theorem dX1_undo_178 : decode cX1_undo 178 = .ok (.checkcast 173, 3) := dk_192 0 173 (dk_at dksX1_undo_7 13 rfl rfl)
theorem dX1_undo_181 : decode cX1_undo 181 = .ok (.aload_n 1, 1) := dk_43 (dk_at dksX1_undo_7 16 rfl rfl)
theorem dX1_undo_182 : decode cX1_undo 182 = .ok (.invokevirtual 397, 3) := dk_182 1 141 (dk_at dksX1_undo_7 17 rfl rfl)
theorem dX1_undo_185 : decode cX1_undo 185 = .ok (.putfield 178, 3) := dk_181 0 178 (dk_at dksX1_undo_7 20 rfl rfl)
theorem dX1_undo_188 : decode cX1_undo 188 = .ok (.goto 40, 3) := dk_167 0 40 (dk_at dksX1_undo_8 0 rfl rfl)
theorem dX1_undo_191 : decode cX1_undo 191 = .ok (.aload_n 0, 1) := dk_42 (dk_at dksX1_undo_8 3 rfl rfl)
theorem dX1_undo_192 : decode cX1_undo 192 = .ok (.aload_n 0, 1) := dk_42 (dk_at dksX1_undo_8 4 rfl rfl)
theorem dX1_undo_193 : decode cX1_undo 193 = .ok (.getfield 99, 3) := dk_180 0 99 (dk_at dksX1_undo_8 5 rfl rfl)
theorem dX1_undo_196 : decode cX1_undo 196 = .ok (.getfield 121, 3) := dk_180 0 121 (dk_at dksX1_undo_8 8 rfl rfl)
theorem dX1_undo_199 : decode cX1_undo 199 = .ok (.aload_n 1, 1) := dk_43 (dk_at dksX1_undo_8 11 rfl rfl)
theorem dX1_undo_200 : decode cX1_undo 200 = .ok (.invokevirtual 394, 3) := dk_182 1 138 (dk_at dksX1_undo_8 12 rfl rfl)
theorem dX1_undo_203 : decode cX1_undo 203 = .ok (.invokevirtual 133, 3) := dk_182 0 133 (dk_at dksX1_undo_8 15 rfl rfl)
theorem dX1_undo_206 : decode cX1_undo 206 = .ok (.checkcast 137, 3) := dk_192 0 137 (dk_at dksX1_undo_8 18 rfl rfl)
theorem dX1_undo_209 : decode cX1_undo 209 = .ok (.iconst 0, 1) := dk_3 (dk_at dksX1_undo_8 21 rfl rfl)
theorem dX1_undo_210 : decode cX1_undo 210 = .ok (.invokevirtual 369, 3) := dk_182 1 113 (dk_at dksX1_undo_9 0 rfl rfl)
theorem dX1_undo_213 : decode cX1_undo 213 = .ok (.aload_n 0, 1) := dk_42 (dk_at dksX1_undo_9 3 rfl rfl)
theorem dX1_undo_214 : decode cX1_undo 214 = .ok (.getfield 99, 3) := dk_180 0 99 (dk_at dksX1_undo_9 4 rfl rfl)
theorem dX1_undo_217 : decode cX1_undo 217 = .ok (.getfield 121, 3) := dk_180 0 121 (dk_at dksX1_undo_9 7 rfl rfl)
theorem dX1_undo_220 : decode cX1_undo 220 = .ok (.aload_n 1, 1) := dk_43 (dk_at dksX1_undo_9 10 rfl rfl)
theorem dX1_undo_221 : decode cX1_undo 221 = .ok (.invokevirtual 394, 3) := dk_182 1 138 (dk_at dksX1_undo_9 11 rfl rfl)
theorem dX1_undo_224 : decode cX1_undo 224 = .ok (.invokevirtual 400, 3) := dk_182 1 144 (dk_at dksX1_undo_9 14 rfl rfl)
theorem dX1_undo_227 : decode cX1_undo 227 = .ok (.pop, 1) := dk_87 (dk_at dksX1_undo_9 17 rfl rfl)
theorem dX1_undo_228 : decode cX1_undo 228 = .ok (.aload_n 0, 1) := dk_42 (dk_at dksX1_undo_9 18 rfl rfl)
theorem dX1_undo_229 : decode cX1_undo 229 = .ok (.iconst 0, 1) := dk_3 (dk_at dksX1_undo_9 19 rfl rfl)
theorem dX1_undo_230 : decode cX1_undo 230 = .ok (.invokevirtual 143, 3) := dk_182 0 143 (dk_at dksX1_undo_9 20 rfl rfl)
theorem dX1_undo_233 : decode cX1_undo 233 = .ok (.pop, 1) := dk_87 (dk_at dksX1_undo_9 23 rfl rfl)
theorem dX1_undo_234 : decode cX1_undo 234 = .ok (.iconst 1, 1) := dk_4 (dk_at dksX1_undo_10 0 rfl rfl)
theorem dX1_undo_235 : decode cX1_undo 235 = .ok (.ireturn, 1) := dk_172 (dk_at dksX1_undo_10 1 rfl rfl)
abbrev cX1_size : ByteArray := prog_1_method_72_code
def yX1_size : MethodName := ⟨RX1, "size", "(I)I"⟩
def dkwX1_size_3 : List UInt8 := [42, 182, 1, 149, 172, 2, 172]
abbrev dktX1_size_3 : List UInt8 := dkwX1_size_3 ++ []
def dkwX1_size_2 : List UInt8 := [42, 180, 0, 73, 172, 42, 180, 0, 37, 182, 1, 95, 172, 42, 180, 0, 99, 199, 0, 7, 3, 167, 0, 7]
abbrev dktX1_size_2 : List UInt8 := dkwX1_size_2 ++ dktX1_size_3
def dkwX1_size_1 : List UInt8 := [170, 0, 0, 0, 0, 0, 56, 0, 0, 0, 0, 0, 0, 0, 2, 0, 0, 0, 27, 0, 0, 0, 32, 0, 0, 0, 40]
abbrev dktX1_size_1 : List UInt8 := dkwX1_size_1 ++ dktX1_size_2
def dkwX1_size_0 : List UInt8 := [27]
abbrev dktX1_size_0 : List UInt8 := dkwX1_size_0 ++ dktX1_size_1
theorem dksX1_size_0 : cX1_size.data.toList.drop 0 = dktX1_size_0 := by decide +kernel
theorem dksX1_size_1 : cX1_size.data.toList.drop 1 = dktX1_size_1 := dk_seg dksX1_size_0 1 rfl rfl
theorem dksX1_size_2 : cX1_size.data.toList.drop 28 = dktX1_size_2 := dk_seg dksX1_size_1 27 rfl rfl
theorem dksX1_size_3 : cX1_size.data.toList.drop 52 = dktX1_size_3 := dk_seg dksX1_size_2 24 rfl rfl
theorem dX1_size_0 : decode cX1_size 0 = .ok (.iload_n 1, 1) := dk_27 (dk_at dksX1_size_0 0 rfl rfl)
theorem dX1_size_1 : decode cX1_size 1 = .ok (.tableswitch 56 0 2 #[27, 32, 40], 27) := by decide +kernel
theorem dX1_size_28 : decode cX1_size 28 = .ok (.aload_n 0, 1) := dk_42 (dk_at dksX1_size_2 0 rfl rfl)
theorem dX1_size_29 : decode cX1_size 29 = .ok (.getfield 73, 3) := dk_180 0 73 (dk_at dksX1_size_2 1 rfl rfl)
theorem dX1_size_32 : decode cX1_size 32 = .ok (.ireturn, 1) := dk_172 (dk_at dksX1_size_2 4 rfl rfl)
theorem dX1_size_33 : decode cX1_size 33 = .ok (.aload_n 0, 1) := dk_42 (dk_at dksX1_size_2 5 rfl rfl)
theorem dX1_size_34 : decode cX1_size 34 = .ok (.getfield 37, 3) := dk_180 0 37 (dk_at dksX1_size_2 6 rfl rfl)
theorem dX1_size_37 : decode cX1_size 37 = .ok (.invokevirtual 351, 3) := dk_182 1 95 (dk_at dksX1_size_2 9 rfl rfl)
theorem dX1_size_40 : decode cX1_size 40 = .ok (.ireturn, 1) := dk_172 (dk_at dksX1_size_2 12 rfl rfl)
theorem dX1_size_41 : decode cX1_size 41 = .ok (.aload_n 0, 1) := dk_42 (dk_at dksX1_size_2 13 rfl rfl)
theorem dX1_size_42 : decode cX1_size 42 = .ok (.getfield 99, 3) := dk_180 0 99 (dk_at dksX1_size_2 14 rfl rfl)
theorem dX1_size_45 : decode cX1_size 45 = .ok (.ifnonnull 7, 3) := dk_199 0 7 (dk_at dksX1_size_2 17 rfl rfl)
theorem dX1_size_48 : decode cX1_size 48 = .ok (.iconst 0, 1) := dk_3 (dk_at dksX1_size_2 20 rfl rfl)
theorem dX1_size_49 : decode cX1_size 49 = .ok (.goto 7, 3) := dk_167 0 7 (dk_at dksX1_size_2 21 rfl rfl)
theorem dX1_size_52 : decode cX1_size 52 = .ok (.aload_n 0, 1) := dk_42 (dk_at dksX1_size_3 0 rfl rfl)
theorem dX1_size_53 : decode cX1_size 53 = .ok (.invokevirtual 405, 3) := dk_182 1 149 (dk_at dksX1_size_3 1 rfl rfl)
theorem dX1_size_56 : decode cX1_size 56 = .ok (.ireturn, 1) := dk_172 (dk_at dksX1_size_3 4 rfl rfl)
theorem dX1_size_57 : decode cX1_size 57 = .ok (.iconst (-1), 1) := dk_2 (dk_at dksX1_size_3 5 rfl rfl)
theorem dX1_size_58 : decode cX1_size 58 = .ok (.ireturn, 1) := dk_172 (dk_at dksX1_size_3 6 rfl rfl)
abbrev cX1_lateOnes : ByteArray := prog_1_method_71_code
def yX1_lateOnes : MethodName := ⟨RX1, "lateOnes", "()I"⟩
def dkwX1_lateOnes_2 : List UInt8 := [167, 255, 216, 27, 172]
abbrev dktX1_lateOnes_2 : List UInt8 := dkwX1_lateOnes_2 ++ []
def dkwX1_lateOnes_1 : List UInt8 := [180, 0, 121, 28, 182, 0, 133, 192, 0, 137, 180, 0, 197, 158, 0, 6, 132, 1, 1, 132, 2, 1]
abbrev dktX1_lateOnes_1 : List UInt8 := dkwX1_lateOnes_1 ++ dktX1_lateOnes_2
def dkwX1_lateOnes_0 : List UInt8 := [3, 60, 3, 61, 28, 42, 180, 0, 99, 180, 0, 121, 182, 0, 127, 162, 0, 32, 42, 180, 0, 99]
abbrev dktX1_lateOnes_0 : List UInt8 := dkwX1_lateOnes_0 ++ dktX1_lateOnes_1
theorem dksX1_lateOnes_0 : cX1_lateOnes.data.toList.drop 0 = dktX1_lateOnes_0 := by decide +kernel
theorem dksX1_lateOnes_1 : cX1_lateOnes.data.toList.drop 22 = dktX1_lateOnes_1 := dk_seg dksX1_lateOnes_0 22 rfl rfl
theorem dksX1_lateOnes_2 : cX1_lateOnes.data.toList.drop 44 = dktX1_lateOnes_2 := dk_seg dksX1_lateOnes_1 22 rfl rfl
theorem dX1_lateOnes_0 : decode cX1_lateOnes 0 = .ok (.iconst 0, 1) := dk_3 (dk_at dksX1_lateOnes_0 0 rfl rfl)
theorem dX1_lateOnes_1 : decode cX1_lateOnes 1 = .ok (.istore_n 1, 1) := dk_60 (dk_at dksX1_lateOnes_0 1 rfl rfl)
theorem dX1_lateOnes_2 : decode cX1_lateOnes 2 = .ok (.iconst 0, 1) := dk_3 (dk_at dksX1_lateOnes_0 2 rfl rfl)
theorem dX1_lateOnes_3 : decode cX1_lateOnes 3 = .ok (.istore_n 2, 1) := dk_61 (dk_at dksX1_lateOnes_0 3 rfl rfl)
theorem dX1_lateOnes_4 : decode cX1_lateOnes 4 = .ok (.iload_n 2, 1) := dk_28 (dk_at dksX1_lateOnes_0 4 rfl rfl)
theorem dX1_lateOnes_5 : decode cX1_lateOnes 5 = .ok (.aload_n 0, 1) := dk_42 (dk_at dksX1_lateOnes_0 5 rfl rfl)
theorem dX1_lateOnes_6 : decode cX1_lateOnes 6 = .ok (.getfield 99, 3) := dk_180 0 99 (dk_at dksX1_lateOnes_0 6 rfl rfl)
theorem dX1_lateOnes_9 : decode cX1_lateOnes 9 = .ok (.getfield 121, 3) := dk_180 0 121 (dk_at dksX1_lateOnes_0 9 rfl rfl)
theorem dX1_lateOnes_12 : decode cX1_lateOnes 12 = .ok (.invokevirtual 127, 3) := dk_182 0 127 (dk_at dksX1_lateOnes_0 12 rfl rfl)
theorem dX1_lateOnes_15 : decode cX1_lateOnes 15 = .ok (.if_icmp .ge 32, 3) := dk_162 0 32 (dk_at dksX1_lateOnes_0 15 rfl rfl)
theorem dX1_lateOnes_18 : decode cX1_lateOnes 18 = .ok (.aload_n 0, 1) := dk_42 (dk_at dksX1_lateOnes_0 18 rfl rfl)
theorem dX1_lateOnes_19 : decode cX1_lateOnes 19 = .ok (.getfield 99, 3) := dk_180 0 99 (dk_at dksX1_lateOnes_0 19 rfl rfl)
theorem dX1_lateOnes_22 : decode cX1_lateOnes 22 = .ok (.getfield 121, 3) := dk_180 0 121 (dk_at dksX1_lateOnes_1 0 rfl rfl)
theorem dX1_lateOnes_25 : decode cX1_lateOnes 25 = .ok (.iload_n 2, 1) := dk_28 (dk_at dksX1_lateOnes_1 3 rfl rfl)
theorem dX1_lateOnes_26 : decode cX1_lateOnes 26 = .ok (.invokevirtual 133, 3) := dk_182 0 133 (dk_at dksX1_lateOnes_1 4 rfl rfl)
theorem dX1_lateOnes_29 : decode cX1_lateOnes 29 = .ok (.checkcast 137, 3) := dk_192 0 137 (dk_at dksX1_lateOnes_1 7 rfl rfl)
theorem dX1_lateOnes_32 : decode cX1_lateOnes 32 = .ok (.getfield 197, 3) := dk_180 0 197 (dk_at dksX1_lateOnes_1 10 rfl rfl)
theorem dX1_lateOnes_35 : decode cX1_lateOnes 35 = .ok (.ifCond .le 6, 3) := dk_158 0 6 (dk_at dksX1_lateOnes_1 13 rfl rfl)
theorem dX1_lateOnes_38 : decode cX1_lateOnes 38 = .ok (.iinc 1 1, 3) := dk_132 1 1 (dk_at dksX1_lateOnes_1 16 rfl rfl)
theorem dX1_lateOnes_41 : decode cX1_lateOnes 41 = .ok (.iinc 2 1, 3) := dk_132 2 1 (dk_at dksX1_lateOnes_1 19 rfl rfl)
theorem dX1_lateOnes_44 : decode cX1_lateOnes 44 = .ok (.goto (-40), 3) := dk_167 255 216 (dk_at dksX1_lateOnes_2 0 rfl rfl)
theorem dX1_lateOnes_47 : decode cX1_lateOnes 47 = .ok (.iload_n 1, 1) := dk_27 (dk_at dksX1_lateOnes_2 3 rfl rfl)
theorem dX1_lateOnes_48 : decode cX1_lateOnes 48 = .ok (.ireturn, 1) := dk_172 (dk_at dksX1_lateOnes_2 4 rfl rfl)
abbrev cX1_trouble : ByteArray := prog_1_method_73_code
def yX1_trouble : MethodName := ⟨RX1, "trouble", "()I"⟩
theorem dX1_trouble_0 : decode cX1_trouble 0 = .ok (.aload_n 0, 1) := by decide +kernel
theorem dX1_trouble_1 : decode cX1_trouble 1 = .ok (.getfield 1, 3) := by decide +kernel
theorem dX1_trouble_4 : decode cX1_trouble 4 = .ok (.ireturn, 1) := by decide +kernel
abbrev cX1_still : ByteArray := prog_1_method_70_code
def yX1_still : MethodName := ⟨RX1, "still", "(I)I"⟩
def dkwX1_still_2 : List UInt8 := [28, 27, 160, 0, 5, 29, 172, 132, 2, 1, 132, 3, 1, 167, 255, 201, 187, 1, 146, 89, 183, 1, 148, 191]
abbrev dktX1_still_2 : List UInt8 := dkwX1_still_2 ++ []
def dkwX1_still_1 : List UInt8 := [162, 0, 40, 42, 29, 4, 182, 0, 181, 157, 0, 25, 42, 29, 3, 182, 0, 181, 158, 0, 6, 167, 0, 13]
abbrev dktX1_still_1 : List UInt8 := dkwX1_still_1 ++ dktX1_still_2
def dkwX1_still_0 : List UInt8 := [3, 61, 3, 62, 42, 180, 0, 99, 198, 0, 54, 29, 42, 180, 0, 99, 180, 0, 149, 182, 0, 127]
abbrev dktX1_still_0 : List UInt8 := dkwX1_still_0 ++ dktX1_still_1
theorem dksX1_still_0 : cX1_still.data.toList.drop 0 = dktX1_still_0 := by decide +kernel
theorem dksX1_still_1 : cX1_still.data.toList.drop 22 = dktX1_still_1 := dk_seg dksX1_still_0 22 rfl rfl
theorem dksX1_still_2 : cX1_still.data.toList.drop 46 = dktX1_still_2 := dk_seg dksX1_still_1 24 rfl rfl
theorem dX1_still_0 : decode cX1_still 0 = .ok (.iconst 0, 1) := dk_3 (dk_at dksX1_still_0 0 rfl rfl)
theorem dX1_still_1 : decode cX1_still 1 = .ok (.istore_n 2, 1) := dk_61 (dk_at dksX1_still_0 1 rfl rfl)
theorem dX1_still_2 : decode cX1_still 2 = .ok (.iconst 0, 1) := dk_3 (dk_at dksX1_still_0 2 rfl rfl)
theorem dX1_still_3 : decode cX1_still 3 = .ok (.istore_n 3, 1) := dk_62 (dk_at dksX1_still_0 3 rfl rfl)
theorem dX1_still_4 : decode cX1_still 4 = .ok (.aload_n 0, 1) := dk_42 (dk_at dksX1_still_0 4 rfl rfl)
theorem dX1_still_5 : decode cX1_still 5 = .ok (.getfield 99, 3) := dk_180 0 99 (dk_at dksX1_still_0 5 rfl rfl)
theorem dX1_still_8 : decode cX1_still 8 = .ok (.ifnull 54, 3) := dk_198 0 54 (dk_at dksX1_still_0 8 rfl rfl)
theorem dX1_still_11 : decode cX1_still 11 = .ok (.iload_n 3, 1) := dk_29 (dk_at dksX1_still_0 11 rfl rfl)
theorem dX1_still_12 : decode cX1_still 12 = .ok (.aload_n 0, 1) := dk_42 (dk_at dksX1_still_0 12 rfl rfl)
theorem dX1_still_13 : decode cX1_still 13 = .ok (.getfield 99, 3) := dk_180 0 99 (dk_at dksX1_still_0 13 rfl rfl)
theorem dX1_still_16 : decode cX1_still 16 = .ok (.getfield 149, 3) := dk_180 0 149 (dk_at dksX1_still_0 16 rfl rfl)
theorem dX1_still_19 : decode cX1_still 19 = .ok (.invokevirtual 127, 3) := dk_182 0 127 (dk_at dksX1_still_0 19 rfl rfl)
theorem dX1_still_22 : decode cX1_still 22 = .ok (.if_icmp .ge 40, 3) := dk_162 0 40 (dk_at dksX1_still_1 0 rfl rfl)
theorem dX1_still_25 : decode cX1_still 25 = .ok (.aload_n 0, 1) := dk_42 (dk_at dksX1_still_1 3 rfl rfl)
theorem dX1_still_26 : decode cX1_still 26 = .ok (.iload_n 3, 1) := dk_29 (dk_at dksX1_still_1 4 rfl rfl)
theorem dX1_still_27 : decode cX1_still 27 = .ok (.iconst 1, 1) := dk_4 (dk_at dksX1_still_1 5 rfl rfl)
theorem dX1_still_28 : decode cX1_still 28 = .ok (.invokevirtual 181, 3) := dk_182 0 181 (dk_at dksX1_still_1 6 rfl rfl)
theorem dX1_still_31 : decode cX1_still 31 = .ok (.ifCond .gt 25, 3) := dk_157 0 25 (dk_at dksX1_still_1 9 rfl rfl)
theorem dX1_still_34 : decode cX1_still 34 = .ok (.aload_n 0, 1) := dk_42 (dk_at dksX1_still_1 12 rfl rfl)
theorem dX1_still_35 : decode cX1_still 35 = .ok (.iload_n 3, 1) := dk_29 (dk_at dksX1_still_1 13 rfl rfl)
theorem dX1_still_36 : decode cX1_still 36 = .ok (.iconst 0, 1) := dk_3 (dk_at dksX1_still_1 14 rfl rfl)
theorem dX1_still_37 : decode cX1_still 37 = .ok (.invokevirtual 181, 3) := dk_182 0 181 (dk_at dksX1_still_1 15 rfl rfl)
theorem dX1_still_40 : decode cX1_still 40 = .ok (.ifCond .le 6, 3) := dk_158 0 6 (dk_at dksX1_still_1 18 rfl rfl)
theorem dX1_still_43 : decode cX1_still 43 = .ok (.goto 13, 3) := dk_167 0 13 (dk_at dksX1_still_1 21 rfl rfl)
theorem dX1_still_46 : decode cX1_still 46 = .ok (.iload_n 2, 1) := dk_28 (dk_at dksX1_still_2 0 rfl rfl)
theorem dX1_still_47 : decode cX1_still 47 = .ok (.iload_n 1, 1) := dk_27 (dk_at dksX1_still_2 1 rfl rfl)
theorem dX1_still_48 : decode cX1_still 48 = .ok (.if_icmp .ne 5, 3) := dk_160 0 5 (dk_at dksX1_still_2 2 rfl rfl)
theorem dX1_still_51 : decode cX1_still 51 = .ok (.iload_n 3, 1) := dk_29 (dk_at dksX1_still_2 5 rfl rfl)
theorem dX1_still_52 : decode cX1_still 52 = .ok (.ireturn, 1) := dk_172 (dk_at dksX1_still_2 6 rfl rfl)
theorem dX1_still_53 : decode cX1_still 53 = .ok (.iinc 2 1, 3) := dk_132 2 1 (dk_at dksX1_still_2 7 rfl rfl)
theorem dX1_still_56 : decode cX1_still 56 = .ok (.iinc 3 1, 3) := dk_132 3 1 (dk_at dksX1_still_2 10 rfl rfl)
theorem dX1_still_59 : decode cX1_still 59 = .ok (.goto (-55), 3) := dk_167 255 201 (dk_at dksX1_still_2 13 rfl rfl)
theorem dX1_still_62 : decode cX1_still 62 = .ok (.new 402, 3) := dk_187 1 146 (dk_at dksX1_still_2 16 rfl rfl)
theorem dX1_still_65 : decode cX1_still 65 = .ok (.dup, 1) := dk_89 (dk_at dksX1_still_2 19 rfl rfl)
theorem dX1_still_66 : decode cX1_still 66 = .ok (.invokespecial 404, 3) := dk_183 1 148 (dk_at dksX1_still_2 20 rfl rfl)
theorem dX1_still_69 : decode cX1_still 69 = .ok (.athrow, 1) := dk_191 (dk_at dksX1_still_2 23 rfl rfl)
theorem q128 : (Jvm.Cond.initialized "LinkTimes") ∈ lw_all := lw_g (lw_at lw_m1 1 rfl) rfl
theorem q172 : (Jvm.Cond.instantiable "LinkTimes" (19 : Nat)) ∈ lw_all := lw_g (lw_at lw_m1 45 rfl) rfl
theorem q174 : (Jvm.Cond.instanceMethod ({ cls := "LinkTimes", name := "<init>", desc := "()V" } : Jvm.MethodName)) ∈ lw_all := lw_g (lw_at lw_m1 47 rfl) rfl
theorem q175 : (Jvm.Cond.code ({ cls := "LinkTimes", name := "<init>", desc := "()V" } : Jvm.MethodName) prog_1_method_4_code (1 : Nat) (Option.none : Option Jvm.ClassFile.FieldType)) ∈ lw_all := lw_g (lw_at lw_m1 48 rfl) rfl
theorem q176 : (Jvm.Cond.methodLink "LinkTimes" (10 : Nat) ({ cls := "java/lang/Object", name := "<init>", desc := "()V" } : Jvm.MethodName)) ∈ lw_all := lw_g (lw_at lw_m1 49 rfl) rfl
theorem q179 : (Jvm.Cond.classLink "LinkTimes" (20 : Nat) "java/util/TreeSet") ∈ lw_all := lw_g (lw_at lw_m1 52 rfl) rfl
theorem q181 : (Jvm.Cond.classLink "LinkTimes" (22 : Nat) "LinkTimes$ByLeaves") ∈ lw_all := lw_g (lw_at lw_m1 54 rfl) rfl
theorem q183 : (Jvm.Cond.methodLinkNest "LinkTimes" (24 : Nat) ({ cls := "LinkTimes$ByLeaves", name := "<init>", desc := "()V" } : Jvm.MethodName) "LinkTimes") ∈ lw_tbl := lw_at lw_m1 56 rfl
theorem q189 : (Jvm.Cond.methodLink "LinkTimes" (25 : Nat) ({ cls := "java/util/TreeSet", name := "<init>", desc := "(Ljava/util/Comparator;)V" } : Jvm.MethodName)) ∈ lw_all := lw_g (lw_at lw_m1 62 rfl) rfl
theorem q238 : (Jvm.Cond.classLink "LinkTimes" (32 : Nat) "java/util/ArrayDeque") ∈ lw_all := lw_g (lw_at lw_m1 111 rfl) rfl
theorem q240 : (Jvm.Cond.methodLink "LinkTimes" (34 : Nat) ({ cls := "java/util/ArrayDeque", name := "<init>", desc := "(I)V" } : Jvm.MethodName)) ∈ lw_all := lw_g (lw_at lw_m1 113 rfl) rfl
theorem q257 : (Jvm.Cond.classLink "LinkTimes" (41 : Nat) "LinkTimes$Search") ∈ lw_all := lw_g (lw_at lw_m1 130 rfl) rfl
theorem q259 : (Jvm.Cond.methodLinkNest "LinkTimes" (43 : Nat) ({ cls := "LinkTimes$Search", name := "<init>", desc := "(LLinkTimes;)V" } : Jvm.MethodName) "LinkTimes") ∈ lw_tbl := lw_at lw_m1 132 rfl
theorem q266 : (Jvm.Cond.fieldLinkNest "LinkTimes" (242 : Nat) "LinkTimes$Search" "row" "[LLinkTimes$Departure;" "LinkTimes") ∈ lw_tbl := lw_at lw_m1 139 rfl
theorem q268 : (Jvm.Cond.fieldLinkNest "LinkTimes" (234 : Nat) "LinkTimes$Search" "leaves" "[I" "LinkTimes") ∈ lw_tbl := lw_at lw_m1 141 rfl
theorem q270 : (Jvm.Cond.fieldLinkNest "LinkTimes" (246 : Nat) "LinkTimes$Search" "arrives" "[I" "LinkTimes") ∈ lw_tbl := lw_at lw_m1 143 rfl
theorem q272 : (Jvm.Cond.fieldLinkNest "LinkTimes" (231 : Nat) "LinkTimes$Search" "value" "[I" "LinkTimes") ∈ lw_tbl := lw_at lw_m1 145 rfl
theorem q274 : (Jvm.Cond.fieldLinkNest "LinkTimes" (236 : Nat) "LinkTimes$Search" "rides" "[I" "LinkTimes") ∈ lw_tbl := lw_at lw_m1 147 rfl
theorem q276 : (Jvm.Cond.fieldLinkNest "LinkTimes" (239 : Nat) "LinkTimes$Search" "next" "[I" "LinkTimes") ∈ lw_tbl := lw_at lw_m1 149 rfl
theorem q278 : (Jvm.Cond.fieldLinkNest "LinkTimes" (274 : Nat) "LinkTimes$Search" "many" "I" "LinkTimes") ∈ lw_tbl := lw_at lw_m1 151 rfl
theorem q301 : (Jvm.Cond.fieldLink "LinkTimes" (1 : Nat) "LinkTimes" "trouble" "I") ∈ lw_all := lw_g (lw_at lw_m1 174 rfl) rfl
theorem q302 : (Jvm.Cond.fieldLink "LinkTimes" (7 : Nat) "LinkTimes" "where" "I") ∈ lw_all := lw_g (lw_at lw_m1 175 rfl) rfl
theorem q304 : (Jvm.Cond.fieldLink "LinkTimes" (16 : Nat) "LinkTimes" "tape" "[B") ∈ lw_all := lw_g (lw_at lw_m1 177 rfl) rfl
theorem q305 : (Jvm.Cond.fieldLink "LinkTimes" (73 : Nat) "LinkTimes" "taped" "I") ∈ lw_all := lw_g (lw_at lw_m1 178 rfl) rfl
theorem q306 : (Jvm.Cond.fieldLink "LinkTimes" (87 : Nat) "LinkTimes" "fault" "I") ∈ lw_all := lw_g (lw_at lw_m1 179 rfl) rfl
theorem q308 : (Jvm.Cond.fieldLink "LinkTimes" (99 : Nat) "LinkTimes" "desk" "LLinkTimes$Desk;") ∈ lw_all := lw_g (lw_at lw_m1 181 rfl) rfl
theorem q309 : (Jvm.Cond.fieldLink "LinkTimes" (28 : Nat) "LinkTimes" "running" "Ljava/util/TreeSet;") ∈ lw_all := lw_g (lw_at lw_m1 182 rfl) rfl
theorem q310 : (Jvm.Cond.fieldLink "LinkTimes" (37 : Nat) "LinkTimes" "acts" "Ljava/util/ArrayDeque;") ∈ lw_all := lw_g (lw_at lw_m1 183 rfl) rfl
theorem q311 : (Jvm.Cond.fieldLink "LinkTimes" (46 : Nat) "LinkTimes" "search" "LLinkTimes$Search;") ∈ lw_all := lw_g (lw_at lw_m1 184 rfl) rfl
theorem q312 : (Jvm.Cond.fieldLink "LinkTimes" (50 : Nat) "LinkTimes" "tradeArrives" "[I") ∈ lw_all := lw_g (lw_at lw_m1 185 rfl) rfl
theorem q313 : (Jvm.Cond.fieldLink "LinkTimes" (54 : Nat) "LinkTimes" "tradeChanges" "[I") ∈ lw_all := lw_g (lw_at lw_m1 186 rfl) rfl
theorem q314 : (Jvm.Cond.fieldLink "LinkTimes" (57 : Nat) "LinkTimes" "stepLeaves" "[I") ∈ lw_all := lw_g (lw_at lw_m1 187 rfl) rfl
theorem q315 : (Jvm.Cond.fieldLink "LinkTimes" (60 : Nat) "LinkTimes" "stepArrives" "[I") ∈ lw_all := lw_g (lw_at lw_m1 188 rfl) rfl
theorem q316 : (Jvm.Cond.fieldLink "LinkTimes" (271 : Nat) "LinkTimes" "stepMany" "I") ∈ lw_all := lw_g (lw_at lw_m1 189 rfl) rfl
theorem q317 : (Jvm.Cond.fieldLink "LinkTimes" (63 : Nat) "LinkTimes" "otherArrives" "[I") ∈ lw_all := lw_g (lw_at lw_m1 190 rfl) rfl
theorem q318 : (Jvm.Cond.fieldLink "LinkTimes" (66 : Nat) "LinkTimes" "changesAt" "[I") ∈ lw_all := lw_g (lw_at lw_m1 191 rfl) rfl
theorem q319 : (Jvm.Cond.fieldLink "LinkTimes" (69 : Nat) "LinkTimes" "ridden" "[Z") ∈ lw_all := lw_g (lw_at lw_m1 192 rfl) rfl
theorem q320 : (Jvm.Cond.fieldLink "LinkTimes" (304 : Nat) "LinkTimes" "pairMany" "I") ∈ lw_all := lw_g (lw_at lw_m1 193 rfl) rfl
theorem q321 : (Jvm.Cond.fieldLink "LinkTimes" (307 : Nat) "LinkTimes" "slow" "I") ∈ lw_all := lw_g (lw_at lw_m1 194 rfl) rfl
theorem q322 : (Jvm.Cond.lays "LinkTimes" "LinkTimes" "trouble" "I") ∈ lw_all := lw_g (lw_at lw_m1 195 rfl) rfl
theorem q323 : (Jvm.Cond.soleField "LinkTimes" "trouble") ∈ lw_all := lw_g (lw_at lw_m1 196 rfl) rfl
theorem q324 : (Jvm.Cond.lays "LinkTimes" "LinkTimes" "where" "I") ∈ lw_all := lw_g (lw_at lw_m1 197 rfl) rfl
theorem q325 : (Jvm.Cond.soleField "LinkTimes" "where") ∈ lw_all := lw_g (lw_at lw_m1 198 rfl) rfl
theorem q326 : (Jvm.Cond.laysFinal "LinkTimes" "LinkTimes" "tape" "[B") ∈ lw_all := lw_g (lw_at lw_m1 199 rfl) rfl
theorem q327 : (Jvm.Cond.soleField "LinkTimes" "tape") ∈ lw_all := lw_g (lw_at lw_m1 200 rfl) rfl
theorem q328 : (Jvm.Cond.lays "LinkTimes" "LinkTimes" "taped" "I") ∈ lw_all := lw_g (lw_at lw_m1 201 rfl) rfl
theorem q329 : (Jvm.Cond.soleField "LinkTimes" "taped") ∈ lw_all := lw_g (lw_at lw_m1 202 rfl) rfl
theorem q330 : (Jvm.Cond.lays "LinkTimes" "LinkTimes" "fault" "I") ∈ lw_all := lw_g (lw_at lw_m1 203 rfl) rfl
theorem q331 : (Jvm.Cond.soleField "LinkTimes" "fault") ∈ lw_all := lw_g (lw_at lw_m1 204 rfl) rfl
theorem q332 : (Jvm.Cond.lays "LinkTimes" "LinkTimes" "desk" "LLinkTimes$Desk;") ∈ lw_all := lw_g (lw_at lw_m1 205 rfl) rfl
theorem q333 : (Jvm.Cond.soleField "LinkTimes" "desk") ∈ lw_all := lw_g (lw_at lw_m1 206 rfl) rfl
theorem q334 : (Jvm.Cond.laysFinal "LinkTimes" "LinkTimes" "running" "Ljava/util/TreeSet;") ∈ lw_all := lw_g (lw_at lw_m1 207 rfl) rfl
theorem q335 : (Jvm.Cond.soleField "LinkTimes" "running") ∈ lw_all := lw_g (lw_at lw_m1 208 rfl) rfl
theorem q336 : (Jvm.Cond.laysFinal "LinkTimes" "LinkTimes" "acts" "Ljava/util/ArrayDeque;") ∈ lw_all := lw_g (lw_at lw_m1 209 rfl) rfl
theorem q337 : (Jvm.Cond.soleField "LinkTimes" "acts") ∈ lw_all := lw_g (lw_at lw_m1 210 rfl) rfl
theorem q338 : (Jvm.Cond.laysFinal "LinkTimes" "LinkTimes" "search" "LLinkTimes$Search;") ∈ lw_all := lw_g (lw_at lw_m1 211 rfl) rfl
theorem q339 : (Jvm.Cond.soleField "LinkTimes" "search") ∈ lw_all := lw_g (lw_at lw_m1 212 rfl) rfl
theorem q340 : (Jvm.Cond.laysFinal "LinkTimes" "LinkTimes" "tradeArrives" "[I") ∈ lw_all := lw_g (lw_at lw_m1 213 rfl) rfl
theorem q341 : (Jvm.Cond.soleField "LinkTimes" "tradeArrives") ∈ lw_all := lw_g (lw_at lw_m1 214 rfl) rfl
theorem q342 : (Jvm.Cond.laysFinal "LinkTimes" "LinkTimes" "tradeChanges" "[I") ∈ lw_all := lw_g (lw_at lw_m1 215 rfl) rfl
theorem q343 : (Jvm.Cond.soleField "LinkTimes" "tradeChanges") ∈ lw_all := lw_g (lw_at lw_m1 216 rfl) rfl
theorem q344 : (Jvm.Cond.laysFinal "LinkTimes" "LinkTimes" "stepLeaves" "[I") ∈ lw_all := lw_g (lw_at lw_m1 217 rfl) rfl
theorem q345 : (Jvm.Cond.soleField "LinkTimes" "stepLeaves") ∈ lw_all := lw_g (lw_at lw_m1 218 rfl) rfl
theorem q346 : (Jvm.Cond.laysFinal "LinkTimes" "LinkTimes" "stepArrives" "[I") ∈ lw_all := lw_g (lw_at lw_m1 219 rfl) rfl
theorem q347 : (Jvm.Cond.soleField "LinkTimes" "stepArrives") ∈ lw_all := lw_g (lw_at lw_m1 220 rfl) rfl
theorem q348 : (Jvm.Cond.lays "LinkTimes" "LinkTimes" "stepMany" "I") ∈ lw_all := lw_g (lw_at lw_m1 221 rfl) rfl
theorem q349 : (Jvm.Cond.soleField "LinkTimes" "stepMany") ∈ lw_all := lw_g (lw_at lw_m1 222 rfl) rfl
theorem q350 : (Jvm.Cond.laysFinal "LinkTimes" "LinkTimes" "otherArrives" "[I") ∈ lw_all := lw_g (lw_at lw_m1 223 rfl) rfl
theorem q351 : (Jvm.Cond.soleField "LinkTimes" "otherArrives") ∈ lw_all := lw_g (lw_at lw_m1 224 rfl) rfl
theorem q352 : (Jvm.Cond.laysFinal "LinkTimes" "LinkTimes" "changesAt" "[I") ∈ lw_all := lw_g (lw_at lw_m1 225 rfl) rfl
theorem q353 : (Jvm.Cond.soleField "LinkTimes" "changesAt") ∈ lw_all := lw_g (lw_at lw_m1 226 rfl) rfl
theorem q354 : (Jvm.Cond.laysFinal "LinkTimes" "LinkTimes" "ridden" "[Z") ∈ lw_all := lw_g (lw_at lw_m1 227 rfl) rfl
theorem q355 : (Jvm.Cond.soleField "LinkTimes" "ridden") ∈ lw_all := lw_g (lw_at lw_m1 228 rfl) rfl
theorem q356 : (Jvm.Cond.lays "LinkTimes" "LinkTimes" "pairMany" "I") ∈ lw_all := lw_g (lw_at lw_m1 229 rfl) rfl
theorem q357 : (Jvm.Cond.soleField "LinkTimes" "pairMany") ∈ lw_all := lw_g (lw_at lw_m1 230 rfl) rfl
theorem q358 : (Jvm.Cond.lays "LinkTimes" "LinkTimes" "slow" "I") ∈ lw_all := lw_g (lw_at lw_m1 231 rfl) rfl
theorem q359 : (Jvm.Cond.soleField "LinkTimes" "slow") ∈ lw_all := lw_g (lw_at lw_m1 232 rfl) rfl
theorem q360 : (Jvm.Cond.superclass "LinkTimes" "java/lang/Object") ∈ lw_all := lw_g (lw_at lw_m1 233 rfl) rfl
theorem q363 : (Jvm.Cond.instanceMethod ({ cls := "LinkTimes", name := "feed", desc := "(IIIII)I" } : Jvm.MethodName)) ∈ lw_all := lw_g (lw_at lw_m1 236 rfl) rfl
theorem q364 : (Jvm.Cond.selects "LinkTimes" ({ cls := "LinkTimes", name := "feed", desc := "(IIIII)I" } : Jvm.MethodName) ({ cls := "LinkTimes", name := "feed", desc := "(IIIII)I" } : Jvm.MethodName)) ∈ lw_all := lw_g (lw_at lw_m1 237 rfl) rfl
theorem q365 : (Jvm.Cond.code ({ cls := "LinkTimes", name := "feed", desc := "(IIIII)I" } : Jvm.MethodName) prog_1_method_6_code (6 : Nat) (Option.some Jvm.ClassFile.FieldType.int)) ∈ lw_all := lw_g (lw_at lw_m1 238 rfl) rfl
theorem q366 : (Jvm.Cond.methodLink "LinkTimes" (76 : Nat) ({ cls := "LinkTimes", name := "feedOne", desc := "(I)V" } : Jvm.MethodName)) ∈ lw_all := lw_g (lw_at lw_m1 239 rfl) rfl
theorem q367 : (Jvm.Cond.privateMethod ({ cls := "LinkTimes", name := "feedOne", desc := "(I)V" } : Jvm.MethodName)) ∈ lw_tbl := lw_at lw_m2 0 rfl
theorem q368 : (Jvm.Cond.instanceMethod ({ cls := "LinkTimes", name := "feedOne", desc := "(I)V" } : Jvm.MethodName)) ∈ lw_all := lw_g (lw_at lw_m2 1 rfl) rfl
theorem q369 : (Jvm.Cond.code ({ cls := "LinkTimes", name := "feedOne", desc := "(I)V" } : Jvm.MethodName) prog_1_method_5_code (3 : Nat) (Option.none : Option Jvm.ClassFile.FieldType)) ∈ lw_all := lw_g (lw_at lw_m2 2 rfl) rfl
theorem q371 : (Jvm.Cond.instanceMethod ({ cls := "LinkTimes", name := "desk", desc := "(I)I" } : Jvm.MethodName)) ∈ lw_all := lw_g (lw_at lw_m2 4 rfl) rfl
theorem q372 : (Jvm.Cond.selects "LinkTimes" ({ cls := "LinkTimes", name := "desk", desc := "(I)I" } : Jvm.MethodName) ({ cls := "LinkTimes", name := "desk", desc := "(I)I" } : Jvm.MethodName)) ∈ lw_all := lw_g (lw_at lw_m2 5 rfl) rfl
theorem q373 : (Jvm.Cond.codeWith ({ cls := "LinkTimes", name := "desk", desc := "(I)I" } : Jvm.MethodName) prog_1_method_7_code (4 : Nat) (Option.some Jvm.ClassFile.FieldType.int) [((28 : Nat), (44 : Nat), (47 : Nat), (103 : Nat))]) ∈ lw_all := lw_g (lw_at lw_m2 6 rfl) rfl
theorem q374 : (Jvm.Cond.classLink "LinkTimes" (103 : Nat) "LinkTimes$BadLine") ∈ lw_all := lw_g (lw_at lw_m2 7 rfl) rfl
theorem q375 : (Jvm.Cond.methodLink "LinkTimes" (79 : Nat) ({ cls := "LinkTimes", name := "isIn", desc := "(III)Z" } : Jvm.MethodName)) ∈ lw_all := lw_g (lw_at lw_m2 8 rfl) rfl
theorem q376 : (Jvm.Cond.static ({ cls := "LinkTimes", name := "isIn", desc := "(III)Z" } : Jvm.MethodName)) ∈ lw_all := lw_g (lw_at lw_m2 9 rfl) rfl
theorem q377 : (Jvm.Cond.code ({ cls := "LinkTimes", name := "isIn", desc := "(III)Z" } : Jvm.MethodName) prog_1_method_1_code (3 : Nat) (Option.some Jvm.ClassFile.FieldType.boolean)) ∈ lw_all := lw_g (lw_at lw_m2 10 rfl) rfl
theorem q378 : (Jvm.Cond.methodLink "LinkTimes" (83 : Nat) ({ cls := "LinkTimes", name := "refused", desc := "(I)I" } : Jvm.MethodName)) ∈ lw_all := lw_g (lw_at lw_m2 11 rfl) rfl
theorem q379 : (Jvm.Cond.privateMethod ({ cls := "LinkTimes", name := "refused", desc := "(I)I" } : Jvm.MethodName)) ∈ lw_tbl := lw_at lw_m2 12 rfl
theorem q380 : (Jvm.Cond.instanceMethod ({ cls := "LinkTimes", name := "refused", desc := "(I)I" } : Jvm.MethodName)) ∈ lw_all := lw_g (lw_at lw_m2 13 rfl) rfl
theorem q381 : (Jvm.Cond.code ({ cls := "LinkTimes", name := "refused", desc := "(I)I" } : Jvm.MethodName) prog_1_method_2_code (2 : Nat) (Option.some Jvm.ClassFile.FieldType.int)) ∈ lw_all := lw_g (lw_at lw_m2 14 rfl) rfl
theorem q382 : (Jvm.Cond.classLink "LinkTimes" (90 : Nat) "LinkTimes$Reader") ∈ lw_all := lw_g (lw_at lw_m2 15 rfl) rfl
theorem q384 : (Jvm.Cond.methodLink "LinkTimes" (92 : Nat) ({ cls := "LinkTimes$Reader", name := "<init>", desc := "(LLinkTimes;I)V" } : Jvm.MethodName)) ∈ lw_all := lw_g (lw_at lw_m2 17 rfl) rfl
theorem q417 : (Jvm.Cond.fieldLinkNest "LinkTimes" (146 : Nat) "LinkTimes$Desk" "span" "I" "LinkTimes") ∈ lw_tbl := lw_at lw_m2 50 rfl
theorem q419 : (Jvm.Cond.fieldLinkNest "LinkTimes" (155 : Nat) "LinkTimes$Desk" "links" "I" "LinkTimes") ∈ lw_tbl := lw_at lw_m2 52 rfl
theorem q423 : (Jvm.Cond.fieldLinkNest "LinkTimes" (149 : Nat) "LinkTimes$Desk" "spots" "Ljava/util/ArrayList;" "LinkTimes") ∈ lw_tbl := lw_at lw_m2 56 rfl
theorem q426 : (Jvm.Cond.fieldLinkNest "LinkTimes" (152 : Nat) "LinkTimes$Desk" "lines" "Ljava/util/ArrayList;" "LinkTimes") ∈ lw_tbl := lw_at lw_m2 59 rfl
theorem q430 : (Jvm.Cond.fieldLinkNest "LinkTimes" (121 : Nat) "LinkTimes$Desk" "departures" "Ljava/util/ArrayList;" "LinkTimes") ∈ lw_tbl := lw_at lw_m2 63 rfl
theorem q468 : (Jvm.Cond.methodLink "LinkTimes" (95 : Nat) ({ cls := "LinkTimes$Reader", name := "read", desc := "()LLinkTimes$Desk;" } : Jvm.MethodName)) ∈ lw_all := lw_g (lw_at lw_m2 101 rfl) rfl
theorem q617 : (Jvm.Cond.fieldLinkNest "LinkTimes" (111 : Nat) "LinkTimes$Trouble" "kind" "I" "LinkTimes") ∈ lw_tbl := lw_at lw_m3 10 rfl
theorem q619 : (Jvm.Cond.fieldLinkNest "LinkTimes" (114 : Nat) "LinkTimes$Trouble" "place" "I" "LinkTimes") ∈ lw_tbl := lw_at lw_m3 12 rfl
theorem q728 : (Jvm.Cond.fieldLinkNest "LinkTimes" (175 : Nat) "LinkTimes$Spot" "change" "I" "LinkTimes") ∈ lw_tbl := lw_at lw_m3 121 rfl
theorem q731 : (Jvm.Cond.fieldLinkNest "LinkTimes" (178 : Nat) "LinkTimes$Spot" "wait" "I" "LinkTimes") ∈ lw_tbl := lw_at lw_m3 124 rfl
theorem q771 : (Jvm.Cond.selects "LinkTimes" ({ cls := "java/lang/Object", name := "getClass", desc := "()Ljava/lang/Class;" } : Jvm.MethodName) ({ cls := "java/lang/Object", name := "getClass", desc := "()Ljava/lang/Class;" } : Jvm.MethodName)) ∈ lw_all := lw_g (lw_at lw_m3 164 rfl) rfl
theorem q851 : (Jvm.Cond.fieldLinkNest "LinkTimes" (211 : Nat) "LinkTimes$Departure" "number" "I" "LinkTimes") ∈ lw_tbl := lw_at lw_m4 4 rfl
theorem q853 : (Jvm.Cond.fieldLinkNest "LinkTimes" (200 : Nat) "LinkTimes$Departure" "link" "I" "LinkTimes") ∈ lw_tbl := lw_at lw_m4 6 rfl
theorem q856 : (Jvm.Cond.fieldLinkNest "LinkTimes" (188 : Nat) "LinkTimes$Departure" "line" "I" "LinkTimes") ∈ lw_tbl := lw_at lw_m4 9 rfl
theorem q859 : (Jvm.Cond.fieldLinkNest "LinkTimes" (163 : Nat) "LinkTimes$Departure" "from" "I" "LinkTimes") ∈ lw_tbl := lw_at lw_m4 12 rfl
theorem q862 : (Jvm.Cond.fieldLinkNest "LinkTimes" (166 : Nat) "LinkTimes$Departure" "to" "I" "LinkTimes") ∈ lw_tbl := lw_at lw_m4 15 rfl
theorem q868 : (Jvm.Cond.fieldLinkNest "LinkTimes" (197 : Nat) "LinkTimes$Departure" "delay" "I" "LinkTimes") ∈ lw_tbl := lw_at lw_m4 21 rfl
theorem q871 : (Jvm.Cond.fieldLinkNest "LinkTimes" (159 : Nat) "LinkTimes$Departure" "runs" "Z" "LinkTimes") ∈ lw_tbl := lw_at lw_m4 24 rfl
theorem q910 : (Jvm.Cond.methodLink "LinkTimes" (105 : Nat) ({ cls := "LinkTimes$BadLine", name := "getCause", desc := "()Ljava/lang/Throwable;" } : Jvm.MethodName)) ∈ lw_all := lw_g (lw_at lw_m4 63 rfl) rfl
theorem q916 : (Jvm.Cond.classLink "LinkTimes" (109 : Nat) "LinkTimes$Trouble") ∈ lw_all := lw_g (lw_at lw_m4 69 rfl) rfl
theorem q917 : (Jvm.Cond.methodLink "LinkTimes" (117 : Nat) ({ cls := "java/util/ArrayDeque", name := "clear", desc := "()V" } : Jvm.MethodName)) ∈ lw_all := lw_g (lw_at lw_m4 70 rfl) rfl
theorem q924 : (Jvm.Cond.methodLink "LinkTimes" (120 : Nat) ({ cls := "java/util/TreeSet", name := "clear", desc := "()V" } : Jvm.MethodName)) ∈ lw_all := lw_g (lw_at lw_m4 77 rfl) rfl
theorem q936 : (Jvm.Cond.methodLink "LinkTimes" (127 : Nat) ({ cls := "java/util/ArrayList", name := "size", desc := "()I" } : Jvm.MethodName)) ∈ lw_all := lw_g (lw_at lw_m4 89 rfl) rfl
theorem q937 : (Jvm.Cond.methodLink "LinkTimes" (133 : Nat) ({ cls := "java/util/ArrayList", name := "get", desc := "(I)Ljava/lang/Object;" } : Jvm.MethodName)) ∈ lw_all := lw_g (lw_at lw_m4 90 rfl) rfl
theorem q938 : (Jvm.Cond.classLink "LinkTimes" (137 : Nat) "LinkTimes$Departure") ∈ lw_all := lw_g (lw_at lw_m4 91 rfl) rfl
theorem q939 : (Jvm.Cond.methodLink "LinkTimes" (139 : Nat) ({ cls := "java/util/TreeSet", name := "add", desc := "(Ljava/lang/Object;)Z" } : Jvm.MethodName)) ∈ lw_all := lw_g (lw_at lw_m4 92 rfl) rfl
theorem q1211 : (Jvm.Cond.methodLink "LinkTimes" (143 : Nat) ({ cls := "LinkTimes", name := "fine", desc := "(I)I" } : Jvm.MethodName)) ∈ lw_all := lw_g (lw_at lw_m5 124 rfl) rfl
theorem q1212 : (Jvm.Cond.privateMethod ({ cls := "LinkTimes", name := "fine", desc := "(I)I" } : Jvm.MethodName)) ∈ lw_tbl := lw_at lw_m5 125 rfl
theorem q1213 : (Jvm.Cond.instanceMethod ({ cls := "LinkTimes", name := "fine", desc := "(I)I" } : Jvm.MethodName)) ∈ lw_all := lw_g (lw_at lw_m5 126 rfl) rfl
theorem q1214 : (Jvm.Cond.code ({ cls := "LinkTimes", name := "fine", desc := "(I)I" } : Jvm.MethodName) prog_1_method_3_code (2 : Nat) (Option.some Jvm.ClassFile.FieldType.int)) ∈ lw_all := lw_g (lw_at lw_m5 127 rfl) rfl
theorem q1216 : (Jvm.Cond.instanceMethod ({ cls := "LinkTimes", name := "fault", desc := "()I" } : Jvm.MethodName)) ∈ lw_all := lw_g (lw_at lw_m5 129 rfl) rfl
theorem q1217 : (Jvm.Cond.selects "LinkTimes" ({ cls := "LinkTimes", name := "fault", desc := "()I" } : Jvm.MethodName) ({ cls := "LinkTimes", name := "fault", desc := "()I" } : Jvm.MethodName)) ∈ lw_all := lw_g (lw_at lw_m5 130 rfl) rfl
theorem q1218 : (Jvm.Cond.code ({ cls := "LinkTimes", name := "fault", desc := "()I" } : Jvm.MethodName) prog_1_method_8_code (1 : Nat) (Option.some Jvm.ClassFile.FieldType.int)) ∈ lw_all := lw_g (lw_at lw_m5 131 rfl) rfl
theorem q1220 : (Jvm.Cond.instanceMethod ({ cls := "LinkTimes", name := "where", desc := "()I" } : Jvm.MethodName)) ∈ lw_all := lw_g (lw_at lw_m5 133 rfl) rfl
theorem q1221 : (Jvm.Cond.selects "LinkTimes" ({ cls := "LinkTimes", name := "where", desc := "()I" } : Jvm.MethodName) ({ cls := "LinkTimes", name := "where", desc := "()I" } : Jvm.MethodName)) ∈ lw_all := lw_g (lw_at lw_m5 134 rfl) rfl
theorem q1222 : (Jvm.Cond.code ({ cls := "LinkTimes", name := "where", desc := "()I" } : Jvm.MethodName) prog_1_method_9_code (1 : Nat) (Option.some Jvm.ClassFile.FieldType.int)) ∈ lw_all := lw_g (lw_at lw_m5 135 rfl) rfl
theorem q1224 : (Jvm.Cond.instanceMethod ({ cls := "LinkTimes", name := "about", desc := "(I)I" } : Jvm.MethodName)) ∈ lw_all := lw_g (lw_at lw_m5 137 rfl) rfl
theorem q1225 : (Jvm.Cond.selects "LinkTimes" ({ cls := "LinkTimes", name := "about", desc := "(I)I" } : Jvm.MethodName) ({ cls := "LinkTimes", name := "about", desc := "(I)I" } : Jvm.MethodName)) ∈ lw_all := lw_g (lw_at lw_m5 138 rfl) rfl
theorem q1226 : (Jvm.Cond.code ({ cls := "LinkTimes", name := "about", desc := "(I)I" } : Jvm.MethodName) prog_1_method_10_code (2 : Nat) (Option.some Jvm.ClassFile.FieldType.int)) ∈ lw_all := lw_g (lw_at lw_m5 139 rfl) rfl
theorem q1227 : (Jvm.Cond.methodLink "LinkTimes" (158 : Nat) ({ cls := "java/util/TreeSet", name := "size", desc := "()I" } : Jvm.MethodName)) ∈ lw_all := lw_g (lw_at lw_m5 140 rfl) rfl
theorem q1239 : (Jvm.Cond.instanceMethod ({ cls := "LinkTimes", name := "spot", desc := "(II)I" } : Jvm.MethodName)) ∈ lw_all := lw_g (lw_at lw_m5 152 rfl) rfl
theorem q1240 : (Jvm.Cond.selects "LinkTimes" ({ cls := "LinkTimes", name := "spot", desc := "(II)I" } : Jvm.MethodName) ({ cls := "LinkTimes", name := "spot", desc := "(II)I" } : Jvm.MethodName)) ∈ lw_all := lw_g (lw_at lw_m5 153 rfl) rfl
theorem q1241 : (Jvm.Cond.code ({ cls := "LinkTimes", name := "spot", desc := "(II)I" } : Jvm.MethodName) prog_1_method_14_code (3 : Nat) (Option.some Jvm.ClassFile.FieldType.int)) ∈ lw_all := lw_g (lw_at lw_m5 154 rfl) rfl
theorem q1242 : (Jvm.Cond.methodLink "LinkTimes" (169 : Nat) ({ cls := "LinkTimes", name := "isSpot", desc := "(I)Z" } : Jvm.MethodName)) ∈ lw_all := lw_g (lw_at lw_m5 155 rfl) rfl
theorem q1243 : (Jvm.Cond.privateMethod ({ cls := "LinkTimes", name := "isSpot", desc := "(I)Z" } : Jvm.MethodName)) ∈ lw_tbl := lw_at lw_m5 156 rfl
theorem q1244 : (Jvm.Cond.instanceMethod ({ cls := "LinkTimes", name := "isSpot", desc := "(I)Z" } : Jvm.MethodName)) ∈ lw_all := lw_g (lw_at lw_m5 157 rfl) rfl
theorem q1245 : (Jvm.Cond.code ({ cls := "LinkTimes", name := "isSpot", desc := "(I)Z" } : Jvm.MethodName) prog_1_method_11_code (2 : Nat) (Option.some Jvm.ClassFile.FieldType.boolean)) ∈ lw_all := lw_g (lw_at lw_m5 158 rfl) rfl
theorem q1246 : (Jvm.Cond.classLink "LinkTimes" (173 : Nat) "LinkTimes$Spot") ∈ lw_all := lw_g (lw_at lw_m5 159 rfl) rfl
theorem q1247 : (Jvm.Cond.methodLink "LinkTimes" (181 : Nat) ({ cls := "LinkTimes", name := "at", desc := "(IZ)I" } : Jvm.MethodName)) ∈ lw_all := lw_g (lw_at lw_m5 160 rfl) rfl
theorem q1248 : (Jvm.Cond.privateMethod ({ cls := "LinkTimes", name := "at", desc := "(IZ)I" } : Jvm.MethodName)) ∈ lw_tbl := lw_at lw_m5 161 rfl
theorem q1249 : (Jvm.Cond.instanceMethod ({ cls := "LinkTimes", name := "at", desc := "(IZ)I" } : Jvm.MethodName)) ∈ lw_all := lw_g (lw_at lw_m5 162 rfl) rfl
theorem q1250 : (Jvm.Cond.code ({ cls := "LinkTimes", name := "at", desc := "(IZ)I" } : Jvm.MethodName) prog_1_method_13_code (6 : Nat) (Option.some Jvm.ClassFile.FieldType.int)) ∈ lw_all := lw_g (lw_at lw_m5 163 rfl) rfl
theorem q1252 : (Jvm.Cond.instanceMethod ({ cls := "LinkTimes", name := "departure", desc := "(II)I" } : Jvm.MethodName)) ∈ lw_all := lw_g (lw_at lw_m5 165 rfl) rfl
theorem q1253 : (Jvm.Cond.selects "LinkTimes" ({ cls := "LinkTimes", name := "departure", desc := "(II)I" } : Jvm.MethodName) ({ cls := "LinkTimes", name := "departure", desc := "(II)I" } : Jvm.MethodName)) ∈ lw_all := lw_g (lw_at lw_m5 166 rfl) rfl
theorem q1254 : (Jvm.Cond.code ({ cls := "LinkTimes", name := "departure", desc := "(II)I" } : Jvm.MethodName) prog_1_method_15_code (4 : Nat) (Option.some Jvm.ClassFile.FieldType.int)) ∈ lw_all := lw_g (lw_at lw_m5 167 rfl) rfl
theorem q1255 : (Jvm.Cond.methodLink "LinkTimes" (185 : Nat) ({ cls := "LinkTimes", name := "isDeparture", desc := "(I)Z" } : Jvm.MethodName)) ∈ lw_all := lw_g (lw_at lw_m5 168 rfl) rfl
theorem q1256 : (Jvm.Cond.privateMethod ({ cls := "LinkTimes", name := "isDeparture", desc := "(I)Z" } : Jvm.MethodName)) ∈ lw_tbl := lw_at lw_m5 169 rfl
theorem q1257 : (Jvm.Cond.instanceMethod ({ cls := "LinkTimes", name := "isDeparture", desc := "(I)Z" } : Jvm.MethodName)) ∈ lw_all := lw_g (lw_at lw_m5 170 rfl) rfl
theorem q1258 : (Jvm.Cond.code ({ cls := "LinkTimes", name := "isDeparture", desc := "(I)Z" } : Jvm.MethodName) prog_1_method_12_code (2 : Nat) (Option.some Jvm.ClassFile.FieldType.boolean)) ∈ lw_all := lw_g (lw_at lw_m5 171 rfl) rfl
theorem q1259 : (Jvm.Cond.methodLink "LinkTimes" (191 : Nat) ({ cls := "LinkTimes$Departure", name := "leaves", desc := "()I" } : Jvm.MethodName)) ∈ lw_all := lw_g (lw_at lw_m5 172 rfl) rfl
theorem q1260 : (Jvm.Cond.methodLink "LinkTimes" (194 : Nat) ({ cls := "LinkTimes$Departure", name := "arrives", desc := "()I" } : Jvm.MethodName)) ∈ lw_all := lw_g (lw_at lw_m5 173 rfl) rfl
theorem q1266 : (Jvm.Cond.instanceMethod ({ cls := "LinkTimes", name := "ordered", desc := "(I)I" } : Jvm.MethodName)) ∈ lw_all := lw_g (lw_at lw_m5 179 rfl) rfl
theorem q1267 : (Jvm.Cond.selects "LinkTimes" ({ cls := "LinkTimes", name := "ordered", desc := "(I)I" } : Jvm.MethodName) ({ cls := "LinkTimes", name := "ordered", desc := "(I)I" } : Jvm.MethodName)) ∈ lw_all := lw_g (lw_at lw_m5 180 rfl) rfl
theorem q1268 : (Jvm.Cond.code ({ cls := "LinkTimes", name := "ordered", desc := "(I)I" } : Jvm.MethodName) prog_1_method_16_code (4 : Nat) (Option.some Jvm.ClassFile.FieldType.int)) ∈ lw_all := lw_g (lw_at lw_m5 181 rfl) rfl
theorem q1269 : (Jvm.Cond.methodLink "LinkTimes" (203 : Nat) ({ cls := "java/util/TreeSet", name := "first", desc := "()Ljava/lang/Object;" } : Jvm.MethodName)) ∈ lw_all := lw_g (lw_at lw_m5 182 rfl) rfl
theorem q1310 : (Jvm.Cond.methodLink "LinkTimes" (207 : Nat) ({ cls := "java/util/TreeSet", name := "higher", desc := "(Ljava/lang/Object;)Ljava/lang/Object;" } : Jvm.MethodName)) ∈ lw_all := lw_g (lw_at lw_m5 223 rfl) rfl
theorem q1331 : (Jvm.Cond.instanceMethod ({ cls := "LinkTimes", name := "arrives", desc := "(III)I" } : Jvm.MethodName)) ∈ lw_all := lw_g (lw_at lw_m6 4 rfl) rfl
theorem q1332 : (Jvm.Cond.selects "LinkTimes" ({ cls := "LinkTimes", name := "arrives", desc := "(III)I" } : Jvm.MethodName) ({ cls := "LinkTimes", name := "arrives", desc := "(III)I" } : Jvm.MethodName)) ∈ lw_all := lw_g (lw_at lw_m6 5 rfl) rfl
theorem q1333 : (Jvm.Cond.code ({ cls := "LinkTimes", name := "arrives", desc := "(III)I" } : Jvm.MethodName) prog_1_method_19_code (5 : Nat) (Option.some Jvm.ClassFile.FieldType.int)) ∈ lw_all := lw_g (lw_at lw_m6 6 rfl) rfl
theorem q1334 : (Jvm.Cond.methodLink "LinkTimes" (218 : Nat) ({ cls := "LinkTimes", name := "refuses", desc := "(III)I" } : Jvm.MethodName)) ∈ lw_all := lw_g (lw_at lw_m6 7 rfl) rfl
theorem q1335 : (Jvm.Cond.privateMethod ({ cls := "LinkTimes", name := "refuses", desc := "(III)I" } : Jvm.MethodName)) ∈ lw_tbl := lw_at lw_m6 8 rfl
theorem q1336 : (Jvm.Cond.instanceMethod ({ cls := "LinkTimes", name := "refuses", desc := "(III)I" } : Jvm.MethodName)) ∈ lw_all := lw_g (lw_at lw_m6 9 rfl) rfl
theorem q1337 : (Jvm.Cond.code ({ cls := "LinkTimes", name := "refuses", desc := "(III)I" } : Jvm.MethodName) prog_1_method_18_code (4 : Nat) (Option.some Jvm.ClassFile.FieldType.int)) ∈ lw_all := lw_g (lw_at lw_m6 10 rfl) rfl
theorem q1338 : (Jvm.Cond.methodLink "LinkTimes" (222 : Nat) ({ cls := "LinkTimes", name := "asIs", desc := "()LLinkTimes$Search;" } : Jvm.MethodName)) ∈ lw_all := lw_g (lw_at lw_m6 11 rfl) rfl
theorem q1339 : (Jvm.Cond.privateMethod ({ cls := "LinkTimes", name := "asIs", desc := "()LLinkTimes$Search;" } : Jvm.MethodName)) ∈ lw_tbl := lw_at lw_m6 12 rfl
theorem q1340 : (Jvm.Cond.instanceMethod ({ cls := "LinkTimes", name := "asIs", desc := "()LLinkTimes$Search;" } : Jvm.MethodName)) ∈ lw_all := lw_g (lw_at lw_m6 13 rfl) rfl
theorem q1341 : (Jvm.Cond.code ({ cls := "LinkTimes", name := "asIs", desc := "()LLinkTimes$Search;" } : Jvm.MethodName) prog_1_method_17_code (1 : Nat) (Option.some (Jvm.ClassFile.FieldType.object "LinkTimes$Search"))) ∈ lw_all := lw_g (lw_at lw_m6 14 rfl) rfl
theorem q1342 : (Jvm.Cond.methodLink "LinkTimes" (214 : Nat) ({ cls := "LinkTimes$Search", name := "lays", desc := "(III)LLinkTimes$Search;" } : Jvm.MethodName)) ∈ lw_all := lw_g (lw_at lw_m6 15 rfl) rfl
theorem q1353 : (Jvm.Cond.methodLink "LinkTimes" (226 : Nat) ({ cls := "LinkTimes$Search", name := "arrives", desc := "(III)I" } : Jvm.MethodName)) ∈ lw_all := lw_g (lw_at lw_m6 26 rfl) rfl
theorem q1377 : (Jvm.Cond.instanceMethod ({ cls := "LinkTimes", name := "changes", desc := "(III)I" } : Jvm.MethodName)) ∈ lw_all := lw_g (lw_at lw_m6 50 rfl) rfl
theorem q1378 : (Jvm.Cond.selects "LinkTimes" ({ cls := "LinkTimes", name := "changes", desc := "(III)I" } : Jvm.MethodName) ({ cls := "LinkTimes", name := "changes", desc := "(III)I" } : Jvm.MethodName)) ∈ lw_all := lw_g (lw_at lw_m6 51 rfl) rfl
theorem q1379 : (Jvm.Cond.code ({ cls := "LinkTimes", name := "changes", desc := "(III)I" } : Jvm.MethodName) prog_1_method_20_code (6 : Nat) (Option.some Jvm.ClassFile.FieldType.int)) ∈ lw_all := lw_g (lw_at lw_m6 52 rfl) rfl
theorem q1380 : (Jvm.Cond.methodLink "LinkTimes" (228 : Nat) ({ cls := "LinkTimes$Search", name := "best", desc := "(III)I" } : Jvm.MethodName)) ∈ lw_all := lw_g (lw_at lw_m6 53 rfl) rfl
theorem q1406 : (Jvm.Cond.instanceMethod ({ cls := "LinkTimes", name := "leaves", desc := "(III)I" } : Jvm.MethodName)) ∈ lw_all := lw_g (lw_at lw_m6 79 rfl) rfl
theorem q1407 : (Jvm.Cond.selects "LinkTimes" ({ cls := "LinkTimes", name := "leaves", desc := "(III)I" } : Jvm.MethodName) ({ cls := "LinkTimes", name := "leaves", desc := "(III)I" } : Jvm.MethodName)) ∈ lw_all := lw_g (lw_at lw_m6 80 rfl) rfl
theorem q1408 : (Jvm.Cond.code ({ cls := "LinkTimes", name := "leaves", desc := "(III)I" } : Jvm.MethodName) prog_1_method_21_code (6 : Nat) (Option.some Jvm.ClassFile.FieldType.int)) ∈ lw_all := lw_g (lw_at lw_m6 81 rfl) rfl
theorem q1410 : (Jvm.Cond.instanceMethod ({ cls := "LinkTimes", name := "rides", desc := "(III)I" } : Jvm.MethodName)) ∈ lw_all := lw_g (lw_at lw_m6 83 rfl) rfl
theorem q1411 : (Jvm.Cond.selects "LinkTimes" ({ cls := "LinkTimes", name := "rides", desc := "(III)I" } : Jvm.MethodName) ({ cls := "LinkTimes", name := "rides", desc := "(III)I" } : Jvm.MethodName)) ∈ lw_all := lw_g (lw_at lw_m6 84 rfl) rfl
theorem q1412 : (Jvm.Cond.code ({ cls := "LinkTimes", name := "rides", desc := "(III)I" } : Jvm.MethodName) prog_1_method_22_code (6 : Nat) (Option.some Jvm.ClassFile.FieldType.int)) ∈ lw_all := lw_g (lw_at lw_m6 85 rfl) rfl
theorem q1414 : (Jvm.Cond.instanceMethod ({ cls := "LinkTimes", name := "ride", desc := "(IIII)I" } : Jvm.MethodName)) ∈ lw_all := lw_g (lw_at lw_m6 87 rfl) rfl
theorem q1415 : (Jvm.Cond.selects "LinkTimes" ({ cls := "LinkTimes", name := "ride", desc := "(IIII)I" } : Jvm.MethodName) ({ cls := "LinkTimes", name := "ride", desc := "(IIII)I" } : Jvm.MethodName)) ∈ lw_all := lw_g (lw_at lw_m6 88 rfl) rfl
theorem q1416 : (Jvm.Cond.code ({ cls := "LinkTimes", name := "ride", desc := "(IIII)I" } : Jvm.MethodName) prog_1_method_23_code (8 : Nat) (Option.some Jvm.ClassFile.FieldType.int)) ∈ lw_all := lw_g (lw_at lw_m6 89 rfl) rfl
theorem q1418 : (Jvm.Cond.instanceMethod ({ cls := "LinkTimes", name := "stands", desc := "(III)I" } : Jvm.MethodName)) ∈ lw_all := lw_g (lw_at lw_m6 91 rfl) rfl
theorem q1419 : (Jvm.Cond.selects "LinkTimes" ({ cls := "LinkTimes", name := "stands", desc := "(III)I" } : Jvm.MethodName) ({ cls := "LinkTimes", name := "stands", desc := "(III)I" } : Jvm.MethodName)) ∈ lw_all := lw_g (lw_at lw_m6 92 rfl) rfl
theorem q1420 : (Jvm.Cond.code ({ cls := "LinkTimes", name := "stands", desc := "(III)I" } : Jvm.MethodName) prog_1_method_24_code (8 : Nat) (Option.some Jvm.ClassFile.FieldType.int)) ∈ lw_all := lw_g (lw_at lw_m6 93 rfl) rfl
theorem q1422 : (Jvm.Cond.instanceMethod ({ cls := "LinkTimes", name := "trades", desc := "(III)I" } : Jvm.MethodName)) ∈ lw_all := lw_g (lw_at lw_m6 95 rfl) rfl
theorem q1423 : (Jvm.Cond.selects "LinkTimes" ({ cls := "LinkTimes", name := "trades", desc := "(III)I" } : Jvm.MethodName) ({ cls := "LinkTimes", name := "trades", desc := "(III)I" } : Jvm.MethodName)) ∈ lw_all := lw_g (lw_at lw_m6 96 rfl) rfl
theorem q1424 : (Jvm.Cond.code ({ cls := "LinkTimes", name := "trades", desc := "(III)I" } : Jvm.MethodName) prog_1_method_26_code (6 : Nat) (Option.some Jvm.ClassFile.FieldType.int)) ∈ lw_all := lw_g (lw_at lw_m6 97 rfl) rfl
theorem q1425 : (Jvm.Cond.methodLink "LinkTimes" (253 : Nat) ({ cls := "LinkTimes", name := "laysTrades", desc := "(III)I" } : Jvm.MethodName)) ∈ lw_all := lw_g (lw_at lw_m6 98 rfl) rfl
theorem q1426 : (Jvm.Cond.privateMethod ({ cls := "LinkTimes", name := "laysTrades", desc := "(III)I" } : Jvm.MethodName)) ∈ lw_tbl := lw_at lw_m6 99 rfl
theorem q1427 : (Jvm.Cond.instanceMethod ({ cls := "LinkTimes", name := "laysTrades", desc := "(III)I" } : Jvm.MethodName)) ∈ lw_all := lw_g (lw_at lw_m6 100 rfl) rfl
theorem q1428 : (Jvm.Cond.code ({ cls := "LinkTimes", name := "laysTrades", desc := "(III)I" } : Jvm.MethodName) prog_1_method_25_code (9 : Nat) (Option.some Jvm.ClassFile.FieldType.int)) ∈ lw_all := lw_g (lw_at lw_m6 101 rfl) rfl
theorem q1429 : (Jvm.Cond.constant "LinkTimes" (248 : Nat) (99999 : Int32)) ∈ lw_all := lw_g (lw_at lw_m6 102 rfl) rfl
theorem q1430 : (Jvm.Cond.methodLink "LinkTimes" (249 : Nat) ({ cls := "LinkTimes$Search", name := "arrivesBy", desc := "(IIII)I" } : Jvm.MethodName)) ∈ lw_all := lw_g (lw_at lw_m6 103 rfl) rfl
theorem q1432 : (Jvm.Cond.instanceMethod ({ cls := "LinkTimes", name := "trade", desc := "(IIIII)I" } : Jvm.MethodName)) ∈ lw_all := lw_g (lw_at lw_m6 105 rfl) rfl
theorem q1433 : (Jvm.Cond.selects "LinkTimes" ({ cls := "LinkTimes", name := "trade", desc := "(IIIII)I" } : Jvm.MethodName) ({ cls := "LinkTimes", name := "trade", desc := "(IIIII)I" } : Jvm.MethodName)) ∈ lw_all := lw_g (lw_at lw_m6 106 rfl) rfl
theorem q1434 : (Jvm.Cond.code ({ cls := "LinkTimes", name := "trade", desc := "(IIIII)I" } : Jvm.MethodName) prog_1_method_27_code (8 : Nat) (Option.some Jvm.ClassFile.FieldType.int)) ∈ lw_all := lw_g (lw_at lw_m6 107 rfl) rfl
theorem q1435 : (Jvm.Cond.methodLink "LinkTimes" (256 : Nat) ({ cls := "LinkTimes$Search", name := "bestBy", desc := "(IIII)I" } : Jvm.MethodName)) ∈ lw_all := lw_g (lw_at lw_m6 108 rfl) rfl
theorem q1437 : (Jvm.Cond.instanceMethod ({ cls := "LinkTimes", name := "within", desc := "(IIII)I" } : Jvm.MethodName)) ∈ lw_all := lw_g (lw_at lw_m6 110 rfl) rfl
theorem q1438 : (Jvm.Cond.selects "LinkTimes" ({ cls := "LinkTimes", name := "within", desc := "(IIII)I" } : Jvm.MethodName) ({ cls := "LinkTimes", name := "within", desc := "(IIII)I" } : Jvm.MethodName)) ∈ lw_all := lw_g (lw_at lw_m6 111 rfl) rfl
theorem q1439 : (Jvm.Cond.code ({ cls := "LinkTimes", name := "within", desc := "(IIII)I" } : Jvm.MethodName) prog_1_method_28_code (6 : Nat) (Option.some Jvm.ClassFile.FieldType.int)) ∈ lw_all := lw_g (lw_at lw_m6 112 rfl) rfl
theorem q1441 : (Jvm.Cond.instanceMethod ({ cls := "LinkTimes", name := "latest", desc := "(III)I" } : Jvm.MethodName)) ∈ lw_all := lw_g (lw_at lw_m6 114 rfl) rfl
theorem q1442 : (Jvm.Cond.selects "LinkTimes" ({ cls := "LinkTimes", name := "latest", desc := "(III)I" } : Jvm.MethodName) ({ cls := "LinkTimes", name := "latest", desc := "(III)I" } : Jvm.MethodName)) ∈ lw_all := lw_g (lw_at lw_m6 115 rfl) rfl
theorem q1443 : (Jvm.Cond.code ({ cls := "LinkTimes", name := "latest", desc := "(III)I" } : Jvm.MethodName) prog_1_method_29_code (5 : Nat) (Option.some Jvm.ClassFile.FieldType.int)) ∈ lw_all := lw_g (lw_at lw_m6 116 rfl) rfl
theorem q1444 : (Jvm.Cond.methodLink "LinkTimes" (259 : Nat) ({ cls := "LinkTimes$Search", name := "latest", desc := "(III)I" } : Jvm.MethodName)) ∈ lw_all := lw_g (lw_at lw_m6 117 rfl) rfl
theorem q1454 : (Jvm.Cond.instanceMethod ({ cls := "LinkTimes", name := "reach", desc := "(III)I" } : Jvm.MethodName)) ∈ lw_all := lw_g (lw_at lw_m6 127 rfl) rfl
theorem q1455 : (Jvm.Cond.selects "LinkTimes" ({ cls := "LinkTimes", name := "reach", desc := "(III)I" } : Jvm.MethodName) ({ cls := "LinkTimes", name := "reach", desc := "(III)I" } : Jvm.MethodName)) ∈ lw_all := lw_g (lw_at lw_m6 128 rfl) rfl
theorem q1456 : (Jvm.Cond.code ({ cls := "LinkTimes", name := "reach", desc := "(III)I" } : Jvm.MethodName) prog_1_method_30_code (8 : Nat) (Option.some Jvm.ClassFile.FieldType.int)) ∈ lw_all := lw_g (lw_at lw_m6 129 rfl) rfl
theorem q1458 : (Jvm.Cond.instanceMethod ({ cls := "LinkTimes", name := "farthest", desc := "(II)I" } : Jvm.MethodName)) ∈ lw_all := lw_g (lw_at lw_m6 131 rfl) rfl
theorem q1459 : (Jvm.Cond.selects "LinkTimes" ({ cls := "LinkTimes", name := "farthest", desc := "(II)I" } : Jvm.MethodName) ({ cls := "LinkTimes", name := "farthest", desc := "(II)I" } : Jvm.MethodName)) ∈ lw_all := lw_g (lw_at lw_m6 132 rfl) rfl
theorem q1460 : (Jvm.Cond.code ({ cls := "LinkTimes", name := "farthest", desc := "(II)I" } : Jvm.MethodName) prog_1_method_31_code (8 : Nat) (Option.some Jvm.ClassFile.FieldType.int)) ∈ lw_all := lw_g (lw_at lw_m6 133 rfl) rfl
theorem q1462 : (Jvm.Cond.instanceMethod ({ cls := "LinkTimes", name := "meets", desc := "(III)I" } : Jvm.MethodName)) ∈ lw_all := lw_g (lw_at lw_m6 135 rfl) rfl
theorem q1463 : (Jvm.Cond.selects "LinkTimes" ({ cls := "LinkTimes", name := "meets", desc := "(III)I" } : Jvm.MethodName) ({ cls := "LinkTimes", name := "meets", desc := "(III)I" } : Jvm.MethodName)) ∈ lw_all := lw_g (lw_at lw_m6 136 rfl) rfl
theorem q1464 : (Jvm.Cond.code ({ cls := "LinkTimes", name := "meets", desc := "(III)I" } : Jvm.MethodName) prog_1_method_32_code (10 : Nat) (Option.some Jvm.ClassFile.FieldType.int)) ∈ lw_all := lw_g (lw_at lw_m6 137 rfl) rfl
theorem q1465 : (Jvm.Cond.methodLink "LinkTimes" (262 : Nat) ({ cls := "java/lang/Math", name := "max", desc := "(II)I" } : Jvm.MethodName)) ∈ lw_all := lw_g (lw_at lw_m6 138 rfl) rfl
theorem q1467 : (Jvm.Cond.instanceMethod ({ cls := "LinkTimes", name := "round", desc := "(IIII)I" } : Jvm.MethodName)) ∈ lw_all := lw_g (lw_at lw_m6 140 rfl) rfl
theorem q1468 : (Jvm.Cond.selects "LinkTimes" ({ cls := "LinkTimes", name := "round", desc := "(IIII)I" } : Jvm.MethodName) ({ cls := "LinkTimes", name := "round", desc := "(IIII)I" } : Jvm.MethodName)) ∈ lw_all := lw_g (lw_at lw_m6 141 rfl) rfl
theorem q1469 : (Jvm.Cond.code ({ cls := "LinkTimes", name := "round", desc := "(IIII)I" } : Jvm.MethodName) prog_1_method_33_code (7 : Nat) (Option.some Jvm.ClassFile.FieldType.int)) ∈ lw_all := lw_g (lw_at lw_m6 142 rfl) rfl
theorem q1471 : (Jvm.Cond.instanceMethod ({ cls := "LinkTimes", name := "steps", desc := "(II)I" } : Jvm.MethodName)) ∈ lw_all := lw_g (lw_at lw_m6 144 rfl) rfl
theorem q1472 : (Jvm.Cond.selects "LinkTimes" ({ cls := "LinkTimes", name := "steps", desc := "(II)I" } : Jvm.MethodName) ({ cls := "LinkTimes", name := "steps", desc := "(II)I" } : Jvm.MethodName)) ∈ lw_all := lw_g (lw_at lw_m6 145 rfl) rfl
theorem q1473 : (Jvm.Cond.code ({ cls := "LinkTimes", name := "steps", desc := "(II)I" } : Jvm.MethodName) prog_1_method_36_code (3 : Nat) (Option.some Jvm.ClassFile.FieldType.int)) ∈ lw_all := lw_g (lw_at lw_m6 146 rfl) rfl
theorem q1474 : (Jvm.Cond.methodLink "LinkTimes" (277 : Nat) ({ cls := "LinkTimes", name := "areTwo", desc := "(II)Z" } : Jvm.MethodName)) ∈ lw_all := lw_g (lw_at lw_m6 147 rfl) rfl
theorem q1475 : (Jvm.Cond.privateMethod ({ cls := "LinkTimes", name := "areTwo", desc := "(II)Z" } : Jvm.MethodName)) ∈ lw_tbl := lw_at lw_m6 148 rfl
theorem q1476 : (Jvm.Cond.instanceMethod ({ cls := "LinkTimes", name := "areTwo", desc := "(II)Z" } : Jvm.MethodName)) ∈ lw_all := lw_g (lw_at lw_m6 149 rfl) rfl
theorem q1477 : (Jvm.Cond.code ({ cls := "LinkTimes", name := "areTwo", desc := "(II)Z" } : Jvm.MethodName) prog_1_method_35_code (3 : Nat) (Option.some Jvm.ClassFile.FieldType.boolean)) ∈ lw_all := lw_g (lw_at lw_m6 150 rfl) rfl
theorem q1478 : (Jvm.Cond.methodLink "LinkTimes" (281 : Nat) ({ cls := "LinkTimes", name := "laysSteps", desc := "(II)V" } : Jvm.MethodName)) ∈ lw_all := lw_g (lw_at lw_m6 151 rfl) rfl
theorem q1479 : (Jvm.Cond.privateMethod ({ cls := "LinkTimes", name := "laysSteps", desc := "(II)V" } : Jvm.MethodName)) ∈ lw_tbl := lw_at lw_m6 152 rfl
theorem q1480 : (Jvm.Cond.instanceMethod ({ cls := "LinkTimes", name := "laysSteps", desc := "(II)V" } : Jvm.MethodName)) ∈ lw_all := lw_g (lw_at lw_m6 153 rfl) rfl
theorem q1481 : (Jvm.Cond.code ({ cls := "LinkTimes", name := "laysSteps", desc := "(II)V" } : Jvm.MethodName) prog_1_method_34_code (5 : Nat) (Option.none : Option Jvm.ClassFile.FieldType)) ∈ lw_all := lw_g (lw_at lw_m6 154 rfl) rfl
theorem q1482 : (Jvm.Cond.methodLink "LinkTimes" (268 : Nat) ({ cls := "LinkTimes$Search", name := "laysFirst", desc := "(I)V" } : Jvm.MethodName)) ∈ lw_all := lw_g (lw_at lw_m6 155 rfl) rfl
theorem q1484 : (Jvm.Cond.instanceMethod ({ cls := "LinkTimes", name := "step", desc := "(IIII)I" } : Jvm.MethodName)) ∈ lw_all := lw_g (lw_at lw_m6 157 rfl) rfl
theorem q1485 : (Jvm.Cond.selects "LinkTimes" ({ cls := "LinkTimes", name := "step", desc := "(IIII)I" } : Jvm.MethodName) ({ cls := "LinkTimes", name := "step", desc := "(IIII)I" } : Jvm.MethodName)) ∈ lw_all := lw_g (lw_at lw_m6 158 rfl) rfl
theorem q1486 : (Jvm.Cond.code ({ cls := "LinkTimes", name := "step", desc := "(IIII)I" } : Jvm.MethodName) prog_1_method_38_code (6 : Nat) (Option.some Jvm.ClassFile.FieldType.int)) ∈ lw_all := lw_g (lw_at lw_m6 159 rfl) rfl
theorem q1487 : (Jvm.Cond.methodLink "LinkTimes" (291 : Nat) ({ cls := "LinkTimes", name := "changesOf", desc := "(IIII)I" } : Jvm.MethodName)) ∈ lw_all := lw_g (lw_at lw_m6 160 rfl) rfl
theorem q1488 : (Jvm.Cond.privateMethod ({ cls := "LinkTimes", name := "changesOf", desc := "(IIII)I" } : Jvm.MethodName)) ∈ lw_tbl := lw_at lw_m6 161 rfl
theorem q1489 : (Jvm.Cond.instanceMethod ({ cls := "LinkTimes", name := "changesOf", desc := "(IIII)I" } : Jvm.MethodName)) ∈ lw_all := lw_g (lw_at lw_m6 162 rfl) rfl
theorem q1490 : (Jvm.Cond.code ({ cls := "LinkTimes", name := "changesOf", desc := "(IIII)I" } : Jvm.MethodName) prog_1_method_37_code (7 : Nat) (Option.some Jvm.ClassFile.FieldType.int)) ∈ lw_all := lw_g (lw_at lw_m6 163 rfl) rfl
theorem q1491 : (Jvm.Cond.methodLinkNest "LinkTimes" (285 : Nat) ({ cls := "LinkTimes$Search", name := "laysBackwards", desc := "(II)V" } : Jvm.MethodName) "LinkTimes") ∈ lw_tbl := lw_at lw_m6 164 rfl
theorem q1492 : (Jvm.Cond.methodLink "LinkTimes" (288 : Nat) ({ cls := "java/lang/Math", name := "min", desc := "(II)I" } : Jvm.MethodName)) ∈ lw_all := lw_g (lw_at lw_m6 165 rfl) rfl
theorem q1494 : (Jvm.Cond.instanceMethod ({ cls := "LinkTimes", name := "quickest", desc := "(II)I" } : Jvm.MethodName)) ∈ lw_all := lw_g (lw_at lw_m6 167 rfl) rfl
theorem q1495 : (Jvm.Cond.selects "LinkTimes" ({ cls := "LinkTimes", name := "quickest", desc := "(II)I" } : Jvm.MethodName) ({ cls := "LinkTimes", name := "quickest", desc := "(II)I" } : Jvm.MethodName)) ∈ lw_all := lw_g (lw_at lw_m6 168 rfl) rfl
theorem q1496 : (Jvm.Cond.code ({ cls := "LinkTimes", name := "quickest", desc := "(II)I" } : Jvm.MethodName) prog_1_method_39_code (5 : Nat) (Option.some Jvm.ClassFile.FieldType.int)) ∈ lw_all := lw_g (lw_at lw_m6 169 rfl) rfl
theorem q1498 : (Jvm.Cond.instanceMethod ({ cls := "LinkTimes", name := "spent", desc := "(IIII)I" } : Jvm.MethodName)) ∈ lw_all := lw_g (lw_at lw_m6 171 rfl) rfl
theorem q1499 : (Jvm.Cond.selects "LinkTimes" ({ cls := "LinkTimes", name := "spent", desc := "(IIII)I" } : Jvm.MethodName) ({ cls := "LinkTimes", name := "spent", desc := "(IIII)I" } : Jvm.MethodName)) ∈ lw_all := lw_g (lw_at lw_m6 172 rfl) rfl
theorem q1500 : (Jvm.Cond.code ({ cls := "LinkTimes", name := "spent", desc := "(IIII)I" } : Jvm.MethodName) prog_1_method_40_code (8 : Nat) (Option.some Jvm.ClassFile.FieldType.int)) ∈ lw_all := lw_g (lw_at lw_m6 173 rfl) rfl
theorem q1502 : (Jvm.Cond.instanceMethod ({ cls := "LinkTimes", name := "others", desc := "(III)I" } : Jvm.MethodName)) ∈ lw_all := lw_g (lw_at lw_m6 175 rfl) rfl
theorem q1503 : (Jvm.Cond.selects "LinkTimes" ({ cls := "LinkTimes", name := "others", desc := "(III)I" } : Jvm.MethodName) ({ cls := "LinkTimes", name := "others", desc := "(III)I" } : Jvm.MethodName)) ∈ lw_all := lw_g (lw_at lw_m6 176 rfl) rfl
theorem q1504 : (Jvm.Cond.code ({ cls := "LinkTimes", name := "others", desc := "(III)I" } : Jvm.MethodName) prog_1_method_43_code (5 : Nat) (Option.some Jvm.ClassFile.FieldType.int)) ∈ lw_all := lw_g (lw_at lw_m6 177 rfl) rfl
theorem q1505 : (Jvm.Cond.methodLink "LinkTimes" (298 : Nat) ({ cls := "LinkTimes", name := "refusesTwo", desc := "(III)I" } : Jvm.MethodName)) ∈ lw_all := lw_g (lw_at lw_m6 178 rfl) rfl
theorem q1506 : (Jvm.Cond.privateMethod ({ cls := "LinkTimes", name := "refusesTwo", desc := "(III)I" } : Jvm.MethodName)) ∈ lw_tbl := lw_at lw_m6 179 rfl
theorem q1507 : (Jvm.Cond.instanceMethod ({ cls := "LinkTimes", name := "refusesTwo", desc := "(III)I" } : Jvm.MethodName)) ∈ lw_all := lw_g (lw_at lw_m6 180 rfl) rfl
theorem q1508 : (Jvm.Cond.code ({ cls := "LinkTimes", name := "refusesTwo", desc := "(III)I" } : Jvm.MethodName) prog_1_method_42_code (4 : Nat) (Option.some Jvm.ClassFile.FieldType.int)) ∈ lw_all := lw_g (lw_at lw_m6 181 rfl) rfl
theorem q1509 : (Jvm.Cond.methodLink "LinkTimes" (301 : Nat) ({ cls := "LinkTimes", name := "laysOthers", desc := "(III)I" } : Jvm.MethodName)) ∈ lw_all := lw_g (lw_at lw_m6 182 rfl) rfl
theorem q1510 : (Jvm.Cond.privateMethod ({ cls := "LinkTimes", name := "laysOthers", desc := "(III)I" } : Jvm.MethodName)) ∈ lw_tbl := lw_at lw_m6 183 rfl
theorem q1511 : (Jvm.Cond.instanceMethod ({ cls := "LinkTimes", name := "laysOthers", desc := "(III)I" } : Jvm.MethodName)) ∈ lw_all := lw_g (lw_at lw_m6 184 rfl) rfl
theorem q1512 : (Jvm.Cond.code ({ cls := "LinkTimes", name := "laysOthers", desc := "(III)I" } : Jvm.MethodName) prog_1_method_41_code (6 : Nat) (Option.some Jvm.ClassFile.FieldType.int)) ∈ lw_all := lw_g (lw_at lw_m6 185 rfl) rfl
theorem q1513 : (Jvm.Cond.methodLink "LinkTimes" (294 : Nat) ({ cls := "LinkTimes$Search", name := "laysRest", desc := "([Z)LLinkTimes$Search;" } : Jvm.MethodName)) ∈ lw_all := lw_g (lw_at lw_m6 186 rfl) rfl
theorem q1518 : (Jvm.Cond.instanceMethod ({ cls := "LinkTimes", name := "other", desc := "(IIII)I" } : Jvm.MethodName)) ∈ lw_all := lw_g (lw_at lw_m6 191 rfl) rfl
theorem q1519 : (Jvm.Cond.selects "LinkTimes" ({ cls := "LinkTimes", name := "other", desc := "(IIII)I" } : Jvm.MethodName) ({ cls := "LinkTimes", name := "other", desc := "(IIII)I" } : Jvm.MethodName)) ∈ lw_all := lw_g (lw_at lw_m6 192 rfl) rfl
theorem q1520 : (Jvm.Cond.code ({ cls := "LinkTimes", name := "other", desc := "(IIII)I" } : Jvm.MethodName) prog_1_method_44_code (7 : Nat) (Option.some Jvm.ClassFile.FieldType.int)) ∈ lw_all := lw_g (lw_at lw_m6 193 rfl) rfl
theorem q1522 : (Jvm.Cond.instanceMethod ({ cls := "LinkTimes", name := "pairs", desc := "(I)I" } : Jvm.MethodName)) ∈ lw_all := lw_g (lw_at lw_m6 195 rfl) rfl
theorem q1523 : (Jvm.Cond.selects "LinkTimes" ({ cls := "LinkTimes", name := "pairs", desc := "(I)I" } : Jvm.MethodName) ({ cls := "LinkTimes", name := "pairs", desc := "(I)I" } : Jvm.MethodName)) ∈ lw_all := lw_g (lw_at lw_m6 196 rfl) rfl
theorem q1524 : (Jvm.Cond.code ({ cls := "LinkTimes", name := "pairs", desc := "(I)I" } : Jvm.MethodName) prog_1_method_48_code (3 : Nat) (Option.some Jvm.ClassFile.FieldType.int)) ∈ lw_all := lw_g (lw_at lw_m6 197 rfl) rfl
theorem q1525 : (Jvm.Cond.methodLink "LinkTimes" (316 : Nat) ({ cls := "LinkTimes", name := "refusesTime", desc := "(I)I" } : Jvm.MethodName)) ∈ lw_all := lw_g (lw_at lw_m6 198 rfl) rfl
theorem q1526 : (Jvm.Cond.privateMethod ({ cls := "LinkTimes", name := "refusesTime", desc := "(I)I" } : Jvm.MethodName)) ∈ lw_tbl := lw_at lw_m6 199 rfl
theorem q1527 : (Jvm.Cond.instanceMethod ({ cls := "LinkTimes", name := "refusesTime", desc := "(I)I" } : Jvm.MethodName)) ∈ lw_all := lw_g (lw_at lw_m6 200 rfl) rfl
theorem q1528 : (Jvm.Cond.code ({ cls := "LinkTimes", name := "refusesTime", desc := "(I)I" } : Jvm.MethodName) prog_1_method_47_code (2 : Nat) (Option.some Jvm.ClassFile.FieldType.int)) ∈ lw_all := lw_g (lw_at lw_m6 201 rfl) rfl
theorem q1529 : (Jvm.Cond.methodLink "LinkTimes" (319 : Nat) ({ cls := "LinkTimes", name := "laysAll", desc := "(I)V" } : Jvm.MethodName)) ∈ lw_all := lw_g (lw_at lw_m6 202 rfl) rfl
theorem q1530 : (Jvm.Cond.privateMethod ({ cls := "LinkTimes", name := "laysAll", desc := "(I)V" } : Jvm.MethodName)) ∈ lw_tbl := lw_at lw_m6 203 rfl
theorem q1531 : (Jvm.Cond.instanceMethod ({ cls := "LinkTimes", name := "laysAll", desc := "(I)V" } : Jvm.MethodName)) ∈ lw_all := lw_g (lw_at lw_m6 204 rfl) rfl
theorem q1532 : (Jvm.Cond.code ({ cls := "LinkTimes", name := "laysAll", desc := "(I)V" } : Jvm.MethodName) prog_1_method_45_code (4 : Nat) (Option.none : Option Jvm.ClassFile.FieldType)) ∈ lw_all := lw_g (lw_at lw_m6 205 rfl) rfl
theorem q1533 : (Jvm.Cond.methodLink "LinkTimes" (310 : Nat) ({ cls := "LinkTimes", name := "lays", desc := "(III)V" } : Jvm.MethodName)) ∈ lw_all := lw_g (lw_at lw_m6 206 rfl) rfl
theorem q1534 : (Jvm.Cond.privateMethod ({ cls := "LinkTimes", name := "lays", desc := "(III)V" } : Jvm.MethodName)) ∈ lw_tbl := lw_at lw_m6 207 rfl
theorem q1535 : (Jvm.Cond.instanceMethod ({ cls := "LinkTimes", name := "lays", desc := "(III)V" } : Jvm.MethodName)) ∈ lw_all := lw_g (lw_at lw_m6 208 rfl) rfl
theorem q1536 : (Jvm.Cond.code ({ cls := "LinkTimes", name := "lays", desc := "(III)V" } : Jvm.MethodName) prog_1_method_46_code (6 : Nat) (Option.none : Option Jvm.ClassFile.FieldType)) ∈ lw_all := lw_g (lw_at lw_m6 209 rfl) rfl
theorem q1537 : (Jvm.Cond.methodLinkNest "LinkTimes" (313 : Nat) ({ cls := "LinkTimes$Search", name := "changed", desc := "(II)I" } : Jvm.MethodName) "LinkTimes") ∈ lw_tbl := lw_at lw_m6 210 rfl
theorem q1539 : (Jvm.Cond.instanceMethod ({ cls := "LinkTimes", name := "hub", desc := "(I)I" } : Jvm.MethodName)) ∈ lw_all := lw_g (lw_at lw_m6 212 rfl) rfl
theorem q1540 : (Jvm.Cond.selects "LinkTimes" ({ cls := "LinkTimes", name := "hub", desc := "(I)I" } : Jvm.MethodName) ({ cls := "LinkTimes", name := "hub", desc := "(I)I" } : Jvm.MethodName)) ∈ lw_all := lw_g (lw_at lw_m6 213 rfl) rfl
theorem q1541 : (Jvm.Cond.code ({ cls := "LinkTimes", name := "hub", desc := "(I)I" } : Jvm.MethodName) prog_1_method_49_code (6 : Nat) (Option.some Jvm.ClassFile.FieldType.int)) ∈ lw_all := lw_g (lw_at lw_m6 214 rfl) rfl
theorem q1543 : (Jvm.Cond.instanceMethod ({ cls := "LinkTimes", name := "slowest", desc := "(I)I" } : Jvm.MethodName)) ∈ lw_all := lw_g (lw_at lw_m6 216 rfl) rfl
theorem q1544 : (Jvm.Cond.selects "LinkTimes" ({ cls := "LinkTimes", name := "slowest", desc := "(I)I" } : Jvm.MethodName) ({ cls := "LinkTimes", name := "slowest", desc := "(I)I" } : Jvm.MethodName)) ∈ lw_all := lw_g (lw_at lw_m6 217 rfl) rfl
theorem q1545 : (Jvm.Cond.code ({ cls := "LinkTimes", name := "slowest", desc := "(I)I" } : Jvm.MethodName) prog_1_method_50_code (3 : Nat) (Option.some Jvm.ClassFile.FieldType.int)) ∈ lw_all := lw_g (lw_at lw_m6 218 rfl) rfl
theorem q1547 : (Jvm.Cond.instanceMethod ({ cls := "LinkTimes", name := "needs", desc := "(IIII)I" } : Jvm.MethodName)) ∈ lw_all := lw_g (lw_at lw_m6 220 rfl) rfl
theorem q1548 : (Jvm.Cond.selects "LinkTimes" ({ cls := "LinkTimes", name := "needs", desc := "(IIII)I" } : Jvm.MethodName) ({ cls := "LinkTimes", name := "needs", desc := "(IIII)I" } : Jvm.MethodName)) ∈ lw_all := lw_g (lw_at lw_m6 221 rfl) rfl
theorem q1549 : (Jvm.Cond.code ({ cls := "LinkTimes", name := "needs", desc := "(IIII)I" } : Jvm.MethodName) prog_1_method_53_code (7 : Nat) (Option.some Jvm.ClassFile.FieldType.int)) ∈ lw_all := lw_g (lw_at lw_m6 222 rfl) rfl
theorem q1550 : (Jvm.Cond.methodLink "LinkTimes" (322 : Nat) ({ cls := "LinkTimes", name := "refusesOne", desc := "(IIII)I" } : Jvm.MethodName)) ∈ lw_all := lw_g (lw_at lw_m6 223 rfl) rfl
theorem q1551 : (Jvm.Cond.privateMethod ({ cls := "LinkTimes", name := "refusesOne", desc := "(IIII)I" } : Jvm.MethodName)) ∈ lw_tbl := lw_at lw_m6 224 rfl
theorem q1552 : (Jvm.Cond.instanceMethod ({ cls := "LinkTimes", name := "refusesOne", desc := "(IIII)I" } : Jvm.MethodName)) ∈ lw_all := lw_g (lw_at lw_m6 225 rfl) rfl
theorem q1553 : (Jvm.Cond.code ({ cls := "LinkTimes", name := "refusesOne", desc := "(IIII)I" } : Jvm.MethodName) prog_1_method_51_code (6 : Nat) (Option.some Jvm.ClassFile.FieldType.int)) ∈ lw_all := lw_g (lw_at lw_m6 226 rfl) rfl
theorem q1554 : (Jvm.Cond.methodLink "LinkTimes" (325 : Nat) ({ cls := "LinkTimes", name := "missed", desc := "(IIIII)I" } : Jvm.MethodName)) ∈ lw_all := lw_g (lw_at lw_m6 227 rfl) rfl
theorem q1555 : (Jvm.Cond.privateMethod ({ cls := "LinkTimes", name := "missed", desc := "(IIIII)I" } : Jvm.MethodName)) ∈ lw_tbl := lw_at lw_m6 228 rfl
theorem q1556 : (Jvm.Cond.instanceMethod ({ cls := "LinkTimes", name := "missed", desc := "(IIIII)I" } : Jvm.MethodName)) ∈ lw_all := lw_g (lw_at lw_m6 229 rfl) rfl
theorem q1557 : (Jvm.Cond.code ({ cls := "LinkTimes", name := "missed", desc := "(IIIII)I" } : Jvm.MethodName) prog_1_method_52_code (7 : Nat) (Option.some Jvm.ClassFile.FieldType.int)) ∈ lw_all := lw_g (lw_at lw_m6 230 rfl) rfl
theorem q1559 : (Jvm.Cond.instanceMethod ({ cls := "LinkTimes", name := "vital", desc := "(III)I" } : Jvm.MethodName)) ∈ lw_all := lw_g (lw_at lw_m6 232 rfl) rfl
theorem q1560 : (Jvm.Cond.selects "LinkTimes" ({ cls := "LinkTimes", name := "vital", desc := "(III)I" } : Jvm.MethodName) ({ cls := "LinkTimes", name := "vital", desc := "(III)I" } : Jvm.MethodName)) ∈ lw_all := lw_g (lw_at lw_m6 233 rfl) rfl
theorem q1561 : (Jvm.Cond.code ({ cls := "LinkTimes", name := "vital", desc := "(III)I" } : Jvm.MethodName) prog_1_method_54_code (8 : Nat) (Option.some Jvm.ClassFile.FieldType.int)) ∈ lw_all := lw_g (lw_at lw_m6 234 rfl) rfl
theorem q1563 : (Jvm.Cond.instanceMethod ({ cls := "LinkTimes", name := "slack", desc := "(IIII)I" } : Jvm.MethodName)) ∈ lw_all := lw_g (lw_at lw_m6 236 rfl) rfl
theorem q1564 : (Jvm.Cond.selects "LinkTimes" ({ cls := "LinkTimes", name := "slack", desc := "(IIII)I" } : Jvm.MethodName) ({ cls := "LinkTimes", name := "slack", desc := "(IIII)I" } : Jvm.MethodName)) ∈ lw_all := lw_g (lw_at lw_m6 237 rfl) rfl
theorem q1565 : (Jvm.Cond.code ({ cls := "LinkTimes", name := "slack", desc := "(IIII)I" } : Jvm.MethodName) prog_1_method_55_code (10 : Nat) (Option.some Jvm.ClassFile.FieldType.int)) ∈ lw_all := lw_g (lw_at lw_m6 238 rfl) rfl
theorem q1567 : (Jvm.Cond.instanceMethod ({ cls := "LinkTimes", name := "why", desc := "(IIII)I" } : Jvm.MethodName)) ∈ lw_all := lw_g (lw_at lw_m7 0 rfl) rfl
theorem q1568 : (Jvm.Cond.selects "LinkTimes" ({ cls := "LinkTimes", name := "why", desc := "(IIII)I" } : Jvm.MethodName) ({ cls := "LinkTimes", name := "why", desc := "(IIII)I" } : Jvm.MethodName)) ∈ lw_all := lw_g (lw_at lw_m7 1 rfl) rfl
theorem q1569 : (Jvm.Cond.codeWith ({ cls := "LinkTimes", name := "why", desc := "(IIII)I" } : Jvm.MethodName) prog_1_method_58_code (9 : Nat) (Option.some Jvm.ClassFile.FieldType.int) [((34 : Nat), (47 : Nat), (48 : Nat), (340 : Nat))]) ∈ lw_all := lw_g (lw_at lw_m7 2 rfl) rfl
theorem q1570 : (Jvm.Cond.classLink "LinkTimes" (340 : Nat) "LinkTimes$NoWay") ∈ lw_all := lw_g (lw_at lw_m7 3 rfl) rfl
theorem q1571 : (Jvm.Cond.methodLink "LinkTimes" (336 : Nat) ({ cls := "LinkTimes", name := "asks", desc := "(IIII)V" } : Jvm.MethodName)) ∈ lw_all := lw_g (lw_at lw_m7 4 rfl) rfl
theorem q1572 : (Jvm.Cond.privateMethod ({ cls := "LinkTimes", name := "asks", desc := "(IIII)V" } : Jvm.MethodName)) ∈ lw_tbl := lw_at lw_m7 5 rfl
theorem q1573 : (Jvm.Cond.instanceMethod ({ cls := "LinkTimes", name := "asks", desc := "(IIII)V" } : Jvm.MethodName)) ∈ lw_all := lw_g (lw_at lw_m7 6 rfl) rfl
theorem q1574 : (Jvm.Cond.codeWith ({ cls := "LinkTimes", name := "asks", desc := "(IIII)V" } : Jvm.MethodName) prog_1_method_57_code (7 : Nat) (Option.none : Option Jvm.ClassFile.FieldType) [((16 : Nat), (33 : Nat), (36 : Nat), (340 : Nat))]) ∈ lw_all := lw_g (lw_at lw_m7 7 rfl) rfl
theorem q1575 : (Jvm.Cond.methodLink "LinkTimes" (332 : Nat) ({ cls := "LinkTimes", name := "hasWay", desc := "(IIII)Z" } : Jvm.MethodName)) ∈ lw_all := lw_g (lw_at lw_m7 8 rfl) rfl
theorem q1576 : (Jvm.Cond.privateMethod ({ cls := "LinkTimes", name := "hasWay", desc := "(IIII)Z" } : Jvm.MethodName)) ∈ lw_tbl := lw_at lw_m7 9 rfl
theorem q1577 : (Jvm.Cond.instanceMethod ({ cls := "LinkTimes", name := "hasWay", desc := "(IIII)Z" } : Jvm.MethodName)) ∈ lw_all := lw_g (lw_at lw_m7 10 rfl) rfl
theorem q1578 : (Jvm.Cond.code ({ cls := "LinkTimes", name := "hasWay", desc := "(IIII)Z" } : Jvm.MethodName) prog_1_method_56_code (6 : Nat) (Option.some Jvm.ClassFile.FieldType.boolean)) ∈ lw_all := lw_g (lw_at lw_m7 11 rfl) rfl
theorem q1579 : (Jvm.Cond.methodLink "LinkTimes" (329 : Nat) ({ cls := "LinkTimes$Search", name := "laysAll", desc := "(I)LLinkTimes$Search;" } : Jvm.MethodName)) ∈ lw_all := lw_g (lw_at lw_m7 12 rfl) rfl
theorem q1591 : (Jvm.Cond.methodLink "LinkTimes" (342 : Nat) ({ cls := "LinkTimes$NoWay", name := "<init>", desc := "(ILLinkTimes$NoWay;)V" } : Jvm.MethodName)) ∈ lw_all := lw_g (lw_at lw_m7 24 rfl) rfl
theorem q1596 : (Jvm.Cond.fieldLinkNest "LinkTimes" (348 : Nat) "LinkTimes$NoWay" "reason" "I" "LinkTimes") ∈ lw_tbl := lw_at lw_m7 29 rfl
theorem q1601 : (Jvm.Cond.methodLink "LinkTimes" (345 : Nat) ({ cls := "java/lang/Throwable", name := "getCause", desc := "()Ljava/lang/Throwable;" } : Jvm.MethodName)) ∈ lw_all := lw_g (lw_at lw_m7 34 rfl) rfl
theorem q1603 : (Jvm.Cond.instanceMethod ({ cls := "LinkTimes", name := "cancel", desc := "(I)I" } : Jvm.MethodName)) ∈ lw_all := lw_g (lw_at lw_m7 36 rfl) rfl
theorem q1604 : (Jvm.Cond.selects "LinkTimes" ({ cls := "LinkTimes", name := "cancel", desc := "(I)I" } : Jvm.MethodName) ({ cls := "LinkTimes", name := "cancel", desc := "(I)I" } : Jvm.MethodName)) ∈ lw_all := lw_g (lw_at lw_m7 37 rfl) rfl
theorem q1605 : (Jvm.Cond.code ({ cls := "LinkTimes", name := "cancel", desc := "(I)I" } : Jvm.MethodName) prog_1_method_63_code (2 : Nat) (Option.some Jvm.ClassFile.FieldType.int)) ∈ lw_all := lw_g (lw_at lw_m7 38 rfl) rfl
theorem q1606 : (Jvm.Cond.methodLink "LinkTimes" (373 : Nat) ({ cls := "LinkTimes", name := "turns", desc := "(IZ)I" } : Jvm.MethodName)) ∈ lw_all := lw_g (lw_at lw_m7 39 rfl) rfl
theorem q1607 : (Jvm.Cond.privateMethod ({ cls := "LinkTimes", name := "turns", desc := "(IZ)I" } : Jvm.MethodName)) ∈ lw_tbl := lw_at lw_m7 40 rfl
theorem q1608 : (Jvm.Cond.instanceMethod ({ cls := "LinkTimes", name := "turns", desc := "(IZ)I" } : Jvm.MethodName)) ∈ lw_all := lw_g (lw_at lw_m7 41 rfl) rfl
theorem q1609 : (Jvm.Cond.code ({ cls := "LinkTimes", name := "turns", desc := "(IZ)I" } : Jvm.MethodName) prog_1_method_62_code (4 : Nat) (Option.some Jvm.ClassFile.FieldType.int)) ∈ lw_all := lw_g (lw_at lw_m7 42 rfl) rfl
theorem q1610 : (Jvm.Cond.methodLink "LinkTimes" (366 : Nat) ({ cls := "LinkTimes", name := "remembers", desc := "(III)V" } : Jvm.MethodName)) ∈ lw_all := lw_g (lw_at lw_m7 43 rfl) rfl
theorem q1611 : (Jvm.Cond.privateMethod ({ cls := "LinkTimes", name := "remembers", desc := "(III)V" } : Jvm.MethodName)) ∈ lw_tbl := lw_at lw_m7 44 rfl
theorem q1612 : (Jvm.Cond.instanceMethod ({ cls := "LinkTimes", name := "remembers", desc := "(III)V" } : Jvm.MethodName)) ∈ lw_all := lw_g (lw_at lw_m7 45 rfl) rfl
theorem q1613 : (Jvm.Cond.code ({ cls := "LinkTimes", name := "remembers", desc := "(III)V" } : Jvm.MethodName) prog_1_method_59_code (4 : Nat) (Option.none : Option Jvm.ClassFile.FieldType)) ∈ lw_all := lw_g (lw_at lw_m7 46 rfl) rfl
theorem q1614 : (Jvm.Cond.methodLink "LinkTimes" (351 : Nat) ({ cls := "java/util/ArrayDeque", name := "size", desc := "()I" } : Jvm.MethodName)) ∈ lw_all := lw_g (lw_at lw_m7 47 rfl) rfl
theorem q1621 : (Jvm.Cond.methodLink "LinkTimes" (352 : Nat) ({ cls := "java/util/ArrayDeque", name := "removeFirst", desc := "()Ljava/lang/Object;" } : Jvm.MethodName)) ∈ lw_all := lw_g (lw_at lw_m7 54 rfl) rfl
theorem q1637 : (Jvm.Cond.classLink "LinkTimes" (355 : Nat) "LinkTimes$Act") ∈ lw_all := lw_g (lw_at lw_m7 70 rfl) rfl
theorem q1639 : (Jvm.Cond.methodLinkNest "LinkTimes" (357 : Nat) ({ cls := "LinkTimes$Act", name := "<init>", desc := "(III)V" } : Jvm.MethodName) "LinkTimes") ∈ lw_tbl := lw_at lw_m7 72 rfl
theorem q1656 : (Jvm.Cond.methodLink "LinkTimes" (359 : Nat) ({ cls := "java/util/ArrayDeque", name := "addLast", desc := "(Ljava/lang/Object;)V" } : Jvm.MethodName)) ∈ lw_all := lw_g (lw_at lw_m7 89 rfl) rfl
theorem q1671 : (Jvm.Cond.methodLink "LinkTimes" (369 : Nat) ({ cls := "LinkTimes", name := "sets", desc := "(LLinkTimes$Departure;Z)V" } : Jvm.MethodName)) ∈ lw_all := lw_g (lw_at lw_m7 104 rfl) rfl
theorem q1672 : (Jvm.Cond.privateMethod ({ cls := "LinkTimes", name := "sets", desc := "(LLinkTimes$Departure;Z)V" } : Jvm.MethodName)) ∈ lw_tbl := lw_at lw_m7 105 rfl
theorem q1673 : (Jvm.Cond.instanceMethod ({ cls := "LinkTimes", name := "sets", desc := "(LLinkTimes$Departure;Z)V" } : Jvm.MethodName)) ∈ lw_all := lw_g (lw_at lw_m7 106 rfl) rfl
theorem q1674 : (Jvm.Cond.code ({ cls := "LinkTimes", name := "sets", desc := "(LLinkTimes$Departure;Z)V" } : Jvm.MethodName) prog_1_method_60_code (3 : Nat) (Option.none : Option Jvm.ClassFile.FieldType)) ∈ lw_all := lw_g (lw_at lw_m7 107 rfl) rfl
theorem q1675 : (Jvm.Cond.methodLink "LinkTimes" (363 : Nat) ({ cls := "java/util/TreeSet", name := "remove", desc := "(Ljava/lang/Object;)Z" } : Jvm.MethodName)) ∈ lw_all := lw_g (lw_at lw_m7 108 rfl) rfl
theorem q1706 : (Jvm.Cond.instanceMethod ({ cls := "LinkTimes", name := "run", desc := "(I)I" } : Jvm.MethodName)) ∈ lw_all := lw_g (lw_at lw_m7 139 rfl) rfl
theorem q1707 : (Jvm.Cond.selects "LinkTimes" ({ cls := "LinkTimes", name := "run", desc := "(I)I" } : Jvm.MethodName) ({ cls := "LinkTimes", name := "run", desc := "(I)I" } : Jvm.MethodName)) ∈ lw_all := lw_g (lw_at lw_m7 140 rfl) rfl
theorem q1708 : (Jvm.Cond.code ({ cls := "LinkTimes", name := "run", desc := "(I)I" } : Jvm.MethodName) prog_1_method_64_code (2 : Nat) (Option.some Jvm.ClassFile.FieldType.int)) ∈ lw_all := lw_g (lw_at lw_m7 141 rfl) rfl
theorem q1710 : (Jvm.Cond.instanceMethod ({ cls := "LinkTimes", name := "delay", desc := "(II)I" } : Jvm.MethodName)) ∈ lw_all := lw_g (lw_at lw_m7 143 rfl) rfl
theorem q1711 : (Jvm.Cond.selects "LinkTimes" ({ cls := "LinkTimes", name := "delay", desc := "(II)I" } : Jvm.MethodName) ({ cls := "LinkTimes", name := "delay", desc := "(II)I" } : Jvm.MethodName)) ∈ lw_all := lw_g (lw_at lw_m7 144 rfl) rfl
theorem q1712 : (Jvm.Cond.code ({ cls := "LinkTimes", name := "delay", desc := "(II)I" } : Jvm.MethodName) prog_1_method_65_code (5 : Nat) (Option.some Jvm.ClassFile.FieldType.int)) ∈ lw_all := lw_g (lw_at lw_m7 145 rfl) rfl
theorem q1713 : (Jvm.Cond.methodLink "LinkTimes" (376 : Nat) ({ cls := "LinkTimes", name := "late", desc := "(LLinkTimes$Departure;I)V" } : Jvm.MethodName)) ∈ lw_all := lw_g (lw_at lw_m7 146 rfl) rfl
theorem q1714 : (Jvm.Cond.privateMethod ({ cls := "LinkTimes", name := "late", desc := "(LLinkTimes$Departure;I)V" } : Jvm.MethodName)) ∈ lw_tbl := lw_at lw_m7 147 rfl
theorem q1715 : (Jvm.Cond.instanceMethod ({ cls := "LinkTimes", name := "late", desc := "(LLinkTimes$Departure;I)V" } : Jvm.MethodName)) ∈ lw_all := lw_g (lw_at lw_m7 148 rfl) rfl
theorem q1716 : (Jvm.Cond.code ({ cls := "LinkTimes", name := "late", desc := "(LLinkTimes$Departure;I)V" } : Jvm.MethodName) prog_1_method_61_code (3 : Nat) (Option.none : Option Jvm.ClassFile.FieldType)) ∈ lw_all := lw_g (lw_at lw_m7 149 rfl) rfl
theorem q1718 : (Jvm.Cond.instanceMethod ({ cls := "LinkTimes", name := "change", desc := "(II)I" } : Jvm.MethodName)) ∈ lw_all := lw_g (lw_at lw_m7 151 rfl) rfl
theorem q1719 : (Jvm.Cond.selects "LinkTimes" ({ cls := "LinkTimes", name := "change", desc := "(II)I" } : Jvm.MethodName) ({ cls := "LinkTimes", name := "change", desc := "(II)I" } : Jvm.MethodName)) ∈ lw_all := lw_g (lw_at lw_m7 152 rfl) rfl
theorem q1720 : (Jvm.Cond.code ({ cls := "LinkTimes", name := "change", desc := "(II)I" } : Jvm.MethodName) prog_1_method_66_code (4 : Nat) (Option.some Jvm.ClassFile.FieldType.int)) ∈ lw_all := lw_g (lw_at lw_m7 153 rfl) rfl
theorem q1722 : (Jvm.Cond.instanceMethod ({ cls := "LinkTimes", name := "hold", desc := "(II)I" } : Jvm.MethodName)) ∈ lw_all := lw_g (lw_at lw_m7 155 rfl) rfl
theorem q1723 : (Jvm.Cond.selects "LinkTimes" ({ cls := "LinkTimes", name := "hold", desc := "(II)I" } : Jvm.MethodName) ({ cls := "LinkTimes", name := "hold", desc := "(II)I" } : Jvm.MethodName)) ∈ lw_all := lw_g (lw_at lw_m7 156 rfl) rfl
theorem q1724 : (Jvm.Cond.code ({ cls := "LinkTimes", name := "hold", desc := "(II)I" } : Jvm.MethodName) prog_1_method_67_code (4 : Nat) (Option.some Jvm.ClassFile.FieldType.int)) ∈ lw_all := lw_g (lw_at lw_m7 157 rfl) rfl
theorem q1726 : (Jvm.Cond.instanceMethod ({ cls := "LinkTimes", name := "extra", desc := "(IIIII)I" } : Jvm.MethodName)) ∈ lw_all := lw_g (lw_at lw_m7 159 rfl) rfl
theorem q1727 : (Jvm.Cond.selects "LinkTimes" ({ cls := "LinkTimes", name := "extra", desc := "(IIIII)I" } : Jvm.MethodName) ({ cls := "LinkTimes", name := "extra", desc := "(IIIII)I" } : Jvm.MethodName)) ∈ lw_all := lw_g (lw_at lw_m7 160 rfl) rfl
theorem q1728 : (Jvm.Cond.code ({ cls := "LinkTimes", name := "extra", desc := "(IIIII)I" } : Jvm.MethodName) prog_1_method_68_code (8 : Nat) (Option.some Jvm.ClassFile.FieldType.int)) ∈ lw_all := lw_g (lw_at lw_m7 161 rfl) rfl
theorem q1729 : (Jvm.Cond.methodLink "LinkTimes" (380 : Nat) ({ cls := "LinkTimes$Departure", name := "<init>", desc := "(IIIIIII)V" } : Jvm.MethodName)) ∈ lw_all := lw_g (lw_at lw_m7 162 rfl) rfl
theorem q1730 : (Jvm.Cond.methodLink "LinkTimes" (383 : Nat) ({ cls := "java/util/ArrayList", name := "add", desc := "(Ljava/lang/Object;)Z" } : Jvm.MethodName)) ∈ lw_all := lw_g (lw_at lw_m7 163 rfl) rfl
theorem q1732 : (Jvm.Cond.instanceMethod ({ cls := "LinkTimes", name := "undo", desc := "()Z" } : Jvm.MethodName)) ∈ lw_all := lw_g (lw_at lw_m7 165 rfl) rfl
theorem q1733 : (Jvm.Cond.selects "LinkTimes" ({ cls := "LinkTimes", name := "undo", desc := "()Z" } : Jvm.MethodName) ({ cls := "LinkTimes", name := "undo", desc := "()Z" } : Jvm.MethodName)) ∈ lw_all := lw_g (lw_at lw_m7 166 rfl) rfl
theorem q1734 : (Jvm.Cond.code ({ cls := "LinkTimes", name := "undo", desc := "()Z" } : Jvm.MethodName) prog_1_method_69_code (2 : Nat) (Option.some Jvm.ClassFile.FieldType.boolean)) ∈ lw_all := lw_g (lw_at lw_m7 167 rfl) rfl
theorem q1735 : (Jvm.Cond.methodLink "LinkTimes" (384 : Nat) ({ cls := "java/util/ArrayDeque", name := "isEmpty", desc := "()Z" } : Jvm.MethodName)) ∈ lw_all := lw_g (lw_at lw_m7 168 rfl) rfl
theorem q1739 : (Jvm.Cond.methodLink "LinkTimes" (388 : Nat) ({ cls := "java/util/ArrayDeque", name := "removeLast", desc := "()Ljava/lang/Object;" } : Jvm.MethodName)) ∈ lw_all := lw_g (lw_at lw_m7 172 rfl) rfl
theorem q1750 : (Jvm.Cond.methodLink "LinkTimes" (391 : Nat) ({ cls := "LinkTimes$Act", name := "what", desc := "()I" } : Jvm.MethodName)) ∈ lw_all := lw_g (lw_at lw_m7 183 rfl) rfl
theorem q1754 : (Jvm.Cond.methodLink "LinkTimes" (394 : Nat) ({ cls := "LinkTimes$Act", name := "which", desc := "()I" } : Jvm.MethodName)) ∈ lw_all := lw_g (lw_at lw_m7 187 rfl) rfl
theorem q1758 : (Jvm.Cond.methodLink "LinkTimes" (397 : Nat) ({ cls := "LinkTimes$Act", name := "had", desc := "()I" } : Jvm.MethodName)) ∈ lw_all := lw_g (lw_at lw_m7 191 rfl) rfl
theorem q1762 : (Jvm.Cond.methodLink "LinkTimes" (400 : Nat) ({ cls := "java/util/ArrayList", name := "remove", desc := "(I)Ljava/lang/Object;" } : Jvm.MethodName)) ∈ lw_all := lw_g (lw_at lw_m7 195 rfl) rfl
theorem q1772 : (Jvm.Cond.instanceMethod ({ cls := "LinkTimes", name := "size", desc := "(I)I" } : Jvm.MethodName)) ∈ lw_all := lw_g (lw_at lw_m7 205 rfl) rfl
theorem q1773 : (Jvm.Cond.selects "LinkTimes" ({ cls := "LinkTimes", name := "size", desc := "(I)I" } : Jvm.MethodName) ({ cls := "LinkTimes", name := "size", desc := "(I)I" } : Jvm.MethodName)) ∈ lw_all := lw_g (lw_at lw_m7 206 rfl) rfl
theorem q1774 : (Jvm.Cond.code ({ cls := "LinkTimes", name := "size", desc := "(I)I" } : Jvm.MethodName) prog_1_method_72_code (2 : Nat) (Option.some Jvm.ClassFile.FieldType.int)) ∈ lw_all := lw_g (lw_at lw_m7 207 rfl) rfl
theorem q1775 : (Jvm.Cond.methodLink "LinkTimes" (405 : Nat) ({ cls := "LinkTimes", name := "lateOnes", desc := "()I" } : Jvm.MethodName)) ∈ lw_all := lw_g (lw_at lw_m7 208 rfl) rfl
theorem q1776 : (Jvm.Cond.privateMethod ({ cls := "LinkTimes", name := "lateOnes", desc := "()I" } : Jvm.MethodName)) ∈ lw_tbl := lw_at lw_m7 209 rfl
theorem q1777 : (Jvm.Cond.instanceMethod ({ cls := "LinkTimes", name := "lateOnes", desc := "()I" } : Jvm.MethodName)) ∈ lw_all := lw_g (lw_at lw_m7 210 rfl) rfl
theorem q1778 : (Jvm.Cond.code ({ cls := "LinkTimes", name := "lateOnes", desc := "()I" } : Jvm.MethodName) prog_1_method_71_code (3 : Nat) (Option.some Jvm.ClassFile.FieldType.int)) ∈ lw_all := lw_g (lw_at lw_m7 211 rfl) rfl
theorem q1780 : (Jvm.Cond.instanceMethod ({ cls := "LinkTimes", name := "trouble", desc := "()I" } : Jvm.MethodName)) ∈ lw_all := lw_g (lw_at lw_m7 213 rfl) rfl
theorem q1781 : (Jvm.Cond.selects "LinkTimes" ({ cls := "LinkTimes", name := "trouble", desc := "()I" } : Jvm.MethodName) ({ cls := "LinkTimes", name := "trouble", desc := "()I" } : Jvm.MethodName)) ∈ lw_all := lw_g (lw_at lw_m7 214 rfl) rfl
theorem q1782 : (Jvm.Cond.code ({ cls := "LinkTimes", name := "trouble", desc := "()I" } : Jvm.MethodName) prog_1_method_73_code (1 : Nat) (Option.some Jvm.ClassFile.FieldType.int)) ∈ lw_all := lw_g (lw_at lw_m7 215 rfl) rfl
theorem q1788 : (Jvm.Cond.instanceMethod ({ cls := "LinkTimes", name := "still", desc := "(I)I" } : Jvm.MethodName)) ∈ lw_all := lw_g (lw_at lw_m7 221 rfl) rfl
theorem q1789 : (Jvm.Cond.selects "LinkTimes" ({ cls := "LinkTimes", name := "still", desc := "(I)I" } : Jvm.MethodName) ({ cls := "LinkTimes", name := "still", desc := "(I)I" } : Jvm.MethodName)) ∈ lw_all := lw_g (lw_at lw_m7 222 rfl) rfl
theorem q1790 : (Jvm.Cond.code ({ cls := "LinkTimes", name := "still", desc := "(I)I" } : Jvm.MethodName) prog_1_method_70_code (4 : Nat) (Option.some Jvm.ClassFile.FieldType.int)) ∈ lw_all := lw_g (lw_at lw_m7 223 rfl) rfl
theorem q1791 : (Jvm.Cond.classLink "LinkTimes" (402 : Nat) "java/util/NoSuchElementException") ∈ lw_all := lw_g (lw_at lw_m7 224 rfl) rfl
theorem q1792 : (Jvm.Cond.methodLink "LinkTimes" (404 : Nat) ({ cls := "java/util/NoSuchElementException", name := "<init>", desc := "()V" } : Jvm.MethodName)) ∈ lw_all := lw_g (lw_at lw_m7 225 rfl) rfl
theorem q2389 : (Jvm.Cond.castable "LinkTimes" "java/lang/Object") ∈ lw_tbl := lw_at lw_m10 102 rfl

