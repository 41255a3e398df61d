/-! LinkTimesModel -/
set_option maxRecDepth 100000
abbrev cX4_init : ByteArray := prog_15_method_1_code
def yX4_init : MethodName := ⟨RX4, "<init>", "()V"⟩
def dkwX4_init_7 : List UInt8 := [181, 0, 69, 42, 16, 120, 188, 10, 181, 0, 72, 42, 16, 10, 188, 10, 181, 0, 75, 177]
abbrev dktX4_init_7 : List UInt8 := dkwX4_init_7 ++ []
def dkwX4_init_6 : List UInt8 := [181, 0, 60, 42, 16, 120, 188, 10, 181, 0, 63, 42, 16, 120, 188, 10, 181, 0, 66, 42, 16, 120, 188, 10]
abbrev dktX4_init_6 : List UInt8 := dkwX4_init_6 ++ dktX4_init_7
def dkwX4_init_5 : List UInt8 := [42, 17, 56, 64, 188, 10, 181, 0, 54, 42, 16, 120, 188, 10, 181, 0, 57, 42, 16, 120, 188, 10]
abbrev dktX4_init_5 : List UInt8 := dkwX4_init_5 ++ dktX4_init_6
def dkwX4_init_4 : List UInt8 := [42, 16, 120, 188, 10, 181, 0, 45, 42, 16, 120, 188, 10, 181, 0, 48, 42, 16, 120, 188, 10, 181, 0, 51]
abbrev dktX4_init_4 : List UInt8 := dkwX4_init_4 ++ dktX4_init_5
def dkwX4_init_3 : List UInt8 := [42, 16, 7, 188, 10, 181, 0, 36, 42, 16, 120, 188, 10, 181, 0, 39, 42, 16, 120, 188, 10, 181, 0, 42]
abbrev dktX4_init_3 : List UInt8 := dkwX4_init_3 ++ dktX4_init_4
def dkwX4_init_2 : List UInt8 := [17, 38, 122, 188, 10, 181, 0, 26, 42, 16, 10, 188, 11, 181, 0, 29, 42, 16, 8, 188, 11, 181, 0, 33]
abbrev dktX4_init_2 : List UInt8 := dkwX4_init_2 ++ dktX4_init_3
def dkwX4_init_1 : List UInt8 := [181, 0, 17, 42, 17, 3, 217, 188, 10, 181, 0, 20, 42, 17, 3, 217, 188, 10, 181, 0, 23, 42]
abbrev dktX4_init_1 : List UInt8 := dkwX4_init_1 ++ dktX4_init_2
def dkwX4_init_0 : List UInt8 := [42, 183, 0, 3, 42, 2, 181, 0, 9, 42, 17, 3, 132, 188, 10, 181, 0, 13, 42, 17, 3, 217, 188, 10]
abbrev dktX4_init_0 : List UInt8 := dkwX4_init_0 ++ dktX4_init_1
theorem dksX4_init_0 : cX4_init.data.toList.drop 0 = dktX4_init_0 := by decide +kernel
theorem dksX4_init_1 : cX4_init.data.toList.drop 24 = dktX4_init_1 := dk_seg dksX4_init_0 24 rfl rfl
theorem dksX4_init_2 : cX4_init.data.toList.drop 46 = dktX4_init_2 := dk_seg dksX4_init_1 22 rfl rfl
theorem dksX4_init_3 : cX4_init.data.toList.drop 70 = dktX4_init_3 := dk_seg dksX4_init_2 24 rfl rfl
theorem dksX4_init_4 : cX4_init.data.toList.drop 94 = dktX4_init_4 := dk_seg dksX4_init_3 24 rfl rfl
theorem dksX4_init_5 : cX4_init.data.toList.drop 118 = dktX4_init_5 := dk_seg dksX4_init_4 24 rfl rfl
theorem dksX4_init_6 : cX4_init.data.toList.drop 140 = dktX4_init_6 := dk_seg dksX4_init_5 22 rfl rfl
theorem dksX4_init_7 : cX4_init.data.toList.drop 164 = dktX4_init_7 := dk_seg dksX4_init_6 24 rfl rfl
theorem dX4_init_0 : decode cX4_init 0 = .ok (.aload_n 0, 1) := dk_42 (dk_at dksX4_init_0 0 rfl rfl)
theorem dX4_init_1 : decode cX4_init 1 = .ok (.invokespecial 3, 3) := dk_183 0 3 (dk_at dksX4_init_0 1 rfl rfl)
theorem dX4_init_4 : decode cX4_init 4 = .ok (.aload_n 0, 1) := dk_42 (dk_at dksX4_init_0 4 rfl rfl)
theorem dX4_init_5 : decode cX4_init 5 = .ok (.iconst (-1), 1) := dk_2 (dk_at dksX4_init_0 5 rfl rfl)
theorem dX4_init_6 : decode cX4_init 6 = .ok (.putfield 9, 3) := dk_181 0 9 (dk_at dksX4_init_0 6 rfl rfl)
theorem dX4_init_9 : decode cX4_init 9 = .ok (.aload_n 0, 1) := dk_42 (dk_at dksX4_init_0 9 rfl rfl)
theorem dX4_init_10 : decode cX4_init 10 = .ok (.sipush 900, 3) := dk_17 3 132 (dk_at dksX4_init_0 10 rfl rfl)
theorem dX4_init_13 : decode cX4_init 13 = .ok (.newarray .int, 2) := dk_188_10 (dk_at dksX4_init_0 13 rfl rfl)
theorem dX4_init_15 : decode cX4_init 15 = .ok (.putfield 13, 3) := dk_181 0 13 (dk_at dksX4_init_0 15 rfl rfl)
theorem dX4_init_18 : decode cX4_init 18 = .ok (.aload_n 0, 1) := dk_42 (dk_at dksX4_init_0 18 rfl rfl)
theorem dX4_init_19 : decode cX4_init 19 = .ok (.sipush 985, 3) := dk_17 3 217 (dk_at dksX4_init_0 19 rfl rfl)
theorem dX4_init_22 : decode cX4_init 22 = .ok (.newarray .int, 2) := dk_188_10 (dk_at dksX4_init_0 22 rfl rfl)
theorem dX4_init_24 : decode cX4_init 24 = .ok (.putfield 17, 3) := dk_181 0 17 (dk_at dksX4_init_1 0 rfl rfl)
theorem dX4_init_27 : decode cX4_init 27 = .ok (.aload_n 0, 1) := dk_42 (dk_at dksX4_init_1 3 rfl rfl)
theorem dX4_init_28 : decode cX4_init 28 = .ok (.sipush 985, 3) := dk_17 3 217 (dk_at dksX4_init_1 4 rfl rfl)
theorem dX4_init_31 : decode cX4_init 31 = .ok (.newarray .int, 2) := dk_188_10 (dk_at dksX4_init_1 7 rfl rfl)
theorem dX4_init_33 : decode cX4_init 33 = .ok (.putfield 20, 3) := dk_181 0 20 (dk_at dksX4_init_1 9 rfl rfl)
theorem dX4_init_36 : decode cX4_init 36 = .ok (.aload_n 0, 1) := dk_42 (dk_at dksX4_init_1 12 rfl rfl)
theorem dX4_init_37 : decode cX4_init 37 = .ok (.sipush 985, 3) := dk_17 3 217 (dk_at dksX4_init_1 13 rfl rfl)
theorem dX4_init_40 : decode cX4_init 40 = .ok (.newarray .int, 2) := dk_188_10 (dk_at dksX4_init_1 16 rfl rfl)
theorem dX4_init_42 : decode cX4_init 42 = .ok (.putfield 23, 3) := dk_181 0 23 (dk_at dksX4_init_1 18 rfl rfl)
theorem dX4_init_45 : decode cX4_init 45 = .ok (.aload_n 0, 1) := dk_42 (dk_at dksX4_init_1 21 rfl rfl)
theorem dX4_init_46 : decode cX4_init 46 = .ok (.sipush 9850, 3) := dk_17 38 122 (dk_at dksX4_init_2 0 rfl rfl)
theorem dX4_init_49 : decode cX4_init 49 = .ok (.newarray .int, 2) := dk_188_10 (dk_at dksX4_init_2 3 rfl rfl)
theorem dX4_init_51 : decode cX4_init 51 = .ok (.putfield 26, 3) := dk_181 0 26 (dk_at dksX4_init_2 5 rfl rfl)
theorem dX4_init_54 : decode cX4_init 54 = .ok (.aload_n 0, 1) := dk_42 (dk_at dksX4_init_2 8 rfl rfl)
theorem dX4_init_55 : decode cX4_init 55 = .ok (.bipush 10, 2) := dk_16 10 (dk_at dksX4_init_2 9 rfl rfl)
theorem dX4_init_57 : decode cX4_init 57 = .ok (.newarray .long, 2) := dk_188_11 (dk_at dksX4_init_2 11 rfl rfl)
theorem dX4_init_59 : decode cX4_init 59 = .ok (.putfield 29, 3) := dk_181 0 29 (dk_at dksX4_init_2 13 rfl rfl)
theorem dX4_init_62 : decode cX4_init 62 = .ok (.aload_n 0, 1) := dk_42 (dk_at dksX4_init_2 16 rfl rfl)
theorem dX4_init_63 : decode cX4_init 63 = .ok (.bipush 8, 2) := dk_16 8 (dk_at dksX4_init_2 17 rfl rfl)
theorem dX4_init_65 : decode cX4_init 65 = .ok (.newarray .long, 2) := dk_188_11 (dk_at dksX4_init_2 19 rfl rfl)
theorem dX4_init_67 : decode cX4_init 67 = .ok (.putfield 33, 3) := dk_181 0 33 (dk_at dksX4_init_2 21 rfl rfl)
theorem dX4_init_70 : decode cX4_init 70 = .ok (.aload_n 0, 1) := dk_42 (dk_at dksX4_init_3 0 rfl rfl)
theorem dX4_init_71 : decode cX4_init 71 = .ok (.bipush 7, 2) := dk_16 7 (dk_at dksX4_init_3 1 rfl rfl)
theorem dX4_init_73 : decode cX4_init 73 = .ok (.newarray .int, 2) := dk_188_10 (dk_at dksX4_init_3 3 rfl rfl)
theorem dX4_init_75 : decode cX4_init 75 = .ok (.putfield 36, 3) := dk_181 0 36 (dk_at dksX4_init_3 5 rfl rfl)
theorem dX4_init_78 : decode cX4_init 78 = .ok (.aload_n 0, 1) := dk_42 (dk_at dksX4_init_3 8 rfl rfl)
theorem dX4_init_79 : decode cX4_init 79 = .ok (.bipush 120, 2) := dk_16 120 (dk_at dksX4_init_3 9 rfl rfl)
theorem dX4_init_81 : decode cX4_init 81 = .ok (.newarray .int, 2) := dk_188_10 (dk_at dksX4_init_3 11 rfl rfl)
theorem dX4_init_83 : decode cX4_init 83 = .ok (.putfield 39, 3) := dk_181 0 39 (dk_at dksX4_init_3 13 rfl rfl)
theorem dX4_init_86 : decode cX4_init 86 = .ok (.aload_n 0, 1) := dk_42 (dk_at dksX4_init_3 16 rfl rfl)
theorem dX4_init_87 : decode cX4_init 87 = .ok (.bipush 120, 2) := dk_16 120 (dk_at dksX4_init_3 17 rfl rfl)
theorem dX4_init_89 : decode cX4_init 89 = .ok (.newarray .int, 2) := dk_188_10 (dk_at dksX4_init_3 19 rfl rfl)
theorem dX4_init_91 : decode cX4_init 91 = .ok (.putfield 42, 3) := dk_181 0 42 (dk_at dksX4_init_3 21 rfl rfl)
theorem dX4_init_94 : decode cX4_init 94 = .ok (.aload_n 0, 1) := dk_42 (dk_at dksX4_init_4 0 rfl rfl)
theorem dX4_init_95 : decode cX4_init 95 = .ok (.bipush 120, 2) := dk_16 120 (dk_at dksX4_init_4 1 rfl rfl)
theorem dX4_init_97 : decode cX4_init 97 = .ok (.newarray .int, 2) := dk_188_10 (dk_at dksX4_init_4 3 rfl rfl)
theorem dX4_init_99 : decode cX4_init 99 = .ok (.putfield 45, 3) := dk_181 0 45 (dk_at dksX4_init_4 5 rfl rfl)
theorem dX4_init_102 : decode cX4_init 102 = .ok (.aload_n 0, 1) := dk_42 (dk_at dksX4_init_4 8 rfl rfl)
theorem dX4_init_103 : decode cX4_init 103 = .ok (.bipush 120, 2) := dk_16 120 (dk_at dksX4_init_4 9 rfl rfl)
theorem dX4_init_105 : decode cX4_init 105 = .ok (.newarray .int, 2) := dk_188_10 (dk_at dksX4_init_4 11 rfl rfl)
theorem dX4_init_107 : decode cX4_init 107 = .ok (.putfield 48, 3) := dk_181 0 48 (dk_at dksX4_init_4 13 rfl rfl)
theorem dX4_init_110 : decode cX4_init 110 = .ok (.aload_n 0, 1) := dk_42 (dk_at dksX4_init_4 16 rfl rfl)
theorem dX4_init_111 : decode cX4_init 111 = .ok (.bipush 120, 2) := dk_16 120 (dk_at dksX4_init_4 17 rfl rfl)
theorem dX4_init_113 : decode cX4_init 113 = .ok (.newarray .int, 2) := dk_188_10 (dk_at dksX4_init_4 19 rfl rfl)
theorem dX4_init_115 : decode cX4_init 115 = .ok (.putfield 51, 3) := dk_181 0 51 (dk_at dksX4_init_4 21 rfl rfl)
theorem dX4_init_118 : decode cX4_init 118 = .ok (.aload_n 0, 1) := dk_42 (dk_at dksX4_init_5 0 rfl rfl)
theorem dX4_init_119 : decode cX4_init 119 = .ok (.sipush 14400, 3) := dk_17 56 64 (dk_at dksX4_init_5 1 rfl rfl)
theorem dX4_init_122 : decode cX4_init 122 = .ok (.newarray .int, 2) := dk_188_10 (dk_at dksX4_init_5 4 rfl rfl)
theorem dX4_init_124 : decode cX4_init 124 = .ok (.putfield 54, 3) := dk_181 0 54 (dk_at dksX4_init_5 6 rfl rfl)
theorem dX4_init_127 : decode cX4_init 127 = .ok (.aload_n 0, 1) := dk_42 (dk_at dksX4_init_5 9 rfl rfl)
theorem dX4_init_128 : decode cX4_init 128 = .ok (.bipush 120, 2) := dk_16 120 (dk_at dksX4_init_5 10 rfl rfl)
theorem dX4_init_130 : decode cX4_init 130 = .ok (.newarray .int, 2) := dk_188_10 (dk_at dksX4_init_5 12 rfl rfl)
theorem dX4_init_132 : decode cX4_init 132 = .ok (.putfield 57, 3) := dk_181 0 57 (dk_at dksX4_init_5 14 rfl rfl)
theorem dX4_init_135 : decode cX4_init 135 = .ok (.aload_n 0, 1) := dk_42 (dk_at dksX4_init_5 17 rfl rfl)
theorem dX4_init_136 : decode cX4_init 136 = .ok (.bipush 120, 2) := dk_16 120 (dk_at dksX4_init_5 18 rfl rfl)
theorem dX4_init_138 : decode cX4_init 138 = .ok (.newarray .int, 2) := dk_188_10 (dk_at dksX4_init_5 20 rfl rfl)
theorem dX4_init_140 : decode cX4_init 140 = .ok (.putfield 60, 3) := dk_181 0 60 (dk_at dksX4_init_6 0 rfl rfl)
theorem dX4_init_143 : decode cX4_init 143 = .ok (.aload_n 0, 1) := dk_42 (dk_at dksX4_init_6 3 rfl rfl)
theorem dX4_init_144 : decode cX4_init 144 = .ok (.bipush 120, 2) := dk_16 120 (dk_at dksX4_init_6 4 rfl rfl)
theorem dX4_init_146 : decode cX4_init 146 = .ok (.newarray .int, 2) := dk_188_10 (dk_at dksX4_init_6 6 rfl rfl)
theorem dX4_init_148 : decode cX4_init 148 = .ok (.putfield 63, 3) := dk_181 0 63 (dk_at dksX4_init_6 8 rfl rfl)
theorem dX4_init_151 : decode cX4_init 151 = .ok (.aload_n 0, 1) := dk_42 (dk_at dksX4_init_6 11 rfl rfl)
theorem dX4_init_152 : decode cX4_init 152 = .ok (.bipush 120, 2) := dk_16 120 (dk_at dksX4_init_6 12 rfl rfl)
theorem dX4_init_154 : decode cX4_init 154 = .ok (.newarray .int, 2) := dk_188_10 (dk_at dksX4_init_6 14 rfl rfl)
theorem dX4_init_156 : decode cX4_init 156 = .ok (.putfield 66, 3) := dk_181 0 66 (dk_at dksX4_init_6 16 rfl rfl)
theorem dX4_init_159 : decode cX4_init 159 = .ok (.aload_n 0, 1) := dk_42 (dk_at dksX4_init_6 19 rfl rfl)
theorem dX4_init_160 : decode cX4_init 160 = .ok (.bipush 120, 2) := dk_16 120 (dk_at dksX4_init_6 20 rfl rfl)
theorem dX4_init_162 : decode cX4_init 162 = .ok (.newarray .int, 2) := dk_188_10 (dk_at dksX4_init_6 22 rfl rfl)
theorem dX4_init_164 : decode cX4_init 164 = .ok (.putfield 69, 3) := dk_181 0 69 (dk_at dksX4_init_7 0 rfl rfl)
theorem dX4_init_167 : decode cX4_init 167 = .ok (.aload_n 0, 1) := dk_42 (dk_at dksX4_init_7 3 rfl rfl)
theorem dX4_init_168 : decode cX4_init 168 = .ok (.bipush 120, 2) := dk_16 120 (dk_at dksX4_init_7 4 rfl rfl)
theorem dX4_init_170 : decode cX4_init 170 = .ok (.newarray .int, 2) := dk_188_10 (dk_at dksX4_init_7 6 rfl rfl)
theorem dX4_init_172 : decode cX4_init 172 = .ok (.putfield 72, 3) := dk_181 0 72 (dk_at dksX4_init_7 8 rfl rfl)
theorem dX4_init_175 : decode cX4_init 175 = .ok (.aload_n 0, 1) := dk_42 (dk_at dksX4_init_7 11 rfl rfl)
theorem dX4_init_176 : decode cX4_init 176 = .ok (.bipush 10, 2) := dk_16 10 (dk_at dksX4_init_7 12 rfl rfl)
theorem dX4_init_178 : decode cX4_init 178 = .ok (.newarray .int, 2) := dk_188_10 (dk_at dksX4_init_7 14 rfl rfl)
theorem dX4_init_180 : decode cX4_init 180 = .ok (.putfield 75, 3) := dk_181 0 75 (dk_at dksX4_init_7 16 rfl rfl)
theorem dX4_init_183 : decode cX4_init 183 = .ok (.return_, 1) := dk_177 (dk_at dksX4_init_7 19 rfl rfl)
abbrev cX4_thrown : ByteArray := prog_15_method_2_code
def yX4_thrown : MethodName := ⟨RX4, "thrown", "()I"⟩
theorem dX4_thrown_0 : decode cX4_thrown 0 = .ok (.aload_n 0, 1) := by decide +kernel
theorem dX4_thrown_1 : decode cX4_thrown 1 = .ok (.getfield 78, 3) := by decide +kernel
theorem dX4_thrown_4 : decode cX4_thrown 4 = .ok (.ireturn, 1) := by decide +kernel
abbrev cX4_feed : ByteArray := prog_15_method_8_code
def yX4_feed : MethodName := ⟨RX4, "feed", "(IIIII)I"⟩
def dkwX4_feed_2 : List UInt8 := [172]
abbrev dktX4_feed_2 : List UInt8 := dkwX4_feed_2 ++ []
def dkwX4_feed_1 : List UInt8 := [182, 0, 87, 42, 29, 182, 0, 87, 42, 21, 4, 182, 0, 87, 42, 21, 5, 182, 0, 87, 42, 180, 0, 84]
abbrev dktX4_feed_1 : List UInt8 := dkwX4_feed_1 ++ dktX4_feed_2
def dkwX4_feed_0 : List UInt8 := [42, 3, 181, 0, 78, 42, 180, 0, 84, 17, 3, 112, 164, 0, 5, 2, 172, 42, 27, 182, 0, 87, 42, 28]
abbrev dktX4_feed_0 : List UInt8 := dkwX4_feed_0 ++ dktX4_feed_1
theorem dksX4_feed_0 : cX4_feed.data.toList.drop 0 = dktX4_feed_0 := by decide +kernel
theorem dksX4_feed_1 : cX4_feed.data.toList.drop 24 = dktX4_feed_1 := dk_seg dksX4_feed_0 24 rfl rfl
theorem dksX4_feed_2 : cX4_feed.data.toList.drop 48 = dktX4_feed_2 := dk_seg dksX4_feed_1 24 rfl rfl
theorem dX4_feed_0 : decode cX4_feed 0 = .ok (.aload_n 0, 1) := dk_42 (dk_at dksX4_feed_0 0 rfl rfl)
theorem dX4_feed_1 : decode cX4_feed 1 = .ok (.iconst 0, 1) := dk_3 (dk_at dksX4_feed_0 1 rfl rfl)
theorem dX4_feed_2 : decode cX4_feed 2 = .ok (.putfield 78, 3) := dk_181 0 78 (dk_at dksX4_feed_0 2 rfl rfl)
theorem dX4_feed_5 : decode cX4_feed 5 = .ok (.aload_n 0, 1) := dk_42 (dk_at dksX4_feed_0 5 rfl rfl)
theorem dX4_feed_6 : decode cX4_feed 6 = .ok (.getfield 84, 3) := dk_180 0 84 (dk_at dksX4_feed_0 6 rfl rfl)
theorem dX4_feed_9 : decode cX4_feed 9 = .ok (.sipush 880, 3) := dk_17 3 112 (dk_at dksX4_feed_0 9 rfl rfl)
theorem dX4_feed_12 : decode cX4_feed 12 = .ok (.if_icmp .le 5, 3) := dk_164 0 5 (dk_at dksX4_feed_0 12 rfl rfl)
theorem dX4_feed_15 : decode cX4_feed 15 = .ok (.iconst (-1), 1) := dk_2 (dk_at dksX4_feed_0 15 rfl rfl)
theorem dX4_feed_16 : decode cX4_feed 16 = .ok (.ireturn, 1) := dk_172 (dk_at dksX4_feed_0 16 rfl rfl)
theorem dX4_feed_17 : decode cX4_feed 17 = .ok (.aload_n 0, 1) := dk_42 (dk_at dksX4_feed_0 17 rfl rfl)
theorem dX4_feed_18 : decode cX4_feed 18 = .ok (.iload_n 1, 1) := dk_27 (dk_at dksX4_feed_0 18 rfl rfl)
theorem dX4_feed_19 : decode cX4_feed 19 = .ok (.invokevirtual 87, 3) := dk_182 0 87 (dk_at dksX4_feed_0 19 rfl rfl)
theorem dX4_feed_22 : decode cX4_feed 22 = .ok (.aload_n 0, 1) := dk_42 (dk_at dksX4_feed_0 22 rfl rfl)
theorem dX4_feed_23 : decode cX4_feed 23 = .ok (.iload_n 2, 1) := dk_28 (dk_at dksX4_feed_0 23 rfl rfl)
theorem dX4_feed_24 : decode cX4_feed 24 = .ok (.invokevirtual 87, 3) := dk_182 0 87 (dk_at dksX4_feed_1 0 rfl rfl)
theorem dX4_feed_27 : decode cX4_feed 27 = .ok (.aload_n 0, 1) := dk_42 (dk_at dksX4_feed_1 3 rfl rfl)
theorem dX4_feed_28 : decode cX4_feed 28 = .ok (.iload_n 3, 1) := dk_29 (dk_at dksX4_feed_1 4 rfl rfl)
theorem dX4_feed_29 : decode cX4_feed 29 = .ok (.invokevirtual 87, 3) := dk_182 0 87 (dk_at dksX4_feed_1 5 rfl rfl)
theorem dX4_feed_32 : decode cX4_feed 32 = .ok (.aload_n 0, 1) := dk_42 (dk_at dksX4_feed_1 8 rfl rfl)
theorem dX4_feed_33 : decode cX4_feed 33 = .ok (.iload 4, 2) := dk_21 4 (dk_at dksX4_feed_1 9 rfl rfl)
theorem dX4_feed_35 : decode cX4_feed 35 = .ok (.invokevirtual 87, 3) := dk_182 0 87 (dk_at dksX4_feed_1 11 rfl rfl)
theorem dX4_feed_38 : decode cX4_feed 38 = .ok (.aload_n 0, 1) := dk_42 (dk_at dksX4_feed_1 14 rfl rfl)
theorem dX4_feed_39 : decode cX4_feed 39 = .ok (.iload 5, 2) := dk_21 5 (dk_at dksX4_feed_1 15 rfl rfl)
theorem dX4_feed_41 : decode cX4_feed 41 = .ok (.invokevirtual 87, 3) := dk_182 0 87 (dk_at dksX4_feed_1 17 rfl rfl)
theorem dX4_feed_44 : decode cX4_feed 44 = .ok (.aload_n 0, 1) := dk_42 (dk_at dksX4_feed_1 20 rfl rfl)
theorem dX4_feed_45 : decode cX4_feed 45 = .ok (.getfield 84, 3) := dk_180 0 84 (dk_at dksX4_feed_1 21 rfl rfl)
theorem dX4_feed_48 : decode cX4_feed 48 = .ok (.ireturn, 1) := dk_172 (dk_at dksX4_feed_2 0 rfl rfl)
abbrev cX4_laysWord : ByteArray := prog_15_method_9_code
def yX4_laysWord : MethodName := ⟨RX4, "laysWord", "(I)V"⟩
def dkwX4_laysWord_1 : List UInt8 := [100, 122, 17, 0, 255, 126, 79, 132, 2, 1, 167, 255, 224, 42, 89, 180, 0, 84, 7, 96, 181, 0, 84, 177]
abbrev dktX4_laysWord_1 : List UInt8 := dkwX4_laysWord_1 ++ []
def dkwX4_laysWord_0 : List UInt8 := [3, 61, 28, 7, 162, 0, 33, 42, 180, 0, 13, 42, 180, 0, 84, 28, 96, 27, 16, 24, 16, 8, 28, 104]
abbrev dktX4_laysWord_0 : List UInt8 := dkwX4_laysWord_0 ++ dktX4_laysWord_1
theorem dksX4_laysWord_0 : cX4_laysWord.data.toList.drop 0 = dktX4_laysWord_0 := by decide +kernel
theorem dksX4_laysWord_1 : cX4_laysWord.data.toList.drop 24 = dktX4_laysWord_1 := dk_seg dksX4_laysWord_0 24 rfl rfl
theorem dX4_laysWord_0 : decode cX4_laysWord 0 = .ok (.iconst 0, 1) := dk_3 (dk_at dksX4_laysWord_0 0 rfl rfl)
theorem dX4_laysWord_1 : decode cX4_laysWord 1 = .ok (.istore_n 2, 1) := dk_61 (dk_at dksX4_laysWord_0 1 rfl rfl)
theorem dX4_laysWord_2 : decode cX4_laysWord 2 = .ok (.iload_n 2, 1) := dk_28 (dk_at dksX4_laysWord_0 2 rfl rfl)
theorem dX4_laysWord_3 : decode cX4_laysWord 3 = .ok (.iconst 4, 1) := dk_7 (dk_at dksX4_laysWord_0 3 rfl rfl)
theorem dX4_laysWord_4 : decode cX4_laysWord 4 = .ok (.if_icmp .ge 33, 3) := dk_162 0 33 (dk_at dksX4_laysWord_0 4 rfl rfl)
theorem dX4_laysWord_7 : decode cX4_laysWord 7 = .ok (.aload_n 0, 1) := dk_42 (dk_at dksX4_laysWord_0 7 rfl rfl)
theorem dX4_laysWord_8 : decode cX4_laysWord 8 = .ok (.getfield 13, 3) := dk_180 0 13 (dk_at dksX4_laysWord_0 8 rfl rfl)
theorem dX4_laysWord_11 : decode cX4_laysWord 11 = .ok (.aload_n 0, 1) := dk_42 (dk_at dksX4_laysWord_0 11 rfl rfl)
theorem dX4_laysWord_12 : decode cX4_laysWord 12 = .ok (.getfield 84, 3) := dk_180 0 84 (dk_at dksX4_laysWord_0 12 rfl rfl)
theorem dX4_laysWord_15 : decode cX4_laysWord 15 = .ok (.iload_n 2, 1) := dk_28 (dk_at dksX4_laysWord_0 15 rfl rfl)
theorem dX4_laysWord_16 : decode cX4_laysWord 16 = .ok (.iadd, 1) := dk_96 (dk_at dksX4_laysWord_0 16 rfl rfl)
theorem dX4_laysWord_17 : decode cX4_laysWord 17 = .ok (.iload_n 1, 1) := dk_27 (dk_at dksX4_laysWord_0 17 rfl rfl)
theorem dX4_laysWord_18 : decode cX4_laysWord 18 = .ok (.bipush 24, 2) := dk_16 24 (dk_at dksX4_laysWord_0 18 rfl rfl)
theorem dX4_laysWord_20 : decode cX4_laysWord 20 = .ok (.bipush 8, 2) := dk_16 8 (dk_at dksX4_laysWord_0 20 rfl rfl)
theorem dX4_laysWord_22 : decode cX4_laysWord 22 = .ok (.iload_n 2, 1) := dk_28 (dk_at dksX4_laysWord_0 22 rfl rfl)
theorem dX4_laysWord_23 : decode cX4_laysWord 23 = .ok (.imul, 1) := dk_104 (dk_at dksX4_laysWord_0 23 rfl rfl)
theorem dX4_laysWord_24 : decode cX4_laysWord 24 = .ok (.isub, 1) := dk_100 (dk_at dksX4_laysWord_1 0 rfl rfl)
theorem dX4_laysWord_25 : decode cX4_laysWord 25 = .ok (.ishr, 1) := dk_122 (dk_at dksX4_laysWord_1 1 rfl rfl)
theorem dX4_laysWord_26 : decode cX4_laysWord 26 = .ok (.sipush 255, 3) := dk_17 0 255 (dk_at dksX4_laysWord_1 2 rfl rfl)
theorem dX4_laysWord_29 : decode cX4_laysWord 29 = .ok (.iand, 1) := dk_126 (dk_at dksX4_laysWord_1 5 rfl rfl)
theorem dX4_laysWord_30 : decode cX4_laysWord 30 = .ok (.iastore, 1) := dk_79 (dk_at dksX4_laysWord_1 6 rfl rfl)
theorem dX4_laysWord_31 : decode cX4_laysWord 31 = .ok (.iinc 2 1, 3) := dk_132 2 1 (dk_at dksX4_laysWord_1 7 rfl rfl)
theorem dX4_laysWord_34 : decode cX4_laysWord 34 = .ok (.goto (-32), 3) := dk_167 255 224 (dk_at dksX4_laysWord_1 10 rfl rfl)
theorem dX4_laysWord_37 : decode cX4_laysWord 37 = .ok (.aload_n 0, 1) := dk_42 (dk_at dksX4_laysWord_1 13 rfl rfl)
theorem dX4_laysWord_38 : decode cX4_laysWord 38 = .ok (.dup, 1) := dk_89 (dk_at dksX4_laysWord_1 14 rfl rfl)
theorem dX4_laysWord_39 : decode cX4_laysWord 39 = .ok (.getfield 84, 3) := dk_180 0 84 (dk_at dksX4_laysWord_1 15 rfl rfl)
theorem dX4_laysWord_42 : decode cX4_laysWord 42 = .ok (.iconst 4, 1) := dk_7 (dk_at dksX4_laysWord_1 18 rfl rfl)
theorem dX4_laysWord_43 : decode cX4_laysWord 43 = .ok (.iadd, 1) := dk_96 (dk_at dksX4_laysWord_1 19 rfl rfl)
theorem dX4_laysWord_44 : decode cX4_laysWord 44 = .ok (.putfield 84, 3) := dk_181 0 84 (dk_at dksX4_laysWord_1 20 rfl rfl)
theorem dX4_laysWord_47 : decode cX4_laysWord 47 = .ok (.return_, 1) := dk_177 (dk_at dksX4_laysWord_1 23 rfl rfl)
abbrev cX4_desk : ByteArray := prog_15_method_33_code
def yX4_desk : MethodName := ⟨RX4, "desk", "(I)I"⟩
def dkwX4_desk_4 : List UInt8 := [46, 172]
abbrev dktX4_desk_4 : List UInt8 := dkwX4_desk_4 ++ []
def dkwX4_desk_3 : List UInt8 := [3, 42, 180, 0, 17, 3, 184, 0, 240, 42, 4, 181, 0, 244, 42, 3, 181, 0, 247, 42, 180, 0, 17, 7]
abbrev dktX4_desk_3 : List UInt8 := dkwX4_desk_3 ++ dktX4_desk_4
def dkwX4_desk_2 : List UInt8 := [180, 0, 124, 181, 0, 231, 42, 42, 180, 0, 127, 181, 0, 9, 42, 7, 182, 0, 237, 172, 42, 180, 0, 20]
abbrev dktX4_desk_2 : List UInt8 := dkwX4_desk_2 ++ dktX4_desk_3
def dkwX4_desk_1 : List UInt8 := [2, 172, 42, 3, 181, 0, 84, 42, 3, 181, 0, 231, 42, 27, 182, 0, 234, 154, 0, 25, 42, 42]
abbrev dktX4_desk_1 : List UInt8 := dkwX4_desk_1 ++ dktX4_desk_2
def dkwX4_desk_0 : List UInt8 := [42, 27, 3, 42, 180, 0, 84, 184, 0, 107, 153, 0, 7, 3, 167, 0, 4, 5, 182, 0, 228, 153, 0, 5]
abbrev dktX4_desk_0 : List UInt8 := dkwX4_desk_0 ++ dktX4_desk_1
theorem dksX4_desk_0 : cX4_desk.data.toList.drop 0 = dktX4_desk_0 := by decide +kernel
theorem dksX4_desk_1 : cX4_desk.data.toList.drop 24 = dktX4_desk_1 := dk_seg dksX4_desk_0 24 rfl rfl
theorem dksX4_desk_2 : cX4_desk.data.toList.drop 46 = dktX4_desk_2 := dk_seg dksX4_desk_1 22 rfl rfl
theorem dksX4_desk_3 : cX4_desk.data.toList.drop 70 = dktX4_desk_3 := dk_seg dksX4_desk_2 24 rfl rfl
theorem dksX4_desk_4 : cX4_desk.data.toList.drop 94 = dktX4_desk_4 := dk_seg dksX4_desk_3 24 rfl rfl
theorem dX4_desk_0 : decode cX4_desk 0 = .ok (.aload_n 0, 1) := dk_42 (dk_at dksX4_desk_0 0 rfl rfl)
theorem dX4_desk_1 : decode cX4_desk 1 = .ok (.iload_n 1, 1) := dk_27 (dk_at dksX4_desk_0 1 rfl rfl)
theorem dX4_desk_2 : decode cX4_desk 2 = .ok (.iconst 0, 1) := dk_3 (dk_at dksX4_desk_0 2 rfl rfl)
theorem dX4_desk_3 : decode cX4_desk 3 = .ok (.aload_n 0, 1) := dk_42 (dk_at dksX4_desk_0 3 rfl rfl)
theorem dX4_desk_4 : decode cX4_desk 4 = .ok (.getfield 84, 3) := dk_180 0 84 (dk_at dksX4_desk_0 4 rfl rfl)
theorem dX4_desk_7 : decode cX4_desk 7 = .ok (.invokestatic 107, 3) := dk_184 0 107 (dk_at dksX4_desk_0 7 rfl rfl)
theorem dX4_desk_10 : decode cX4_desk 10 = .ok (.ifCond .eq 7, 3) := dk_153 0 7 (dk_at dksX4_desk_0 10 rfl rfl)
theorem dX4_desk_13 : decode cX4_desk 13 = .ok (.iconst 0, 1) := dk_3 (dk_at dksX4_desk_0 13 rfl rfl)
theorem dX4_desk_14 : decode cX4_desk 14 = .ok (.goto 4, 3) := dk_167 0 4 (dk_at dksX4_desk_0 14 rfl rfl)
theorem dX4_desk_17 : decode cX4_desk 17 = .ok (.iconst 2, 1) := dk_5 (dk_at dksX4_desk_0 17 rfl rfl)
theorem dX4_desk_18 : decode cX4_desk 18 = .ok (.invokevirtual 228, 3) := dk_182 0 228 (dk_at dksX4_desk_0 18 rfl rfl)
theorem dX4_desk_21 : decode cX4_desk 21 = .ok (.ifCond .eq 5, 3) := dk_153 0 5 (dk_at dksX4_desk_0 21 rfl rfl)
theorem dX4_desk_24 : decode cX4_desk 24 = .ok (.iconst (-1), 1) := dk_2 (dk_at dksX4_desk_1 0 rfl rfl)
theorem dX4_desk_25 : decode cX4_desk 25 = .ok (.ireturn, 1) := dk_172 (dk_at dksX4_desk_1 1 rfl rfl)
theorem dX4_desk_26 : decode cX4_desk 26 = .ok (.aload_n 0, 1) := dk_42 (dk_at dksX4_desk_1 2 rfl rfl)
theorem dX4_desk_27 : decode cX4_desk 27 = .ok (.iconst 0, 1) := dk_3 (dk_at dksX4_desk_1 3 rfl rfl)
theorem dX4_desk_28 : decode cX4_desk 28 = .ok (.putfield 84, 3) := dk_181 0 84 (dk_at dksX4_desk_1 4 rfl rfl)
theorem dX4_desk_31 : decode cX4_desk 31 = .ok (.aload_n 0, 1) := dk_42 (dk_at dksX4_desk_1 7 rfl rfl)
theorem dX4_desk_32 : decode cX4_desk 32 = .ok (.iconst 0, 1) := dk_3 (dk_at dksX4_desk_1 8 rfl rfl)
theorem dX4_desk_33 : decode cX4_desk 33 = .ok (.putfield 231, 3) := dk_181 0 231 (dk_at dksX4_desk_1 9 rfl rfl)
theorem dX4_desk_36 : decode cX4_desk 36 = .ok (.aload_n 0, 1) := dk_42 (dk_at dksX4_desk_1 12 rfl rfl)
theorem dX4_desk_37 : decode cX4_desk 37 = .ok (.iload_n 1, 1) := dk_27 (dk_at dksX4_desk_1 13 rfl rfl)
theorem dX4_desk_38 : decode cX4_desk 38 = .ok (.invokevirtual 234, 3) := dk_182 0 234 (dk_at dksX4_desk_1 14 rfl rfl)
theorem dX4_desk_41 : decode cX4_desk 41 = .ok (.ifCond .ne 25, 3) := dk_154 0 25 (dk_at dksX4_desk_1 17 rfl rfl)
theorem dX4_desk_44 : decode cX4_desk 44 = .ok (.aload_n 0, 1) := dk_42 (dk_at dksX4_desk_1 20 rfl rfl)
theorem dX4_desk_45 : decode cX4_desk 45 = .ok (.aload_n 0, 1) := dk_42 (dk_at dksX4_desk_1 21 rfl rfl)
theorem dX4_desk_46 : decode cX4_desk 46 = .ok (.getfield 124, 3) := dk_180 0 124 (dk_at dksX4_desk_2 0 rfl rfl)
theorem dX4_desk_49 : decode cX4_desk 49 = .ok (.putfield 231, 3) := dk_181 0 231 (dk_at dksX4_desk_2 3 rfl rfl)
theorem dX4_desk_52 : decode cX4_desk 52 = .ok (.aload_n 0, 1) := dk_42 (dk_at dksX4_desk_2 6 rfl rfl)
theorem dX4_desk_53 : decode cX4_desk 53 = .ok (.aload_n 0, 1) := dk_42 (dk_at dksX4_desk_2 7 rfl rfl)
theorem dX4_desk_54 : decode cX4_desk 54 = .ok (.getfield 127, 3) := dk_180 0 127 (dk_at dksX4_desk_2 8 rfl rfl)
theorem dX4_desk_57 : decode cX4_desk 57 = .ok (.putfield 9, 3) := dk_181 0 9 (dk_at dksX4_desk_2 11 rfl rfl)
theorem dX4_desk_60 : decode cX4_desk 60 = .ok (.aload_n 0, 1) := dk_42 (dk_at dksX4_desk_2 14 rfl rfl)
theorem dX4_desk_61 : decode cX4_desk 61 = .ok (.iconst 4, 1) := dk_7 (dk_at dksX4_desk_2 15 rfl rfl)
theorem dX4_desk_62 : decode cX4_desk 62 = .ok (.invokevirtual 237, 3) := dk_182 0 237 (dk_at dksX4_desk_2 16 rfl rfl)
theorem dX4_desk_65 : decode cX4_desk 65 = .ok (.ireturn, 1) := dk_172 (dk_at dksX4_desk_2 19 rfl rfl)
theorem dX4_desk_66 : decode cX4_desk 66 = .ok (.aload_n 0, 1) := dk_42 (dk_at dksX4_desk_2 20 rfl rfl)
theorem dX4_desk_67 : decode cX4_desk 67 = .ok (.getfield 20, 3) := dk_180 0 20 (dk_at dksX4_desk_2 21 rfl rfl)
theorem dX4_desk_70 : decode cX4_desk 70 = .ok (.iconst 0, 1) := dk_3 (dk_at dksX4_desk_3 0 rfl rfl)
theorem dX4_desk_71 : decode cX4_desk 71 = .ok (.aload_n 0, 1) := dk_42 (dk_at dksX4_desk_3 1 rfl rfl)
theorem dX4_desk_72 : decode cX4_desk 72 = .ok (.getfield 17, 3) := dk_180 0 17 (dk_at dksX4_desk_3 2 rfl rfl)
theorem dX4_desk_75 : decode cX4_desk 75 = .ok (.iconst 0, 1) := dk_3 (dk_at dksX4_desk_3 5 rfl rfl)
theorem dX4_desk_76 : decode cX4_desk 76 = .ok (.invokestatic 240, 3) := dk_184 0 240 (dk_at dksX4_desk_3 6 rfl rfl)
theorem dX4_desk_79 : decode cX4_desk 79 = .ok (.aload_n 0, 1) := dk_42 (dk_at dksX4_desk_3 9 rfl rfl)
theorem dX4_desk_80 : decode cX4_desk 80 = .ok (.iconst 1, 1) := dk_4 (dk_at dksX4_desk_3 10 rfl rfl)
theorem dX4_desk_81 : decode cX4_desk 81 = .ok (.putfield 244, 3) := dk_181 0 244 (dk_at dksX4_desk_3 11 rfl rfl)
theorem dX4_desk_84 : decode cX4_desk 84 = .ok (.aload_n 0, 1) := dk_42 (dk_at dksX4_desk_3 14 rfl rfl)
theorem dX4_desk_85 : decode cX4_desk 85 = .ok (.iconst 0, 1) := dk_3 (dk_at dksX4_desk_3 15 rfl rfl)
theorem dX4_desk_86 : decode cX4_desk 86 = .ok (.putfield 247, 3) := dk_181 0 247 (dk_at dksX4_desk_3 16 rfl rfl)
theorem dX4_desk_89 : decode cX4_desk 89 = .ok (.aload_n 0, 1) := dk_42 (dk_at dksX4_desk_3 19 rfl rfl)
theorem dX4_desk_90 : decode cX4_desk 90 = .ok (.getfield 17, 3) := dk_180 0 17 (dk_at dksX4_desk_3 20 rfl rfl)
theorem dX4_desk_93 : decode cX4_desk 93 = .ok (.iconst 4, 1) := dk_7 (dk_at dksX4_desk_3 23 rfl rfl)
theorem dX4_desk_94 : decode cX4_desk 94 = .ok (.iaload, 1) := dk_46 (dk_at dksX4_desk_4 0 rfl rfl)
theorem dX4_desk_95 : decode cX4_desk 95 = .ok (.ireturn, 1) := dk_172 (dk_at dksX4_desk_4 1 rfl rfl)
abbrev cX4_in : ByteArray := prog_15_method_3_code
def yX4_in : MethodName := ⟨RX4, "in", "(III)Z"⟩
def dkwX4_in_0 : List UInt8 := [26, 27, 161, 0, 12, 26, 28, 163, 0, 7, 4, 167, 0, 4, 3, 172]
abbrev dktX4_in_0 : List UInt8 := dkwX4_in_0 ++ []
theorem dksX4_in_0 : cX4_in.data.toList.drop 0 = dktX4_in_0 := by decide +kernel
theorem dX4_in_0 : decode cX4_in 0 = .ok (.iload_n 0, 1) := dk_26 (dk_at dksX4_in_0 0 rfl rfl)
theorem dX4_in_1 : decode cX4_in 1 = .ok (.iload_n 1, 1) := dk_27 (dk_at dksX4_in_0 1 rfl rfl)
theorem dX4_in_2 : decode cX4_in 2 = .ok (.if_icmp .lt 12, 3) := dk_161 0 12 (dk_at dksX4_in_0 2 rfl rfl)
theorem dX4_in_5 : decode cX4_in 5 = .ok (.iload_n 0, 1) := dk_26 (dk_at dksX4_in_0 5 rfl rfl)
theorem dX4_in_6 : decode cX4_in 6 = .ok (.iload_n 2, 1) := dk_28 (dk_at dksX4_in_0 6 rfl rfl)
theorem dX4_in_7 : decode cX4_in 7 = .ok (.if_icmp .gt 7, 3) := dk_163 0 7 (dk_at dksX4_in_0 7 rfl rfl)
theorem dX4_in_10 : decode cX4_in 10 = .ok (.iconst 1, 1) := dk_4 (dk_at dksX4_in_0 10 rfl rfl)
theorem dX4_in_11 : decode cX4_in 11 = .ok (.goto 4, 3) := dk_167 0 4 (dk_at dksX4_in_0 11 rfl rfl)
theorem dX4_in_14 : decode cX4_in 14 = .ok (.iconst 0, 1) := dk_3 (dk_at dksX4_in_0 14 rfl rfl)
theorem dX4_in_15 : decode cX4_in 15 = .ok (.ireturn, 1) := dk_172 (dk_at dksX4_in_0 15 rfl rfl)
abbrev cX4_isRefused : ByteArray := prog_15_method_5_code
def yX4_isRefused : MethodName := ⟨RX4, "isRefused", "(I)Z"⟩
def dkwX4_isRefused_1 : List UInt8 := [172]
abbrev dktX4_isRefused_1 : List UInt8 := dkwX4_isRefused_1 ++ []
def dkwX4_isRefused_0 : List UInt8 := [42, 3, 181, 0, 78, 42, 2, 181, 0, 9, 42, 27, 181, 0, 81, 27, 153, 0, 7, 4, 167, 0, 4, 3]
abbrev dktX4_isRefused_0 : List UInt8 := dkwX4_isRefused_0 ++ dktX4_isRefused_1
theorem dksX4_isRefused_0 : cX4_isRefused.data.toList.drop 0 = dktX4_isRefused_0 := by decide +kernel
theorem dksX4_isRefused_1 : cX4_isRefused.data.toList.drop 24 = dktX4_isRefused_1 := dk_seg dksX4_isRefused_0 24 rfl rfl
theorem dX4_isRefused_0 : decode cX4_isRefused 0 = .ok (.aload_n 0, 1) := dk_42 (dk_at dksX4_isRefused_0 0 rfl rfl)
theorem dX4_isRefused_1 : decode cX4_isRefused 1 = .ok (.iconst 0, 1) := dk_3 (dk_at dksX4_isRefused_0 1 rfl rfl)
theorem dX4_isRefused_2 : decode cX4_isRefused 2 = .ok (.putfield 78, 3) := dk_181 0 78 (dk_at dksX4_isRefused_0 2 rfl rfl)
theorem dX4_isRefused_5 : decode cX4_isRefused 5 = .ok (.aload_n 0, 1) := dk_42 (dk_at dksX4_isRefused_0 5 rfl rfl)
theorem dX4_isRefused_6 : decode cX4_isRefused 6 = .ok (.iconst (-1), 1) := dk_2 (dk_at dksX4_isRefused_0 6 rfl rfl)
theorem dX4_isRefused_7 : decode cX4_isRefused 7 = .ok (.putfield 9, 3) := dk_181 0 9 (dk_at dksX4_isRefused_0 7 rfl rfl)
theorem dX4_isRefused_10 : decode cX4_isRefused 10 = .ok (.aload_n 0, 1) := dk_42 (dk_at dksX4_isRefused_0 10 rfl rfl)
theorem dX4_isRefused_11 : decode cX4_isRefused 11 = .ok (.iload_n 1, 1) := dk_27 (dk_at dksX4_isRefused_0 11 rfl rfl)
theorem dX4_isRefused_12 : decode cX4_isRefused 12 = .ok (.putfield 81, 3) := dk_181 0 81 (dk_at dksX4_isRefused_0 12 rfl rfl)
theorem dX4_isRefused_15 : decode cX4_isRefused 15 = .ok (.iload_n 1, 1) := dk_27 (dk_at dksX4_isRefused_0 15 rfl rfl)
theorem dX4_isRefused_16 : decode cX4_isRefused 16 = .ok (.ifCond .eq 7, 3) := dk_153 0 7 (dk_at dksX4_isRefused_0 16 rfl rfl)
theorem dX4_isRefused_19 : decode cX4_isRefused 19 = .ok (.iconst 1, 1) := dk_4 (dk_at dksX4_isRefused_0 19 rfl rfl)
theorem dX4_isRefused_20 : decode cX4_isRefused 20 = .ok (.goto 4, 3) := dk_167 0 4 (dk_at dksX4_isRefused_0 20 rfl rfl)
theorem dX4_isRefused_23 : decode cX4_isRefused 23 = .ok (.iconst 0, 1) := dk_3 (dk_at dksX4_isRefused_0 23 rfl rfl)
theorem dX4_isRefused_24 : decode cX4_isRefused 24 = .ok (.ireturn, 1) := dk_172 (dk_at dksX4_isRefused_1 0 rfl rfl)
abbrev cX4_readAll : ByteArray := prog_15_method_32_code
def yX4_readAll : MethodName := ⟨RX4, "readAll", "(I)Z"⟩
def dkwX4_readAll_4 : List UInt8 := [182, 0, 130, 153, 0, 7, 4, 167, 0, 4, 3, 172]
abbrev dktX4_readAll_4 : List UInt8 := dkwX4_readAll_4 ++ []
def dkwX4_readAll_3 : List UInt8 := [180, 0, 104, 153, 0, 9, 42, 4, 182, 0, 130, 172, 42, 180, 0, 20, 4, 46, 157, 0, 12, 42, 16, 6]
abbrev dktX4_readAll_3 : List UInt8 := dkwX4_readAll_3 ++ dktX4_readAll_4
def dkwX4_readAll_2 : List UInt8 := [172, 42, 180, 0, 104, 16, 59, 160, 0, 16, 42, 182, 0, 134, 42, 182, 0, 225, 154, 255, 239, 3, 172, 42]
abbrev dktX4_readAll_2 : List UInt8 := dkwX4_readAll_2 ++ dktX4_readAll_3
def dkwX4_readAll_1 : List UInt8 := [180, 0, 20, 28, 3, 79, 132, 2, 1, 167, 255, 241, 42, 182, 0, 134, 42, 182, 0, 225, 154, 0, 5, 3]
abbrev dktX4_readAll_1 : List UInt8 := dkwX4_readAll_1 ++ dktX4_readAll_2
def dkwX4_readAll_0 : List UInt8 := [42, 27, 181, 0, 91, 42, 3, 181, 0, 94, 42, 3, 181, 0, 166, 4, 61, 28, 7, 163, 0, 16, 42]
abbrev dktX4_readAll_0 : List UInt8 := dkwX4_readAll_0 ++ dktX4_readAll_1
theorem dksX4_readAll_0 : cX4_readAll.data.toList.drop 0 = dktX4_readAll_0 := by decide +kernel
theorem dksX4_readAll_1 : cX4_readAll.data.toList.drop 23 = dktX4_readAll_1 := dk_seg dksX4_readAll_0 23 rfl rfl
theorem dksX4_readAll_2 : cX4_readAll.data.toList.drop 47 = dktX4_readAll_2 := dk_seg dksX4_readAll_1 24 rfl rfl
theorem dksX4_readAll_3 : cX4_readAll.data.toList.drop 71 = dktX4_readAll_3 := dk_seg dksX4_readAll_2 24 rfl rfl
theorem dksX4_readAll_4 : cX4_readAll.data.toList.drop 95 = dktX4_readAll_4 := dk_seg dksX4_readAll_3 24 rfl rfl
theorem dX4_readAll_0 : decode cX4_readAll 0 = .ok (.aload_n 0, 1) := dk_42 (dk_at dksX4_readAll_0 0 rfl rfl)
theorem dX4_readAll_1 : decode cX4_readAll 1 = .ok (.iload_n 1, 1) := dk_27 (dk_at dksX4_readAll_0 1 rfl rfl)
theorem dX4_readAll_2 : decode cX4_readAll 2 = .ok (.putfield 91, 3) := dk_181 0 91 (dk_at dksX4_readAll_0 2 rfl rfl)
theorem dX4_readAll_5 : decode cX4_readAll 5 = .ok (.aload_n 0, 1) := dk_42 (dk_at dksX4_readAll_0 5 rfl rfl)
theorem dX4_readAll_6 : decode cX4_readAll 6 = .ok (.iconst 0, 1) := dk_3 (dk_at dksX4_readAll_0 6 rfl rfl)
theorem dX4_readAll_7 : decode cX4_readAll 7 = .ok (.putfield 94, 3) := dk_181 0 94 (dk_at dksX4_readAll_0 7 rfl rfl)
theorem dX4_readAll_10 : decode cX4_readAll 10 = .ok (.aload_n 0, 1) := dk_42 (dk_at dksX4_readAll_0 10 rfl rfl)
theorem dX4_readAll_11 : decode cX4_readAll 11 = .ok (.iconst 0, 1) := dk_3 (dk_at dksX4_readAll_0 11 rfl rfl)
theorem dX4_readAll_12 : decode cX4_readAll 12 = .ok (.putfield 166, 3) := dk_181 0 166 (dk_at dksX4_readAll_0 12 rfl rfl)
theorem dX4_readAll_15 : decode cX4_readAll 15 = .ok (.iconst 1, 1) := dk_4 (dk_at dksX4_readAll_0 15 rfl rfl)
theorem dX4_readAll_16 : decode cX4_readAll 16 = .ok (.istore_n 2, 1) := dk_61 (dk_at dksX4_readAll_0 16 rfl rfl)
theorem dX4_readAll_17 : decode cX4_readAll 17 = .ok (.iload_n 2, 1) := dk_28 (dk_at dksX4_readAll_0 17 rfl rfl)
theorem dX4_readAll_18 : decode cX4_readAll 18 = .ok (.iconst 4, 1) := dk_7 (dk_at dksX4_readAll_0 18 rfl rfl)
theorem dX4_readAll_19 : decode cX4_readAll 19 = .ok (.if_icmp .gt 16, 3) := dk_163 0 16 (dk_at dksX4_readAll_0 19 rfl rfl)
theorem dX4_readAll_22 : decode cX4_readAll 22 = .ok (.aload_n 0, 1) := dk_42 (dk_at dksX4_readAll_0 22 rfl rfl)
theorem dX4_readAll_23 : decode cX4_readAll 23 = .ok (.getfield 20, 3) := dk_180 0 20 (dk_at dksX4_readAll_1 0 rfl rfl)
theorem dX4_readAll_26 : decode cX4_readAll 26 = .ok (.iload_n 2, 1) := dk_28 (dk_at dksX4_readAll_1 3 rfl rfl)
theorem dX4_readAll_27 : decode cX4_readAll 27 = .ok (.iconst 0, 1) := dk_3 (dk_at dksX4_readAll_1 4 rfl rfl)
theorem dX4_readAll_28 : decode cX4_readAll 28 = .ok (.iastore, 1) := dk_79 (dk_at dksX4_readAll_1 5 rfl rfl)
theorem dX4_readAll_29 : decode cX4_readAll 29 = .ok (.iinc 2 1, 3) := dk_132 2 1 (dk_at dksX4_readAll_1 6 rfl rfl)
theorem dX4_readAll_32 : decode cX4_readAll 32 = .ok (.goto (-15), 3) := dk_167 255 241 (dk_at dksX4_readAll_1 9 rfl rfl)
theorem dX4_readAll_35 : decode cX4_readAll 35 = .ok (.aload_n 0, 1) := dk_42 (dk_at dksX4_readAll_1 12 rfl rfl)
theorem dX4_readAll_36 : decode cX4_readAll 36 = .ok (.invokevirtual 134, 3) := dk_182 0 134 (dk_at dksX4_readAll_1 13 rfl rfl)
theorem dX4_readAll_39 : decode cX4_readAll 39 = .ok (.aload_n 0, 1) := dk_42 (dk_at dksX4_readAll_1 16 rfl rfl)
theorem dX4_readAll_40 : decode cX4_readAll 40 = .ok (.invokevirtual 225, 3) := dk_182 0 225 (dk_at dksX4_readAll_1 17 rfl rfl)
theorem dX4_readAll_43 : decode cX4_readAll 43 = .ok (.ifCond .ne 5, 3) := dk_154 0 5 (dk_at dksX4_readAll_1 20 rfl rfl)
theorem dX4_readAll_46 : decode cX4_readAll 46 = .ok (.iconst 0, 1) := dk_3 (dk_at dksX4_readAll_1 23 rfl rfl)
theorem dX4_readAll_47 : decode cX4_readAll 47 = .ok (.ireturn, 1) := dk_172 (dk_at dksX4_readAll_2 0 rfl rfl)
theorem dX4_readAll_48 : decode cX4_readAll 48 = .ok (.aload_n 0, 1) := dk_42 (dk_at dksX4_readAll_2 1 rfl rfl)
theorem dX4_readAll_49 : decode cX4_readAll 49 = .ok (.getfield 104, 3) := dk_180 0 104 (dk_at dksX4_readAll_2 2 rfl rfl)
theorem dX4_readAll_52 : decode cX4_readAll 52 = .ok (.bipush 59, 2) := dk_16 59 (dk_at dksX4_readAll_2 5 rfl rfl)
theorem dX4_readAll_54 : decode cX4_readAll 54 = .ok (.if_icmp .ne 16, 3) := dk_160 0 16 (dk_at dksX4_readAll_2 7 rfl rfl)
theorem dX4_readAll_57 : decode cX4_readAll 57 = .ok (.aload_n 0, 1) := dk_42 (dk_at dksX4_readAll_2 10 rfl rfl)
theorem dX4_readAll_58 : decode cX4_readAll 58 = .ok (.invokevirtual 134, 3) := dk_182 0 134 (dk_at dksX4_readAll_2 11 rfl rfl)
theorem dX4_readAll_61 : decode cX4_readAll 61 = .ok (.aload_n 0, 1) := dk_42 (dk_at dksX4_readAll_2 14 rfl rfl)
theorem dX4_readAll_62 : decode cX4_readAll 62 = .ok (.invokevirtual 225, 3) := dk_182 0 225 (dk_at dksX4_readAll_2 15 rfl rfl)
theorem dX4_readAll_65 : decode cX4_readAll 65 = .ok (.ifCond .ne (-17), 3) := dk_154 255 239 (dk_at dksX4_readAll_2 18 rfl rfl)
theorem dX4_readAll_68 : decode cX4_readAll 68 = .ok (.iconst 0, 1) := dk_3 (dk_at dksX4_readAll_2 21 rfl rfl)
theorem dX4_readAll_69 : decode cX4_readAll 69 = .ok (.ireturn, 1) := dk_172 (dk_at dksX4_readAll_2 22 rfl rfl)
theorem dX4_readAll_70 : decode cX4_readAll 70 = .ok (.aload_n 0, 1) := dk_42 (dk_at dksX4_readAll_2 23 rfl rfl)
theorem dX4_readAll_71 : decode cX4_readAll 71 = .ok (.getfield 104, 3) := dk_180 0 104 (dk_at dksX4_readAll_3 0 rfl rfl)
theorem dX4_readAll_74 : decode cX4_readAll 74 = .ok (.ifCond .eq 9, 3) := dk_153 0 9 (dk_at dksX4_readAll_3 3 rfl rfl)
theorem dX4_readAll_77 : decode cX4_readAll 77 = .ok (.aload_n 0, 1) := dk_42 (dk_at dksX4_readAll_3 6 rfl rfl)
theorem dX4_readAll_78 : decode cX4_readAll 78 = .ok (.iconst 1, 1) := dk_4 (dk_at dksX4_readAll_3 7 rfl rfl)
theorem dX4_readAll_79 : decode cX4_readAll 79 = .ok (.invokevirtual 130, 3) := dk_182 0 130 (dk_at dksX4_readAll_3 8 rfl rfl)
theorem dX4_readAll_82 : decode cX4_readAll 82 = .ok (.ireturn, 1) := dk_172 (dk_at dksX4_readAll_3 11 rfl rfl)
theorem dX4_readAll_83 : decode cX4_readAll 83 = .ok (.aload_n 0, 1) := dk_42 (dk_at dksX4_readAll_3 12 rfl rfl)
theorem dX4_readAll_84 : decode cX4_readAll 84 = .ok (.getfield 20, 3) := dk_180 0 20 (dk_at dksX4_readAll_3 13 rfl rfl)
theorem dX4_readAll_87 : decode cX4_readAll 87 = .ok (.iconst 1, 1) := dk_4 (dk_at dksX4_readAll_3 16 rfl rfl)
theorem dX4_readAll_88 : decode cX4_readAll 88 = .ok (.iaload, 1) := dk_46 (dk_at dksX4_readAll_3 17 rfl rfl)
theorem dX4_readAll_89 : decode cX4_readAll 89 = .ok (.ifCond .gt 12, 3) := dk_157 0 12 (dk_at dksX4_readAll_3 18 rfl rfl)
theorem dX4_readAll_92 : decode cX4_readAll 92 = .ok (.aload_n 0, 1) := dk_42 (dk_at dksX4_readAll_3 21 rfl rfl)
theorem dX4_readAll_93 : decode cX4_readAll 93 = .ok (.bipush 6, 2) := dk_16 6 (dk_at dksX4_readAll_3 22 rfl rfl)
theorem dX4_readAll_95 : decode cX4_readAll 95 = .ok (.invokevirtual 130, 3) := dk_182 0 130 (dk_at dksX4_readAll_4 0 rfl rfl)
theorem dX4_readAll_98 : decode cX4_readAll 98 = .ok (.ifCond .eq 7, 3) := dk_153 0 7 (dk_at dksX4_readAll_4 3 rfl rfl)
theorem dX4_readAll_101 : decode cX4_readAll 101 = .ok (.iconst 1, 1) := dk_4 (dk_at dksX4_readAll_4 6 rfl rfl)
theorem dX4_readAll_102 : decode cX4_readAll 102 = .ok (.goto 4, 3) := dk_167 0 4 (dk_at dksX4_readAll_4 7 rfl rfl)
theorem dX4_readAll_105 : decode cX4_readAll 105 = .ok (.iconst 0, 1) := dk_3 (dk_at dksX4_readAll_4 10 rfl rfl)
theorem dX4_readAll_106 : decode cX4_readAll 106 = .ok (.ireturn, 1) := dk_172 (dk_at dksX4_readAll_4 11 rfl rfl)
abbrev cX4_goesOn : ByteArray := prog_15_method_12_code
def yX4_goesOn : MethodName := ⟨RX4, "goesOn", "()V"⟩
def dkwX4_goesOn_11 : List UInt8 := [167, 0, 4, 4, 181, 0, 104, 177]
abbrev dktX4_goesOn_11 : List UInt8 := dkwX4_goesOn_11 ++ []
def dkwX4_goesOn_10 : List UInt8 := [181, 0, 104, 177, 42, 89, 180, 0, 94, 4, 96, 181, 0, 94, 42, 27, 16, 59, 160, 0, 7, 27]
abbrev dktX4_goesOn_10 : List UInt8 := dkwX4_goesOn_10 ++ dktX4_goesOn_11
def dkwX4_goesOn_9 : List UInt8 := [167, 255, 185, 42, 42, 180, 0, 94, 42, 180, 0, 101, 100, 7, 164, 0, 7, 4, 167, 0, 4, 6]
abbrev dktX4_goesOn_9 : List UInt8 := dkwX4_goesOn_9 ++ dktX4_goesOn_10
def dkwX4_goesOn_8 : List UInt8 := [16, 48, 100, 167, 0, 7, 42, 180, 0, 111, 181, 0, 111, 42, 89, 180, 0, 94, 4, 96, 181, 0, 94]
abbrev dktX4_goesOn_8 : List UInt8 := dkwX4_goesOn_8 ++ dktX4_goesOn_9
def dkwX4_goesOn_7 : List UInt8 := [180, 0, 101, 100, 7, 162, 0, 25, 16, 10, 42, 180, 0, 111, 104, 42, 42, 180, 0, 94, 182, 0, 97, 96]
abbrev dktX4_goesOn_7 : List UInt8 := dkwX4_goesOn_7 ++ dktX4_goesOn_8
def dkwX4_goesOn_6 : List UInt8 := [42, 42, 180, 0, 94, 182, 0, 97, 16, 48, 16, 57, 184, 0, 107, 153, 0, 59, 42, 42, 180, 0, 94, 42]
abbrev dktX4_goesOn_6 : List UInt8 := dkwX4_goesOn_6 ++ dktX4_goesOn_7
def dkwX4_goesOn_5 : List UInt8 := [167, 0, 4, 5, 181, 0, 104, 177, 27, 16, 48, 16, 57, 184, 0, 107, 153, 0, 105, 42, 3, 181, 0, 111]
abbrev dktX4_goesOn_5 : List UInt8 := dkwX4_goesOn_5 ++ dktX4_goesOn_6
def dkwX4_goesOn_4 : List UInt8 := [181, 0, 94, 167, 255, 228, 42, 42, 180, 0, 94, 42, 180, 0, 101, 100, 16, 6, 164, 0, 7, 4]
abbrev dktX4_goesOn_4 : List UInt8 := dkwX4_goesOn_4 ++ dktX4_goesOn_5
def dkwX4_goesOn_3 : List UInt8 := [180, 0, 94, 182, 0, 97, 16, 97, 16, 122, 184, 0, 107, 153, 0, 16, 42, 89, 180, 0, 94, 4, 96]
abbrev dktX4_goesOn_3 : List UInt8 := dkwX4_goesOn_3 ++ dktX4_goesOn_4
def dkwX4_goesOn_2 : List UInt8 := [160, 0, 9, 42, 3, 181, 0, 104, 177, 27, 16, 97, 16, 122, 184, 0, 107, 153, 0, 58, 42, 42]
abbrev dktX4_goesOn_2 : List UInt8 := dkwX4_goesOn_2 ++ dktX4_goesOn_3
def dkwX4_goesOn_1 : List UInt8 := [167, 255, 233, 42, 42, 180, 0, 94, 181, 0, 101, 42, 42, 180, 0, 94, 182, 0, 97, 60, 27, 2]
abbrev dktX4_goesOn_1 : List UInt8 := dkwX4_goesOn_1 ++ dktX4_goesOn_2
def dkwX4_goesOn_0 : List UInt8 := [42, 42, 180, 0, 94, 182, 0, 97, 16, 32, 160, 0, 16, 42, 89, 180, 0, 94, 4, 96, 181, 0, 94]
abbrev dktX4_goesOn_0 : List UInt8 := dkwX4_goesOn_0 ++ dktX4_goesOn_1
theorem dksX4_goesOn_0 : cX4_goesOn.data.toList.drop 0 = dktX4_goesOn_0 := by decide +kernel
theorem dksX4_goesOn_1 : cX4_goesOn.data.toList.drop 23 = dktX4_goesOn_1 := dk_seg dksX4_goesOn_0 23 rfl rfl
theorem dksX4_goesOn_2 : cX4_goesOn.data.toList.drop 45 = dktX4_goesOn_2 := dk_seg dksX4_goesOn_1 22 rfl rfl
theorem dksX4_goesOn_3 : cX4_goesOn.data.toList.drop 67 = dktX4_goesOn_3 := dk_seg dksX4_goesOn_2 22 rfl rfl
theorem dksX4_goesOn_4 : cX4_goesOn.data.toList.drop 90 = dktX4_goesOn_4 := dk_seg dksX4_goesOn_3 23 rfl rfl
theorem dksX4_goesOn_5 : cX4_goesOn.data.toList.drop 112 = dktX4_goesOn_5 := dk_seg dksX4_goesOn_4 22 rfl rfl
theorem dksX4_goesOn_6 : cX4_goesOn.data.toList.drop 136 = dktX4_goesOn_6 := dk_seg dksX4_goesOn_5 24 rfl rfl
theorem dksX4_goesOn_7 : cX4_goesOn.data.toList.drop 160 = dktX4_goesOn_7 := dk_seg dksX4_goesOn_6 24 rfl rfl
theorem dksX4_goesOn_8 : cX4_goesOn.data.toList.drop 184 = dktX4_goesOn_8 := dk_seg dksX4_goesOn_7 24 rfl rfl
theorem dksX4_goesOn_9 : cX4_goesOn.data.toList.drop 207 = dktX4_goesOn_9 := dk_seg dksX4_goesOn_8 23 rfl rfl
theorem dksX4_goesOn_10 : cX4_goesOn.data.toList.drop 229 = dktX4_goesOn_10 := dk_seg dksX4_goesOn_9 22 rfl rfl
theorem dksX4_goesOn_11 : cX4_goesOn.data.toList.drop 251 = dktX4_goesOn_11 := dk_seg dksX4_goesOn_10 22 rfl rfl
theorem dX4_goesOn_0 : decode cX4_goesOn 0 = .ok (.aload_n 0, 1) := dk_42 (dk_at dksX4_goesOn_0 0 rfl rfl)
theorem dX4_goesOn_1 : decode cX4_goesOn 1 = .ok (.aload_n 0, 1) := dk_42 (dk_at dksX4_goesOn_0 1 rfl rfl)
theorem dX4_goesOn_2 : decode cX4_goesOn 2 = .ok (.getfield 94, 3) := dk_180 0 94 (dk_at dksX4_goesOn_0 2 rfl rfl)
theorem dX4_goesOn_5 : decode cX4_goesOn 5 = .ok (.invokevirtual 97, 3) := dk_182 0 97 (dk_at dksX4_goesOn_0 5 rfl rfl)
theorem dX4_goesOn_8 : decode cX4_goesOn 8 = .ok (.bipush 32, 2) := dk_16 32 (dk_at dksX4_goesOn_0 8 rfl rfl)
theorem dX4_goesOn_10 : decode cX4_goesOn 10 = .ok (.if_icmp .ne 16, 3) := dk_160 0 16 (dk_at dksX4_goesOn_0 10 rfl rfl)
theorem dX4_goesOn_13 : decode cX4_goesOn 13 = .ok (.aload_n 0, 1) := dk_42 (dk_at dksX4_goesOn_0 13 rfl rfl)
theorem dX4_goesOn_14 : decode cX4_goesOn 14 = .ok (.dup, 1) := dk_89 (dk_at dksX4_goesOn_0 14 rfl rfl)
theorem dX4_goesOn_15 : decode cX4_goesOn 15 = .ok (.getfield 94, 3) := dk_180 0 94 (dk_at dksX4_goesOn_0 15 rfl rfl)
theorem dX4_goesOn_18 : decode cX4_goesOn 18 = .ok (.iconst 1, 1) := dk_4 (dk_at dksX4_goesOn_0 18 rfl rfl)
theorem dX4_goesOn_19 : decode cX4_goesOn 19 = .ok (.iadd, 1) := dk_96 (dk_at dksX4_goesOn_0 19 rfl rfl)
theorem dX4_goesOn_20 : decode cX4_goesOn 20 = .ok (.putfield 94, 3) := dk_181 0 94 (dk_at dksX4_goesOn_0 20 rfl rfl)
theorem dX4_goesOn_23 : decode cX4_goesOn 23 = .ok (.goto (-23), 3) := dk_167 255 233 (dk_at dksX4_goesOn_1 0 rfl rfl)
theorem dX4_goesOn_26 : decode cX4_goesOn 26 = .ok (.aload_n 0, 1) := dk_42 (dk_at dksX4_goesOn_1 3 rfl rfl)
theorem dX4_goesOn_27 : decode cX4_goesOn 27 = .ok (.aload_n 0, 1) := dk_42 (dk_at dksX4_goesOn_1 4 rfl rfl)
theorem dX4_goesOn_28 : decode cX4_goesOn 28 = .ok (.getfield 94, 3) := dk_180 0 94 (dk_at dksX4_goesOn_1 5 rfl rfl)
theorem dX4_goesOn_31 : decode cX4_goesOn 31 = .ok (.putfield 101, 3) := dk_181 0 101 (dk_at dksX4_goesOn_1 8 rfl rfl)
theorem dX4_goesOn_34 : decode cX4_goesOn 34 = .ok (.aload_n 0, 1) := dk_42 (dk_at dksX4_goesOn_1 11 rfl rfl)
theorem dX4_goesOn_35 : decode cX4_goesOn 35 = .ok (.aload_n 0, 1) := dk_42 (dk_at dksX4_goesOn_1 12 rfl rfl)
theorem dX4_goesOn_36 : decode cX4_goesOn 36 = .ok (.getfield 94, 3) := dk_180 0 94 (dk_at dksX4_goesOn_1 13 rfl rfl)
theorem dX4_goesOn_39 : decode cX4_goesOn 39 = .ok (.invokevirtual 97, 3) := dk_182 0 97 (dk_at dksX4_goesOn_1 16 rfl rfl)
theorem dX4_goesOn_42 : decode cX4_goesOn 42 = .ok (.istore_n 1, 1) := dk_60 (dk_at dksX4_goesOn_1 19 rfl rfl)
theorem dX4_goesOn_43 : decode cX4_goesOn 43 = .ok (.iload_n 1, 1) := dk_27 (dk_at dksX4_goesOn_1 20 rfl rfl)
theorem dX4_goesOn_44 : decode cX4_goesOn 44 = .ok (.iconst (-1), 1) := dk_2 (dk_at dksX4_goesOn_1 21 rfl rfl)
theorem dX4_goesOn_45 : decode cX4_goesOn 45 = .ok (.if_icmp .ne 9, 3) := dk_160 0 9 (dk_at dksX4_goesOn_2 0 rfl rfl)
theorem dX4_goesOn_48 : decode cX4_goesOn 48 = .ok (.aload_n 0, 1) := dk_42 (dk_at dksX4_goesOn_2 3 rfl rfl)
theorem dX4_goesOn_49 : decode cX4_goesOn 49 = .ok (.iconst 0, 1) := dk_3 (dk_at dksX4_goesOn_2 4 rfl rfl)
theorem dX4_goesOn_50 : decode cX4_goesOn 50 = .ok (.putfield 104, 3) := dk_181 0 104 (dk_at dksX4_goesOn_2 5 rfl rfl)
theorem dX4_goesOn_53 : decode cX4_goesOn 53 = .ok (.return_, 1) := dk_177 (dk_at dksX4_goesOn_2 8 rfl rfl)
theorem dX4_goesOn_54 : decode cX4_goesOn 54 = .ok (.iload_n 1, 1) := dk_27 (dk_at dksX4_goesOn_2 9 rfl rfl)
theorem dX4_goesOn_55 : decode cX4_goesOn 55 = .ok (.bipush 97, 2) := dk_16 97 (dk_at dksX4_goesOn_2 10 rfl rfl)
theorem dX4_goesOn_57 : decode cX4_goesOn 57 = .ok (.bipush 122, 2) := dk_16 122 (dk_at dksX4_goesOn_2 12 rfl rfl)
theorem dX4_goesOn_59 : decode cX4_goesOn 59 = .ok (.invokestatic 107, 3) := dk_184 0 107 (dk_at dksX4_goesOn_2 14 rfl rfl)
theorem dX4_goesOn_62 : decode cX4_goesOn 62 = .ok (.ifCond .eq 58, 3) := dk_153 0 58 (dk_at dksX4_goesOn_2 17 rfl rfl)
theorem dX4_goesOn_65 : decode cX4_goesOn 65 = .ok (.aload_n 0, 1) := dk_42 (dk_at dksX4_goesOn_2 20 rfl rfl)
theorem dX4_goesOn_66 : decode cX4_goesOn 66 = .ok (.aload_n 0, 1) := dk_42 (dk_at dksX4_goesOn_2 21 rfl rfl)
theorem dX4_goesOn_67 : decode cX4_goesOn 67 = .ok (.getfield 94, 3) := dk_180 0 94 (dk_at dksX4_goesOn_3 0 rfl rfl)
theorem dX4_goesOn_70 : decode cX4_goesOn 70 = .ok (.invokevirtual 97, 3) := dk_182 0 97 (dk_at dksX4_goesOn_3 3 rfl rfl)
theorem dX4_goesOn_73 : decode cX4_goesOn 73 = .ok (.bipush 97, 2) := dk_16 97 (dk_at dksX4_goesOn_3 6 rfl rfl)
theorem dX4_goesOn_75 : decode cX4_goesOn 75 = .ok (.bipush 122, 2) := dk_16 122 (dk_at dksX4_goesOn_3 8 rfl rfl)
theorem dX4_goesOn_77 : decode cX4_goesOn 77 = .ok (.invokestatic 107, 3) := dk_184 0 107 (dk_at dksX4_goesOn_3 10 rfl rfl)
theorem dX4_goesOn_80 : decode cX4_goesOn 80 = .ok (.ifCond .eq 16, 3) := dk_153 0 16 (dk_at dksX4_goesOn_3 13 rfl rfl)
theorem dX4_goesOn_83 : decode cX4_goesOn 83 = .ok (.aload_n 0, 1) := dk_42 (dk_at dksX4_goesOn_3 16 rfl rfl)
theorem dX4_goesOn_84 : decode cX4_goesOn 84 = .ok (.dup, 1) := dk_89 (dk_at dksX4_goesOn_3 17 rfl rfl)
theorem dX4_goesOn_85 : decode cX4_goesOn 85 = .ok (.getfield 94, 3) := dk_180 0 94 (dk_at dksX4_goesOn_3 18 rfl rfl)
theorem dX4_goesOn_88 : decode cX4_goesOn 88 = .ok (.iconst 1, 1) := dk_4 (dk_at dksX4_goesOn_3 21 rfl rfl)
theorem dX4_goesOn_89 : decode cX4_goesOn 89 = .ok (.iadd, 1) := dk_96 (dk_at dksX4_goesOn_3 22 rfl rfl)
theorem dX4_goesOn_90 : decode cX4_goesOn 90 = .ok (.putfield 94, 3) := dk_181 0 94 (dk_at dksX4_goesOn_4 0 rfl rfl)
theorem dX4_goesOn_93 : decode cX4_goesOn 93 = .ok (.goto (-28), 3) := dk_167 255 228 (dk_at dksX4_goesOn_4 3 rfl rfl)
theorem dX4_goesOn_96 : decode cX4_goesOn 96 = .ok (.aload_n 0, 1) := dk_42 (dk_at dksX4_goesOn_4 6 rfl rfl)
theorem dX4_goesOn_97 : decode cX4_goesOn 97 = .ok (.aload_n 0, 1) := dk_42 (dk_at dksX4_goesOn_4 7 rfl rfl)
theorem dX4_goesOn_98 : decode cX4_goesOn 98 = .ok (.getfield 94, 3) := dk_180 0 94 (dk_at dksX4_goesOn_4 8 rfl rfl)
theorem dX4_goesOn_101 : decode cX4_goesOn 101 = .ok (.aload_n 0, 1) := dk_42 (dk_at dksX4_goesOn_4 11 rfl rfl)
theorem dX4_goesOn_102 : decode cX4_goesOn 102 = .ok (.getfield 101, 3) := dk_180 0 101 (dk_at dksX4_goesOn_4 12 rfl rfl)
theorem dX4_goesOn_105 : decode cX4_goesOn 105 = .ok (.isub, 1) := dk_100 (dk_at dksX4_goesOn_4 15 rfl rfl)
theorem dX4_goesOn_106 : decode cX4_goesOn 106 = .ok (.bipush 6, 2) := dk_16 6 (dk_at dksX4_goesOn_4 16 rfl rfl)
theorem dX4_goesOn_108 : decode cX4_goesOn 108 = .ok (.if_icmp .le 7, 3) := dk_164 0 7 (dk_at dksX4_goesOn_4 18 rfl rfl)
theorem dX4_goesOn_111 : decode cX4_goesOn 111 = .ok (.iconst 1, 1) := dk_4 (dk_at dksX4_goesOn_4 21 rfl rfl)
theorem dX4_goesOn_112 : decode cX4_goesOn 112 = .ok (.goto 4, 3) := dk_167 0 4 (dk_at dksX4_goesOn_5 0 rfl rfl)
theorem dX4_goesOn_115 : decode cX4_goesOn 115 = .ok (.iconst 2, 1) := dk_5 (dk_at dksX4_goesOn_5 3 rfl rfl)
theorem dX4_goesOn_116 : decode cX4_goesOn 116 = .ok (.putfield 104, 3) := dk_181 0 104 (dk_at dksX4_goesOn_5 4 rfl rfl)
theorem dX4_goesOn_119 : decode cX4_goesOn 119 = .ok (.return_, 1) := dk_177 (dk_at dksX4_goesOn_5 7 rfl rfl)
theorem dX4_goesOn_120 : decode cX4_goesOn 120 = .ok (.iload_n 1, 1) := dk_27 (dk_at dksX4_goesOn_5 8 rfl rfl)
theorem dX4_goesOn_121 : decode cX4_goesOn 121 = .ok (.bipush 48, 2) := dk_16 48 (dk_at dksX4_goesOn_5 9 rfl rfl)
theorem dX4_goesOn_123 : decode cX4_goesOn 123 = .ok (.bipush 57, 2) := dk_16 57 (dk_at dksX4_goesOn_5 11 rfl rfl)
theorem dX4_goesOn_125 : decode cX4_goesOn 125 = .ok (.invokestatic 107, 3) := dk_184 0 107 (dk_at dksX4_goesOn_5 13 rfl rfl)
theorem dX4_goesOn_128 : decode cX4_goesOn 128 = .ok (.ifCond .eq 105, 3) := dk_153 0 105 (dk_at dksX4_goesOn_5 16 rfl rfl)
theorem dX4_goesOn_131 : decode cX4_goesOn 131 = .ok (.aload_n 0, 1) := dk_42 (dk_at dksX4_goesOn_5 19 rfl rfl)
theorem dX4_goesOn_132 : decode cX4_goesOn 132 = .ok (.iconst 0, 1) := dk_3 (dk_at dksX4_goesOn_5 20 rfl rfl)
theorem dX4_goesOn_133 : decode cX4_goesOn 133 = .ok (.putfield 111, 3) := dk_181 0 111 (dk_at dksX4_goesOn_5 21 rfl rfl)
theorem dX4_goesOn_136 : decode cX4_goesOn 136 = .ok (.aload_n 0, 1) := dk_42 (dk_at dksX4_goesOn_6 0 rfl rfl)
theorem dX4_goesOn_137 : decode cX4_goesOn 137 = .ok (.aload_n 0, 1) := dk_42 (dk_at dksX4_goesOn_6 1 rfl rfl)
theorem dX4_goesOn_138 : decode cX4_goesOn 138 = .ok (.getfield 94, 3) := dk_180 0 94 (dk_at dksX4_goesOn_6 2 rfl rfl)
theorem dX4_goesOn_141 : decode cX4_goesOn 141 = .ok (.invokevirtual 97, 3) := dk_182 0 97 (dk_at dksX4_goesOn_6 5 rfl rfl)
theorem dX4_goesOn_144 : decode cX4_goesOn 144 = .ok (.bipush 48, 2) := dk_16 48 (dk_at dksX4_goesOn_6 8 rfl rfl)
theorem dX4_goesOn_146 : decode cX4_goesOn 146 = .ok (.bipush 57, 2) := dk_16 57 (dk_at dksX4_goesOn_6 10 rfl rfl)
theorem dX4_goesOn_148 : decode cX4_goesOn 148 = .ok (.invokestatic 107, 3) := dk_184 0 107 (dk_at dksX4_goesOn_6 12 rfl rfl)
theorem dX4_goesOn_151 : decode cX4_goesOn 151 = .ok (.ifCond .eq 59, 3) := dk_153 0 59 (dk_at dksX4_goesOn_6 15 rfl rfl)
theorem dX4_goesOn_154 : decode cX4_goesOn 154 = .ok (.aload_n 0, 1) := dk_42 (dk_at dksX4_goesOn_6 18 rfl rfl)
theorem dX4_goesOn_155 : decode cX4_goesOn 155 = .ok (.aload_n 0, 1) := dk_42 (dk_at dksX4_goesOn_6 19 rfl rfl)
theorem dX4_goesOn_156 : decode cX4_goesOn 156 = .ok (.getfield 94, 3) := dk_180 0 94 (dk_at dksX4_goesOn_6 20 rfl rfl)
theorem dX4_goesOn_159 : decode cX4_goesOn 159 = .ok (.aload_n 0, 1) := dk_42 (dk_at dksX4_goesOn_6 23 rfl rfl)
theorem dX4_goesOn_160 : decode cX4_goesOn 160 = .ok (.getfield 101, 3) := dk_180 0 101 (dk_at dksX4_goesOn_7 0 rfl rfl)
theorem dX4_goesOn_163 : decode cX4_goesOn 163 = .ok (.isub, 1) := dk_100 (dk_at dksX4_goesOn_7 3 rfl rfl)
theorem dX4_goesOn_164 : decode cX4_goesOn 164 = .ok (.iconst 4, 1) := dk_7 (dk_at dksX4_goesOn_7 4 rfl rfl)
theorem dX4_goesOn_165 : decode cX4_goesOn 165 = .ok (.if_icmp .ge 25, 3) := dk_162 0 25 (dk_at dksX4_goesOn_7 5 rfl rfl)
theorem dX4_goesOn_168 : decode cX4_goesOn 168 = .ok (.bipush 10, 2) := dk_16 10 (dk_at dksX4_goesOn_7 8 rfl rfl)
theorem dX4_goesOn_170 : decode cX4_goesOn 170 = .ok (.aload_n 0, 1) := dk_42 (dk_at dksX4_goesOn_7 10 rfl rfl)
theorem dX4_goesOn_171 : decode cX4_goesOn 171 = .ok (.getfield 111, 3) := dk_180 0 111 (dk_at dksX4_goesOn_7 11 rfl rfl)
theorem dX4_goesOn_174 : decode cX4_goesOn 174 = .ok (.imul, 1) := dk_104 (dk_at dksX4_goesOn_7 14 rfl rfl)
theorem dX4_goesOn_175 : decode cX4_goesOn 175 = .ok (.aload_n 0, 1) := dk_42 (dk_at dksX4_goesOn_7 15 rfl rfl)
theorem dX4_goesOn_176 : decode cX4_goesOn 176 = .ok (.aload_n 0, 1) := dk_42 (dk_at dksX4_goesOn_7 16 rfl rfl)
theorem dX4_goesOn_177 : decode cX4_goesOn 177 = .ok (.getfield 94, 3) := dk_180 0 94 (dk_at dksX4_goesOn_7 17 rfl rfl)
theorem dX4_goesOn_180 : decode cX4_goesOn 180 = .ok (.invokevirtual 97, 3) := dk_182 0 97 (dk_at dksX4_goesOn_7 20 rfl rfl)
theorem dX4_goesOn_183 : decode cX4_goesOn 183 = .ok (.iadd, 1) := dk_96 (dk_at dksX4_goesOn_7 23 rfl rfl)
theorem dX4_goesOn_184 : decode cX4_goesOn 184 = .ok (.bipush 48, 2) := dk_16 48 (dk_at dksX4_goesOn_8 0 rfl rfl)
theorem dX4_goesOn_186 : decode cX4_goesOn 186 = .ok (.isub, 1) := dk_100 (dk_at dksX4_goesOn_8 2 rfl rfl)
theorem dX4_goesOn_187 : decode cX4_goesOn 187 = .ok (.goto 7, 3) := dk_167 0 7 (dk_at dksX4_goesOn_8 3 rfl rfl)
theorem dX4_goesOn_190 : decode cX4_goesOn 190 = .ok (.aload_n 0, 1) := dk_42 (dk_at dksX4_goesOn_8 6 rfl rfl)
theorem dX4_goesOn_191 : decode cX4_goesOn 191 = .ok (.getfield 111, 3) := dk_180 0 111 (dk_at dksX4_goesOn_8 7 rfl rfl)
theorem dX4_goesOn_194 : decode cX4_goesOn 194 = .ok (.putfield 111, 3) := dk_181 0 111 (dk_at dksX4_goesOn_8 10 rfl rfl)
theorem dX4_goesOn_197 : decode cX4_goesOn 197 = .ok (.aload_n 0, 1) := dk_42 (dk_at dksX4_goesOn_8 13 rfl rfl)
theorem dX4_goesOn_198 : decode cX4_goesOn 198 = .ok (.dup, 1) := dk_89 (dk_at dksX4_goesOn_8 14 rfl rfl)
theorem dX4_goesOn_199 : decode cX4_goesOn 199 = .ok (.getfield 94, 3) := dk_180 0 94 (dk_at dksX4_goesOn_8 15 rfl rfl)
theorem dX4_goesOn_202 : decode cX4_goesOn 202 = .ok (.iconst 1, 1) := dk_4 (dk_at dksX4_goesOn_8 18 rfl rfl)
theorem dX4_goesOn_203 : decode cX4_goesOn 203 = .ok (.iadd, 1) := dk_96 (dk_at dksX4_goesOn_8 19 rfl rfl)
theorem dX4_goesOn_204 : decode cX4_goesOn 204 = .ok (.putfield 94, 3) := dk_181 0 94 (dk_at dksX4_goesOn_8 20 rfl rfl)
theorem dX4_goesOn_207 : decode cX4_goesOn 207 = .ok (.goto (-71), 3) := dk_167 255 185 (dk_at dksX4_goesOn_9 0 rfl rfl)
theorem dX4_goesOn_210 : decode cX4_goesOn 210 = .ok (.aload_n 0, 1) := dk_42 (dk_at dksX4_goesOn_9 3 rfl rfl)
theorem dX4_goesOn_211 : decode cX4_goesOn 211 = .ok (.aload_n 0, 1) := dk_42 (dk_at dksX4_goesOn_9 4 rfl rfl)
theorem dX4_goesOn_212 : decode cX4_goesOn 212 = .ok (.getfield 94, 3) := dk_180 0 94 (dk_at dksX4_goesOn_9 5 rfl rfl)
theorem dX4_goesOn_215 : decode cX4_goesOn 215 = .ok (.aload_n 0, 1) := dk_42 (dk_at dksX4_goesOn_9 8 rfl rfl)
theorem dX4_goesOn_216 : decode cX4_goesOn 216 = .ok (.getfield 101, 3) := dk_180 0 101 (dk_at dksX4_goesOn_9 9 rfl rfl)
theorem dX4_goesOn_219 : decode cX4_goesOn 219 = .ok (.isub, 1) := dk_100 (dk_at dksX4_goesOn_9 12 rfl rfl)
theorem dX4_goesOn_220 : decode cX4_goesOn 220 = .ok (.iconst 4, 1) := dk_7 (dk_at dksX4_goesOn_9 13 rfl rfl)
theorem dX4_goesOn_221 : decode cX4_goesOn 221 = .ok (.if_icmp .le 7, 3) := dk_164 0 7 (dk_at dksX4_goesOn_9 14 rfl rfl)
theorem dX4_goesOn_224 : decode cX4_goesOn 224 = .ok (.iconst 1, 1) := dk_4 (dk_at dksX4_goesOn_9 17 rfl rfl)
theorem dX4_goesOn_225 : decode cX4_goesOn 225 = .ok (.goto 4, 3) := dk_167 0 4 (dk_at dksX4_goesOn_9 18 rfl rfl)
theorem dX4_goesOn_228 : decode cX4_goesOn 228 = .ok (.iconst 3, 1) := dk_6 (dk_at dksX4_goesOn_9 21 rfl rfl)
theorem dX4_goesOn_229 : decode cX4_goesOn 229 = .ok (.putfield 104, 3) := dk_181 0 104 (dk_at dksX4_goesOn_10 0 rfl rfl)
theorem dX4_goesOn_232 : decode cX4_goesOn 232 = .ok (.return_, 1) := dk_177 (dk_at dksX4_goesOn_10 3 rfl rfl)
theorem dX4_goesOn_233 : decode cX4_goesOn 233 = .ok (.aload_n 0, 1) := dk_42 (dk_at dksX4_goesOn_10 4 rfl rfl)
theorem dX4_goesOn_234 : decode cX4_goesOn 234 = .ok (.dup, 1) := dk_89 (dk_at dksX4_goesOn_10 5 rfl rfl)
theorem dX4_goesOn_235 : decode cX4_goesOn 235 = .ok (.getfield 94, 3) := dk_180 0 94 (dk_at dksX4_goesOn_10 6 rfl rfl)
theorem dX4_goesOn_238 : decode cX4_goesOn 238 = .ok (.iconst 1, 1) := dk_4 (dk_at dksX4_goesOn_10 9 rfl rfl)
theorem dX4_goesOn_239 : decode cX4_goesOn 239 = .ok (.iadd, 1) := dk_96 (dk_at dksX4_goesOn_10 10 rfl rfl)
theorem dX4_goesOn_240 : decode cX4_goesOn 240 = .ok (.putfield 94, 3) := dk_181 0 94 (dk_at dksX4_goesOn_10 11 rfl rfl)
theorem dX4_goesOn_243 : decode cX4_goesOn 243 = .ok (.aload_n 0, 1) := dk_42 (dk_at dksX4_goesOn_10 14 rfl rfl)
theorem dX4_goesOn_244 : decode cX4_goesOn 244 = .ok (.iload_n 1, 1) := dk_27 (dk_at dksX4_goesOn_10 15 rfl rfl)
theorem dX4_goesOn_245 : decode cX4_goesOn 245 = .ok (.bipush 59, 2) := dk_16 59 (dk_at dksX4_goesOn_10 16 rfl rfl)
theorem dX4_goesOn_247 : decode cX4_goesOn 247 = .ok (.if_icmp .ne 7, 3) := dk_160 0 7 (dk_at dksX4_goesOn_10 18 rfl rfl)
theorem dX4_goesOn_250 : decode cX4_goesOn 250 = .ok (.iload_n 1, 1) := dk_27 (dk_at dksX4_goesOn_10 21 rfl rfl)
theorem dX4_goesOn_251 : decode cX4_goesOn 251 = .ok (.goto 4, 3) := dk_167 0 4 (dk_at dksX4_goesOn_11 0 rfl rfl)
theorem dX4_goesOn_254 : decode cX4_goesOn 254 = .ok (.iconst 1, 1) := dk_4 (dk_at dksX4_goesOn_11 3 rfl rfl)
theorem dX4_goesOn_255 : decode cX4_goesOn 255 = .ok (.putfield 104, 3) := dk_181 0 104 (dk_at dksX4_goesOn_11 4 rfl rfl)
theorem dX4_goesOn_258 : decode cX4_goesOn 258 = .ok (.return_, 1) := dk_177 (dk_at dksX4_goesOn_11 7 rfl rfl)
abbrev cX4_see : ByteArray := prog_15_method_11_code
def yX4_see : MethodName := ⟨RX4, "see", "(I)I"⟩
def dkwX4_see_0 : List UInt8 := [27, 42, 180, 0, 91, 162, 0, 12, 42, 180, 0, 13, 27, 46, 167, 0, 4, 2, 172]
abbrev dktX4_see_0 : List UInt8 := dkwX4_see_0 ++ []
theorem dksX4_see_0 : cX4_see.data.toList.drop 0 = dktX4_see_0 := by decide +kernel
theorem dX4_see_0 : decode cX4_see 0 = .ok (.iload_n 1, 1) := dk_27 (dk_at dksX4_see_0 0 rfl rfl)
theorem dX4_see_1 : decode cX4_see 1 = .ok (.aload_n 0, 1) := dk_42 (dk_at dksX4_see_0 1 rfl rfl)
theorem dX4_see_2 : decode cX4_see 2 = .ok (.getfield 91, 3) := dk_180 0 91 (dk_at dksX4_see_0 2 rfl rfl)
theorem dX4_see_5 : decode cX4_see 5 = .ok (.if_icmp .ge 12, 3) := dk_162 0 12 (dk_at dksX4_see_0 5 rfl rfl)
theorem dX4_see_8 : decode cX4_see 8 = .ok (.aload_n 0, 1) := dk_42 (dk_at dksX4_see_0 8 rfl rfl)
theorem dX4_see_9 : decode cX4_see 9 = .ok (.getfield 13, 3) := dk_180 0 13 (dk_at dksX4_see_0 9 rfl rfl)
theorem dX4_see_12 : decode cX4_see 12 = .ok (.iload_n 1, 1) := dk_27 (dk_at dksX4_see_0 12 rfl rfl)
theorem dX4_see_13 : decode cX4_see 13 = .ok (.iaload, 1) := dk_46 (dk_at dksX4_see_0 13 rfl rfl)
theorem dX4_see_14 : decode cX4_see 14 = .ok (.goto 4, 3) := dk_167 0 4 (dk_at dksX4_see_0 14 rfl rfl)
theorem dX4_see_17 : decode cX4_see 17 = .ok (.iconst (-1), 1) := dk_2 (dk_at dksX4_see_0 17 rfl rfl)
theorem dX4_see_18 : decode cX4_see 18 = .ok (.ireturn, 1) := dk_172 (dk_at dksX4_see_0 18 rfl rfl)
abbrev cX4_readLine : ByteArray := prog_15_method_31_code
def yX4_readLine : MethodName := ⟨RX4, "readLine", "()Z"⟩
def dkwX4_readLine_2 : List UInt8 := [153, 0, 10, 42, 182, 0, 222, 167, 0, 8, 42, 4, 182, 0, 130, 172]
abbrev dktX4_readLine_2 : List UInt8 := dkwX4_readLine_2 ++ []
def dkwX4_readLine_1 : List UInt8 := [182, 0, 216, 172, 42, 18, 151, 182, 0, 137, 153, 0, 8, 42, 182, 0, 219, 172, 42, 18, 153, 182, 0, 137]
abbrev dktX4_readLine_1 : List UInt8 := dkwX4_readLine_1 ++ dktX4_readLine_2
def dkwX4_readLine_0 : List UInt8 := [42, 18, 148, 182, 0, 137, 153, 0, 8, 42, 182, 0, 213, 172, 42, 18, 150, 182, 0, 137, 153, 0, 8, 42]
abbrev dktX4_readLine_0 : List UInt8 := dkwX4_readLine_0 ++ dktX4_readLine_1
theorem dksX4_readLine_0 : cX4_readLine.data.toList.drop 0 = dktX4_readLine_0 := by decide +kernel
theorem dksX4_readLine_1 : cX4_readLine.data.toList.drop 24 = dktX4_readLine_1 := dk_seg dksX4_readLine_0 24 rfl rfl
theorem dksX4_readLine_2 : cX4_readLine.data.toList.drop 48 = dktX4_readLine_2 := dk_seg dksX4_readLine_1 24 rfl rfl
theorem dX4_readLine_0 : decode cX4_readLine 0 = .ok (.aload_n 0, 1) := dk_42 (dk_at dksX4_readLine_0 0 rfl rfl)
theorem dX4_readLine_1 : decode cX4_readLine 1 = .ok (.ldc 148, 2) := dk_18 148 (dk_at dksX4_readLine_0 1 rfl rfl)
theorem dX4_readLine_3 : decode cX4_readLine 3 = .ok (.invokevirtual 137, 3) := dk_182 0 137 (dk_at dksX4_readLine_0 3 rfl rfl)
theorem dX4_readLine_6 : decode cX4_readLine 6 = .ok (.ifCond .eq 8, 3) := dk_153 0 8 (dk_at dksX4_readLine_0 6 rfl rfl)
theorem dX4_readLine_9 : decode cX4_readLine 9 = .ok (.aload_n 0, 1) := dk_42 (dk_at dksX4_readLine_0 9 rfl rfl)
theorem dX4_readLine_10 : decode cX4_readLine 10 = .ok (.invokevirtual 213, 3) := dk_182 0 213 (dk_at dksX4_readLine_0 10 rfl rfl)
theorem dX4_readLine_13 : decode cX4_readLine 13 = .ok (.ireturn, 1) := dk_172 (dk_at dksX4_readLine_0 13 rfl rfl)
theorem dX4_readLine_14 : decode cX4_readLine 14 = .ok (.aload_n 0, 1) := dk_42 (dk_at dksX4_readLine_0 14 rfl rfl)
theorem dX4_readLine_15 : decode cX4_readLine 15 = .ok (.ldc 150, 2) := dk_18 150 (dk_at dksX4_readLine_0 15 rfl rfl)
theorem dX4_readLine_17 : decode cX4_readLine 17 = .ok (.invokevirtual 137, 3) := dk_182 0 137 (dk_at dksX4_readLine_0 17 rfl rfl)
theorem dX4_readLine_20 : decode cX4_readLine 20 = .ok (.ifCond .eq 8, 3) := dk_153 0 8 (dk_at dksX4_readLine_0 20 rfl rfl)
theorem dX4_readLine_23 : decode cX4_readLine 23 = .ok (.aload_n 0, 1) := dk_42 (dk_at dksX4_readLine_0 23 rfl rfl)
theorem dX4_readLine_24 : decode cX4_readLine 24 = .ok (.invokevirtual 216, 3) := dk_182 0 216 (dk_at dksX4_readLine_1 0 rfl rfl)
theorem dX4_readLine_27 : decode cX4_readLine 27 = .ok (.ireturn, 1) := dk_172 (dk_at dksX4_readLine_1 3 rfl rfl)
theorem dX4_readLine_28 : decode cX4_readLine 28 = .ok (.aload_n 0, 1) := dk_42 (dk_at dksX4_readLine_1 4 rfl rfl)
theorem dX4_readLine_29 : decode cX4_readLine 29 = .ok (.ldc 151, 2) := dk_18 151 (dk_at dksX4_readLine_1 5 rfl rfl)
theorem dX4_readLine_31 : decode cX4_readLine 31 = .ok (.invokevirtual 137, 3) := dk_182 0 137 (dk_at dksX4_readLine_1 7 rfl rfl)
theorem dX4_readLine_34 : decode cX4_readLine 34 = .ok (.ifCond .eq 8, 3) := dk_153 0 8 (dk_at dksX4_readLine_1 10 rfl rfl)
theorem dX4_readLine_37 : decode cX4_readLine 37 = .ok (.aload_n 0, 1) := dk_42 (dk_at dksX4_readLine_1 13 rfl rfl)
theorem dX4_readLine_38 : decode cX4_readLine 38 = .ok (.invokevirtual 219, 3) := dk_182 0 219 (dk_at dksX4_readLine_1 14 rfl rfl)
theorem dX4_readLine_41 : decode cX4_readLine 41 = .ok (.ireturn, 1) := dk_172 (dk_at dksX4_readLine_1 17 rfl rfl)
theorem dX4_readLine_42 : decode cX4_readLine 42 = .ok (.aload_n 0, 1) := dk_42 (dk_at dksX4_readLine_1 18 rfl rfl)
theorem dX4_readLine_43 : decode cX4_readLine 43 = .ok (.ldc 153, 2) := dk_18 153 (dk_at dksX4_readLine_1 19 rfl rfl)
theorem dX4_readLine_45 : decode cX4_readLine 45 = .ok (.invokevirtual 137, 3) := dk_182 0 137 (dk_at dksX4_readLine_1 21 rfl rfl)
theorem dX4_readLine_48 : decode cX4_readLine 48 = .ok (.ifCond .eq 10, 3) := dk_153 0 10 (dk_at dksX4_readLine_2 0 rfl rfl)
theorem dX4_readLine_51 : decode cX4_readLine 51 = .ok (.aload_n 0, 1) := dk_42 (dk_at dksX4_readLine_2 3 rfl rfl)
theorem dX4_readLine_52 : decode cX4_readLine 52 = .ok (.invokevirtual 222, 3) := dk_182 0 222 (dk_at dksX4_readLine_2 4 rfl rfl)
theorem dX4_readLine_55 : decode cX4_readLine 55 = .ok (.goto 8, 3) := dk_167 0 8 (dk_at dksX4_readLine_2 7 rfl rfl)
theorem dX4_readLine_58 : decode cX4_readLine 58 = .ok (.aload_n 0, 1) := dk_42 (dk_at dksX4_readLine_2 10 rfl rfl)
theorem dX4_readLine_59 : decode cX4_readLine 59 = .ok (.iconst 1, 1) := dk_4 (dk_at dksX4_readLine_2 11 rfl rfl)
theorem dX4_readLine_60 : decode cX4_readLine 60 = .ok (.invokevirtual 130, 3) := dk_182 0 130 (dk_at dksX4_readLine_2 12 rfl rfl)
theorem dX4_readLine_63 : decode cX4_readLine 63 = .ok (.ireturn, 1) := dk_172 (dk_at dksX4_readLine_2 15 rfl rfl)
abbrev cX4_isWord : ByteArray := prog_15_method_13_code
def yX4_isWord : MethodName := ⟨RX4, "isWord", "(Ljava/lang/String;)Z"⟩
def dkwX4_isWord_2 : List UInt8 := [28, 182, 0, 120, 159, 0, 5, 3, 172, 132, 2, 1, 167, 255, 224, 4, 172]
abbrev dktX4_isWord_2 : List UInt8 := dkwX4_isWord_2 ++ []
def dkwX4_isWord_1 : List UInt8 := [3, 172, 3, 61, 28, 43, 182, 0, 114, 162, 0, 30, 42, 180, 0, 13, 42, 180, 0, 101, 28, 96, 46, 43]
abbrev dktX4_isWord_1 : List UInt8 := dkwX4_isWord_1 ++ dktX4_isWord_2
def dkwX4_isWord_0 : List UInt8 := [42, 180, 0, 104, 5, 160, 0, 19, 42, 180, 0, 94, 42, 180, 0, 101, 100, 43, 182, 0, 114, 159, 0, 5]
abbrev dktX4_isWord_0 : List UInt8 := dkwX4_isWord_0 ++ dktX4_isWord_1
theorem dksX4_isWord_0 : cX4_isWord.data.toList.drop 0 = dktX4_isWord_0 := by decide +kernel
theorem dksX4_isWord_1 : cX4_isWord.data.toList.drop 24 = dktX4_isWord_1 := dk_seg dksX4_isWord_0 24 rfl rfl
theorem dksX4_isWord_2 : cX4_isWord.data.toList.drop 48 = dktX4_isWord_2 := dk_seg dksX4_isWord_1 24 rfl rfl
theorem dX4_isWord_0 : decode cX4_isWord 0 = .ok (.aload_n 0, 1) := dk_42 (dk_at dksX4_isWord_0 0 rfl rfl)
theorem dX4_isWord_1 : decode cX4_isWord 1 = .ok (.getfield 104, 3) := dk_180 0 104 (dk_at dksX4_isWord_0 1 rfl rfl)
theorem dX4_isWord_4 : decode cX4_isWord 4 = .ok (.iconst 2, 1) := dk_5 (dk_at dksX4_isWord_0 4 rfl rfl)
theorem dX4_isWord_5 : decode cX4_isWord 5 = .ok (.if_icmp .ne 19, 3) := dk_160 0 19 (dk_at dksX4_isWord_0 5 rfl rfl)
theorem dX4_isWord_8 : decode cX4_isWord 8 = .ok (.aload_n 0, 1) := dk_42 (dk_at dksX4_isWord_0 8 rfl rfl)
theorem dX4_isWord_9 : decode cX4_isWord 9 = .ok (.getfield 94, 3) := dk_180 0 94 (dk_at dksX4_isWord_0 9 rfl rfl)
theorem dX4_isWord_12 : decode cX4_isWord 12 = .ok (.aload_n 0, 1) := dk_42 (dk_at dksX4_isWord_0 12 rfl rfl)
theorem dX4_isWord_13 : decode cX4_isWord 13 = .ok (.getfield 101, 3) := dk_180 0 101 (dk_at dksX4_isWord_0 13 rfl rfl)
theorem dX4_isWord_16 : decode cX4_isWord 16 = .ok (.isub, 1) := dk_100 (dk_at dksX4_isWord_0 16 rfl rfl)
theorem dX4_isWord_17 : decode cX4_isWord 17 = .ok (.aload_n 1, 1) := dk_43 (dk_at dksX4_isWord_0 17 rfl rfl)
theorem dX4_isWord_18 : decode cX4_isWord 18 = .ok (.invokevirtual 114, 3) := dk_182 0 114 (dk_at dksX4_isWord_0 18 rfl rfl)
theorem dX4_isWord_21 : decode cX4_isWord 21 = .ok (.if_icmp .eq 5, 3) := dk_159 0 5 (dk_at dksX4_isWord_0 21 rfl rfl)
theorem dX4_isWord_24 : decode cX4_isWord 24 = .ok (.iconst 0, 1) := dk_3 (dk_at dksX4_isWord_1 0 rfl rfl)
theorem dX4_isWord_25 : decode cX4_isWord 25 = .ok (.ireturn, 1) := dk_172 (dk_at dksX4_isWord_1 1 rfl rfl)
theorem dX4_isWord_26 : decode cX4_isWord 26 = .ok (.iconst 0, 1) := dk_3 (dk_at dksX4_isWord_1 2 rfl rfl)
theorem dX4_isWord_27 : decode cX4_isWord 27 = .ok (.istore_n 2, 1) := dk_61 (dk_at dksX4_isWord_1 3 rfl rfl)
theorem dX4_isWord_28 : decode cX4_isWord 28 = .ok (.iload_n 2, 1) := dk_28 (dk_at dksX4_isWord_1 4 rfl rfl)
theorem dX4_isWord_29 : decode cX4_isWord 29 = .ok (.aload_n 1, 1) := dk_43 (dk_at dksX4_isWord_1 5 rfl rfl)
theorem dX4_isWord_30 : decode cX4_isWord 30 = .ok (.invokevirtual 114, 3) := dk_182 0 114 (dk_at dksX4_isWord_1 6 rfl rfl)
theorem dX4_isWord_33 : decode cX4_isWord 33 = .ok (.if_icmp .ge 30, 3) := dk_162 0 30 (dk_at dksX4_isWord_1 9 rfl rfl)
theorem dX4_isWord_36 : decode cX4_isWord 36 = .ok (.aload_n 0, 1) := dk_42 (dk_at dksX4_isWord_1 12 rfl rfl)
theorem dX4_isWord_37 : decode cX4_isWord 37 = .ok (.getfield 13, 3) := dk_180 0 13 (dk_at dksX4_isWord_1 13 rfl rfl)
theorem dX4_isWord_40 : decode cX4_isWord 40 = .ok (.aload_n 0, 1) := dk_42 (dk_at dksX4_isWord_1 16 rfl rfl)
theorem dX4_isWord_41 : decode cX4_isWord 41 = .ok (.getfield 101, 3) := dk_180 0 101 (dk_at dksX4_isWord_1 17 rfl rfl)
theorem dX4_isWord_44 : decode cX4_isWord 44 = .ok (.iload_n 2, 1) := dk_28 (dk_at dksX4_isWord_1 20 rfl rfl)
theorem dX4_isWord_45 : decode cX4_isWord 45 = .ok (.iadd, 1) := dk_96 (dk_at dksX4_isWord_1 21 rfl rfl)
theorem dX4_isWord_46 : decode cX4_isWord 46 = .ok (.iaload, 1) := dk_46 (dk_at dksX4_isWord_1 22 rfl rfl)
theorem dX4_isWord_47 : decode cX4_isWord 47 = .ok (.aload_n 1, 1) := dk_43 (dk_at dksX4_isWord_1 23 rfl rfl)
theorem dX4_isWord_48 : decode cX4_isWord 48 = .ok (.iload_n 2, 1) := dk_28 (dk_at dksX4_isWord_2 0 rfl rfl)
theorem dX4_isWord_49 : decode cX4_isWord 49 = .ok (.invokevirtual 120, 3) := dk_182 0 120 (dk_at dksX4_isWord_2 1 rfl rfl)
theorem dX4_isWord_52 : decode cX4_isWord 52 = .ok (.if_icmp .eq 5, 3) := dk_159 0 5 (dk_at dksX4_isWord_2 4 rfl rfl)
theorem dX4_isWord_55 : decode cX4_isWord 55 = .ok (.iconst 0, 1) := dk_3 (dk_at dksX4_isWord_2 7 rfl rfl)
theorem dX4_isWord_56 : decode cX4_isWord 56 = .ok (.ireturn, 1) := dk_172 (dk_at dksX4_isWord_2 8 rfl rfl)
theorem dX4_isWord_57 : decode cX4_isWord 57 = .ok (.iinc 2 1, 3) := dk_132 2 1 (dk_at dksX4_isWord_2 9 rfl rfl)
theorem dX4_isWord_60 : decode cX4_isWord 60 = .ok (.goto (-32), 3) := dk_167 255 224 (dk_at dksX4_isWord_2 12 rfl rfl)
theorem dX4_isWord_63 : decode cX4_isWord 63 = .ok (.iconst 1, 1) := dk_4 (dk_at dksX4_isWord_2 15 rfl rfl)
theorem dX4_isWord_64 : decode cX4_isWord 64 = .ok (.ireturn, 1) := dk_172 (dk_at dksX4_isWord_2 16 rfl rfl)
abbrev cX4_readDesk : ByteArray := prog_15_method_23_code
def yX4_readDesk : MethodName := ⟨RX4, "readDesk", "()Z"⟩
def dkwX4_readDesk_1 : List UInt8 := [17, 3, 231, 182, 0, 172, 181, 0, 166, 42, 180, 0, 166, 172]
abbrev dktX4_readDesk_1 : List UInt8 := dkwX4_readDesk_1 ++ []
def dkwX4_readDesk_0 : List UInt8 := [42, 180, 0, 166, 153, 0, 9, 42, 6, 182, 0, 130, 172, 42, 182, 0, 134, 42, 42, 18, 170, 3, 4]
abbrev dktX4_readDesk_0 : List UInt8 := dkwX4_readDesk_0 ++ dktX4_readDesk_1
theorem dksX4_readDesk_0 : cX4_readDesk.data.toList.drop 0 = dktX4_readDesk_0 := by decide +kernel
theorem dksX4_readDesk_1 : cX4_readDesk.data.toList.drop 23 = dktX4_readDesk_1 := dk_seg dksX4_readDesk_0 23 rfl rfl
theorem dX4_readDesk_0 : decode cX4_readDesk 0 = .ok (.aload_n 0, 1) := dk_42 (dk_at dksX4_readDesk_0 0 rfl rfl)
theorem dX4_readDesk_1 : decode cX4_readDesk 1 = .ok (.getfield 166, 3) := dk_180 0 166 (dk_at dksX4_readDesk_0 1 rfl rfl)
theorem dX4_readDesk_4 : decode cX4_readDesk 4 = .ok (.ifCond .eq 9, 3) := dk_153 0 9 (dk_at dksX4_readDesk_0 4 rfl rfl)
theorem dX4_readDesk_7 : decode cX4_readDesk 7 = .ok (.aload_n 0, 1) := dk_42 (dk_at dksX4_readDesk_0 7 rfl rfl)
theorem dX4_readDesk_8 : decode cX4_readDesk 8 = .ok (.iconst 3, 1) := dk_6 (dk_at dksX4_readDesk_0 8 rfl rfl)
theorem dX4_readDesk_9 : decode cX4_readDesk 9 = .ok (.invokevirtual 130, 3) := dk_182 0 130 (dk_at dksX4_readDesk_0 9 rfl rfl)
theorem dX4_readDesk_12 : decode cX4_readDesk 12 = .ok (.ireturn, 1) := dk_172 (dk_at dksX4_readDesk_0 12 rfl rfl)
theorem dX4_readDesk_13 : decode cX4_readDesk 13 = .ok (.aload_n 0, 1) := dk_42 (dk_at dksX4_readDesk_0 13 rfl rfl)
theorem dX4_readDesk_14 : decode cX4_readDesk 14 = .ok (.invokevirtual 134, 3) := dk_182 0 134 (dk_at dksX4_readDesk_0 14 rfl rfl)
theorem dX4_readDesk_17 : decode cX4_readDesk 17 = .ok (.aload_n 0, 1) := dk_42 (dk_at dksX4_readDesk_0 17 rfl rfl)
theorem dX4_readDesk_18 : decode cX4_readDesk 18 = .ok (.aload_n 0, 1) := dk_42 (dk_at dksX4_readDesk_0 18 rfl rfl)
theorem dX4_readDesk_19 : decode cX4_readDesk 19 = .ok (.ldc 170, 2) := dk_18 170 (dk_at dksX4_readDesk_0 19 rfl rfl)
theorem dX4_readDesk_21 : decode cX4_readDesk 21 = .ok (.iconst 0, 1) := dk_3 (dk_at dksX4_readDesk_0 21 rfl rfl)
theorem dX4_readDesk_22 : decode cX4_readDesk 22 = .ok (.iconst 1, 1) := dk_4 (dk_at dksX4_readDesk_0 22 rfl rfl)
theorem dX4_readDesk_23 : decode cX4_readDesk 23 = .ok (.sipush 999, 3) := dk_17 3 231 (dk_at dksX4_readDesk_1 0 rfl rfl)
theorem dX4_readDesk_26 : decode cX4_readDesk 26 = .ok (.invokevirtual 172, 3) := dk_182 0 172 (dk_at dksX4_readDesk_1 3 rfl rfl)
theorem dX4_readDesk_29 : decode cX4_readDesk 29 = .ok (.putfield 166, 3) := dk_181 0 166 (dk_at dksX4_readDesk_1 6 rfl rfl)
theorem dX4_readDesk_32 : decode cX4_readDesk 32 = .ok (.aload_n 0, 1) := dk_42 (dk_at dksX4_readDesk_1 9 rfl rfl)
theorem dX4_readDesk_33 : decode cX4_readDesk 33 = .ok (.getfield 166, 3) := dk_180 0 166 (dk_at dksX4_readDesk_1 10 rfl rfl)
theorem dX4_readDesk_36 : decode cX4_readDesk 36 = .ok (.ireturn, 1) := dk_172 (dk_at dksX4_readDesk_1 13 rfl rfl)
abbrev cX4_errs : ByteArray := prog_15_method_14_code
def yX4_errs : MethodName := ⟨RX4, "errs", "(I)Z"⟩
def dkwX4_errs_0 : List UInt8 := [42, 27, 181, 0, 124, 42, 42, 180, 0, 101, 181, 0, 127, 3, 172]
abbrev dktX4_errs_0 : List UInt8 := dkwX4_errs_0 ++ []
theorem dksX4_errs_0 : cX4_errs.data.toList.drop 0 = dktX4_errs_0 := by decide +kernel
theorem dX4_errs_0 : decode cX4_errs 0 = .ok (.aload_n 0, 1) := dk_42 (dk_at dksX4_errs_0 0 rfl rfl)
theorem dX4_errs_1 : decode cX4_errs 1 = .ok (.iload_n 1, 1) := dk_27 (dk_at dksX4_errs_0 1 rfl rfl)
theorem dX4_errs_2 : decode cX4_errs 2 = .ok (.putfield 124, 3) := dk_181 0 124 (dk_at dksX4_errs_0 2 rfl rfl)
theorem dX4_errs_5 : decode cX4_errs 5 = .ok (.aload_n 0, 1) := dk_42 (dk_at dksX4_errs_0 5 rfl rfl)
theorem dX4_errs_6 : decode cX4_errs 6 = .ok (.aload_n 0, 1) := dk_42 (dk_at dksX4_errs_0 6 rfl rfl)
theorem dX4_errs_7 : decode cX4_errs 7 = .ok (.getfield 101, 3) := dk_180 0 101 (dk_at dksX4_errs_0 7 rfl rfl)
theorem dX4_errs_10 : decode cX4_errs 10 = .ok (.putfield 127, 3) := dk_181 0 127 (dk_at dksX4_errs_0 10 rfl rfl)
theorem dX4_errs_13 : decode cX4_errs 13 = .ok (.iconst 0, 1) := dk_3 (dk_at dksX4_errs_0 13 rfl rfl)
theorem dX4_errs_14 : decode cX4_errs 14 = .ok (.ireturn, 1) := dk_172 (dk_at dksX4_errs_0 14 rfl rfl)
abbrev cX4_after : ByteArray := prog_15_method_16_code
def yX4_after : MethodName := ⟨RX4, "after", "(Ljava/lang/String;III)Z"⟩
def dkwX4_after_1 : List UInt8 := [182, 0, 141, 172]
abbrev dktX4_after_1 : List UInt8 := dkwX4_after_1 ++ []
def dkwX4_after_0 : List UInt8 := [42, 43, 182, 0, 137, 154, 0, 9, 42, 4, 182, 0, 130, 172, 42, 182, 0, 134, 42, 28, 29, 21, 4]
abbrev dktX4_after_0 : List UInt8 := dkwX4_after_0 ++ dktX4_after_1
theorem dksX4_after_0 : cX4_after.data.toList.drop 0 = dktX4_after_0 := by decide +kernel
theorem dksX4_after_1 : cX4_after.data.toList.drop 23 = dktX4_after_1 := dk_seg dksX4_after_0 23 rfl rfl
theorem dX4_after_0 : decode cX4_after 0 = .ok (.aload_n 0, 1) := dk_42 (dk_at dksX4_after_0 0 rfl rfl)
theorem dX4_after_1 : decode cX4_after 1 = .ok (.aload_n 1, 1) := dk_43 (dk_at dksX4_after_0 1 rfl rfl)
theorem dX4_after_2 : decode cX4_after 2 = .ok (.invokevirtual 137, 3) := dk_182 0 137 (dk_at dksX4_after_0 2 rfl rfl)
theorem dX4_after_5 : decode cX4_after 5 = .ok (.ifCond .ne 9, 3) := dk_154 0 9 (dk_at dksX4_after_0 5 rfl rfl)
theorem dX4_after_8 : decode cX4_after 8 = .ok (.aload_n 0, 1) := dk_42 (dk_at dksX4_after_0 8 rfl rfl)
theorem dX4_after_9 : decode cX4_after 9 = .ok (.iconst 1, 1) := dk_4 (dk_at dksX4_after_0 9 rfl rfl)
theorem dX4_after_10 : decode cX4_after 10 = .ok (.invokevirtual 130, 3) := dk_182 0 130 (dk_at dksX4_after_0 10 rfl rfl)
theorem dX4_after_13 : decode cX4_after 13 = .ok (.ireturn, 1) := dk_172 (dk_at dksX4_after_0 13 rfl rfl)
theorem dX4_after_14 : decode cX4_after 14 = .ok (.aload_n 0, 1) := dk_42 (dk_at dksX4_after_0 14 rfl rfl)
theorem dX4_after_15 : decode cX4_after 15 = .ok (.invokevirtual 134, 3) := dk_182 0 134 (dk_at dksX4_after_0 15 rfl rfl)
theorem dX4_after_18 : decode cX4_after 18 = .ok (.aload_n 0, 1) := dk_42 (dk_at dksX4_after_0 18 rfl rfl)
theorem dX4_after_19 : decode cX4_after 19 = .ok (.iload_n 2, 1) := dk_28 (dk_at dksX4_after_0 19 rfl rfl)
theorem dX4_after_20 : decode cX4_after 20 = .ok (.iload_n 3, 1) := dk_29 (dk_at dksX4_after_0 20 rfl rfl)
theorem dX4_after_21 : decode cX4_after 21 = .ok (.iload 4, 2) := dk_21 4 (dk_at dksX4_after_0 21 rfl rfl)
theorem dX4_after_23 : decode cX4_after 23 = .ok (.invokevirtual 141, 3) := dk_182 0 141 (dk_at dksX4_after_1 0 rfl rfl)
theorem dX4_after_26 : decode cX4_after 26 = .ok (.ireturn, 1) := dk_172 (dk_at dksX4_after_1 3 rfl rfl)
abbrev cX4_lays : ByteArray := prog_15_method_15_code
def yX4_lays : MethodName := ⟨RX4, "lays", "(III)Z"⟩
def dkwX4_lays_2 : List UInt8 := [172]
abbrev dktX4_lays_2 : List UInt8 := dkwX4_lays_2 ++ []
def dkwX4_lays_1 : List UInt8 := [154, 0, 9, 42, 7, 182, 0, 130, 172, 42, 180, 0, 20, 27, 42, 180, 0, 111, 79, 42, 182, 0, 134, 4]
abbrev dktX4_lays_1 : List UInt8 := dkwX4_lays_1 ++ dktX4_lays_2
def dkwX4_lays_0 : List UInt8 := [42, 180, 0, 104, 6, 159, 0, 9, 42, 4, 182, 0, 130, 172, 42, 180, 0, 111, 28, 29, 184, 0, 107]
abbrev dktX4_lays_0 : List UInt8 := dkwX4_lays_0 ++ dktX4_lays_1
theorem dksX4_lays_0 : cX4_lays.data.toList.drop 0 = dktX4_lays_0 := by decide +kernel
theorem dksX4_lays_1 : cX4_lays.data.toList.drop 23 = dktX4_lays_1 := dk_seg dksX4_lays_0 23 rfl rfl
theorem dksX4_lays_2 : cX4_lays.data.toList.drop 47 = dktX4_lays_2 := dk_seg dksX4_lays_1 24 rfl rfl
theorem dX4_lays_0 : decode cX4_lays 0 = .ok (.aload_n 0, 1) := dk_42 (dk_at dksX4_lays_0 0 rfl rfl)
theorem dX4_lays_1 : decode cX4_lays 1 = .ok (.getfield 104, 3) := dk_180 0 104 (dk_at dksX4_lays_0 1 rfl rfl)
theorem dX4_lays_4 : decode cX4_lays 4 = .ok (.iconst 3, 1) := dk_6 (dk_at dksX4_lays_0 4 rfl rfl)
theorem dX4_lays_5 : decode cX4_lays 5 = .ok (.if_icmp .eq 9, 3) := dk_159 0 9 (dk_at dksX4_lays_0 5 rfl rfl)
theorem dX4_lays_8 : decode cX4_lays 8 = .ok (.aload_n 0, 1) := dk_42 (dk_at dksX4_lays_0 8 rfl rfl)
theorem dX4_lays_9 : decode cX4_lays 9 = .ok (.iconst 1, 1) := dk_4 (dk_at dksX4_lays_0 9 rfl rfl)
theorem dX4_lays_10 : decode cX4_lays 10 = .ok (.invokevirtual 130, 3) := dk_182 0 130 (dk_at dksX4_lays_0 10 rfl rfl)
theorem dX4_lays_13 : decode cX4_lays 13 = .ok (.ireturn, 1) := dk_172 (dk_at dksX4_lays_0 13 rfl rfl)
theorem dX4_lays_14 : decode cX4_lays 14 = .ok (.aload_n 0, 1) := dk_42 (dk_at dksX4_lays_0 14 rfl rfl)
theorem dX4_lays_15 : decode cX4_lays 15 = .ok (.getfield 111, 3) := dk_180 0 111 (dk_at dksX4_lays_0 15 rfl rfl)
theorem dX4_lays_18 : decode cX4_lays 18 = .ok (.iload_n 2, 1) := dk_28 (dk_at dksX4_lays_0 18 rfl rfl)
theorem dX4_lays_19 : decode cX4_lays 19 = .ok (.iload_n 3, 1) := dk_29 (dk_at dksX4_lays_0 19 rfl rfl)
theorem dX4_lays_20 : decode cX4_lays 20 = .ok (.invokestatic 107, 3) := dk_184 0 107 (dk_at dksX4_lays_0 20 rfl rfl)
theorem dX4_lays_23 : decode cX4_lays 23 = .ok (.ifCond .ne 9, 3) := dk_154 0 9 (dk_at dksX4_lays_1 0 rfl rfl)
theorem dX4_lays_26 : decode cX4_lays 26 = .ok (.aload_n 0, 1) := dk_42 (dk_at dksX4_lays_1 3 rfl rfl)
theorem dX4_lays_27 : decode cX4_lays 27 = .ok (.iconst 4, 1) := dk_7 (dk_at dksX4_lays_1 4 rfl rfl)
theorem dX4_lays_28 : decode cX4_lays 28 = .ok (.invokevirtual 130, 3) := dk_182 0 130 (dk_at dksX4_lays_1 5 rfl rfl)
theorem dX4_lays_31 : decode cX4_lays 31 = .ok (.ireturn, 1) := dk_172 (dk_at dksX4_lays_1 8 rfl rfl)
theorem dX4_lays_32 : decode cX4_lays 32 = .ok (.aload_n 0, 1) := dk_42 (dk_at dksX4_lays_1 9 rfl rfl)
theorem dX4_lays_33 : decode cX4_lays 33 = .ok (.getfield 20, 3) := dk_180 0 20 (dk_at dksX4_lays_1 10 rfl rfl)
theorem dX4_lays_36 : decode cX4_lays 36 = .ok (.iload_n 1, 1) := dk_27 (dk_at dksX4_lays_1 13 rfl rfl)
theorem dX4_lays_37 : decode cX4_lays 37 = .ok (.aload_n 0, 1) := dk_42 (dk_at dksX4_lays_1 14 rfl rfl)
theorem dX4_lays_38 : decode cX4_lays 38 = .ok (.getfield 111, 3) := dk_180 0 111 (dk_at dksX4_lays_1 15 rfl rfl)
theorem dX4_lays_41 : decode cX4_lays 41 = .ok (.iastore, 1) := dk_79 (dk_at dksX4_lays_1 18 rfl rfl)
theorem dX4_lays_42 : decode cX4_lays 42 = .ok (.aload_n 0, 1) := dk_42 (dk_at dksX4_lays_1 19 rfl rfl)
theorem dX4_lays_43 : decode cX4_lays 43 = .ok (.invokevirtual 134, 3) := dk_182 0 134 (dk_at dksX4_lays_1 20 rfl rfl)
theorem dX4_lays_46 : decode cX4_lays 46 = .ok (.iconst 1, 1) := dk_4 (dk_at dksX4_lays_1 23 rfl rfl)
theorem dX4_lays_47 : decode cX4_lays 47 = .ok (.ireturn, 1) := dk_172 (dk_at dksX4_lays_2 0 rfl rfl)
abbrev cX4_readSpot : ByteArray := prog_15_method_24_code
def yX4_readSpot : MethodName := ⟨RX4, "readSpot", "()Z"⟩
def dkwX4_readSpot_4 : List UInt8 := [172, 42, 180, 0, 20, 4, 92, 46, 4, 96, 79, 4, 172]
abbrev dktX4_readSpot_4 : List UInt8 := dkwX4_readSpot_4 ++ []
def dkwX4_readSpot_3 : List UInt8 := [182, 0, 137, 153, 0, 22, 42, 18, 186, 16, 15, 27, 96, 3, 17, 3, 231, 182, 0, 172, 154, 0, 5, 3]
abbrev dktX4_readSpot_3 : List UInt8 := dkwX4_readSpot_3 ++ dktX4_readSpot_4
def dkwX4_readSpot_2 : List UInt8 := [182, 0, 172, 154, 0, 5, 3, 172, 42, 180, 0, 20, 16, 15, 27, 96, 16, 254, 79, 42, 18, 186]
abbrev dktX4_readSpot_2 : List UInt8 := dkwX4_readSpot_2 ++ dktX4_readSpot_3
def dkwX4_readSpot_1 : List UInt8 := [153, 0, 30, 42, 42, 180, 0, 29, 27, 182, 0, 180, 153, 0, 18, 42, 18, 184, 8, 27, 96, 3, 16, 99]
abbrev dktX4_readSpot_1 : List UInt8 := dkwX4_readSpot_1 ++ dktX4_readSpot_2
def dkwX4_readSpot_0 : List UInt8 := [42, 180, 0, 20, 4, 46, 60, 42, 27, 16, 10, 162, 0, 7, 4, 167, 0, 4, 3, 182, 0, 176]
abbrev dktX4_readSpot_0 : List UInt8 := dkwX4_readSpot_0 ++ dktX4_readSpot_1
theorem dksX4_readSpot_0 : cX4_readSpot.data.toList.drop 0 = dktX4_readSpot_0 := by decide +kernel
theorem dksX4_readSpot_1 : cX4_readSpot.data.toList.drop 22 = dktX4_readSpot_1 := dk_seg dksX4_readSpot_0 22 rfl rfl
theorem dksX4_readSpot_2 : cX4_readSpot.data.toList.drop 46 = dktX4_readSpot_2 := dk_seg dksX4_readSpot_1 24 rfl rfl
theorem dksX4_readSpot_3 : cX4_readSpot.data.toList.drop 68 = dktX4_readSpot_3 := dk_seg dksX4_readSpot_2 22 rfl rfl
theorem dksX4_readSpot_4 : cX4_readSpot.data.toList.drop 92 = dktX4_readSpot_4 := dk_seg dksX4_readSpot_3 24 rfl rfl
theorem dX4_readSpot_0 : decode cX4_readSpot 0 = .ok (.aload_n 0, 1) := dk_42 (dk_at dksX4_readSpot_0 0 rfl rfl)
theorem dX4_readSpot_1 : decode cX4_readSpot 1 = .ok (.getfield 20, 3) := dk_180 0 20 (dk_at dksX4_readSpot_0 1 rfl rfl)
theorem dX4_readSpot_4 : decode cX4_readSpot 4 = .ok (.iconst 1, 1) := dk_4 (dk_at dksX4_readSpot_0 4 rfl rfl)
theorem dX4_readSpot_5 : decode cX4_readSpot 5 = .ok (.iaload, 1) := dk_46 (dk_at dksX4_readSpot_0 5 rfl rfl)
theorem dX4_readSpot_6 : decode cX4_readSpot 6 = .ok (.istore_n 1, 1) := dk_60 (dk_at dksX4_readSpot_0 6 rfl rfl)
theorem dX4_readSpot_7 : decode cX4_readSpot 7 = .ok (.aload_n 0, 1) := dk_42 (dk_at dksX4_readSpot_0 7 rfl rfl)
theorem dX4_readSpot_8 : decode cX4_readSpot 8 = .ok (.iload_n 1, 1) := dk_27 (dk_at dksX4_readSpot_0 8 rfl rfl)
theorem dX4_readSpot_9 : decode cX4_readSpot 9 = .ok (.bipush 10, 2) := dk_16 10 (dk_at dksX4_readSpot_0 9 rfl rfl)
theorem dX4_readSpot_11 : decode cX4_readSpot 11 = .ok (.if_icmp .ge 7, 3) := dk_162 0 7 (dk_at dksX4_readSpot_0 11 rfl rfl)
theorem dX4_readSpot_14 : decode cX4_readSpot 14 = .ok (.iconst 1, 1) := dk_4 (dk_at dksX4_readSpot_0 14 rfl rfl)
theorem dX4_readSpot_15 : decode cX4_readSpot 15 = .ok (.goto 4, 3) := dk_167 0 4 (dk_at dksX4_readSpot_0 15 rfl rfl)
theorem dX4_readSpot_18 : decode cX4_readSpot 18 = .ok (.iconst 0, 1) := dk_3 (dk_at dksX4_readSpot_0 18 rfl rfl)
theorem dX4_readSpot_19 : decode cX4_readSpot 19 = .ok (.invokevirtual 176, 3) := dk_182 0 176 (dk_at dksX4_readSpot_0 19 rfl rfl)
theorem dX4_readSpot_22 : decode cX4_readSpot 22 = .ok (.ifCond .eq 30, 3) := dk_153 0 30 (dk_at dksX4_readSpot_1 0 rfl rfl)
theorem dX4_readSpot_25 : decode cX4_readSpot 25 = .ok (.aload_n 0, 1) := dk_42 (dk_at dksX4_readSpot_1 3 rfl rfl)
theorem dX4_readSpot_26 : decode cX4_readSpot 26 = .ok (.aload_n 0, 1) := dk_42 (dk_at dksX4_readSpot_1 4 rfl rfl)
theorem dX4_readSpot_27 : decode cX4_readSpot 27 = .ok (.getfield 29, 3) := dk_180 0 29 (dk_at dksX4_readSpot_1 5 rfl rfl)
theorem dX4_readSpot_30 : decode cX4_readSpot 30 = .ok (.iload_n 1, 1) := dk_27 (dk_at dksX4_readSpot_1 8 rfl rfl)
theorem dX4_readSpot_31 : decode cX4_readSpot 31 = .ok (.invokevirtual 180, 3) := dk_182 0 180 (dk_at dksX4_readSpot_1 9 rfl rfl)
theorem dX4_readSpot_34 : decode cX4_readSpot 34 = .ok (.ifCond .eq 18, 3) := dk_153 0 18 (dk_at dksX4_readSpot_1 12 rfl rfl)
theorem dX4_readSpot_37 : decode cX4_readSpot 37 = .ok (.aload_n 0, 1) := dk_42 (dk_at dksX4_readSpot_1 15 rfl rfl)
theorem dX4_readSpot_38 : decode cX4_readSpot 38 = .ok (.ldc 184, 2) := dk_18 184 (dk_at dksX4_readSpot_1 16 rfl rfl)
theorem dX4_readSpot_40 : decode cX4_readSpot 40 = .ok (.iconst 5, 1) := dk_8 (dk_at dksX4_readSpot_1 18 rfl rfl)
theorem dX4_readSpot_41 : decode cX4_readSpot 41 = .ok (.iload_n 1, 1) := dk_27 (dk_at dksX4_readSpot_1 19 rfl rfl)
theorem dX4_readSpot_42 : decode cX4_readSpot 42 = .ok (.iadd, 1) := dk_96 (dk_at dksX4_readSpot_1 20 rfl rfl)
theorem dX4_readSpot_43 : decode cX4_readSpot 43 = .ok (.iconst 0, 1) := dk_3 (dk_at dksX4_readSpot_1 21 rfl rfl)
theorem dX4_readSpot_44 : decode cX4_readSpot 44 = .ok (.bipush 99, 2) := dk_16 99 (dk_at dksX4_readSpot_1 22 rfl rfl)
theorem dX4_readSpot_46 : decode cX4_readSpot 46 = .ok (.invokevirtual 172, 3) := dk_182 0 172 (dk_at dksX4_readSpot_2 0 rfl rfl)
theorem dX4_readSpot_49 : decode cX4_readSpot 49 = .ok (.ifCond .ne 5, 3) := dk_154 0 5 (dk_at dksX4_readSpot_2 3 rfl rfl)
theorem dX4_readSpot_52 : decode cX4_readSpot 52 = .ok (.iconst 0, 1) := dk_3 (dk_at dksX4_readSpot_2 6 rfl rfl)
theorem dX4_readSpot_53 : decode cX4_readSpot 53 = .ok (.ireturn, 1) := dk_172 (dk_at dksX4_readSpot_2 7 rfl rfl)
theorem dX4_readSpot_54 : decode cX4_readSpot 54 = .ok (.aload_n 0, 1) := dk_42 (dk_at dksX4_readSpot_2 8 rfl rfl)
theorem dX4_readSpot_55 : decode cX4_readSpot 55 = .ok (.getfield 20, 3) := dk_180 0 20 (dk_at dksX4_readSpot_2 9 rfl rfl)
theorem dX4_readSpot_58 : decode cX4_readSpot 58 = .ok (.bipush 15, 2) := dk_16 15 (dk_at dksX4_readSpot_2 12 rfl rfl)
theorem dX4_readSpot_60 : decode cX4_readSpot 60 = .ok (.iload_n 1, 1) := dk_27 (dk_at dksX4_readSpot_2 14 rfl rfl)
theorem dX4_readSpot_61 : decode cX4_readSpot 61 = .ok (.iadd, 1) := dk_96 (dk_at dksX4_readSpot_2 15 rfl rfl)
theorem dX4_readSpot_62 : decode cX4_readSpot 62 = .ok (.bipush (-2), 2) := dk_16 254 (dk_at dksX4_readSpot_2 16 rfl rfl)
theorem dX4_readSpot_64 : decode cX4_readSpot 64 = .ok (.iastore, 1) := dk_79 (dk_at dksX4_readSpot_2 18 rfl rfl)
theorem dX4_readSpot_65 : decode cX4_readSpot 65 = .ok (.aload_n 0, 1) := dk_42 (dk_at dksX4_readSpot_2 19 rfl rfl)
theorem dX4_readSpot_66 : decode cX4_readSpot 66 = .ok (.ldc 186, 2) := dk_18 186 (dk_at dksX4_readSpot_2 20 rfl rfl)
theorem dX4_readSpot_68 : decode cX4_readSpot 68 = .ok (.invokevirtual 137, 3) := dk_182 0 137 (dk_at dksX4_readSpot_3 0 rfl rfl)
theorem dX4_readSpot_71 : decode cX4_readSpot 71 = .ok (.ifCond .eq 22, 3) := dk_153 0 22 (dk_at dksX4_readSpot_3 3 rfl rfl)
theorem dX4_readSpot_74 : decode cX4_readSpot 74 = .ok (.aload_n 0, 1) := dk_42 (dk_at dksX4_readSpot_3 6 rfl rfl)
theorem dX4_readSpot_75 : decode cX4_readSpot 75 = .ok (.ldc 186, 2) := dk_18 186 (dk_at dksX4_readSpot_3 7 rfl rfl)
theorem dX4_readSpot_77 : decode cX4_readSpot 77 = .ok (.bipush 15, 2) := dk_16 15 (dk_at dksX4_readSpot_3 9 rfl rfl)
theorem dX4_readSpot_79 : decode cX4_readSpot 79 = .ok (.iload_n 1, 1) := dk_27 (dk_at dksX4_readSpot_3 11 rfl rfl)
theorem dX4_readSpot_80 : decode cX4_readSpot 80 = .ok (.iadd, 1) := dk_96 (dk_at dksX4_readSpot_3 12 rfl rfl)
theorem dX4_readSpot_81 : decode cX4_readSpot 81 = .ok (.iconst 0, 1) := dk_3 (dk_at dksX4_readSpot_3 13 rfl rfl)
theorem dX4_readSpot_82 : decode cX4_readSpot 82 = .ok (.sipush 999, 3) := dk_17 3 231 (dk_at dksX4_readSpot_3 14 rfl rfl)
theorem dX4_readSpot_85 : decode cX4_readSpot 85 = .ok (.invokevirtual 172, 3) := dk_182 0 172 (dk_at dksX4_readSpot_3 17 rfl rfl)
theorem dX4_readSpot_88 : decode cX4_readSpot 88 = .ok (.ifCond .ne 5, 3) := dk_154 0 5 (dk_at dksX4_readSpot_3 20 rfl rfl)
theorem dX4_readSpot_91 : decode cX4_readSpot 91 = .ok (.iconst 0, 1) := dk_3 (dk_at dksX4_readSpot_3 23 rfl rfl)
theorem dX4_readSpot_92 : decode cX4_readSpot 92 = .ok (.ireturn, 1) := dk_172 (dk_at dksX4_readSpot_4 0 rfl rfl)
theorem dX4_readSpot_93 : decode cX4_readSpot 93 = .ok (.aload_n 0, 1) := dk_42 (dk_at dksX4_readSpot_4 1 rfl rfl)
theorem dX4_readSpot_94 : decode cX4_readSpot 94 = .ok (.getfield 20, 3) := dk_180 0 20 (dk_at dksX4_readSpot_4 2 rfl rfl)
theorem dX4_readSpot_97 : decode cX4_readSpot 97 = .ok (.iconst 1, 1) := dk_4 (dk_at dksX4_readSpot_4 5 rfl rfl)
theorem dX4_readSpot_98 : decode cX4_readSpot 98 = .ok (.dup2, 1) := dk_92 (dk_at dksX4_readSpot_4 6 rfl rfl)
theorem dX4_readSpot_99 : decode cX4_readSpot 99 = .ok (.iaload, 1) := dk_46 (dk_at dksX4_readSpot_4 7 rfl rfl)
theorem dX4_readSpot_100 : decode cX4_readSpot 100 = .ok (.iconst 1, 1) := dk_4 (dk_at dksX4_readSpot_4 8 rfl rfl)
theorem dX4_readSpot_101 : decode cX4_readSpot 101 = .ok (.iadd, 1) := dk_96 (dk_at dksX4_readSpot_4 9 rfl rfl)
theorem dX4_readSpot_102 : decode cX4_readSpot 102 = .ok (.iastore, 1) := dk_79 (dk_at dksX4_readSpot_4 10 rfl rfl)
theorem dX4_readSpot_103 : decode cX4_readSpot 103 = .ok (.iconst 1, 1) := dk_4 (dk_at dksX4_readSpot_4 11 rfl rfl)
theorem dX4_readSpot_104 : decode cX4_readSpot 104 = .ok (.ireturn, 1) := dk_172 (dk_at dksX4_readSpot_4 12 rfl rfl)
abbrev cX4_begins : ByteArray := prog_15_method_22_code
def yX4_begins : MethodName := ⟨RX4, "begins", "(Z)Z"⟩
def dkwX4_begins_1 : List UInt8 := [42, 182, 0, 134, 4, 172]
abbrev dktX4_begins_1 : List UInt8 := dkwX4_begins_1 ++ []
def dkwX4_begins_0 : List UInt8 := [27, 154, 0, 9, 42, 8, 182, 0, 130, 172, 42, 180, 0, 166, 154, 0, 10, 42, 16, 6, 182, 0, 130, 172]
abbrev dktX4_begins_0 : List UInt8 := dkwX4_begins_0 ++ dktX4_begins_1
theorem dksX4_begins_0 : cX4_begins.data.toList.drop 0 = dktX4_begins_0 := by decide +kernel
theorem dksX4_begins_1 : cX4_begins.data.toList.drop 24 = dktX4_begins_1 := dk_seg dksX4_begins_0 24 rfl rfl
theorem dX4_begins_0 : decode cX4_begins 0 = .ok (.iload_n 1, 1) := dk_27 (dk_at dksX4_begins_0 0 rfl rfl)
theorem dX4_begins_1 : decode cX4_begins 1 = .ok (.ifCond .ne 9, 3) := dk_154 0 9 (dk_at dksX4_begins_0 1 rfl rfl)
theorem dX4_begins_4 : decode cX4_begins 4 = .ok (.aload_n 0, 1) := dk_42 (dk_at dksX4_begins_0 4 rfl rfl)
theorem dX4_begins_5 : decode cX4_begins 5 = .ok (.iconst 5, 1) := dk_8 (dk_at dksX4_begins_0 5 rfl rfl)
theorem dX4_begins_6 : decode cX4_begins 6 = .ok (.invokevirtual 130, 3) := dk_182 0 130 (dk_at dksX4_begins_0 6 rfl rfl)
theorem dX4_begins_9 : decode cX4_begins 9 = .ok (.ireturn, 1) := dk_172 (dk_at dksX4_begins_0 9 rfl rfl)
theorem dX4_begins_10 : decode cX4_begins 10 = .ok (.aload_n 0, 1) := dk_42 (dk_at dksX4_begins_0 10 rfl rfl)
theorem dX4_begins_11 : decode cX4_begins 11 = .ok (.getfield 166, 3) := dk_180 0 166 (dk_at dksX4_begins_0 11 rfl rfl)
theorem dX4_begins_14 : decode cX4_begins 14 = .ok (.ifCond .ne 10, 3) := dk_154 0 10 (dk_at dksX4_begins_0 14 rfl rfl)
theorem dX4_begins_17 : decode cX4_begins 17 = .ok (.aload_n 0, 1) := dk_42 (dk_at dksX4_begins_0 17 rfl rfl)
theorem dX4_begins_18 : decode cX4_begins 18 = .ok (.bipush 6, 2) := dk_16 6 (dk_at dksX4_begins_0 18 rfl rfl)
theorem dX4_begins_20 : decode cX4_begins 20 = .ok (.invokevirtual 130, 3) := dk_182 0 130 (dk_at dksX4_begins_0 20 rfl rfl)
theorem dX4_begins_23 : decode cX4_begins 23 = .ok (.ireturn, 1) := dk_172 (dk_at dksX4_begins_0 23 rfl rfl)
theorem dX4_begins_24 : decode cX4_begins 24 = .ok (.aload_n 0, 1) := dk_42 (dk_at dksX4_begins_1 0 rfl rfl)
theorem dX4_begins_25 : decode cX4_begins 25 = .ok (.invokevirtual 134, 3) := dk_182 0 134 (dk_at dksX4_begins_1 1 rfl rfl)
theorem dX4_begins_28 : decode cX4_begins 28 = .ok (.iconst 1, 1) := dk_4 (dk_at dksX4_begins_1 4 rfl rfl)
theorem dX4_begins_29 : decode cX4_begins 29 = .ok (.ireturn, 1) := dk_172 (dk_at dksX4_begins_1 5 rfl rfl)
abbrev cX4_takesNew : ByteArray := prog_15_method_20_code
def yX4_takesNew : MethodName := ⟨RX4, "takesNew", "([JI)Z"⟩
def dkwX4_takesNew_2 : List UInt8 := [2, 159, 0, 9, 42, 6, 182, 0, 130, 172, 43, 28, 42, 182, 0, 158, 80, 42, 182, 0, 134, 4, 172]
abbrev dktX4_takesNew_2 : List UInt8 := dkwX4_takesNew_2 ++ []
def dkwX4_takesNew_1 : List UInt8 := [184, 0, 162, 2, 160, 0, 24, 42, 180, 0, 33, 42, 180, 0, 20, 5, 46, 42, 182, 0, 158, 184, 0, 162]
abbrev dktX4_takesNew_1 : List UInt8 := dkwX4_takesNew_1 ++ dktX4_takesNew_2
def dkwX4_takesNew_0 : List UInt8 := [42, 182, 0, 154, 154, 0, 5, 3, 172, 42, 180, 0, 29, 42, 180, 0, 20, 4, 46, 42, 182, 0, 158]
abbrev dktX4_takesNew_0 : List UInt8 := dkwX4_takesNew_0 ++ dktX4_takesNew_1
theorem dksX4_takesNew_0 : cX4_takesNew.data.toList.drop 0 = dktX4_takesNew_0 := by decide +kernel
theorem dksX4_takesNew_1 : cX4_takesNew.data.toList.drop 23 = dktX4_takesNew_1 := dk_seg dksX4_takesNew_0 23 rfl rfl
theorem dksX4_takesNew_2 : cX4_takesNew.data.toList.drop 47 = dktX4_takesNew_2 := dk_seg dksX4_takesNew_1 24 rfl rfl
theorem dX4_takesNew_0 : decode cX4_takesNew 0 = .ok (.aload_n 0, 1) := dk_42 (dk_at dksX4_takesNew_0 0 rfl rfl)
theorem dX4_takesNew_1 : decode cX4_takesNew 1 = .ok (.invokevirtual 154, 3) := dk_182 0 154 (dk_at dksX4_takesNew_0 1 rfl rfl)
theorem dX4_takesNew_4 : decode cX4_takesNew 4 = .ok (.ifCond .ne 5, 3) := dk_154 0 5 (dk_at dksX4_takesNew_0 4 rfl rfl)
theorem dX4_takesNew_7 : decode cX4_takesNew 7 = .ok (.iconst 0, 1) := dk_3 (dk_at dksX4_takesNew_0 7 rfl rfl)
theorem dX4_takesNew_8 : decode cX4_takesNew 8 = .ok (.ireturn, 1) := dk_172 (dk_at dksX4_takesNew_0 8 rfl rfl)
theorem dX4_takesNew_9 : decode cX4_takesNew 9 = .ok (.aload_n 0, 1) := dk_42 (dk_at dksX4_takesNew_0 9 rfl rfl)
theorem dX4_takesNew_10 : decode cX4_takesNew 10 = .ok (.getfield 29, 3) := dk_180 0 29 (dk_at dksX4_takesNew_0 10 rfl rfl)
theorem dX4_takesNew_13 : decode cX4_takesNew 13 = .ok (.aload_n 0, 1) := dk_42 (dk_at dksX4_takesNew_0 13 rfl rfl)
theorem dX4_takesNew_14 : decode cX4_takesNew 14 = .ok (.getfield 20, 3) := dk_180 0 20 (dk_at dksX4_takesNew_0 14 rfl rfl)
theorem dX4_takesNew_17 : decode cX4_takesNew 17 = .ok (.iconst 1, 1) := dk_4 (dk_at dksX4_takesNew_0 17 rfl rfl)
theorem dX4_takesNew_18 : decode cX4_takesNew 18 = .ok (.iaload, 1) := dk_46 (dk_at dksX4_takesNew_0 18 rfl rfl)
theorem dX4_takesNew_19 : decode cX4_takesNew 19 = .ok (.aload_n 0, 1) := dk_42 (dk_at dksX4_takesNew_0 19 rfl rfl)
theorem dX4_takesNew_20 : decode cX4_takesNew 20 = .ok (.invokevirtual 158, 3) := dk_182 0 158 (dk_at dksX4_takesNew_0 20 rfl rfl)
theorem dX4_takesNew_23 : decode cX4_takesNew 23 = .ok (.invokestatic 162, 3) := dk_184 0 162 (dk_at dksX4_takesNew_1 0 rfl rfl)
theorem dX4_takesNew_26 : decode cX4_takesNew 26 = .ok (.iconst (-1), 1) := dk_2 (dk_at dksX4_takesNew_1 3 rfl rfl)
theorem dX4_takesNew_27 : decode cX4_takesNew 27 = .ok (.if_icmp .ne 24, 3) := dk_160 0 24 (dk_at dksX4_takesNew_1 4 rfl rfl)
theorem dX4_takesNew_30 : decode cX4_takesNew 30 = .ok (.aload_n 0, 1) := dk_42 (dk_at dksX4_takesNew_1 7 rfl rfl)
theorem dX4_takesNew_31 : decode cX4_takesNew 31 = .ok (.getfield 33, 3) := dk_180 0 33 (dk_at dksX4_takesNew_1 8 rfl rfl)
theorem dX4_takesNew_34 : decode cX4_takesNew 34 = .ok (.aload_n 0, 1) := dk_42 (dk_at dksX4_takesNew_1 11 rfl rfl)
theorem dX4_takesNew_35 : decode cX4_takesNew 35 = .ok (.getfield 20, 3) := dk_180 0 20 (dk_at dksX4_takesNew_1 12 rfl rfl)
theorem dX4_takesNew_38 : decode cX4_takesNew 38 = .ok (.iconst 2, 1) := dk_5 (dk_at dksX4_takesNew_1 15 rfl rfl)
theorem dX4_takesNew_39 : decode cX4_takesNew 39 = .ok (.iaload, 1) := dk_46 (dk_at dksX4_takesNew_1 16 rfl rfl)
theorem dX4_takesNew_40 : decode cX4_takesNew 40 = .ok (.aload_n 0, 1) := dk_42 (dk_at dksX4_takesNew_1 17 rfl rfl)
theorem dX4_takesNew_41 : decode cX4_takesNew 41 = .ok (.invokevirtual 158, 3) := dk_182 0 158 (dk_at dksX4_takesNew_1 18 rfl rfl)
theorem dX4_takesNew_44 : decode cX4_takesNew 44 = .ok (.invokestatic 162, 3) := dk_184 0 162 (dk_at dksX4_takesNew_1 21 rfl rfl)
theorem dX4_takesNew_47 : decode cX4_takesNew 47 = .ok (.iconst (-1), 1) := dk_2 (dk_at dksX4_takesNew_2 0 rfl rfl)
theorem dX4_takesNew_48 : decode cX4_takesNew 48 = .ok (.if_icmp .eq 9, 3) := dk_159 0 9 (dk_at dksX4_takesNew_2 1 rfl rfl)
theorem dX4_takesNew_51 : decode cX4_takesNew 51 = .ok (.aload_n 0, 1) := dk_42 (dk_at dksX4_takesNew_2 4 rfl rfl)
theorem dX4_takesNew_52 : decode cX4_takesNew 52 = .ok (.iconst 3, 1) := dk_6 (dk_at dksX4_takesNew_2 5 rfl rfl)
theorem dX4_takesNew_53 : decode cX4_takesNew 53 = .ok (.invokevirtual 130, 3) := dk_182 0 130 (dk_at dksX4_takesNew_2 6 rfl rfl)
theorem dX4_takesNew_56 : decode cX4_takesNew 56 = .ok (.ireturn, 1) := dk_172 (dk_at dksX4_takesNew_2 9 rfl rfl)
theorem dX4_takesNew_57 : decode cX4_takesNew 57 = .ok (.aload_n 1, 1) := dk_43 (dk_at dksX4_takesNew_2 10 rfl rfl)
theorem dX4_takesNew_58 : decode cX4_takesNew 58 = .ok (.iload_n 2, 1) := dk_28 (dk_at dksX4_takesNew_2 11 rfl rfl)
theorem dX4_takesNew_59 : decode cX4_takesNew 59 = .ok (.aload_n 0, 1) := dk_42 (dk_at dksX4_takesNew_2 12 rfl rfl)
theorem dX4_takesNew_60 : decode cX4_takesNew 60 = .ok (.invokevirtual 158, 3) := dk_182 0 158 (dk_at dksX4_takesNew_2 13 rfl rfl)
theorem dX4_takesNew_63 : decode cX4_takesNew 63 = .ok (.lastore, 1) := dk_80 (dk_at dksX4_takesNew_2 16 rfl rfl)
theorem dX4_takesNew_64 : decode cX4_takesNew 64 = .ok (.aload_n 0, 1) := dk_42 (dk_at dksX4_takesNew_2 17 rfl rfl)
theorem dX4_takesNew_65 : decode cX4_takesNew 65 = .ok (.invokevirtual 134, 3) := dk_182 0 134 (dk_at dksX4_takesNew_2 18 rfl rfl)
theorem dX4_takesNew_68 : decode cX4_takesNew 68 = .ok (.iconst 1, 1) := dk_4 (dk_at dksX4_takesNew_2 21 rfl rfl)
theorem dX4_takesNew_69 : decode cX4_takesNew 69 = .ok (.ireturn, 1) := dk_172 (dk_at dksX4_takesNew_2 22 rfl rfl)
abbrev cX4_isName : ByteArray := prog_15_method_19_code
def yX4_isName : MethodName := ⟨RX4, "isName", "()Z"⟩
def dkwX4_isName_2 : List UInt8 := [182, 0, 130, 153, 0, 7, 4, 167, 0, 4, 3, 172]
abbrev dktX4_isName_2 : List UInt8 := dkwX4_isName_2 ++ []
def dkwX4_isName_1 : List UInt8 := [154, 0, 21, 42, 18, 151, 182, 0, 137, 154, 0, 12, 42, 18, 153, 182, 0, 137, 153, 0, 11, 42, 4]
abbrev dktX4_isName_1 : List UInt8 := dkwX4_isName_1 ++ dktX4_isName_2
def dkwX4_isName_0 : List UInt8 := [42, 180, 0, 104, 5, 160, 0, 39, 42, 18, 148, 182, 0, 137, 154, 0, 30, 42, 18, 150, 182, 0, 137]
abbrev dktX4_isName_0 : List UInt8 := dkwX4_isName_0 ++ dktX4_isName_1
theorem dksX4_isName_0 : cX4_isName.data.toList.drop 0 = dktX4_isName_0 := by decide +kernel
theorem dksX4_isName_1 : cX4_isName.data.toList.drop 23 = dktX4_isName_1 := dk_seg dksX4_isName_0 23 rfl rfl
theorem dksX4_isName_2 : cX4_isName.data.toList.drop 46 = dktX4_isName_2 := dk_seg dksX4_isName_1 23 rfl rfl
theorem dX4_isName_0 : decode cX4_isName 0 = .ok (.aload_n 0, 1) := dk_42 (dk_at dksX4_isName_0 0 rfl rfl)
theorem dX4_isName_1 : decode cX4_isName 1 = .ok (.getfield 104, 3) := dk_180 0 104 (dk_at dksX4_isName_0 1 rfl rfl)
theorem dX4_isName_4 : decode cX4_isName 4 = .ok (.iconst 2, 1) := dk_5 (dk_at dksX4_isName_0 4 rfl rfl)
theorem dX4_isName_5 : decode cX4_isName 5 = .ok (.if_icmp .ne 39, 3) := dk_160 0 39 (dk_at dksX4_isName_0 5 rfl rfl)
theorem dX4_isName_8 : decode cX4_isName 8 = .ok (.aload_n 0, 1) := dk_42 (dk_at dksX4_isName_0 8 rfl rfl)
theorem dX4_isName_9 : decode cX4_isName 9 = .ok (.ldc 148, 2) := dk_18 148 (dk_at dksX4_isName_0 9 rfl rfl)
theorem dX4_isName_11 : decode cX4_isName 11 = .ok (.invokevirtual 137, 3) := dk_182 0 137 (dk_at dksX4_isName_0 11 rfl rfl)
theorem dX4_isName_14 : decode cX4_isName 14 = .ok (.ifCond .ne 30, 3) := dk_154 0 30 (dk_at dksX4_isName_0 14 rfl rfl)
theorem dX4_isName_17 : decode cX4_isName 17 = .ok (.aload_n 0, 1) := dk_42 (dk_at dksX4_isName_0 17 rfl rfl)
theorem dX4_isName_18 : decode cX4_isName 18 = .ok (.ldc 150, 2) := dk_18 150 (dk_at dksX4_isName_0 18 rfl rfl)
theorem dX4_isName_20 : decode cX4_isName 20 = .ok (.invokevirtual 137, 3) := dk_182 0 137 (dk_at dksX4_isName_0 20 rfl rfl)
theorem dX4_isName_23 : decode cX4_isName 23 = .ok (.ifCond .ne 21, 3) := dk_154 0 21 (dk_at dksX4_isName_1 0 rfl rfl)
theorem dX4_isName_26 : decode cX4_isName 26 = .ok (.aload_n 0, 1) := dk_42 (dk_at dksX4_isName_1 3 rfl rfl)
theorem dX4_isName_27 : decode cX4_isName 27 = .ok (.ldc 151, 2) := dk_18 151 (dk_at dksX4_isName_1 4 rfl rfl)
theorem dX4_isName_29 : decode cX4_isName 29 = .ok (.invokevirtual 137, 3) := dk_182 0 137 (dk_at dksX4_isName_1 6 rfl rfl)
theorem dX4_isName_32 : decode cX4_isName 32 = .ok (.ifCond .ne 12, 3) := dk_154 0 12 (dk_at dksX4_isName_1 9 rfl rfl)
theorem dX4_isName_35 : decode cX4_isName 35 = .ok (.aload_n 0, 1) := dk_42 (dk_at dksX4_isName_1 12 rfl rfl)
theorem dX4_isName_36 : decode cX4_isName 36 = .ok (.ldc 153, 2) := dk_18 153 (dk_at dksX4_isName_1 13 rfl rfl)
theorem dX4_isName_38 : decode cX4_isName 38 = .ok (.invokevirtual 137, 3) := dk_182 0 137 (dk_at dksX4_isName_1 15 rfl rfl)
theorem dX4_isName_41 : decode cX4_isName 41 = .ok (.ifCond .eq 11, 3) := dk_153 0 11 (dk_at dksX4_isName_1 18 rfl rfl)
theorem dX4_isName_44 : decode cX4_isName 44 = .ok (.aload_n 0, 1) := dk_42 (dk_at dksX4_isName_1 21 rfl rfl)
theorem dX4_isName_45 : decode cX4_isName 45 = .ok (.iconst 1, 1) := dk_4 (dk_at dksX4_isName_1 22 rfl rfl)
theorem dX4_isName_46 : decode cX4_isName 46 = .ok (.invokevirtual 130, 3) := dk_182 0 130 (dk_at dksX4_isName_2 0 rfl rfl)
theorem dX4_isName_49 : decode cX4_isName 49 = .ok (.ifCond .eq 7, 3) := dk_153 0 7 (dk_at dksX4_isName_2 3 rfl rfl)
theorem dX4_isName_52 : decode cX4_isName 52 = .ok (.iconst 1, 1) := dk_4 (dk_at dksX4_isName_2 6 rfl rfl)
theorem dX4_isName_53 : decode cX4_isName 53 = .ok (.goto 4, 3) := dk_167 0 4 (dk_at dksX4_isName_2 7 rfl rfl)
theorem dX4_isName_56 : decode cX4_isName 56 = .ok (.iconst 0, 1) := dk_3 (dk_at dksX4_isName_2 10 rfl rfl)
theorem dX4_isName_57 : decode cX4_isName 57 = .ok (.ireturn, 1) := dk_172 (dk_at dksX4_isName_2 11 rfl rfl)
abbrev cX4_spelt : ByteArray := prog_15_method_17_code
def yX4_spelt : MethodName := ⟨RX4, "spelt", "()J"⟩
def dkwX4_spelt_1 : List UInt8 := [29, 46, 133, 97, 20, 0, 146, 101, 64, 132, 3, 1, 167, 255, 227, 31, 173]
abbrev dktX4_spelt_1 : List UInt8 := dkwX4_spelt_1 ++ []
def dkwX4_spelt_0 : List UInt8 := [9, 64, 42, 180, 0, 101, 62, 29, 42, 180, 0, 94, 162, 0, 27, 20, 0, 144, 31, 105, 42, 180, 0, 13]
abbrev dktX4_spelt_0 : List UInt8 := dkwX4_spelt_0 ++ dktX4_spelt_1
theorem dksX4_spelt_0 : cX4_spelt.data.toList.drop 0 = dktX4_spelt_0 := by decide +kernel
theorem dksX4_spelt_1 : cX4_spelt.data.toList.drop 24 = dktX4_spelt_1 := dk_seg dksX4_spelt_0 24 rfl rfl
theorem dX4_spelt_0 : decode cX4_spelt 0 = .ok (.lconst 0, 1) := dk_9 (dk_at dksX4_spelt_0 0 rfl rfl)
theorem dX4_spelt_1 : decode cX4_spelt 1 = .ok (.lstore_n 1, 1) := dk_64 (dk_at dksX4_spelt_0 1 rfl rfl)
theorem dX4_spelt_2 : decode cX4_spelt 2 = .ok (.aload_n 0, 1) := dk_42 (dk_at dksX4_spelt_0 2 rfl rfl)
theorem dX4_spelt_3 : decode cX4_spelt 3 = .ok (.getfield 101, 3) := dk_180 0 101 (dk_at dksX4_spelt_0 3 rfl rfl)
theorem dX4_spelt_6 : decode cX4_spelt 6 = .ok (.istore_n 3, 1) := dk_62 (dk_at dksX4_spelt_0 6 rfl rfl)
theorem dX4_spelt_7 : decode cX4_spelt 7 = .ok (.iload_n 3, 1) := dk_29 (dk_at dksX4_spelt_0 7 rfl rfl)
theorem dX4_spelt_8 : decode cX4_spelt 8 = .ok (.aload_n 0, 1) := dk_42 (dk_at dksX4_spelt_0 8 rfl rfl)
theorem dX4_spelt_9 : decode cX4_spelt 9 = .ok (.getfield 94, 3) := dk_180 0 94 (dk_at dksX4_spelt_0 9 rfl rfl)
theorem dX4_spelt_12 : decode cX4_spelt 12 = .ok (.if_icmp .ge 27, 3) := dk_162 0 27 (dk_at dksX4_spelt_0 12 rfl rfl)
theorem dX4_spelt_15 : decode cX4_spelt 15 = .ok (.ldc2_w 144, 3) := dk_20 0 144 (dk_at dksX4_spelt_0 15 rfl rfl)
theorem dX4_spelt_18 : decode cX4_spelt 18 = .ok (.lload_n 1, 1) := dk_31 (dk_at dksX4_spelt_0 18 rfl rfl)
theorem dX4_spelt_19 : decode cX4_spelt 19 = .ok (.lmul, 1) := dk_105 (dk_at dksX4_spelt_0 19 rfl rfl)
theorem dX4_spelt_20 : decode cX4_spelt 20 = .ok (.aload_n 0, 1) := dk_42 (dk_at dksX4_spelt_0 20 rfl rfl)
theorem dX4_spelt_21 : decode cX4_spelt 21 = .ok (.getfield 13, 3) := dk_180 0 13 (dk_at dksX4_spelt_0 21 rfl rfl)
theorem dX4_spelt_24 : decode cX4_spelt 24 = .ok (.iload_n 3, 1) := dk_29 (dk_at dksX4_spelt_1 0 rfl rfl)
theorem dX4_spelt_25 : decode cX4_spelt 25 = .ok (.iaload, 1) := dk_46 (dk_at dksX4_spelt_1 1 rfl rfl)
theorem dX4_spelt_26 : decode cX4_spelt 26 = .ok (.i2l, 1) := dk_133 (dk_at dksX4_spelt_1 2 rfl rfl)
theorem dX4_spelt_27 : decode cX4_spelt 27 = .ok (.ladd, 1) := dk_97 (dk_at dksX4_spelt_1 3 rfl rfl)
theorem dX4_spelt_28 : decode cX4_spelt 28 = .ok (.ldc2_w 146, 3) := dk_20 0 146 (dk_at dksX4_spelt_1 4 rfl rfl)
theorem dX4_spelt_31 : decode cX4_spelt 31 = .ok (.lsub, 1) := dk_101 (dk_at dksX4_spelt_1 7 rfl rfl)
theorem dX4_spelt_32 : decode cX4_spelt 32 = .ok (.lstore_n 1, 1) := dk_64 (dk_at dksX4_spelt_1 8 rfl rfl)
theorem dX4_spelt_33 : decode cX4_spelt 33 = .ok (.iinc 3 1, 3) := dk_132 3 1 (dk_at dksX4_spelt_1 9 rfl rfl)
theorem dX4_spelt_36 : decode cX4_spelt 36 = .ok (.goto (-29), 3) := dk_167 255 227 (dk_at dksX4_spelt_1 12 rfl rfl)
theorem dX4_spelt_39 : decode cX4_spelt 39 = .ok (.lload_n 1, 1) := dk_31 (dk_at dksX4_spelt_1 15 rfl rfl)
theorem dX4_spelt_40 : decode cX4_spelt 40 = .ok (.lreturn, 1) := dk_173 (dk_at dksX4_spelt_1 16 rfl rfl)
abbrev cX4_placeOf : ByteArray := prog_15_method_18_code
def yX4_placeOf : MethodName := ⟨RX4, "placeOf", "([JIJ)I"⟩
def dkwX4_placeOf_1 : List UInt8 := [167, 255, 235, 2, 172]
abbrev dktX4_placeOf_1 : List UInt8 := dkwX4_placeOf_1 ++ []
def dkwX4_placeOf_0 : List UInt8 := [3, 54, 4, 21, 4, 27, 162, 0, 21, 42, 21, 4, 47, 32, 148, 154, 0, 6, 21, 4, 172, 132, 4, 1]
abbrev dktX4_placeOf_0 : List UInt8 := dkwX4_placeOf_0 ++ dktX4_placeOf_1
theorem dksX4_placeOf_0 : cX4_placeOf.data.toList.drop 0 = dktX4_placeOf_0 := by decide +kernel
theorem dksX4_placeOf_1 : cX4_placeOf.data.toList.drop 24 = dktX4_placeOf_1 := dk_seg dksX4_placeOf_0 24 rfl rfl
theorem dX4_placeOf_0 : decode cX4_placeOf 0 = .ok (.iconst 0, 1) := dk_3 (dk_at dksX4_placeOf_0 0 rfl rfl)
theorem dX4_placeOf_1 : decode cX4_placeOf 1 = .ok (.istore 4, 2) := dk_54 4 (dk_at dksX4_placeOf_0 1 rfl rfl)
theorem dX4_placeOf_3 : decode cX4_placeOf 3 = .ok (.iload 4, 2) := dk_21 4 (dk_at dksX4_placeOf_0 3 rfl rfl)
theorem dX4_placeOf_5 : decode cX4_placeOf 5 = .ok (.iload_n 1, 1) := dk_27 (dk_at dksX4_placeOf_0 5 rfl rfl)
theorem dX4_placeOf_6 : decode cX4_placeOf 6 = .ok (.if_icmp .ge 21, 3) := dk_162 0 21 (dk_at dksX4_placeOf_0 6 rfl rfl)
theorem dX4_placeOf_9 : decode cX4_placeOf 9 = .ok (.aload_n 0, 1) := dk_42 (dk_at dksX4_placeOf_0 9 rfl rfl)
theorem dX4_placeOf_10 : decode cX4_placeOf 10 = .ok (.iload 4, 2) := dk_21 4 (dk_at dksX4_placeOf_0 10 rfl rfl)
theorem dX4_placeOf_12 : decode cX4_placeOf 12 = .ok (.laload, 1) := dk_47 (dk_at dksX4_placeOf_0 12 rfl rfl)
theorem dX4_placeOf_13 : decode cX4_placeOf 13 = .ok (.lload_n 2, 1) := dk_32 (dk_at dksX4_placeOf_0 13 rfl rfl)
theorem dX4_placeOf_14 : decode cX4_placeOf 14 = .ok (.lcmp, 1) := dk_148 (dk_at dksX4_placeOf_0 14 rfl rfl)
theorem dX4_placeOf_15 : decode cX4_placeOf 15 = .ok (.ifCond .ne 6, 3) := dk_154 0 6 (dk_at dksX4_placeOf_0 15 rfl rfl)
theorem dX4_placeOf_18 : decode cX4_placeOf 18 = .ok (.iload 4, 2) := dk_21 4 (dk_at dksX4_placeOf_0 18 rfl rfl)
theorem dX4_placeOf_20 : decode cX4_placeOf 20 = .ok (.ireturn, 1) := dk_172 (dk_at dksX4_placeOf_0 20 rfl rfl)
theorem dX4_placeOf_21 : decode cX4_placeOf 21 = .ok (.iinc 4 1, 3) := dk_132 4 1 (dk_at dksX4_placeOf_0 21 rfl rfl)
theorem dX4_placeOf_24 : decode cX4_placeOf 24 = .ok (.goto (-21), 3) := dk_167 255 235 (dk_at dksX4_placeOf_1 0 rfl rfl)
theorem dX4_placeOf_27 : decode cX4_placeOf 27 = .ok (.iconst (-1), 1) := dk_2 (dk_at dksX4_placeOf_1 3 rfl rfl)
theorem dX4_placeOf_28 : decode cX4_placeOf 28 = .ok (.ireturn, 1) := dk_172 (dk_at dksX4_placeOf_1 4 rfl rfl)
abbrev cX4_readOneLine : ByteArray := prog_15_method_25_code
def yX4_readOneLine : MethodName := ⟨RX4, "readOneLine", "()Z"⟩
def dkwX4_readOneLine_2 : List UInt8 := [46, 4, 96, 79, 4, 172]
abbrev dktX4_readOneLine_2 : List UInt8 := dkwX4_readOneLine_2 ++ []
def dkwX4_readOneLine_1 : List UInt8 := [42, 180, 0, 33, 42, 180, 0, 20, 5, 46, 182, 0, 180, 154, 0, 5, 3, 172, 42, 180, 0, 20, 5, 92]
abbrev dktX4_readOneLine_1 : List UInt8 := dkwX4_readOneLine_1 ++ dktX4_readOneLine_2
def dkwX4_readOneLine_0 : List UInt8 := [42, 42, 180, 0, 20, 5, 46, 16, 8, 162, 0, 7, 4, 167, 0, 4, 3, 182, 0, 176, 153, 0, 20, 42]
abbrev dktX4_readOneLine_0 : List UInt8 := dkwX4_readOneLine_0 ++ dktX4_readOneLine_1
theorem dksX4_readOneLine_0 : cX4_readOneLine.data.toList.drop 0 = dktX4_readOneLine_0 := by decide +kernel
theorem dksX4_readOneLine_1 : cX4_readOneLine.data.toList.drop 24 = dktX4_readOneLine_1 := dk_seg dksX4_readOneLine_0 24 rfl rfl
theorem dksX4_readOneLine_2 : cX4_readOneLine.data.toList.drop 48 = dktX4_readOneLine_2 := dk_seg dksX4_readOneLine_1 24 rfl rfl
theorem dX4_readOneLine_0 : decode cX4_readOneLine 0 = .ok (.aload_n 0, 1) := dk_42 (dk_at dksX4_readOneLine_0 0 rfl rfl)
theorem dX4_readOneLine_1 : decode cX4_readOneLine 1 = .ok (.aload_n 0, 1) := dk_42 (dk_at dksX4_readOneLine_0 1 rfl rfl)
theorem dX4_readOneLine_2 : decode cX4_readOneLine 2 = .ok (.getfield 20, 3) := dk_180 0 20 (dk_at dksX4_readOneLine_0 2 rfl rfl)
theorem dX4_readOneLine_5 : decode cX4_readOneLine 5 = .ok (.iconst 2, 1) := dk_5 (dk_at dksX4_readOneLine_0 5 rfl rfl)
theorem dX4_readOneLine_6 : decode cX4_readOneLine 6 = .ok (.iaload, 1) := dk_46 (dk_at dksX4_readOneLine_0 6 rfl rfl)
theorem dX4_readOneLine_7 : decode cX4_readOneLine 7 = .ok (.bipush 8, 2) := dk_16 8 (dk_at dksX4_readOneLine_0 7 rfl rfl)
theorem dX4_readOneLine_9 : decode cX4_readOneLine 9 = .ok (.if_icmp .ge 7, 3) := dk_162 0 7 (dk_at dksX4_readOneLine_0 9 rfl rfl)
theorem dX4_readOneLine_12 : decode cX4_readOneLine 12 = .ok (.iconst 1, 1) := dk_4 (dk_at dksX4_readOneLine_0 12 rfl rfl)
theorem dX4_readOneLine_13 : decode cX4_readOneLine 13 = .ok (.goto 4, 3) := dk_167 0 4 (dk_at dksX4_readOneLine_0 13 rfl rfl)
theorem dX4_readOneLine_16 : decode cX4_readOneLine 16 = .ok (.iconst 0, 1) := dk_3 (dk_at dksX4_readOneLine_0 16 rfl rfl)
theorem dX4_readOneLine_17 : decode cX4_readOneLine 17 = .ok (.invokevirtual 176, 3) := dk_182 0 176 (dk_at dksX4_readOneLine_0 17 rfl rfl)
theorem dX4_readOneLine_20 : decode cX4_readOneLine 20 = .ok (.ifCond .eq 20, 3) := dk_153 0 20 (dk_at dksX4_readOneLine_0 20 rfl rfl)
theorem dX4_readOneLine_23 : decode cX4_readOneLine 23 = .ok (.aload_n 0, 1) := dk_42 (dk_at dksX4_readOneLine_0 23 rfl rfl)
theorem dX4_readOneLine_24 : decode cX4_readOneLine 24 = .ok (.aload_n 0, 1) := dk_42 (dk_at dksX4_readOneLine_1 0 rfl rfl)
theorem dX4_readOneLine_25 : decode cX4_readOneLine 25 = .ok (.getfield 33, 3) := dk_180 0 33 (dk_at dksX4_readOneLine_1 1 rfl rfl)
theorem dX4_readOneLine_28 : decode cX4_readOneLine 28 = .ok (.aload_n 0, 1) := dk_42 (dk_at dksX4_readOneLine_1 4 rfl rfl)
theorem dX4_readOneLine_29 : decode cX4_readOneLine 29 = .ok (.getfield 20, 3) := dk_180 0 20 (dk_at dksX4_readOneLine_1 5 rfl rfl)
theorem dX4_readOneLine_32 : decode cX4_readOneLine 32 = .ok (.iconst 2, 1) := dk_5 (dk_at dksX4_readOneLine_1 8 rfl rfl)
theorem dX4_readOneLine_33 : decode cX4_readOneLine 33 = .ok (.iaload, 1) := dk_46 (dk_at dksX4_readOneLine_1 9 rfl rfl)
theorem dX4_readOneLine_34 : decode cX4_readOneLine 34 = .ok (.invokevirtual 180, 3) := dk_182 0 180 (dk_at dksX4_readOneLine_1 10 rfl rfl)
theorem dX4_readOneLine_37 : decode cX4_readOneLine 37 = .ok (.ifCond .ne 5, 3) := dk_154 0 5 (dk_at dksX4_readOneLine_1 13 rfl rfl)
theorem dX4_readOneLine_40 : decode cX4_readOneLine 40 = .ok (.iconst 0, 1) := dk_3 (dk_at dksX4_readOneLine_1 16 rfl rfl)
theorem dX4_readOneLine_41 : decode cX4_readOneLine 41 = .ok (.ireturn, 1) := dk_172 (dk_at dksX4_readOneLine_1 17 rfl rfl)
theorem dX4_readOneLine_42 : decode cX4_readOneLine 42 = .ok (.aload_n 0, 1) := dk_42 (dk_at dksX4_readOneLine_1 18 rfl rfl)
theorem dX4_readOneLine_43 : decode cX4_readOneLine 43 = .ok (.getfield 20, 3) := dk_180 0 20 (dk_at dksX4_readOneLine_1 19 rfl rfl)
theorem dX4_readOneLine_46 : decode cX4_readOneLine 46 = .ok (.iconst 2, 1) := dk_5 (dk_at dksX4_readOneLine_1 22 rfl rfl)
theorem dX4_readOneLine_47 : decode cX4_readOneLine 47 = .ok (.dup2, 1) := dk_92 (dk_at dksX4_readOneLine_1 23 rfl rfl)
theorem dX4_readOneLine_48 : decode cX4_readOneLine 48 = .ok (.iaload, 1) := dk_46 (dk_at dksX4_readOneLine_2 0 rfl rfl)
theorem dX4_readOneLine_49 : decode cX4_readOneLine 49 = .ok (.iconst 1, 1) := dk_4 (dk_at dksX4_readOneLine_2 1 rfl rfl)
theorem dX4_readOneLine_50 : decode cX4_readOneLine 50 = .ok (.iadd, 1) := dk_96 (dk_at dksX4_readOneLine_2 2 rfl rfl)
theorem dX4_readOneLine_51 : decode cX4_readOneLine 51 = .ok (.iastore, 1) := dk_79 (dk_at dksX4_readOneLine_2 3 rfl rfl)
theorem dX4_readOneLine_52 : decode cX4_readOneLine 52 = .ok (.iconst 1, 1) := dk_4 (dk_at dksX4_readOneLine_2 4 rfl rfl)
theorem dX4_readOneLine_53 : decode cX4_readOneLine 53 = .ok (.ireturn, 1) := dk_172 (dk_at dksX4_readOneLine_2 5 rfl rfl)
abbrev cX4_readLink : ByteArray := prog_15_method_29_code
def yX4_readLink : MethodName := ⟨RX4, "readLink", "()Z"⟩
def dkwX4_readLink_13 : List UInt8 := [46, 96, 60, 167, 255, 198, 42, 180, 0, 20, 6, 92, 46, 4, 96, 79, 4, 172]
abbrev dktX4_readLink_13 : List UInt8 := dkwX4_readLink_13 ++ []
def dkwX4_readLink_12 : List UInt8 := [46, 27, 42, 180, 0, 36, 16, 6, 46, 42, 180, 0, 20, 6, 46, 184, 0, 206, 27, 42, 180, 0, 36, 8]
abbrev dktX4_readLink_12 : List UInt8 := dkwX4_readLink_12 ++ dktX4_readLink_13
def dkwX4_readLink_11 : List UInt8 := [163, 0, 54, 42, 180, 0, 20, 42, 180, 0, 36, 3, 46, 42, 180, 0, 36, 4, 46, 42, 180, 0, 36, 5]
abbrev dktX4_readLink_11 : List UInt8 := dkwX4_readLink_11 ++ dktX4_readLink_12
def dkwX4_readLink_10 : List UInt8 := [154, 0, 5, 3, 172, 42, 182, 0, 134, 42, 180, 0, 36, 6, 46, 60, 27, 42, 180, 0, 36, 7, 46]
abbrev dktX4_readLink_10 : List UInt8 := dkwX4_readLink_10 ++ dktX4_readLink_11
def dkwX4_readLink_9 : List UInt8 := [164, 0, 9, 42, 8, 182, 0, 130, 172, 42, 182, 0, 134, 42, 18, 204, 16, 6, 4, 16, 99, 182, 0, 197]
abbrev dktX4_readLink_9 : List UInt8 := dkwX4_readLink_9 ++ dktX4_readLink_10
def dkwX4_readLink_8 : List UInt8 := [180, 0, 36, 7, 46, 42, 180, 0, 36, 6, 46, 100, 42, 180, 0, 36, 8, 46, 108, 96, 4, 96, 16, 120]
abbrev dktX4_readLink_8 : List UInt8 := dkwX4_readLink_8 ++ dktX4_readLink_9
def dkwX4_readLink_7 : List UInt8 := [18, 202, 8, 4, 17, 3, 231, 182, 0, 197, 154, 0, 5, 3, 172, 42, 180, 0, 20, 7, 46, 42]
abbrev dktX4_readLink_7 : List UInt8 := dkwX4_readLink_7 ++ dktX4_readLink_8
def dkwX4_readLink_6 : List UInt8 := [180, 0, 36, 6, 46, 42, 180, 0, 20, 3, 46, 182, 0, 197, 154, 0, 5, 3, 172, 42, 182, 0, 134, 42]
abbrev dktX4_readLink_6 : List UInt8 := dkwX4_readLink_6 ++ dktX4_readLink_7
def dkwX4_readLink_5 : List UInt8 := [3, 42, 180, 0, 20, 3, 46, 182, 0, 197, 154, 0, 5, 3, 172, 42, 182, 0, 134, 42, 18, 200, 7, 42]
abbrev dktX4_readLink_5 : List UInt8 := dkwX4_readLink_5 ++ dktX4_readLink_6
def dkwX4_readLink_4 : List UInt8 := [46, 42, 180, 0, 36, 5, 46, 160, 0, 9, 42, 6, 182, 0, 130, 172, 42, 182, 0, 134, 42, 18, 195, 6]
abbrev dktX4_readLink_4 : List UInt8 := dkwX4_readLink_4 ++ dktX4_readLink_5
def dkwX4_readLink_3 : List UInt8 := [42, 180, 0, 29, 42, 180, 0, 20, 4, 46, 5, 182, 0, 191, 154, 0, 5, 3, 172, 42, 180, 0, 36, 4]
abbrev dktX4_readLink_3 : List UInt8 := dkwX4_readLink_3 ++ dktX4_readLink_4
def dkwX4_readLink_2 : List UInt8 := [42, 180, 0, 29, 42, 180, 0, 20, 4, 46, 4, 182, 0, 191, 154, 0, 5, 3, 172, 42, 182, 0, 134, 42]
abbrev dktX4_readLink_2 : List UInt8 := dkwX4_readLink_2 ++ dktX4_readLink_3
def dkwX4_readLink_1 : List UInt8 := [42, 180, 0, 33, 42, 180, 0, 20, 5, 46, 3, 182, 0, 191, 154, 0, 5, 3, 172, 42, 182, 0, 134, 42]
abbrev dktX4_readLink_1 : List UInt8 := dkwX4_readLink_1 ++ dktX4_readLink_2
def dkwX4_readLink_0 : List UInt8 := [42, 42, 180, 0, 20, 6, 46, 16, 12, 162, 0, 7, 4, 167, 0, 4, 3, 182, 0, 176, 153, 0, 21, 42]
abbrev dktX4_readLink_0 : List UInt8 := dkwX4_readLink_0 ++ dktX4_readLink_1
theorem dksX4_readLink_0 : cX4_readLink.data.toList.drop 0 = dktX4_readLink_0 := by decide +kernel
theorem dksX4_readLink_1 : cX4_readLink.data.toList.drop 24 = dktX4_readLink_1 := dk_seg dksX4_readLink_0 24 rfl rfl
theorem dksX4_readLink_2 : cX4_readLink.data.toList.drop 48 = dktX4_readLink_2 := dk_seg dksX4_readLink_1 24 rfl rfl
theorem dksX4_readLink_3 : cX4_readLink.data.toList.drop 72 = dktX4_readLink_3 := dk_seg dksX4_readLink_2 24 rfl rfl
theorem dksX4_readLink_4 : cX4_readLink.data.toList.drop 96 = dktX4_readLink_4 := dk_seg dksX4_readLink_3 24 rfl rfl
theorem dksX4_readLink_5 : cX4_readLink.data.toList.drop 120 = dktX4_readLink_5 := dk_seg dksX4_readLink_4 24 rfl rfl
theorem dksX4_readLink_6 : cX4_readLink.data.toList.drop 144 = dktX4_readLink_6 := dk_seg dksX4_readLink_5 24 rfl rfl
theorem dksX4_readLink_7 : cX4_readLink.data.toList.drop 168 = dktX4_readLink_7 := dk_seg dksX4_readLink_6 24 rfl rfl
theorem dksX4_readLink_8 : cX4_readLink.data.toList.drop 190 = dktX4_readLink_8 := dk_seg dksX4_readLink_7 22 rfl rfl
theorem dksX4_readLink_9 : cX4_readLink.data.toList.drop 214 = dktX4_readLink_9 := dk_seg dksX4_readLink_8 24 rfl rfl
theorem dksX4_readLink_10 : cX4_readLink.data.toList.drop 238 = dktX4_readLink_10 := dk_seg dksX4_readLink_9 24 rfl rfl
theorem dksX4_readLink_11 : cX4_readLink.data.toList.drop 261 = dktX4_readLink_11 := dk_seg dksX4_readLink_10 23 rfl rfl
theorem dksX4_readLink_12 : cX4_readLink.data.toList.drop 285 = dktX4_readLink_12 := dk_seg dksX4_readLink_11 24 rfl rfl
theorem dksX4_readLink_13 : cX4_readLink.data.toList.drop 309 = dktX4_readLink_13 := dk_seg dksX4_readLink_12 24 rfl rfl
theorem dX4_readLink_0 : decode cX4_readLink 0 = .ok (.aload_n 0, 1) := dk_42 (dk_at dksX4_readLink_0 0 rfl rfl)
theorem dX4_readLink_1 : decode cX4_readLink 1 = .ok (.aload_n 0, 1) := dk_42 (dk_at dksX4_readLink_0 1 rfl rfl)
theorem dX4_readLink_2 : decode cX4_readLink 2 = .ok (.getfield 20, 3) := dk_180 0 20 (dk_at dksX4_readLink_0 2 rfl rfl)
theorem dX4_readLink_5 : decode cX4_readLink 5 = .ok (.iconst 3, 1) := dk_6 (dk_at dksX4_readLink_0 5 rfl rfl)
theorem dX4_readLink_6 : decode cX4_readLink 6 = .ok (.iaload, 1) := dk_46 (dk_at dksX4_readLink_0 6 rfl rfl)
theorem dX4_readLink_7 : decode cX4_readLink 7 = .ok (.bipush 12, 2) := dk_16 12 (dk_at dksX4_readLink_0 7 rfl rfl)
theorem dX4_readLink_9 : decode cX4_readLink 9 = .ok (.if_icmp .ge 7, 3) := dk_162 0 7 (dk_at dksX4_readLink_0 9 rfl rfl)
theorem dX4_readLink_12 : decode cX4_readLink 12 = .ok (.iconst 1, 1) := dk_4 (dk_at dksX4_readLink_0 12 rfl rfl)
theorem dX4_readLink_13 : decode cX4_readLink 13 = .ok (.goto 4, 3) := dk_167 0 4 (dk_at dksX4_readLink_0 13 rfl rfl)
theorem dX4_readLink_16 : decode cX4_readLink 16 = .ok (.iconst 0, 1) := dk_3 (dk_at dksX4_readLink_0 16 rfl rfl)
theorem dX4_readLink_17 : decode cX4_readLink 17 = .ok (.invokevirtual 176, 3) := dk_182 0 176 (dk_at dksX4_readLink_0 17 rfl rfl)
theorem dX4_readLink_20 : decode cX4_readLink 20 = .ok (.ifCond .eq 21, 3) := dk_153 0 21 (dk_at dksX4_readLink_0 20 rfl rfl)
theorem dX4_readLink_23 : decode cX4_readLink 23 = .ok (.aload_n 0, 1) := dk_42 (dk_at dksX4_readLink_0 23 rfl rfl)
theorem dX4_readLink_24 : decode cX4_readLink 24 = .ok (.aload_n 0, 1) := dk_42 (dk_at dksX4_readLink_1 0 rfl rfl)
theorem dX4_readLink_25 : decode cX4_readLink 25 = .ok (.getfield 33, 3) := dk_180 0 33 (dk_at dksX4_readLink_1 1 rfl rfl)
theorem dX4_readLink_28 : decode cX4_readLink 28 = .ok (.aload_n 0, 1) := dk_42 (dk_at dksX4_readLink_1 4 rfl rfl)
theorem dX4_readLink_29 : decode cX4_readLink 29 = .ok (.getfield 20, 3) := dk_180 0 20 (dk_at dksX4_readLink_1 5 rfl rfl)
theorem dX4_readLink_32 : decode cX4_readLink 32 = .ok (.iconst 2, 1) := dk_5 (dk_at dksX4_readLink_1 8 rfl rfl)
theorem dX4_readLink_33 : decode cX4_readLink 33 = .ok (.iaload, 1) := dk_46 (dk_at dksX4_readLink_1 9 rfl rfl)
theorem dX4_readLink_34 : decode cX4_readLink 34 = .ok (.iconst 0, 1) := dk_3 (dk_at dksX4_readLink_1 10 rfl rfl)
theorem dX4_readLink_35 : decode cX4_readLink 35 = .ok (.invokevirtual 191, 3) := dk_182 0 191 (dk_at dksX4_readLink_1 11 rfl rfl)
theorem dX4_readLink_38 : decode cX4_readLink 38 = .ok (.ifCond .ne 5, 3) := dk_154 0 5 (dk_at dksX4_readLink_1 14 rfl rfl)
theorem dX4_readLink_41 : decode cX4_readLink 41 = .ok (.iconst 0, 1) := dk_3 (dk_at dksX4_readLink_1 17 rfl rfl)
theorem dX4_readLink_42 : decode cX4_readLink 42 = .ok (.ireturn, 1) := dk_172 (dk_at dksX4_readLink_1 18 rfl rfl)
theorem dX4_readLink_43 : decode cX4_readLink 43 = .ok (.aload_n 0, 1) := dk_42 (dk_at dksX4_readLink_1 19 rfl rfl)
theorem dX4_readLink_44 : decode cX4_readLink 44 = .ok (.invokevirtual 134, 3) := dk_182 0 134 (dk_at dksX4_readLink_1 20 rfl rfl)
theorem dX4_readLink_47 : decode cX4_readLink 47 = .ok (.aload_n 0, 1) := dk_42 (dk_at dksX4_readLink_1 23 rfl rfl)
theorem dX4_readLink_48 : decode cX4_readLink 48 = .ok (.aload_n 0, 1) := dk_42 (dk_at dksX4_readLink_2 0 rfl rfl)
theorem dX4_readLink_49 : decode cX4_readLink 49 = .ok (.getfield 29, 3) := dk_180 0 29 (dk_at dksX4_readLink_2 1 rfl rfl)
theorem dX4_readLink_52 : decode cX4_readLink 52 = .ok (.aload_n 0, 1) := dk_42 (dk_at dksX4_readLink_2 4 rfl rfl)
theorem dX4_readLink_53 : decode cX4_readLink 53 = .ok (.getfield 20, 3) := dk_180 0 20 (dk_at dksX4_readLink_2 5 rfl rfl)
theorem dX4_readLink_56 : decode cX4_readLink 56 = .ok (.iconst 1, 1) := dk_4 (dk_at dksX4_readLink_2 8 rfl rfl)
theorem dX4_readLink_57 : decode cX4_readLink 57 = .ok (.iaload, 1) := dk_46 (dk_at dksX4_readLink_2 9 rfl rfl)
theorem dX4_readLink_58 : decode cX4_readLink 58 = .ok (.iconst 1, 1) := dk_4 (dk_at dksX4_readLink_2 10 rfl rfl)
theorem dX4_readLink_59 : decode cX4_readLink 59 = .ok (.invokevirtual 191, 3) := dk_182 0 191 (dk_at dksX4_readLink_2 11 rfl rfl)
theorem dX4_readLink_62 : decode cX4_readLink 62 = .ok (.ifCond .ne 5, 3) := dk_154 0 5 (dk_at dksX4_readLink_2 14 rfl rfl)
theorem dX4_readLink_65 : decode cX4_readLink 65 = .ok (.iconst 0, 1) := dk_3 (dk_at dksX4_readLink_2 17 rfl rfl)
theorem dX4_readLink_66 : decode cX4_readLink 66 = .ok (.ireturn, 1) := dk_172 (dk_at dksX4_readLink_2 18 rfl rfl)
theorem dX4_readLink_67 : decode cX4_readLink 67 = .ok (.aload_n 0, 1) := dk_42 (dk_at dksX4_readLink_2 19 rfl rfl)
theorem dX4_readLink_68 : decode cX4_readLink 68 = .ok (.invokevirtual 134, 3) := dk_182 0 134 (dk_at dksX4_readLink_2 20 rfl rfl)
theorem dX4_readLink_71 : decode cX4_readLink 71 = .ok (.aload_n 0, 1) := dk_42 (dk_at dksX4_readLink_2 23 rfl rfl)
theorem dX4_readLink_72 : decode cX4_readLink 72 = .ok (.aload_n 0, 1) := dk_42 (dk_at dksX4_readLink_3 0 rfl rfl)
theorem dX4_readLink_73 : decode cX4_readLink 73 = .ok (.getfield 29, 3) := dk_180 0 29 (dk_at dksX4_readLink_3 1 rfl rfl)
theorem dX4_readLink_76 : decode cX4_readLink 76 = .ok (.aload_n 0, 1) := dk_42 (dk_at dksX4_readLink_3 4 rfl rfl)
theorem dX4_readLink_77 : decode cX4_readLink 77 = .ok (.getfield 20, 3) := dk_180 0 20 (dk_at dksX4_readLink_3 5 rfl rfl)
theorem dX4_readLink_80 : decode cX4_readLink 80 = .ok (.iconst 1, 1) := dk_4 (dk_at dksX4_readLink_3 8 rfl rfl)
theorem dX4_readLink_81 : decode cX4_readLink 81 = .ok (.iaload, 1) := dk_46 (dk_at dksX4_readLink_3 9 rfl rfl)
theorem dX4_readLink_82 : decode cX4_readLink 82 = .ok (.iconst 2, 1) := dk_5 (dk_at dksX4_readLink_3 10 rfl rfl)
theorem dX4_readLink_83 : decode cX4_readLink 83 = .ok (.invokevirtual 191, 3) := dk_182 0 191 (dk_at dksX4_readLink_3 11 rfl rfl)
theorem dX4_readLink_86 : decode cX4_readLink 86 = .ok (.ifCond .ne 5, 3) := dk_154 0 5 (dk_at dksX4_readLink_3 14 rfl rfl)
theorem dX4_readLink_89 : decode cX4_readLink 89 = .ok (.iconst 0, 1) := dk_3 (dk_at dksX4_readLink_3 17 rfl rfl)
theorem dX4_readLink_90 : decode cX4_readLink 90 = .ok (.ireturn, 1) := dk_172 (dk_at dksX4_readLink_3 18 rfl rfl)
theorem dX4_readLink_91 : decode cX4_readLink 91 = .ok (.aload_n 0, 1) := dk_42 (dk_at dksX4_readLink_3 19 rfl rfl)
theorem dX4_readLink_92 : decode cX4_readLink 92 = .ok (.getfield 36, 3) := dk_180 0 36 (dk_at dksX4_readLink_3 20 rfl rfl)
theorem dX4_readLink_95 : decode cX4_readLink 95 = .ok (.iconst 1, 1) := dk_4 (dk_at dksX4_readLink_3 23 rfl rfl)
theorem dX4_readLink_96 : decode cX4_readLink 96 = .ok (.iaload, 1) := dk_46 (dk_at dksX4_readLink_4 0 rfl rfl)
theorem dX4_readLink_97 : decode cX4_readLink 97 = .ok (.aload_n 0, 1) := dk_42 (dk_at dksX4_readLink_4 1 rfl rfl)
theorem dX4_readLink_98 : decode cX4_readLink 98 = .ok (.getfield 36, 3) := dk_180 0 36 (dk_at dksX4_readLink_4 2 rfl rfl)
theorem dX4_readLink_101 : decode cX4_readLink 101 = .ok (.iconst 2, 1) := dk_5 (dk_at dksX4_readLink_4 5 rfl rfl)
theorem dX4_readLink_102 : decode cX4_readLink 102 = .ok (.iaload, 1) := dk_46 (dk_at dksX4_readLink_4 6 rfl rfl)
theorem dX4_readLink_103 : decode cX4_readLink 103 = .ok (.if_icmp .ne 9, 3) := dk_160 0 9 (dk_at dksX4_readLink_4 7 rfl rfl)
theorem dX4_readLink_106 : decode cX4_readLink 106 = .ok (.aload_n 0, 1) := dk_42 (dk_at dksX4_readLink_4 10 rfl rfl)
theorem dX4_readLink_107 : decode cX4_readLink 107 = .ok (.iconst 3, 1) := dk_6 (dk_at dksX4_readLink_4 11 rfl rfl)
theorem dX4_readLink_108 : decode cX4_readLink 108 = .ok (.invokevirtual 130, 3) := dk_182 0 130 (dk_at dksX4_readLink_4 12 rfl rfl)
theorem dX4_readLink_111 : decode cX4_readLink 111 = .ok (.ireturn, 1) := dk_172 (dk_at dksX4_readLink_4 15 rfl rfl)
theorem dX4_readLink_112 : decode cX4_readLink 112 = .ok (.aload_n 0, 1) := dk_42 (dk_at dksX4_readLink_4 16 rfl rfl)
theorem dX4_readLink_113 : decode cX4_readLink 113 = .ok (.invokevirtual 134, 3) := dk_182 0 134 (dk_at dksX4_readLink_4 17 rfl rfl)
theorem dX4_readLink_116 : decode cX4_readLink 116 = .ok (.aload_n 0, 1) := dk_42 (dk_at dksX4_readLink_4 20 rfl rfl)
theorem dX4_readLink_117 : decode cX4_readLink 117 = .ok (.ldc 195, 2) := dk_18 195 (dk_at dksX4_readLink_4 21 rfl rfl)
theorem dX4_readLink_119 : decode cX4_readLink 119 = .ok (.iconst 3, 1) := dk_6 (dk_at dksX4_readLink_4 23 rfl rfl)
theorem dX4_readLink_120 : decode cX4_readLink 120 = .ok (.iconst 0, 1) := dk_3 (dk_at dksX4_readLink_5 0 rfl rfl)
theorem dX4_readLink_121 : decode cX4_readLink 121 = .ok (.aload_n 0, 1) := dk_42 (dk_at dksX4_readLink_5 1 rfl rfl)
theorem dX4_readLink_122 : decode cX4_readLink 122 = .ok (.getfield 20, 3) := dk_180 0 20 (dk_at dksX4_readLink_5 2 rfl rfl)
theorem dX4_readLink_125 : decode cX4_readLink 125 = .ok (.iconst 0, 1) := dk_3 (dk_at dksX4_readLink_5 5 rfl rfl)
theorem dX4_readLink_126 : decode cX4_readLink 126 = .ok (.iaload, 1) := dk_46 (dk_at dksX4_readLink_5 6 rfl rfl)
theorem dX4_readLink_127 : decode cX4_readLink 127 = .ok (.invokevirtual 197, 3) := dk_182 0 197 (dk_at dksX4_readLink_5 7 rfl rfl)
theorem dX4_readLink_130 : decode cX4_readLink 130 = .ok (.ifCond .ne 5, 3) := dk_154 0 5 (dk_at dksX4_readLink_5 10 rfl rfl)
theorem dX4_readLink_133 : decode cX4_readLink 133 = .ok (.iconst 0, 1) := dk_3 (dk_at dksX4_readLink_5 13 rfl rfl)
theorem dX4_readLink_134 : decode cX4_readLink 134 = .ok (.ireturn, 1) := dk_172 (dk_at dksX4_readLink_5 14 rfl rfl)
theorem dX4_readLink_135 : decode cX4_readLink 135 = .ok (.aload_n 0, 1) := dk_42 (dk_at dksX4_readLink_5 15 rfl rfl)
theorem dX4_readLink_136 : decode cX4_readLink 136 = .ok (.invokevirtual 134, 3) := dk_182 0 134 (dk_at dksX4_readLink_5 16 rfl rfl)
theorem dX4_readLink_139 : decode cX4_readLink 139 = .ok (.aload_n 0, 1) := dk_42 (dk_at dksX4_readLink_5 19 rfl rfl)
theorem dX4_readLink_140 : decode cX4_readLink 140 = .ok (.ldc 200, 2) := dk_18 200 (dk_at dksX4_readLink_5 20 rfl rfl)
theorem dX4_readLink_142 : decode cX4_readLink 142 = .ok (.iconst 4, 1) := dk_7 (dk_at dksX4_readLink_5 22 rfl rfl)
theorem dX4_readLink_143 : decode cX4_readLink 143 = .ok (.aload_n 0, 1) := dk_42 (dk_at dksX4_readLink_5 23 rfl rfl)
theorem dX4_readLink_144 : decode cX4_readLink 144 = .ok (.getfield 36, 3) := dk_180 0 36 (dk_at dksX4_readLink_6 0 rfl rfl)
theorem dX4_readLink_147 : decode cX4_readLink 147 = .ok (.iconst 3, 1) := dk_6 (dk_at dksX4_readLink_6 3 rfl rfl)
theorem dX4_readLink_148 : decode cX4_readLink 148 = .ok (.iaload, 1) := dk_46 (dk_at dksX4_readLink_6 4 rfl rfl)
theorem dX4_readLink_149 : decode cX4_readLink 149 = .ok (.aload_n 0, 1) := dk_42 (dk_at dksX4_readLink_6 5 rfl rfl)
theorem dX4_readLink_150 : decode cX4_readLink 150 = .ok (.getfield 20, 3) := dk_180 0 20 (dk_at dksX4_readLink_6 6 rfl rfl)
theorem dX4_readLink_153 : decode cX4_readLink 153 = .ok (.iconst 0, 1) := dk_3 (dk_at dksX4_readLink_6 9 rfl rfl)
theorem dX4_readLink_154 : decode cX4_readLink 154 = .ok (.iaload, 1) := dk_46 (dk_at dksX4_readLink_6 10 rfl rfl)
theorem dX4_readLink_155 : decode cX4_readLink 155 = .ok (.invokevirtual 197, 3) := dk_182 0 197 (dk_at dksX4_readLink_6 11 rfl rfl)
theorem dX4_readLink_158 : decode cX4_readLink 158 = .ok (.ifCond .ne 5, 3) := dk_154 0 5 (dk_at dksX4_readLink_6 14 rfl rfl)
theorem dX4_readLink_161 : decode cX4_readLink 161 = .ok (.iconst 0, 1) := dk_3 (dk_at dksX4_readLink_6 17 rfl rfl)
theorem dX4_readLink_162 : decode cX4_readLink 162 = .ok (.ireturn, 1) := dk_172 (dk_at dksX4_readLink_6 18 rfl rfl)
theorem dX4_readLink_163 : decode cX4_readLink 163 = .ok (.aload_n 0, 1) := dk_42 (dk_at dksX4_readLink_6 19 rfl rfl)
theorem dX4_readLink_164 : decode cX4_readLink 164 = .ok (.invokevirtual 134, 3) := dk_182 0 134 (dk_at dksX4_readLink_6 20 rfl rfl)
theorem dX4_readLink_167 : decode cX4_readLink 167 = .ok (.aload_n 0, 1) := dk_42 (dk_at dksX4_readLink_6 23 rfl rfl)
theorem dX4_readLink_168 : decode cX4_readLink 168 = .ok (.ldc 202, 2) := dk_18 202 (dk_at dksX4_readLink_7 0 rfl rfl)
theorem dX4_readLink_170 : decode cX4_readLink 170 = .ok (.iconst 5, 1) := dk_8 (dk_at dksX4_readLink_7 2 rfl rfl)
theorem dX4_readLink_171 : decode cX4_readLink 171 = .ok (.iconst 1, 1) := dk_4 (dk_at dksX4_readLink_7 3 rfl rfl)
theorem dX4_readLink_172 : decode cX4_readLink 172 = .ok (.sipush 999, 3) := dk_17 3 231 (dk_at dksX4_readLink_7 4 rfl rfl)
theorem dX4_readLink_175 : decode cX4_readLink 175 = .ok (.invokevirtual 197, 3) := dk_182 0 197 (dk_at dksX4_readLink_7 7 rfl rfl)
theorem dX4_readLink_178 : decode cX4_readLink 178 = .ok (.ifCond .ne 5, 3) := dk_154 0 5 (dk_at dksX4_readLink_7 10 rfl rfl)
theorem dX4_readLink_181 : decode cX4_readLink 181 = .ok (.iconst 0, 1) := dk_3 (dk_at dksX4_readLink_7 13 rfl rfl)
theorem dX4_readLink_182 : decode cX4_readLink 182 = .ok (.ireturn, 1) := dk_172 (dk_at dksX4_readLink_7 14 rfl rfl)
theorem dX4_readLink_183 : decode cX4_readLink 183 = .ok (.aload_n 0, 1) := dk_42 (dk_at dksX4_readLink_7 15 rfl rfl)
theorem dX4_readLink_184 : decode cX4_readLink 184 = .ok (.getfield 20, 3) := dk_180 0 20 (dk_at dksX4_readLink_7 16 rfl rfl)
theorem dX4_readLink_187 : decode cX4_readLink 187 = .ok (.iconst 4, 1) := dk_7 (dk_at dksX4_readLink_7 19 rfl rfl)
theorem dX4_readLink_188 : decode cX4_readLink 188 = .ok (.iaload, 1) := dk_46 (dk_at dksX4_readLink_7 20 rfl rfl)
theorem dX4_readLink_189 : decode cX4_readLink 189 = .ok (.aload_n 0, 1) := dk_42 (dk_at dksX4_readLink_7 21 rfl rfl)
theorem dX4_readLink_190 : decode cX4_readLink 190 = .ok (.getfield 36, 3) := dk_180 0 36 (dk_at dksX4_readLink_8 0 rfl rfl)
theorem dX4_readLink_193 : decode cX4_readLink 193 = .ok (.iconst 4, 1) := dk_7 (dk_at dksX4_readLink_8 3 rfl rfl)
theorem dX4_readLink_194 : decode cX4_readLink 194 = .ok (.iaload, 1) := dk_46 (dk_at dksX4_readLink_8 4 rfl rfl)
theorem dX4_readLink_195 : decode cX4_readLink 195 = .ok (.aload_n 0, 1) := dk_42 (dk_at dksX4_readLink_8 5 rfl rfl)
theorem dX4_readLink_196 : decode cX4_readLink 196 = .ok (.getfield 36, 3) := dk_180 0 36 (dk_at dksX4_readLink_8 6 rfl rfl)
theorem dX4_readLink_199 : decode cX4_readLink 199 = .ok (.iconst 3, 1) := dk_6 (dk_at dksX4_readLink_8 9 rfl rfl)
theorem dX4_readLink_200 : decode cX4_readLink 200 = .ok (.iaload, 1) := dk_46 (dk_at dksX4_readLink_8 10 rfl rfl)
theorem dX4_readLink_201 : decode cX4_readLink 201 = .ok (.isub, 1) := dk_100 (dk_at dksX4_readLink_8 11 rfl rfl)
theorem dX4_readLink_202 : decode cX4_readLink 202 = .ok (.aload_n 0, 1) := dk_42 (dk_at dksX4_readLink_8 12 rfl rfl)
theorem dX4_readLink_203 : decode cX4_readLink 203 = .ok (.getfield 36, 3) := dk_180 0 36 (dk_at dksX4_readLink_8 13 rfl rfl)
theorem dX4_readLink_206 : decode cX4_readLink 206 = .ok (.iconst 5, 1) := dk_8 (dk_at dksX4_readLink_8 16 rfl rfl)
theorem dX4_readLink_207 : decode cX4_readLink 207 = .ok (.iaload, 1) := dk_46 (dk_at dksX4_readLink_8 17 rfl rfl)
theorem dX4_readLink_208 : decode cX4_readLink 208 = .ok (.idiv, 1) := dk_108 (dk_at dksX4_readLink_8 18 rfl rfl)
theorem dX4_readLink_209 : decode cX4_readLink 209 = .ok (.iadd, 1) := dk_96 (dk_at dksX4_readLink_8 19 rfl rfl)
theorem dX4_readLink_210 : decode cX4_readLink 210 = .ok (.iconst 1, 1) := dk_4 (dk_at dksX4_readLink_8 20 rfl rfl)
theorem dX4_readLink_211 : decode cX4_readLink 211 = .ok (.iadd, 1) := dk_96 (dk_at dksX4_readLink_8 21 rfl rfl)
theorem dX4_readLink_212 : decode cX4_readLink 212 = .ok (.bipush 120, 2) := dk_16 120 (dk_at dksX4_readLink_8 22 rfl rfl)
theorem dX4_readLink_214 : decode cX4_readLink 214 = .ok (.if_icmp .le 9, 3) := dk_164 0 9 (dk_at dksX4_readLink_9 0 rfl rfl)
theorem dX4_readLink_217 : decode cX4_readLink 217 = .ok (.aload_n 0, 1) := dk_42 (dk_at dksX4_readLink_9 3 rfl rfl)
theorem dX4_readLink_218 : decode cX4_readLink 218 = .ok (.iconst 5, 1) := dk_8 (dk_at dksX4_readLink_9 4 rfl rfl)
theorem dX4_readLink_219 : decode cX4_readLink 219 = .ok (.invokevirtual 130, 3) := dk_182 0 130 (dk_at dksX4_readLink_9 5 rfl rfl)
theorem dX4_readLink_222 : decode cX4_readLink 222 = .ok (.ireturn, 1) := dk_172 (dk_at dksX4_readLink_9 8 rfl rfl)
theorem dX4_readLink_223 : decode cX4_readLink 223 = .ok (.aload_n 0, 1) := dk_42 (dk_at dksX4_readLink_9 9 rfl rfl)
theorem dX4_readLink_224 : decode cX4_readLink 224 = .ok (.invokevirtual 134, 3) := dk_182 0 134 (dk_at dksX4_readLink_9 10 rfl rfl)
theorem dX4_readLink_227 : decode cX4_readLink 227 = .ok (.aload_n 0, 1) := dk_42 (dk_at dksX4_readLink_9 13 rfl rfl)
theorem dX4_readLink_228 : decode cX4_readLink 228 = .ok (.ldc 204, 2) := dk_18 204 (dk_at dksX4_readLink_9 14 rfl rfl)
theorem dX4_readLink_230 : decode cX4_readLink 230 = .ok (.bipush 6, 2) := dk_16 6 (dk_at dksX4_readLink_9 16 rfl rfl)
theorem dX4_readLink_232 : decode cX4_readLink 232 = .ok (.iconst 1, 1) := dk_4 (dk_at dksX4_readLink_9 18 rfl rfl)
theorem dX4_readLink_233 : decode cX4_readLink 233 = .ok (.bipush 99, 2) := dk_16 99 (dk_at dksX4_readLink_9 19 rfl rfl)
theorem dX4_readLink_235 : decode cX4_readLink 235 = .ok (.invokevirtual 197, 3) := dk_182 0 197 (dk_at dksX4_readLink_9 21 rfl rfl)
theorem dX4_readLink_238 : decode cX4_readLink 238 = .ok (.ifCond .ne 5, 3) := dk_154 0 5 (dk_at dksX4_readLink_10 0 rfl rfl)
theorem dX4_readLink_241 : decode cX4_readLink 241 = .ok (.iconst 0, 1) := dk_3 (dk_at dksX4_readLink_10 3 rfl rfl)
theorem dX4_readLink_242 : decode cX4_readLink 242 = .ok (.ireturn, 1) := dk_172 (dk_at dksX4_readLink_10 4 rfl rfl)
theorem dX4_readLink_243 : decode cX4_readLink 243 = .ok (.aload_n 0, 1) := dk_42 (dk_at dksX4_readLink_10 5 rfl rfl)
theorem dX4_readLink_244 : decode cX4_readLink 244 = .ok (.invokevirtual 134, 3) := dk_182 0 134 (dk_at dksX4_readLink_10 6 rfl rfl)
theorem dX4_readLink_247 : decode cX4_readLink 247 = .ok (.aload_n 0, 1) := dk_42 (dk_at dksX4_readLink_10 9 rfl rfl)
theorem dX4_readLink_248 : decode cX4_readLink 248 = .ok (.getfield 36, 3) := dk_180 0 36 (dk_at dksX4_readLink_10 10 rfl rfl)
theorem dX4_readLink_251 : decode cX4_readLink 251 = .ok (.iconst 3, 1) := dk_6 (dk_at dksX4_readLink_10 13 rfl rfl)
theorem dX4_readLink_252 : decode cX4_readLink 252 = .ok (.iaload, 1) := dk_46 (dk_at dksX4_readLink_10 14 rfl rfl)
theorem dX4_readLink_253 : decode cX4_readLink 253 = .ok (.istore_n 1, 1) := dk_60 (dk_at dksX4_readLink_10 15 rfl rfl)
theorem dX4_readLink_254 : decode cX4_readLink 254 = .ok (.iload_n 1, 1) := dk_27 (dk_at dksX4_readLink_10 16 rfl rfl)
theorem dX4_readLink_255 : decode cX4_readLink 255 = .ok (.aload_n 0, 1) := dk_42 (dk_at dksX4_readLink_10 17 rfl rfl)
theorem dX4_readLink_256 : decode cX4_readLink 256 = .ok (.getfield 36, 3) := dk_180 0 36 (dk_at dksX4_readLink_10 18 rfl rfl)
theorem dX4_readLink_259 : decode cX4_readLink 259 = .ok (.iconst 4, 1) := dk_7 (dk_at dksX4_readLink_10 21 rfl rfl)
theorem dX4_readLink_260 : decode cX4_readLink 260 = .ok (.iaload, 1) := dk_46 (dk_at dksX4_readLink_10 22 rfl rfl)
theorem dX4_readLink_261 : decode cX4_readLink 261 = .ok (.if_icmp .gt 54, 3) := dk_163 0 54 (dk_at dksX4_readLink_11 0 rfl rfl)
theorem dX4_readLink_264 : decode cX4_readLink 264 = .ok (.aload_n 0, 1) := dk_42 (dk_at dksX4_readLink_11 3 rfl rfl)
theorem dX4_readLink_265 : decode cX4_readLink 265 = .ok (.getfield 20, 3) := dk_180 0 20 (dk_at dksX4_readLink_11 4 rfl rfl)
theorem dX4_readLink_268 : decode cX4_readLink 268 = .ok (.aload_n 0, 1) := dk_42 (dk_at dksX4_readLink_11 7 rfl rfl)
theorem dX4_readLink_269 : decode cX4_readLink 269 = .ok (.getfield 36, 3) := dk_180 0 36 (dk_at dksX4_readLink_11 8 rfl rfl)
theorem dX4_readLink_272 : decode cX4_readLink 272 = .ok (.iconst 0, 1) := dk_3 (dk_at dksX4_readLink_11 11 rfl rfl)
theorem dX4_readLink_273 : decode cX4_readLink 273 = .ok (.iaload, 1) := dk_46 (dk_at dksX4_readLink_11 12 rfl rfl)
theorem dX4_readLink_274 : decode cX4_readLink 274 = .ok (.aload_n 0, 1) := dk_42 (dk_at dksX4_readLink_11 13 rfl rfl)
theorem dX4_readLink_275 : decode cX4_readLink 275 = .ok (.getfield 36, 3) := dk_180 0 36 (dk_at dksX4_readLink_11 14 rfl rfl)
theorem dX4_readLink_278 : decode cX4_readLink 278 = .ok (.iconst 1, 1) := dk_4 (dk_at dksX4_readLink_11 17 rfl rfl)
theorem dX4_readLink_279 : decode cX4_readLink 279 = .ok (.iaload, 1) := dk_46 (dk_at dksX4_readLink_11 18 rfl rfl)
theorem dX4_readLink_280 : decode cX4_readLink 280 = .ok (.aload_n 0, 1) := dk_42 (dk_at dksX4_readLink_11 19 rfl rfl)
theorem dX4_readLink_281 : decode cX4_readLink 281 = .ok (.getfield 36, 3) := dk_180 0 36 (dk_at dksX4_readLink_11 20 rfl rfl)
theorem dX4_readLink_284 : decode cX4_readLink 284 = .ok (.iconst 2, 1) := dk_5 (dk_at dksX4_readLink_11 23 rfl rfl)
theorem dX4_readLink_285 : decode cX4_readLink 285 = .ok (.iaload, 1) := dk_46 (dk_at dksX4_readLink_12 0 rfl rfl)
theorem dX4_readLink_286 : decode cX4_readLink 286 = .ok (.iload_n 1, 1) := dk_27 (dk_at dksX4_readLink_12 1 rfl rfl)
theorem dX4_readLink_287 : decode cX4_readLink 287 = .ok (.aload_n 0, 1) := dk_42 (dk_at dksX4_readLink_12 2 rfl rfl)
theorem dX4_readLink_288 : decode cX4_readLink 288 = .ok (.getfield 36, 3) := dk_180 0 36 (dk_at dksX4_readLink_12 3 rfl rfl)
theorem dX4_readLink_291 : decode cX4_readLink 291 = .ok (.bipush 6, 2) := dk_16 6 (dk_at dksX4_readLink_12 6 rfl rfl)
theorem dX4_readLink_293 : decode cX4_readLink 293 = .ok (.iaload, 1) := dk_46 (dk_at dksX4_readLink_12 8 rfl rfl)
theorem dX4_readLink_294 : decode cX4_readLink 294 = .ok (.aload_n 0, 1) := dk_42 (dk_at dksX4_readLink_12 9 rfl rfl)
theorem dX4_readLink_295 : decode cX4_readLink 295 = .ok (.getfield 20, 3) := dk_180 0 20 (dk_at dksX4_readLink_12 10 rfl rfl)
theorem dX4_readLink_298 : decode cX4_readLink 298 = .ok (.iconst 3, 1) := dk_6 (dk_at dksX4_readLink_12 13 rfl rfl)
theorem dX4_readLink_299 : decode cX4_readLink 299 = .ok (.iaload, 1) := dk_46 (dk_at dksX4_readLink_12 14 rfl rfl)
theorem dX4_readLink_300 : decode cX4_readLink 300 = .ok (.invokestatic 206, 3) := dk_184 0 206 (dk_at dksX4_readLink_12 15 rfl rfl)
theorem dX4_readLink_303 : decode cX4_readLink 303 = .ok (.iload_n 1, 1) := dk_27 (dk_at dksX4_readLink_12 18 rfl rfl)
theorem dX4_readLink_304 : decode cX4_readLink 304 = .ok (.aload_n 0, 1) := dk_42 (dk_at dksX4_readLink_12 19 rfl rfl)
theorem dX4_readLink_305 : decode cX4_readLink 305 = .ok (.getfield 36, 3) := dk_180 0 36 (dk_at dksX4_readLink_12 20 rfl rfl)
theorem dX4_readLink_308 : decode cX4_readLink 308 = .ok (.iconst 5, 1) := dk_8 (dk_at dksX4_readLink_12 23 rfl rfl)
theorem dX4_readLink_309 : decode cX4_readLink 309 = .ok (.iaload, 1) := dk_46 (dk_at dksX4_readLink_13 0 rfl rfl)
theorem dX4_readLink_310 : decode cX4_readLink 310 = .ok (.iadd, 1) := dk_96 (dk_at dksX4_readLink_13 1 rfl rfl)
theorem dX4_readLink_311 : decode cX4_readLink 311 = .ok (.istore_n 1, 1) := dk_60 (dk_at dksX4_readLink_13 2 rfl rfl)
theorem dX4_readLink_312 : decode cX4_readLink 312 = .ok (.goto (-58), 3) := dk_167 255 198 (dk_at dksX4_readLink_13 3 rfl rfl)
theorem dX4_readLink_315 : decode cX4_readLink 315 = .ok (.aload_n 0, 1) := dk_42 (dk_at dksX4_readLink_13 6 rfl rfl)
theorem dX4_readLink_316 : decode cX4_readLink 316 = .ok (.getfield 20, 3) := dk_180 0 20 (dk_at dksX4_readLink_13 7 rfl rfl)
theorem dX4_readLink_319 : decode cX4_readLink 319 = .ok (.iconst 3, 1) := dk_6 (dk_at dksX4_readLink_13 10 rfl rfl)
theorem dX4_readLink_320 : decode cX4_readLink 320 = .ok (.dup2, 1) := dk_92 (dk_at dksX4_readLink_13 11 rfl rfl)
theorem dX4_readLink_321 : decode cX4_readLink 321 = .ok (.iaload, 1) := dk_46 (dk_at dksX4_readLink_13 12 rfl rfl)
theorem dX4_readLink_322 : decode cX4_readLink 322 = .ok (.iconst 1, 1) := dk_4 (dk_at dksX4_readLink_13 13 rfl rfl)
theorem dX4_readLink_323 : decode cX4_readLink 323 = .ok (.iadd, 1) := dk_96 (dk_at dksX4_readLink_13 14 rfl rfl)
theorem dX4_readLink_324 : decode cX4_readLink 324 = .ok (.iastore, 1) := dk_79 (dk_at dksX4_readLink_13 15 rfl rfl)
theorem dX4_readLink_325 : decode cX4_readLink 325 = .ok (.iconst 1, 1) := dk_4 (dk_at dksX4_readLink_13 16 rfl rfl)
theorem dX4_readLink_326 : decode cX4_readLink 326 = .ok (.ireturn, 1) := dk_172 (dk_at dksX4_readLink_13 17 rfl rfl)
abbrev cX4_namesLink : ByteArray := prog_15_method_28_code
def yX4_namesLink : MethodName := ⟨RX4, "namesLink", "([JII)Z"⟩
def dkwX4_namesLink_1 : List UInt8 := [42, 180, 0, 36, 29, 46, 2, 160, 0, 11, 42, 5, 182, 0, 130, 153, 0, 7, 4, 167, 0, 4, 3, 172]
abbrev dktX4_namesLink_1 : List UInt8 := dkwX4_namesLink_1 ++ []
def dkwX4_namesLink_0 : List UInt8 := [42, 182, 0, 154, 154, 0, 5, 3, 172, 42, 180, 0, 36, 29, 43, 28, 42, 182, 0, 158, 184, 0, 162, 79]
abbrev dktX4_namesLink_0 : List UInt8 := dkwX4_namesLink_0 ++ dktX4_namesLink_1
theorem dksX4_namesLink_0 : cX4_namesLink.data.toList.drop 0 = dktX4_namesLink_0 := by decide +kernel
theorem dksX4_namesLink_1 : cX4_namesLink.data.toList.drop 24 = dktX4_namesLink_1 := dk_seg dksX4_namesLink_0 24 rfl rfl
theorem dX4_namesLink_0 : decode cX4_namesLink 0 = .ok (.aload_n 0, 1) := dk_42 (dk_at dksX4_namesLink_0 0 rfl rfl)
theorem dX4_namesLink_1 : decode cX4_namesLink 1 = .ok (.invokevirtual 154, 3) := dk_182 0 154 (dk_at dksX4_namesLink_0 1 rfl rfl)
theorem dX4_namesLink_4 : decode cX4_namesLink 4 = .ok (.ifCond .ne 5, 3) := dk_154 0 5 (dk_at dksX4_namesLink_0 4 rfl rfl)
theorem dX4_namesLink_7 : decode cX4_namesLink 7 = .ok (.iconst 0, 1) := dk_3 (dk_at dksX4_namesLink_0 7 rfl rfl)
theorem dX4_namesLink_8 : decode cX4_namesLink 8 = .ok (.ireturn, 1) := dk_172 (dk_at dksX4_namesLink_0 8 rfl rfl)
theorem dX4_namesLink_9 : decode cX4_namesLink 9 = .ok (.aload_n 0, 1) := dk_42 (dk_at dksX4_namesLink_0 9 rfl rfl)
theorem dX4_namesLink_10 : decode cX4_namesLink 10 = .ok (.getfield 36, 3) := dk_180 0 36 (dk_at dksX4_namesLink_0 10 rfl rfl)
theorem dX4_namesLink_13 : decode cX4_namesLink 13 = .ok (.iload_n 3, 1) := dk_29 (dk_at dksX4_namesLink_0 13 rfl rfl)
theorem dX4_namesLink_14 : decode cX4_namesLink 14 = .ok (.aload_n 1, 1) := dk_43 (dk_at dksX4_namesLink_0 14 rfl rfl)
theorem dX4_namesLink_15 : decode cX4_namesLink 15 = .ok (.iload_n 2, 1) := dk_28 (dk_at dksX4_namesLink_0 15 rfl rfl)
theorem dX4_namesLink_16 : decode cX4_namesLink 16 = .ok (.aload_n 0, 1) := dk_42 (dk_at dksX4_namesLink_0 16 rfl rfl)
theorem dX4_namesLink_17 : decode cX4_namesLink 17 = .ok (.invokevirtual 158, 3) := dk_182 0 158 (dk_at dksX4_namesLink_0 17 rfl rfl)
theorem dX4_namesLink_20 : decode cX4_namesLink 20 = .ok (.invokestatic 162, 3) := dk_184 0 162 (dk_at dksX4_namesLink_0 20 rfl rfl)
theorem dX4_namesLink_23 : decode cX4_namesLink 23 = .ok (.iastore, 1) := dk_79 (dk_at dksX4_namesLink_0 23 rfl rfl)
theorem dX4_namesLink_24 : decode cX4_namesLink 24 = .ok (.aload_n 0, 1) := dk_42 (dk_at dksX4_namesLink_1 0 rfl rfl)
theorem dX4_namesLink_25 : decode cX4_namesLink 25 = .ok (.getfield 36, 3) := dk_180 0 36 (dk_at dksX4_namesLink_1 1 rfl rfl)
theorem dX4_namesLink_28 : decode cX4_namesLink 28 = .ok (.iload_n 3, 1) := dk_29 (dk_at dksX4_namesLink_1 4 rfl rfl)
theorem dX4_namesLink_29 : decode cX4_namesLink 29 = .ok (.iaload, 1) := dk_46 (dk_at dksX4_namesLink_1 5 rfl rfl)
theorem dX4_namesLink_30 : decode cX4_namesLink 30 = .ok (.iconst (-1), 1) := dk_2 (dk_at dksX4_namesLink_1 6 rfl rfl)
theorem dX4_namesLink_31 : decode cX4_namesLink 31 = .ok (.if_icmp .ne 11, 3) := dk_160 0 11 (dk_at dksX4_namesLink_1 7 rfl rfl)
theorem dX4_namesLink_34 : decode cX4_namesLink 34 = .ok (.aload_n 0, 1) := dk_42 (dk_at dksX4_namesLink_1 10 rfl rfl)
theorem dX4_namesLink_35 : decode cX4_namesLink 35 = .ok (.iconst 2, 1) := dk_5 (dk_at dksX4_namesLink_1 11 rfl rfl)
theorem dX4_namesLink_36 : decode cX4_namesLink 36 = .ok (.invokevirtual 130, 3) := dk_182 0 130 (dk_at dksX4_namesLink_1 12 rfl rfl)
theorem dX4_namesLink_39 : decode cX4_namesLink 39 = .ok (.ifCond .eq 7, 3) := dk_153 0 7 (dk_at dksX4_namesLink_1 15 rfl rfl)
theorem dX4_namesLink_42 : decode cX4_namesLink 42 = .ok (.iconst 1, 1) := dk_4 (dk_at dksX4_namesLink_1 18 rfl rfl)
theorem dX4_namesLink_43 : decode cX4_namesLink 43 = .ok (.goto 4, 3) := dk_167 0 4 (dk_at dksX4_namesLink_1 19 rfl rfl)
theorem dX4_namesLink_46 : decode cX4_namesLink 46 = .ok (.iconst 0, 1) := dk_3 (dk_at dksX4_namesLink_1 22 rfl rfl)
theorem dX4_namesLink_47 : decode cX4_namesLink 47 = .ok (.ireturn, 1) := dk_172 (dk_at dksX4_namesLink_1 23 rfl rfl)
abbrev cX4_afterLink : ByteArray := prog_15_method_27_code
def yX4_afterLink : MethodName := ⟨RX4, "afterLink", "(Ljava/lang/String;III)Z"⟩
def dkwX4_afterLink_1 : List UInt8 := [182, 0, 188, 172]
abbrev dktX4_afterLink_1 : List UInt8 := dkwX4_afterLink_1 ++ []
def dkwX4_afterLink_0 : List UInt8 := [42, 43, 182, 0, 137, 154, 0, 9, 42, 4, 182, 0, 130, 172, 42, 182, 0, 134, 42, 28, 29, 21, 4]
abbrev dktX4_afterLink_0 : List UInt8 := dkwX4_afterLink_0 ++ dktX4_afterLink_1
theorem dksX4_afterLink_0 : cX4_afterLink.data.toList.drop 0 = dktX4_afterLink_0 := by decide +kernel
theorem dksX4_afterLink_1 : cX4_afterLink.data.toList.drop 23 = dktX4_afterLink_1 := dk_seg dksX4_afterLink_0 23 rfl rfl
theorem dX4_afterLink_0 : decode cX4_afterLink 0 = .ok (.aload_n 0, 1) := dk_42 (dk_at dksX4_afterLink_0 0 rfl rfl)
theorem dX4_afterLink_1 : decode cX4_afterLink 1 = .ok (.aload_n 1, 1) := dk_43 (dk_at dksX4_afterLink_0 1 rfl rfl)
theorem dX4_afterLink_2 : decode cX4_afterLink 2 = .ok (.invokevirtual 137, 3) := dk_182 0 137 (dk_at dksX4_afterLink_0 2 rfl rfl)
theorem dX4_afterLink_5 : decode cX4_afterLink 5 = .ok (.ifCond .ne 9, 3) := dk_154 0 9 (dk_at dksX4_afterLink_0 5 rfl rfl)
theorem dX4_afterLink_8 : decode cX4_afterLink 8 = .ok (.aload_n 0, 1) := dk_42 (dk_at dksX4_afterLink_0 8 rfl rfl)
theorem dX4_afterLink_9 : decode cX4_afterLink 9 = .ok (.iconst 1, 1) := dk_4 (dk_at dksX4_afterLink_0 9 rfl rfl)
theorem dX4_afterLink_10 : decode cX4_afterLink 10 = .ok (.invokevirtual 130, 3) := dk_182 0 130 (dk_at dksX4_afterLink_0 10 rfl rfl)
theorem dX4_afterLink_13 : decode cX4_afterLink 13 = .ok (.ireturn, 1) := dk_172 (dk_at dksX4_afterLink_0 13 rfl rfl)
theorem dX4_afterLink_14 : decode cX4_afterLink 14 = .ok (.aload_n 0, 1) := dk_42 (dk_at dksX4_afterLink_0 14 rfl rfl)
theorem dX4_afterLink_15 : decode cX4_afterLink 15 = .ok (.invokevirtual 134, 3) := dk_182 0 134 (dk_at dksX4_afterLink_0 15 rfl rfl)
theorem dX4_afterLink_18 : decode cX4_afterLink 18 = .ok (.aload_n 0, 1) := dk_42 (dk_at dksX4_afterLink_0 18 rfl rfl)
theorem dX4_afterLink_19 : decode cX4_afterLink 19 = .ok (.iload_n 2, 1) := dk_28 (dk_at dksX4_afterLink_0 19 rfl rfl)
theorem dX4_afterLink_20 : decode cX4_afterLink 20 = .ok (.iload_n 3, 1) := dk_29 (dk_at dksX4_afterLink_0 20 rfl rfl)
theorem dX4_afterLink_21 : decode cX4_afterLink 21 = .ok (.iload 4, 2) := dk_21 4 (dk_at dksX4_afterLink_0 21 rfl rfl)
theorem dX4_afterLink_23 : decode cX4_afterLink 23 = .ok (.invokevirtual 188, 3) := dk_182 0 188 (dk_at dksX4_afterLink_1 0 rfl rfl)
theorem dX4_afterLink_26 : decode cX4_afterLink 26 = .ok (.ireturn, 1) := dk_172 (dk_at dksX4_afterLink_1 3 rfl rfl)
abbrev cX4_laysLink : ByteArray := prog_15_method_26_code
def yX4_laysLink : MethodName := ⟨RX4, "laysLink", "(III)Z"⟩
def dkwX4_laysLink_1 : List UInt8 := [154, 0, 9, 42, 7, 182, 0, 130, 172, 42, 180, 0, 36, 27, 42, 180, 0, 111, 79, 4, 172]
abbrev dktX4_laysLink_1 : List UInt8 := dkwX4_laysLink_1 ++ []
def dkwX4_laysLink_0 : List UInt8 := [42, 180, 0, 104, 6, 159, 0, 9, 42, 4, 182, 0, 130, 172, 42, 180, 0, 111, 28, 29, 184, 0, 107]
abbrev dktX4_laysLink_0 : List UInt8 := dkwX4_laysLink_0 ++ dktX4_laysLink_1
theorem dksX4_laysLink_0 : cX4_laysLink.data.toList.drop 0 = dktX4_laysLink_0 := by decide +kernel
theorem dksX4_laysLink_1 : cX4_laysLink.data.toList.drop 23 = dktX4_laysLink_1 := dk_seg dksX4_laysLink_0 23 rfl rfl
theorem dX4_laysLink_0 : decode cX4_laysLink 0 = .ok (.aload_n 0, 1) := dk_42 (dk_at dksX4_laysLink_0 0 rfl rfl)
theorem dX4_laysLink_1 : decode cX4_laysLink 1 = .ok (.getfield 104, 3) := dk_180 0 104 (dk_at dksX4_laysLink_0 1 rfl rfl)
theorem dX4_laysLink_4 : decode cX4_laysLink 4 = .ok (.iconst 3, 1) := dk_6 (dk_at dksX4_laysLink_0 4 rfl rfl)
theorem dX4_laysLink_5 : decode cX4_laysLink 5 = .ok (.if_icmp .eq 9, 3) := dk_159 0 9 (dk_at dksX4_laysLink_0 5 rfl rfl)
theorem dX4_laysLink_8 : decode cX4_laysLink 8 = .ok (.aload_n 0, 1) := dk_42 (dk_at dksX4_laysLink_0 8 rfl rfl)
theorem dX4_laysLink_9 : decode cX4_laysLink 9 = .ok (.iconst 1, 1) := dk_4 (dk_at dksX4_laysLink_0 9 rfl rfl)
theorem dX4_laysLink_10 : decode cX4_laysLink 10 = .ok (.invokevirtual 130, 3) := dk_182 0 130 (dk_at dksX4_laysLink_0 10 rfl rfl)
theorem dX4_laysLink_13 : decode cX4_laysLink 13 = .ok (.ireturn, 1) := dk_172 (dk_at dksX4_laysLink_0 13 rfl rfl)
theorem dX4_laysLink_14 : decode cX4_laysLink 14 = .ok (.aload_n 0, 1) := dk_42 (dk_at dksX4_laysLink_0 14 rfl rfl)
theorem dX4_laysLink_15 : decode cX4_laysLink 15 = .ok (.getfield 111, 3) := dk_180 0 111 (dk_at dksX4_laysLink_0 15 rfl rfl)
theorem dX4_laysLink_18 : decode cX4_laysLink 18 = .ok (.iload_n 2, 1) := dk_28 (dk_at dksX4_laysLink_0 18 rfl rfl)
theorem dX4_laysLink_19 : decode cX4_laysLink 19 = .ok (.iload_n 3, 1) := dk_29 (dk_at dksX4_laysLink_0 19 rfl rfl)
theorem dX4_laysLink_20 : decode cX4_laysLink 20 = .ok (.invokestatic 107, 3) := dk_184 0 107 (dk_at dksX4_laysLink_0 20 rfl rfl)
theorem dX4_laysLink_23 : decode cX4_laysLink 23 = .ok (.ifCond .ne 9, 3) := dk_154 0 9 (dk_at dksX4_laysLink_1 0 rfl rfl)
theorem dX4_laysLink_26 : decode cX4_laysLink 26 = .ok (.aload_n 0, 1) := dk_42 (dk_at dksX4_laysLink_1 3 rfl rfl)
theorem dX4_laysLink_27 : decode cX4_laysLink 27 = .ok (.iconst 4, 1) := dk_7 (dk_at dksX4_laysLink_1 4 rfl rfl)
theorem dX4_laysLink_28 : decode cX4_laysLink 28 = .ok (.invokevirtual 130, 3) := dk_182 0 130 (dk_at dksX4_laysLink_1 5 rfl rfl)
theorem dX4_laysLink_31 : decode cX4_laysLink 31 = .ok (.ireturn, 1) := dk_172 (dk_at dksX4_laysLink_1 8 rfl rfl)
theorem dX4_laysLink_32 : decode cX4_laysLink 32 = .ok (.aload_n 0, 1) := dk_42 (dk_at dksX4_laysLink_1 9 rfl rfl)
theorem dX4_laysLink_33 : decode cX4_laysLink 33 = .ok (.getfield 36, 3) := dk_180 0 36 (dk_at dksX4_laysLink_1 10 rfl rfl)
theorem dX4_laysLink_36 : decode cX4_laysLink 36 = .ok (.iload_n 1, 1) := dk_27 (dk_at dksX4_laysLink_1 13 rfl rfl)
theorem dX4_laysLink_37 : decode cX4_laysLink 37 = .ok (.aload_n 0, 1) := dk_42 (dk_at dksX4_laysLink_1 14 rfl rfl)
theorem dX4_laysLink_38 : decode cX4_laysLink 38 = .ok (.getfield 111, 3) := dk_180 0 111 (dk_at dksX4_laysLink_1 15 rfl rfl)
theorem dX4_laysLink_41 : decode cX4_laysLink 41 = .ok (.iastore, 1) := dk_79 (dk_at dksX4_laysLink_1 18 rfl rfl)
theorem dX4_laysLink_42 : decode cX4_laysLink 42 = .ok (.iconst 1, 1) := dk_4 (dk_at dksX4_laysLink_1 19 rfl rfl)
theorem dX4_laysLink_43 : decode cX4_laysLink 43 = .ok (.ireturn, 1) := dk_172 (dk_at dksX4_laysLink_1 20 rfl rfl)
abbrev cX4_lays_2 : ByteArray := prog_15_method_30_code
def yX4_lays_2 : MethodName := ⟨RX4, "lays", "([IIIIIII)V"⟩
def dkwX4_lays_2_3 : List UInt8 := [79, 42, 21, 7, 16, 7, 184, 0, 209, 21, 6, 79, 42, 7, 92, 46, 4, 96, 79, 177]
abbrev dktX4_lays_2_3 : List UInt8 := dkwX4_lays_2_3 ++ []
def dkwX4_lays_2_2 : List UInt8 := [184, 0, 209, 21, 5, 79, 42, 21, 7, 8, 184, 0, 209, 3, 79, 42, 21, 7, 16, 6, 184, 0, 209, 4]
abbrev dktX4_lays_2_2 : List UInt8 := dkwX4_lays_2_2 ++ dktX4_lays_2_3
def dkwX4_lays_2_1 : List UInt8 := [21, 7, 5, 184, 0, 209, 29, 79, 42, 21, 7, 6, 184, 0, 209, 21, 4, 79, 42, 21, 7, 7]
abbrev dktX4_lays_2_1 : List UInt8 := dkwX4_lays_2_1 ++ dktX4_lays_2_2
def dkwX4_lays_2_0 : List UInt8 := [42, 7, 46, 54, 7, 42, 21, 7, 3, 184, 0, 209, 27, 79, 42, 21, 7, 4, 184, 0, 209, 28, 79, 42]
abbrev dktX4_lays_2_0 : List UInt8 := dkwX4_lays_2_0 ++ dktX4_lays_2_1
theorem dksX4_lays_2_0 : cX4_lays_2.data.toList.drop 0 = dktX4_lays_2_0 := by decide +kernel
theorem dksX4_lays_2_1 : cX4_lays_2.data.toList.drop 24 = dktX4_lays_2_1 := dk_seg dksX4_lays_2_0 24 rfl rfl
theorem dksX4_lays_2_2 : cX4_lays_2.data.toList.drop 46 = dktX4_lays_2_2 := dk_seg dksX4_lays_2_1 22 rfl rfl
theorem dksX4_lays_2_3 : cX4_lays_2.data.toList.drop 70 = dktX4_lays_2_3 := dk_seg dksX4_lays_2_2 24 rfl rfl
theorem dX4_lays_2_0 : decode cX4_lays_2 0 = .ok (.aload_n 0, 1) := dk_42 (dk_at dksX4_lays_2_0 0 rfl rfl)
theorem dX4_lays_2_1 : decode cX4_lays_2 1 = .ok (.iconst 4, 1) := dk_7 (dk_at dksX4_lays_2_0 1 rfl rfl)
theorem dX4_lays_2_2 : decode cX4_lays_2 2 = .ok (.iaload, 1) := dk_46 (dk_at dksX4_lays_2_0 2 rfl rfl)
theorem dX4_lays_2_3 : decode cX4_lays_2 3 = .ok (.istore 7, 2) := dk_54 7 (dk_at dksX4_lays_2_0 3 rfl rfl)
theorem dX4_lays_2_5 : decode cX4_lays_2 5 = .ok (.aload_n 0, 1) := dk_42 (dk_at dksX4_lays_2_0 5 rfl rfl)
theorem dX4_lays_2_6 : decode cX4_lays_2 6 = .ok (.iload 7, 2) := dk_21 7 (dk_at dksX4_lays_2_0 6 rfl rfl)
theorem dX4_lays_2_8 : decode cX4_lays_2 8 = .ok (.iconst 0, 1) := dk_3 (dk_at dksX4_lays_2_0 8 rfl rfl)
theorem dX4_lays_2_9 : decode cX4_lays_2 9 = .ok (.invokestatic 209, 3) := dk_184 0 209 (dk_at dksX4_lays_2_0 9 rfl rfl)
theorem dX4_lays_2_12 : decode cX4_lays_2 12 = .ok (.iload_n 1, 1) := dk_27 (dk_at dksX4_lays_2_0 12 rfl rfl)
theorem dX4_lays_2_13 : decode cX4_lays_2 13 = .ok (.iastore, 1) := dk_79 (dk_at dksX4_lays_2_0 13 rfl rfl)
theorem dX4_lays_2_14 : decode cX4_lays_2 14 = .ok (.aload_n 0, 1) := dk_42 (dk_at dksX4_lays_2_0 14 rfl rfl)
theorem dX4_lays_2_15 : decode cX4_lays_2 15 = .ok (.iload 7, 2) := dk_21 7 (dk_at dksX4_lays_2_0 15 rfl rfl)
theorem dX4_lays_2_17 : decode cX4_lays_2 17 = .ok (.iconst 1, 1) := dk_4 (dk_at dksX4_lays_2_0 17 rfl rfl)
theorem dX4_lays_2_18 : decode cX4_lays_2 18 = .ok (.invokestatic 209, 3) := dk_184 0 209 (dk_at dksX4_lays_2_0 18 rfl rfl)
theorem dX4_lays_2_21 : decode cX4_lays_2 21 = .ok (.iload_n 2, 1) := dk_28 (dk_at dksX4_lays_2_0 21 rfl rfl)
theorem dX4_lays_2_22 : decode cX4_lays_2 22 = .ok (.iastore, 1) := dk_79 (dk_at dksX4_lays_2_0 22 rfl rfl)
theorem dX4_lays_2_23 : decode cX4_lays_2 23 = .ok (.aload_n 0, 1) := dk_42 (dk_at dksX4_lays_2_0 23 rfl rfl)
theorem dX4_lays_2_24 : decode cX4_lays_2 24 = .ok (.iload 7, 2) := dk_21 7 (dk_at dksX4_lays_2_1 0 rfl rfl)
theorem dX4_lays_2_26 : decode cX4_lays_2 26 = .ok (.iconst 2, 1) := dk_5 (dk_at dksX4_lays_2_1 2 rfl rfl)
theorem dX4_lays_2_27 : decode cX4_lays_2 27 = .ok (.invokestatic 209, 3) := dk_184 0 209 (dk_at dksX4_lays_2_1 3 rfl rfl)
theorem dX4_lays_2_30 : decode cX4_lays_2 30 = .ok (.iload_n 3, 1) := dk_29 (dk_at dksX4_lays_2_1 6 rfl rfl)
theorem dX4_lays_2_31 : decode cX4_lays_2 31 = .ok (.iastore, 1) := dk_79 (dk_at dksX4_lays_2_1 7 rfl rfl)
theorem dX4_lays_2_32 : decode cX4_lays_2 32 = .ok (.aload_n 0, 1) := dk_42 (dk_at dksX4_lays_2_1 8 rfl rfl)
theorem dX4_lays_2_33 : decode cX4_lays_2 33 = .ok (.iload 7, 2) := dk_21 7 (dk_at dksX4_lays_2_1 9 rfl rfl)
theorem dX4_lays_2_35 : decode cX4_lays_2 35 = .ok (.iconst 3, 1) := dk_6 (dk_at dksX4_lays_2_1 11 rfl rfl)
theorem dX4_lays_2_36 : decode cX4_lays_2 36 = .ok (.invokestatic 209, 3) := dk_184 0 209 (dk_at dksX4_lays_2_1 12 rfl rfl)
theorem dX4_lays_2_39 : decode cX4_lays_2 39 = .ok (.iload 4, 2) := dk_21 4 (dk_at dksX4_lays_2_1 15 rfl rfl)
theorem dX4_lays_2_41 : decode cX4_lays_2 41 = .ok (.iastore, 1) := dk_79 (dk_at dksX4_lays_2_1 17 rfl rfl)
theorem dX4_lays_2_42 : decode cX4_lays_2 42 = .ok (.aload_n 0, 1) := dk_42 (dk_at dksX4_lays_2_1 18 rfl rfl)
theorem dX4_lays_2_43 : decode cX4_lays_2 43 = .ok (.iload 7, 2) := dk_21 7 (dk_at dksX4_lays_2_1 19 rfl rfl)
theorem dX4_lays_2_45 : decode cX4_lays_2 45 = .ok (.iconst 4, 1) := dk_7 (dk_at dksX4_lays_2_1 21 rfl rfl)
theorem dX4_lays_2_46 : decode cX4_lays_2 46 = .ok (.invokestatic 209, 3) := dk_184 0 209 (dk_at dksX4_lays_2_2 0 rfl rfl)
theorem dX4_lays_2_49 : decode cX4_lays_2 49 = .ok (.iload 5, 2) := dk_21 5 (dk_at dksX4_lays_2_2 3 rfl rfl)
theorem dX4_lays_2_51 : decode cX4_lays_2 51 = .ok (.iastore, 1) := dk_79 (dk_at dksX4_lays_2_2 5 rfl rfl)
theorem dX4_lays_2_52 : decode cX4_lays_2 52 = .ok (.aload_n 0, 1) := dk_42 (dk_at dksX4_lays_2_2 6 rfl rfl)
theorem dX4_lays_2_53 : decode cX4_lays_2 53 = .ok (.iload 7, 2) := dk_21 7 (dk_at dksX4_lays_2_2 7 rfl rfl)
theorem dX4_lays_2_55 : decode cX4_lays_2 55 = .ok (.iconst 5, 1) := dk_8 (dk_at dksX4_lays_2_2 9 rfl rfl)
theorem dX4_lays_2_56 : decode cX4_lays_2 56 = .ok (.invokestatic 209, 3) := dk_184 0 209 (dk_at dksX4_lays_2_2 10 rfl rfl)
theorem dX4_lays_2_59 : decode cX4_lays_2 59 = .ok (.iconst 0, 1) := dk_3 (dk_at dksX4_lays_2_2 13 rfl rfl)
theorem dX4_lays_2_60 : decode cX4_lays_2 60 = .ok (.iastore, 1) := dk_79 (dk_at dksX4_lays_2_2 14 rfl rfl)
theorem dX4_lays_2_61 : decode cX4_lays_2 61 = .ok (.aload_n 0, 1) := dk_42 (dk_at dksX4_lays_2_2 15 rfl rfl)
theorem dX4_lays_2_62 : decode cX4_lays_2 62 = .ok (.iload 7, 2) := dk_21 7 (dk_at dksX4_lays_2_2 16 rfl rfl)
theorem dX4_lays_2_64 : decode cX4_lays_2 64 = .ok (.bipush 6, 2) := dk_16 6 (dk_at dksX4_lays_2_2 18 rfl rfl)
theorem dX4_lays_2_66 : decode cX4_lays_2 66 = .ok (.invokestatic 209, 3) := dk_184 0 209 (dk_at dksX4_lays_2_2 20 rfl rfl)
theorem dX4_lays_2_69 : decode cX4_lays_2 69 = .ok (.iconst 1, 1) := dk_4 (dk_at dksX4_lays_2_2 23 rfl rfl)
theorem dX4_lays_2_70 : decode cX4_lays_2 70 = .ok (.iastore, 1) := dk_79 (dk_at dksX4_lays_2_3 0 rfl rfl)
theorem dX4_lays_2_71 : decode cX4_lays_2 71 = .ok (.aload_n 0, 1) := dk_42 (dk_at dksX4_lays_2_3 1 rfl rfl)
theorem dX4_lays_2_72 : decode cX4_lays_2 72 = .ok (.iload 7, 2) := dk_21 7 (dk_at dksX4_lays_2_3 2 rfl rfl)
theorem dX4_lays_2_74 : decode cX4_lays_2 74 = .ok (.bipush 7, 2) := dk_16 7 (dk_at dksX4_lays_2_3 4 rfl rfl)
theorem dX4_lays_2_76 : decode cX4_lays_2 76 = .ok (.invokestatic 209, 3) := dk_184 0 209 (dk_at dksX4_lays_2_3 6 rfl rfl)
theorem dX4_lays_2_79 : decode cX4_lays_2 79 = .ok (.iload 6, 2) := dk_21 6 (dk_at dksX4_lays_2_3 9 rfl rfl)
theorem dX4_lays_2_81 : decode cX4_lays_2 81 = .ok (.iastore, 1) := dk_79 (dk_at dksX4_lays_2_3 11 rfl rfl)
theorem dX4_lays_2_82 : decode cX4_lays_2 82 = .ok (.aload_n 0, 1) := dk_42 (dk_at dksX4_lays_2_3 12 rfl rfl)
theorem dX4_lays_2_83 : decode cX4_lays_2 83 = .ok (.iconst 4, 1) := dk_7 (dk_at dksX4_lays_2_3 13 rfl rfl)
theorem dX4_lays_2_84 : decode cX4_lays_2 84 = .ok (.dup2, 1) := dk_92 (dk_at dksX4_lays_2_3 14 rfl rfl)
theorem dX4_lays_2_85 : decode cX4_lays_2 85 = .ok (.iaload, 1) := dk_46 (dk_at dksX4_lays_2_3 15 rfl rfl)
theorem dX4_lays_2_86 : decode cX4_lays_2 86 = .ok (.iconst 1, 1) := dk_4 (dk_at dksX4_lays_2_3 16 rfl rfl)
theorem dX4_lays_2_87 : decode cX4_lays_2 87 = .ok (.iadd, 1) := dk_96 (dk_at dksX4_lays_2_3 17 rfl rfl)
theorem dX4_lays_2_88 : decode cX4_lays_2 88 = .ok (.iastore, 1) := dk_79 (dk_at dksX4_lays_2_3 18 rfl rfl)
theorem dX4_lays_2_89 : decode cX4_lays_2 89 = .ok (.return_, 1) := dk_177 (dk_at dksX4_lays_2_3 19 rfl rfl)
abbrev cX4_at : ByteArray := prog_15_method_10_code
def yX4_at : MethodName := ⟨RX4, "at", "(II)I"⟩
def dkwX4_at_0 : List UInt8 := [16, 25, 16, 8, 26, 104, 96, 27, 96, 172]
abbrev dktX4_at_0 : List UInt8 := dkwX4_at_0 ++ []
theorem dksX4_at_0 : cX4_at.data.toList.drop 0 = dktX4_at_0 := by decide +kernel
theorem dX4_at_0 : decode cX4_at 0 = .ok (.bipush 25, 2) := dk_16 25 (dk_at dksX4_at_0 0 rfl rfl)
theorem dX4_at_2 : decode cX4_at 2 = .ok (.bipush 8, 2) := dk_16 8 (dk_at dksX4_at_0 2 rfl rfl)
theorem dX4_at_4 : decode cX4_at 4 = .ok (.iload_n 0, 1) := dk_26 (dk_at dksX4_at_0 4 rfl rfl)
theorem dX4_at_5 : decode cX4_at 5 = .ok (.imul, 1) := dk_104 (dk_at dksX4_at_0 5 rfl rfl)
theorem dX4_at_6 : decode cX4_at 6 = .ok (.iadd, 1) := dk_96 (dk_at dksX4_at_0 6 rfl rfl)
theorem dX4_at_7 : decode cX4_at 7 = .ok (.iload_n 1, 1) := dk_27 (dk_at dksX4_at_0 7 rfl rfl)
theorem dX4_at_8 : decode cX4_at 8 = .ok (.iadd, 1) := dk_96 (dk_at dksX4_at_0 8 rfl rfl)
theorem dX4_at_9 : decode cX4_at 9 = .ok (.ireturn, 1) := dk_172 (dk_at dksX4_at_0 9 rfl rfl)
abbrev cX4_no : ByteArray := prog_15_method_4_code
def yX4_no : MethodName := ⟨RX4, "no", "(I)I"⟩
def dkwX4_no_0 : List UInt8 := [42, 27, 181, 0, 81, 2, 172]
abbrev dktX4_no_0 : List UInt8 := dkwX4_no_0 ++ []
theorem dksX4_no_0 : cX4_no.data.toList.drop 0 = dktX4_no_0 := by decide +kernel
theorem dX4_no_0 : decode cX4_no 0 = .ok (.aload_n 0, 1) := dk_42 (dk_at dksX4_no_0 0 rfl rfl)
theorem dX4_no_1 : decode cX4_no 1 = .ok (.iload_n 1, 1) := dk_27 (dk_at dksX4_no_0 1 rfl rfl)
theorem dX4_no_2 : decode cX4_no 2 = .ok (.putfield 81, 3) := dk_181 0 81 (dk_at dksX4_no_0 2 rfl rfl)
theorem dX4_no_5 : decode cX4_no 5 = .ok (.iconst (-1), 1) := dk_2 (dk_at dksX4_no_0 5 rfl rfl)
theorem dX4_no_6 : decode cX4_no 6 = .ok (.ireturn, 1) := dk_172 (dk_at dksX4_no_0 6 rfl rfl)
abbrev cX4_copies : ByteArray := prog_15_method_34_code
def yX4_copies : MethodName := ⟨RX4, "copies", "([II[II)V"⟩
def dkwX4_copies_1 : List UInt8 := [132, 4, 1, 167, 255, 233, 177]
abbrev dktX4_copies_1 : List UInt8 := dkwX4_copies_1 ++ []
def dkwX4_copies_0 : List UInt8 := [3, 54, 4, 21, 4, 17, 3, 217, 162, 0, 21, 44, 29, 21, 4, 96, 42, 27, 21, 4, 96, 46, 79]
abbrev dktX4_copies_0 : List UInt8 := dkwX4_copies_0 ++ dktX4_copies_1
theorem dksX4_copies_0 : cX4_copies.data.toList.drop 0 = dktX4_copies_0 := by decide +kernel
theorem dksX4_copies_1 : cX4_copies.data.toList.drop 23 = dktX4_copies_1 := dk_seg dksX4_copies_0 23 rfl rfl
theorem dX4_copies_0 : decode cX4_copies 0 = .ok (.iconst 0, 1) := dk_3 (dk_at dksX4_copies_0 0 rfl rfl)
theorem dX4_copies_1 : decode cX4_copies 1 = .ok (.istore 4, 2) := dk_54 4 (dk_at dksX4_copies_0 1 rfl rfl)
theorem dX4_copies_3 : decode cX4_copies 3 = .ok (.iload 4, 2) := dk_21 4 (dk_at dksX4_copies_0 3 rfl rfl)
theorem dX4_copies_5 : decode cX4_copies 5 = .ok (.sipush 985, 3) := dk_17 3 217 (dk_at dksX4_copies_0 5 rfl rfl)
theorem dX4_copies_8 : decode cX4_copies 8 = .ok (.if_icmp .ge 21, 3) := dk_162 0 21 (dk_at dksX4_copies_0 8 rfl rfl)
theorem dX4_copies_11 : decode cX4_copies 11 = .ok (.aload_n 2, 1) := dk_44 (dk_at dksX4_copies_0 11 rfl rfl)
theorem dX4_copies_12 : decode cX4_copies 12 = .ok (.iload_n 3, 1) := dk_29 (dk_at dksX4_copies_0 12 rfl rfl)
theorem dX4_copies_13 : decode cX4_copies 13 = .ok (.iload 4, 2) := dk_21 4 (dk_at dksX4_copies_0 13 rfl rfl)
theorem dX4_copies_15 : decode cX4_copies 15 = .ok (.iadd, 1) := dk_96 (dk_at dksX4_copies_0 15 rfl rfl)
theorem dX4_copies_16 : decode cX4_copies 16 = .ok (.aload_n 0, 1) := dk_42 (dk_at dksX4_copies_0 16 rfl rfl)
theorem dX4_copies_17 : decode cX4_copies 17 = .ok (.iload_n 1, 1) := dk_27 (dk_at dksX4_copies_0 17 rfl rfl)
theorem dX4_copies_18 : decode cX4_copies 18 = .ok (.iload 4, 2) := dk_21 4 (dk_at dksX4_copies_0 18 rfl rfl)
theorem dX4_copies_20 : decode cX4_copies 20 = .ok (.iadd, 1) := dk_96 (dk_at dksX4_copies_0 20 rfl rfl)
theorem dX4_copies_21 : decode cX4_copies 21 = .ok (.iaload, 1) := dk_46 (dk_at dksX4_copies_0 21 rfl rfl)
theorem dX4_copies_22 : decode cX4_copies 22 = .ok (.iastore, 1) := dk_79 (dk_at dksX4_copies_0 22 rfl rfl)
theorem dX4_copies_23 : decode cX4_copies 23 = .ok (.iinc 4 1, 3) := dk_132 4 1 (dk_at dksX4_copies_1 0 rfl rfl)
theorem dX4_copies_26 : decode cX4_copies 26 = .ok (.goto (-23), 3) := dk_167 255 233 (dk_at dksX4_copies_1 3 rfl rfl)
theorem dX4_copies_29 : decode cX4_copies 29 = .ok (.return_, 1) := dk_177 (dk_at dksX4_copies_1 6 rfl rfl)
abbrev cX4_fault : ByteArray := prog_15_method_35_code
def yX4_fault : MethodName := ⟨RX4, "fault", "()I"⟩
def dkwX4_fault_0 : List UInt8 := [42, 3, 181, 0, 78, 42, 180, 0, 231, 172]
abbrev dktX4_fault_0 : List UInt8 := dkwX4_fault_0 ++ []
theorem dksX4_fault_0 : cX4_fault.data.toList.drop 0 = dktX4_fault_0 := by decide +kernel
theorem dX4_fault_0 : decode cX4_fault 0 = .ok (.aload_n 0, 1) := dk_42 (dk_at dksX4_fault_0 0 rfl rfl)
theorem dX4_fault_1 : decode cX4_fault 1 = .ok (.iconst 0, 1) := dk_3 (dk_at dksX4_fault_0 1 rfl rfl)
theorem dX4_fault_2 : decode cX4_fault 2 = .ok (.putfield 78, 3) := dk_181 0 78 (dk_at dksX4_fault_0 2 rfl rfl)
theorem dX4_fault_5 : decode cX4_fault 5 = .ok (.aload_n 0, 1) := dk_42 (dk_at dksX4_fault_0 5 rfl rfl)
theorem dX4_fault_6 : decode cX4_fault 6 = .ok (.getfield 231, 3) := dk_180 0 231 (dk_at dksX4_fault_0 6 rfl rfl)
theorem dX4_fault_9 : decode cX4_fault 9 = .ok (.ireturn, 1) := dk_172 (dk_at dksX4_fault_0 9 rfl rfl)
abbrev cX4_where : ByteArray := prog_15_method_36_code
def yX4_where : MethodName := ⟨RX4, "where", "()I"⟩
def dkwX4_where_0 : List UInt8 := [42, 3, 181, 0, 78, 42, 180, 0, 81, 7, 160, 0, 10, 42, 180, 0, 9, 167, 0, 4, 2, 172]
abbrev dktX4_where_0 : List UInt8 := dkwX4_where_0 ++ []
theorem dksX4_where_0 : cX4_where.data.toList.drop 0 = dktX4_where_0 := by decide +kernel
theorem dX4_where_0 : decode cX4_where 0 = .ok (.aload_n 0, 1) := dk_42 (dk_at dksX4_where_0 0 rfl rfl)
theorem dX4_where_1 : decode cX4_where 1 = .ok (.iconst 0, 1) := dk_3 (dk_at dksX4_where_0 1 rfl rfl)
theorem dX4_where_2 : decode cX4_where 2 = .ok (.putfield 78, 3) := dk_181 0 78 (dk_at dksX4_where_0 2 rfl rfl)
theorem dX4_where_5 : decode cX4_where 5 = .ok (.aload_n 0, 1) := dk_42 (dk_at dksX4_where_0 5 rfl rfl)
theorem dX4_where_6 : decode cX4_where 6 = .ok (.getfield 81, 3) := dk_180 0 81 (dk_at dksX4_where_0 6 rfl rfl)
theorem dX4_where_9 : decode cX4_where 9 = .ok (.iconst 4, 1) := dk_7 (dk_at dksX4_where_0 9 rfl rfl)
theorem dX4_where_10 : decode cX4_where 10 = .ok (.if_icmp .ne 10, 3) := dk_160 0 10 (dk_at dksX4_where_0 10 rfl rfl)
theorem dX4_where_13 : decode cX4_where 13 = .ok (.aload_n 0, 1) := dk_42 (dk_at dksX4_where_0 13 rfl rfl)
theorem dX4_where_14 : decode cX4_where 14 = .ok (.getfield 9, 3) := dk_180 0 9 (dk_at dksX4_where_0 14 rfl rfl)
theorem dX4_where_17 : decode cX4_where 17 = .ok (.goto 4, 3) := dk_167 0 4 (dk_at dksX4_where_0 17 rfl rfl)
theorem dX4_where_20 : decode cX4_where 20 = .ok (.iconst (-1), 1) := dk_2 (dk_at dksX4_where_0 20 rfl rfl)
theorem dX4_where_21 : decode cX4_where 21 = .ok (.ireturn, 1) := dk_172 (dk_at dksX4_where_0 21 rfl rfl)
abbrev cX4_about : ByteArray := prog_15_method_43_code
def yX4_about : MethodName := ⟨RX4, "about", "(I)I"⟩
def dkwX4_about_2 : List UInt8 := [180, 0, 17, 27, 46, 172]
abbrev dktX4_about_2 : List UInt8 := dkwX4_about_2 ++ []
def dkwX4_about_1 : List UInt8 := [184, 1, 0, 182, 0, 228, 153, 0, 5, 2, 172, 27, 8, 160, 0, 10, 42, 182, 1, 4, 167, 0, 9, 42]
abbrev dktX4_about_1 : List UInt8 := dkwX4_about_1 ++ dktX4_about_2
def dkwX4_about_0 : List UInt8 := [42, 42, 180, 0, 244, 153, 0, 16, 27, 3, 8, 184, 0, 107, 153, 0, 7, 4, 167, 0, 4, 3]
abbrev dktX4_about_0 : List UInt8 := dkwX4_about_0 ++ dktX4_about_1
theorem dksX4_about_0 : cX4_about.data.toList.drop 0 = dktX4_about_0 := by decide +kernel
theorem dksX4_about_1 : cX4_about.data.toList.drop 22 = dktX4_about_1 := dk_seg dksX4_about_0 22 rfl rfl
theorem dksX4_about_2 : cX4_about.data.toList.drop 46 = dktX4_about_2 := dk_seg dksX4_about_1 24 rfl rfl
theorem dX4_about_0 : decode cX4_about 0 = .ok (.aload_n 0, 1) := dk_42 (dk_at dksX4_about_0 0 rfl rfl)
theorem dX4_about_1 : decode cX4_about 1 = .ok (.aload_n 0, 1) := dk_42 (dk_at dksX4_about_0 1 rfl rfl)
theorem dX4_about_2 : decode cX4_about 2 = .ok (.getfield 244, 3) := dk_180 0 244 (dk_at dksX4_about_0 2 rfl rfl)
theorem dX4_about_5 : decode cX4_about 5 = .ok (.ifCond .eq 16, 3) := dk_153 0 16 (dk_at dksX4_about_0 5 rfl rfl)
theorem dX4_about_8 : decode cX4_about 8 = .ok (.iload_n 1, 1) := dk_27 (dk_at dksX4_about_0 8 rfl rfl)
theorem dX4_about_9 : decode cX4_about 9 = .ok (.iconst 0, 1) := dk_3 (dk_at dksX4_about_0 9 rfl rfl)
theorem dX4_about_10 : decode cX4_about 10 = .ok (.iconst 5, 1) := dk_8 (dk_at dksX4_about_0 10 rfl rfl)
theorem dX4_about_11 : decode cX4_about 11 = .ok (.invokestatic 107, 3) := dk_184 0 107 (dk_at dksX4_about_0 11 rfl rfl)
theorem dX4_about_14 : decode cX4_about 14 = .ok (.ifCond .eq 7, 3) := dk_153 0 7 (dk_at dksX4_about_0 14 rfl rfl)
theorem dX4_about_17 : decode cX4_about 17 = .ok (.iconst 1, 1) := dk_4 (dk_at dksX4_about_0 17 rfl rfl)
theorem dX4_about_18 : decode cX4_about 18 = .ok (.goto 4, 3) := dk_167 0 4 (dk_at dksX4_about_0 18 rfl rfl)
theorem dX4_about_21 : decode cX4_about 21 = .ok (.iconst 0, 1) := dk_3 (dk_at dksX4_about_0 21 rfl rfl)
theorem dX4_about_22 : decode cX4_about 22 = .ok (.invokestatic 256, 3) := dk_184 1 0 (dk_at dksX4_about_1 0 rfl rfl)
theorem dX4_about_25 : decode cX4_about 25 = .ok (.invokevirtual 228, 3) := dk_182 0 228 (dk_at dksX4_about_1 3 rfl rfl)
theorem dX4_about_28 : decode cX4_about 28 = .ok (.ifCond .eq 5, 3) := dk_153 0 5 (dk_at dksX4_about_1 6 rfl rfl)
theorem dX4_about_31 : decode cX4_about 31 = .ok (.iconst (-1), 1) := dk_2 (dk_at dksX4_about_1 9 rfl rfl)
theorem dX4_about_32 : decode cX4_about 32 = .ok (.ireturn, 1) := dk_172 (dk_at dksX4_about_1 10 rfl rfl)
theorem dX4_about_33 : decode cX4_about 33 = .ok (.iload_n 1, 1) := dk_27 (dk_at dksX4_about_1 11 rfl rfl)
theorem dX4_about_34 : decode cX4_about 34 = .ok (.iconst 5, 1) := dk_8 (dk_at dksX4_about_1 12 rfl rfl)
theorem dX4_about_35 : decode cX4_about 35 = .ok (.if_icmp .ne 10, 3) := dk_160 0 10 (dk_at dksX4_about_1 13 rfl rfl)
theorem dX4_about_38 : decode cX4_about 38 = .ok (.aload_n 0, 1) := dk_42 (dk_at dksX4_about_1 16 rfl rfl)
theorem dX4_about_39 : decode cX4_about 39 = .ok (.invokevirtual 260, 3) := dk_182 1 4 (dk_at dksX4_about_1 17 rfl rfl)
theorem dX4_about_42 : decode cX4_about 42 = .ok (.goto 9, 3) := dk_167 0 9 (dk_at dksX4_about_1 20 rfl rfl)
theorem dX4_about_45 : decode cX4_about 45 = .ok (.aload_n 0, 1) := dk_42 (dk_at dksX4_about_1 23 rfl rfl)
theorem dX4_about_46 : decode cX4_about 46 = .ok (.getfield 17, 3) := dk_180 0 17 (dk_at dksX4_about_2 0 rfl rfl)
theorem dX4_about_49 : decode cX4_about 49 = .ok (.iload_n 1, 1) := dk_27 (dk_at dksX4_about_2 3 rfl rfl)
theorem dX4_about_50 : decode cX4_about 50 = .ok (.iaload, 1) := dk_46 (dk_at dksX4_about_2 4 rfl rfl)
theorem dX4_about_51 : decode cX4_about 51 = .ok (.ireturn, 1) := dk_172 (dk_at dksX4_about_2 5 rfl rfl)
abbrev cX4_unless : ByteArray := prog_15_method_6_code
def yX4_unless : MethodName := ⟨RX4, "unless", "(Z)I"⟩
def dkwX4_unless_0 : List UInt8 := [26, 153, 0, 7, 3, 167, 0, 4, 4, 172]
abbrev dktX4_unless_0 : List UInt8 := dkwX4_unless_0 ++ []
theorem dksX4_unless_0 : cX4_unless.data.toList.drop 0 = dktX4_unless_0 := by decide +kernel
theorem dX4_unless_0 : decode cX4_unless 0 = .ok (.iload_n 0, 1) := dk_26 (dk_at dksX4_unless_0 0 rfl rfl)
theorem dX4_unless_1 : decode cX4_unless 1 = .ok (.ifCond .eq 7, 3) := dk_153 0 7 (dk_at dksX4_unless_0 1 rfl rfl)
theorem dX4_unless_4 : decode cX4_unless 4 = .ok (.iconst 0, 1) := dk_3 (dk_at dksX4_unless_0 4 rfl rfl)
theorem dX4_unless_5 : decode cX4_unless 5 = .ok (.goto 4, 3) := dk_167 0 4 (dk_at dksX4_unless_0 5 rfl rfl)
theorem dX4_unless_8 : decode cX4_unless 8 = .ok (.iconst 1, 1) := dk_4 (dk_at dksX4_unless_0 8 rfl rfl)
theorem dX4_unless_9 : decode cX4_unless 9 = .ok (.ireturn, 1) := dk_172 (dk_at dksX4_unless_0 9 rfl rfl)
abbrev cX4_runMany : ByteArray := prog_15_method_42_code
def yX4_runMany : MethodName := ⟨RX4, "runMany", "()I"⟩
def dkwX4_runMany_1 : List UInt8 := [167, 0, 4, 3, 96, 60, 132, 2, 1, 167, 255, 227, 27, 172]
abbrev dktX4_runMany_1 : List UInt8 := dkwX4_runMany_1 ++ []
def dkwX4_runMany_0 : List UInt8 := [3, 60, 3, 61, 28, 42, 180, 0, 17, 7, 46, 162, 0, 25, 27, 42, 28, 182, 0, 253, 153, 0, 7, 4]
abbrev dktX4_runMany_0 : List UInt8 := dkwX4_runMany_0 ++ dktX4_runMany_1
theorem dksX4_runMany_0 : cX4_runMany.data.toList.drop 0 = dktX4_runMany_0 := by decide +kernel
theorem dksX4_runMany_1 : cX4_runMany.data.toList.drop 24 = dktX4_runMany_1 := dk_seg dksX4_runMany_0 24 rfl rfl
theorem dX4_runMany_0 : decode cX4_runMany 0 = .ok (.iconst 0, 1) := dk_3 (dk_at dksX4_runMany_0 0 rfl rfl)
theorem dX4_runMany_1 : decode cX4_runMany 1 = .ok (.istore_n 1, 1) := dk_60 (dk_at dksX4_runMany_0 1 rfl rfl)
theorem dX4_runMany_2 : decode cX4_runMany 2 = .ok (.iconst 0, 1) := dk_3 (dk_at dksX4_runMany_0 2 rfl rfl)
theorem dX4_runMany_3 : decode cX4_runMany 3 = .ok (.istore_n 2, 1) := dk_61 (dk_at dksX4_runMany_0 3 rfl rfl)
theorem dX4_runMany_4 : decode cX4_runMany 4 = .ok (.iload_n 2, 1) := dk_28 (dk_at dksX4_runMany_0 4 rfl rfl)
theorem dX4_runMany_5 : decode cX4_runMany 5 = .ok (.aload_n 0, 1) := dk_42 (dk_at dksX4_runMany_0 5 rfl rfl)
theorem dX4_runMany_6 : decode cX4_runMany 6 = .ok (.getfield 17, 3) := dk_180 0 17 (dk_at dksX4_runMany_0 6 rfl rfl)
theorem dX4_runMany_9 : decode cX4_runMany 9 = .ok (.iconst 4, 1) := dk_7 (dk_at dksX4_runMany_0 9 rfl rfl)
theorem dX4_runMany_10 : decode cX4_runMany 10 = .ok (.iaload, 1) := dk_46 (dk_at dksX4_runMany_0 10 rfl rfl)
theorem dX4_runMany_11 : decode cX4_runMany 11 = .ok (.if_icmp .ge 25, 3) := dk_162 0 25 (dk_at dksX4_runMany_0 11 rfl rfl)
theorem dX4_runMany_14 : decode cX4_runMany 14 = .ok (.iload_n 1, 1) := dk_27 (dk_at dksX4_runMany_0 14 rfl rfl)
theorem dX4_runMany_15 : decode cX4_runMany 15 = .ok (.aload_n 0, 1) := dk_42 (dk_at dksX4_runMany_0 15 rfl rfl)
theorem dX4_runMany_16 : decode cX4_runMany 16 = .ok (.iload_n 2, 1) := dk_28 (dk_at dksX4_runMany_0 16 rfl rfl)
theorem dX4_runMany_17 : decode cX4_runMany 17 = .ok (.invokevirtual 253, 3) := dk_182 0 253 (dk_at dksX4_runMany_0 17 rfl rfl)
theorem dX4_runMany_20 : decode cX4_runMany 20 = .ok (.ifCond .eq 7, 3) := dk_153 0 7 (dk_at dksX4_runMany_0 20 rfl rfl)
theorem dX4_runMany_23 : decode cX4_runMany 23 = .ok (.iconst 1, 1) := dk_4 (dk_at dksX4_runMany_0 23 rfl rfl)
theorem dX4_runMany_24 : decode cX4_runMany 24 = .ok (.goto 4, 3) := dk_167 0 4 (dk_at dksX4_runMany_1 0 rfl rfl)
theorem dX4_runMany_27 : decode cX4_runMany 27 = .ok (.iconst 0, 1) := dk_3 (dk_at dksX4_runMany_1 3 rfl rfl)
theorem dX4_runMany_28 : decode cX4_runMany 28 = .ok (.iadd, 1) := dk_96 (dk_at dksX4_runMany_1 4 rfl rfl)
theorem dX4_runMany_29 : decode cX4_runMany 29 = .ok (.istore_n 1, 1) := dk_60 (dk_at dksX4_runMany_1 5 rfl rfl)
theorem dX4_runMany_30 : decode cX4_runMany 30 = .ok (.iinc 2 1, 3) := dk_132 2 1 (dk_at dksX4_runMany_1 6 rfl rfl)
theorem dX4_runMany_33 : decode cX4_runMany 33 = .ok (.goto (-29), 3) := dk_167 255 227 (dk_at dksX4_runMany_1 9 rfl rfl)
theorem dX4_runMany_36 : decode cX4_runMany 36 = .ok (.iload_n 1, 1) := dk_27 (dk_at dksX4_runMany_1 12 rfl rfl)
theorem dX4_runMany_37 : decode cX4_runMany 37 = .ok (.ireturn, 1) := dk_172 (dk_at dksX4_runMany_1 13 rfl rfl)
abbrev cX4_runs : ByteArray := prog_15_method_39_code
def yX4_runs : MethodName := ⟨RX4, "runs", "(I)Z"⟩
def dkwX4_runs_0 : List UInt8 := [42, 180, 0, 17, 27, 16, 6, 184, 0, 209, 46, 4, 160, 0, 7, 4, 167, 0, 4, 3, 172]
abbrev dktX4_runs_0 : List UInt8 := dkwX4_runs_0 ++ []
theorem dksX4_runs_0 : cX4_runs.data.toList.drop 0 = dktX4_runs_0 := by decide +kernel
theorem dX4_runs_0 : decode cX4_runs 0 = .ok (.aload_n 0, 1) := dk_42 (dk_at dksX4_runs_0 0 rfl rfl)
theorem dX4_runs_1 : decode cX4_runs 1 = .ok (.getfield 17, 3) := dk_180 0 17 (dk_at dksX4_runs_0 1 rfl rfl)
theorem dX4_runs_4 : decode cX4_runs 4 = .ok (.iload_n 1, 1) := dk_27 (dk_at dksX4_runs_0 4 rfl rfl)
theorem dX4_runs_5 : decode cX4_runs 5 = .ok (.bipush 6, 2) := dk_16 6 (dk_at dksX4_runs_0 5 rfl rfl)
theorem dX4_runs_7 : decode cX4_runs 7 = .ok (.invokestatic 209, 3) := dk_184 0 209 (dk_at dksX4_runs_0 7 rfl rfl)
theorem dX4_runs_10 : decode cX4_runs 10 = .ok (.iaload, 1) := dk_46 (dk_at dksX4_runs_0 10 rfl rfl)
theorem dX4_runs_11 : decode cX4_runs 11 = .ok (.iconst 1, 1) := dk_4 (dk_at dksX4_runs_0 11 rfl rfl)
theorem dX4_runs_12 : decode cX4_runs 12 = .ok (.if_icmp .ne 7, 3) := dk_160 0 7 (dk_at dksX4_runs_0 12 rfl rfl)
theorem dX4_runs_15 : decode cX4_runs 15 = .ok (.iconst 1, 1) := dk_4 (dk_at dksX4_runs_0 15 rfl rfl)
theorem dX4_runs_16 : decode cX4_runs 16 = .ok (.goto 4, 3) := dk_167 0 4 (dk_at dksX4_runs_0 16 rfl rfl)
theorem dX4_runs_19 : decode cX4_runs 19 = .ok (.iconst 0, 1) := dk_3 (dk_at dksX4_runs_0 19 rfl rfl)
theorem dX4_runs_20 : decode cX4_runs 20 = .ok (.ireturn, 1) := dk_172 (dk_at dksX4_runs_0 20 rfl rfl)
abbrev cX4_spot : ByteArray := prog_15_method_45_code
def yX4_spot : MethodName := ⟨RX4, "spot", "(II)I"⟩
def dkwX4_spot_4 : List UInt8 := [182, 1, 10, 172, 42, 27, 5, 182, 1, 10, 172]
abbrev dktX4_spot_4 : List UInt8 := dkwX4_spot_4 ++ []
def dkwX4_spot_3 : List UInt8 := [42, 180, 0, 17, 8, 27, 96, 46, 172, 42, 180, 0, 17, 16, 15, 27, 96, 46, 172, 42, 27, 4]
abbrev dktX4_spot_3 : List UInt8 := dkwX4_spot_3 ++ dktX4_spot_4
def dkwX4_spot_2 : List UInt8 := [170, 0, 0, 0, 51, 0, 0, 0, 0, 0, 0, 0, 2, 0, 0, 0, 25, 0, 0, 0, 34, 0, 0, 0, 44]
abbrev dktX4_spot_2 : List UInt8 := dkwX4_spot_2 ++ dktX4_spot_3
def dkwX4_spot_1 : List UInt8 := [184, 1, 0, 182, 0, 228, 153, 0, 5, 2, 172, 28]
abbrev dktX4_spot_1 : List UInt8 := dkwX4_spot_1 ++ dktX4_spot_2
def dkwX4_spot_0 : List UInt8 := [42, 42, 27, 182, 1, 7, 153, 0, 16, 28, 3, 6, 184, 0, 107, 153, 0, 7, 4, 167, 0, 4, 3]
abbrev dktX4_spot_0 : List UInt8 := dkwX4_spot_0 ++ dktX4_spot_1
theorem dksX4_spot_0 : cX4_spot.data.toList.drop 0 = dktX4_spot_0 := by decide +kernel
theorem dksX4_spot_1 : cX4_spot.data.toList.drop 23 = dktX4_spot_1 := dk_seg dksX4_spot_0 23 rfl rfl
theorem dksX4_spot_2 : cX4_spot.data.toList.drop 35 = dktX4_spot_2 := dk_seg dksX4_spot_1 12 rfl rfl
theorem dksX4_spot_3 : cX4_spot.data.toList.drop 60 = dktX4_spot_3 := dk_seg dksX4_spot_2 25 rfl rfl
theorem dksX4_spot_4 : cX4_spot.data.toList.drop 82 = dktX4_spot_4 := dk_seg dksX4_spot_3 22 rfl rfl
theorem dX4_spot_0 : decode cX4_spot 0 = .ok (.aload_n 0, 1) := dk_42 (dk_at dksX4_spot_0 0 rfl rfl)
theorem dX4_spot_1 : decode cX4_spot 1 = .ok (.aload_n 0, 1) := dk_42 (dk_at dksX4_spot_0 1 rfl rfl)
theorem dX4_spot_2 : decode cX4_spot 2 = .ok (.iload_n 1, 1) := dk_27 (dk_at dksX4_spot_0 2 rfl rfl)
theorem dX4_spot_3 : decode cX4_spot 3 = .ok (.invokevirtual 263, 3) := dk_182 1 7 (dk_at dksX4_spot_0 3 rfl rfl)
theorem dX4_spot_6 : decode cX4_spot 6 = .ok (.ifCond .eq 16, 3) := dk_153 0 16 (dk_at dksX4_spot_0 6 rfl rfl)
theorem dX4_spot_9 : decode cX4_spot 9 = .ok (.iload_n 2, 1) := dk_28 (dk_at dksX4_spot_0 9 rfl rfl)
theorem dX4_spot_10 : decode cX4_spot 10 = .ok (.iconst 0, 1) := dk_3 (dk_at dksX4_spot_0 10 rfl rfl)
theorem dX4_spot_11 : decode cX4_spot 11 = .ok (.iconst 3, 1) := dk_6 (dk_at dksX4_spot_0 11 rfl rfl)
theorem dX4_spot_12 : decode cX4_spot 12 = .ok (.invokestatic 107, 3) := dk_184 0 107 (dk_at dksX4_spot_0 12 rfl rfl)
theorem dX4_spot_15 : decode cX4_spot 15 = .ok (.ifCond .eq 7, 3) := dk_153 0 7 (dk_at dksX4_spot_0 15 rfl rfl)
theorem dX4_spot_18 : decode cX4_spot 18 = .ok (.iconst 1, 1) := dk_4 (dk_at dksX4_spot_0 18 rfl rfl)
theorem dX4_spot_19 : decode cX4_spot 19 = .ok (.goto 4, 3) := dk_167 0 4 (dk_at dksX4_spot_0 19 rfl rfl)
theorem dX4_spot_22 : decode cX4_spot 22 = .ok (.iconst 0, 1) := dk_3 (dk_at dksX4_spot_0 22 rfl rfl)
theorem dX4_spot_23 : decode cX4_spot 23 = .ok (.invokestatic 256, 3) := dk_184 1 0 (dk_at dksX4_spot_1 0 rfl rfl)
theorem dX4_spot_26 : decode cX4_spot 26 = .ok (.invokevirtual 228, 3) := dk_182 0 228 (dk_at dksX4_spot_1 3 rfl rfl)
theorem dX4_spot_29 : decode cX4_spot 29 = .ok (.ifCond .eq 5, 3) := dk_153 0 5 (dk_at dksX4_spot_1 6 rfl rfl)
theorem dX4_spot_32 : decode cX4_spot 32 = .ok (.iconst (-1), 1) := dk_2 (dk_at dksX4_spot_1 9 rfl rfl)
theorem dX4_spot_33 : decode cX4_spot 33 = .ok (.ireturn, 1) := dk_172 (dk_at dksX4_spot_1 10 rfl rfl)
theorem dX4_spot_34 : decode cX4_spot 34 = .ok (.iload_n 2, 1) := dk_28 (dk_at dksX4_spot_1 11 rfl rfl)
theorem dX4_spot_35 : decode cX4_spot 35 = .ok (.tableswitch 51 0 2 #[25, 34, 44], 25) := by decide +kernel
theorem dX4_spot_60 : decode cX4_spot 60 = .ok (.aload_n 0, 1) := dk_42 (dk_at dksX4_spot_3 0 rfl rfl)
theorem dX4_spot_61 : decode cX4_spot 61 = .ok (.getfield 17, 3) := dk_180 0 17 (dk_at dksX4_spot_3 1 rfl rfl)
theorem dX4_spot_64 : decode cX4_spot 64 = .ok (.iconst 5, 1) := dk_8 (dk_at dksX4_spot_3 4 rfl rfl)
theorem dX4_spot_65 : decode cX4_spot 65 = .ok (.iload_n 1, 1) := dk_27 (dk_at dksX4_spot_3 5 rfl rfl)
theorem dX4_spot_66 : decode cX4_spot 66 = .ok (.iadd, 1) := dk_96 (dk_at dksX4_spot_3 6 rfl rfl)
theorem dX4_spot_67 : decode cX4_spot 67 = .ok (.iaload, 1) := dk_46 (dk_at dksX4_spot_3 7 rfl rfl)
theorem dX4_spot_68 : decode cX4_spot 68 = .ok (.ireturn, 1) := dk_172 (dk_at dksX4_spot_3 8 rfl rfl)
theorem dX4_spot_69 : decode cX4_spot 69 = .ok (.aload_n 0, 1) := dk_42 (dk_at dksX4_spot_3 9 rfl rfl)
theorem dX4_spot_70 : decode cX4_spot 70 = .ok (.getfield 17, 3) := dk_180 0 17 (dk_at dksX4_spot_3 10 rfl rfl)
theorem dX4_spot_73 : decode cX4_spot 73 = .ok (.bipush 15, 2) := dk_16 15 (dk_at dksX4_spot_3 13 rfl rfl)
theorem dX4_spot_75 : decode cX4_spot 75 = .ok (.iload_n 1, 1) := dk_27 (dk_at dksX4_spot_3 15 rfl rfl)
theorem dX4_spot_76 : decode cX4_spot 76 = .ok (.iadd, 1) := dk_96 (dk_at dksX4_spot_3 16 rfl rfl)
theorem dX4_spot_77 : decode cX4_spot 77 = .ok (.iaload, 1) := dk_46 (dk_at dksX4_spot_3 17 rfl rfl)
theorem dX4_spot_78 : decode cX4_spot 78 = .ok (.ireturn, 1) := dk_172 (dk_at dksX4_spot_3 18 rfl rfl)
theorem dX4_spot_79 : decode cX4_spot 79 = .ok (.aload_n 0, 1) := dk_42 (dk_at dksX4_spot_3 19 rfl rfl)
theorem dX4_spot_80 : decode cX4_spot 80 = .ok (.iload_n 1, 1) := dk_27 (dk_at dksX4_spot_3 20 rfl rfl)
theorem dX4_spot_81 : decode cX4_spot 81 = .ok (.iconst 1, 1) := dk_4 (dk_at dksX4_spot_3 21 rfl rfl)
theorem dX4_spot_82 : decode cX4_spot 82 = .ok (.invokevirtual 266, 3) := dk_182 1 10 (dk_at dksX4_spot_4 0 rfl rfl)
theorem dX4_spot_85 : decode cX4_spot 85 = .ok (.ireturn, 1) := dk_172 (dk_at dksX4_spot_4 3 rfl rfl)
theorem dX4_spot_86 : decode cX4_spot 86 = .ok (.aload_n 0, 1) := dk_42 (dk_at dksX4_spot_4 4 rfl rfl)
theorem dX4_spot_87 : decode cX4_spot 87 = .ok (.iload_n 1, 1) := dk_27 (dk_at dksX4_spot_4 5 rfl rfl)
theorem dX4_spot_88 : decode cX4_spot 88 = .ok (.iconst 2, 1) := dk_5 (dk_at dksX4_spot_4 6 rfl rfl)
theorem dX4_spot_89 : decode cX4_spot 89 = .ok (.invokevirtual 266, 3) := dk_182 1 10 (dk_at dksX4_spot_4 7 rfl rfl)
theorem dX4_spot_92 : decode cX4_spot 92 = .ok (.ireturn, 1) := dk_172 (dk_at dksX4_spot_4 10 rfl rfl)
abbrev cX4_isSpot : ByteArray := prog_15_method_37_code
def yX4_isSpot : MethodName := ⟨RX4, "isSpot", "(I)Z"⟩
def dkwX4_isSpot_1 : List UInt8 := [167, 0, 4, 3, 172]
abbrev dktX4_isSpot_1 : List UInt8 := dkwX4_isSpot_1 ++ []
def dkwX4_isSpot_0 : List UInt8 := [42, 180, 0, 244, 153, 0, 23, 27, 3, 42, 180, 0, 17, 4, 46, 4, 100, 184, 0, 107, 153, 0, 7, 4]
abbrev dktX4_isSpot_0 : List UInt8 := dkwX4_isSpot_0 ++ dktX4_isSpot_1
theorem dksX4_isSpot_0 : cX4_isSpot.data.toList.drop 0 = dktX4_isSpot_0 := by decide +kernel
theorem dksX4_isSpot_1 : cX4_isSpot.data.toList.drop 24 = dktX4_isSpot_1 := dk_seg dksX4_isSpot_0 24 rfl rfl
theorem dX4_isSpot_0 : decode cX4_isSpot 0 = .ok (.aload_n 0, 1) := dk_42 (dk_at dksX4_isSpot_0 0 rfl rfl)
theorem dX4_isSpot_1 : decode cX4_isSpot 1 = .ok (.getfield 244, 3) := dk_180 0 244 (dk_at dksX4_isSpot_0 1 rfl rfl)
theorem dX4_isSpot_4 : decode cX4_isSpot 4 = .ok (.ifCond .eq 23, 3) := dk_153 0 23 (dk_at dksX4_isSpot_0 4 rfl rfl)
theorem dX4_isSpot_7 : decode cX4_isSpot 7 = .ok (.iload_n 1, 1) := dk_27 (dk_at dksX4_isSpot_0 7 rfl rfl)
theorem dX4_isSpot_8 : decode cX4_isSpot 8 = .ok (.iconst 0, 1) := dk_3 (dk_at dksX4_isSpot_0 8 rfl rfl)
theorem dX4_isSpot_9 : decode cX4_isSpot 9 = .ok (.aload_n 0, 1) := dk_42 (dk_at dksX4_isSpot_0 9 rfl rfl)
theorem dX4_isSpot_10 : decode cX4_isSpot 10 = .ok (.getfield 17, 3) := dk_180 0 17 (dk_at dksX4_isSpot_0 10 rfl rfl)
theorem dX4_isSpot_13 : decode cX4_isSpot 13 = .ok (.iconst 1, 1) := dk_4 (dk_at dksX4_isSpot_0 13 rfl rfl)
theorem dX4_isSpot_14 : decode cX4_isSpot 14 = .ok (.iaload, 1) := dk_46 (dk_at dksX4_isSpot_0 14 rfl rfl)
theorem dX4_isSpot_15 : decode cX4_isSpot 15 = .ok (.iconst 1, 1) := dk_4 (dk_at dksX4_isSpot_0 15 rfl rfl)
theorem dX4_isSpot_16 : decode cX4_isSpot 16 = .ok (.isub, 1) := dk_100 (dk_at dksX4_isSpot_0 16 rfl rfl)
theorem dX4_isSpot_17 : decode cX4_isSpot 17 = .ok (.invokestatic 107, 3) := dk_184 0 107 (dk_at dksX4_isSpot_0 17 rfl rfl)
theorem dX4_isSpot_20 : decode cX4_isSpot 20 = .ok (.ifCond .eq 7, 3) := dk_153 0 7 (dk_at dksX4_isSpot_0 20 rfl rfl)
theorem dX4_isSpot_23 : decode cX4_isSpot 23 = .ok (.iconst 1, 1) := dk_4 (dk_at dksX4_isSpot_0 23 rfl rfl)
theorem dX4_isSpot_24 : decode cX4_isSpot 24 = .ok (.goto 4, 3) := dk_167 0 4 (dk_at dksX4_isSpot_1 0 rfl rfl)
theorem dX4_isSpot_27 : decode cX4_isSpot 27 = .ok (.iconst 0, 1) := dk_3 (dk_at dksX4_isSpot_1 3 rfl rfl)
theorem dX4_isSpot_28 : decode cX4_isSpot 28 = .ok (.ireturn, 1) := dk_172 (dk_at dksX4_isSpot_1 4 rfl rfl)
abbrev cX4_runsBy : ByteArray := prog_15_method_44_code
def yX4_runsBy : MethodName := ⟨RX4, "runsBy", "(II)I"⟩
def dkwX4_runsBy_2 : List UInt8 := [62, 132, 4, 1, 167, 255, 210, 29, 172]
abbrev dktX4_runsBy_2 : List UInt8 := dkwX4_runsBy_2 ++ []
def dkwX4_runsBy_1 : List UInt8 := [153, 0, 22, 42, 180, 0, 17, 21, 4, 28, 184, 0, 209, 46, 27, 160, 0, 7, 4, 167, 0, 4, 3, 96]
abbrev dktX4_runsBy_1 : List UInt8 := dkwX4_runsBy_1 ++ dktX4_runsBy_2
def dkwX4_runsBy_0 : List UInt8 := [3, 62, 3, 54, 4, 21, 4, 42, 180, 0, 17, 7, 46, 162, 0, 41, 29, 42, 21, 4, 182, 0, 253]
abbrev dktX4_runsBy_0 : List UInt8 := dkwX4_runsBy_0 ++ dktX4_runsBy_1
theorem dksX4_runsBy_0 : cX4_runsBy.data.toList.drop 0 = dktX4_runsBy_0 := by decide +kernel
theorem dksX4_runsBy_1 : cX4_runsBy.data.toList.drop 23 = dktX4_runsBy_1 := dk_seg dksX4_runsBy_0 23 rfl rfl
theorem dksX4_runsBy_2 : cX4_runsBy.data.toList.drop 47 = dktX4_runsBy_2 := dk_seg dksX4_runsBy_1 24 rfl rfl
theorem dX4_runsBy_0 : decode cX4_runsBy 0 = .ok (.iconst 0, 1) := dk_3 (dk_at dksX4_runsBy_0 0 rfl rfl)
theorem dX4_runsBy_1 : decode cX4_runsBy 1 = .ok (.istore_n 3, 1) := dk_62 (dk_at dksX4_runsBy_0 1 rfl rfl)
theorem dX4_runsBy_2 : decode cX4_runsBy 2 = .ok (.iconst 0, 1) := dk_3 (dk_at dksX4_runsBy_0 2 rfl rfl)
theorem dX4_runsBy_3 : decode cX4_runsBy 3 = .ok (.istore 4, 2) := dk_54 4 (dk_at dksX4_runsBy_0 3 rfl rfl)
theorem dX4_runsBy_5 : decode cX4_runsBy 5 = .ok (.iload 4, 2) := dk_21 4 (dk_at dksX4_runsBy_0 5 rfl rfl)
theorem dX4_runsBy_7 : decode cX4_runsBy 7 = .ok (.aload_n 0, 1) := dk_42 (dk_at dksX4_runsBy_0 7 rfl rfl)
theorem dX4_runsBy_8 : decode cX4_runsBy 8 = .ok (.getfield 17, 3) := dk_180 0 17 (dk_at dksX4_runsBy_0 8 rfl rfl)
theorem dX4_runsBy_11 : decode cX4_runsBy 11 = .ok (.iconst 4, 1) := dk_7 (dk_at dksX4_runsBy_0 11 rfl rfl)
theorem dX4_runsBy_12 : decode cX4_runsBy 12 = .ok (.iaload, 1) := dk_46 (dk_at dksX4_runsBy_0 12 rfl rfl)
theorem dX4_runsBy_13 : decode cX4_runsBy 13 = .ok (.if_icmp .ge 41, 3) := dk_162 0 41 (dk_at dksX4_runsBy_0 13 rfl rfl)
theorem dX4_runsBy_16 : decode cX4_runsBy 16 = .ok (.iload_n 3, 1) := dk_29 (dk_at dksX4_runsBy_0 16 rfl rfl)
theorem dX4_runsBy_17 : decode cX4_runsBy 17 = .ok (.aload_n 0, 1) := dk_42 (dk_at dksX4_runsBy_0 17 rfl rfl)
theorem dX4_runsBy_18 : decode cX4_runsBy 18 = .ok (.iload 4, 2) := dk_21 4 (dk_at dksX4_runsBy_0 18 rfl rfl)
theorem dX4_runsBy_20 : decode cX4_runsBy 20 = .ok (.invokevirtual 253, 3) := dk_182 0 253 (dk_at dksX4_runsBy_0 20 rfl rfl)
theorem dX4_runsBy_23 : decode cX4_runsBy 23 = .ok (.ifCond .eq 22, 3) := dk_153 0 22 (dk_at dksX4_runsBy_1 0 rfl rfl)
theorem dX4_runsBy_26 : decode cX4_runsBy 26 = .ok (.aload_n 0, 1) := dk_42 (dk_at dksX4_runsBy_1 3 rfl rfl)
theorem dX4_runsBy_27 : decode cX4_runsBy 27 = .ok (.getfield 17, 3) := dk_180 0 17 (dk_at dksX4_runsBy_1 4 rfl rfl)
theorem dX4_runsBy_30 : decode cX4_runsBy 30 = .ok (.iload 4, 2) := dk_21 4 (dk_at dksX4_runsBy_1 7 rfl rfl)
theorem dX4_runsBy_32 : decode cX4_runsBy 32 = .ok (.iload_n 2, 1) := dk_28 (dk_at dksX4_runsBy_1 9 rfl rfl)
theorem dX4_runsBy_33 : decode cX4_runsBy 33 = .ok (.invokestatic 209, 3) := dk_184 0 209 (dk_at dksX4_runsBy_1 10 rfl rfl)
theorem dX4_runsBy_36 : decode cX4_runsBy 36 = .ok (.iaload, 1) := dk_46 (dk_at dksX4_runsBy_1 13 rfl rfl)
theorem dX4_runsBy_37 : decode cX4_runsBy 37 = .ok (.iload_n 1, 1) := dk_27 (dk_at dksX4_runsBy_1 14 rfl rfl)
theorem dX4_runsBy_38 : decode cX4_runsBy 38 = .ok (.if_icmp .ne 7, 3) := dk_160 0 7 (dk_at dksX4_runsBy_1 15 rfl rfl)
theorem dX4_runsBy_41 : decode cX4_runsBy 41 = .ok (.iconst 1, 1) := dk_4 (dk_at dksX4_runsBy_1 18 rfl rfl)
theorem dX4_runsBy_42 : decode cX4_runsBy 42 = .ok (.goto 4, 3) := dk_167 0 4 (dk_at dksX4_runsBy_1 19 rfl rfl)
theorem dX4_runsBy_45 : decode cX4_runsBy 45 = .ok (.iconst 0, 1) := dk_3 (dk_at dksX4_runsBy_1 22 rfl rfl)
theorem dX4_runsBy_46 : decode cX4_runsBy 46 = .ok (.iadd, 1) := dk_96 (dk_at dksX4_runsBy_1 23 rfl rfl)
theorem dX4_runsBy_47 : decode cX4_runsBy 47 = .ok (.istore_n 3, 1) := dk_62 (dk_at dksX4_runsBy_2 0 rfl rfl)
theorem dX4_runsBy_48 : decode cX4_runsBy 48 = .ok (.iinc 4 1, 3) := dk_132 4 1 (dk_at dksX4_runsBy_2 1 rfl rfl)
theorem dX4_runsBy_51 : decode cX4_runsBy 51 = .ok (.goto (-46), 3) := dk_167 255 210 (dk_at dksX4_runsBy_2 4 rfl rfl)
theorem dX4_runsBy_54 : decode cX4_runsBy 54 = .ok (.iload_n 3, 1) := dk_29 (dk_at dksX4_runsBy_2 7 rfl rfl)
theorem dX4_runsBy_55 : decode cX4_runsBy 55 = .ok (.ireturn, 1) := dk_172 (dk_at dksX4_runsBy_2 8 rfl rfl)
abbrev cX4_departure : ByteArray := prog_15_method_46_code
def yX4_departure : MethodName := ⟨RX4, "departure", "(II)I"⟩
def dkwX4_departure_2 : List UInt8 := [28, 7, 160, 0, 11, 42, 27, 182, 1, 16, 167, 0, 13, 42, 180, 0, 17, 27, 28, 184, 0, 209, 46, 172]
abbrev dktX4_departure_2 : List UInt8 := dkwX4_departure_2 ++ []
def dkwX4_departure_1 : List UInt8 := [184, 1, 0, 182, 0, 228, 153, 0, 5, 2, 172, 28, 6, 160, 0, 11, 42, 27, 182, 0, 250, 167, 0, 26]
abbrev dktX4_departure_1 : List UInt8 := dkwX4_departure_1 ++ dktX4_departure_2
def dkwX4_departure_0 : List UInt8 := [42, 42, 27, 182, 1, 13, 153, 0, 17, 28, 3, 16, 7, 184, 0, 107, 153, 0, 7, 4, 167, 0, 4, 3]
abbrev dktX4_departure_0 : List UInt8 := dkwX4_departure_0 ++ dktX4_departure_1
theorem dksX4_departure_0 : cX4_departure.data.toList.drop 0 = dktX4_departure_0 := by decide +kernel
theorem dksX4_departure_1 : cX4_departure.data.toList.drop 24 = dktX4_departure_1 := dk_seg dksX4_departure_0 24 rfl rfl
theorem dksX4_departure_2 : cX4_departure.data.toList.drop 48 = dktX4_departure_2 := dk_seg dksX4_departure_1 24 rfl rfl
theorem dX4_departure_0 : decode cX4_departure 0 = .ok (.aload_n 0, 1) := dk_42 (dk_at dksX4_departure_0 0 rfl rfl)
theorem dX4_departure_1 : decode cX4_departure 1 = .ok (.aload_n 0, 1) := dk_42 (dk_at dksX4_departure_0 1 rfl rfl)
theorem dX4_departure_2 : decode cX4_departure 2 = .ok (.iload_n 1, 1) := dk_27 (dk_at dksX4_departure_0 2 rfl rfl)
theorem dX4_departure_3 : decode cX4_departure 3 = .ok (.invokevirtual 269, 3) := dk_182 1 13 (dk_at dksX4_departure_0 3 rfl rfl)
theorem dX4_departure_6 : decode cX4_departure 6 = .ok (.ifCond .eq 17, 3) := dk_153 0 17 (dk_at dksX4_departure_0 6 rfl rfl)
theorem dX4_departure_9 : decode cX4_departure 9 = .ok (.iload_n 2, 1) := dk_28 (dk_at dksX4_departure_0 9 rfl rfl)
theorem dX4_departure_10 : decode cX4_departure 10 = .ok (.iconst 0, 1) := dk_3 (dk_at dksX4_departure_0 10 rfl rfl)
theorem dX4_departure_11 : decode cX4_departure 11 = .ok (.bipush 7, 2) := dk_16 7 (dk_at dksX4_departure_0 11 rfl rfl)
theorem dX4_departure_13 : decode cX4_departure 13 = .ok (.invokestatic 107, 3) := dk_184 0 107 (dk_at dksX4_departure_0 13 rfl rfl)
theorem dX4_departure_16 : decode cX4_departure 16 = .ok (.ifCond .eq 7, 3) := dk_153 0 7 (dk_at dksX4_departure_0 16 rfl rfl)
theorem dX4_departure_19 : decode cX4_departure 19 = .ok (.iconst 1, 1) := dk_4 (dk_at dksX4_departure_0 19 rfl rfl)
theorem dX4_departure_20 : decode cX4_departure 20 = .ok (.goto 4, 3) := dk_167 0 4 (dk_at dksX4_departure_0 20 rfl rfl)
theorem dX4_departure_23 : decode cX4_departure 23 = .ok (.iconst 0, 1) := dk_3 (dk_at dksX4_departure_0 23 rfl rfl)
theorem dX4_departure_24 : decode cX4_departure 24 = .ok (.invokestatic 256, 3) := dk_184 1 0 (dk_at dksX4_departure_1 0 rfl rfl)
theorem dX4_departure_27 : decode cX4_departure 27 = .ok (.invokevirtual 228, 3) := dk_182 0 228 (dk_at dksX4_departure_1 3 rfl rfl)
theorem dX4_departure_30 : decode cX4_departure 30 = .ok (.ifCond .eq 5, 3) := dk_153 0 5 (dk_at dksX4_departure_1 6 rfl rfl)
theorem dX4_departure_33 : decode cX4_departure 33 = .ok (.iconst (-1), 1) := dk_2 (dk_at dksX4_departure_1 9 rfl rfl)
theorem dX4_departure_34 : decode cX4_departure 34 = .ok (.ireturn, 1) := dk_172 (dk_at dksX4_departure_1 10 rfl rfl)
theorem dX4_departure_35 : decode cX4_departure 35 = .ok (.iload_n 2, 1) := dk_28 (dk_at dksX4_departure_1 11 rfl rfl)
theorem dX4_departure_36 : decode cX4_departure 36 = .ok (.iconst 3, 1) := dk_6 (dk_at dksX4_departure_1 12 rfl rfl)
theorem dX4_departure_37 : decode cX4_departure 37 = .ok (.if_icmp .ne 11, 3) := dk_160 0 11 (dk_at dksX4_departure_1 13 rfl rfl)
theorem dX4_departure_40 : decode cX4_departure 40 = .ok (.aload_n 0, 1) := dk_42 (dk_at dksX4_departure_1 16 rfl rfl)
theorem dX4_departure_41 : decode cX4_departure 41 = .ok (.iload_n 1, 1) := dk_27 (dk_at dksX4_departure_1 17 rfl rfl)
theorem dX4_departure_42 : decode cX4_departure 42 = .ok (.invokevirtual 250, 3) := dk_182 0 250 (dk_at dksX4_departure_1 18 rfl rfl)
theorem dX4_departure_45 : decode cX4_departure 45 = .ok (.goto 26, 3) := dk_167 0 26 (dk_at dksX4_departure_1 21 rfl rfl)
theorem dX4_departure_48 : decode cX4_departure 48 = .ok (.iload_n 2, 1) := dk_28 (dk_at dksX4_departure_2 0 rfl rfl)
theorem dX4_departure_49 : decode cX4_departure 49 = .ok (.iconst 4, 1) := dk_7 (dk_at dksX4_departure_2 1 rfl rfl)
theorem dX4_departure_50 : decode cX4_departure 50 = .ok (.if_icmp .ne 11, 3) := dk_160 0 11 (dk_at dksX4_departure_2 2 rfl rfl)
theorem dX4_departure_53 : decode cX4_departure 53 = .ok (.aload_n 0, 1) := dk_42 (dk_at dksX4_departure_2 5 rfl rfl)
theorem dX4_departure_54 : decode cX4_departure 54 = .ok (.iload_n 1, 1) := dk_27 (dk_at dksX4_departure_2 6 rfl rfl)
theorem dX4_departure_55 : decode cX4_departure 55 = .ok (.invokevirtual 272, 3) := dk_182 1 16 (dk_at dksX4_departure_2 7 rfl rfl)
theorem dX4_departure_58 : decode cX4_departure 58 = .ok (.goto 13, 3) := dk_167 0 13 (dk_at dksX4_departure_2 10 rfl rfl)
theorem dX4_departure_61 : decode cX4_departure 61 = .ok (.aload_n 0, 1) := dk_42 (dk_at dksX4_departure_2 13 rfl rfl)
theorem dX4_departure_62 : decode cX4_departure 62 = .ok (.getfield 17, 3) := dk_180 0 17 (dk_at dksX4_departure_2 14 rfl rfl)
theorem dX4_departure_65 : decode cX4_departure 65 = .ok (.iload_n 1, 1) := dk_27 (dk_at dksX4_departure_2 17 rfl rfl)
theorem dX4_departure_66 : decode cX4_departure 66 = .ok (.iload_n 2, 1) := dk_28 (dk_at dksX4_departure_2 18 rfl rfl)
theorem dX4_departure_67 : decode cX4_departure 67 = .ok (.invokestatic 209, 3) := dk_184 0 209 (dk_at dksX4_departure_2 19 rfl rfl)
theorem dX4_departure_70 : decode cX4_departure 70 = .ok (.iaload, 1) := dk_46 (dk_at dksX4_departure_2 22 rfl rfl)
theorem dX4_departure_71 : decode cX4_departure 71 = .ok (.ireturn, 1) := dk_172 (dk_at dksX4_departure_2 23 rfl rfl)
abbrev cX4_isOne : ByteArray := prog_15_method_38_code
def yX4_isOne : MethodName := ⟨RX4, "isOne", "(I)Z"⟩
def dkwX4_isOne_1 : List UInt8 := [167, 0, 4, 3, 172]
abbrev dktX4_isOne_1 : List UInt8 := dkwX4_isOne_1 ++ []
def dkwX4_isOne_0 : List UInt8 := [42, 180, 0, 244, 153, 0, 23, 27, 3, 42, 180, 0, 17, 7, 46, 4, 100, 184, 0, 107, 153, 0, 7, 4]
abbrev dktX4_isOne_0 : List UInt8 := dkwX4_isOne_0 ++ dktX4_isOne_1
theorem dksX4_isOne_0 : cX4_isOne.data.toList.drop 0 = dktX4_isOne_0 := by decide +kernel
theorem dksX4_isOne_1 : cX4_isOne.data.toList.drop 24 = dktX4_isOne_1 := dk_seg dksX4_isOne_0 24 rfl rfl
theorem dX4_isOne_0 : decode cX4_isOne 0 = .ok (.aload_n 0, 1) := dk_42 (dk_at dksX4_isOne_0 0 rfl rfl)
theorem dX4_isOne_1 : decode cX4_isOne 1 = .ok (.getfield 244, 3) := dk_180 0 244 (dk_at dksX4_isOne_0 1 rfl rfl)
theorem dX4_isOne_4 : decode cX4_isOne 4 = .ok (.ifCond .eq 23, 3) := dk_153 0 23 (dk_at dksX4_isOne_0 4 rfl rfl)
theorem dX4_isOne_7 : decode cX4_isOne 7 = .ok (.iload_n 1, 1) := dk_27 (dk_at dksX4_isOne_0 7 rfl rfl)
theorem dX4_isOne_8 : decode cX4_isOne 8 = .ok (.iconst 0, 1) := dk_3 (dk_at dksX4_isOne_0 8 rfl rfl)
theorem dX4_isOne_9 : decode cX4_isOne 9 = .ok (.aload_n 0, 1) := dk_42 (dk_at dksX4_isOne_0 9 rfl rfl)
theorem dX4_isOne_10 : decode cX4_isOne 10 = .ok (.getfield 17, 3) := dk_180 0 17 (dk_at dksX4_isOne_0 10 rfl rfl)
theorem dX4_isOne_13 : decode cX4_isOne 13 = .ok (.iconst 4, 1) := dk_7 (dk_at dksX4_isOne_0 13 rfl rfl)
theorem dX4_isOne_14 : decode cX4_isOne 14 = .ok (.iaload, 1) := dk_46 (dk_at dksX4_isOne_0 14 rfl rfl)
theorem dX4_isOne_15 : decode cX4_isOne 15 = .ok (.iconst 1, 1) := dk_4 (dk_at dksX4_isOne_0 15 rfl rfl)
theorem dX4_isOne_16 : decode cX4_isOne 16 = .ok (.isub, 1) := dk_100 (dk_at dksX4_isOne_0 16 rfl rfl)
theorem dX4_isOne_17 : decode cX4_isOne 17 = .ok (.invokestatic 107, 3) := dk_184 0 107 (dk_at dksX4_isOne_0 17 rfl rfl)
theorem dX4_isOne_20 : decode cX4_isOne 20 = .ok (.ifCond .eq 7, 3) := dk_153 0 7 (dk_at dksX4_isOne_0 20 rfl rfl)
theorem dX4_isOne_23 : decode cX4_isOne 23 = .ok (.iconst 1, 1) := dk_4 (dk_at dksX4_isOne_0 23 rfl rfl)
theorem dX4_isOne_24 : decode cX4_isOne 24 = .ok (.goto 4, 3) := dk_167 0 4 (dk_at dksX4_isOne_1 0 rfl rfl)
theorem dX4_isOne_27 : decode cX4_isOne 27 = .ok (.iconst 0, 1) := dk_3 (dk_at dksX4_isOne_1 3 rfl rfl)
theorem dX4_isOne_28 : decode cX4_isOne 28 = .ok (.ireturn, 1) := dk_172 (dk_at dksX4_isOne_1 4 rfl rfl)
abbrev cX4_leavesAt : ByteArray := prog_15_method_40_code
def yX4_leavesAt : MethodName := ⟨RX4, "leavesAt", "(I)I"⟩
def dkwX4_leavesAt_0 : List UInt8 := [42, 180, 0, 17, 27, 6, 184, 0, 209, 46, 42, 180, 0, 17, 27, 8, 184, 0, 209, 46, 96, 172]
abbrev dktX4_leavesAt_0 : List UInt8 := dkwX4_leavesAt_0 ++ []
theorem dksX4_leavesAt_0 : cX4_leavesAt.data.toList.drop 0 = dktX4_leavesAt_0 := by decide +kernel
theorem dX4_leavesAt_0 : decode cX4_leavesAt 0 = .ok (.aload_n 0, 1) := dk_42 (dk_at dksX4_leavesAt_0 0 rfl rfl)
theorem dX4_leavesAt_1 : decode cX4_leavesAt 1 = .ok (.getfield 17, 3) := dk_180 0 17 (dk_at dksX4_leavesAt_0 1 rfl rfl)
theorem dX4_leavesAt_4 : decode cX4_leavesAt 4 = .ok (.iload_n 1, 1) := dk_27 (dk_at dksX4_leavesAt_0 4 rfl rfl)
theorem dX4_leavesAt_5 : decode cX4_leavesAt 5 = .ok (.iconst 3, 1) := dk_6 (dk_at dksX4_leavesAt_0 5 rfl rfl)
theorem dX4_leavesAt_6 : decode cX4_leavesAt 6 = .ok (.invokestatic 209, 3) := dk_184 0 209 (dk_at dksX4_leavesAt_0 6 rfl rfl)
theorem dX4_leavesAt_9 : decode cX4_leavesAt 9 = .ok (.iaload, 1) := dk_46 (dk_at dksX4_leavesAt_0 9 rfl rfl)
theorem dX4_leavesAt_10 : decode cX4_leavesAt 10 = .ok (.aload_n 0, 1) := dk_42 (dk_at dksX4_leavesAt_0 10 rfl rfl)
theorem dX4_leavesAt_11 : decode cX4_leavesAt 11 = .ok (.getfield 17, 3) := dk_180 0 17 (dk_at dksX4_leavesAt_0 11 rfl rfl)
theorem dX4_leavesAt_14 : decode cX4_leavesAt 14 = .ok (.iload_n 1, 1) := dk_27 (dk_at dksX4_leavesAt_0 14 rfl rfl)
theorem dX4_leavesAt_15 : decode cX4_leavesAt 15 = .ok (.iconst 5, 1) := dk_8 (dk_at dksX4_leavesAt_0 15 rfl rfl)
theorem dX4_leavesAt_16 : decode cX4_leavesAt 16 = .ok (.invokestatic 209, 3) := dk_184 0 209 (dk_at dksX4_leavesAt_0 16 rfl rfl)
theorem dX4_leavesAt_19 : decode cX4_leavesAt 19 = .ok (.iaload, 1) := dk_46 (dk_at dksX4_leavesAt_0 19 rfl rfl)
theorem dX4_leavesAt_20 : decode cX4_leavesAt 20 = .ok (.iadd, 1) := dk_96 (dk_at dksX4_leavesAt_0 20 rfl rfl)
theorem dX4_leavesAt_21 : decode cX4_leavesAt 21 = .ok (.ireturn, 1) := dk_172 (dk_at dksX4_leavesAt_0 21 rfl rfl)
abbrev cX4_arrivesAt : ByteArray := prog_15_method_41_code
def yX4_arrivesAt : MethodName := ⟨RX4, "arrivesAt", "(I)I"⟩
def dkwX4_arrivesAt_0 : List UInt8 := [42, 27, 182, 0, 250, 42, 180, 0, 17, 27, 7, 184, 0, 209, 46, 96, 172]
abbrev dktX4_arrivesAt_0 : List UInt8 := dkwX4_arrivesAt_0 ++ []
theorem dksX4_arrivesAt_0 : cX4_arrivesAt.data.toList.drop 0 = dktX4_arrivesAt_0 := by decide +kernel
theorem dX4_arrivesAt_0 : decode cX4_arrivesAt 0 = .ok (.aload_n 0, 1) := dk_42 (dk_at dksX4_arrivesAt_0 0 rfl rfl)
theorem dX4_arrivesAt_1 : decode cX4_arrivesAt 1 = .ok (.iload_n 1, 1) := dk_27 (dk_at dksX4_arrivesAt_0 1 rfl rfl)
theorem dX4_arrivesAt_2 : decode cX4_arrivesAt 2 = .ok (.invokevirtual 250, 3) := dk_182 0 250 (dk_at dksX4_arrivesAt_0 2 rfl rfl)
theorem dX4_arrivesAt_5 : decode cX4_arrivesAt 5 = .ok (.aload_n 0, 1) := dk_42 (dk_at dksX4_arrivesAt_0 5 rfl rfl)
theorem dX4_arrivesAt_6 : decode cX4_arrivesAt 6 = .ok (.getfield 17, 3) := dk_180 0 17 (dk_at dksX4_arrivesAt_0 6 rfl rfl)
theorem dX4_arrivesAt_9 : decode cX4_arrivesAt 9 = .ok (.iload_n 1, 1) := dk_27 (dk_at dksX4_arrivesAt_0 9 rfl rfl)
theorem dX4_arrivesAt_10 : decode cX4_arrivesAt 10 = .ok (.iconst 4, 1) := dk_7 (dk_at dksX4_arrivesAt_0 10 rfl rfl)
theorem dX4_arrivesAt_11 : decode cX4_arrivesAt 11 = .ok (.invokestatic 209, 3) := dk_184 0 209 (dk_at dksX4_arrivesAt_0 11 rfl rfl)
theorem dX4_arrivesAt_14 : decode cX4_arrivesAt 14 = .ok (.iaload, 1) := dk_46 (dk_at dksX4_arrivesAt_0 14 rfl rfl)
theorem dX4_arrivesAt_15 : decode cX4_arrivesAt 15 = .ok (.iadd, 1) := dk_96 (dk_at dksX4_arrivesAt_0 15 rfl rfl)
theorem dX4_arrivesAt_16 : decode cX4_arrivesAt 16 = .ok (.ireturn, 1) := dk_172 (dk_at dksX4_arrivesAt_0 16 rfl rfl)
abbrev cX4_ordered : ByteArray := prog_15_method_47_code
def yX4_ordered : MethodName := ⟨RX4, "ordered", "(I)I"⟩
def dkwX4_ordered_5 : List UInt8 := [132, 2, 1, 167, 255, 152, 42, 4, 182, 0, 237, 172]
abbrev dktX4_ordered_5 : List UInt8 := dkwX4_ordered_5 ++ []
def dkwX4_ordered_4 : List UInt8 := [28, 162, 0, 7, 4, 167, 0, 4, 3, 96, 62, 132, 4, 1, 167, 255, 191, 29, 27, 160, 0, 5, 28, 172]
abbrev dktX4_ordered_4 : List UInt8 := dkwX4_ordered_4 ++ dktX4_ordered_5
def dkwX4_ordered_3 : List UInt8 := [42, 28, 182, 0, 250, 161, 0, 23, 42, 21, 4, 182, 0, 250, 42, 28, 182, 0, 250, 160, 0, 13, 21, 4]
abbrev dktX4_ordered_3 : List UInt8 := dkwX4_ordered_3 ++ dktX4_ordered_4
def dkwX4_ordered_2 : List UInt8 := [180, 0, 17, 7, 46, 162, 0, 60, 29, 42, 21, 4, 182, 0, 253, 153, 0, 41, 42, 21, 4, 182, 0, 250]
abbrev dktX4_ordered_2 : List UInt8 := dkwX4_ordered_2 ++ dktX4_ordered_3
def dkwX4_ordered_1 : List UInt8 := [46, 162, 0, 100, 42, 28, 182, 0, 253, 154, 0, 6, 167, 0, 83, 3, 62, 3, 54, 4, 21, 4, 42]
abbrev dktX4_ordered_1 : List UInt8 := dkwX4_ordered_1 ++ dktX4_ordered_2
def dkwX4_ordered_0 : List UInt8 := [42, 42, 180, 0, 244, 184, 1, 0, 182, 0, 228, 153, 0, 5, 2, 172, 3, 61, 28, 42, 180, 0, 17, 7]
abbrev dktX4_ordered_0 : List UInt8 := dkwX4_ordered_0 ++ dktX4_ordered_1
theorem dksX4_ordered_0 : cX4_ordered.data.toList.drop 0 = dktX4_ordered_0 := by decide +kernel
theorem dksX4_ordered_1 : cX4_ordered.data.toList.drop 24 = dktX4_ordered_1 := dk_seg dksX4_ordered_0 24 rfl rfl
theorem dksX4_ordered_2 : cX4_ordered.data.toList.drop 47 = dktX4_ordered_2 := dk_seg dksX4_ordered_1 23 rfl rfl
theorem dksX4_ordered_3 : cX4_ordered.data.toList.drop 71 = dktX4_ordered_3 := dk_seg dksX4_ordered_2 24 rfl rfl
theorem dksX4_ordered_4 : cX4_ordered.data.toList.drop 95 = dktX4_ordered_4 := dk_seg dksX4_ordered_3 24 rfl rfl
theorem dksX4_ordered_5 : cX4_ordered.data.toList.drop 119 = dktX4_ordered_5 := dk_seg dksX4_ordered_4 24 rfl rfl
theorem dX4_ordered_0 : decode cX4_ordered 0 = .ok (.aload_n 0, 1) := dk_42 (dk_at dksX4_ordered_0 0 rfl rfl)
theorem dX4_ordered_1 : decode cX4_ordered 1 = .ok (.aload_n 0, 1) := dk_42 (dk_at dksX4_ordered_0 1 rfl rfl)
theorem dX4_ordered_2 : decode cX4_ordered 2 = .ok (.getfield 244, 3) := dk_180 0 244 (dk_at dksX4_ordered_0 2 rfl rfl)
theorem dX4_ordered_5 : decode cX4_ordered 5 = .ok (.invokestatic 256, 3) := dk_184 1 0 (dk_at dksX4_ordered_0 5 rfl rfl)
theorem dX4_ordered_8 : decode cX4_ordered 8 = .ok (.invokevirtual 228, 3) := dk_182 0 228 (dk_at dksX4_ordered_0 8 rfl rfl)
theorem dX4_ordered_11 : decode cX4_ordered 11 = .ok (.ifCond .eq 5, 3) := dk_153 0 5 (dk_at dksX4_ordered_0 11 rfl rfl)
theorem dX4_ordered_14 : decode cX4_ordered 14 = .ok (.iconst (-1), 1) := dk_2 (dk_at dksX4_ordered_0 14 rfl rfl)
theorem dX4_ordered_15 : decode cX4_ordered 15 = .ok (.ireturn, 1) := dk_172 (dk_at dksX4_ordered_0 15 rfl rfl)
theorem dX4_ordered_16 : decode cX4_ordered 16 = .ok (.iconst 0, 1) := dk_3 (dk_at dksX4_ordered_0 16 rfl rfl)
theorem dX4_ordered_17 : decode cX4_ordered 17 = .ok (.istore_n 2, 1) := dk_61 (dk_at dksX4_ordered_0 17 rfl rfl)
theorem dX4_ordered_18 : decode cX4_ordered 18 = .ok (.iload_n 2, 1) := dk_28 (dk_at dksX4_ordered_0 18 rfl rfl)
theorem dX4_ordered_19 : decode cX4_ordered 19 = .ok (.aload_n 0, 1) := dk_42 (dk_at dksX4_ordered_0 19 rfl rfl)
theorem dX4_ordered_20 : decode cX4_ordered 20 = .ok (.getfield 17, 3) := dk_180 0 17 (dk_at dksX4_ordered_0 20 rfl rfl)
theorem dX4_ordered_23 : decode cX4_ordered 23 = .ok (.iconst 4, 1) := dk_7 (dk_at dksX4_ordered_0 23 rfl rfl)
theorem dX4_ordered_24 : decode cX4_ordered 24 = .ok (.iaload, 1) := dk_46 (dk_at dksX4_ordered_1 0 rfl rfl)
theorem dX4_ordered_25 : decode cX4_ordered 25 = .ok (.if_icmp .ge 100, 3) := dk_162 0 100 (dk_at dksX4_ordered_1 1 rfl rfl)
theorem dX4_ordered_28 : decode cX4_ordered 28 = .ok (.aload_n 0, 1) := dk_42 (dk_at dksX4_ordered_1 4 rfl rfl)
theorem dX4_ordered_29 : decode cX4_ordered 29 = .ok (.iload_n 2, 1) := dk_28 (dk_at dksX4_ordered_1 5 rfl rfl)
theorem dX4_ordered_30 : decode cX4_ordered 30 = .ok (.invokevirtual 253, 3) := dk_182 0 253 (dk_at dksX4_ordered_1 6 rfl rfl)
theorem dX4_ordered_33 : decode cX4_ordered 33 = .ok (.ifCond .ne 6, 3) := dk_154 0 6 (dk_at dksX4_ordered_1 9 rfl rfl)
theorem dX4_ordered_36 : decode cX4_ordered 36 = .ok (.goto 83, 3) := dk_167 0 83 (dk_at dksX4_ordered_1 12 rfl rfl)
theorem dX4_ordered_39 : decode cX4_ordered 39 = .ok (.iconst 0, 1) := dk_3 (dk_at dksX4_ordered_1 15 rfl rfl)
theorem dX4_ordered_40 : decode cX4_ordered 40 = .ok (.istore_n 3, 1) := dk_62 (dk_at dksX4_ordered_1 16 rfl rfl)
theorem dX4_ordered_41 : decode cX4_ordered 41 = .ok (.iconst 0, 1) := dk_3 (dk_at dksX4_ordered_1 17 rfl rfl)
theorem dX4_ordered_42 : decode cX4_ordered 42 = .ok (.istore 4, 2) := dk_54 4 (dk_at dksX4_ordered_1 18 rfl rfl)
theorem dX4_ordered_44 : decode cX4_ordered 44 = .ok (.iload 4, 2) := dk_21 4 (dk_at dksX4_ordered_1 20 rfl rfl)
theorem dX4_ordered_46 : decode cX4_ordered 46 = .ok (.aload_n 0, 1) := dk_42 (dk_at dksX4_ordered_1 22 rfl rfl)
theorem dX4_ordered_47 : decode cX4_ordered 47 = .ok (.getfield 17, 3) := dk_180 0 17 (dk_at dksX4_ordered_2 0 rfl rfl)
theorem dX4_ordered_50 : decode cX4_ordered 50 = .ok (.iconst 4, 1) := dk_7 (dk_at dksX4_ordered_2 3 rfl rfl)
theorem dX4_ordered_51 : decode cX4_ordered 51 = .ok (.iaload, 1) := dk_46 (dk_at dksX4_ordered_2 4 rfl rfl)
theorem dX4_ordered_52 : decode cX4_ordered 52 = .ok (.if_icmp .ge 60, 3) := dk_162 0 60 (dk_at dksX4_ordered_2 5 rfl rfl)
theorem dX4_ordered_55 : decode cX4_ordered 55 = .ok (.iload_n 3, 1) := dk_29 (dk_at dksX4_ordered_2 8 rfl rfl)
theorem dX4_ordered_56 : decode cX4_ordered 56 = .ok (.aload_n 0, 1) := dk_42 (dk_at dksX4_ordered_2 9 rfl rfl)
theorem dX4_ordered_57 : decode cX4_ordered 57 = .ok (.iload 4, 2) := dk_21 4 (dk_at dksX4_ordered_2 10 rfl rfl)
theorem dX4_ordered_59 : decode cX4_ordered 59 = .ok (.invokevirtual 253, 3) := dk_182 0 253 (dk_at dksX4_ordered_2 12 rfl rfl)
theorem dX4_ordered_62 : decode cX4_ordered 62 = .ok (.ifCond .eq 41, 3) := dk_153 0 41 (dk_at dksX4_ordered_2 15 rfl rfl)
theorem dX4_ordered_65 : decode cX4_ordered 65 = .ok (.aload_n 0, 1) := dk_42 (dk_at dksX4_ordered_2 18 rfl rfl)
theorem dX4_ordered_66 : decode cX4_ordered 66 = .ok (.iload 4, 2) := dk_21 4 (dk_at dksX4_ordered_2 19 rfl rfl)
theorem dX4_ordered_68 : decode cX4_ordered 68 = .ok (.invokevirtual 250, 3) := dk_182 0 250 (dk_at dksX4_ordered_2 21 rfl rfl)
theorem dX4_ordered_71 : decode cX4_ordered 71 = .ok (.aload_n 0, 1) := dk_42 (dk_at dksX4_ordered_3 0 rfl rfl)
theorem dX4_ordered_72 : decode cX4_ordered 72 = .ok (.iload_n 2, 1) := dk_28 (dk_at dksX4_ordered_3 1 rfl rfl)
theorem dX4_ordered_73 : decode cX4_ordered 73 = .ok (.invokevirtual 250, 3) := dk_182 0 250 (dk_at dksX4_ordered_3 2 rfl rfl)
theorem dX4_ordered_76 : decode cX4_ordered 76 = .ok (.if_icmp .lt 23, 3) := dk_161 0 23 (dk_at dksX4_ordered_3 5 rfl rfl)
theorem dX4_ordered_79 : decode cX4_ordered 79 = .ok (.aload_n 0, 1) := dk_42 (dk_at dksX4_ordered_3 8 rfl rfl)
theorem dX4_ordered_80 : decode cX4_ordered 80 = .ok (.iload 4, 2) := dk_21 4 (dk_at dksX4_ordered_3 9 rfl rfl)
theorem dX4_ordered_82 : decode cX4_ordered 82 = .ok (.invokevirtual 250, 3) := dk_182 0 250 (dk_at dksX4_ordered_3 11 rfl rfl)
theorem dX4_ordered_85 : decode cX4_ordered 85 = .ok (.aload_n 0, 1) := dk_42 (dk_at dksX4_ordered_3 14 rfl rfl)
theorem dX4_ordered_86 : decode cX4_ordered 86 = .ok (.iload_n 2, 1) := dk_28 (dk_at dksX4_ordered_3 15 rfl rfl)
theorem dX4_ordered_87 : decode cX4_ordered 87 = .ok (.invokevirtual 250, 3) := dk_182 0 250 (dk_at dksX4_ordered_3 16 rfl rfl)
theorem dX4_ordered_90 : decode cX4_ordered 90 = .ok (.if_icmp .ne 13, 3) := dk_160 0 13 (dk_at dksX4_ordered_3 19 rfl rfl)
theorem dX4_ordered_93 : decode cX4_ordered 93 = .ok (.iload 4, 2) := dk_21 4 (dk_at dksX4_ordered_3 22 rfl rfl)
theorem dX4_ordered_95 : decode cX4_ordered 95 = .ok (.iload_n 2, 1) := dk_28 (dk_at dksX4_ordered_4 0 rfl rfl)
theorem dX4_ordered_96 : decode cX4_ordered 96 = .ok (.if_icmp .ge 7, 3) := dk_162 0 7 (dk_at dksX4_ordered_4 1 rfl rfl)
theorem dX4_ordered_99 : decode cX4_ordered 99 = .ok (.iconst 1, 1) := dk_4 (dk_at dksX4_ordered_4 4 rfl rfl)
theorem dX4_ordered_100 : decode cX4_ordered 100 = .ok (.goto 4, 3) := dk_167 0 4 (dk_at dksX4_ordered_4 5 rfl rfl)
theorem dX4_ordered_103 : decode cX4_ordered 103 = .ok (.iconst 0, 1) := dk_3 (dk_at dksX4_ordered_4 8 rfl rfl)
theorem dX4_ordered_104 : decode cX4_ordered 104 = .ok (.iadd, 1) := dk_96 (dk_at dksX4_ordered_4 9 rfl rfl)
theorem dX4_ordered_105 : decode cX4_ordered 105 = .ok (.istore_n 3, 1) := dk_62 (dk_at dksX4_ordered_4 10 rfl rfl)
theorem dX4_ordered_106 : decode cX4_ordered 106 = .ok (.iinc 4 1, 3) := dk_132 4 1 (dk_at dksX4_ordered_4 11 rfl rfl)
theorem dX4_ordered_109 : decode cX4_ordered 109 = .ok (.goto (-65), 3) := dk_167 255 191 (dk_at dksX4_ordered_4 14 rfl rfl)
theorem dX4_ordered_112 : decode cX4_ordered 112 = .ok (.iload_n 3, 1) := dk_29 (dk_at dksX4_ordered_4 17 rfl rfl)
theorem dX4_ordered_113 : decode cX4_ordered 113 = .ok (.iload_n 1, 1) := dk_27 (dk_at dksX4_ordered_4 18 rfl rfl)
theorem dX4_ordered_114 : decode cX4_ordered 114 = .ok (.if_icmp .ne 5, 3) := dk_160 0 5 (dk_at dksX4_ordered_4 19 rfl rfl)
theorem dX4_ordered_117 : decode cX4_ordered 117 = .ok (.iload_n 2, 1) := dk_28 (dk_at dksX4_ordered_4 22 rfl rfl)
theorem dX4_ordered_118 : decode cX4_ordered 118 = .ok (.ireturn, 1) := dk_172 (dk_at dksX4_ordered_4 23 rfl rfl)
theorem dX4_ordered_119 : decode cX4_ordered 119 = .ok (.iinc 2 1, 3) := dk_132 2 1 (dk_at dksX4_ordered_5 0 rfl rfl)
theorem dX4_ordered_122 : decode cX4_ordered 122 = .ok (.goto (-104), 3) := dk_167 255 152 (dk_at dksX4_ordered_5 3 rfl rfl)
theorem dX4_ordered_125 : decode cX4_ordered 125 = .ok (.aload_n 0, 1) := dk_42 (dk_at dksX4_ordered_5 6 rfl rfl)
theorem dX4_ordered_126 : decode cX4_ordered 126 = .ok (.iconst 1, 1) := dk_4 (dk_at dksX4_ordered_5 7 rfl rfl)
theorem dX4_ordered_127 : decode cX4_ordered 127 = .ok (.invokevirtual 237, 3) := dk_182 0 237 (dk_at dksX4_ordered_5 8 rfl rfl)
theorem dX4_ordered_130 : decode cX4_ordered 130 = .ok (.ireturn, 1) := dk_172 (dk_at dksX4_ordered_5 11 rfl rfl)
abbrev cX4_arrives : ByteArray := prog_15_method_58_code
def yX4_arrives : MethodName := ⟨RX4, "arrives", "(III)I"⟩
def dkwX4_arrives_1 : List UInt8 := [182, 1, 55, 172]
abbrev dktX4_arrives_1 : List UInt8 := dkwX4_arrives_1 ++ []
def dkwX4_arrives_0 : List UInt8 := [42, 42, 27, 28, 29, 182, 1, 51, 182, 0, 228, 153, 0, 7, 2, 167, 0, 10, 42, 27, 28, 29]
abbrev dktX4_arrives_0 : List UInt8 := dkwX4_arrives_0 ++ dktX4_arrives_1
theorem dksX4_arrives_0 : cX4_arrives.data.toList.drop 0 = dktX4_arrives_0 := by decide +kernel
theorem dksX4_arrives_1 : cX4_arrives.data.toList.drop 22 = dktX4_arrives_1 := dk_seg dksX4_arrives_0 22 rfl rfl
theorem dX4_arrives_0 : decode cX4_arrives 0 = .ok (.aload_n 0, 1) := dk_42 (dk_at dksX4_arrives_0 0 rfl rfl)
theorem dX4_arrives_1 : decode cX4_arrives 1 = .ok (.aload_n 0, 1) := dk_42 (dk_at dksX4_arrives_0 1 rfl rfl)
theorem dX4_arrives_2 : decode cX4_arrives 2 = .ok (.iload_n 1, 1) := dk_27 (dk_at dksX4_arrives_0 2 rfl rfl)
theorem dX4_arrives_3 : decode cX4_arrives 3 = .ok (.iload_n 2, 1) := dk_28 (dk_at dksX4_arrives_0 3 rfl rfl)
theorem dX4_arrives_4 : decode cX4_arrives 4 = .ok (.iload_n 3, 1) := dk_29 (dk_at dksX4_arrives_0 4 rfl rfl)
theorem dX4_arrives_5 : decode cX4_arrives 5 = .ok (.invokevirtual 307, 3) := dk_182 1 51 (dk_at dksX4_arrives_0 5 rfl rfl)
theorem dX4_arrives_8 : decode cX4_arrives 8 = .ok (.invokevirtual 228, 3) := dk_182 0 228 (dk_at dksX4_arrives_0 8 rfl rfl)
theorem dX4_arrives_11 : decode cX4_arrives 11 = .ok (.ifCond .eq 7, 3) := dk_153 0 7 (dk_at dksX4_arrives_0 11 rfl rfl)
theorem dX4_arrives_14 : decode cX4_arrives 14 = .ok (.iconst (-1), 1) := dk_2 (dk_at dksX4_arrives_0 14 rfl rfl)
theorem dX4_arrives_15 : decode cX4_arrives 15 = .ok (.goto 10, 3) := dk_167 0 10 (dk_at dksX4_arrives_0 15 rfl rfl)
theorem dX4_arrives_18 : decode cX4_arrives 18 = .ok (.aload_n 0, 1) := dk_42 (dk_at dksX4_arrives_0 18 rfl rfl)
theorem dX4_arrives_19 : decode cX4_arrives 19 = .ok (.iload_n 1, 1) := dk_27 (dk_at dksX4_arrives_0 19 rfl rfl)
theorem dX4_arrives_20 : decode cX4_arrives 20 = .ok (.iload_n 2, 1) := dk_28 (dk_at dksX4_arrives_0 20 rfl rfl)
theorem dX4_arrives_21 : decode cX4_arrives 21 = .ok (.iload_n 3, 1) := dk_29 (dk_at dksX4_arrives_0 21 rfl rfl)
theorem dX4_arrives_22 : decode cX4_arrives 22 = .ok (.invokevirtual 311, 3) := dk_182 1 55 (dk_at dksX4_arrives_1 0 rfl rfl)
theorem dX4_arrives_25 : decode cX4_arrives 25 = .ok (.ireturn, 1) := dk_172 (dk_at dksX4_arrives_1 3 rfl rfl)
abbrev cX4_wayWhy : ByteArray := prog_15_method_57_code
def yX4_wayWhy : MethodName := ⟨RX4, "wayWhy", "(III)I"⟩
def dkwX4_wayWhy_1 : List UInt8 := [17, 7, 207, 184, 0, 107, 184, 1, 48, 172]
abbrev dktX4_wayWhy_1 : List UInt8 := dkwX4_wayWhy_1 ++ []
def dkwX4_wayWhy_0 : List UInt8 := [42, 27, 182, 1, 7, 153, 0, 15, 42, 28, 182, 1, 7, 153, 0, 7, 4, 167, 0, 4, 3, 29, 3]
abbrev dktX4_wayWhy_0 : List UInt8 := dkwX4_wayWhy_0 ++ dktX4_wayWhy_1
theorem dksX4_wayWhy_0 : cX4_wayWhy.data.toList.drop 0 = dktX4_wayWhy_0 := by decide +kernel
theorem dksX4_wayWhy_1 : cX4_wayWhy.data.toList.drop 23 = dktX4_wayWhy_1 := dk_seg dksX4_wayWhy_0 23 rfl rfl
theorem dX4_wayWhy_0 : decode cX4_wayWhy 0 = .ok (.aload_n 0, 1) := dk_42 (dk_at dksX4_wayWhy_0 0 rfl rfl)
theorem dX4_wayWhy_1 : decode cX4_wayWhy 1 = .ok (.iload_n 1, 1) := dk_27 (dk_at dksX4_wayWhy_0 1 rfl rfl)
theorem dX4_wayWhy_2 : decode cX4_wayWhy 2 = .ok (.invokevirtual 263, 3) := dk_182 1 7 (dk_at dksX4_wayWhy_0 2 rfl rfl)
theorem dX4_wayWhy_5 : decode cX4_wayWhy 5 = .ok (.ifCond .eq 15, 3) := dk_153 0 15 (dk_at dksX4_wayWhy_0 5 rfl rfl)
theorem dX4_wayWhy_8 : decode cX4_wayWhy 8 = .ok (.aload_n 0, 1) := dk_42 (dk_at dksX4_wayWhy_0 8 rfl rfl)
theorem dX4_wayWhy_9 : decode cX4_wayWhy 9 = .ok (.iload_n 2, 1) := dk_28 (dk_at dksX4_wayWhy_0 9 rfl rfl)
theorem dX4_wayWhy_10 : decode cX4_wayWhy 10 = .ok (.invokevirtual 263, 3) := dk_182 1 7 (dk_at dksX4_wayWhy_0 10 rfl rfl)
theorem dX4_wayWhy_13 : decode cX4_wayWhy 13 = .ok (.ifCond .eq 7, 3) := dk_153 0 7 (dk_at dksX4_wayWhy_0 13 rfl rfl)
theorem dX4_wayWhy_16 : decode cX4_wayWhy 16 = .ok (.iconst 1, 1) := dk_4 (dk_at dksX4_wayWhy_0 16 rfl rfl)
theorem dX4_wayWhy_17 : decode cX4_wayWhy 17 = .ok (.goto 4, 3) := dk_167 0 4 (dk_at dksX4_wayWhy_0 17 rfl rfl)
theorem dX4_wayWhy_20 : decode cX4_wayWhy 20 = .ok (.iconst 0, 1) := dk_3 (dk_at dksX4_wayWhy_0 20 rfl rfl)
theorem dX4_wayWhy_21 : decode cX4_wayWhy 21 = .ok (.iload_n 3, 1) := dk_29 (dk_at dksX4_wayWhy_0 21 rfl rfl)
theorem dX4_wayWhy_22 : decode cX4_wayWhy 22 = .ok (.iconst 0, 1) := dk_3 (dk_at dksX4_wayWhy_0 22 rfl rfl)
theorem dX4_wayWhy_23 : decode cX4_wayWhy 23 = .ok (.sipush 1999, 3) := dk_17 7 207 (dk_at dksX4_wayWhy_1 0 rfl rfl)
theorem dX4_wayWhy_26 : decode cX4_wayWhy 26 = .ok (.invokestatic 107, 3) := dk_184 0 107 (dk_at dksX4_wayWhy_1 3 rfl rfl)
theorem dX4_wayWhy_29 : decode cX4_wayWhy 29 = .ok (.invokestatic 304, 3) := dk_184 1 48 (dk_at dksX4_wayWhy_1 6 rfl rfl)
theorem dX4_wayWhy_32 : decode cX4_wayWhy 32 = .ok (.ireturn, 1) := dk_172 (dk_at dksX4_wayWhy_1 9 rfl rfl)
abbrev cX4_unless_2 : ByteArray := prog_15_method_7_code
def yX4_unless_2 : MethodName := ⟨RX4, "unless", "(ZZ)I"⟩
def dkwX4_unless_2_0 : List UInt8 := [26, 154, 0, 7, 4, 167, 0, 12, 27, 153, 0, 7, 3, 167, 0, 4, 5, 172]
abbrev dktX4_unless_2_0 : List UInt8 := dkwX4_unless_2_0 ++ []
theorem dksX4_unless_2_0 : cX4_unless_2.data.toList.drop 0 = dktX4_unless_2_0 := by decide +kernel
theorem dX4_unless_2_0 : decode cX4_unless_2 0 = .ok (.iload_n 0, 1) := dk_26 (dk_at dksX4_unless_2_0 0 rfl rfl)
theorem dX4_unless_2_1 : decode cX4_unless_2 1 = .ok (.ifCond .ne 7, 3) := dk_154 0 7 (dk_at dksX4_unless_2_0 1 rfl rfl)
theorem dX4_unless_2_4 : decode cX4_unless_2 4 = .ok (.iconst 1, 1) := dk_4 (dk_at dksX4_unless_2_0 4 rfl rfl)
theorem dX4_unless_2_5 : decode cX4_unless_2 5 = .ok (.goto 12, 3) := dk_167 0 12 (dk_at dksX4_unless_2_0 5 rfl rfl)
theorem dX4_unless_2_8 : decode cX4_unless_2 8 = .ok (.iload_n 1, 1) := dk_27 (dk_at dksX4_unless_2_0 8 rfl rfl)
theorem dX4_unless_2_9 : decode cX4_unless_2 9 = .ok (.ifCond .eq 7, 3) := dk_153 0 7 (dk_at dksX4_unless_2_0 9 rfl rfl)
theorem dX4_unless_2_12 : decode cX4_unless_2 12 = .ok (.iconst 0, 1) := dk_3 (dk_at dksX4_unless_2_0 12 rfl rfl)
theorem dX4_unless_2_13 : decode cX4_unless_2 13 = .ok (.goto 4, 3) := dk_167 0 4 (dk_at dksX4_unless_2_0 13 rfl rfl)
theorem dX4_unless_2_16 : decode cX4_unless_2 16 = .ok (.iconst 2, 1) := dk_5 (dk_at dksX4_unless_2_0 16 rfl rfl)
theorem dX4_unless_2_17 : decode cX4_unless_2 17 = .ok (.ireturn, 1) := dk_172 (dk_at dksX4_unless_2_0 17 rfl rfl)
abbrev cX4_best : ByteArray := prog_15_method_56_code
def yX4_best : MethodName := ⟨RX4, "best", "(III)I"⟩
def dkwX4_best_1 : List UInt8 := [160, 0, 8, 16, 254, 167, 0, 10, 42, 180, 0, 39, 21, 4, 46, 172]
abbrev dktX4_best_1 : List UInt8 := dkwX4_best_1 ++ []
def dkwX4_best_0 : List UInt8 := [27, 28, 160, 0, 5, 29, 172, 42, 28, 182, 1, 42, 42, 27, 29, 182, 1, 45, 54, 4, 21, 4, 2]
abbrev dktX4_best_0 : List UInt8 := dkwX4_best_0 ++ dktX4_best_1
theorem dksX4_best_0 : cX4_best.data.toList.drop 0 = dktX4_best_0 := by decide +kernel
theorem dksX4_best_1 : cX4_best.data.toList.drop 23 = dktX4_best_1 := dk_seg dksX4_best_0 23 rfl rfl
theorem dX4_best_0 : decode cX4_best 0 = .ok (.iload_n 1, 1) := dk_27 (dk_at dksX4_best_0 0 rfl rfl)
theorem dX4_best_1 : decode cX4_best 1 = .ok (.iload_n 2, 1) := dk_28 (dk_at dksX4_best_0 1 rfl rfl)
theorem dX4_best_2 : decode cX4_best 2 = .ok (.if_icmp .ne 5, 3) := dk_160 0 5 (dk_at dksX4_best_0 2 rfl rfl)
theorem dX4_best_5 : decode cX4_best 5 = .ok (.iload_n 3, 1) := dk_29 (dk_at dksX4_best_0 5 rfl rfl)
theorem dX4_best_6 : decode cX4_best 6 = .ok (.ireturn, 1) := dk_172 (dk_at dksX4_best_0 6 rfl rfl)
theorem dX4_best_7 : decode cX4_best 7 = .ok (.aload_n 0, 1) := dk_42 (dk_at dksX4_best_0 7 rfl rfl)
theorem dX4_best_8 : decode cX4_best 8 = .ok (.iload_n 2, 1) := dk_28 (dk_at dksX4_best_0 8 rfl rfl)
theorem dX4_best_9 : decode cX4_best 9 = .ok (.invokevirtual 298, 3) := dk_182 1 42 (dk_at dksX4_best_0 9 rfl rfl)
theorem dX4_best_12 : decode cX4_best 12 = .ok (.aload_n 0, 1) := dk_42 (dk_at dksX4_best_0 12 rfl rfl)
theorem dX4_best_13 : decode cX4_best 13 = .ok (.iload_n 1, 1) := dk_27 (dk_at dksX4_best_0 13 rfl rfl)
theorem dX4_best_14 : decode cX4_best 14 = .ok (.iload_n 3, 1) := dk_29 (dk_at dksX4_best_0 14 rfl rfl)
theorem dX4_best_15 : decode cX4_best 15 = .ok (.invokevirtual 301, 3) := dk_182 1 45 (dk_at dksX4_best_0 15 rfl rfl)
theorem dX4_best_18 : decode cX4_best 18 = .ok (.istore 4, 2) := dk_54 4 (dk_at dksX4_best_0 18 rfl rfl)
theorem dX4_best_20 : decode cX4_best 20 = .ok (.iload 4, 2) := dk_21 4 (dk_at dksX4_best_0 20 rfl rfl)
theorem dX4_best_22 : decode cX4_best 22 = .ok (.iconst (-1), 1) := dk_2 (dk_at dksX4_best_0 22 rfl rfl)
theorem dX4_best_23 : decode cX4_best 23 = .ok (.if_icmp .ne 8, 3) := dk_160 0 8 (dk_at dksX4_best_1 0 rfl rfl)
theorem dX4_best_26 : decode cX4_best 26 = .ok (.bipush (-2), 2) := dk_16 254 (dk_at dksX4_best_1 3 rfl rfl)
theorem dX4_best_28 : decode cX4_best 28 = .ok (.goto 10, 3) := dk_167 0 10 (dk_at dksX4_best_1 5 rfl rfl)
theorem dX4_best_31 : decode cX4_best 31 = .ok (.aload_n 0, 1) := dk_42 (dk_at dksX4_best_1 8 rfl rfl)
theorem dX4_best_32 : decode cX4_best 32 = .ok (.getfield 39, 3) := dk_180 0 39 (dk_at dksX4_best_1 9 rfl rfl)
theorem dX4_best_35 : decode cX4_best 35 = .ok (.iload 4, 2) := dk_21 4 (dk_at dksX4_best_1 12 rfl rfl)
theorem dX4_best_37 : decode cX4_best 37 = .ok (.iaload, 1) := dk_46 (dk_at dksX4_best_1 14 rfl rfl)
theorem dX4_best_38 : decode cX4_best 38 = .ok (.ireturn, 1) := dk_172 (dk_at dksX4_best_1 15 rfl rfl)
abbrev cX4_laysGoal : ByteArray := prog_15_method_52_code
def yX4_laysGoal : MethodName := ⟨RX4, "laysGoal", "(I)V"⟩
def dkwX4_laysGoal_5 : List UInt8 := [132, 2, 1, 167, 255, 142, 177]
abbrev dktX4_laysGoal_5 : List UInt8 := dkwX4_laysGoal_5 ++ []
def dkwX4_laysGoal_4 : List UInt8 := [21, 4, 154, 0, 21, 42, 29, 42, 180, 0, 51, 21, 5, 46, 182, 1, 25, 132, 5, 1, 167, 255, 230]
abbrev dktX4_laysGoal_4 : List UInt8 := dkwX4_laysGoal_4 ++ dktX4_laysGoal_5
def dkwX4_laysGoal_3 : List UInt8 := [79, 42, 180, 0, 45, 29, 4, 79, 42, 180, 0, 48, 29, 2, 79, 3, 54, 5, 21, 5, 28, 162, 0, 26]
abbrev dktX4_laysGoal_3 : List UInt8 := dkwX4_laysGoal_3 ++ dktX4_laysGoal_4
def dkwX4_laysGoal_2 : List UInt8 := [29, 21, 4, 153, 0, 11, 42, 29, 182, 1, 16, 167, 0, 6, 17, 39, 15, 79, 42, 180, 0, 42, 29, 3]
abbrev dktX4_laysGoal_2 : List UInt8 := dkwX4_laysGoal_2 ++ dktX4_laysGoal_3
def dkwX4_laysGoal_1 : List UInt8 := [180, 0, 17, 29, 5, 184, 0, 209, 46, 27, 160, 0, 7, 4, 167, 0, 4, 3, 54, 4, 42, 180, 0, 39]
abbrev dktX4_laysGoal_1 : List UInt8 := dkwX4_laysGoal_1 ++ dktX4_laysGoal_2
def dkwX4_laysGoal_0 : List UInt8 := [42, 182, 1, 22, 3, 61, 28, 42, 180, 1, 19, 162, 0, 112, 42, 180, 0, 51, 28, 46, 62, 42]
abbrev dktX4_laysGoal_0 : List UInt8 := dkwX4_laysGoal_0 ++ dktX4_laysGoal_1
theorem dksX4_laysGoal_0 : cX4_laysGoal.data.toList.drop 0 = dktX4_laysGoal_0 := by decide +kernel
theorem dksX4_laysGoal_1 : cX4_laysGoal.data.toList.drop 22 = dktX4_laysGoal_1 := dk_seg dksX4_laysGoal_0 22 rfl rfl
theorem dksX4_laysGoal_2 : cX4_laysGoal.data.toList.drop 46 = dktX4_laysGoal_2 := dk_seg dksX4_laysGoal_1 24 rfl rfl
theorem dksX4_laysGoal_3 : cX4_laysGoal.data.toList.drop 70 = dktX4_laysGoal_3 := dk_seg dksX4_laysGoal_2 24 rfl rfl
theorem dksX4_laysGoal_4 : cX4_laysGoal.data.toList.drop 94 = dktX4_laysGoal_4 := dk_seg dksX4_laysGoal_3 24 rfl rfl
theorem dksX4_laysGoal_5 : cX4_laysGoal.data.toList.drop 117 = dktX4_laysGoal_5 := dk_seg dksX4_laysGoal_4 23 rfl rfl
theorem dX4_laysGoal_0 : decode cX4_laysGoal 0 = .ok (.aload_n 0, 1) := dk_42 (dk_at dksX4_laysGoal_0 0 rfl rfl)
theorem dX4_laysGoal_1 : decode cX4_laysGoal 1 = .ok (.invokevirtual 278, 3) := dk_182 1 22 (dk_at dksX4_laysGoal_0 1 rfl rfl)
theorem dX4_laysGoal_4 : decode cX4_laysGoal 4 = .ok (.iconst 0, 1) := dk_3 (dk_at dksX4_laysGoal_0 4 rfl rfl)
theorem dX4_laysGoal_5 : decode cX4_laysGoal 5 = .ok (.istore_n 2, 1) := dk_61 (dk_at dksX4_laysGoal_0 5 rfl rfl)
theorem dX4_laysGoal_6 : decode cX4_laysGoal 6 = .ok (.iload_n 2, 1) := dk_28 (dk_at dksX4_laysGoal_0 6 rfl rfl)
theorem dX4_laysGoal_7 : decode cX4_laysGoal 7 = .ok (.aload_n 0, 1) := dk_42 (dk_at dksX4_laysGoal_0 7 rfl rfl)
theorem dX4_laysGoal_8 : decode cX4_laysGoal 8 = .ok (.getfield 275, 3) := dk_180 1 19 (dk_at dksX4_laysGoal_0 8 rfl rfl)
theorem dX4_laysGoal_11 : decode cX4_laysGoal 11 = .ok (.if_icmp .ge 112, 3) := dk_162 0 112 (dk_at dksX4_laysGoal_0 11 rfl rfl)
theorem dX4_laysGoal_14 : decode cX4_laysGoal 14 = .ok (.aload_n 0, 1) := dk_42 (dk_at dksX4_laysGoal_0 14 rfl rfl)
theorem dX4_laysGoal_15 : decode cX4_laysGoal 15 = .ok (.getfield 51, 3) := dk_180 0 51 (dk_at dksX4_laysGoal_0 15 rfl rfl)
theorem dX4_laysGoal_18 : decode cX4_laysGoal 18 = .ok (.iload_n 2, 1) := dk_28 (dk_at dksX4_laysGoal_0 18 rfl rfl)
theorem dX4_laysGoal_19 : decode cX4_laysGoal 19 = .ok (.iaload, 1) := dk_46 (dk_at dksX4_laysGoal_0 19 rfl rfl)
theorem dX4_laysGoal_20 : decode cX4_laysGoal 20 = .ok (.istore_n 3, 1) := dk_62 (dk_at dksX4_laysGoal_0 20 rfl rfl)
theorem dX4_laysGoal_21 : decode cX4_laysGoal 21 = .ok (.aload_n 0, 1) := dk_42 (dk_at dksX4_laysGoal_0 21 rfl rfl)
theorem dX4_laysGoal_22 : decode cX4_laysGoal 22 = .ok (.getfield 17, 3) := dk_180 0 17 (dk_at dksX4_laysGoal_1 0 rfl rfl)
theorem dX4_laysGoal_25 : decode cX4_laysGoal 25 = .ok (.iload_n 3, 1) := dk_29 (dk_at dksX4_laysGoal_1 3 rfl rfl)
theorem dX4_laysGoal_26 : decode cX4_laysGoal 26 = .ok (.iconst 2, 1) := dk_5 (dk_at dksX4_laysGoal_1 4 rfl rfl)
theorem dX4_laysGoal_27 : decode cX4_laysGoal 27 = .ok (.invokestatic 209, 3) := dk_184 0 209 (dk_at dksX4_laysGoal_1 5 rfl rfl)
theorem dX4_laysGoal_30 : decode cX4_laysGoal 30 = .ok (.iaload, 1) := dk_46 (dk_at dksX4_laysGoal_1 8 rfl rfl)
theorem dX4_laysGoal_31 : decode cX4_laysGoal 31 = .ok (.iload_n 1, 1) := dk_27 (dk_at dksX4_laysGoal_1 9 rfl rfl)
theorem dX4_laysGoal_32 : decode cX4_laysGoal 32 = .ok (.if_icmp .ne 7, 3) := dk_160 0 7 (dk_at dksX4_laysGoal_1 10 rfl rfl)
theorem dX4_laysGoal_35 : decode cX4_laysGoal 35 = .ok (.iconst 1, 1) := dk_4 (dk_at dksX4_laysGoal_1 13 rfl rfl)
theorem dX4_laysGoal_36 : decode cX4_laysGoal 36 = .ok (.goto 4, 3) := dk_167 0 4 (dk_at dksX4_laysGoal_1 14 rfl rfl)
theorem dX4_laysGoal_39 : decode cX4_laysGoal 39 = .ok (.iconst 0, 1) := dk_3 (dk_at dksX4_laysGoal_1 17 rfl rfl)
theorem dX4_laysGoal_40 : decode cX4_laysGoal 40 = .ok (.istore 4, 2) := dk_54 4 (dk_at dksX4_laysGoal_1 18 rfl rfl)
theorem dX4_laysGoal_42 : decode cX4_laysGoal 42 = .ok (.aload_n 0, 1) := dk_42 (dk_at dksX4_laysGoal_1 20 rfl rfl)
theorem dX4_laysGoal_43 : decode cX4_laysGoal 43 = .ok (.getfield 39, 3) := dk_180 0 39 (dk_at dksX4_laysGoal_1 21 rfl rfl)
theorem dX4_laysGoal_46 : decode cX4_laysGoal 46 = .ok (.iload_n 3, 1) := dk_29 (dk_at dksX4_laysGoal_2 0 rfl rfl)
theorem dX4_laysGoal_47 : decode cX4_laysGoal 47 = .ok (.iload 4, 2) := dk_21 4 (dk_at dksX4_laysGoal_2 1 rfl rfl)
theorem dX4_laysGoal_49 : decode cX4_laysGoal 49 = .ok (.ifCond .eq 11, 3) := dk_153 0 11 (dk_at dksX4_laysGoal_2 3 rfl rfl)
theorem dX4_laysGoal_52 : decode cX4_laysGoal 52 = .ok (.aload_n 0, 1) := dk_42 (dk_at dksX4_laysGoal_2 6 rfl rfl)
theorem dX4_laysGoal_53 : decode cX4_laysGoal 53 = .ok (.iload_n 3, 1) := dk_29 (dk_at dksX4_laysGoal_2 7 rfl rfl)
theorem dX4_laysGoal_54 : decode cX4_laysGoal 54 = .ok (.invokevirtual 272, 3) := dk_182 1 16 (dk_at dksX4_laysGoal_2 8 rfl rfl)
theorem dX4_laysGoal_57 : decode cX4_laysGoal 57 = .ok (.goto 6, 3) := dk_167 0 6 (dk_at dksX4_laysGoal_2 11 rfl rfl)
theorem dX4_laysGoal_60 : decode cX4_laysGoal 60 = .ok (.sipush 9999, 3) := dk_17 39 15 (dk_at dksX4_laysGoal_2 14 rfl rfl)
theorem dX4_laysGoal_63 : decode cX4_laysGoal 63 = .ok (.iastore, 1) := dk_79 (dk_at dksX4_laysGoal_2 17 rfl rfl)
theorem dX4_laysGoal_64 : decode cX4_laysGoal 64 = .ok (.aload_n 0, 1) := dk_42 (dk_at dksX4_laysGoal_2 18 rfl rfl)
theorem dX4_laysGoal_65 : decode cX4_laysGoal 65 = .ok (.getfield 42, 3) := dk_180 0 42 (dk_at dksX4_laysGoal_2 19 rfl rfl)
theorem dX4_laysGoal_68 : decode cX4_laysGoal 68 = .ok (.iload_n 3, 1) := dk_29 (dk_at dksX4_laysGoal_2 22 rfl rfl)
theorem dX4_laysGoal_69 : decode cX4_laysGoal 69 = .ok (.iconst 0, 1) := dk_3 (dk_at dksX4_laysGoal_2 23 rfl rfl)
theorem dX4_laysGoal_70 : decode cX4_laysGoal 70 = .ok (.iastore, 1) := dk_79 (dk_at dksX4_laysGoal_3 0 rfl rfl)
theorem dX4_laysGoal_71 : decode cX4_laysGoal 71 = .ok (.aload_n 0, 1) := dk_42 (dk_at dksX4_laysGoal_3 1 rfl rfl)
theorem dX4_laysGoal_72 : decode cX4_laysGoal 72 = .ok (.getfield 45, 3) := dk_180 0 45 (dk_at dksX4_laysGoal_3 2 rfl rfl)
theorem dX4_laysGoal_75 : decode cX4_laysGoal 75 = .ok (.iload_n 3, 1) := dk_29 (dk_at dksX4_laysGoal_3 5 rfl rfl)
theorem dX4_laysGoal_76 : decode cX4_laysGoal 76 = .ok (.iconst 1, 1) := dk_4 (dk_at dksX4_laysGoal_3 6 rfl rfl)
theorem dX4_laysGoal_77 : decode cX4_laysGoal 77 = .ok (.iastore, 1) := dk_79 (dk_at dksX4_laysGoal_3 7 rfl rfl)
theorem dX4_laysGoal_78 : decode cX4_laysGoal 78 = .ok (.aload_n 0, 1) := dk_42 (dk_at dksX4_laysGoal_3 8 rfl rfl)
theorem dX4_laysGoal_79 : decode cX4_laysGoal 79 = .ok (.getfield 48, 3) := dk_180 0 48 (dk_at dksX4_laysGoal_3 9 rfl rfl)
theorem dX4_laysGoal_82 : decode cX4_laysGoal 82 = .ok (.iload_n 3, 1) := dk_29 (dk_at dksX4_laysGoal_3 12 rfl rfl)
theorem dX4_laysGoal_83 : decode cX4_laysGoal 83 = .ok (.iconst (-1), 1) := dk_2 (dk_at dksX4_laysGoal_3 13 rfl rfl)
theorem dX4_laysGoal_84 : decode cX4_laysGoal 84 = .ok (.iastore, 1) := dk_79 (dk_at dksX4_laysGoal_3 14 rfl rfl)
theorem dX4_laysGoal_85 : decode cX4_laysGoal 85 = .ok (.iconst 0, 1) := dk_3 (dk_at dksX4_laysGoal_3 15 rfl rfl)
theorem dX4_laysGoal_86 : decode cX4_laysGoal 86 = .ok (.istore 5, 2) := dk_54 5 (dk_at dksX4_laysGoal_3 16 rfl rfl)
theorem dX4_laysGoal_88 : decode cX4_laysGoal 88 = .ok (.iload 5, 2) := dk_21 5 (dk_at dksX4_laysGoal_3 18 rfl rfl)
theorem dX4_laysGoal_90 : decode cX4_laysGoal 90 = .ok (.iload_n 2, 1) := dk_28 (dk_at dksX4_laysGoal_3 20 rfl rfl)
theorem dX4_laysGoal_91 : decode cX4_laysGoal 91 = .ok (.if_icmp .ge 26, 3) := dk_162 0 26 (dk_at dksX4_laysGoal_3 21 rfl rfl)
theorem dX4_laysGoal_94 : decode cX4_laysGoal 94 = .ok (.iload 4, 2) := dk_21 4 (dk_at dksX4_laysGoal_4 0 rfl rfl)
theorem dX4_laysGoal_96 : decode cX4_laysGoal 96 = .ok (.ifCond .ne 21, 3) := dk_154 0 21 (dk_at dksX4_laysGoal_4 2 rfl rfl)
theorem dX4_laysGoal_99 : decode cX4_laysGoal 99 = .ok (.aload_n 0, 1) := dk_42 (dk_at dksX4_laysGoal_4 5 rfl rfl)
theorem dX4_laysGoal_100 : decode cX4_laysGoal 100 = .ok (.iload_n 3, 1) := dk_29 (dk_at dksX4_laysGoal_4 6 rfl rfl)
theorem dX4_laysGoal_101 : decode cX4_laysGoal 101 = .ok (.aload_n 0, 1) := dk_42 (dk_at dksX4_laysGoal_4 7 rfl rfl)
theorem dX4_laysGoal_102 : decode cX4_laysGoal 102 = .ok (.getfield 51, 3) := dk_180 0 51 (dk_at dksX4_laysGoal_4 8 rfl rfl)
theorem dX4_laysGoal_105 : decode cX4_laysGoal 105 = .ok (.iload 5, 2) := dk_21 5 (dk_at dksX4_laysGoal_4 11 rfl rfl)
theorem dX4_laysGoal_107 : decode cX4_laysGoal 107 = .ok (.iaload, 1) := dk_46 (dk_at dksX4_laysGoal_4 13 rfl rfl)
theorem dX4_laysGoal_108 : decode cX4_laysGoal 108 = .ok (.invokevirtual 281, 3) := dk_182 1 25 (dk_at dksX4_laysGoal_4 14 rfl rfl)
theorem dX4_laysGoal_111 : decode cX4_laysGoal 111 = .ok (.iinc 5 1, 3) := dk_132 5 1 (dk_at dksX4_laysGoal_4 17 rfl rfl)
theorem dX4_laysGoal_114 : decode cX4_laysGoal 114 = .ok (.goto (-26), 3) := dk_167 255 230 (dk_at dksX4_laysGoal_4 20 rfl rfl)
theorem dX4_laysGoal_117 : decode cX4_laysGoal 117 = .ok (.iinc 2 1, 3) := dk_132 2 1 (dk_at dksX4_laysGoal_5 0 rfl rfl)
theorem dX4_laysGoal_120 : decode cX4_laysGoal 120 = .ok (.goto (-114), 3) := dk_167 255 142 (dk_at dksX4_laysGoal_5 3 rfl rfl)
theorem dX4_laysGoal_123 : decode cX4_laysGoal 123 = .ok (.return_, 1) := dk_177 (dk_at dksX4_laysGoal_5 6 rfl rfl)
abbrev cX4_sorts : ByteArray := prog_15_method_48_code
def yX4_sorts : MethodName := ⟨RX4, "sorts", "()V"⟩
def dkwX4_sorts_4 : List UInt8 := [132, 1, 1, 167, 255, 166, 177]
abbrev dktX4_sorts_4 : List UInt8 := dkwX4_sorts_4 ++ []
def dkwX4_sorts_3 : List UInt8 := [79, 132, 2, 255, 167, 255, 215, 42, 180, 0, 51, 28, 27, 79, 42, 89, 180, 1, 19, 4, 96, 181, 1, 19]
abbrev dktX4_sorts_3 : List UInt8 := dkwX4_sorts_3 ++ dktX4_sorts_4
def dkwX4_sorts_2 : List UInt8 := [182, 0, 250, 42, 27, 182, 0, 250, 162, 0, 23, 42, 180, 0, 51, 28, 42, 180, 0, 51, 28, 4, 100, 46]
abbrev dktX4_sorts_2 : List UInt8 := dkwX4_sorts_2 ++ dktX4_sorts_3
def dkwX4_sorts_1 : List UInt8 := [154, 0, 6, 167, 0, 69, 42, 180, 1, 19, 61, 28, 158, 0, 43, 42, 42, 180, 0, 51, 28, 4, 100, 46]
abbrev dktX4_sorts_1 : List UInt8 := dkwX4_sorts_1 ++ dktX4_sorts_2
def dkwX4_sorts_0 : List UInt8 := [42, 3, 181, 1, 19, 3, 60, 27, 42, 180, 0, 17, 7, 46, 162, 0, 86, 42, 27, 182, 0, 253]
abbrev dktX4_sorts_0 : List UInt8 := dkwX4_sorts_0 ++ dktX4_sorts_1
theorem dksX4_sorts_0 : cX4_sorts.data.toList.drop 0 = dktX4_sorts_0 := by decide +kernel
theorem dksX4_sorts_1 : cX4_sorts.data.toList.drop 22 = dktX4_sorts_1 := dk_seg dksX4_sorts_0 22 rfl rfl
theorem dksX4_sorts_2 : cX4_sorts.data.toList.drop 46 = dktX4_sorts_2 := dk_seg dksX4_sorts_1 24 rfl rfl
theorem dksX4_sorts_3 : cX4_sorts.data.toList.drop 70 = dktX4_sorts_3 := dk_seg dksX4_sorts_2 24 rfl rfl
theorem dksX4_sorts_4 : cX4_sorts.data.toList.drop 94 = dktX4_sorts_4 := dk_seg dksX4_sorts_3 24 rfl rfl
theorem dX4_sorts_0 : decode cX4_sorts 0 = .ok (.aload_n 0, 1) := dk_42 (dk_at dksX4_sorts_0 0 rfl rfl)
theorem dX4_sorts_1 : decode cX4_sorts 1 = .ok (.iconst 0, 1) := dk_3 (dk_at dksX4_sorts_0 1 rfl rfl)
theorem dX4_sorts_2 : decode cX4_sorts 2 = .ok (.putfield 275, 3) := dk_181 1 19 (dk_at dksX4_sorts_0 2 rfl rfl)
theorem dX4_sorts_5 : decode cX4_sorts 5 = .ok (.iconst 0, 1) := dk_3 (dk_at dksX4_sorts_0 5 rfl rfl)
theorem dX4_sorts_6 : decode cX4_sorts 6 = .ok (.istore_n 1, 1) := dk_60 (dk_at dksX4_sorts_0 6 rfl rfl)
theorem dX4_sorts_7 : decode cX4_sorts 7 = .ok (.iload_n 1, 1) := dk_27 (dk_at dksX4_sorts_0 7 rfl rfl)
theorem dX4_sorts_8 : decode cX4_sorts 8 = .ok (.aload_n 0, 1) := dk_42 (dk_at dksX4_sorts_0 8 rfl rfl)
theorem dX4_sorts_9 : decode cX4_sorts 9 = .ok (.getfield 17, 3) := dk_180 0 17 (dk_at dksX4_sorts_0 9 rfl rfl)
theorem dX4_sorts_12 : decode cX4_sorts 12 = .ok (.iconst 4, 1) := dk_7 (dk_at dksX4_sorts_0 12 rfl rfl)
theorem dX4_sorts_13 : decode cX4_sorts 13 = .ok (.iaload, 1) := dk_46 (dk_at dksX4_sorts_0 13 rfl rfl)
theorem dX4_sorts_14 : decode cX4_sorts 14 = .ok (.if_icmp .ge 86, 3) := dk_162 0 86 (dk_at dksX4_sorts_0 14 rfl rfl)
theorem dX4_sorts_17 : decode cX4_sorts 17 = .ok (.aload_n 0, 1) := dk_42 (dk_at dksX4_sorts_0 17 rfl rfl)
theorem dX4_sorts_18 : decode cX4_sorts 18 = .ok (.iload_n 1, 1) := dk_27 (dk_at dksX4_sorts_0 18 rfl rfl)
theorem dX4_sorts_19 : decode cX4_sorts 19 = .ok (.invokevirtual 253, 3) := dk_182 0 253 (dk_at dksX4_sorts_0 19 rfl rfl)
theorem dX4_sorts_22 : decode cX4_sorts 22 = .ok (.ifCond .ne 6, 3) := dk_154 0 6 (dk_at dksX4_sorts_1 0 rfl rfl)
theorem dX4_sorts_25 : decode cX4_sorts 25 = .ok (.goto 69, 3) := dk_167 0 69 (dk_at dksX4_sorts_1 3 rfl rfl)
theorem dX4_sorts_28 : decode cX4_sorts 28 = .ok (.aload_n 0, 1) := dk_42 (dk_at dksX4_sorts_1 6 rfl rfl)
theorem dX4_sorts_29 : decode cX4_sorts 29 = .ok (.getfield 275, 3) := dk_180 1 19 (dk_at dksX4_sorts_1 7 rfl rfl)
theorem dX4_sorts_32 : decode cX4_sorts 32 = .ok (.istore_n 2, 1) := dk_61 (dk_at dksX4_sorts_1 10 rfl rfl)
theorem dX4_sorts_33 : decode cX4_sorts 33 = .ok (.iload_n 2, 1) := dk_28 (dk_at dksX4_sorts_1 11 rfl rfl)
theorem dX4_sorts_34 : decode cX4_sorts 34 = .ok (.ifCond .le 43, 3) := dk_158 0 43 (dk_at dksX4_sorts_1 12 rfl rfl)
theorem dX4_sorts_37 : decode cX4_sorts 37 = .ok (.aload_n 0, 1) := dk_42 (dk_at dksX4_sorts_1 15 rfl rfl)
theorem dX4_sorts_38 : decode cX4_sorts 38 = .ok (.aload_n 0, 1) := dk_42 (dk_at dksX4_sorts_1 16 rfl rfl)
theorem dX4_sorts_39 : decode cX4_sorts 39 = .ok (.getfield 51, 3) := dk_180 0 51 (dk_at dksX4_sorts_1 17 rfl rfl)
theorem dX4_sorts_42 : decode cX4_sorts 42 = .ok (.iload_n 2, 1) := dk_28 (dk_at dksX4_sorts_1 20 rfl rfl)
theorem dX4_sorts_43 : decode cX4_sorts 43 = .ok (.iconst 1, 1) := dk_4 (dk_at dksX4_sorts_1 21 rfl rfl)
theorem dX4_sorts_44 : decode cX4_sorts 44 = .ok (.isub, 1) := dk_100 (dk_at dksX4_sorts_1 22 rfl rfl)
theorem dX4_sorts_45 : decode cX4_sorts 45 = .ok (.iaload, 1) := dk_46 (dk_at dksX4_sorts_1 23 rfl rfl)
theorem dX4_sorts_46 : decode cX4_sorts 46 = .ok (.invokevirtual 250, 3) := dk_182 0 250 (dk_at dksX4_sorts_2 0 rfl rfl)
theorem dX4_sorts_49 : decode cX4_sorts 49 = .ok (.aload_n 0, 1) := dk_42 (dk_at dksX4_sorts_2 3 rfl rfl)
theorem dX4_sorts_50 : decode cX4_sorts 50 = .ok (.iload_n 1, 1) := dk_27 (dk_at dksX4_sorts_2 4 rfl rfl)
theorem dX4_sorts_51 : decode cX4_sorts 51 = .ok (.invokevirtual 250, 3) := dk_182 0 250 (dk_at dksX4_sorts_2 5 rfl rfl)
theorem dX4_sorts_54 : decode cX4_sorts 54 = .ok (.if_icmp .ge 23, 3) := dk_162 0 23 (dk_at dksX4_sorts_2 8 rfl rfl)
theorem dX4_sorts_57 : decode cX4_sorts 57 = .ok (.aload_n 0, 1) := dk_42 (dk_at dksX4_sorts_2 11 rfl rfl)
theorem dX4_sorts_58 : decode cX4_sorts 58 = .ok (.getfield 51, 3) := dk_180 0 51 (dk_at dksX4_sorts_2 12 rfl rfl)
theorem dX4_sorts_61 : decode cX4_sorts 61 = .ok (.iload_n 2, 1) := dk_28 (dk_at dksX4_sorts_2 15 rfl rfl)
theorem dX4_sorts_62 : decode cX4_sorts 62 = .ok (.aload_n 0, 1) := dk_42 (dk_at dksX4_sorts_2 16 rfl rfl)
theorem dX4_sorts_63 : decode cX4_sorts 63 = .ok (.getfield 51, 3) := dk_180 0 51 (dk_at dksX4_sorts_2 17 rfl rfl)
theorem dX4_sorts_66 : decode cX4_sorts 66 = .ok (.iload_n 2, 1) := dk_28 (dk_at dksX4_sorts_2 20 rfl rfl)
theorem dX4_sorts_67 : decode cX4_sorts 67 = .ok (.iconst 1, 1) := dk_4 (dk_at dksX4_sorts_2 21 rfl rfl)
theorem dX4_sorts_68 : decode cX4_sorts 68 = .ok (.isub, 1) := dk_100 (dk_at dksX4_sorts_2 22 rfl rfl)
theorem dX4_sorts_69 : decode cX4_sorts 69 = .ok (.iaload, 1) := dk_46 (dk_at dksX4_sorts_2 23 rfl rfl)
theorem dX4_sorts_70 : decode cX4_sorts 70 = .ok (.iastore, 1) := dk_79 (dk_at dksX4_sorts_3 0 rfl rfl)
theorem dX4_sorts_71 : decode cX4_sorts 71 = .ok (.iinc 2 (-1), 3) := dk_132 2 255 (dk_at dksX4_sorts_3 1 rfl rfl)
theorem dX4_sorts_74 : decode cX4_sorts 74 = .ok (.goto (-41), 3) := dk_167 255 215 (dk_at dksX4_sorts_3 4 rfl rfl)
theorem dX4_sorts_77 : decode cX4_sorts 77 = .ok (.aload_n 0, 1) := dk_42 (dk_at dksX4_sorts_3 7 rfl rfl)
theorem dX4_sorts_78 : decode cX4_sorts 78 = .ok (.getfield 51, 3) := dk_180 0 51 (dk_at dksX4_sorts_3 8 rfl rfl)
theorem dX4_sorts_81 : decode cX4_sorts 81 = .ok (.iload_n 2, 1) := dk_28 (dk_at dksX4_sorts_3 11 rfl rfl)
theorem dX4_sorts_82 : decode cX4_sorts 82 = .ok (.iload_n 1, 1) := dk_27 (dk_at dksX4_sorts_3 12 rfl rfl)
theorem dX4_sorts_83 : decode cX4_sorts 83 = .ok (.iastore, 1) := dk_79 (dk_at dksX4_sorts_3 13 rfl rfl)
theorem dX4_sorts_84 : decode cX4_sorts 84 = .ok (.aload_n 0, 1) := dk_42 (dk_at dksX4_sorts_3 14 rfl rfl)
theorem dX4_sorts_85 : decode cX4_sorts 85 = .ok (.dup, 1) := dk_89 (dk_at dksX4_sorts_3 15 rfl rfl)
theorem dX4_sorts_86 : decode cX4_sorts 86 = .ok (.getfield 275, 3) := dk_180 1 19 (dk_at dksX4_sorts_3 16 rfl rfl)
theorem dX4_sorts_89 : decode cX4_sorts 89 = .ok (.iconst 1, 1) := dk_4 (dk_at dksX4_sorts_3 19 rfl rfl)
theorem dX4_sorts_90 : decode cX4_sorts 90 = .ok (.iadd, 1) := dk_96 (dk_at dksX4_sorts_3 20 rfl rfl)
theorem dX4_sorts_91 : decode cX4_sorts 91 = .ok (.putfield 275, 3) := dk_181 1 19 (dk_at dksX4_sorts_3 21 rfl rfl)
theorem dX4_sorts_94 : decode cX4_sorts 94 = .ok (.iinc 1 1, 3) := dk_132 1 1 (dk_at dksX4_sorts_4 0 rfl rfl)
theorem dX4_sorts_97 : decode cX4_sorts 97 = .ok (.goto (-90), 3) := dk_167 255 166 (dk_at dksX4_sorts_4 3 rfl rfl)
theorem dX4_sorts_100 : decode cX4_sorts 100 = .ok (.return_, 1) := dk_177 (dk_at dksX4_sorts_4 6 rfl rfl)
abbrev cX4_comesNext : ByteArray := prog_15_method_53_code
def yX4_comesNext : MethodName := ⟨RX4, "comesNext", "(II)V"⟩
def dkwX4_comesNext_6 : List UInt8 := [180, 0, 45, 27, 42, 180, 0, 45, 28, 46, 4, 96, 79, 42, 180, 0, 48, 27, 28, 79, 177]
abbrev dktX4_comesNext_6 : List UInt8 := dkwX4_comesNext_6 ++ []
def dkwX4_comesNext_5 : List UInt8 := [153, 0, 43, 42, 180, 0, 39, 27, 42, 180, 0, 39, 28, 46, 79, 42, 180, 0, 42, 27, 29, 79, 42]
abbrev dktX4_comesNext_5 : List UInt8 := dkwX4_comesNext_5 ++ dktX4_comesNext_6
def dkwX4_comesNext_4 : List UInt8 := [100, 54, 4, 21, 4, 157, 0, 22, 21, 4, 154, 0, 57, 42, 28, 42, 180, 0, 48, 27, 46, 182, 1, 36]
abbrev dktX4_comesNext_4 : List UInt8 := dkwX4_comesNext_4 ++ dktX4_comesNext_5
def dkwX4_comesNext_3 : List UInt8 := [21, 4, 153, 0, 8, 21, 4, 167, 0, 18, 42, 180, 0, 45, 27, 46, 42, 180, 0, 45, 28, 46, 100, 4]
abbrev dktX4_comesNext_3 : List UInt8 := dkwX4_comesNext_3 ++ dktX4_comesNext_4
def dkwX4_comesNext_2 : List UInt8 := [46, 100, 54, 4, 21, 4, 153, 0, 8, 21, 4, 167, 0, 11, 42, 180, 0, 42, 27, 46, 29, 100, 54, 4]
abbrev dktX4_comesNext_2 : List UInt8 := dkwX4_comesNext_2 ++ dktX4_comesNext_3
def dkwX4_comesNext_1 : List UInt8 := [180, 0, 42, 28, 46, 42, 27, 28, 182, 1, 33, 96, 62, 42, 180, 0, 39, 27, 46, 42, 180, 0, 39, 28]
abbrev dktX4_comesNext_1 : List UInt8 := dkwX4_comesNext_1 ++ dktX4_comesNext_2
def dkwX4_comesNext_0 : List UInt8 := [42, 180, 0, 39, 28, 46, 17, 39, 15, 159, 0, 12, 42, 27, 28, 182, 1, 29, 154, 0, 4, 177, 42]
abbrev dktX4_comesNext_0 : List UInt8 := dkwX4_comesNext_0 ++ dktX4_comesNext_1
theorem dksX4_comesNext_0 : cX4_comesNext.data.toList.drop 0 = dktX4_comesNext_0 := by decide +kernel
theorem dksX4_comesNext_1 : cX4_comesNext.data.toList.drop 23 = dktX4_comesNext_1 := dk_seg dksX4_comesNext_0 23 rfl rfl
theorem dksX4_comesNext_2 : cX4_comesNext.data.toList.drop 47 = dktX4_comesNext_2 := dk_seg dksX4_comesNext_1 24 rfl rfl
theorem dksX4_comesNext_3 : cX4_comesNext.data.toList.drop 71 = dktX4_comesNext_3 := dk_seg dksX4_comesNext_2 24 rfl rfl
theorem dksX4_comesNext_4 : cX4_comesNext.data.toList.drop 95 = dktX4_comesNext_4 := dk_seg dksX4_comesNext_3 24 rfl rfl
theorem dksX4_comesNext_5 : cX4_comesNext.data.toList.drop 119 = dktX4_comesNext_5 := dk_seg dksX4_comesNext_4 24 rfl rfl
theorem dksX4_comesNext_6 : cX4_comesNext.data.toList.drop 142 = dktX4_comesNext_6 := dk_seg dksX4_comesNext_5 23 rfl rfl
theorem dX4_comesNext_0 : decode cX4_comesNext 0 = .ok (.aload_n 0, 1) := dk_42 (dk_at dksX4_comesNext_0 0 rfl rfl)
theorem dX4_comesNext_1 : decode cX4_comesNext 1 = .ok (.getfield 39, 3) := dk_180 0 39 (dk_at dksX4_comesNext_0 1 rfl rfl)
theorem dX4_comesNext_4 : decode cX4_comesNext 4 = .ok (.iload_n 2, 1) := dk_28 (dk_at dksX4_comesNext_0 4 rfl rfl)
theorem dX4_comesNext_5 : decode cX4_comesNext 5 = .ok (.iaload, 1) := dk_46 (dk_at dksX4_comesNext_0 5 rfl rfl)
theorem dX4_comesNext_6 : decode cX4_comesNext 6 = .ok (.sipush 9999, 3) := dk_17 39 15 (dk_at dksX4_comesNext_0 6 rfl rfl)
theorem dX4_comesNext_9 : decode cX4_comesNext 9 = .ok (.if_icmp .eq 12, 3) := dk_159 0 12 (dk_at dksX4_comesNext_0 9 rfl rfl)
theorem dX4_comesNext_12 : decode cX4_comesNext 12 = .ok (.aload_n 0, 1) := dk_42 (dk_at dksX4_comesNext_0 12 rfl rfl)
theorem dX4_comesNext_13 : decode cX4_comesNext 13 = .ok (.iload_n 1, 1) := dk_27 (dk_at dksX4_comesNext_0 13 rfl rfl)
theorem dX4_comesNext_14 : decode cX4_comesNext 14 = .ok (.iload_n 2, 1) := dk_28 (dk_at dksX4_comesNext_0 14 rfl rfl)
theorem dX4_comesNext_15 : decode cX4_comesNext 15 = .ok (.invokevirtual 285, 3) := dk_182 1 29 (dk_at dksX4_comesNext_0 15 rfl rfl)
theorem dX4_comesNext_18 : decode cX4_comesNext 18 = .ok (.ifCond .ne 4, 3) := dk_154 0 4 (dk_at dksX4_comesNext_0 18 rfl rfl)
theorem dX4_comesNext_21 : decode cX4_comesNext 21 = .ok (.return_, 1) := dk_177 (dk_at dksX4_comesNext_0 21 rfl rfl)
theorem dX4_comesNext_22 : decode cX4_comesNext 22 = .ok (.aload_n 0, 1) := dk_42 (dk_at dksX4_comesNext_0 22 rfl rfl)
theorem dX4_comesNext_23 : decode cX4_comesNext 23 = .ok (.getfield 42, 3) := dk_180 0 42 (dk_at dksX4_comesNext_1 0 rfl rfl)
theorem dX4_comesNext_26 : decode cX4_comesNext 26 = .ok (.iload_n 2, 1) := dk_28 (dk_at dksX4_comesNext_1 3 rfl rfl)
theorem dX4_comesNext_27 : decode cX4_comesNext 27 = .ok (.iaload, 1) := dk_46 (dk_at dksX4_comesNext_1 4 rfl rfl)
theorem dX4_comesNext_28 : decode cX4_comesNext 28 = .ok (.aload_n 0, 1) := dk_42 (dk_at dksX4_comesNext_1 5 rfl rfl)
theorem dX4_comesNext_29 : decode cX4_comesNext 29 = .ok (.iload_n 1, 1) := dk_27 (dk_at dksX4_comesNext_1 6 rfl rfl)
theorem dX4_comesNext_30 : decode cX4_comesNext 30 = .ok (.iload_n 2, 1) := dk_28 (dk_at dksX4_comesNext_1 7 rfl rfl)
theorem dX4_comesNext_31 : decode cX4_comesNext 31 = .ok (.invokevirtual 289, 3) := dk_182 1 33 (dk_at dksX4_comesNext_1 8 rfl rfl)
theorem dX4_comesNext_34 : decode cX4_comesNext 34 = .ok (.iadd, 1) := dk_96 (dk_at dksX4_comesNext_1 11 rfl rfl)
theorem dX4_comesNext_35 : decode cX4_comesNext 35 = .ok (.istore_n 3, 1) := dk_62 (dk_at dksX4_comesNext_1 12 rfl rfl)
theorem dX4_comesNext_36 : decode cX4_comesNext 36 = .ok (.aload_n 0, 1) := dk_42 (dk_at dksX4_comesNext_1 13 rfl rfl)
theorem dX4_comesNext_37 : decode cX4_comesNext 37 = .ok (.getfield 39, 3) := dk_180 0 39 (dk_at dksX4_comesNext_1 14 rfl rfl)
theorem dX4_comesNext_40 : decode cX4_comesNext 40 = .ok (.iload_n 1, 1) := dk_27 (dk_at dksX4_comesNext_1 17 rfl rfl)
theorem dX4_comesNext_41 : decode cX4_comesNext 41 = .ok (.iaload, 1) := dk_46 (dk_at dksX4_comesNext_1 18 rfl rfl)
theorem dX4_comesNext_42 : decode cX4_comesNext 42 = .ok (.aload_n 0, 1) := dk_42 (dk_at dksX4_comesNext_1 19 rfl rfl)
theorem dX4_comesNext_43 : decode cX4_comesNext 43 = .ok (.getfield 39, 3) := dk_180 0 39 (dk_at dksX4_comesNext_1 20 rfl rfl)
theorem dX4_comesNext_46 : decode cX4_comesNext 46 = .ok (.iload_n 2, 1) := dk_28 (dk_at dksX4_comesNext_1 23 rfl rfl)
theorem dX4_comesNext_47 : decode cX4_comesNext 47 = .ok (.iaload, 1) := dk_46 (dk_at dksX4_comesNext_2 0 rfl rfl)
theorem dX4_comesNext_48 : decode cX4_comesNext 48 = .ok (.isub, 1) := dk_100 (dk_at dksX4_comesNext_2 1 rfl rfl)
theorem dX4_comesNext_49 : decode cX4_comesNext 49 = .ok (.istore 4, 2) := dk_54 4 (dk_at dksX4_comesNext_2 2 rfl rfl)
theorem dX4_comesNext_51 : decode cX4_comesNext 51 = .ok (.iload 4, 2) := dk_21 4 (dk_at dksX4_comesNext_2 4 rfl rfl)
theorem dX4_comesNext_53 : decode cX4_comesNext 53 = .ok (.ifCond .eq 8, 3) := dk_153 0 8 (dk_at dksX4_comesNext_2 6 rfl rfl)
theorem dX4_comesNext_56 : decode cX4_comesNext 56 = .ok (.iload 4, 2) := dk_21 4 (dk_at dksX4_comesNext_2 9 rfl rfl)
theorem dX4_comesNext_58 : decode cX4_comesNext 58 = .ok (.goto 11, 3) := dk_167 0 11 (dk_at dksX4_comesNext_2 11 rfl rfl)
theorem dX4_comesNext_61 : decode cX4_comesNext 61 = .ok (.aload_n 0, 1) := dk_42 (dk_at dksX4_comesNext_2 14 rfl rfl)
theorem dX4_comesNext_62 : decode cX4_comesNext 62 = .ok (.getfield 42, 3) := dk_180 0 42 (dk_at dksX4_comesNext_2 15 rfl rfl)
theorem dX4_comesNext_65 : decode cX4_comesNext 65 = .ok (.iload_n 1, 1) := dk_27 (dk_at dksX4_comesNext_2 18 rfl rfl)
theorem dX4_comesNext_66 : decode cX4_comesNext 66 = .ok (.iaload, 1) := dk_46 (dk_at dksX4_comesNext_2 19 rfl rfl)
theorem dX4_comesNext_67 : decode cX4_comesNext 67 = .ok (.iload_n 3, 1) := dk_29 (dk_at dksX4_comesNext_2 20 rfl rfl)
theorem dX4_comesNext_68 : decode cX4_comesNext 68 = .ok (.isub, 1) := dk_100 (dk_at dksX4_comesNext_2 21 rfl rfl)
theorem dX4_comesNext_69 : decode cX4_comesNext 69 = .ok (.istore 4, 2) := dk_54 4 (dk_at dksX4_comesNext_2 22 rfl rfl)
theorem dX4_comesNext_71 : decode cX4_comesNext 71 = .ok (.iload 4, 2) := dk_21 4 (dk_at dksX4_comesNext_3 0 rfl rfl)
theorem dX4_comesNext_73 : decode cX4_comesNext 73 = .ok (.ifCond .eq 8, 3) := dk_153 0 8 (dk_at dksX4_comesNext_3 2 rfl rfl)
theorem dX4_comesNext_76 : decode cX4_comesNext 76 = .ok (.iload 4, 2) := dk_21 4 (dk_at dksX4_comesNext_3 5 rfl rfl)
theorem dX4_comesNext_78 : decode cX4_comesNext 78 = .ok (.goto 18, 3) := dk_167 0 18 (dk_at dksX4_comesNext_3 7 rfl rfl)
theorem dX4_comesNext_81 : decode cX4_comesNext 81 = .ok (.aload_n 0, 1) := dk_42 (dk_at dksX4_comesNext_3 10 rfl rfl)
theorem dX4_comesNext_82 : decode cX4_comesNext 82 = .ok (.getfield 45, 3) := dk_180 0 45 (dk_at dksX4_comesNext_3 11 rfl rfl)
theorem dX4_comesNext_85 : decode cX4_comesNext 85 = .ok (.iload_n 1, 1) := dk_27 (dk_at dksX4_comesNext_3 14 rfl rfl)
theorem dX4_comesNext_86 : decode cX4_comesNext 86 = .ok (.iaload, 1) := dk_46 (dk_at dksX4_comesNext_3 15 rfl rfl)
theorem dX4_comesNext_87 : decode cX4_comesNext 87 = .ok (.aload_n 0, 1) := dk_42 (dk_at dksX4_comesNext_3 16 rfl rfl)
theorem dX4_comesNext_88 : decode cX4_comesNext 88 = .ok (.getfield 45, 3) := dk_180 0 45 (dk_at dksX4_comesNext_3 17 rfl rfl)
theorem dX4_comesNext_91 : decode cX4_comesNext 91 = .ok (.iload_n 2, 1) := dk_28 (dk_at dksX4_comesNext_3 20 rfl rfl)
theorem dX4_comesNext_92 : decode cX4_comesNext 92 = .ok (.iaload, 1) := dk_46 (dk_at dksX4_comesNext_3 21 rfl rfl)
theorem dX4_comesNext_93 : decode cX4_comesNext 93 = .ok (.isub, 1) := dk_100 (dk_at dksX4_comesNext_3 22 rfl rfl)
theorem dX4_comesNext_94 : decode cX4_comesNext 94 = .ok (.iconst 1, 1) := dk_4 (dk_at dksX4_comesNext_3 23 rfl rfl)
theorem dX4_comesNext_95 : decode cX4_comesNext 95 = .ok (.isub, 1) := dk_100 (dk_at dksX4_comesNext_4 0 rfl rfl)
theorem dX4_comesNext_96 : decode cX4_comesNext 96 = .ok (.istore 4, 2) := dk_54 4 (dk_at dksX4_comesNext_4 1 rfl rfl)
theorem dX4_comesNext_98 : decode cX4_comesNext 98 = .ok (.iload 4, 2) := dk_21 4 (dk_at dksX4_comesNext_4 3 rfl rfl)
theorem dX4_comesNext_100 : decode cX4_comesNext 100 = .ok (.ifCond .gt 22, 3) := dk_157 0 22 (dk_at dksX4_comesNext_4 5 rfl rfl)
theorem dX4_comesNext_103 : decode cX4_comesNext 103 = .ok (.iload 4, 2) := dk_21 4 (dk_at dksX4_comesNext_4 8 rfl rfl)
theorem dX4_comesNext_105 : decode cX4_comesNext 105 = .ok (.ifCond .ne 57, 3) := dk_154 0 57 (dk_at dksX4_comesNext_4 10 rfl rfl)
theorem dX4_comesNext_108 : decode cX4_comesNext 108 = .ok (.aload_n 0, 1) := dk_42 (dk_at dksX4_comesNext_4 13 rfl rfl)
theorem dX4_comesNext_109 : decode cX4_comesNext 109 = .ok (.iload_n 2, 1) := dk_28 (dk_at dksX4_comesNext_4 14 rfl rfl)
theorem dX4_comesNext_110 : decode cX4_comesNext 110 = .ok (.aload_n 0, 1) := dk_42 (dk_at dksX4_comesNext_4 15 rfl rfl)
theorem dX4_comesNext_111 : decode cX4_comesNext 111 = .ok (.getfield 48, 3) := dk_180 0 48 (dk_at dksX4_comesNext_4 16 rfl rfl)
theorem dX4_comesNext_114 : decode cX4_comesNext 114 = .ok (.iload_n 1, 1) := dk_27 (dk_at dksX4_comesNext_4 19 rfl rfl)
theorem dX4_comesNext_115 : decode cX4_comesNext 115 = .ok (.iaload, 1) := dk_46 (dk_at dksX4_comesNext_4 20 rfl rfl)
theorem dX4_comesNext_116 : decode cX4_comesNext 116 = .ok (.invokevirtual 292, 3) := dk_182 1 36 (dk_at dksX4_comesNext_4 21 rfl rfl)
theorem dX4_comesNext_119 : decode cX4_comesNext 119 = .ok (.ifCond .eq 43, 3) := dk_153 0 43 (dk_at dksX4_comesNext_5 0 rfl rfl)
theorem dX4_comesNext_122 : decode cX4_comesNext 122 = .ok (.aload_n 0, 1) := dk_42 (dk_at dksX4_comesNext_5 3 rfl rfl)
theorem dX4_comesNext_123 : decode cX4_comesNext 123 = .ok (.getfield 39, 3) := dk_180 0 39 (dk_at dksX4_comesNext_5 4 rfl rfl)
theorem dX4_comesNext_126 : decode cX4_comesNext 126 = .ok (.iload_n 1, 1) := dk_27 (dk_at dksX4_comesNext_5 7 rfl rfl)
theorem dX4_comesNext_127 : decode cX4_comesNext 127 = .ok (.aload_n 0, 1) := dk_42 (dk_at dksX4_comesNext_5 8 rfl rfl)
theorem dX4_comesNext_128 : decode cX4_comesNext 128 = .ok (.getfield 39, 3) := dk_180 0 39 (dk_at dksX4_comesNext_5 9 rfl rfl)
theorem dX4_comesNext_131 : decode cX4_comesNext 131 = .ok (.iload_n 2, 1) := dk_28 (dk_at dksX4_comesNext_5 12 rfl rfl)
theorem dX4_comesNext_132 : decode cX4_comesNext 132 = .ok (.iaload, 1) := dk_46 (dk_at dksX4_comesNext_5 13 rfl rfl)
theorem dX4_comesNext_133 : decode cX4_comesNext 133 = .ok (.iastore, 1) := dk_79 (dk_at dksX4_comesNext_5 14 rfl rfl)
theorem dX4_comesNext_134 : decode cX4_comesNext 134 = .ok (.aload_n 0, 1) := dk_42 (dk_at dksX4_comesNext_5 15 rfl rfl)
theorem dX4_comesNext_135 : decode cX4_comesNext 135 = .ok (.getfield 42, 3) := dk_180 0 42 (dk_at dksX4_comesNext_5 16 rfl rfl)
theorem dX4_comesNext_138 : decode cX4_comesNext 138 = .ok (.iload_n 1, 1) := dk_27 (dk_at dksX4_comesNext_5 19 rfl rfl)
theorem dX4_comesNext_139 : decode cX4_comesNext 139 = .ok (.iload_n 3, 1) := dk_29 (dk_at dksX4_comesNext_5 20 rfl rfl)
theorem dX4_comesNext_140 : decode cX4_comesNext 140 = .ok (.iastore, 1) := dk_79 (dk_at dksX4_comesNext_5 21 rfl rfl)
theorem dX4_comesNext_141 : decode cX4_comesNext 141 = .ok (.aload_n 0, 1) := dk_42 (dk_at dksX4_comesNext_5 22 rfl rfl)
theorem dX4_comesNext_142 : decode cX4_comesNext 142 = .ok (.getfield 45, 3) := dk_180 0 45 (dk_at dksX4_comesNext_6 0 rfl rfl)
theorem dX4_comesNext_145 : decode cX4_comesNext 145 = .ok (.iload_n 1, 1) := dk_27 (dk_at dksX4_comesNext_6 3 rfl rfl)
theorem dX4_comesNext_146 : decode cX4_comesNext 146 = .ok (.aload_n 0, 1) := dk_42 (dk_at dksX4_comesNext_6 4 rfl rfl)
theorem dX4_comesNext_147 : decode cX4_comesNext 147 = .ok (.getfield 45, 3) := dk_180 0 45 (dk_at dksX4_comesNext_6 5 rfl rfl)
theorem dX4_comesNext_150 : decode cX4_comesNext 150 = .ok (.iload_n 2, 1) := dk_28 (dk_at dksX4_comesNext_6 8 rfl rfl)
theorem dX4_comesNext_151 : decode cX4_comesNext 151 = .ok (.iaload, 1) := dk_46 (dk_at dksX4_comesNext_6 9 rfl rfl)
theorem dX4_comesNext_152 : decode cX4_comesNext 152 = .ok (.iconst 1, 1) := dk_4 (dk_at dksX4_comesNext_6 10 rfl rfl)
theorem dX4_comesNext_153 : decode cX4_comesNext 153 = .ok (.iadd, 1) := dk_96 (dk_at dksX4_comesNext_6 11 rfl rfl)
theorem dX4_comesNext_154 : decode cX4_comesNext 154 = .ok (.iastore, 1) := dk_79 (dk_at dksX4_comesNext_6 12 rfl rfl)
theorem dX4_comesNext_155 : decode cX4_comesNext 155 = .ok (.aload_n 0, 1) := dk_42 (dk_at dksX4_comesNext_6 13 rfl rfl)
theorem dX4_comesNext_156 : decode cX4_comesNext 156 = .ok (.getfield 48, 3) := dk_180 0 48 (dk_at dksX4_comesNext_6 14 rfl rfl)
theorem dX4_comesNext_159 : decode cX4_comesNext 159 = .ok (.iload_n 1, 1) := dk_27 (dk_at dksX4_comesNext_6 17 rfl rfl)
theorem dX4_comesNext_160 : decode cX4_comesNext 160 = .ok (.iload_n 2, 1) := dk_28 (dk_at dksX4_comesNext_6 18 rfl rfl)
theorem dX4_comesNext_161 : decode cX4_comesNext 161 = .ok (.iastore, 1) := dk_79 (dk_at dksX4_comesNext_6 19 rfl rfl)
theorem dX4_comesNext_162 : decode cX4_comesNext 162 = .ok (.return_, 1) := dk_177 (dk_at dksX4_comesNext_6 20 rfl rfl)
abbrev cX4_canFollow : ByteArray := prog_15_method_49_code
def yX4_canFollow : MethodName := ⟨RX4, "canFollow", "(II)Z"⟩
def dkwX4_canFollow_4 : List UInt8 := [159, 0, 16, 21, 4, 42, 180, 0, 17, 8, 29, 96, 46, 161, 0, 7, 4, 167, 0, 4, 3, 172]
abbrev dktX4_canFollow_4 : List UInt8 := dkwX4_canFollow_4 ++ []
def dkwX4_canFollow_3 : List UInt8 := [3, 172, 42, 180, 0, 17, 27, 3, 184, 0, 209, 46, 42, 180, 0, 17, 28, 3, 184, 0, 209, 46]
abbrev dktX4_canFollow_3 : List UInt8 := dkwX4_canFollow_3 ++ dktX4_canFollow_4
def dkwX4_canFollow_2 : List UInt8 := [16, 15, 29, 96, 46, 16, 254, 159, 0, 19, 21, 4, 42, 180, 0, 17, 16, 15, 29, 96, 46, 164, 0, 5]
abbrev dktX4_canFollow_2 : List UInt8 := dkwX4_canFollow_2 ++ dktX4_canFollow_3
def dkwX4_canFollow_1 : List UInt8 := [42, 180, 0, 17, 28, 4, 184, 0, 209, 46, 29, 160, 0, 36, 21, 4, 155, 0, 31, 42, 180, 0, 17]
abbrev dktX4_canFollow_1 : List UInt8 := dkwX4_canFollow_1 ++ dktX4_canFollow_2
def dkwX4_canFollow_0 : List UInt8 := [42, 180, 0, 17, 27, 5, 184, 0, 209, 46, 62, 42, 28, 182, 0, 250, 42, 27, 182, 1, 16, 100, 54, 4]
abbrev dktX4_canFollow_0 : List UInt8 := dkwX4_canFollow_0 ++ dktX4_canFollow_1
theorem dksX4_canFollow_0 : cX4_canFollow.data.toList.drop 0 = dktX4_canFollow_0 := by decide +kernel
theorem dksX4_canFollow_1 : cX4_canFollow.data.toList.drop 24 = dktX4_canFollow_1 := dk_seg dksX4_canFollow_0 24 rfl rfl
theorem dksX4_canFollow_2 : cX4_canFollow.data.toList.drop 47 = dktX4_canFollow_2 := dk_seg dksX4_canFollow_1 23 rfl rfl
theorem dksX4_canFollow_3 : cX4_canFollow.data.toList.drop 71 = dktX4_canFollow_3 := dk_seg dksX4_canFollow_2 24 rfl rfl
theorem dksX4_canFollow_4 : cX4_canFollow.data.toList.drop 93 = dktX4_canFollow_4 := dk_seg dksX4_canFollow_3 22 rfl rfl
theorem dX4_canFollow_0 : decode cX4_canFollow 0 = .ok (.aload_n 0, 1) := dk_42 (dk_at dksX4_canFollow_0 0 rfl rfl)
theorem dX4_canFollow_1 : decode cX4_canFollow 1 = .ok (.getfield 17, 3) := dk_180 0 17 (dk_at dksX4_canFollow_0 1 rfl rfl)
theorem dX4_canFollow_4 : decode cX4_canFollow 4 = .ok (.iload_n 1, 1) := dk_27 (dk_at dksX4_canFollow_0 4 rfl rfl)
theorem dX4_canFollow_5 : decode cX4_canFollow 5 = .ok (.iconst 2, 1) := dk_5 (dk_at dksX4_canFollow_0 5 rfl rfl)
theorem dX4_canFollow_6 : decode cX4_canFollow 6 = .ok (.invokestatic 209, 3) := dk_184 0 209 (dk_at dksX4_canFollow_0 6 rfl rfl)
theorem dX4_canFollow_9 : decode cX4_canFollow 9 = .ok (.iaload, 1) := dk_46 (dk_at dksX4_canFollow_0 9 rfl rfl)
theorem dX4_canFollow_10 : decode cX4_canFollow 10 = .ok (.istore_n 3, 1) := dk_62 (dk_at dksX4_canFollow_0 10 rfl rfl)
theorem dX4_canFollow_11 : decode cX4_canFollow 11 = .ok (.aload_n 0, 1) := dk_42 (dk_at dksX4_canFollow_0 11 rfl rfl)
theorem dX4_canFollow_12 : decode cX4_canFollow 12 = .ok (.iload_n 2, 1) := dk_28 (dk_at dksX4_canFollow_0 12 rfl rfl)
theorem dX4_canFollow_13 : decode cX4_canFollow 13 = .ok (.invokevirtual 250, 3) := dk_182 0 250 (dk_at dksX4_canFollow_0 13 rfl rfl)
theorem dX4_canFollow_16 : decode cX4_canFollow 16 = .ok (.aload_n 0, 1) := dk_42 (dk_at dksX4_canFollow_0 16 rfl rfl)
theorem dX4_canFollow_17 : decode cX4_canFollow 17 = .ok (.iload_n 1, 1) := dk_27 (dk_at dksX4_canFollow_0 17 rfl rfl)
theorem dX4_canFollow_18 : decode cX4_canFollow 18 = .ok (.invokevirtual 272, 3) := dk_182 1 16 (dk_at dksX4_canFollow_0 18 rfl rfl)
theorem dX4_canFollow_21 : decode cX4_canFollow 21 = .ok (.isub, 1) := dk_100 (dk_at dksX4_canFollow_0 21 rfl rfl)
theorem dX4_canFollow_22 : decode cX4_canFollow 22 = .ok (.istore 4, 2) := dk_54 4 (dk_at dksX4_canFollow_0 22 rfl rfl)
theorem dX4_canFollow_24 : decode cX4_canFollow 24 = .ok (.aload_n 0, 1) := dk_42 (dk_at dksX4_canFollow_1 0 rfl rfl)
theorem dX4_canFollow_25 : decode cX4_canFollow 25 = .ok (.getfield 17, 3) := dk_180 0 17 (dk_at dksX4_canFollow_1 1 rfl rfl)
theorem dX4_canFollow_28 : decode cX4_canFollow 28 = .ok (.iload_n 2, 1) := dk_28 (dk_at dksX4_canFollow_1 4 rfl rfl)
theorem dX4_canFollow_29 : decode cX4_canFollow 29 = .ok (.iconst 1, 1) := dk_4 (dk_at dksX4_canFollow_1 5 rfl rfl)
theorem dX4_canFollow_30 : decode cX4_canFollow 30 = .ok (.invokestatic 209, 3) := dk_184 0 209 (dk_at dksX4_canFollow_1 6 rfl rfl)
theorem dX4_canFollow_33 : decode cX4_canFollow 33 = .ok (.iaload, 1) := dk_46 (dk_at dksX4_canFollow_1 9 rfl rfl)
theorem dX4_canFollow_34 : decode cX4_canFollow 34 = .ok (.iload_n 3, 1) := dk_29 (dk_at dksX4_canFollow_1 10 rfl rfl)
theorem dX4_canFollow_35 : decode cX4_canFollow 35 = .ok (.if_icmp .ne 36, 3) := dk_160 0 36 (dk_at dksX4_canFollow_1 11 rfl rfl)
theorem dX4_canFollow_38 : decode cX4_canFollow 38 = .ok (.iload 4, 2) := dk_21 4 (dk_at dksX4_canFollow_1 14 rfl rfl)
theorem dX4_canFollow_40 : decode cX4_canFollow 40 = .ok (.ifCond .lt 31, 3) := dk_155 0 31 (dk_at dksX4_canFollow_1 16 rfl rfl)
theorem dX4_canFollow_43 : decode cX4_canFollow 43 = .ok (.aload_n 0, 1) := dk_42 (dk_at dksX4_canFollow_1 19 rfl rfl)
theorem dX4_canFollow_44 : decode cX4_canFollow 44 = .ok (.getfield 17, 3) := dk_180 0 17 (dk_at dksX4_canFollow_1 20 rfl rfl)
theorem dX4_canFollow_47 : decode cX4_canFollow 47 = .ok (.bipush 15, 2) := dk_16 15 (dk_at dksX4_canFollow_2 0 rfl rfl)
theorem dX4_canFollow_49 : decode cX4_canFollow 49 = .ok (.iload_n 3, 1) := dk_29 (dk_at dksX4_canFollow_2 2 rfl rfl)
theorem dX4_canFollow_50 : decode cX4_canFollow 50 = .ok (.iadd, 1) := dk_96 (dk_at dksX4_canFollow_2 3 rfl rfl)
theorem dX4_canFollow_51 : decode cX4_canFollow 51 = .ok (.iaload, 1) := dk_46 (dk_at dksX4_canFollow_2 4 rfl rfl)
theorem dX4_canFollow_52 : decode cX4_canFollow 52 = .ok (.bipush (-2), 2) := dk_16 254 (dk_at dksX4_canFollow_2 5 rfl rfl)
theorem dX4_canFollow_54 : decode cX4_canFollow 54 = .ok (.if_icmp .eq 19, 3) := dk_159 0 19 (dk_at dksX4_canFollow_2 7 rfl rfl)
theorem dX4_canFollow_57 : decode cX4_canFollow 57 = .ok (.iload 4, 2) := dk_21 4 (dk_at dksX4_canFollow_2 10 rfl rfl)
theorem dX4_canFollow_59 : decode cX4_canFollow 59 = .ok (.aload_n 0, 1) := dk_42 (dk_at dksX4_canFollow_2 12 rfl rfl)
theorem dX4_canFollow_60 : decode cX4_canFollow 60 = .ok (.getfield 17, 3) := dk_180 0 17 (dk_at dksX4_canFollow_2 13 rfl rfl)
theorem dX4_canFollow_63 : decode cX4_canFollow 63 = .ok (.bipush 15, 2) := dk_16 15 (dk_at dksX4_canFollow_2 16 rfl rfl)
theorem dX4_canFollow_65 : decode cX4_canFollow 65 = .ok (.iload_n 3, 1) := dk_29 (dk_at dksX4_canFollow_2 18 rfl rfl)
theorem dX4_canFollow_66 : decode cX4_canFollow 66 = .ok (.iadd, 1) := dk_96 (dk_at dksX4_canFollow_2 19 rfl rfl)
theorem dX4_canFollow_67 : decode cX4_canFollow 67 = .ok (.iaload, 1) := dk_46 (dk_at dksX4_canFollow_2 20 rfl rfl)
theorem dX4_canFollow_68 : decode cX4_canFollow 68 = .ok (.if_icmp .le 5, 3) := dk_164 0 5 (dk_at dksX4_canFollow_2 21 rfl rfl)
theorem dX4_canFollow_71 : decode cX4_canFollow 71 = .ok (.iconst 0, 1) := dk_3 (dk_at dksX4_canFollow_3 0 rfl rfl)
theorem dX4_canFollow_72 : decode cX4_canFollow 72 = .ok (.ireturn, 1) := dk_172 (dk_at dksX4_canFollow_3 1 rfl rfl)
theorem dX4_canFollow_73 : decode cX4_canFollow 73 = .ok (.aload_n 0, 1) := dk_42 (dk_at dksX4_canFollow_3 2 rfl rfl)
theorem dX4_canFollow_74 : decode cX4_canFollow 74 = .ok (.getfield 17, 3) := dk_180 0 17 (dk_at dksX4_canFollow_3 3 rfl rfl)
theorem dX4_canFollow_77 : decode cX4_canFollow 77 = .ok (.iload_n 1, 1) := dk_27 (dk_at dksX4_canFollow_3 6 rfl rfl)
theorem dX4_canFollow_78 : decode cX4_canFollow 78 = .ok (.iconst 0, 1) := dk_3 (dk_at dksX4_canFollow_3 7 rfl rfl)
theorem dX4_canFollow_79 : decode cX4_canFollow 79 = .ok (.invokestatic 209, 3) := dk_184 0 209 (dk_at dksX4_canFollow_3 8 rfl rfl)
theorem dX4_canFollow_82 : decode cX4_canFollow 82 = .ok (.iaload, 1) := dk_46 (dk_at dksX4_canFollow_3 11 rfl rfl)
theorem dX4_canFollow_83 : decode cX4_canFollow 83 = .ok (.aload_n 0, 1) := dk_42 (dk_at dksX4_canFollow_3 12 rfl rfl)
theorem dX4_canFollow_84 : decode cX4_canFollow 84 = .ok (.getfield 17, 3) := dk_180 0 17 (dk_at dksX4_canFollow_3 13 rfl rfl)
theorem dX4_canFollow_87 : decode cX4_canFollow 87 = .ok (.iload_n 2, 1) := dk_28 (dk_at dksX4_canFollow_3 16 rfl rfl)
theorem dX4_canFollow_88 : decode cX4_canFollow 88 = .ok (.iconst 0, 1) := dk_3 (dk_at dksX4_canFollow_3 17 rfl rfl)
theorem dX4_canFollow_89 : decode cX4_canFollow 89 = .ok (.invokestatic 209, 3) := dk_184 0 209 (dk_at dksX4_canFollow_3 18 rfl rfl)
theorem dX4_canFollow_92 : decode cX4_canFollow 92 = .ok (.iaload, 1) := dk_46 (dk_at dksX4_canFollow_3 21 rfl rfl)
theorem dX4_canFollow_93 : decode cX4_canFollow 93 = .ok (.if_icmp .eq 16, 3) := dk_159 0 16 (dk_at dksX4_canFollow_4 0 rfl rfl)
theorem dX4_canFollow_96 : decode cX4_canFollow 96 = .ok (.iload 4, 2) := dk_21 4 (dk_at dksX4_canFollow_4 3 rfl rfl)
theorem dX4_canFollow_98 : decode cX4_canFollow 98 = .ok (.aload_n 0, 1) := dk_42 (dk_at dksX4_canFollow_4 5 rfl rfl)
theorem dX4_canFollow_99 : decode cX4_canFollow 99 = .ok (.getfield 17, 3) := dk_180 0 17 (dk_at dksX4_canFollow_4 6 rfl rfl)
theorem dX4_canFollow_102 : decode cX4_canFollow 102 = .ok (.iconst 5, 1) := dk_8 (dk_at dksX4_canFollow_4 9 rfl rfl)
theorem dX4_canFollow_103 : decode cX4_canFollow 103 = .ok (.iload_n 3, 1) := dk_29 (dk_at dksX4_canFollow_4 10 rfl rfl)
theorem dX4_canFollow_104 : decode cX4_canFollow 104 = .ok (.iadd, 1) := dk_96 (dk_at dksX4_canFollow_4 11 rfl rfl)
theorem dX4_canFollow_105 : decode cX4_canFollow 105 = .ok (.iaload, 1) := dk_46 (dk_at dksX4_canFollow_4 12 rfl rfl)
theorem dX4_canFollow_106 : decode cX4_canFollow 106 = .ok (.if_icmp .lt 7, 3) := dk_161 0 7 (dk_at dksX4_canFollow_4 13 rfl rfl)
theorem dX4_canFollow_109 : decode cX4_canFollow 109 = .ok (.iconst 1, 1) := dk_4 (dk_at dksX4_canFollow_4 16 rfl rfl)
theorem dX4_canFollow_110 : decode cX4_canFollow 110 = .ok (.goto 4, 3) := dk_167 0 4 (dk_at dksX4_canFollow_4 17 rfl rfl)
theorem dX4_canFollow_113 : decode cX4_canFollow 113 = .ok (.iconst 0, 1) := dk_3 (dk_at dksX4_canFollow_4 20 rfl rfl)
theorem dX4_canFollow_114 : decode cX4_canFollow 114 = .ok (.ireturn, 1) := dk_172 (dk_at dksX4_canFollow_4 21 rfl rfl)
abbrev cX4_turns : ByteArray := prog_15_method_50_code
def yX4_turns : MethodName := ⟨RX4, "turns", "(II)I"⟩
def dkwX4_turns_1 : List UInt8 := [167, 0, 4, 4, 172]
abbrev dktX4_turns_1 : List UInt8 := dkwX4_turns_1 ++ []
def dkwX4_turns_0 : List UInt8 := [42, 180, 0, 17, 27, 3, 184, 0, 209, 46, 42, 180, 0, 17, 28, 3, 184, 0, 209, 46, 160, 0, 7, 3]
abbrev dktX4_turns_0 : List UInt8 := dkwX4_turns_0 ++ dktX4_turns_1
theorem dksX4_turns_0 : cX4_turns.data.toList.drop 0 = dktX4_turns_0 := by decide +kernel
theorem dksX4_turns_1 : cX4_turns.data.toList.drop 24 = dktX4_turns_1 := dk_seg dksX4_turns_0 24 rfl rfl
theorem dX4_turns_0 : decode cX4_turns 0 = .ok (.aload_n 0, 1) := dk_42 (dk_at dksX4_turns_0 0 rfl rfl)
theorem dX4_turns_1 : decode cX4_turns 1 = .ok (.getfield 17, 3) := dk_180 0 17 (dk_at dksX4_turns_0 1 rfl rfl)
theorem dX4_turns_4 : decode cX4_turns 4 = .ok (.iload_n 1, 1) := dk_27 (dk_at dksX4_turns_0 4 rfl rfl)
theorem dX4_turns_5 : decode cX4_turns 5 = .ok (.iconst 0, 1) := dk_3 (dk_at dksX4_turns_0 5 rfl rfl)
theorem dX4_turns_6 : decode cX4_turns 6 = .ok (.invokestatic 209, 3) := dk_184 0 209 (dk_at dksX4_turns_0 6 rfl rfl)
theorem dX4_turns_9 : decode cX4_turns 9 = .ok (.iaload, 1) := dk_46 (dk_at dksX4_turns_0 9 rfl rfl)
theorem dX4_turns_10 : decode cX4_turns 10 = .ok (.aload_n 0, 1) := dk_42 (dk_at dksX4_turns_0 10 rfl rfl)
theorem dX4_turns_11 : decode cX4_turns 11 = .ok (.getfield 17, 3) := dk_180 0 17 (dk_at dksX4_turns_0 11 rfl rfl)
theorem dX4_turns_14 : decode cX4_turns 14 = .ok (.iload_n 2, 1) := dk_28 (dk_at dksX4_turns_0 14 rfl rfl)
theorem dX4_turns_15 : decode cX4_turns 15 = .ok (.iconst 0, 1) := dk_3 (dk_at dksX4_turns_0 15 rfl rfl)
theorem dX4_turns_16 : decode cX4_turns 16 = .ok (.invokestatic 209, 3) := dk_184 0 209 (dk_at dksX4_turns_0 16 rfl rfl)
theorem dX4_turns_19 : decode cX4_turns 19 = .ok (.iaload, 1) := dk_46 (dk_at dksX4_turns_0 19 rfl rfl)
theorem dX4_turns_20 : decode cX4_turns 20 = .ok (.if_icmp .ne 7, 3) := dk_160 0 7 (dk_at dksX4_turns_0 20 rfl rfl)
theorem dX4_turns_23 : decode cX4_turns 23 = .ok (.iconst 0, 1) := dk_3 (dk_at dksX4_turns_0 23 rfl rfl)
theorem dX4_turns_24 : decode cX4_turns 24 = .ok (.goto 4, 3) := dk_167 0 4 (dk_at dksX4_turns_1 0 rfl rfl)
theorem dX4_turns_27 : decode cX4_turns 27 = .ok (.iconst 1, 1) := dk_4 (dk_at dksX4_turns_1 3 rfl rfl)
theorem dX4_turns_28 : decode cX4_turns 28 = .ok (.ireturn, 1) := dk_172 (dk_at dksX4_turns_1 4 rfl rfl)
abbrev cX4_isLessRow : ByteArray := prog_15_method_51_code
def yX4_isLessRow : MethodName := ⟨RX4, "isLessRow", "(II)Z"⟩
def dkwX4_isLessRow_1 : List UInt8 := [180, 0, 48, 21, 4, 46, 54, 4, 167, 255, 229, 29, 21, 4, 162, 0, 7, 4, 167, 0, 4, 3, 172]
abbrev dktX4_isLessRow_1 : List UInt8 := dkwX4_isLessRow_1 ++ []
def dkwX4_isLessRow_0 : List UInt8 := [27, 62, 28, 54, 4, 29, 21, 4, 160, 0, 27, 29, 2, 159, 0, 22, 42, 180, 0, 48, 29, 46, 62, 42]
abbrev dktX4_isLessRow_0 : List UInt8 := dkwX4_isLessRow_0 ++ dktX4_isLessRow_1
theorem dksX4_isLessRow_0 : cX4_isLessRow.data.toList.drop 0 = dktX4_isLessRow_0 := by decide +kernel
theorem dksX4_isLessRow_1 : cX4_isLessRow.data.toList.drop 24 = dktX4_isLessRow_1 := dk_seg dksX4_isLessRow_0 24 rfl rfl
theorem dX4_isLessRow_0 : decode cX4_isLessRow 0 = .ok (.iload_n 1, 1) := dk_27 (dk_at dksX4_isLessRow_0 0 rfl rfl)
theorem dX4_isLessRow_1 : decode cX4_isLessRow 1 = .ok (.istore_n 3, 1) := dk_62 (dk_at dksX4_isLessRow_0 1 rfl rfl)
theorem dX4_isLessRow_2 : decode cX4_isLessRow 2 = .ok (.iload_n 2, 1) := dk_28 (dk_at dksX4_isLessRow_0 2 rfl rfl)
theorem dX4_isLessRow_3 : decode cX4_isLessRow 3 = .ok (.istore 4, 2) := dk_54 4 (dk_at dksX4_isLessRow_0 3 rfl rfl)
theorem dX4_isLessRow_5 : decode cX4_isLessRow 5 = .ok (.iload_n 3, 1) := dk_29 (dk_at dksX4_isLessRow_0 5 rfl rfl)
theorem dX4_isLessRow_6 : decode cX4_isLessRow 6 = .ok (.iload 4, 2) := dk_21 4 (dk_at dksX4_isLessRow_0 6 rfl rfl)
theorem dX4_isLessRow_8 : decode cX4_isLessRow 8 = .ok (.if_icmp .ne 27, 3) := dk_160 0 27 (dk_at dksX4_isLessRow_0 8 rfl rfl)
theorem dX4_isLessRow_11 : decode cX4_isLessRow 11 = .ok (.iload_n 3, 1) := dk_29 (dk_at dksX4_isLessRow_0 11 rfl rfl)
theorem dX4_isLessRow_12 : decode cX4_isLessRow 12 = .ok (.iconst (-1), 1) := dk_2 (dk_at dksX4_isLessRow_0 12 rfl rfl)
theorem dX4_isLessRow_13 : decode cX4_isLessRow 13 = .ok (.if_icmp .eq 22, 3) := dk_159 0 22 (dk_at dksX4_isLessRow_0 13 rfl rfl)
theorem dX4_isLessRow_16 : decode cX4_isLessRow 16 = .ok (.aload_n 0, 1) := dk_42 (dk_at dksX4_isLessRow_0 16 rfl rfl)
theorem dX4_isLessRow_17 : decode cX4_isLessRow 17 = .ok (.getfield 48, 3) := dk_180 0 48 (dk_at dksX4_isLessRow_0 17 rfl rfl)
theorem dX4_isLessRow_20 : decode cX4_isLessRow 20 = .ok (.iload_n 3, 1) := dk_29 (dk_at dksX4_isLessRow_0 20 rfl rfl)
theorem dX4_isLessRow_21 : decode cX4_isLessRow 21 = .ok (.iaload, 1) := dk_46 (dk_at dksX4_isLessRow_0 21 rfl rfl)
theorem dX4_isLessRow_22 : decode cX4_isLessRow 22 = .ok (.istore_n 3, 1) := dk_62 (dk_at dksX4_isLessRow_0 22 rfl rfl)
theorem dX4_isLessRow_23 : decode cX4_isLessRow 23 = .ok (.aload_n 0, 1) := dk_42 (dk_at dksX4_isLessRow_0 23 rfl rfl)
theorem dX4_isLessRow_24 : decode cX4_isLessRow 24 = .ok (.getfield 48, 3) := dk_180 0 48 (dk_at dksX4_isLessRow_1 0 rfl rfl)
theorem dX4_isLessRow_27 : decode cX4_isLessRow 27 = .ok (.iload 4, 2) := dk_21 4 (dk_at dksX4_isLessRow_1 3 rfl rfl)
theorem dX4_isLessRow_29 : decode cX4_isLessRow 29 = .ok (.iaload, 1) := dk_46 (dk_at dksX4_isLessRow_1 5 rfl rfl)
theorem dX4_isLessRow_30 : decode cX4_isLessRow 30 = .ok (.istore 4, 2) := dk_54 4 (dk_at dksX4_isLessRow_1 6 rfl rfl)
theorem dX4_isLessRow_32 : decode cX4_isLessRow 32 = .ok (.goto (-27), 3) := dk_167 255 229 (dk_at dksX4_isLessRow_1 8 rfl rfl)
theorem dX4_isLessRow_35 : decode cX4_isLessRow 35 = .ok (.iload_n 3, 1) := dk_29 (dk_at dksX4_isLessRow_1 11 rfl rfl)
theorem dX4_isLessRow_36 : decode cX4_isLessRow 36 = .ok (.iload 4, 2) := dk_21 4 (dk_at dksX4_isLessRow_1 12 rfl rfl)
theorem dX4_isLessRow_38 : decode cX4_isLessRow 38 = .ok (.if_icmp .ge 7, 3) := dk_162 0 7 (dk_at dksX4_isLessRow_1 14 rfl rfl)
theorem dX4_isLessRow_41 : decode cX4_isLessRow 41 = .ok (.iconst 1, 1) := dk_4 (dk_at dksX4_isLessRow_1 17 rfl rfl)
theorem dX4_isLessRow_42 : decode cX4_isLessRow 42 = .ok (.goto 4, 3) := dk_167 0 4 (dk_at dksX4_isLessRow_1 18 rfl rfl)
theorem dX4_isLessRow_45 : decode cX4_isLessRow 45 = .ok (.iconst 0, 1) := dk_3 (dk_at dksX4_isLessRow_1 21 rfl rfl)
theorem dX4_isLessRow_46 : decode cX4_isLessRow 46 = .ok (.ireturn, 1) := dk_172 (dk_at dksX4_isLessRow_1 22 rfl rfl)
abbrev cX4_firstOf : ByteArray := prog_15_method_54_code
def yX4_firstOf : MethodName := ⟨RX4, "firstOf", "(II)I"⟩
def dkwX4_firstOf_4 : List UInt8 := [167, 255, 170, 29, 172]
abbrev dktX4_firstOf_4 : List UInt8 := dkwX4_firstOf_4 ++ []
def dkwX4_firstOf_3 : List UInt8 := [159, 0, 13, 42, 21, 4, 29, 182, 1, 39, 153, 0, 8, 21, 4, 167, 0, 4, 29, 62, 132, 4, 1]
abbrev dktX4_firstOf_3 : List UInt8 := dkwX4_firstOf_3 ++ dktX4_firstOf_4
def dkwX4_firstOf_2 : List UInt8 := [28, 161, 0, 41, 42, 180, 0, 39, 21, 4, 46, 17, 39, 15, 160, 0, 6, 167, 0, 25, 29, 2]
abbrev dktX4_firstOf_2 : List UInt8 := dkwX4_firstOf_2 ++ dktX4_firstOf_3
def dkwX4_firstOf_1 : List UInt8 := [153, 0, 66, 42, 180, 0, 17, 21, 4, 4, 184, 0, 209, 46, 27, 160, 0, 51, 42, 21, 4, 182, 0, 250]
abbrev dktX4_firstOf_1 : List UInt8 := dkwX4_firstOf_1 ++ dktX4_firstOf_2
def dkwX4_firstOf_0 : List UInt8 := [2, 62, 3, 54, 4, 21, 4, 42, 180, 0, 17, 7, 46, 162, 0, 81, 42, 21, 4, 182, 0, 253]
abbrev dktX4_firstOf_0 : List UInt8 := dkwX4_firstOf_0 ++ dktX4_firstOf_1
theorem dksX4_firstOf_0 : cX4_firstOf.data.toList.drop 0 = dktX4_firstOf_0 := by decide +kernel
theorem dksX4_firstOf_1 : cX4_firstOf.data.toList.drop 22 = dktX4_firstOf_1 := dk_seg dksX4_firstOf_0 22 rfl rfl
theorem dksX4_firstOf_2 : cX4_firstOf.data.toList.drop 46 = dktX4_firstOf_2 := dk_seg dksX4_firstOf_1 24 rfl rfl
theorem dksX4_firstOf_3 : cX4_firstOf.data.toList.drop 68 = dktX4_firstOf_3 := dk_seg dksX4_firstOf_2 22 rfl rfl
theorem dksX4_firstOf_4 : cX4_firstOf.data.toList.drop 91 = dktX4_firstOf_4 := dk_seg dksX4_firstOf_3 23 rfl rfl
theorem dX4_firstOf_0 : decode cX4_firstOf 0 = .ok (.iconst (-1), 1) := dk_2 (dk_at dksX4_firstOf_0 0 rfl rfl)
theorem dX4_firstOf_1 : decode cX4_firstOf 1 = .ok (.istore_n 3, 1) := dk_62 (dk_at dksX4_firstOf_0 1 rfl rfl)
theorem dX4_firstOf_2 : decode cX4_firstOf 2 = .ok (.iconst 0, 1) := dk_3 (dk_at dksX4_firstOf_0 2 rfl rfl)
theorem dX4_firstOf_3 : decode cX4_firstOf 3 = .ok (.istore 4, 2) := dk_54 4 (dk_at dksX4_firstOf_0 3 rfl rfl)
theorem dX4_firstOf_5 : decode cX4_firstOf 5 = .ok (.iload 4, 2) := dk_21 4 (dk_at dksX4_firstOf_0 5 rfl rfl)
theorem dX4_firstOf_7 : decode cX4_firstOf 7 = .ok (.aload_n 0, 1) := dk_42 (dk_at dksX4_firstOf_0 7 rfl rfl)
theorem dX4_firstOf_8 : decode cX4_firstOf 8 = .ok (.getfield 17, 3) := dk_180 0 17 (dk_at dksX4_firstOf_0 8 rfl rfl)
theorem dX4_firstOf_11 : decode cX4_firstOf 11 = .ok (.iconst 4, 1) := dk_7 (dk_at dksX4_firstOf_0 11 rfl rfl)
theorem dX4_firstOf_12 : decode cX4_firstOf 12 = .ok (.iaload, 1) := dk_46 (dk_at dksX4_firstOf_0 12 rfl rfl)
theorem dX4_firstOf_13 : decode cX4_firstOf 13 = .ok (.if_icmp .ge 81, 3) := dk_162 0 81 (dk_at dksX4_firstOf_0 13 rfl rfl)
theorem dX4_firstOf_16 : decode cX4_firstOf 16 = .ok (.aload_n 0, 1) := dk_42 (dk_at dksX4_firstOf_0 16 rfl rfl)
theorem dX4_firstOf_17 : decode cX4_firstOf 17 = .ok (.iload 4, 2) := dk_21 4 (dk_at dksX4_firstOf_0 17 rfl rfl)
theorem dX4_firstOf_19 : decode cX4_firstOf 19 = .ok (.invokevirtual 253, 3) := dk_182 0 253 (dk_at dksX4_firstOf_0 19 rfl rfl)
theorem dX4_firstOf_22 : decode cX4_firstOf 22 = .ok (.ifCond .eq 66, 3) := dk_153 0 66 (dk_at dksX4_firstOf_1 0 rfl rfl)
theorem dX4_firstOf_25 : decode cX4_firstOf 25 = .ok (.aload_n 0, 1) := dk_42 (dk_at dksX4_firstOf_1 3 rfl rfl)
theorem dX4_firstOf_26 : decode cX4_firstOf 26 = .ok (.getfield 17, 3) := dk_180 0 17 (dk_at dksX4_firstOf_1 4 rfl rfl)
theorem dX4_firstOf_29 : decode cX4_firstOf 29 = .ok (.iload 4, 2) := dk_21 4 (dk_at dksX4_firstOf_1 7 rfl rfl)
theorem dX4_firstOf_31 : decode cX4_firstOf 31 = .ok (.iconst 1, 1) := dk_4 (dk_at dksX4_firstOf_1 9 rfl rfl)
theorem dX4_firstOf_32 : decode cX4_firstOf 32 = .ok (.invokestatic 209, 3) := dk_184 0 209 (dk_at dksX4_firstOf_1 10 rfl rfl)
theorem dX4_firstOf_35 : decode cX4_firstOf 35 = .ok (.iaload, 1) := dk_46 (dk_at dksX4_firstOf_1 13 rfl rfl)
theorem dX4_firstOf_36 : decode cX4_firstOf 36 = .ok (.iload_n 1, 1) := dk_27 (dk_at dksX4_firstOf_1 14 rfl rfl)
theorem dX4_firstOf_37 : decode cX4_firstOf 37 = .ok (.if_icmp .ne 51, 3) := dk_160 0 51 (dk_at dksX4_firstOf_1 15 rfl rfl)
theorem dX4_firstOf_40 : decode cX4_firstOf 40 = .ok (.aload_n 0, 1) := dk_42 (dk_at dksX4_firstOf_1 18 rfl rfl)
theorem dX4_firstOf_41 : decode cX4_firstOf 41 = .ok (.iload 4, 2) := dk_21 4 (dk_at dksX4_firstOf_1 19 rfl rfl)
theorem dX4_firstOf_43 : decode cX4_firstOf 43 = .ok (.invokevirtual 250, 3) := dk_182 0 250 (dk_at dksX4_firstOf_1 21 rfl rfl)
theorem dX4_firstOf_46 : decode cX4_firstOf 46 = .ok (.iload_n 2, 1) := dk_28 (dk_at dksX4_firstOf_2 0 rfl rfl)
theorem dX4_firstOf_47 : decode cX4_firstOf 47 = .ok (.if_icmp .lt 41, 3) := dk_161 0 41 (dk_at dksX4_firstOf_2 1 rfl rfl)
theorem dX4_firstOf_50 : decode cX4_firstOf 50 = .ok (.aload_n 0, 1) := dk_42 (dk_at dksX4_firstOf_2 4 rfl rfl)
theorem dX4_firstOf_51 : decode cX4_firstOf 51 = .ok (.getfield 39, 3) := dk_180 0 39 (dk_at dksX4_firstOf_2 5 rfl rfl)
theorem dX4_firstOf_54 : decode cX4_firstOf 54 = .ok (.iload 4, 2) := dk_21 4 (dk_at dksX4_firstOf_2 8 rfl rfl)
theorem dX4_firstOf_56 : decode cX4_firstOf 56 = .ok (.iaload, 1) := dk_46 (dk_at dksX4_firstOf_2 10 rfl rfl)
theorem dX4_firstOf_57 : decode cX4_firstOf 57 = .ok (.sipush 9999, 3) := dk_17 39 15 (dk_at dksX4_firstOf_2 11 rfl rfl)
theorem dX4_firstOf_60 : decode cX4_firstOf 60 = .ok (.if_icmp .ne 6, 3) := dk_160 0 6 (dk_at dksX4_firstOf_2 14 rfl rfl)
theorem dX4_firstOf_63 : decode cX4_firstOf 63 = .ok (.goto 25, 3) := dk_167 0 25 (dk_at dksX4_firstOf_2 17 rfl rfl)
theorem dX4_firstOf_66 : decode cX4_firstOf 66 = .ok (.iload_n 3, 1) := dk_29 (dk_at dksX4_firstOf_2 20 rfl rfl)
theorem dX4_firstOf_67 : decode cX4_firstOf 67 = .ok (.iconst (-1), 1) := dk_2 (dk_at dksX4_firstOf_2 21 rfl rfl)
theorem dX4_firstOf_68 : decode cX4_firstOf 68 = .ok (.if_icmp .eq 13, 3) := dk_159 0 13 (dk_at dksX4_firstOf_3 0 rfl rfl)
theorem dX4_firstOf_71 : decode cX4_firstOf 71 = .ok (.aload_n 0, 1) := dk_42 (dk_at dksX4_firstOf_3 3 rfl rfl)
theorem dX4_firstOf_72 : decode cX4_firstOf 72 = .ok (.iload 4, 2) := dk_21 4 (dk_at dksX4_firstOf_3 4 rfl rfl)
theorem dX4_firstOf_74 : decode cX4_firstOf 74 = .ok (.iload_n 3, 1) := dk_29 (dk_at dksX4_firstOf_3 6 rfl rfl)
theorem dX4_firstOf_75 : decode cX4_firstOf 75 = .ok (.invokevirtual 295, 3) := dk_182 1 39 (dk_at dksX4_firstOf_3 7 rfl rfl)
theorem dX4_firstOf_78 : decode cX4_firstOf 78 = .ok (.ifCond .eq 8, 3) := dk_153 0 8 (dk_at dksX4_firstOf_3 10 rfl rfl)
theorem dX4_firstOf_81 : decode cX4_firstOf 81 = .ok (.iload 4, 2) := dk_21 4 (dk_at dksX4_firstOf_3 13 rfl rfl)
theorem dX4_firstOf_83 : decode cX4_firstOf 83 = .ok (.goto 4, 3) := dk_167 0 4 (dk_at dksX4_firstOf_3 15 rfl rfl)
theorem dX4_firstOf_86 : decode cX4_firstOf 86 = .ok (.iload_n 3, 1) := dk_29 (dk_at dksX4_firstOf_3 18 rfl rfl)
theorem dX4_firstOf_87 : decode cX4_firstOf 87 = .ok (.istore_n 3, 1) := dk_62 (dk_at dksX4_firstOf_3 19 rfl rfl)
theorem dX4_firstOf_88 : decode cX4_firstOf 88 = .ok (.iinc 4 1, 3) := dk_132 4 1 (dk_at dksX4_firstOf_3 20 rfl rfl)
theorem dX4_firstOf_91 : decode cX4_firstOf 91 = .ok (.goto (-86), 3) := dk_167 255 170 (dk_at dksX4_firstOf_4 0 rfl rfl)
theorem dX4_firstOf_94 : decode cX4_firstOf 94 = .ok (.iload_n 3, 1) := dk_29 (dk_at dksX4_firstOf_4 3 rfl rfl)
theorem dX4_firstOf_95 : decode cX4_firstOf 95 = .ok (.ireturn, 1) := dk_172 (dk_at dksX4_firstOf_4 4 rfl rfl)
abbrev cX4_isBetter : ByteArray := prog_15_method_55_code
def yX4_isBetter : MethodName := ⟨RX4, "isBetter", "(II)Z"⟩
def dkwX4_isBetter_4 : List UInt8 := [42, 27, 28, 182, 1, 36, 172]
abbrev dktX4_isBetter_4 : List UInt8 := dkwX4_isBetter_4 ++ []
def dkwX4_isBetter_3 : List UInt8 := [42, 180, 0, 45, 27, 46, 100, 62, 29, 153, 0, 15, 29, 158, 0, 7, 4, 167, 0, 13, 3, 167, 0, 9]
abbrev dktX4_isBetter_3 : List UInt8 := dkwX4_isBetter_3 ++ dktX4_isBetter_4
def dkwX4_isBetter_2 : List UInt8 := [182, 0, 250, 42, 28, 182, 0, 250, 100, 62, 29, 153, 0, 7, 29, 167, 0, 16, 42, 180, 0, 45, 28, 46]
abbrev dktX4_isBetter_2 : List UInt8 := dkwX4_isBetter_2 ++ dktX4_isBetter_3
def dkwX4_isBetter_1 : List UInt8 := [180, 0, 42, 28, 46, 42, 180, 0, 42, 27, 46, 100, 62, 29, 153, 0, 7, 29, 167, 0, 14, 42, 27]
abbrev dktX4_isBetter_1 : List UInt8 := dkwX4_isBetter_1 ++ dktX4_isBetter_2
def dkwX4_isBetter_0 : List UInt8 := [42, 180, 0, 39, 28, 46, 42, 180, 0, 39, 27, 46, 100, 62, 29, 153, 0, 7, 29, 167, 0, 16, 42]
abbrev dktX4_isBetter_0 : List UInt8 := dkwX4_isBetter_0 ++ dktX4_isBetter_1
theorem dksX4_isBetter_0 : cX4_isBetter.data.toList.drop 0 = dktX4_isBetter_0 := by decide +kernel
theorem dksX4_isBetter_1 : cX4_isBetter.data.toList.drop 23 = dktX4_isBetter_1 := dk_seg dksX4_isBetter_0 23 rfl rfl
theorem dksX4_isBetter_2 : cX4_isBetter.data.toList.drop 46 = dktX4_isBetter_2 := dk_seg dksX4_isBetter_1 23 rfl rfl
theorem dksX4_isBetter_3 : cX4_isBetter.data.toList.drop 70 = dktX4_isBetter_3 := dk_seg dksX4_isBetter_2 24 rfl rfl
theorem dksX4_isBetter_4 : cX4_isBetter.data.toList.drop 94 = dktX4_isBetter_4 := dk_seg dksX4_isBetter_3 24 rfl rfl
theorem dX4_isBetter_0 : decode cX4_isBetter 0 = .ok (.aload_n 0, 1) := dk_42 (dk_at dksX4_isBetter_0 0 rfl rfl)
theorem dX4_isBetter_1 : decode cX4_isBetter 1 = .ok (.getfield 39, 3) := dk_180 0 39 (dk_at dksX4_isBetter_0 1 rfl rfl)
theorem dX4_isBetter_4 : decode cX4_isBetter 4 = .ok (.iload_n 2, 1) := dk_28 (dk_at dksX4_isBetter_0 4 rfl rfl)
theorem dX4_isBetter_5 : decode cX4_isBetter 5 = .ok (.iaload, 1) := dk_46 (dk_at dksX4_isBetter_0 5 rfl rfl)
theorem dX4_isBetter_6 : decode cX4_isBetter 6 = .ok (.aload_n 0, 1) := dk_42 (dk_at dksX4_isBetter_0 6 rfl rfl)
theorem dX4_isBetter_7 : decode cX4_isBetter 7 = .ok (.getfield 39, 3) := dk_180 0 39 (dk_at dksX4_isBetter_0 7 rfl rfl)
theorem dX4_isBetter_10 : decode cX4_isBetter 10 = .ok (.iload_n 1, 1) := dk_27 (dk_at dksX4_isBetter_0 10 rfl rfl)
theorem dX4_isBetter_11 : decode cX4_isBetter 11 = .ok (.iaload, 1) := dk_46 (dk_at dksX4_isBetter_0 11 rfl rfl)
theorem dX4_isBetter_12 : decode cX4_isBetter 12 = .ok (.isub, 1) := dk_100 (dk_at dksX4_isBetter_0 12 rfl rfl)
theorem dX4_isBetter_13 : decode cX4_isBetter 13 = .ok (.istore_n 3, 1) := dk_62 (dk_at dksX4_isBetter_0 13 rfl rfl)
theorem dX4_isBetter_14 : decode cX4_isBetter 14 = .ok (.iload_n 3, 1) := dk_29 (dk_at dksX4_isBetter_0 14 rfl rfl)
theorem dX4_isBetter_15 : decode cX4_isBetter 15 = .ok (.ifCond .eq 7, 3) := dk_153 0 7 (dk_at dksX4_isBetter_0 15 rfl rfl)
theorem dX4_isBetter_18 : decode cX4_isBetter 18 = .ok (.iload_n 3, 1) := dk_29 (dk_at dksX4_isBetter_0 18 rfl rfl)
theorem dX4_isBetter_19 : decode cX4_isBetter 19 = .ok (.goto 16, 3) := dk_167 0 16 (dk_at dksX4_isBetter_0 19 rfl rfl)
theorem dX4_isBetter_22 : decode cX4_isBetter 22 = .ok (.aload_n 0, 1) := dk_42 (dk_at dksX4_isBetter_0 22 rfl rfl)
theorem dX4_isBetter_23 : decode cX4_isBetter 23 = .ok (.getfield 42, 3) := dk_180 0 42 (dk_at dksX4_isBetter_1 0 rfl rfl)
theorem dX4_isBetter_26 : decode cX4_isBetter 26 = .ok (.iload_n 2, 1) := dk_28 (dk_at dksX4_isBetter_1 3 rfl rfl)
theorem dX4_isBetter_27 : decode cX4_isBetter 27 = .ok (.iaload, 1) := dk_46 (dk_at dksX4_isBetter_1 4 rfl rfl)
theorem dX4_isBetter_28 : decode cX4_isBetter 28 = .ok (.aload_n 0, 1) := dk_42 (dk_at dksX4_isBetter_1 5 rfl rfl)
theorem dX4_isBetter_29 : decode cX4_isBetter 29 = .ok (.getfield 42, 3) := dk_180 0 42 (dk_at dksX4_isBetter_1 6 rfl rfl)
theorem dX4_isBetter_32 : decode cX4_isBetter 32 = .ok (.iload_n 1, 1) := dk_27 (dk_at dksX4_isBetter_1 9 rfl rfl)
theorem dX4_isBetter_33 : decode cX4_isBetter 33 = .ok (.iaload, 1) := dk_46 (dk_at dksX4_isBetter_1 10 rfl rfl)
theorem dX4_isBetter_34 : decode cX4_isBetter 34 = .ok (.isub, 1) := dk_100 (dk_at dksX4_isBetter_1 11 rfl rfl)
theorem dX4_isBetter_35 : decode cX4_isBetter 35 = .ok (.istore_n 3, 1) := dk_62 (dk_at dksX4_isBetter_1 12 rfl rfl)
theorem dX4_isBetter_36 : decode cX4_isBetter 36 = .ok (.iload_n 3, 1) := dk_29 (dk_at dksX4_isBetter_1 13 rfl rfl)
theorem dX4_isBetter_37 : decode cX4_isBetter 37 = .ok (.ifCond .eq 7, 3) := dk_153 0 7 (dk_at dksX4_isBetter_1 14 rfl rfl)
theorem dX4_isBetter_40 : decode cX4_isBetter 40 = .ok (.iload_n 3, 1) := dk_29 (dk_at dksX4_isBetter_1 17 rfl rfl)
theorem dX4_isBetter_41 : decode cX4_isBetter 41 = .ok (.goto 14, 3) := dk_167 0 14 (dk_at dksX4_isBetter_1 18 rfl rfl)
theorem dX4_isBetter_44 : decode cX4_isBetter 44 = .ok (.aload_n 0, 1) := dk_42 (dk_at dksX4_isBetter_1 21 rfl rfl)
theorem dX4_isBetter_45 : decode cX4_isBetter 45 = .ok (.iload_n 1, 1) := dk_27 (dk_at dksX4_isBetter_1 22 rfl rfl)
theorem dX4_isBetter_46 : decode cX4_isBetter 46 = .ok (.invokevirtual 250, 3) := dk_182 0 250 (dk_at dksX4_isBetter_2 0 rfl rfl)
theorem dX4_isBetter_49 : decode cX4_isBetter 49 = .ok (.aload_n 0, 1) := dk_42 (dk_at dksX4_isBetter_2 3 rfl rfl)
theorem dX4_isBetter_50 : decode cX4_isBetter 50 = .ok (.iload_n 2, 1) := dk_28 (dk_at dksX4_isBetter_2 4 rfl rfl)
theorem dX4_isBetter_51 : decode cX4_isBetter 51 = .ok (.invokevirtual 250, 3) := dk_182 0 250 (dk_at dksX4_isBetter_2 5 rfl rfl)
theorem dX4_isBetter_54 : decode cX4_isBetter 54 = .ok (.isub, 1) := dk_100 (dk_at dksX4_isBetter_2 8 rfl rfl)
theorem dX4_isBetter_55 : decode cX4_isBetter 55 = .ok (.istore_n 3, 1) := dk_62 (dk_at dksX4_isBetter_2 9 rfl rfl)
theorem dX4_isBetter_56 : decode cX4_isBetter 56 = .ok (.iload_n 3, 1) := dk_29 (dk_at dksX4_isBetter_2 10 rfl rfl)
theorem dX4_isBetter_57 : decode cX4_isBetter 57 = .ok (.ifCond .eq 7, 3) := dk_153 0 7 (dk_at dksX4_isBetter_2 11 rfl rfl)
theorem dX4_isBetter_60 : decode cX4_isBetter 60 = .ok (.iload_n 3, 1) := dk_29 (dk_at dksX4_isBetter_2 14 rfl rfl)
theorem dX4_isBetter_61 : decode cX4_isBetter 61 = .ok (.goto 16, 3) := dk_167 0 16 (dk_at dksX4_isBetter_2 15 rfl rfl)
theorem dX4_isBetter_64 : decode cX4_isBetter 64 = .ok (.aload_n 0, 1) := dk_42 (dk_at dksX4_isBetter_2 18 rfl rfl)
theorem dX4_isBetter_65 : decode cX4_isBetter 65 = .ok (.getfield 45, 3) := dk_180 0 45 (dk_at dksX4_isBetter_2 19 rfl rfl)
theorem dX4_isBetter_68 : decode cX4_isBetter 68 = .ok (.iload_n 2, 1) := dk_28 (dk_at dksX4_isBetter_2 22 rfl rfl)
theorem dX4_isBetter_69 : decode cX4_isBetter 69 = .ok (.iaload, 1) := dk_46 (dk_at dksX4_isBetter_2 23 rfl rfl)
theorem dX4_isBetter_70 : decode cX4_isBetter 70 = .ok (.aload_n 0, 1) := dk_42 (dk_at dksX4_isBetter_3 0 rfl rfl)
theorem dX4_isBetter_71 : decode cX4_isBetter 71 = .ok (.getfield 45, 3) := dk_180 0 45 (dk_at dksX4_isBetter_3 1 rfl rfl)
theorem dX4_isBetter_74 : decode cX4_isBetter 74 = .ok (.iload_n 1, 1) := dk_27 (dk_at dksX4_isBetter_3 4 rfl rfl)
theorem dX4_isBetter_75 : decode cX4_isBetter 75 = .ok (.iaload, 1) := dk_46 (dk_at dksX4_isBetter_3 5 rfl rfl)
theorem dX4_isBetter_76 : decode cX4_isBetter 76 = .ok (.isub, 1) := dk_100 (dk_at dksX4_isBetter_3 6 rfl rfl)
theorem dX4_isBetter_77 : decode cX4_isBetter 77 = .ok (.istore_n 3, 1) := dk_62 (dk_at dksX4_isBetter_3 7 rfl rfl)
theorem dX4_isBetter_78 : decode cX4_isBetter 78 = .ok (.iload_n 3, 1) := dk_29 (dk_at dksX4_isBetter_3 8 rfl rfl)
theorem dX4_isBetter_79 : decode cX4_isBetter 79 = .ok (.ifCond .eq 15, 3) := dk_153 0 15 (dk_at dksX4_isBetter_3 9 rfl rfl)
theorem dX4_isBetter_82 : decode cX4_isBetter 82 = .ok (.iload_n 3, 1) := dk_29 (dk_at dksX4_isBetter_3 12 rfl rfl)
theorem dX4_isBetter_83 : decode cX4_isBetter 83 = .ok (.ifCond .le 7, 3) := dk_158 0 7 (dk_at dksX4_isBetter_3 13 rfl rfl)
theorem dX4_isBetter_86 : decode cX4_isBetter 86 = .ok (.iconst 1, 1) := dk_4 (dk_at dksX4_isBetter_3 16 rfl rfl)
theorem dX4_isBetter_87 : decode cX4_isBetter 87 = .ok (.goto 13, 3) := dk_167 0 13 (dk_at dksX4_isBetter_3 17 rfl rfl)
theorem dX4_isBetter_90 : decode cX4_isBetter 90 = .ok (.iconst 0, 1) := dk_3 (dk_at dksX4_isBetter_3 20 rfl rfl)
theorem dX4_isBetter_91 : decode cX4_isBetter 91 = .ok (.goto 9, 3) := dk_167 0 9 (dk_at dksX4_isBetter_3 21 rfl rfl)
theorem dX4_isBetter_94 : decode cX4_isBetter 94 = .ok (.aload_n 0, 1) := dk_42 (dk_at dksX4_isBetter_4 0 rfl rfl)
theorem dX4_isBetter_95 : decode cX4_isBetter 95 = .ok (.iload_n 1, 1) := dk_27 (dk_at dksX4_isBetter_4 1 rfl rfl)
theorem dX4_isBetter_96 : decode cX4_isBetter 96 = .ok (.iload_n 2, 1) := dk_28 (dk_at dksX4_isBetter_4 2 rfl rfl)
theorem dX4_isBetter_97 : decode cX4_isBetter 97 = .ok (.invokevirtual 292, 3) := dk_182 1 36 (dk_at dksX4_isBetter_4 3 rfl rfl)
theorem dX4_isBetter_100 : decode cX4_isBetter 100 = .ok (.ireturn, 1) := dk_172 (dk_at dksX4_isBetter_4 6 rfl rfl)
abbrev cX4_changes : ByteArray := prog_15_method_60_code
def yX4_changes : MethodName := ⟨RX4, "changes", "(III)I"⟩
def dkwX4_changes_2 : List UInt8 := [180, 0, 42, 21, 4, 46, 172]
abbrev dktX4_changes_2 : List UInt8 := dkwX4_changes_2 ++ []
def dkwX4_changes_1 : List UInt8 := [54, 4, 21, 4, 2, 160, 0, 17, 27, 28, 160, 0, 7, 3, 167, 0, 15, 16, 254, 167, 0, 10, 42]
abbrev dktX4_changes_1 : List UInt8 := dkwX4_changes_1 ++ dktX4_changes_2
def dkwX4_changes_0 : List UInt8 := [42, 42, 27, 28, 29, 182, 1, 51, 182, 0, 228, 153, 0, 5, 2, 172, 42, 27, 28, 29, 182, 1, 58]
abbrev dktX4_changes_0 : List UInt8 := dkwX4_changes_0 ++ dktX4_changes_1
theorem dksX4_changes_0 : cX4_changes.data.toList.drop 0 = dktX4_changes_0 := by decide +kernel
theorem dksX4_changes_1 : cX4_changes.data.toList.drop 23 = dktX4_changes_1 := dk_seg dksX4_changes_0 23 rfl rfl
theorem dksX4_changes_2 : cX4_changes.data.toList.drop 46 = dktX4_changes_2 := dk_seg dksX4_changes_1 23 rfl rfl
theorem dX4_changes_0 : decode cX4_changes 0 = .ok (.aload_n 0, 1) := dk_42 (dk_at dksX4_changes_0 0 rfl rfl)
theorem dX4_changes_1 : decode cX4_changes 1 = .ok (.aload_n 0, 1) := dk_42 (dk_at dksX4_changes_0 1 rfl rfl)
theorem dX4_changes_2 : decode cX4_changes 2 = .ok (.iload_n 1, 1) := dk_27 (dk_at dksX4_changes_0 2 rfl rfl)
theorem dX4_changes_3 : decode cX4_changes 3 = .ok (.iload_n 2, 1) := dk_28 (dk_at dksX4_changes_0 3 rfl rfl)
theorem dX4_changes_4 : decode cX4_changes 4 = .ok (.iload_n 3, 1) := dk_29 (dk_at dksX4_changes_0 4 rfl rfl)
theorem dX4_changes_5 : decode cX4_changes 5 = .ok (.invokevirtual 307, 3) := dk_182 1 51 (dk_at dksX4_changes_0 5 rfl rfl)
theorem dX4_changes_8 : decode cX4_changes 8 = .ok (.invokevirtual 228, 3) := dk_182 0 228 (dk_at dksX4_changes_0 8 rfl rfl)
theorem dX4_changes_11 : decode cX4_changes 11 = .ok (.ifCond .eq 5, 3) := dk_153 0 5 (dk_at dksX4_changes_0 11 rfl rfl)
theorem dX4_changes_14 : decode cX4_changes 14 = .ok (.iconst (-1), 1) := dk_2 (dk_at dksX4_changes_0 14 rfl rfl)
theorem dX4_changes_15 : decode cX4_changes 15 = .ok (.ireturn, 1) := dk_172 (dk_at dksX4_changes_0 15 rfl rfl)
theorem dX4_changes_16 : decode cX4_changes 16 = .ok (.aload_n 0, 1) := dk_42 (dk_at dksX4_changes_0 16 rfl rfl)
theorem dX4_changes_17 : decode cX4_changes 17 = .ok (.iload_n 1, 1) := dk_27 (dk_at dksX4_changes_0 17 rfl rfl)
theorem dX4_changes_18 : decode cX4_changes 18 = .ok (.iload_n 2, 1) := dk_28 (dk_at dksX4_changes_0 18 rfl rfl)
theorem dX4_changes_19 : decode cX4_changes 19 = .ok (.iload_n 3, 1) := dk_29 (dk_at dksX4_changes_0 19 rfl rfl)
theorem dX4_changes_20 : decode cX4_changes 20 = .ok (.invokevirtual 314, 3) := dk_182 1 58 (dk_at dksX4_changes_0 20 rfl rfl)
theorem dX4_changes_23 : decode cX4_changes 23 = .ok (.istore 4, 2) := dk_54 4 (dk_at dksX4_changes_1 0 rfl rfl)
theorem dX4_changes_25 : decode cX4_changes 25 = .ok (.iload 4, 2) := dk_21 4 (dk_at dksX4_changes_1 2 rfl rfl)
theorem dX4_changes_27 : decode cX4_changes 27 = .ok (.iconst (-1), 1) := dk_2 (dk_at dksX4_changes_1 4 rfl rfl)
theorem dX4_changes_28 : decode cX4_changes 28 = .ok (.if_icmp .ne 17, 3) := dk_160 0 17 (dk_at dksX4_changes_1 5 rfl rfl)
theorem dX4_changes_31 : decode cX4_changes 31 = .ok (.iload_n 1, 1) := dk_27 (dk_at dksX4_changes_1 8 rfl rfl)
theorem dX4_changes_32 : decode cX4_changes 32 = .ok (.iload_n 2, 1) := dk_28 (dk_at dksX4_changes_1 9 rfl rfl)
theorem dX4_changes_33 : decode cX4_changes 33 = .ok (.if_icmp .ne 7, 3) := dk_160 0 7 (dk_at dksX4_changes_1 10 rfl rfl)
theorem dX4_changes_36 : decode cX4_changes 36 = .ok (.iconst 0, 1) := dk_3 (dk_at dksX4_changes_1 13 rfl rfl)
theorem dX4_changes_37 : decode cX4_changes 37 = .ok (.goto 15, 3) := dk_167 0 15 (dk_at dksX4_changes_1 14 rfl rfl)
theorem dX4_changes_40 : decode cX4_changes 40 = .ok (.bipush (-2), 2) := dk_16 254 (dk_at dksX4_changes_1 17 rfl rfl)
theorem dX4_changes_42 : decode cX4_changes 42 = .ok (.goto 10, 3) := dk_167 0 10 (dk_at dksX4_changes_1 19 rfl rfl)
theorem dX4_changes_45 : decode cX4_changes 45 = .ok (.aload_n 0, 1) := dk_42 (dk_at dksX4_changes_1 22 rfl rfl)
theorem dX4_changes_46 : decode cX4_changes 46 = .ok (.getfield 42, 3) := dk_180 0 42 (dk_at dksX4_changes_2 0 rfl rfl)
theorem dX4_changes_49 : decode cX4_changes 49 = .ok (.iload 4, 2) := dk_21 4 (dk_at dksX4_changes_2 3 rfl rfl)
theorem dX4_changes_51 : decode cX4_changes 51 = .ok (.iaload, 1) := dk_46 (dk_at dksX4_changes_2 5 rfl rfl)
theorem dX4_changes_52 : decode cX4_changes 52 = .ok (.ireturn, 1) := dk_172 (dk_at dksX4_changes_2 6 rfl rfl)
abbrev cX4_begins_2 : ByteArray := prog_15_method_59_code
def yX4_begins_2 : MethodName := ⟨RX4, "begins", "(III)I"⟩
def dkwX4_begins_2_1 : List UInt8 := [167, 0, 9, 42, 27, 29, 182, 1, 45, 172]
abbrev dktX4_begins_2_1 : List UInt8 := dkwX4_begins_2_1 ++ []
def dkwX4_begins_2_0 : List UInt8 := [42, 27, 28, 29, 182, 1, 55, 54, 4, 27, 28, 159, 0, 10, 21, 4, 16, 254, 160, 0, 7, 2]
abbrev dktX4_begins_2_0 : List UInt8 := dkwX4_begins_2_0 ++ dktX4_begins_2_1
theorem dksX4_begins_2_0 : cX4_begins_2.data.toList.drop 0 = dktX4_begins_2_0 := by decide +kernel
theorem dksX4_begins_2_1 : cX4_begins_2.data.toList.drop 22 = dktX4_begins_2_1 := dk_seg dksX4_begins_2_0 22 rfl rfl
theorem dX4_begins_2_0 : decode cX4_begins_2 0 = .ok (.aload_n 0, 1) := dk_42 (dk_at dksX4_begins_2_0 0 rfl rfl)
theorem dX4_begins_2_1 : decode cX4_begins_2 1 = .ok (.iload_n 1, 1) := dk_27 (dk_at dksX4_begins_2_0 1 rfl rfl)
theorem dX4_begins_2_2 : decode cX4_begins_2 2 = .ok (.iload_n 2, 1) := dk_28 (dk_at dksX4_begins_2_0 2 rfl rfl)
theorem dX4_begins_2_3 : decode cX4_begins_2 3 = .ok (.iload_n 3, 1) := dk_29 (dk_at dksX4_begins_2_0 3 rfl rfl)
theorem dX4_begins_2_4 : decode cX4_begins_2 4 = .ok (.invokevirtual 311, 3) := dk_182 1 55 (dk_at dksX4_begins_2_0 4 rfl rfl)
theorem dX4_begins_2_7 : decode cX4_begins_2 7 = .ok (.istore 4, 2) := dk_54 4 (dk_at dksX4_begins_2_0 7 rfl rfl)
theorem dX4_begins_2_9 : decode cX4_begins_2 9 = .ok (.iload_n 1, 1) := dk_27 (dk_at dksX4_begins_2_0 9 rfl rfl)
theorem dX4_begins_2_10 : decode cX4_begins_2 10 = .ok (.iload_n 2, 1) := dk_28 (dk_at dksX4_begins_2_0 10 rfl rfl)
theorem dX4_begins_2_11 : decode cX4_begins_2 11 = .ok (.if_icmp .eq 10, 3) := dk_159 0 10 (dk_at dksX4_begins_2_0 11 rfl rfl)
theorem dX4_begins_2_14 : decode cX4_begins_2 14 = .ok (.iload 4, 2) := dk_21 4 (dk_at dksX4_begins_2_0 14 rfl rfl)
theorem dX4_begins_2_16 : decode cX4_begins_2 16 = .ok (.bipush (-2), 2) := dk_16 254 (dk_at dksX4_begins_2_0 16 rfl rfl)
theorem dX4_begins_2_18 : decode cX4_begins_2 18 = .ok (.if_icmp .ne 7, 3) := dk_160 0 7 (dk_at dksX4_begins_2_0 18 rfl rfl)
theorem dX4_begins_2_21 : decode cX4_begins_2 21 = .ok (.iconst (-1), 1) := dk_2 (dk_at dksX4_begins_2_0 21 rfl rfl)
theorem dX4_begins_2_22 : decode cX4_begins_2 22 = .ok (.goto 9, 3) := dk_167 0 9 (dk_at dksX4_begins_2_1 0 rfl rfl)
theorem dX4_begins_2_25 : decode cX4_begins_2 25 = .ok (.aload_n 0, 1) := dk_42 (dk_at dksX4_begins_2_1 3 rfl rfl)
theorem dX4_begins_2_26 : decode cX4_begins_2 26 = .ok (.iload_n 1, 1) := dk_27 (dk_at dksX4_begins_2_1 4 rfl rfl)
theorem dX4_begins_2_27 : decode cX4_begins_2 27 = .ok (.iload_n 3, 1) := dk_29 (dk_at dksX4_begins_2_1 5 rfl rfl)
theorem dX4_begins_2_28 : decode cX4_begins_2 28 = .ok (.invokevirtual 301, 3) := dk_182 1 45 (dk_at dksX4_begins_2_1 6 rfl rfl)
theorem dX4_begins_2_31 : decode cX4_begins_2 31 = .ok (.ireturn, 1) := dk_172 (dk_at dksX4_begins_2_1 9 rfl rfl)
abbrev cX4_leaves : ByteArray := prog_15_method_61_code
def yX4_leaves : MethodName := ⟨RX4, "leaves", "(III)I"⟩
def dkwX4_leaves_2 : List UInt8 := [21, 4, 182, 0, 250, 172]
abbrev dktX4_leaves_2 : List UInt8 := dkwX4_leaves_2 ++ []
def dkwX4_leaves_1 : List UInt8 := [54, 4, 21, 4, 2, 160, 0, 17, 27, 28, 160, 0, 7, 29, 167, 0, 14, 16, 254, 167, 0, 9, 42]
abbrev dktX4_leaves_1 : List UInt8 := dkwX4_leaves_1 ++ dktX4_leaves_2
def dkwX4_leaves_0 : List UInt8 := [42, 42, 27, 28, 29, 182, 1, 51, 182, 0, 228, 153, 0, 5, 2, 172, 42, 27, 28, 29, 182, 1, 58]
abbrev dktX4_leaves_0 : List UInt8 := dkwX4_leaves_0 ++ dktX4_leaves_1
theorem dksX4_leaves_0 : cX4_leaves.data.toList.drop 0 = dktX4_leaves_0 := by decide +kernel
theorem dksX4_leaves_1 : cX4_leaves.data.toList.drop 23 = dktX4_leaves_1 := dk_seg dksX4_leaves_0 23 rfl rfl
theorem dksX4_leaves_2 : cX4_leaves.data.toList.drop 46 = dktX4_leaves_2 := dk_seg dksX4_leaves_1 23 rfl rfl
theorem dX4_leaves_0 : decode cX4_leaves 0 = .ok (.aload_n 0, 1) := dk_42 (dk_at dksX4_leaves_0 0 rfl rfl)
theorem dX4_leaves_1 : decode cX4_leaves 1 = .ok (.aload_n 0, 1) := dk_42 (dk_at dksX4_leaves_0 1 rfl rfl)
theorem dX4_leaves_2 : decode cX4_leaves 2 = .ok (.iload_n 1, 1) := dk_27 (dk_at dksX4_leaves_0 2 rfl rfl)
theorem dX4_leaves_3 : decode cX4_leaves 3 = .ok (.iload_n 2, 1) := dk_28 (dk_at dksX4_leaves_0 3 rfl rfl)
theorem dX4_leaves_4 : decode cX4_leaves 4 = .ok (.iload_n 3, 1) := dk_29 (dk_at dksX4_leaves_0 4 rfl rfl)
theorem dX4_leaves_5 : decode cX4_leaves 5 = .ok (.invokevirtual 307, 3) := dk_182 1 51 (dk_at dksX4_leaves_0 5 rfl rfl)
theorem dX4_leaves_8 : decode cX4_leaves 8 = .ok (.invokevirtual 228, 3) := dk_182 0 228 (dk_at dksX4_leaves_0 8 rfl rfl)
theorem dX4_leaves_11 : decode cX4_leaves 11 = .ok (.ifCond .eq 5, 3) := dk_153 0 5 (dk_at dksX4_leaves_0 11 rfl rfl)
theorem dX4_leaves_14 : decode cX4_leaves 14 = .ok (.iconst (-1), 1) := dk_2 (dk_at dksX4_leaves_0 14 rfl rfl)
theorem dX4_leaves_15 : decode cX4_leaves 15 = .ok (.ireturn, 1) := dk_172 (dk_at dksX4_leaves_0 15 rfl rfl)
theorem dX4_leaves_16 : decode cX4_leaves 16 = .ok (.aload_n 0, 1) := dk_42 (dk_at dksX4_leaves_0 16 rfl rfl)
theorem dX4_leaves_17 : decode cX4_leaves 17 = .ok (.iload_n 1, 1) := dk_27 (dk_at dksX4_leaves_0 17 rfl rfl)
theorem dX4_leaves_18 : decode cX4_leaves 18 = .ok (.iload_n 2, 1) := dk_28 (dk_at dksX4_leaves_0 18 rfl rfl)
theorem dX4_leaves_19 : decode cX4_leaves 19 = .ok (.iload_n 3, 1) := dk_29 (dk_at dksX4_leaves_0 19 rfl rfl)
theorem dX4_leaves_20 : decode cX4_leaves 20 = .ok (.invokevirtual 314, 3) := dk_182 1 58 (dk_at dksX4_leaves_0 20 rfl rfl)
theorem dX4_leaves_23 : decode cX4_leaves 23 = .ok (.istore 4, 2) := dk_54 4 (dk_at dksX4_leaves_1 0 rfl rfl)
theorem dX4_leaves_25 : decode cX4_leaves 25 = .ok (.iload 4, 2) := dk_21 4 (dk_at dksX4_leaves_1 2 rfl rfl)
theorem dX4_leaves_27 : decode cX4_leaves 27 = .ok (.iconst (-1), 1) := dk_2 (dk_at dksX4_leaves_1 4 rfl rfl)
theorem dX4_leaves_28 : decode cX4_leaves 28 = .ok (.if_icmp .ne 17, 3) := dk_160 0 17 (dk_at dksX4_leaves_1 5 rfl rfl)
theorem dX4_leaves_31 : decode cX4_leaves 31 = .ok (.iload_n 1, 1) := dk_27 (dk_at dksX4_leaves_1 8 rfl rfl)
theorem dX4_leaves_32 : decode cX4_leaves 32 = .ok (.iload_n 2, 1) := dk_28 (dk_at dksX4_leaves_1 9 rfl rfl)
theorem dX4_leaves_33 : decode cX4_leaves 33 = .ok (.if_icmp .ne 7, 3) := dk_160 0 7 (dk_at dksX4_leaves_1 10 rfl rfl)
theorem dX4_leaves_36 : decode cX4_leaves 36 = .ok (.iload_n 3, 1) := dk_29 (dk_at dksX4_leaves_1 13 rfl rfl)
theorem dX4_leaves_37 : decode cX4_leaves 37 = .ok (.goto 14, 3) := dk_167 0 14 (dk_at dksX4_leaves_1 14 rfl rfl)
theorem dX4_leaves_40 : decode cX4_leaves 40 = .ok (.bipush (-2), 2) := dk_16 254 (dk_at dksX4_leaves_1 17 rfl rfl)
theorem dX4_leaves_42 : decode cX4_leaves 42 = .ok (.goto 9, 3) := dk_167 0 9 (dk_at dksX4_leaves_1 19 rfl rfl)
theorem dX4_leaves_45 : decode cX4_leaves 45 = .ok (.aload_n 0, 1) := dk_42 (dk_at dksX4_leaves_1 22 rfl rfl)
theorem dX4_leaves_46 : decode cX4_leaves 46 = .ok (.iload 4, 2) := dk_21 4 (dk_at dksX4_leaves_2 0 rfl rfl)
theorem dX4_leaves_48 : decode cX4_leaves 48 = .ok (.invokevirtual 250, 3) := dk_182 0 250 (dk_at dksX4_leaves_2 2 rfl rfl)
theorem dX4_leaves_51 : decode cX4_leaves 51 = .ok (.ireturn, 1) := dk_172 (dk_at dksX4_leaves_2 5 rfl rfl)
abbrev cX4_rides : ByteArray := prog_15_method_62_code
def yX4_rides : MethodName := ⟨RX4, "rides", "(III)I"⟩
def dkwX4_rides_2 : List UInt8 := [180, 0, 45, 21, 4, 46, 172]
abbrev dktX4_rides_2 : List UInt8 := dkwX4_rides_2 ++ []
def dkwX4_rides_1 : List UInt8 := [54, 4, 21, 4, 2, 160, 0, 17, 27, 28, 160, 0, 7, 3, 167, 0, 15, 16, 254, 167, 0, 10, 42]
abbrev dktX4_rides_1 : List UInt8 := dkwX4_rides_1 ++ dktX4_rides_2
def dkwX4_rides_0 : List UInt8 := [42, 42, 27, 28, 29, 182, 1, 51, 182, 0, 228, 153, 0, 5, 2, 172, 42, 27, 28, 29, 182, 1, 58]
abbrev dktX4_rides_0 : List UInt8 := dkwX4_rides_0 ++ dktX4_rides_1
theorem dksX4_rides_0 : cX4_rides.data.toList.drop 0 = dktX4_rides_0 := by decide +kernel
theorem dksX4_rides_1 : cX4_rides.data.toList.drop 23 = dktX4_rides_1 := dk_seg dksX4_rides_0 23 rfl rfl
theorem dksX4_rides_2 : cX4_rides.data.toList.drop 46 = dktX4_rides_2 := dk_seg dksX4_rides_1 23 rfl rfl
theorem dX4_rides_0 : decode cX4_rides 0 = .ok (.aload_n 0, 1) := dk_42 (dk_at dksX4_rides_0 0 rfl rfl)
theorem dX4_rides_1 : decode cX4_rides 1 = .ok (.aload_n 0, 1) := dk_42 (dk_at dksX4_rides_0 1 rfl rfl)
theorem dX4_rides_2 : decode cX4_rides 2 = .ok (.iload_n 1, 1) := dk_27 (dk_at dksX4_rides_0 2 rfl rfl)
theorem dX4_rides_3 : decode cX4_rides 3 = .ok (.iload_n 2, 1) := dk_28 (dk_at dksX4_rides_0 3 rfl rfl)
theorem dX4_rides_4 : decode cX4_rides 4 = .ok (.iload_n 3, 1) := dk_29 (dk_at dksX4_rides_0 4 rfl rfl)
theorem dX4_rides_5 : decode cX4_rides 5 = .ok (.invokevirtual 307, 3) := dk_182 1 51 (dk_at dksX4_rides_0 5 rfl rfl)
theorem dX4_rides_8 : decode cX4_rides 8 = .ok (.invokevirtual 228, 3) := dk_182 0 228 (dk_at dksX4_rides_0 8 rfl rfl)
theorem dX4_rides_11 : decode cX4_rides 11 = .ok (.ifCond .eq 5, 3) := dk_153 0 5 (dk_at dksX4_rides_0 11 rfl rfl)
theorem dX4_rides_14 : decode cX4_rides 14 = .ok (.iconst (-1), 1) := dk_2 (dk_at dksX4_rides_0 14 rfl rfl)
theorem dX4_rides_15 : decode cX4_rides 15 = .ok (.ireturn, 1) := dk_172 (dk_at dksX4_rides_0 15 rfl rfl)
theorem dX4_rides_16 : decode cX4_rides 16 = .ok (.aload_n 0, 1) := dk_42 (dk_at dksX4_rides_0 16 rfl rfl)
theorem dX4_rides_17 : decode cX4_rides 17 = .ok (.iload_n 1, 1) := dk_27 (dk_at dksX4_rides_0 17 rfl rfl)
theorem dX4_rides_18 : decode cX4_rides 18 = .ok (.iload_n 2, 1) := dk_28 (dk_at dksX4_rides_0 18 rfl rfl)
theorem dX4_rides_19 : decode cX4_rides 19 = .ok (.iload_n 3, 1) := dk_29 (dk_at dksX4_rides_0 19 rfl rfl)
theorem dX4_rides_20 : decode cX4_rides 20 = .ok (.invokevirtual 314, 3) := dk_182 1 58 (dk_at dksX4_rides_0 20 rfl rfl)
theorem dX4_rides_23 : decode cX4_rides 23 = .ok (.istore 4, 2) := dk_54 4 (dk_at dksX4_rides_1 0 rfl rfl)
theorem dX4_rides_25 : decode cX4_rides 25 = .ok (.iload 4, 2) := dk_21 4 (dk_at dksX4_rides_1 2 rfl rfl)
theorem dX4_rides_27 : decode cX4_rides 27 = .ok (.iconst (-1), 1) := dk_2 (dk_at dksX4_rides_1 4 rfl rfl)
theorem dX4_rides_28 : decode cX4_rides 28 = .ok (.if_icmp .ne 17, 3) := dk_160 0 17 (dk_at dksX4_rides_1 5 rfl rfl)
theorem dX4_rides_31 : decode cX4_rides 31 = .ok (.iload_n 1, 1) := dk_27 (dk_at dksX4_rides_1 8 rfl rfl)
theorem dX4_rides_32 : decode cX4_rides 32 = .ok (.iload_n 2, 1) := dk_28 (dk_at dksX4_rides_1 9 rfl rfl)
theorem dX4_rides_33 : decode cX4_rides 33 = .ok (.if_icmp .ne 7, 3) := dk_160 0 7 (dk_at dksX4_rides_1 10 rfl rfl)
theorem dX4_rides_36 : decode cX4_rides 36 = .ok (.iconst 0, 1) := dk_3 (dk_at dksX4_rides_1 13 rfl rfl)
theorem dX4_rides_37 : decode cX4_rides 37 = .ok (.goto 15, 3) := dk_167 0 15 (dk_at dksX4_rides_1 14 rfl rfl)
theorem dX4_rides_40 : decode cX4_rides 40 = .ok (.bipush (-2), 2) := dk_16 254 (dk_at dksX4_rides_1 17 rfl rfl)
theorem dX4_rides_42 : decode cX4_rides 42 = .ok (.goto 10, 3) := dk_167 0 10 (dk_at dksX4_rides_1 19 rfl rfl)
theorem dX4_rides_45 : decode cX4_rides 45 = .ok (.aload_n 0, 1) := dk_42 (dk_at dksX4_rides_1 22 rfl rfl)
theorem dX4_rides_46 : decode cX4_rides 46 = .ok (.getfield 45, 3) := dk_180 0 45 (dk_at dksX4_rides_2 0 rfl rfl)
theorem dX4_rides_49 : decode cX4_rides 49 = .ok (.iload 4, 2) := dk_21 4 (dk_at dksX4_rides_2 3 rfl rfl)
theorem dX4_rides_51 : decode cX4_rides 51 = .ok (.iaload, 1) := dk_46 (dk_at dksX4_rides_2 5 rfl rfl)
theorem dX4_rides_52 : decode cX4_rides 52 = .ok (.ireturn, 1) := dk_172 (dk_at dksX4_rides_2 6 rfl rfl)
abbrev cX4_ride : ByteArray := prog_15_method_63_code
def yX4_ride : MethodName := ⟨RX4, "ride", "(IIII)I"⟩
def dkwX4_ride_3 : List UInt8 := [21, 4, 155, 0, 9, 21, 5, 2, 160, 0, 11, 42, 4, 182, 0, 237, 167, 0, 5, 21, 5, 172]
abbrev dktX4_ride_3 : List UInt8 := dkwX4_ride_3 ++ []
def dkwX4_ride_2 : List UInt8 := [162, 0, 24, 21, 5, 2, 159, 0, 18, 42, 180, 0, 48, 21, 5, 46, 54, 5, 132, 6, 1, 167, 255, 231]
abbrev dktX4_ride_2 : List UInt8 := dkwX4_ride_2 ++ dktX4_ride_3
def dkwX4_ride_1 : List UInt8 := [54, 5, 21, 5, 2, 160, 0, 11, 27, 28, 159, 0, 6, 16, 254, 172, 3, 54, 6, 21, 6, 21, 4]
abbrev dktX4_ride_1 : List UInt8 := dkwX4_ride_1 ++ dktX4_ride_2
def dkwX4_ride_0 : List UInt8 := [42, 42, 27, 28, 29, 182, 1, 51, 182, 0, 228, 153, 0, 5, 2, 172, 42, 27, 28, 29, 182, 1, 58]
abbrev dktX4_ride_0 : List UInt8 := dkwX4_ride_0 ++ dktX4_ride_1
theorem dksX4_ride_0 : cX4_ride.data.toList.drop 0 = dktX4_ride_0 := by decide +kernel
theorem dksX4_ride_1 : cX4_ride.data.toList.drop 23 = dktX4_ride_1 := dk_seg dksX4_ride_0 23 rfl rfl
theorem dksX4_ride_2 : cX4_ride.data.toList.drop 46 = dktX4_ride_2 := dk_seg dksX4_ride_1 23 rfl rfl
theorem dksX4_ride_3 : cX4_ride.data.toList.drop 70 = dktX4_ride_3 := dk_seg dksX4_ride_2 24 rfl rfl
theorem dX4_ride_0 : decode cX4_ride 0 = .ok (.aload_n 0, 1) := dk_42 (dk_at dksX4_ride_0 0 rfl rfl)
theorem dX4_ride_1 : decode cX4_ride 1 = .ok (.aload_n 0, 1) := dk_42 (dk_at dksX4_ride_0 1 rfl rfl)
theorem dX4_ride_2 : decode cX4_ride 2 = .ok (.iload_n 1, 1) := dk_27 (dk_at dksX4_ride_0 2 rfl rfl)
theorem dX4_ride_3 : decode cX4_ride 3 = .ok (.iload_n 2, 1) := dk_28 (dk_at dksX4_ride_0 3 rfl rfl)
theorem dX4_ride_4 : decode cX4_ride 4 = .ok (.iload_n 3, 1) := dk_29 (dk_at dksX4_ride_0 4 rfl rfl)
theorem dX4_ride_5 : decode cX4_ride 5 = .ok (.invokevirtual 307, 3) := dk_182 1 51 (dk_at dksX4_ride_0 5 rfl rfl)
theorem dX4_ride_8 : decode cX4_ride 8 = .ok (.invokevirtual 228, 3) := dk_182 0 228 (dk_at dksX4_ride_0 8 rfl rfl)
theorem dX4_ride_11 : decode cX4_ride 11 = .ok (.ifCond .eq 5, 3) := dk_153 0 5 (dk_at dksX4_ride_0 11 rfl rfl)
theorem dX4_ride_14 : decode cX4_ride 14 = .ok (.iconst (-1), 1) := dk_2 (dk_at dksX4_ride_0 14 rfl rfl)
theorem dX4_ride_15 : decode cX4_ride 15 = .ok (.ireturn, 1) := dk_172 (dk_at dksX4_ride_0 15 rfl rfl)
theorem dX4_ride_16 : decode cX4_ride 16 = .ok (.aload_n 0, 1) := dk_42 (dk_at dksX4_ride_0 16 rfl rfl)
theorem dX4_ride_17 : decode cX4_ride 17 = .ok (.iload_n 1, 1) := dk_27 (dk_at dksX4_ride_0 17 rfl rfl)
theorem dX4_ride_18 : decode cX4_ride 18 = .ok (.iload_n 2, 1) := dk_28 (dk_at dksX4_ride_0 18 rfl rfl)
theorem dX4_ride_19 : decode cX4_ride 19 = .ok (.iload_n 3, 1) := dk_29 (dk_at dksX4_ride_0 19 rfl rfl)
theorem dX4_ride_20 : decode cX4_ride 20 = .ok (.invokevirtual 314, 3) := dk_182 1 58 (dk_at dksX4_ride_0 20 rfl rfl)
theorem dX4_ride_23 : decode cX4_ride 23 = .ok (.istore 5, 2) := dk_54 5 (dk_at dksX4_ride_1 0 rfl rfl)
theorem dX4_ride_25 : decode cX4_ride 25 = .ok (.iload 5, 2) := dk_21 5 (dk_at dksX4_ride_1 2 rfl rfl)
theorem dX4_ride_27 : decode cX4_ride 27 = .ok (.iconst (-1), 1) := dk_2 (dk_at dksX4_ride_1 4 rfl rfl)
theorem dX4_ride_28 : decode cX4_ride 28 = .ok (.if_icmp .ne 11, 3) := dk_160 0 11 (dk_at dksX4_ride_1 5 rfl rfl)
theorem dX4_ride_31 : decode cX4_ride 31 = .ok (.iload_n 1, 1) := dk_27 (dk_at dksX4_ride_1 8 rfl rfl)
theorem dX4_ride_32 : decode cX4_ride 32 = .ok (.iload_n 2, 1) := dk_28 (dk_at dksX4_ride_1 9 rfl rfl)
theorem dX4_ride_33 : decode cX4_ride 33 = .ok (.if_icmp .eq 6, 3) := dk_159 0 6 (dk_at dksX4_ride_1 10 rfl rfl)
theorem dX4_ride_36 : decode cX4_ride 36 = .ok (.bipush (-2), 2) := dk_16 254 (dk_at dksX4_ride_1 13 rfl rfl)
theorem dX4_ride_38 : decode cX4_ride 38 = .ok (.ireturn, 1) := dk_172 (dk_at dksX4_ride_1 15 rfl rfl)
theorem dX4_ride_39 : decode cX4_ride 39 = .ok (.iconst 0, 1) := dk_3 (dk_at dksX4_ride_1 16 rfl rfl)
theorem dX4_ride_40 : decode cX4_ride 40 = .ok (.istore 6, 2) := dk_54 6 (dk_at dksX4_ride_1 17 rfl rfl)
theorem dX4_ride_42 : decode cX4_ride 42 = .ok (.iload 6, 2) := dk_21 6 (dk_at dksX4_ride_1 19 rfl rfl)
theorem dX4_ride_44 : decode cX4_ride 44 = .ok (.iload 4, 2) := dk_21 4 (dk_at dksX4_ride_1 21 rfl rfl)
theorem dX4_ride_46 : decode cX4_ride 46 = .ok (.if_icmp .ge 24, 3) := dk_162 0 24 (dk_at dksX4_ride_2 0 rfl rfl)
theorem dX4_ride_49 : decode cX4_ride 49 = .ok (.iload 5, 2) := dk_21 5 (dk_at dksX4_ride_2 3 rfl rfl)
theorem dX4_ride_51 : decode cX4_ride 51 = .ok (.iconst (-1), 1) := dk_2 (dk_at dksX4_ride_2 5 rfl rfl)
theorem dX4_ride_52 : decode cX4_ride 52 = .ok (.if_icmp .eq 18, 3) := dk_159 0 18 (dk_at dksX4_ride_2 6 rfl rfl)
theorem dX4_ride_55 : decode cX4_ride 55 = .ok (.aload_n 0, 1) := dk_42 (dk_at dksX4_ride_2 9 rfl rfl)
theorem dX4_ride_56 : decode cX4_ride 56 = .ok (.getfield 48, 3) := dk_180 0 48 (dk_at dksX4_ride_2 10 rfl rfl)
theorem dX4_ride_59 : decode cX4_ride 59 = .ok (.iload 5, 2) := dk_21 5 (dk_at dksX4_ride_2 13 rfl rfl)
theorem dX4_ride_61 : decode cX4_ride 61 = .ok (.iaload, 1) := dk_46 (dk_at dksX4_ride_2 15 rfl rfl)
theorem dX4_ride_62 : decode cX4_ride 62 = .ok (.istore 5, 2) := dk_54 5 (dk_at dksX4_ride_2 16 rfl rfl)
theorem dX4_ride_64 : decode cX4_ride 64 = .ok (.iinc 6 1, 3) := dk_132 6 1 (dk_at dksX4_ride_2 18 rfl rfl)
theorem dX4_ride_67 : decode cX4_ride 67 = .ok (.goto (-25), 3) := dk_167 255 231 (dk_at dksX4_ride_2 21 rfl rfl)
theorem dX4_ride_70 : decode cX4_ride 70 = .ok (.iload 4, 2) := dk_21 4 (dk_at dksX4_ride_3 0 rfl rfl)
theorem dX4_ride_72 : decode cX4_ride 72 = .ok (.ifCond .lt 9, 3) := dk_155 0 9 (dk_at dksX4_ride_3 2 rfl rfl)
theorem dX4_ride_75 : decode cX4_ride 75 = .ok (.iload 5, 2) := dk_21 5 (dk_at dksX4_ride_3 5 rfl rfl)
theorem dX4_ride_77 : decode cX4_ride 77 = .ok (.iconst (-1), 1) := dk_2 (dk_at dksX4_ride_3 7 rfl rfl)
theorem dX4_ride_78 : decode cX4_ride 78 = .ok (.if_icmp .ne 11, 3) := dk_160 0 11 (dk_at dksX4_ride_3 8 rfl rfl)
theorem dX4_ride_81 : decode cX4_ride 81 = .ok (.aload_n 0, 1) := dk_42 (dk_at dksX4_ride_3 11 rfl rfl)
theorem dX4_ride_82 : decode cX4_ride 82 = .ok (.iconst 1, 1) := dk_4 (dk_at dksX4_ride_3 12 rfl rfl)
theorem dX4_ride_83 : decode cX4_ride 83 = .ok (.invokevirtual 237, 3) := dk_182 0 237 (dk_at dksX4_ride_3 13 rfl rfl)
theorem dX4_ride_86 : decode cX4_ride 86 = .ok (.goto 5, 3) := dk_167 0 5 (dk_at dksX4_ride_3 16 rfl rfl)
theorem dX4_ride_89 : decode cX4_ride 89 = .ok (.iload 5, 2) := dk_21 5 (dk_at dksX4_ride_3 19 rfl rfl)
theorem dX4_ride_91 : decode cX4_ride 91 = .ok (.ireturn, 1) := dk_172 (dk_at dksX4_ride_3 21 rfl rfl)
abbrev cX4_within : ByteArray := prog_15_method_66_code
def yX4_within : MethodName := ⟨RX4, "within", "(IIII)I"⟩
def dkwX4_within_3 : List UInt8 := [160, 0, 8, 16, 254, 167, 0, 5, 21, 6, 172]
abbrev dktX4_within_3 : List UInt8 := dkwX4_within_3 ++ []
def dkwX4_within_2 : List UInt8 := [42, 28, 16, 20, 182, 1, 63, 42, 27, 29, 21, 4, 182, 1, 66, 54, 6, 21, 6, 17, 39, 15]
abbrev dktX4_within_2 : List UInt8 := dkwX4_within_2 ++ dktX4_within_3
def dkwX4_within_1 : List UInt8 := [154, 0, 7, 5, 167, 0, 5, 21, 5, 182, 0, 228, 153, 0, 5, 2, 172, 27, 28, 160, 0, 5, 29, 172]
abbrev dktX4_within_1 : List UInt8 := dkwX4_within_1 ++ dktX4_within_2
def dkwX4_within_0 : List UInt8 := [42, 27, 28, 29, 182, 1, 51, 54, 5, 42, 21, 5, 154, 0, 18, 21, 4, 3, 16, 20, 184, 0, 107]
abbrev dktX4_within_0 : List UInt8 := dkwX4_within_0 ++ dktX4_within_1
theorem dksX4_within_0 : cX4_within.data.toList.drop 0 = dktX4_within_0 := by decide +kernel
theorem dksX4_within_1 : cX4_within.data.toList.drop 23 = dktX4_within_1 := dk_seg dksX4_within_0 23 rfl rfl
theorem dksX4_within_2 : cX4_within.data.toList.drop 47 = dktX4_within_2 := dk_seg dksX4_within_1 24 rfl rfl
theorem dksX4_within_3 : cX4_within.data.toList.drop 69 = dktX4_within_3 := dk_seg dksX4_within_2 22 rfl rfl
theorem dX4_within_0 : decode cX4_within 0 = .ok (.aload_n 0, 1) := dk_42 (dk_at dksX4_within_0 0 rfl rfl)
theorem dX4_within_1 : decode cX4_within 1 = .ok (.iload_n 1, 1) := dk_27 (dk_at dksX4_within_0 1 rfl rfl)
theorem dX4_within_2 : decode cX4_within 2 = .ok (.iload_n 2, 1) := dk_28 (dk_at dksX4_within_0 2 rfl rfl)
theorem dX4_within_3 : decode cX4_within 3 = .ok (.iload_n 3, 1) := dk_29 (dk_at dksX4_within_0 3 rfl rfl)
theorem dX4_within_4 : decode cX4_within 4 = .ok (.invokevirtual 307, 3) := dk_182 1 51 (dk_at dksX4_within_0 4 rfl rfl)
theorem dX4_within_7 : decode cX4_within 7 = .ok (.istore 5, 2) := dk_54 5 (dk_at dksX4_within_0 7 rfl rfl)
theorem dX4_within_9 : decode cX4_within 9 = .ok (.aload_n 0, 1) := dk_42 (dk_at dksX4_within_0 9 rfl rfl)
theorem dX4_within_10 : decode cX4_within 10 = .ok (.iload 5, 2) := dk_21 5 (dk_at dksX4_within_0 10 rfl rfl)
theorem dX4_within_12 : decode cX4_within 12 = .ok (.ifCond .ne 18, 3) := dk_154 0 18 (dk_at dksX4_within_0 12 rfl rfl)
theorem dX4_within_15 : decode cX4_within 15 = .ok (.iload 4, 2) := dk_21 4 (dk_at dksX4_within_0 15 rfl rfl)
theorem dX4_within_17 : decode cX4_within 17 = .ok (.iconst 0, 1) := dk_3 (dk_at dksX4_within_0 17 rfl rfl)
theorem dX4_within_18 : decode cX4_within 18 = .ok (.bipush 20, 2) := dk_16 20 (dk_at dksX4_within_0 18 rfl rfl)
theorem dX4_within_20 : decode cX4_within 20 = .ok (.invokestatic 107, 3) := dk_184 0 107 (dk_at dksX4_within_0 20 rfl rfl)
theorem dX4_within_23 : decode cX4_within 23 = .ok (.ifCond .ne 7, 3) := dk_154 0 7 (dk_at dksX4_within_1 0 rfl rfl)
theorem dX4_within_26 : decode cX4_within 26 = .ok (.iconst 2, 1) := dk_5 (dk_at dksX4_within_1 3 rfl rfl)
theorem dX4_within_27 : decode cX4_within 27 = .ok (.goto 5, 3) := dk_167 0 5 (dk_at dksX4_within_1 4 rfl rfl)
theorem dX4_within_30 : decode cX4_within 30 = .ok (.iload 5, 2) := dk_21 5 (dk_at dksX4_within_1 7 rfl rfl)
theorem dX4_within_32 : decode cX4_within 32 = .ok (.invokevirtual 228, 3) := dk_182 0 228 (dk_at dksX4_within_1 9 rfl rfl)
theorem dX4_within_35 : decode cX4_within 35 = .ok (.ifCond .eq 5, 3) := dk_153 0 5 (dk_at dksX4_within_1 12 rfl rfl)
theorem dX4_within_38 : decode cX4_within 38 = .ok (.iconst (-1), 1) := dk_2 (dk_at dksX4_within_1 15 rfl rfl)
theorem dX4_within_39 : decode cX4_within 39 = .ok (.ireturn, 1) := dk_172 (dk_at dksX4_within_1 16 rfl rfl)
theorem dX4_within_40 : decode cX4_within 40 = .ok (.iload_n 1, 1) := dk_27 (dk_at dksX4_within_1 17 rfl rfl)
theorem dX4_within_41 : decode cX4_within 41 = .ok (.iload_n 2, 1) := dk_28 (dk_at dksX4_within_1 18 rfl rfl)
theorem dX4_within_42 : decode cX4_within 42 = .ok (.if_icmp .ne 5, 3) := dk_160 0 5 (dk_at dksX4_within_1 19 rfl rfl)
theorem dX4_within_45 : decode cX4_within 45 = .ok (.iload_n 3, 1) := dk_29 (dk_at dksX4_within_1 22 rfl rfl)
theorem dX4_within_46 : decode cX4_within 46 = .ok (.ireturn, 1) := dk_172 (dk_at dksX4_within_1 23 rfl rfl)
theorem dX4_within_47 : decode cX4_within 47 = .ok (.aload_n 0, 1) := dk_42 (dk_at dksX4_within_2 0 rfl rfl)
theorem dX4_within_48 : decode cX4_within 48 = .ok (.iload_n 2, 1) := dk_28 (dk_at dksX4_within_2 1 rfl rfl)
theorem dX4_within_49 : decode cX4_within 49 = .ok (.bipush 20, 2) := dk_16 20 (dk_at dksX4_within_2 2 rfl rfl)
theorem dX4_within_51 : decode cX4_within 51 = .ok (.invokevirtual 319, 3) := dk_182 1 63 (dk_at dksX4_within_2 4 rfl rfl)
theorem dX4_within_54 : decode cX4_within 54 = .ok (.aload_n 0, 1) := dk_42 (dk_at dksX4_within_2 7 rfl rfl)
theorem dX4_within_55 : decode cX4_within 55 = .ok (.iload_n 1, 1) := dk_27 (dk_at dksX4_within_2 8 rfl rfl)
theorem dX4_within_56 : decode cX4_within 56 = .ok (.iload_n 3, 1) := dk_29 (dk_at dksX4_within_2 9 rfl rfl)
theorem dX4_within_57 : decode cX4_within 57 = .ok (.iload 4, 2) := dk_21 4 (dk_at dksX4_within_2 10 rfl rfl)
theorem dX4_within_59 : decode cX4_within 59 = .ok (.invokevirtual 322, 3) := dk_182 1 66 (dk_at dksX4_within_2 12 rfl rfl)
theorem dX4_within_62 : decode cX4_within 62 = .ok (.istore 6, 2) := dk_54 6 (dk_at dksX4_within_2 15 rfl rfl)
theorem dX4_within_64 : decode cX4_within 64 = .ok (.iload 6, 2) := dk_21 6 (dk_at dksX4_within_2 17 rfl rfl)
theorem dX4_within_66 : decode cX4_within 66 = .ok (.sipush 9999, 3) := dk_17 39 15 (dk_at dksX4_within_2 19 rfl rfl)
theorem dX4_within_69 : decode cX4_within 69 = .ok (.if_icmp .ne 8, 3) := dk_160 0 8 (dk_at dksX4_within_3 0 rfl rfl)
theorem dX4_within_72 : decode cX4_within 72 = .ok (.bipush (-2), 2) := dk_16 254 (dk_at dksX4_within_3 3 rfl rfl)
theorem dX4_within_74 : decode cX4_within 74 = .ok (.goto 5, 3) := dk_167 0 5 (dk_at dksX4_within_3 5 rfl rfl)
theorem dX4_within_77 : decode cX4_within 77 = .ok (.iload 6, 2) := dk_21 6 (dk_at dksX4_within_3 8 rfl rfl)
theorem dX4_within_79 : decode cX4_within 79 = .ok (.ireturn, 1) := dk_172 (dk_at dksX4_within_3 10 rfl rfl)
abbrev cX4_laysWithin : ByteArray := prog_15_method_65_code
def yX4_laysWithin : MethodName := ⟨RX4, "laysWithin", "(II)V"⟩
def dkwX4_laysWithin_7 : List UInt8 := [167, 255, 118, 132, 3, 1, 167, 255, 93, 177]
abbrev dktX4_laysWithin_7 : List UInt8 := dkwX4_laysWithin_7 ++ []
def dkwX4_laysWithin_6 : List UInt8 := [132, 7, 1, 167, 255, 177, 42, 180, 0, 54, 16, 120, 21, 4, 104, 21, 5, 96, 21, 6, 79, 132, 5, 1]
abbrev dktX4_laysWithin_6 : List UInt8 := dkwX4_laysWithin_6 ++ dktX4_laysWithin_7
def dkwX4_laysWithin_5 : List UInt8 := [182, 1, 60, 21, 6, 162, 0, 14, 42, 21, 8, 21, 9, 182, 1, 60, 167, 0, 5, 21, 6, 54, 6]
abbrev dktX4_laysWithin_5 : List UInt8 := dkwX4_laysWithin_5 ++ dktX4_laysWithin_6
def dkwX4_laysWithin_4 : List UInt8 := [21, 8, 182, 1, 33, 100, 167, 0, 4, 2, 54, 9, 21, 9, 155, 0, 27, 42, 21, 8, 21, 9]
abbrev dktX4_laysWithin_4 : List UInt8 := dkwX4_laysWithin_4 ++ dktX4_laysWithin_5
def dkwX4_laysWithin_3 : List UInt8 := [180, 0, 51, 21, 7, 46, 54, 8, 42, 21, 4, 21, 8, 182, 1, 29, 153, 0, 17, 21, 5, 42, 21, 4]
abbrev dktX4_laysWithin_3 : List UInt8 := dkwX4_laysWithin_3 ++ dktX4_laysWithin_4
def dkwX4_laysWithin_2 : List UInt8 := [21, 4, 182, 1, 16, 167, 0, 6, 17, 39, 15, 54, 6, 3, 54, 7, 21, 7, 29, 162, 0, 79, 42]
abbrev dktX4_laysWithin_2 : List UInt8 := dkwX4_laysWithin_2 ++ dktX4_laysWithin_3
def dkwX4_laysWithin_1 : List UInt8 := [54, 5, 21, 5, 28, 163, 0, 138, 42, 180, 0, 17, 21, 4, 5, 184, 0, 209, 46, 27, 160, 0, 12, 42]
abbrev dktX4_laysWithin_1 : List UInt8 := dkwX4_laysWithin_1 ++ dktX4_laysWithin_2
def dkwX4_laysWithin_0 : List UInt8 := [42, 182, 1, 22, 3, 62, 29, 42, 180, 1, 19, 162, 0, 161, 42, 180, 0, 51, 29, 46, 54, 4, 3]
abbrev dktX4_laysWithin_0 : List UInt8 := dkwX4_laysWithin_0 ++ dktX4_laysWithin_1
theorem dksX4_laysWithin_0 : cX4_laysWithin.data.toList.drop 0 = dktX4_laysWithin_0 := by decide +kernel
theorem dksX4_laysWithin_1 : cX4_laysWithin.data.toList.drop 23 = dktX4_laysWithin_1 := dk_seg dksX4_laysWithin_0 23 rfl rfl
theorem dksX4_laysWithin_2 : cX4_laysWithin.data.toList.drop 47 = dktX4_laysWithin_2 := dk_seg dksX4_laysWithin_1 24 rfl rfl
theorem dksX4_laysWithin_3 : cX4_laysWithin.data.toList.drop 70 = dktX4_laysWithin_3 := dk_seg dksX4_laysWithin_2 23 rfl rfl
theorem dksX4_laysWithin_4 : cX4_laysWithin.data.toList.drop 94 = dktX4_laysWithin_4 := dk_seg dksX4_laysWithin_3 24 rfl rfl
theorem dksX4_laysWithin_5 : cX4_laysWithin.data.toList.drop 116 = dktX4_laysWithin_5 := dk_seg dksX4_laysWithin_4 22 rfl rfl
theorem dksX4_laysWithin_6 : cX4_laysWithin.data.toList.drop 139 = dktX4_laysWithin_6 := dk_seg dksX4_laysWithin_5 23 rfl rfl
theorem dksX4_laysWithin_7 : cX4_laysWithin.data.toList.drop 163 = dktX4_laysWithin_7 := dk_seg dksX4_laysWithin_6 24 rfl rfl
theorem dX4_laysWithin_0 : decode cX4_laysWithin 0 = .ok (.aload_n 0, 1) := dk_42 (dk_at dksX4_laysWithin_0 0 rfl rfl)
theorem dX4_laysWithin_1 : decode cX4_laysWithin 1 = .ok (.invokevirtual 278, 3) := dk_182 1 22 (dk_at dksX4_laysWithin_0 1 rfl rfl)
theorem dX4_laysWithin_4 : decode cX4_laysWithin 4 = .ok (.iconst 0, 1) := dk_3 (dk_at dksX4_laysWithin_0 4 rfl rfl)
theorem dX4_laysWithin_5 : decode cX4_laysWithin 5 = .ok (.istore_n 3, 1) := dk_62 (dk_at dksX4_laysWithin_0 5 rfl rfl)
theorem dX4_laysWithin_6 : decode cX4_laysWithin 6 = .ok (.iload_n 3, 1) := dk_29 (dk_at dksX4_laysWithin_0 6 rfl rfl)
theorem dX4_laysWithin_7 : decode cX4_laysWithin 7 = .ok (.aload_n 0, 1) := dk_42 (dk_at dksX4_laysWithin_0 7 rfl rfl)
theorem dX4_laysWithin_8 : decode cX4_laysWithin 8 = .ok (.getfield 275, 3) := dk_180 1 19 (dk_at dksX4_laysWithin_0 8 rfl rfl)
theorem dX4_laysWithin_11 : decode cX4_laysWithin 11 = .ok (.if_icmp .ge 161, 3) := dk_162 0 161 (dk_at dksX4_laysWithin_0 11 rfl rfl)
theorem dX4_laysWithin_14 : decode cX4_laysWithin 14 = .ok (.aload_n 0, 1) := dk_42 (dk_at dksX4_laysWithin_0 14 rfl rfl)
theorem dX4_laysWithin_15 : decode cX4_laysWithin 15 = .ok (.getfield 51, 3) := dk_180 0 51 (dk_at dksX4_laysWithin_0 15 rfl rfl)
theorem dX4_laysWithin_18 : decode cX4_laysWithin 18 = .ok (.iload_n 3, 1) := dk_29 (dk_at dksX4_laysWithin_0 18 rfl rfl)
theorem dX4_laysWithin_19 : decode cX4_laysWithin 19 = .ok (.iaload, 1) := dk_46 (dk_at dksX4_laysWithin_0 19 rfl rfl)
theorem dX4_laysWithin_20 : decode cX4_laysWithin 20 = .ok (.istore 4, 2) := dk_54 4 (dk_at dksX4_laysWithin_0 20 rfl rfl)
theorem dX4_laysWithin_22 : decode cX4_laysWithin 22 = .ok (.iconst 0, 1) := dk_3 (dk_at dksX4_laysWithin_0 22 rfl rfl)
theorem dX4_laysWithin_23 : decode cX4_laysWithin 23 = .ok (.istore 5, 2) := dk_54 5 (dk_at dksX4_laysWithin_1 0 rfl rfl)
theorem dX4_laysWithin_25 : decode cX4_laysWithin 25 = .ok (.iload 5, 2) := dk_21 5 (dk_at dksX4_laysWithin_1 2 rfl rfl)
theorem dX4_laysWithin_27 : decode cX4_laysWithin 27 = .ok (.iload_n 2, 1) := dk_28 (dk_at dksX4_laysWithin_1 4 rfl rfl)
theorem dX4_laysWithin_28 : decode cX4_laysWithin 28 = .ok (.if_icmp .gt 138, 3) := dk_163 0 138 (dk_at dksX4_laysWithin_1 5 rfl rfl)
theorem dX4_laysWithin_31 : decode cX4_laysWithin 31 = .ok (.aload_n 0, 1) := dk_42 (dk_at dksX4_laysWithin_1 8 rfl rfl)
theorem dX4_laysWithin_32 : decode cX4_laysWithin 32 = .ok (.getfield 17, 3) := dk_180 0 17 (dk_at dksX4_laysWithin_1 9 rfl rfl)
theorem dX4_laysWithin_35 : decode cX4_laysWithin 35 = .ok (.iload 4, 2) := dk_21 4 (dk_at dksX4_laysWithin_1 12 rfl rfl)
theorem dX4_laysWithin_37 : decode cX4_laysWithin 37 = .ok (.iconst 2, 1) := dk_5 (dk_at dksX4_laysWithin_1 14 rfl rfl)
theorem dX4_laysWithin_38 : decode cX4_laysWithin 38 = .ok (.invokestatic 209, 3) := dk_184 0 209 (dk_at dksX4_laysWithin_1 15 rfl rfl)
theorem dX4_laysWithin_41 : decode cX4_laysWithin 41 = .ok (.iaload, 1) := dk_46 (dk_at dksX4_laysWithin_1 18 rfl rfl)
theorem dX4_laysWithin_42 : decode cX4_laysWithin 42 = .ok (.iload_n 1, 1) := dk_27 (dk_at dksX4_laysWithin_1 19 rfl rfl)
theorem dX4_laysWithin_43 : decode cX4_laysWithin 43 = .ok (.if_icmp .ne 12, 3) := dk_160 0 12 (dk_at dksX4_laysWithin_1 20 rfl rfl)
theorem dX4_laysWithin_46 : decode cX4_laysWithin 46 = .ok (.aload_n 0, 1) := dk_42 (dk_at dksX4_laysWithin_1 23 rfl rfl)
theorem dX4_laysWithin_47 : decode cX4_laysWithin 47 = .ok (.iload 4, 2) := dk_21 4 (dk_at dksX4_laysWithin_2 0 rfl rfl)
theorem dX4_laysWithin_49 : decode cX4_laysWithin 49 = .ok (.invokevirtual 272, 3) := dk_182 1 16 (dk_at dksX4_laysWithin_2 2 rfl rfl)
theorem dX4_laysWithin_52 : decode cX4_laysWithin 52 = .ok (.goto 6, 3) := dk_167 0 6 (dk_at dksX4_laysWithin_2 5 rfl rfl)
theorem dX4_laysWithin_55 : decode cX4_laysWithin 55 = .ok (.sipush 9999, 3) := dk_17 39 15 (dk_at dksX4_laysWithin_2 8 rfl rfl)
theorem dX4_laysWithin_58 : decode cX4_laysWithin 58 = .ok (.istore 6, 2) := dk_54 6 (dk_at dksX4_laysWithin_2 11 rfl rfl)
theorem dX4_laysWithin_60 : decode cX4_laysWithin 60 = .ok (.iconst 0, 1) := dk_3 (dk_at dksX4_laysWithin_2 13 rfl rfl)
theorem dX4_laysWithin_61 : decode cX4_laysWithin 61 = .ok (.istore 7, 2) := dk_54 7 (dk_at dksX4_laysWithin_2 14 rfl rfl)
theorem dX4_laysWithin_63 : decode cX4_laysWithin 63 = .ok (.iload 7, 2) := dk_21 7 (dk_at dksX4_laysWithin_2 16 rfl rfl)
theorem dX4_laysWithin_65 : decode cX4_laysWithin 65 = .ok (.iload_n 3, 1) := dk_29 (dk_at dksX4_laysWithin_2 18 rfl rfl)
theorem dX4_laysWithin_66 : decode cX4_laysWithin 66 = .ok (.if_icmp .ge 79, 3) := dk_162 0 79 (dk_at dksX4_laysWithin_2 19 rfl rfl)
theorem dX4_laysWithin_69 : decode cX4_laysWithin 69 = .ok (.aload_n 0, 1) := dk_42 (dk_at dksX4_laysWithin_2 22 rfl rfl)
theorem dX4_laysWithin_70 : decode cX4_laysWithin 70 = .ok (.getfield 51, 3) := dk_180 0 51 (dk_at dksX4_laysWithin_3 0 rfl rfl)
theorem dX4_laysWithin_73 : decode cX4_laysWithin 73 = .ok (.iload 7, 2) := dk_21 7 (dk_at dksX4_laysWithin_3 3 rfl rfl)
theorem dX4_laysWithin_75 : decode cX4_laysWithin 75 = .ok (.iaload, 1) := dk_46 (dk_at dksX4_laysWithin_3 5 rfl rfl)
theorem dX4_laysWithin_76 : decode cX4_laysWithin 76 = .ok (.istore 8, 2) := dk_54 8 (dk_at dksX4_laysWithin_3 6 rfl rfl)
theorem dX4_laysWithin_78 : decode cX4_laysWithin 78 = .ok (.aload_n 0, 1) := dk_42 (dk_at dksX4_laysWithin_3 8 rfl rfl)
theorem dX4_laysWithin_79 : decode cX4_laysWithin 79 = .ok (.iload 4, 2) := dk_21 4 (dk_at dksX4_laysWithin_3 9 rfl rfl)
theorem dX4_laysWithin_81 : decode cX4_laysWithin 81 = .ok (.iload 8, 2) := dk_21 8 (dk_at dksX4_laysWithin_3 11 rfl rfl)
theorem dX4_laysWithin_83 : decode cX4_laysWithin 83 = .ok (.invokevirtual 285, 3) := dk_182 1 29 (dk_at dksX4_laysWithin_3 13 rfl rfl)
theorem dX4_laysWithin_86 : decode cX4_laysWithin 86 = .ok (.ifCond .eq 17, 3) := dk_153 0 17 (dk_at dksX4_laysWithin_3 16 rfl rfl)
theorem dX4_laysWithin_89 : decode cX4_laysWithin 89 = .ok (.iload 5, 2) := dk_21 5 (dk_at dksX4_laysWithin_3 19 rfl rfl)
theorem dX4_laysWithin_91 : decode cX4_laysWithin 91 = .ok (.aload_n 0, 1) := dk_42 (dk_at dksX4_laysWithin_3 21 rfl rfl)
theorem dX4_laysWithin_92 : decode cX4_laysWithin 92 = .ok (.iload 4, 2) := dk_21 4 (dk_at dksX4_laysWithin_3 22 rfl rfl)
theorem dX4_laysWithin_94 : decode cX4_laysWithin 94 = .ok (.iload 8, 2) := dk_21 8 (dk_at dksX4_laysWithin_4 0 rfl rfl)
theorem dX4_laysWithin_96 : decode cX4_laysWithin 96 = .ok (.invokevirtual 289, 3) := dk_182 1 33 (dk_at dksX4_laysWithin_4 2 rfl rfl)
theorem dX4_laysWithin_99 : decode cX4_laysWithin 99 = .ok (.isub, 1) := dk_100 (dk_at dksX4_laysWithin_4 5 rfl rfl)
theorem dX4_laysWithin_100 : decode cX4_laysWithin 100 = .ok (.goto 4, 3) := dk_167 0 4 (dk_at dksX4_laysWithin_4 6 rfl rfl)
theorem dX4_laysWithin_103 : decode cX4_laysWithin 103 = .ok (.iconst (-1), 1) := dk_2 (dk_at dksX4_laysWithin_4 9 rfl rfl)
theorem dX4_laysWithin_104 : decode cX4_laysWithin 104 = .ok (.istore 9, 2) := dk_54 9 (dk_at dksX4_laysWithin_4 10 rfl rfl)
theorem dX4_laysWithin_106 : decode cX4_laysWithin 106 = .ok (.iload 9, 2) := dk_21 9 (dk_at dksX4_laysWithin_4 12 rfl rfl)
theorem dX4_laysWithin_108 : decode cX4_laysWithin 108 = .ok (.ifCond .lt 27, 3) := dk_155 0 27 (dk_at dksX4_laysWithin_4 14 rfl rfl)
theorem dX4_laysWithin_111 : decode cX4_laysWithin 111 = .ok (.aload_n 0, 1) := dk_42 (dk_at dksX4_laysWithin_4 17 rfl rfl)
theorem dX4_laysWithin_112 : decode cX4_laysWithin 112 = .ok (.iload 8, 2) := dk_21 8 (dk_at dksX4_laysWithin_4 18 rfl rfl)
theorem dX4_laysWithin_114 : decode cX4_laysWithin 114 = .ok (.iload 9, 2) := dk_21 9 (dk_at dksX4_laysWithin_4 20 rfl rfl)
theorem dX4_laysWithin_116 : decode cX4_laysWithin 116 = .ok (.invokevirtual 316, 3) := dk_182 1 60 (dk_at dksX4_laysWithin_5 0 rfl rfl)
theorem dX4_laysWithin_119 : decode cX4_laysWithin 119 = .ok (.iload 6, 2) := dk_21 6 (dk_at dksX4_laysWithin_5 3 rfl rfl)
theorem dX4_laysWithin_121 : decode cX4_laysWithin 121 = .ok (.if_icmp .ge 14, 3) := dk_162 0 14 (dk_at dksX4_laysWithin_5 5 rfl rfl)
theorem dX4_laysWithin_124 : decode cX4_laysWithin 124 = .ok (.aload_n 0, 1) := dk_42 (dk_at dksX4_laysWithin_5 8 rfl rfl)
theorem dX4_laysWithin_125 : decode cX4_laysWithin 125 = .ok (.iload 8, 2) := dk_21 8 (dk_at dksX4_laysWithin_5 9 rfl rfl)
theorem dX4_laysWithin_127 : decode cX4_laysWithin 127 = .ok (.iload 9, 2) := dk_21 9 (dk_at dksX4_laysWithin_5 11 rfl rfl)
theorem dX4_laysWithin_129 : decode cX4_laysWithin 129 = .ok (.invokevirtual 316, 3) := dk_182 1 60 (dk_at dksX4_laysWithin_5 13 rfl rfl)
theorem dX4_laysWithin_132 : decode cX4_laysWithin 132 = .ok (.goto 5, 3) := dk_167 0 5 (dk_at dksX4_laysWithin_5 16 rfl rfl)
theorem dX4_laysWithin_135 : decode cX4_laysWithin 135 = .ok (.iload 6, 2) := dk_21 6 (dk_at dksX4_laysWithin_5 19 rfl rfl)
theorem dX4_laysWithin_137 : decode cX4_laysWithin 137 = .ok (.istore 6, 2) := dk_54 6 (dk_at dksX4_laysWithin_5 21 rfl rfl)
theorem dX4_laysWithin_139 : decode cX4_laysWithin 139 = .ok (.iinc 7 1, 3) := dk_132 7 1 (dk_at dksX4_laysWithin_6 0 rfl rfl)
theorem dX4_laysWithin_142 : decode cX4_laysWithin 142 = .ok (.goto (-79), 3) := dk_167 255 177 (dk_at dksX4_laysWithin_6 3 rfl rfl)
theorem dX4_laysWithin_145 : decode cX4_laysWithin 145 = .ok (.aload_n 0, 1) := dk_42 (dk_at dksX4_laysWithin_6 6 rfl rfl)
theorem dX4_laysWithin_146 : decode cX4_laysWithin 146 = .ok (.getfield 54, 3) := dk_180 0 54 (dk_at dksX4_laysWithin_6 7 rfl rfl)
theorem dX4_laysWithin_149 : decode cX4_laysWithin 149 = .ok (.bipush 120, 2) := dk_16 120 (dk_at dksX4_laysWithin_6 10 rfl rfl)
theorem dX4_laysWithin_151 : decode cX4_laysWithin 151 = .ok (.iload 4, 2) := dk_21 4 (dk_at dksX4_laysWithin_6 12 rfl rfl)
theorem dX4_laysWithin_153 : decode cX4_laysWithin 153 = .ok (.imul, 1) := dk_104 (dk_at dksX4_laysWithin_6 14 rfl rfl)
theorem dX4_laysWithin_154 : decode cX4_laysWithin 154 = .ok (.iload 5, 2) := dk_21 5 (dk_at dksX4_laysWithin_6 15 rfl rfl)
theorem dX4_laysWithin_156 : decode cX4_laysWithin 156 = .ok (.iadd, 1) := dk_96 (dk_at dksX4_laysWithin_6 17 rfl rfl)
theorem dX4_laysWithin_157 : decode cX4_laysWithin 157 = .ok (.iload 6, 2) := dk_21 6 (dk_at dksX4_laysWithin_6 18 rfl rfl)
theorem dX4_laysWithin_159 : decode cX4_laysWithin 159 = .ok (.iastore, 1) := dk_79 (dk_at dksX4_laysWithin_6 20 rfl rfl)
theorem dX4_laysWithin_160 : decode cX4_laysWithin 160 = .ok (.iinc 5 1, 3) := dk_132 5 1 (dk_at dksX4_laysWithin_6 21 rfl rfl)
theorem dX4_laysWithin_163 : decode cX4_laysWithin 163 = .ok (.goto (-138), 3) := dk_167 255 118 (dk_at dksX4_laysWithin_7 0 rfl rfl)
theorem dX4_laysWithin_166 : decode cX4_laysWithin 166 = .ok (.iinc 3 1, 3) := dk_132 3 1 (dk_at dksX4_laysWithin_7 3 rfl rfl)
theorem dX4_laysWithin_169 : decode cX4_laysWithin 169 = .ok (.goto (-163), 3) := dk_167 255 93 (dk_at dksX4_laysWithin_7 6 rfl rfl)
theorem dX4_laysWithin_172 : decode cX4_laysWithin 172 = .ok (.return_, 1) := dk_177 (dk_at dksX4_laysWithin_7 9 rfl rfl)
abbrev cX4_soonest : ByteArray := prog_15_method_64_code
def yX4_soonest : MethodName := ⟨RX4, "soonest", "(II)I"⟩
def dkwX4_soonest_0 : List UInt8 := [42, 180, 0, 54, 16, 120, 27, 104, 28, 96, 46, 172]
abbrev dktX4_soonest_0 : List UInt8 := dkwX4_soonest_0 ++ []
theorem dksX4_soonest_0 : cX4_soonest.data.toList.drop 0 = dktX4_soonest_0 := by decide +kernel
theorem dX4_soonest_0 : decode cX4_soonest 0 = .ok (.aload_n 0, 1) := dk_42 (dk_at dksX4_soonest_0 0 rfl rfl)
theorem dX4_soonest_1 : decode cX4_soonest 1 = .ok (.getfield 54, 3) := dk_180 0 54 (dk_at dksX4_soonest_0 1 rfl rfl)
theorem dX4_soonest_4 : decode cX4_soonest 4 = .ok (.bipush 120, 2) := dk_16 120 (dk_at dksX4_soonest_0 4 rfl rfl)
theorem dX4_soonest_6 : decode cX4_soonest 6 = .ok (.iload_n 1, 1) := dk_27 (dk_at dksX4_soonest_0 6 rfl rfl)
theorem dX4_soonest_7 : decode cX4_soonest 7 = .ok (.imul, 1) := dk_104 (dk_at dksX4_soonest_0 7 rfl rfl)
theorem dX4_soonest_8 : decode cX4_soonest 8 = .ok (.iload_n 2, 1) := dk_28 (dk_at dksX4_soonest_0 8 rfl rfl)
theorem dX4_soonest_9 : decode cX4_soonest 9 = .ok (.iadd, 1) := dk_96 (dk_at dksX4_soonest_0 9 rfl rfl)
theorem dX4_soonest_10 : decode cX4_soonest 10 = .ok (.iaload, 1) := dk_46 (dk_at dksX4_soonest_0 10 rfl rfl)
theorem dX4_soonest_11 : decode cX4_soonest 11 = .ok (.ireturn, 1) := dk_172 (dk_at dksX4_soonest_0 11 rfl rfl)
abbrev cX4_soonestBy : ByteArray := prog_15_method_67_code
def yX4_soonestBy : MethodName := ⟨RX4, "soonestBy", "(III)I"⟩
def dkwX4_soonestBy_4 : List UInt8 := [132, 5, 1, 167, 255, 170, 21, 4, 172]
abbrev dktX4_soonestBy_4 : List UInt8 := dkwX4_soonestBy_4 ++ []
def dkwX4_soonestBy_3 : List UInt8 := [182, 1, 60, 21, 4, 162, 0, 13, 42, 21, 5, 29, 182, 1, 60, 167, 0, 5, 21, 4, 54, 4]
abbrev dktX4_soonestBy_3 : List UInt8 := dkwX4_soonestBy_3 ++ dktX4_soonestBy_4
def dkwX4_soonestBy_2 : List UInt8 := [182, 0, 250, 28, 161, 0, 7, 4, 167, 0, 4, 3, 54, 6, 21, 6, 153, 0, 25, 42, 21, 5, 29]
abbrev dktX4_soonestBy_2 : List UInt8 := dkwX4_soonestBy_2 ++ dktX4_soonestBy_3
def dkwX4_soonestBy_1 : List UInt8 := [182, 0, 253, 153, 0, 32, 42, 180, 0, 17, 21, 5, 4, 184, 0, 209, 46, 27, 160, 0, 17, 42, 21, 5]
abbrev dktX4_soonestBy_1 : List UInt8 := dkwX4_soonestBy_1 ++ dktX4_soonestBy_2
def dkwX4_soonestBy_0 : List UInt8 := [17, 39, 15, 54, 4, 3, 54, 5, 21, 5, 42, 180, 0, 17, 7, 46, 162, 0, 81, 42, 21, 5]
abbrev dktX4_soonestBy_0 : List UInt8 := dkwX4_soonestBy_0 ++ dktX4_soonestBy_1
theorem dksX4_soonestBy_0 : cX4_soonestBy.data.toList.drop 0 = dktX4_soonestBy_0 := by decide +kernel
theorem dksX4_soonestBy_1 : cX4_soonestBy.data.toList.drop 22 = dktX4_soonestBy_1 := dk_seg dksX4_soonestBy_0 22 rfl rfl
theorem dksX4_soonestBy_2 : cX4_soonestBy.data.toList.drop 46 = dktX4_soonestBy_2 := dk_seg dksX4_soonestBy_1 24 rfl rfl
theorem dksX4_soonestBy_3 : cX4_soonestBy.data.toList.drop 69 = dktX4_soonestBy_3 := dk_seg dksX4_soonestBy_2 23 rfl rfl
theorem dksX4_soonestBy_4 : cX4_soonestBy.data.toList.drop 91 = dktX4_soonestBy_4 := dk_seg dksX4_soonestBy_3 22 rfl rfl
theorem dX4_soonestBy_0 : decode cX4_soonestBy 0 = .ok (.sipush 9999, 3) := dk_17 39 15 (dk_at dksX4_soonestBy_0 0 rfl rfl)
theorem dX4_soonestBy_3 : decode cX4_soonestBy 3 = .ok (.istore 4, 2) := dk_54 4 (dk_at dksX4_soonestBy_0 3 rfl rfl)
theorem dX4_soonestBy_5 : decode cX4_soonestBy 5 = .ok (.iconst 0, 1) := dk_3 (dk_at dksX4_soonestBy_0 5 rfl rfl)
theorem dX4_soonestBy_6 : decode cX4_soonestBy 6 = .ok (.istore 5, 2) := dk_54 5 (dk_at dksX4_soonestBy_0 6 rfl rfl)
theorem dX4_soonestBy_8 : decode cX4_soonestBy 8 = .ok (.iload 5, 2) := dk_21 5 (dk_at dksX4_soonestBy_0 8 rfl rfl)
theorem dX4_soonestBy_10 : decode cX4_soonestBy 10 = .ok (.aload_n 0, 1) := dk_42 (dk_at dksX4_soonestBy_0 10 rfl rfl)
theorem dX4_soonestBy_11 : decode cX4_soonestBy 11 = .ok (.getfield 17, 3) := dk_180 0 17 (dk_at dksX4_soonestBy_0 11 rfl rfl)
theorem dX4_soonestBy_14 : decode cX4_soonestBy 14 = .ok (.iconst 4, 1) := dk_7 (dk_at dksX4_soonestBy_0 14 rfl rfl)
theorem dX4_soonestBy_15 : decode cX4_soonestBy 15 = .ok (.iaload, 1) := dk_46 (dk_at dksX4_soonestBy_0 15 rfl rfl)
theorem dX4_soonestBy_16 : decode cX4_soonestBy 16 = .ok (.if_icmp .ge 81, 3) := dk_162 0 81 (dk_at dksX4_soonestBy_0 16 rfl rfl)
theorem dX4_soonestBy_19 : decode cX4_soonestBy 19 = .ok (.aload_n 0, 1) := dk_42 (dk_at dksX4_soonestBy_0 19 rfl rfl)
theorem dX4_soonestBy_20 : decode cX4_soonestBy 20 = .ok (.iload 5, 2) := dk_21 5 (dk_at dksX4_soonestBy_0 20 rfl rfl)
theorem dX4_soonestBy_22 : decode cX4_soonestBy 22 = .ok (.invokevirtual 253, 3) := dk_182 0 253 (dk_at dksX4_soonestBy_1 0 rfl rfl)
theorem dX4_soonestBy_25 : decode cX4_soonestBy 25 = .ok (.ifCond .eq 32, 3) := dk_153 0 32 (dk_at dksX4_soonestBy_1 3 rfl rfl)
theorem dX4_soonestBy_28 : decode cX4_soonestBy 28 = .ok (.aload_n 0, 1) := dk_42 (dk_at dksX4_soonestBy_1 6 rfl rfl)
theorem dX4_soonestBy_29 : decode cX4_soonestBy 29 = .ok (.getfield 17, 3) := dk_180 0 17 (dk_at dksX4_soonestBy_1 7 rfl rfl)
theorem dX4_soonestBy_32 : decode cX4_soonestBy 32 = .ok (.iload 5, 2) := dk_21 5 (dk_at dksX4_soonestBy_1 10 rfl rfl)
theorem dX4_soonestBy_34 : decode cX4_soonestBy 34 = .ok (.iconst 1, 1) := dk_4 (dk_at dksX4_soonestBy_1 12 rfl rfl)
theorem dX4_soonestBy_35 : decode cX4_soonestBy 35 = .ok (.invokestatic 209, 3) := dk_184 0 209 (dk_at dksX4_soonestBy_1 13 rfl rfl)
theorem dX4_soonestBy_38 : decode cX4_soonestBy 38 = .ok (.iaload, 1) := dk_46 (dk_at dksX4_soonestBy_1 16 rfl rfl)
theorem dX4_soonestBy_39 : decode cX4_soonestBy 39 = .ok (.iload_n 1, 1) := dk_27 (dk_at dksX4_soonestBy_1 17 rfl rfl)
theorem dX4_soonestBy_40 : decode cX4_soonestBy 40 = .ok (.if_icmp .ne 17, 3) := dk_160 0 17 (dk_at dksX4_soonestBy_1 18 rfl rfl)
theorem dX4_soonestBy_43 : decode cX4_soonestBy 43 = .ok (.aload_n 0, 1) := dk_42 (dk_at dksX4_soonestBy_1 21 rfl rfl)
theorem dX4_soonestBy_44 : decode cX4_soonestBy 44 = .ok (.iload 5, 2) := dk_21 5 (dk_at dksX4_soonestBy_1 22 rfl rfl)
theorem dX4_soonestBy_46 : decode cX4_soonestBy 46 = .ok (.invokevirtual 250, 3) := dk_182 0 250 (dk_at dksX4_soonestBy_2 0 rfl rfl)
theorem dX4_soonestBy_49 : decode cX4_soonestBy 49 = .ok (.iload_n 2, 1) := dk_28 (dk_at dksX4_soonestBy_2 3 rfl rfl)
theorem dX4_soonestBy_50 : decode cX4_soonestBy 50 = .ok (.if_icmp .lt 7, 3) := dk_161 0 7 (dk_at dksX4_soonestBy_2 4 rfl rfl)
theorem dX4_soonestBy_53 : decode cX4_soonestBy 53 = .ok (.iconst 1, 1) := dk_4 (dk_at dksX4_soonestBy_2 7 rfl rfl)
theorem dX4_soonestBy_54 : decode cX4_soonestBy 54 = .ok (.goto 4, 3) := dk_167 0 4 (dk_at dksX4_soonestBy_2 8 rfl rfl)
theorem dX4_soonestBy_57 : decode cX4_soonestBy 57 = .ok (.iconst 0, 1) := dk_3 (dk_at dksX4_soonestBy_2 11 rfl rfl)
theorem dX4_soonestBy_58 : decode cX4_soonestBy 58 = .ok (.istore 6, 2) := dk_54 6 (dk_at dksX4_soonestBy_2 12 rfl rfl)
theorem dX4_soonestBy_60 : decode cX4_soonestBy 60 = .ok (.iload 6, 2) := dk_21 6 (dk_at dksX4_soonestBy_2 14 rfl rfl)
theorem dX4_soonestBy_62 : decode cX4_soonestBy 62 = .ok (.ifCond .eq 25, 3) := dk_153 0 25 (dk_at dksX4_soonestBy_2 16 rfl rfl)
theorem dX4_soonestBy_65 : decode cX4_soonestBy 65 = .ok (.aload_n 0, 1) := dk_42 (dk_at dksX4_soonestBy_2 19 rfl rfl)
theorem dX4_soonestBy_66 : decode cX4_soonestBy 66 = .ok (.iload 5, 2) := dk_21 5 (dk_at dksX4_soonestBy_2 20 rfl rfl)
theorem dX4_soonestBy_68 : decode cX4_soonestBy 68 = .ok (.iload_n 3, 1) := dk_29 (dk_at dksX4_soonestBy_2 22 rfl rfl)
theorem dX4_soonestBy_69 : decode cX4_soonestBy 69 = .ok (.invokevirtual 316, 3) := dk_182 1 60 (dk_at dksX4_soonestBy_3 0 rfl rfl)
theorem dX4_soonestBy_72 : decode cX4_soonestBy 72 = .ok (.iload 4, 2) := dk_21 4 (dk_at dksX4_soonestBy_3 3 rfl rfl)
theorem dX4_soonestBy_74 : decode cX4_soonestBy 74 = .ok (.if_icmp .ge 13, 3) := dk_162 0 13 (dk_at dksX4_soonestBy_3 5 rfl rfl)
theorem dX4_soonestBy_77 : decode cX4_soonestBy 77 = .ok (.aload_n 0, 1) := dk_42 (dk_at dksX4_soonestBy_3 8 rfl rfl)
theorem dX4_soonestBy_78 : decode cX4_soonestBy 78 = .ok (.iload 5, 2) := dk_21 5 (dk_at dksX4_soonestBy_3 9 rfl rfl)
theorem dX4_soonestBy_80 : decode cX4_soonestBy 80 = .ok (.iload_n 3, 1) := dk_29 (dk_at dksX4_soonestBy_3 11 rfl rfl)
theorem dX4_soonestBy_81 : decode cX4_soonestBy 81 = .ok (.invokevirtual 316, 3) := dk_182 1 60 (dk_at dksX4_soonestBy_3 12 rfl rfl)
theorem dX4_soonestBy_84 : decode cX4_soonestBy 84 = .ok (.goto 5, 3) := dk_167 0 5 (dk_at dksX4_soonestBy_3 15 rfl rfl)
theorem dX4_soonestBy_87 : decode cX4_soonestBy 87 = .ok (.iload 4, 2) := dk_21 4 (dk_at dksX4_soonestBy_3 18 rfl rfl)
theorem dX4_soonestBy_89 : decode cX4_soonestBy 89 = .ok (.istore 4, 2) := dk_54 4 (dk_at dksX4_soonestBy_3 20 rfl rfl)
theorem dX4_soonestBy_91 : decode cX4_soonestBy 91 = .ok (.iinc 5 1, 3) := dk_132 5 1 (dk_at dksX4_soonestBy_4 0 rfl rfl)
theorem dX4_soonestBy_94 : decode cX4_soonestBy 94 = .ok (.goto (-86), 3) := dk_167 255 170 (dk_at dksX4_soonestBy_4 3 rfl rfl)
theorem dX4_soonestBy_97 : decode cX4_soonestBy 97 = .ok (.iload 4, 2) := dk_21 4 (dk_at dksX4_soonestBy_4 6 rfl rfl)
theorem dX4_soonestBy_99 : decode cX4_soonestBy 99 = .ok (.ireturn, 1) := dk_172 (dk_at dksX4_soonestBy_4 8 rfl rfl)
abbrev cX4_trades : ByteArray := prog_15_method_69_code
def yX4_trades : MethodName := ⟨RX4, "trades", "(III)I"⟩
def dkwX4_trades_1 : List UInt8 := [27, 28, 29, 182, 1, 72, 42, 180, 1, 69, 154, 0, 8, 16, 254, 167, 0, 7, 42, 180, 1, 69, 172]
abbrev dktX4_trades_1 : List UInt8 := dkwX4_trades_1 ++ []
def dkwX4_trades_0 : List UInt8 := [42, 42, 27, 28, 29, 182, 1, 51, 182, 0, 228, 153, 0, 5, 2, 172, 27, 28, 160, 0, 5, 4, 172, 42]
abbrev dktX4_trades_0 : List UInt8 := dkwX4_trades_0 ++ dktX4_trades_1
theorem dksX4_trades_0 : cX4_trades.data.toList.drop 0 = dktX4_trades_0 := by decide +kernel
theorem dksX4_trades_1 : cX4_trades.data.toList.drop 24 = dktX4_trades_1 := dk_seg dksX4_trades_0 24 rfl rfl
theorem dX4_trades_0 : decode cX4_trades 0 = .ok (.aload_n 0, 1) := dk_42 (dk_at dksX4_trades_0 0 rfl rfl)
theorem dX4_trades_1 : decode cX4_trades 1 = .ok (.aload_n 0, 1) := dk_42 (dk_at dksX4_trades_0 1 rfl rfl)
theorem dX4_trades_2 : decode cX4_trades 2 = .ok (.iload_n 1, 1) := dk_27 (dk_at dksX4_trades_0 2 rfl rfl)
theorem dX4_trades_3 : decode cX4_trades 3 = .ok (.iload_n 2, 1) := dk_28 (dk_at dksX4_trades_0 3 rfl rfl)
theorem dX4_trades_4 : decode cX4_trades 4 = .ok (.iload_n 3, 1) := dk_29 (dk_at dksX4_trades_0 4 rfl rfl)
theorem dX4_trades_5 : decode cX4_trades 5 = .ok (.invokevirtual 307, 3) := dk_182 1 51 (dk_at dksX4_trades_0 5 rfl rfl)
theorem dX4_trades_8 : decode cX4_trades 8 = .ok (.invokevirtual 228, 3) := dk_182 0 228 (dk_at dksX4_trades_0 8 rfl rfl)
theorem dX4_trades_11 : decode cX4_trades 11 = .ok (.ifCond .eq 5, 3) := dk_153 0 5 (dk_at dksX4_trades_0 11 rfl rfl)
theorem dX4_trades_14 : decode cX4_trades 14 = .ok (.iconst (-1), 1) := dk_2 (dk_at dksX4_trades_0 14 rfl rfl)
theorem dX4_trades_15 : decode cX4_trades 15 = .ok (.ireturn, 1) := dk_172 (dk_at dksX4_trades_0 15 rfl rfl)
theorem dX4_trades_16 : decode cX4_trades 16 = .ok (.iload_n 1, 1) := dk_27 (dk_at dksX4_trades_0 16 rfl rfl)
theorem dX4_trades_17 : decode cX4_trades 17 = .ok (.iload_n 2, 1) := dk_28 (dk_at dksX4_trades_0 17 rfl rfl)
theorem dX4_trades_18 : decode cX4_trades 18 = .ok (.if_icmp .ne 5, 3) := dk_160 0 5 (dk_at dksX4_trades_0 18 rfl rfl)
theorem dX4_trades_21 : decode cX4_trades 21 = .ok (.iconst 1, 1) := dk_4 (dk_at dksX4_trades_0 21 rfl rfl)
theorem dX4_trades_22 : decode cX4_trades 22 = .ok (.ireturn, 1) := dk_172 (dk_at dksX4_trades_0 22 rfl rfl)
theorem dX4_trades_23 : decode cX4_trades 23 = .ok (.aload_n 0, 1) := dk_42 (dk_at dksX4_trades_0 23 rfl rfl)
theorem dX4_trades_24 : decode cX4_trades 24 = .ok (.iload_n 1, 1) := dk_27 (dk_at dksX4_trades_1 0 rfl rfl)
theorem dX4_trades_25 : decode cX4_trades 25 = .ok (.iload_n 2, 1) := dk_28 (dk_at dksX4_trades_1 1 rfl rfl)
theorem dX4_trades_26 : decode cX4_trades 26 = .ok (.iload_n 3, 1) := dk_29 (dk_at dksX4_trades_1 2 rfl rfl)
theorem dX4_trades_27 : decode cX4_trades 27 = .ok (.invokevirtual 328, 3) := dk_182 1 72 (dk_at dksX4_trades_1 3 rfl rfl)
theorem dX4_trades_30 : decode cX4_trades 30 = .ok (.aload_n 0, 1) := dk_42 (dk_at dksX4_trades_1 6 rfl rfl)
theorem dX4_trades_31 : decode cX4_trades 31 = .ok (.getfield 325, 3) := dk_180 1 69 (dk_at dksX4_trades_1 7 rfl rfl)
theorem dX4_trades_34 : decode cX4_trades 34 = .ok (.ifCond .ne 8, 3) := dk_154 0 8 (dk_at dksX4_trades_1 10 rfl rfl)
theorem dX4_trades_37 : decode cX4_trades 37 = .ok (.bipush (-2), 2) := dk_16 254 (dk_at dksX4_trades_1 13 rfl rfl)
theorem dX4_trades_39 : decode cX4_trades 39 = .ok (.goto 7, 3) := dk_167 0 7 (dk_at dksX4_trades_1 15 rfl rfl)
theorem dX4_trades_42 : decode cX4_trades 42 = .ok (.aload_n 0, 1) := dk_42 (dk_at dksX4_trades_1 18 rfl rfl)
theorem dX4_trades_43 : decode cX4_trades 43 = .ok (.getfield 325, 3) := dk_180 1 69 (dk_at dksX4_trades_1 19 rfl rfl)
theorem dX4_trades_46 : decode cX4_trades 46 = .ok (.ireturn, 1) := dk_172 (dk_at dksX4_trades_1 22 rfl rfl)
abbrev cX4_laysTrades : ByteArray := prog_15_method_68_code
def yX4_laysTrades : MethodName := ⟨RX4, "laysTrades", "(III)V"⟩
def dkwX4_laysTrades_3 : List UInt8 := [96, 181, 1, 69, 21, 6, 54, 4, 132, 5, 1, 167, 255, 193, 177]
abbrev dktX4_laysTrades_3 : List UInt8 := dkwX4_laysTrades_3 ++ []
def dkwX4_laysTrades_2 : List UInt8 := [42, 180, 1, 69, 21, 6, 79, 42, 180, 0, 60, 42, 180, 1, 69, 21, 5, 79, 42, 89, 180, 1, 69, 4]
abbrev dktX4_laysTrades_2 : List UInt8 := dkwX4_laysTrades_2 ++ dktX4_laysTrades_3
def dkwX4_laysTrades_1 : List UInt8 := [162, 0, 62, 42, 27, 29, 21, 5, 182, 1, 66, 54, 6, 21, 6, 21, 4, 162, 0, 39, 42, 180, 0, 57]
abbrev dktX4_laysTrades_1 : List UInt8 := dkwX4_laysTrades_1 ++ dktX4_laysTrades_2
def dkwX4_laysTrades_0 : List UInt8 := [42, 28, 16, 119, 182, 1, 63, 42, 3, 181, 1, 69, 17, 39, 15, 54, 4, 3, 54, 5, 21, 5, 16, 120]
abbrev dktX4_laysTrades_0 : List UInt8 := dkwX4_laysTrades_0 ++ dktX4_laysTrades_1
theorem dksX4_laysTrades_0 : cX4_laysTrades.data.toList.drop 0 = dktX4_laysTrades_0 := by decide +kernel
theorem dksX4_laysTrades_1 : cX4_laysTrades.data.toList.drop 24 = dktX4_laysTrades_1 := dk_seg dksX4_laysTrades_0 24 rfl rfl
theorem dksX4_laysTrades_2 : cX4_laysTrades.data.toList.drop 48 = dktX4_laysTrades_2 := dk_seg dksX4_laysTrades_1 24 rfl rfl
theorem dksX4_laysTrades_3 : cX4_laysTrades.data.toList.drop 72 = dktX4_laysTrades_3 := dk_seg dksX4_laysTrades_2 24 rfl rfl
theorem dX4_laysTrades_0 : decode cX4_laysTrades 0 = .ok (.aload_n 0, 1) := dk_42 (dk_at dksX4_laysTrades_0 0 rfl rfl)
theorem dX4_laysTrades_1 : decode cX4_laysTrades 1 = .ok (.iload_n 2, 1) := dk_28 (dk_at dksX4_laysTrades_0 1 rfl rfl)
theorem dX4_laysTrades_2 : decode cX4_laysTrades 2 = .ok (.bipush 119, 2) := dk_16 119 (dk_at dksX4_laysTrades_0 2 rfl rfl)
theorem dX4_laysTrades_4 : decode cX4_laysTrades 4 = .ok (.invokevirtual 319, 3) := dk_182 1 63 (dk_at dksX4_laysTrades_0 4 rfl rfl)
theorem dX4_laysTrades_7 : decode cX4_laysTrades 7 = .ok (.aload_n 0, 1) := dk_42 (dk_at dksX4_laysTrades_0 7 rfl rfl)
theorem dX4_laysTrades_8 : decode cX4_laysTrades 8 = .ok (.iconst 0, 1) := dk_3 (dk_at dksX4_laysTrades_0 8 rfl rfl)
theorem dX4_laysTrades_9 : decode cX4_laysTrades 9 = .ok (.putfield 325, 3) := dk_181 1 69 (dk_at dksX4_laysTrades_0 9 rfl rfl)
theorem dX4_laysTrades_12 : decode cX4_laysTrades 12 = .ok (.sipush 9999, 3) := dk_17 39 15 (dk_at dksX4_laysTrades_0 12 rfl rfl)
theorem dX4_laysTrades_15 : decode cX4_laysTrades 15 = .ok (.istore 4, 2) := dk_54 4 (dk_at dksX4_laysTrades_0 15 rfl rfl)
theorem dX4_laysTrades_17 : decode cX4_laysTrades 17 = .ok (.iconst 0, 1) := dk_3 (dk_at dksX4_laysTrades_0 17 rfl rfl)
theorem dX4_laysTrades_18 : decode cX4_laysTrades 18 = .ok (.istore 5, 2) := dk_54 5 (dk_at dksX4_laysTrades_0 18 rfl rfl)
theorem dX4_laysTrades_20 : decode cX4_laysTrades 20 = .ok (.iload 5, 2) := dk_21 5 (dk_at dksX4_laysTrades_0 20 rfl rfl)
theorem dX4_laysTrades_22 : decode cX4_laysTrades 22 = .ok (.bipush 120, 2) := dk_16 120 (dk_at dksX4_laysTrades_0 22 rfl rfl)
theorem dX4_laysTrades_24 : decode cX4_laysTrades 24 = .ok (.if_icmp .ge 62, 3) := dk_162 0 62 (dk_at dksX4_laysTrades_1 0 rfl rfl)
theorem dX4_laysTrades_27 : decode cX4_laysTrades 27 = .ok (.aload_n 0, 1) := dk_42 (dk_at dksX4_laysTrades_1 3 rfl rfl)
theorem dX4_laysTrades_28 : decode cX4_laysTrades 28 = .ok (.iload_n 1, 1) := dk_27 (dk_at dksX4_laysTrades_1 4 rfl rfl)
theorem dX4_laysTrades_29 : decode cX4_laysTrades 29 = .ok (.iload_n 3, 1) := dk_29 (dk_at dksX4_laysTrades_1 5 rfl rfl)
theorem dX4_laysTrades_30 : decode cX4_laysTrades 30 = .ok (.iload 5, 2) := dk_21 5 (dk_at dksX4_laysTrades_1 6 rfl rfl)
theorem dX4_laysTrades_32 : decode cX4_laysTrades 32 = .ok (.invokevirtual 322, 3) := dk_182 1 66 (dk_at dksX4_laysTrades_1 8 rfl rfl)
theorem dX4_laysTrades_35 : decode cX4_laysTrades 35 = .ok (.istore 6, 2) := dk_54 6 (dk_at dksX4_laysTrades_1 11 rfl rfl)
theorem dX4_laysTrades_37 : decode cX4_laysTrades 37 = .ok (.iload 6, 2) := dk_21 6 (dk_at dksX4_laysTrades_1 13 rfl rfl)
theorem dX4_laysTrades_39 : decode cX4_laysTrades 39 = .ok (.iload 4, 2) := dk_21 4 (dk_at dksX4_laysTrades_1 15 rfl rfl)
theorem dX4_laysTrades_41 : decode cX4_laysTrades 41 = .ok (.if_icmp .ge 39, 3) := dk_162 0 39 (dk_at dksX4_laysTrades_1 17 rfl rfl)
theorem dX4_laysTrades_44 : decode cX4_laysTrades 44 = .ok (.aload_n 0, 1) := dk_42 (dk_at dksX4_laysTrades_1 20 rfl rfl)
theorem dX4_laysTrades_45 : decode cX4_laysTrades 45 = .ok (.getfield 57, 3) := dk_180 0 57 (dk_at dksX4_laysTrades_1 21 rfl rfl)
theorem dX4_laysTrades_48 : decode cX4_laysTrades 48 = .ok (.aload_n 0, 1) := dk_42 (dk_at dksX4_laysTrades_2 0 rfl rfl)
theorem dX4_laysTrades_49 : decode cX4_laysTrades 49 = .ok (.getfield 325, 3) := dk_180 1 69 (dk_at dksX4_laysTrades_2 1 rfl rfl)
theorem dX4_laysTrades_52 : decode cX4_laysTrades 52 = .ok (.iload 6, 2) := dk_21 6 (dk_at dksX4_laysTrades_2 4 rfl rfl)
theorem dX4_laysTrades_54 : decode cX4_laysTrades 54 = .ok (.iastore, 1) := dk_79 (dk_at dksX4_laysTrades_2 6 rfl rfl)
theorem dX4_laysTrades_55 : decode cX4_laysTrades 55 = .ok (.aload_n 0, 1) := dk_42 (dk_at dksX4_laysTrades_2 7 rfl rfl)
theorem dX4_laysTrades_56 : decode cX4_laysTrades 56 = .ok (.getfield 60, 3) := dk_180 0 60 (dk_at dksX4_laysTrades_2 8 rfl rfl)
theorem dX4_laysTrades_59 : decode cX4_laysTrades 59 = .ok (.aload_n 0, 1) := dk_42 (dk_at dksX4_laysTrades_2 11 rfl rfl)
theorem dX4_laysTrades_60 : decode cX4_laysTrades 60 = .ok (.getfield 325, 3) := dk_180 1 69 (dk_at dksX4_laysTrades_2 12 rfl rfl)
theorem dX4_laysTrades_63 : decode cX4_laysTrades 63 = .ok (.iload 5, 2) := dk_21 5 (dk_at dksX4_laysTrades_2 15 rfl rfl)
theorem dX4_laysTrades_65 : decode cX4_laysTrades 65 = .ok (.iastore, 1) := dk_79 (dk_at dksX4_laysTrades_2 17 rfl rfl)
theorem dX4_laysTrades_66 : decode cX4_laysTrades 66 = .ok (.aload_n 0, 1) := dk_42 (dk_at dksX4_laysTrades_2 18 rfl rfl)
theorem dX4_laysTrades_67 : decode cX4_laysTrades 67 = .ok (.dup, 1) := dk_89 (dk_at dksX4_laysTrades_2 19 rfl rfl)
theorem dX4_laysTrades_68 : decode cX4_laysTrades 68 = .ok (.getfield 325, 3) := dk_180 1 69 (dk_at dksX4_laysTrades_2 20 rfl rfl)
theorem dX4_laysTrades_71 : decode cX4_laysTrades 71 = .ok (.iconst 1, 1) := dk_4 (dk_at dksX4_laysTrades_2 23 rfl rfl)
theorem dX4_laysTrades_72 : decode cX4_laysTrades 72 = .ok (.iadd, 1) := dk_96 (dk_at dksX4_laysTrades_3 0 rfl rfl)
theorem dX4_laysTrades_73 : decode cX4_laysTrades 73 = .ok (.putfield 325, 3) := dk_181 1 69 (dk_at dksX4_laysTrades_3 1 rfl rfl)
theorem dX4_laysTrades_76 : decode cX4_laysTrades 76 = .ok (.iload 6, 2) := dk_21 6 (dk_at dksX4_laysTrades_3 4 rfl rfl)
theorem dX4_laysTrades_78 : decode cX4_laysTrades 78 = .ok (.istore 4, 2) := dk_54 4 (dk_at dksX4_laysTrades_3 6 rfl rfl)
theorem dX4_laysTrades_80 : decode cX4_laysTrades 80 = .ok (.iinc 5 1, 3) := dk_132 5 1 (dk_at dksX4_laysTrades_3 8 rfl rfl)
theorem dX4_laysTrades_83 : decode cX4_laysTrades 83 = .ok (.goto (-63), 3) := dk_167 255 193 (dk_at dksX4_laysTrades_3 11 rfl rfl)
theorem dX4_laysTrades_86 : decode cX4_laysTrades 86 = .ok (.return_, 1) := dk_177 (dk_at dksX4_laysTrades_3 14 rfl rfl)
abbrev cX4_trade : ByteArray := prog_15_method_71_code
def yX4_trade : MethodName := ⟨RX4, "trade", "(IIIII)I"⟩
def dkwX4_trade_6 : List UInt8 := [180, 0, 60, 21, 4, 46, 42, 180, 0, 57, 21, 4, 46, 182, 1, 76, 172]
abbrev dktX4_trade_6 : List UInt8 := dkwX4_trade_6 ++ []
def dkwX4_trade_5 : List UInt8 := [167, 0, 39, 21, 5, 4, 160, 0, 13, 42, 180, 0, 60, 21, 4, 46, 167, 0, 23, 42, 27, 29, 42]
abbrev dktX4_trade_5 : List UInt8 := dkwX4_trade_5 ++ dktX4_trade_6
def dkwX4_trade_4 : List UInt8 := [184, 0, 107, 154, 0, 9, 42, 4, 182, 0, 237, 172, 21, 5, 154, 0, 13, 42, 180, 0, 57, 21, 4, 46]
abbrev dktX4_trade_4 : List UInt8 := dkwX4_trade_4 ++ dktX4_trade_5
def dkwX4_trade_3 : List UInt8 := [16, 254, 172, 21, 4, 3, 42, 180, 1, 69, 4, 100, 184, 0, 107, 153, 0, 13, 21, 5, 3, 5]
abbrev dktX4_trade_3 : List UInt8 := dkwX4_trade_3 ++ dktX4_trade_4
def dkwX4_trade_2 : List UInt8 := [160, 0, 7, 3, 167, 0, 4, 29, 172, 42, 27, 28, 29, 182, 1, 72, 42, 180, 1, 69, 154, 0, 6]
abbrev dktX4_trade_2 : List UInt8 := dkwX4_trade_2 ++ dktX4_trade_3
def dkwX4_trade_1 : List UInt8 := [154, 0, 13, 21, 5, 3, 5, 184, 0, 107, 154, 0, 11, 42, 4, 182, 0, 237, 167, 0, 14, 21, 5, 4]
abbrev dktX4_trade_1 : List UInt8 := dkwX4_trade_1 ++ dktX4_trade_2
def dkwX4_trade_0 : List UInt8 := [42, 42, 27, 28, 29, 182, 1, 51, 182, 0, 228, 153, 0, 5, 2, 172, 27, 28, 160, 0, 38, 21, 4]
abbrev dktX4_trade_0 : List UInt8 := dkwX4_trade_0 ++ dktX4_trade_1
theorem dksX4_trade_0 : cX4_trade.data.toList.drop 0 = dktX4_trade_0 := by decide +kernel
theorem dksX4_trade_1 : cX4_trade.data.toList.drop 23 = dktX4_trade_1 := dk_seg dksX4_trade_0 23 rfl rfl
theorem dksX4_trade_2 : cX4_trade.data.toList.drop 47 = dktX4_trade_2 := dk_seg dksX4_trade_1 24 rfl rfl
theorem dksX4_trade_3 : cX4_trade.data.toList.drop 70 = dktX4_trade_3 := dk_seg dksX4_trade_2 23 rfl rfl
theorem dksX4_trade_4 : cX4_trade.data.toList.drop 92 = dktX4_trade_4 := dk_seg dksX4_trade_3 22 rfl rfl
theorem dksX4_trade_5 : cX4_trade.data.toList.drop 116 = dktX4_trade_5 := dk_seg dksX4_trade_4 24 rfl rfl
theorem dksX4_trade_6 : cX4_trade.data.toList.drop 139 = dktX4_trade_6 := dk_seg dksX4_trade_5 23 rfl rfl
theorem dX4_trade_0 : decode cX4_trade 0 = .ok (.aload_n 0, 1) := dk_42 (dk_at dksX4_trade_0 0 rfl rfl)
theorem dX4_trade_1 : decode cX4_trade 1 = .ok (.aload_n 0, 1) := dk_42 (dk_at dksX4_trade_0 1 rfl rfl)
theorem dX4_trade_2 : decode cX4_trade 2 = .ok (.iload_n 1, 1) := dk_27 (dk_at dksX4_trade_0 2 rfl rfl)
theorem dX4_trade_3 : decode cX4_trade 3 = .ok (.iload_n 2, 1) := dk_28 (dk_at dksX4_trade_0 3 rfl rfl)
theorem dX4_trade_4 : decode cX4_trade 4 = .ok (.iload_n 3, 1) := dk_29 (dk_at dksX4_trade_0 4 rfl rfl)
theorem dX4_trade_5 : decode cX4_trade 5 = .ok (.invokevirtual 307, 3) := dk_182 1 51 (dk_at dksX4_trade_0 5 rfl rfl)
theorem dX4_trade_8 : decode cX4_trade 8 = .ok (.invokevirtual 228, 3) := dk_182 0 228 (dk_at dksX4_trade_0 8 rfl rfl)
theorem dX4_trade_11 : decode cX4_trade 11 = .ok (.ifCond .eq 5, 3) := dk_153 0 5 (dk_at dksX4_trade_0 11 rfl rfl)
theorem dX4_trade_14 : decode cX4_trade 14 = .ok (.iconst (-1), 1) := dk_2 (dk_at dksX4_trade_0 14 rfl rfl)
theorem dX4_trade_15 : decode cX4_trade 15 = .ok (.ireturn, 1) := dk_172 (dk_at dksX4_trade_0 15 rfl rfl)
theorem dX4_trade_16 : decode cX4_trade 16 = .ok (.iload_n 1, 1) := dk_27 (dk_at dksX4_trade_0 16 rfl rfl)
theorem dX4_trade_17 : decode cX4_trade 17 = .ok (.iload_n 2, 1) := dk_28 (dk_at dksX4_trade_0 17 rfl rfl)
theorem dX4_trade_18 : decode cX4_trade 18 = .ok (.if_icmp .ne 38, 3) := dk_160 0 38 (dk_at dksX4_trade_0 18 rfl rfl)
theorem dX4_trade_21 : decode cX4_trade 21 = .ok (.iload 4, 2) := dk_21 4 (dk_at dksX4_trade_0 21 rfl rfl)
theorem dX4_trade_23 : decode cX4_trade 23 = .ok (.ifCond .ne 13, 3) := dk_154 0 13 (dk_at dksX4_trade_1 0 rfl rfl)
theorem dX4_trade_26 : decode cX4_trade 26 = .ok (.iload 5, 2) := dk_21 5 (dk_at dksX4_trade_1 3 rfl rfl)
theorem dX4_trade_28 : decode cX4_trade 28 = .ok (.iconst 0, 1) := dk_3 (dk_at dksX4_trade_1 5 rfl rfl)
theorem dX4_trade_29 : decode cX4_trade 29 = .ok (.iconst 2, 1) := dk_5 (dk_at dksX4_trade_1 6 rfl rfl)
theorem dX4_trade_30 : decode cX4_trade 30 = .ok (.invokestatic 107, 3) := dk_184 0 107 (dk_at dksX4_trade_1 7 rfl rfl)
theorem dX4_trade_33 : decode cX4_trade 33 = .ok (.ifCond .ne 11, 3) := dk_154 0 11 (dk_at dksX4_trade_1 10 rfl rfl)
theorem dX4_trade_36 : decode cX4_trade 36 = .ok (.aload_n 0, 1) := dk_42 (dk_at dksX4_trade_1 13 rfl rfl)
theorem dX4_trade_37 : decode cX4_trade 37 = .ok (.iconst 1, 1) := dk_4 (dk_at dksX4_trade_1 14 rfl rfl)
theorem dX4_trade_38 : decode cX4_trade 38 = .ok (.invokevirtual 237, 3) := dk_182 0 237 (dk_at dksX4_trade_1 15 rfl rfl)
theorem dX4_trade_41 : decode cX4_trade 41 = .ok (.goto 14, 3) := dk_167 0 14 (dk_at dksX4_trade_1 18 rfl rfl)
theorem dX4_trade_44 : decode cX4_trade 44 = .ok (.iload 5, 2) := dk_21 5 (dk_at dksX4_trade_1 21 rfl rfl)
theorem dX4_trade_46 : decode cX4_trade 46 = .ok (.iconst 1, 1) := dk_4 (dk_at dksX4_trade_1 23 rfl rfl)
theorem dX4_trade_47 : decode cX4_trade 47 = .ok (.if_icmp .ne 7, 3) := dk_160 0 7 (dk_at dksX4_trade_2 0 rfl rfl)
theorem dX4_trade_50 : decode cX4_trade 50 = .ok (.iconst 0, 1) := dk_3 (dk_at dksX4_trade_2 3 rfl rfl)
theorem dX4_trade_51 : decode cX4_trade 51 = .ok (.goto 4, 3) := dk_167 0 4 (dk_at dksX4_trade_2 4 rfl rfl)
theorem dX4_trade_54 : decode cX4_trade 54 = .ok (.iload_n 3, 1) := dk_29 (dk_at dksX4_trade_2 7 rfl rfl)
theorem dX4_trade_55 : decode cX4_trade 55 = .ok (.ireturn, 1) := dk_172 (dk_at dksX4_trade_2 8 rfl rfl)
theorem dX4_trade_56 : decode cX4_trade 56 = .ok (.aload_n 0, 1) := dk_42 (dk_at dksX4_trade_2 9 rfl rfl)
theorem dX4_trade_57 : decode cX4_trade 57 = .ok (.iload_n 1, 1) := dk_27 (dk_at dksX4_trade_2 10 rfl rfl)
theorem dX4_trade_58 : decode cX4_trade 58 = .ok (.iload_n 2, 1) := dk_28 (dk_at dksX4_trade_2 11 rfl rfl)
theorem dX4_trade_59 : decode cX4_trade 59 = .ok (.iload_n 3, 1) := dk_29 (dk_at dksX4_trade_2 12 rfl rfl)
theorem dX4_trade_60 : decode cX4_trade 60 = .ok (.invokevirtual 328, 3) := dk_182 1 72 (dk_at dksX4_trade_2 13 rfl rfl)
theorem dX4_trade_63 : decode cX4_trade 63 = .ok (.aload_n 0, 1) := dk_42 (dk_at dksX4_trade_2 16 rfl rfl)
theorem dX4_trade_64 : decode cX4_trade 64 = .ok (.getfield 325, 3) := dk_180 1 69 (dk_at dksX4_trade_2 17 rfl rfl)
theorem dX4_trade_67 : decode cX4_trade 67 = .ok (.ifCond .ne 6, 3) := dk_154 0 6 (dk_at dksX4_trade_2 20 rfl rfl)
theorem dX4_trade_70 : decode cX4_trade 70 = .ok (.bipush (-2), 2) := dk_16 254 (dk_at dksX4_trade_3 0 rfl rfl)
theorem dX4_trade_72 : decode cX4_trade 72 = .ok (.ireturn, 1) := dk_172 (dk_at dksX4_trade_3 2 rfl rfl)
theorem dX4_trade_73 : decode cX4_trade 73 = .ok (.iload 4, 2) := dk_21 4 (dk_at dksX4_trade_3 3 rfl rfl)
theorem dX4_trade_75 : decode cX4_trade 75 = .ok (.iconst 0, 1) := dk_3 (dk_at dksX4_trade_3 5 rfl rfl)
theorem dX4_trade_76 : decode cX4_trade 76 = .ok (.aload_n 0, 1) := dk_42 (dk_at dksX4_trade_3 6 rfl rfl)
theorem dX4_trade_77 : decode cX4_trade 77 = .ok (.getfield 325, 3) := dk_180 1 69 (dk_at dksX4_trade_3 7 rfl rfl)
theorem dX4_trade_80 : decode cX4_trade 80 = .ok (.iconst 1, 1) := dk_4 (dk_at dksX4_trade_3 10 rfl rfl)
theorem dX4_trade_81 : decode cX4_trade 81 = .ok (.isub, 1) := dk_100 (dk_at dksX4_trade_3 11 rfl rfl)
theorem dX4_trade_82 : decode cX4_trade 82 = .ok (.invokestatic 107, 3) := dk_184 0 107 (dk_at dksX4_trade_3 12 rfl rfl)
theorem dX4_trade_85 : decode cX4_trade 85 = .ok (.ifCond .eq 13, 3) := dk_153 0 13 (dk_at dksX4_trade_3 15 rfl rfl)
theorem dX4_trade_88 : decode cX4_trade 88 = .ok (.iload 5, 2) := dk_21 5 (dk_at dksX4_trade_3 18 rfl rfl)
theorem dX4_trade_90 : decode cX4_trade 90 = .ok (.iconst 0, 1) := dk_3 (dk_at dksX4_trade_3 20 rfl rfl)
theorem dX4_trade_91 : decode cX4_trade 91 = .ok (.iconst 2, 1) := dk_5 (dk_at dksX4_trade_3 21 rfl rfl)
theorem dX4_trade_92 : decode cX4_trade 92 = .ok (.invokestatic 107, 3) := dk_184 0 107 (dk_at dksX4_trade_4 0 rfl rfl)
theorem dX4_trade_95 : decode cX4_trade 95 = .ok (.ifCond .ne 9, 3) := dk_154 0 9 (dk_at dksX4_trade_4 3 rfl rfl)
theorem dX4_trade_98 : decode cX4_trade 98 = .ok (.aload_n 0, 1) := dk_42 (dk_at dksX4_trade_4 6 rfl rfl)
theorem dX4_trade_99 : decode cX4_trade 99 = .ok (.iconst 1, 1) := dk_4 (dk_at dksX4_trade_4 7 rfl rfl)
theorem dX4_trade_100 : decode cX4_trade 100 = .ok (.invokevirtual 237, 3) := dk_182 0 237 (dk_at dksX4_trade_4 8 rfl rfl)
theorem dX4_trade_103 : decode cX4_trade 103 = .ok (.ireturn, 1) := dk_172 (dk_at dksX4_trade_4 11 rfl rfl)
theorem dX4_trade_104 : decode cX4_trade 104 = .ok (.iload 5, 2) := dk_21 5 (dk_at dksX4_trade_4 12 rfl rfl)
theorem dX4_trade_106 : decode cX4_trade 106 = .ok (.ifCond .ne 13, 3) := dk_154 0 13 (dk_at dksX4_trade_4 14 rfl rfl)
theorem dX4_trade_109 : decode cX4_trade 109 = .ok (.aload_n 0, 1) := dk_42 (dk_at dksX4_trade_4 17 rfl rfl)
theorem dX4_trade_110 : decode cX4_trade 110 = .ok (.getfield 57, 3) := dk_180 0 57 (dk_at dksX4_trade_4 18 rfl rfl)
theorem dX4_trade_113 : decode cX4_trade 113 = .ok (.iload 4, 2) := dk_21 4 (dk_at dksX4_trade_4 21 rfl rfl)
theorem dX4_trade_115 : decode cX4_trade 115 = .ok (.iaload, 1) := dk_46 (dk_at dksX4_trade_4 23 rfl rfl)
theorem dX4_trade_116 : decode cX4_trade 116 = .ok (.goto 39, 3) := dk_167 0 39 (dk_at dksX4_trade_5 0 rfl rfl)
theorem dX4_trade_119 : decode cX4_trade 119 = .ok (.iload 5, 2) := dk_21 5 (dk_at dksX4_trade_5 3 rfl rfl)
theorem dX4_trade_121 : decode cX4_trade 121 = .ok (.iconst 1, 1) := dk_4 (dk_at dksX4_trade_5 5 rfl rfl)
theorem dX4_trade_122 : decode cX4_trade 122 = .ok (.if_icmp .ne 13, 3) := dk_160 0 13 (dk_at dksX4_trade_5 6 rfl rfl)
theorem dX4_trade_125 : decode cX4_trade 125 = .ok (.aload_n 0, 1) := dk_42 (dk_at dksX4_trade_5 9 rfl rfl)
theorem dX4_trade_126 : decode cX4_trade 126 = .ok (.getfield 60, 3) := dk_180 0 60 (dk_at dksX4_trade_5 10 rfl rfl)
theorem dX4_trade_129 : decode cX4_trade 129 = .ok (.iload 4, 2) := dk_21 4 (dk_at dksX4_trade_5 13 rfl rfl)
theorem dX4_trade_131 : decode cX4_trade 131 = .ok (.iaload, 1) := dk_46 (dk_at dksX4_trade_5 15 rfl rfl)
theorem dX4_trade_132 : decode cX4_trade 132 = .ok (.goto 23, 3) := dk_167 0 23 (dk_at dksX4_trade_5 16 rfl rfl)
theorem dX4_trade_135 : decode cX4_trade 135 = .ok (.aload_n 0, 1) := dk_42 (dk_at dksX4_trade_5 19 rfl rfl)
theorem dX4_trade_136 : decode cX4_trade 136 = .ok (.iload_n 1, 1) := dk_27 (dk_at dksX4_trade_5 20 rfl rfl)
theorem dX4_trade_137 : decode cX4_trade 137 = .ok (.iload_n 3, 1) := dk_29 (dk_at dksX4_trade_5 21 rfl rfl)
theorem dX4_trade_138 : decode cX4_trade 138 = .ok (.aload_n 0, 1) := dk_42 (dk_at dksX4_trade_5 22 rfl rfl)
theorem dX4_trade_139 : decode cX4_trade 139 = .ok (.getfield 60, 3) := dk_180 0 60 (dk_at dksX4_trade_6 0 rfl rfl)
theorem dX4_trade_142 : decode cX4_trade 142 = .ok (.iload 4, 2) := dk_21 4 (dk_at dksX4_trade_6 3 rfl rfl)
theorem dX4_trade_144 : decode cX4_trade 144 = .ok (.iaload, 1) := dk_46 (dk_at dksX4_trade_6 5 rfl rfl)
theorem dX4_trade_145 : decode cX4_trade 145 = .ok (.aload_n 0, 1) := dk_42 (dk_at dksX4_trade_6 6 rfl rfl)
theorem dX4_trade_146 : decode cX4_trade 146 = .ok (.getfield 57, 3) := dk_180 0 57 (dk_at dksX4_trade_6 7 rfl rfl)
theorem dX4_trade_149 : decode cX4_trade 149 = .ok (.iload 4, 2) := dk_21 4 (dk_at dksX4_trade_6 10 rfl rfl)
theorem dX4_trade_151 : decode cX4_trade 151 = .ok (.iaload, 1) := dk_46 (dk_at dksX4_trade_6 12 rfl rfl)
theorem dX4_trade_152 : decode cX4_trade 152 = .ok (.invokevirtual 332, 3) := dk_182 1 76 (dk_at dksX4_trade_6 13 rfl rfl)
theorem dX4_trade_155 : decode cX4_trade 155 = .ok (.ireturn, 1) := dk_172 (dk_at dksX4_trade_6 16 rfl rfl)
abbrev cX4_latestOf : ByteArray := prog_15_method_70_code
def yX4_latestOf : MethodName := ⟨RX4, "latestOf", "(IIII)I"⟩
def dkwX4_latestOf_4 : List UInt8 := [167, 0, 5, 21, 5, 54, 5, 132, 6, 1, 167, 255, 160, 21, 5, 172]
abbrev dktX4_latestOf_4 : List UInt8 := dkwX4_latestOf_4 ++ []
def dkwX4_latestOf_3 : List UInt8 := [21, 7, 153, 0, 23, 42, 21, 6, 182, 0, 250, 21, 5, 164, 0, 12, 42, 21, 6, 182, 0, 250]
abbrev dktX4_latestOf_3 : List UInt8 := dkwX4_latestOf_3 ++ dktX4_latestOf_4
def dkwX4_latestOf_2 : List UInt8 := [28, 161, 0, 19, 42, 21, 6, 29, 182, 1, 60, 21, 4, 160, 0, 7, 4, 167, 0, 4, 3, 54, 7]
abbrev dktX4_latestOf_2 : List UInt8 := dkwX4_latestOf_2 ++ dktX4_latestOf_3
def dkwX4_latestOf_1 : List UInt8 := [153, 0, 44, 42, 180, 0, 17, 21, 6, 4, 184, 0, 209, 46, 27, 160, 0, 29, 42, 21, 6, 182, 0, 250]
abbrev dktX4_latestOf_1 : List UInt8 := dkwX4_latestOf_1 ++ dktX4_latestOf_2
def dkwX4_latestOf_0 : List UInt8 := [16, 254, 54, 5, 3, 54, 6, 21, 6, 42, 180, 0, 17, 7, 46, 162, 0, 91, 42, 21, 6, 182, 0, 253]
abbrev dktX4_latestOf_0 : List UInt8 := dkwX4_latestOf_0 ++ dktX4_latestOf_1
theorem dksX4_latestOf_0 : cX4_latestOf.data.toList.drop 0 = dktX4_latestOf_0 := by decide +kernel
theorem dksX4_latestOf_1 : cX4_latestOf.data.toList.drop 24 = dktX4_latestOf_1 := dk_seg dksX4_latestOf_0 24 rfl rfl
theorem dksX4_latestOf_2 : cX4_latestOf.data.toList.drop 48 = dktX4_latestOf_2 := dk_seg dksX4_latestOf_1 24 rfl rfl
theorem dksX4_latestOf_3 : cX4_latestOf.data.toList.drop 71 = dktX4_latestOf_3 := dk_seg dksX4_latestOf_2 23 rfl rfl
theorem dksX4_latestOf_4 : cX4_latestOf.data.toList.drop 93 = dktX4_latestOf_4 := dk_seg dksX4_latestOf_3 22 rfl rfl
theorem dX4_latestOf_0 : decode cX4_latestOf 0 = .ok (.bipush (-2), 2) := dk_16 254 (dk_at dksX4_latestOf_0 0 rfl rfl)
theorem dX4_latestOf_2 : decode cX4_latestOf 2 = .ok (.istore 5, 2) := dk_54 5 (dk_at dksX4_latestOf_0 2 rfl rfl)
theorem dX4_latestOf_4 : decode cX4_latestOf 4 = .ok (.iconst 0, 1) := dk_3 (dk_at dksX4_latestOf_0 4 rfl rfl)
theorem dX4_latestOf_5 : decode cX4_latestOf 5 = .ok (.istore 6, 2) := dk_54 6 (dk_at dksX4_latestOf_0 5 rfl rfl)
theorem dX4_latestOf_7 : decode cX4_latestOf 7 = .ok (.iload 6, 2) := dk_21 6 (dk_at dksX4_latestOf_0 7 rfl rfl)
theorem dX4_latestOf_9 : decode cX4_latestOf 9 = .ok (.aload_n 0, 1) := dk_42 (dk_at dksX4_latestOf_0 9 rfl rfl)
theorem dX4_latestOf_10 : decode cX4_latestOf 10 = .ok (.getfield 17, 3) := dk_180 0 17 (dk_at dksX4_latestOf_0 10 rfl rfl)
theorem dX4_latestOf_13 : decode cX4_latestOf 13 = .ok (.iconst 4, 1) := dk_7 (dk_at dksX4_latestOf_0 13 rfl rfl)
theorem dX4_latestOf_14 : decode cX4_latestOf 14 = .ok (.iaload, 1) := dk_46 (dk_at dksX4_latestOf_0 14 rfl rfl)
theorem dX4_latestOf_15 : decode cX4_latestOf 15 = .ok (.if_icmp .ge 91, 3) := dk_162 0 91 (dk_at dksX4_latestOf_0 15 rfl rfl)
theorem dX4_latestOf_18 : decode cX4_latestOf 18 = .ok (.aload_n 0, 1) := dk_42 (dk_at dksX4_latestOf_0 18 rfl rfl)
theorem dX4_latestOf_19 : decode cX4_latestOf 19 = .ok (.iload 6, 2) := dk_21 6 (dk_at dksX4_latestOf_0 19 rfl rfl)
theorem dX4_latestOf_21 : decode cX4_latestOf 21 = .ok (.invokevirtual 253, 3) := dk_182 0 253 (dk_at dksX4_latestOf_0 21 rfl rfl)
theorem dX4_latestOf_24 : decode cX4_latestOf 24 = .ok (.ifCond .eq 44, 3) := dk_153 0 44 (dk_at dksX4_latestOf_1 0 rfl rfl)
theorem dX4_latestOf_27 : decode cX4_latestOf 27 = .ok (.aload_n 0, 1) := dk_42 (dk_at dksX4_latestOf_1 3 rfl rfl)
theorem dX4_latestOf_28 : decode cX4_latestOf 28 = .ok (.getfield 17, 3) := dk_180 0 17 (dk_at dksX4_latestOf_1 4 rfl rfl)
theorem dX4_latestOf_31 : decode cX4_latestOf 31 = .ok (.iload 6, 2) := dk_21 6 (dk_at dksX4_latestOf_1 7 rfl rfl)
theorem dX4_latestOf_33 : decode cX4_latestOf 33 = .ok (.iconst 1, 1) := dk_4 (dk_at dksX4_latestOf_1 9 rfl rfl)
theorem dX4_latestOf_34 : decode cX4_latestOf 34 = .ok (.invokestatic 209, 3) := dk_184 0 209 (dk_at dksX4_latestOf_1 10 rfl rfl)
theorem dX4_latestOf_37 : decode cX4_latestOf 37 = .ok (.iaload, 1) := dk_46 (dk_at dksX4_latestOf_1 13 rfl rfl)
theorem dX4_latestOf_38 : decode cX4_latestOf 38 = .ok (.iload_n 1, 1) := dk_27 (dk_at dksX4_latestOf_1 14 rfl rfl)
theorem dX4_latestOf_39 : decode cX4_latestOf 39 = .ok (.if_icmp .ne 29, 3) := dk_160 0 29 (dk_at dksX4_latestOf_1 15 rfl rfl)
theorem dX4_latestOf_42 : decode cX4_latestOf 42 = .ok (.aload_n 0, 1) := dk_42 (dk_at dksX4_latestOf_1 18 rfl rfl)
theorem dX4_latestOf_43 : decode cX4_latestOf 43 = .ok (.iload 6, 2) := dk_21 6 (dk_at dksX4_latestOf_1 19 rfl rfl)
theorem dX4_latestOf_45 : decode cX4_latestOf 45 = .ok (.invokevirtual 250, 3) := dk_182 0 250 (dk_at dksX4_latestOf_1 21 rfl rfl)
theorem dX4_latestOf_48 : decode cX4_latestOf 48 = .ok (.iload_n 2, 1) := dk_28 (dk_at dksX4_latestOf_2 0 rfl rfl)
theorem dX4_latestOf_49 : decode cX4_latestOf 49 = .ok (.if_icmp .lt 19, 3) := dk_161 0 19 (dk_at dksX4_latestOf_2 1 rfl rfl)
theorem dX4_latestOf_52 : decode cX4_latestOf 52 = .ok (.aload_n 0, 1) := dk_42 (dk_at dksX4_latestOf_2 4 rfl rfl)
theorem dX4_latestOf_53 : decode cX4_latestOf 53 = .ok (.iload 6, 2) := dk_21 6 (dk_at dksX4_latestOf_2 5 rfl rfl)
theorem dX4_latestOf_55 : decode cX4_latestOf 55 = .ok (.iload_n 3, 1) := dk_29 (dk_at dksX4_latestOf_2 7 rfl rfl)
theorem dX4_latestOf_56 : decode cX4_latestOf 56 = .ok (.invokevirtual 316, 3) := dk_182 1 60 (dk_at dksX4_latestOf_2 8 rfl rfl)
theorem dX4_latestOf_59 : decode cX4_latestOf 59 = .ok (.iload 4, 2) := dk_21 4 (dk_at dksX4_latestOf_2 11 rfl rfl)
theorem dX4_latestOf_61 : decode cX4_latestOf 61 = .ok (.if_icmp .ne 7, 3) := dk_160 0 7 (dk_at dksX4_latestOf_2 13 rfl rfl)
theorem dX4_latestOf_64 : decode cX4_latestOf 64 = .ok (.iconst 1, 1) := dk_4 (dk_at dksX4_latestOf_2 16 rfl rfl)
theorem dX4_latestOf_65 : decode cX4_latestOf 65 = .ok (.goto 4, 3) := dk_167 0 4 (dk_at dksX4_latestOf_2 17 rfl rfl)
theorem dX4_latestOf_68 : decode cX4_latestOf 68 = .ok (.iconst 0, 1) := dk_3 (dk_at dksX4_latestOf_2 20 rfl rfl)
theorem dX4_latestOf_69 : decode cX4_latestOf 69 = .ok (.istore 7, 2) := dk_54 7 (dk_at dksX4_latestOf_2 21 rfl rfl)
theorem dX4_latestOf_71 : decode cX4_latestOf 71 = .ok (.iload 7, 2) := dk_21 7 (dk_at dksX4_latestOf_3 0 rfl rfl)
theorem dX4_latestOf_73 : decode cX4_latestOf 73 = .ok (.ifCond .eq 23, 3) := dk_153 0 23 (dk_at dksX4_latestOf_3 2 rfl rfl)
theorem dX4_latestOf_76 : decode cX4_latestOf 76 = .ok (.aload_n 0, 1) := dk_42 (dk_at dksX4_latestOf_3 5 rfl rfl)
theorem dX4_latestOf_77 : decode cX4_latestOf 77 = .ok (.iload 6, 2) := dk_21 6 (dk_at dksX4_latestOf_3 6 rfl rfl)
theorem dX4_latestOf_79 : decode cX4_latestOf 79 = .ok (.invokevirtual 250, 3) := dk_182 0 250 (dk_at dksX4_latestOf_3 8 rfl rfl)
theorem dX4_latestOf_82 : decode cX4_latestOf 82 = .ok (.iload 5, 2) := dk_21 5 (dk_at dksX4_latestOf_3 11 rfl rfl)
theorem dX4_latestOf_84 : decode cX4_latestOf 84 = .ok (.if_icmp .le 12, 3) := dk_164 0 12 (dk_at dksX4_latestOf_3 13 rfl rfl)
theorem dX4_latestOf_87 : decode cX4_latestOf 87 = .ok (.aload_n 0, 1) := dk_42 (dk_at dksX4_latestOf_3 16 rfl rfl)
theorem dX4_latestOf_88 : decode cX4_latestOf 88 = .ok (.iload 6, 2) := dk_21 6 (dk_at dksX4_latestOf_3 17 rfl rfl)
theorem dX4_latestOf_90 : decode cX4_latestOf 90 = .ok (.invokevirtual 250, 3) := dk_182 0 250 (dk_at dksX4_latestOf_3 19 rfl rfl)
theorem dX4_latestOf_93 : decode cX4_latestOf 93 = .ok (.goto 5, 3) := dk_167 0 5 (dk_at dksX4_latestOf_4 0 rfl rfl)
theorem dX4_latestOf_96 : decode cX4_latestOf 96 = .ok (.iload 5, 2) := dk_21 5 (dk_at dksX4_latestOf_4 3 rfl rfl)
theorem dX4_latestOf_98 : decode cX4_latestOf 98 = .ok (.istore 5, 2) := dk_54 5 (dk_at dksX4_latestOf_4 5 rfl rfl)
theorem dX4_latestOf_100 : decode cX4_latestOf 100 = .ok (.iinc 6 1, 3) := dk_132 6 1 (dk_at dksX4_latestOf_4 7 rfl rfl)
theorem dX4_latestOf_103 : decode cX4_latestOf 103 = .ok (.goto (-96), 3) := dk_167 255 160 (dk_at dksX4_latestOf_4 10 rfl rfl)
theorem dX4_latestOf_106 : decode cX4_latestOf 106 = .ok (.iload 5, 2) := dk_21 5 (dk_at dksX4_latestOf_4 13 rfl rfl)
theorem dX4_latestOf_108 : decode cX4_latestOf 108 = .ok (.ireturn, 1) := dk_172 (dk_at dksX4_latestOf_4 15 rfl rfl)
abbrev cX4_stands : ByteArray := prog_15_method_72_code
def yX4_stands : MethodName := ⟨RX4, "stands", "(III)I"⟩
def dkwX4_stands_3 : List UInt8 := [21, 4, 182, 1, 16, 100, 96, 54, 5, 42, 180, 0, 48, 21, 4, 46, 54, 4, 167, 255, 213, 21, 5, 172]
abbrev dktX4_stands_3 : List UInt8 := dkwX4_stands_3 ++ []
def dkwX4_stands_2 : List UInt8 := [180, 0, 48, 21, 4, 46, 2, 159, 0, 38, 21, 5, 42, 42, 180, 0, 48, 21, 4, 46, 182, 0, 250, 42]
abbrev dktX4_stands_2 : List UInt8 := dkwX4_stands_2 ++ dktX4_stands_3
def dkwX4_stands_1 : List UInt8 := [54, 4, 21, 4, 2, 160, 0, 15, 27, 28, 160, 0, 7, 3, 167, 0, 5, 16, 254, 172, 3, 54, 5, 42]
abbrev dktX4_stands_1 : List UInt8 := dkwX4_stands_1 ++ dktX4_stands_2
def dkwX4_stands_0 : List UInt8 := [42, 42, 27, 28, 29, 182, 1, 51, 182, 0, 228, 153, 0, 5, 2, 172, 42, 27, 28, 29, 182, 1, 58]
abbrev dktX4_stands_0 : List UInt8 := dkwX4_stands_0 ++ dktX4_stands_1
theorem dksX4_stands_0 : cX4_stands.data.toList.drop 0 = dktX4_stands_0 := by decide +kernel
theorem dksX4_stands_1 : cX4_stands.data.toList.drop 23 = dktX4_stands_1 := dk_seg dksX4_stands_0 23 rfl rfl
theorem dksX4_stands_2 : cX4_stands.data.toList.drop 47 = dktX4_stands_2 := dk_seg dksX4_stands_1 24 rfl rfl
theorem dksX4_stands_3 : cX4_stands.data.toList.drop 71 = dktX4_stands_3 := dk_seg dksX4_stands_2 24 rfl rfl
theorem dX4_stands_0 : decode cX4_stands 0 = .ok (.aload_n 0, 1) := dk_42 (dk_at dksX4_stands_0 0 rfl rfl)
theorem dX4_stands_1 : decode cX4_stands 1 = .ok (.aload_n 0, 1) := dk_42 (dk_at dksX4_stands_0 1 rfl rfl)
theorem dX4_stands_2 : decode cX4_stands 2 = .ok (.iload_n 1, 1) := dk_27 (dk_at dksX4_stands_0 2 rfl rfl)
theorem dX4_stands_3 : decode cX4_stands 3 = .ok (.iload_n 2, 1) := dk_28 (dk_at dksX4_stands_0 3 rfl rfl)
theorem dX4_stands_4 : decode cX4_stands 4 = .ok (.iload_n 3, 1) := dk_29 (dk_at dksX4_stands_0 4 rfl rfl)
theorem dX4_stands_5 : decode cX4_stands 5 = .ok (.invokevirtual 307, 3) := dk_182 1 51 (dk_at dksX4_stands_0 5 rfl rfl)
theorem dX4_stands_8 : decode cX4_stands 8 = .ok (.invokevirtual 228, 3) := dk_182 0 228 (dk_at dksX4_stands_0 8 rfl rfl)
theorem dX4_stands_11 : decode cX4_stands 11 = .ok (.ifCond .eq 5, 3) := dk_153 0 5 (dk_at dksX4_stands_0 11 rfl rfl)
theorem dX4_stands_14 : decode cX4_stands 14 = .ok (.iconst (-1), 1) := dk_2 (dk_at dksX4_stands_0 14 rfl rfl)
theorem dX4_stands_15 : decode cX4_stands 15 = .ok (.ireturn, 1) := dk_172 (dk_at dksX4_stands_0 15 rfl rfl)
theorem dX4_stands_16 : decode cX4_stands 16 = .ok (.aload_n 0, 1) := dk_42 (dk_at dksX4_stands_0 16 rfl rfl)
theorem dX4_stands_17 : decode cX4_stands 17 = .ok (.iload_n 1, 1) := dk_27 (dk_at dksX4_stands_0 17 rfl rfl)
theorem dX4_stands_18 : decode cX4_stands 18 = .ok (.iload_n 2, 1) := dk_28 (dk_at dksX4_stands_0 18 rfl rfl)
theorem dX4_stands_19 : decode cX4_stands 19 = .ok (.iload_n 3, 1) := dk_29 (dk_at dksX4_stands_0 19 rfl rfl)
theorem dX4_stands_20 : decode cX4_stands 20 = .ok (.invokevirtual 314, 3) := dk_182 1 58 (dk_at dksX4_stands_0 20 rfl rfl)
theorem dX4_stands_23 : decode cX4_stands 23 = .ok (.istore 4, 2) := dk_54 4 (dk_at dksX4_stands_1 0 rfl rfl)
theorem dX4_stands_25 : decode cX4_stands 25 = .ok (.iload 4, 2) := dk_21 4 (dk_at dksX4_stands_1 2 rfl rfl)
theorem dX4_stands_27 : decode cX4_stands 27 = .ok (.iconst (-1), 1) := dk_2 (dk_at dksX4_stands_1 4 rfl rfl)
theorem dX4_stands_28 : decode cX4_stands 28 = .ok (.if_icmp .ne 15, 3) := dk_160 0 15 (dk_at dksX4_stands_1 5 rfl rfl)
theorem dX4_stands_31 : decode cX4_stands 31 = .ok (.iload_n 1, 1) := dk_27 (dk_at dksX4_stands_1 8 rfl rfl)
theorem dX4_stands_32 : decode cX4_stands 32 = .ok (.iload_n 2, 1) := dk_28 (dk_at dksX4_stands_1 9 rfl rfl)
theorem dX4_stands_33 : decode cX4_stands 33 = .ok (.if_icmp .ne 7, 3) := dk_160 0 7 (dk_at dksX4_stands_1 10 rfl rfl)
theorem dX4_stands_36 : decode cX4_stands 36 = .ok (.iconst 0, 1) := dk_3 (dk_at dksX4_stands_1 13 rfl rfl)
theorem dX4_stands_37 : decode cX4_stands 37 = .ok (.goto 5, 3) := dk_167 0 5 (dk_at dksX4_stands_1 14 rfl rfl)
theorem dX4_stands_40 : decode cX4_stands 40 = .ok (.bipush (-2), 2) := dk_16 254 (dk_at dksX4_stands_1 17 rfl rfl)
theorem dX4_stands_42 : decode cX4_stands 42 = .ok (.ireturn, 1) := dk_172 (dk_at dksX4_stands_1 19 rfl rfl)
theorem dX4_stands_43 : decode cX4_stands 43 = .ok (.iconst 0, 1) := dk_3 (dk_at dksX4_stands_1 20 rfl rfl)
theorem dX4_stands_44 : decode cX4_stands 44 = .ok (.istore 5, 2) := dk_54 5 (dk_at dksX4_stands_1 21 rfl rfl)
theorem dX4_stands_46 : decode cX4_stands 46 = .ok (.aload_n 0, 1) := dk_42 (dk_at dksX4_stands_1 23 rfl rfl)
theorem dX4_stands_47 : decode cX4_stands 47 = .ok (.getfield 48, 3) := dk_180 0 48 (dk_at dksX4_stands_2 0 rfl rfl)
theorem dX4_stands_50 : decode cX4_stands 50 = .ok (.iload 4, 2) := dk_21 4 (dk_at dksX4_stands_2 3 rfl rfl)
theorem dX4_stands_52 : decode cX4_stands 52 = .ok (.iaload, 1) := dk_46 (dk_at dksX4_stands_2 5 rfl rfl)
theorem dX4_stands_53 : decode cX4_stands 53 = .ok (.iconst (-1), 1) := dk_2 (dk_at dksX4_stands_2 6 rfl rfl)
theorem dX4_stands_54 : decode cX4_stands 54 = .ok (.if_icmp .eq 38, 3) := dk_159 0 38 (dk_at dksX4_stands_2 7 rfl rfl)
theorem dX4_stands_57 : decode cX4_stands 57 = .ok (.iload 5, 2) := dk_21 5 (dk_at dksX4_stands_2 10 rfl rfl)
theorem dX4_stands_59 : decode cX4_stands 59 = .ok (.aload_n 0, 1) := dk_42 (dk_at dksX4_stands_2 12 rfl rfl)
theorem dX4_stands_60 : decode cX4_stands 60 = .ok (.aload_n 0, 1) := dk_42 (dk_at dksX4_stands_2 13 rfl rfl)
theorem dX4_stands_61 : decode cX4_stands 61 = .ok (.getfield 48, 3) := dk_180 0 48 (dk_at dksX4_stands_2 14 rfl rfl)
theorem dX4_stands_64 : decode cX4_stands 64 = .ok (.iload 4, 2) := dk_21 4 (dk_at dksX4_stands_2 17 rfl rfl)
theorem dX4_stands_66 : decode cX4_stands 66 = .ok (.iaload, 1) := dk_46 (dk_at dksX4_stands_2 19 rfl rfl)
theorem dX4_stands_67 : decode cX4_stands 67 = .ok (.invokevirtual 250, 3) := dk_182 0 250 (dk_at dksX4_stands_2 20 rfl rfl)
theorem dX4_stands_70 : decode cX4_stands 70 = .ok (.aload_n 0, 1) := dk_42 (dk_at dksX4_stands_2 23 rfl rfl)
theorem dX4_stands_71 : decode cX4_stands 71 = .ok (.iload 4, 2) := dk_21 4 (dk_at dksX4_stands_3 0 rfl rfl)
theorem dX4_stands_73 : decode cX4_stands 73 = .ok (.invokevirtual 272, 3) := dk_182 1 16 (dk_at dksX4_stands_3 2 rfl rfl)
theorem dX4_stands_76 : decode cX4_stands 76 = .ok (.isub, 1) := dk_100 (dk_at dksX4_stands_3 5 rfl rfl)
theorem dX4_stands_77 : decode cX4_stands 77 = .ok (.iadd, 1) := dk_96 (dk_at dksX4_stands_3 6 rfl rfl)
theorem dX4_stands_78 : decode cX4_stands 78 = .ok (.istore 5, 2) := dk_54 5 (dk_at dksX4_stands_3 7 rfl rfl)
theorem dX4_stands_80 : decode cX4_stands 80 = .ok (.aload_n 0, 1) := dk_42 (dk_at dksX4_stands_3 9 rfl rfl)
theorem dX4_stands_81 : decode cX4_stands 81 = .ok (.getfield 48, 3) := dk_180 0 48 (dk_at dksX4_stands_3 10 rfl rfl)
theorem dX4_stands_84 : decode cX4_stands 84 = .ok (.iload 4, 2) := dk_21 4 (dk_at dksX4_stands_3 13 rfl rfl)
theorem dX4_stands_86 : decode cX4_stands 86 = .ok (.iaload, 1) := dk_46 (dk_at dksX4_stands_3 15 rfl rfl)
theorem dX4_stands_87 : decode cX4_stands 87 = .ok (.istore 4, 2) := dk_54 4 (dk_at dksX4_stands_3 16 rfl rfl)
theorem dX4_stands_89 : decode cX4_stands 89 = .ok (.goto (-43), 3) := dk_167 255 213 (dk_at dksX4_stands_3 18 rfl rfl)
theorem dX4_stands_92 : decode cX4_stands 92 = .ok (.iload 5, 2) := dk_21 5 (dk_at dksX4_stands_3 21 rfl rfl)
theorem dX4_stands_94 : decode cX4_stands 94 = .ok (.ireturn, 1) := dk_172 (dk_at dksX4_stands_3 23 rfl rfl)
abbrev cX4_latest : ByteArray := prog_15_method_73_code
def yX4_latest : MethodName := ⟨RX4, "latest", "(III)I"⟩
def dkwX4_latest_5 : List UInt8 := [132, 5, 1, 167, 255, 171, 21, 4, 172]
abbrev dktX4_latest_5 : List UInt8 := dkwX4_latest_5 ++ []
def dkwX4_latest_4 : List UInt8 := [21, 5, 182, 0, 250, 21, 4, 164, 0, 12, 42, 21, 5, 182, 0, 250, 167, 0, 5, 21, 4, 54, 4]
abbrev dktX4_latest_4 : List UInt8 := dkwX4_latest_4 ++ dktX4_latest_5
def dkwX4_latest_3 : List UInt8 := [180, 0, 39, 21, 5, 46, 29, 163, 0, 7, 4, 167, 0, 4, 3, 54, 6, 21, 6, 153, 0, 23, 42]
abbrev dktX4_latest_3 : List UInt8 := dkwX4_latest_3 ++ dktX4_latest_4
def dkwX4_latest_2 : List UInt8 := [21, 5, 182, 0, 253, 153, 0, 33, 42, 180, 0, 17, 21, 5, 4, 184, 0, 209, 46, 27, 160, 0, 18, 42]
abbrev dktX4_latest_2 : List UInt8 := dkwX4_latest_2 ++ dktX4_latest_3
def dkwX4_latest_1 : List UInt8 := [28, 182, 1, 42, 16, 254, 54, 4, 3, 54, 5, 21, 5, 42, 180, 0, 17, 7, 46, 162, 0, 80, 42]
abbrev dktX4_latest_1 : List UInt8 := dkwX4_latest_1 ++ dktX4_latest_2
def dkwX4_latest_0 : List UInt8 := [42, 42, 27, 28, 29, 182, 1, 51, 182, 0, 228, 153, 0, 5, 2, 172, 27, 28, 160, 0, 5, 29, 172, 42]
abbrev dktX4_latest_0 : List UInt8 := dkwX4_latest_0 ++ dktX4_latest_1
theorem dksX4_latest_0 : cX4_latest.data.toList.drop 0 = dktX4_latest_0 := by decide +kernel
theorem dksX4_latest_1 : cX4_latest.data.toList.drop 24 = dktX4_latest_1 := dk_seg dksX4_latest_0 24 rfl rfl
theorem dksX4_latest_2 : cX4_latest.data.toList.drop 47 = dktX4_latest_2 := dk_seg dksX4_latest_1 23 rfl rfl
theorem dksX4_latest_3 : cX4_latest.data.toList.drop 71 = dktX4_latest_3 := dk_seg dksX4_latest_2 24 rfl rfl
theorem dksX4_latest_4 : cX4_latest.data.toList.drop 94 = dktX4_latest_4 := dk_seg dksX4_latest_3 23 rfl rfl
theorem dksX4_latest_5 : cX4_latest.data.toList.drop 117 = dktX4_latest_5 := dk_seg dksX4_latest_4 23 rfl rfl
theorem dX4_latest_0 : decode cX4_latest 0 = .ok (.aload_n 0, 1) := dk_42 (dk_at dksX4_latest_0 0 rfl rfl)
theorem dX4_latest_1 : decode cX4_latest 1 = .ok (.aload_n 0, 1) := dk_42 (dk_at dksX4_latest_0 1 rfl rfl)
theorem dX4_latest_2 : decode cX4_latest 2 = .ok (.iload_n 1, 1) := dk_27 (dk_at dksX4_latest_0 2 rfl rfl)
theorem dX4_latest_3 : decode cX4_latest 3 = .ok (.iload_n 2, 1) := dk_28 (dk_at dksX4_latest_0 3 rfl rfl)
theorem dX4_latest_4 : decode cX4_latest 4 = .ok (.iload_n 3, 1) := dk_29 (dk_at dksX4_latest_0 4 rfl rfl)
theorem dX4_latest_5 : decode cX4_latest 5 = .ok (.invokevirtual 307, 3) := dk_182 1 51 (dk_at dksX4_latest_0 5 rfl rfl)
theorem dX4_latest_8 : decode cX4_latest 8 = .ok (.invokevirtual 228, 3) := dk_182 0 228 (dk_at dksX4_latest_0 8 rfl rfl)
theorem dX4_latest_11 : decode cX4_latest 11 = .ok (.ifCond .eq 5, 3) := dk_153 0 5 (dk_at dksX4_latest_0 11 rfl rfl)
theorem dX4_latest_14 : decode cX4_latest 14 = .ok (.iconst (-1), 1) := dk_2 (dk_at dksX4_latest_0 14 rfl rfl)
theorem dX4_latest_15 : decode cX4_latest 15 = .ok (.ireturn, 1) := dk_172 (dk_at dksX4_latest_0 15 rfl rfl)
theorem dX4_latest_16 : decode cX4_latest 16 = .ok (.iload_n 1, 1) := dk_27 (dk_at dksX4_latest_0 16 rfl rfl)
theorem dX4_latest_17 : decode cX4_latest 17 = .ok (.iload_n 2, 1) := dk_28 (dk_at dksX4_latest_0 17 rfl rfl)
theorem dX4_latest_18 : decode cX4_latest 18 = .ok (.if_icmp .ne 5, 3) := dk_160 0 5 (dk_at dksX4_latest_0 18 rfl rfl)
theorem dX4_latest_21 : decode cX4_latest 21 = .ok (.iload_n 3, 1) := dk_29 (dk_at dksX4_latest_0 21 rfl rfl)
theorem dX4_latest_22 : decode cX4_latest 22 = .ok (.ireturn, 1) := dk_172 (dk_at dksX4_latest_0 22 rfl rfl)
theorem dX4_latest_23 : decode cX4_latest 23 = .ok (.aload_n 0, 1) := dk_42 (dk_at dksX4_latest_0 23 rfl rfl)
theorem dX4_latest_24 : decode cX4_latest 24 = .ok (.iload_n 2, 1) := dk_28 (dk_at dksX4_latest_1 0 rfl rfl)
theorem dX4_latest_25 : decode cX4_latest 25 = .ok (.invokevirtual 298, 3) := dk_182 1 42 (dk_at dksX4_latest_1 1 rfl rfl)
theorem dX4_latest_28 : decode cX4_latest 28 = .ok (.bipush (-2), 2) := dk_16 254 (dk_at dksX4_latest_1 4 rfl rfl)
theorem dX4_latest_30 : decode cX4_latest 30 = .ok (.istore 4, 2) := dk_54 4 (dk_at dksX4_latest_1 6 rfl rfl)
theorem dX4_latest_32 : decode cX4_latest 32 = .ok (.iconst 0, 1) := dk_3 (dk_at dksX4_latest_1 8 rfl rfl)
theorem dX4_latest_33 : decode cX4_latest 33 = .ok (.istore 5, 2) := dk_54 5 (dk_at dksX4_latest_1 9 rfl rfl)
theorem dX4_latest_35 : decode cX4_latest 35 = .ok (.iload 5, 2) := dk_21 5 (dk_at dksX4_latest_1 11 rfl rfl)
theorem dX4_latest_37 : decode cX4_latest 37 = .ok (.aload_n 0, 1) := dk_42 (dk_at dksX4_latest_1 13 rfl rfl)
theorem dX4_latest_38 : decode cX4_latest 38 = .ok (.getfield 17, 3) := dk_180 0 17 (dk_at dksX4_latest_1 14 rfl rfl)
theorem dX4_latest_41 : decode cX4_latest 41 = .ok (.iconst 4, 1) := dk_7 (dk_at dksX4_latest_1 17 rfl rfl)
theorem dX4_latest_42 : decode cX4_latest 42 = .ok (.iaload, 1) := dk_46 (dk_at dksX4_latest_1 18 rfl rfl)
theorem dX4_latest_43 : decode cX4_latest 43 = .ok (.if_icmp .ge 80, 3) := dk_162 0 80 (dk_at dksX4_latest_1 19 rfl rfl)
theorem dX4_latest_46 : decode cX4_latest 46 = .ok (.aload_n 0, 1) := dk_42 (dk_at dksX4_latest_1 22 rfl rfl)
theorem dX4_latest_47 : decode cX4_latest 47 = .ok (.iload 5, 2) := dk_21 5 (dk_at dksX4_latest_2 0 rfl rfl)
theorem dX4_latest_49 : decode cX4_latest 49 = .ok (.invokevirtual 253, 3) := dk_182 0 253 (dk_at dksX4_latest_2 2 rfl rfl)
theorem dX4_latest_52 : decode cX4_latest 52 = .ok (.ifCond .eq 33, 3) := dk_153 0 33 (dk_at dksX4_latest_2 5 rfl rfl)
theorem dX4_latest_55 : decode cX4_latest 55 = .ok (.aload_n 0, 1) := dk_42 (dk_at dksX4_latest_2 8 rfl rfl)
theorem dX4_latest_56 : decode cX4_latest 56 = .ok (.getfield 17, 3) := dk_180 0 17 (dk_at dksX4_latest_2 9 rfl rfl)
theorem dX4_latest_59 : decode cX4_latest 59 = .ok (.iload 5, 2) := dk_21 5 (dk_at dksX4_latest_2 12 rfl rfl)
theorem dX4_latest_61 : decode cX4_latest 61 = .ok (.iconst 1, 1) := dk_4 (dk_at dksX4_latest_2 14 rfl rfl)
theorem dX4_latest_62 : decode cX4_latest 62 = .ok (.invokestatic 209, 3) := dk_184 0 209 (dk_at dksX4_latest_2 15 rfl rfl)
theorem dX4_latest_65 : decode cX4_latest 65 = .ok (.iaload, 1) := dk_46 (dk_at dksX4_latest_2 18 rfl rfl)
theorem dX4_latest_66 : decode cX4_latest 66 = .ok (.iload_n 1, 1) := dk_27 (dk_at dksX4_latest_2 19 rfl rfl)
theorem dX4_latest_67 : decode cX4_latest 67 = .ok (.if_icmp .ne 18, 3) := dk_160 0 18 (dk_at dksX4_latest_2 20 rfl rfl)
theorem dX4_latest_70 : decode cX4_latest 70 = .ok (.aload_n 0, 1) := dk_42 (dk_at dksX4_latest_2 23 rfl rfl)
theorem dX4_latest_71 : decode cX4_latest 71 = .ok (.getfield 39, 3) := dk_180 0 39 (dk_at dksX4_latest_3 0 rfl rfl)
theorem dX4_latest_74 : decode cX4_latest 74 = .ok (.iload 5, 2) := dk_21 5 (dk_at dksX4_latest_3 3 rfl rfl)
theorem dX4_latest_76 : decode cX4_latest 76 = .ok (.iaload, 1) := dk_46 (dk_at dksX4_latest_3 5 rfl rfl)
theorem dX4_latest_77 : decode cX4_latest 77 = .ok (.iload_n 3, 1) := dk_29 (dk_at dksX4_latest_3 6 rfl rfl)
theorem dX4_latest_78 : decode cX4_latest 78 = .ok (.if_icmp .gt 7, 3) := dk_163 0 7 (dk_at dksX4_latest_3 7 rfl rfl)
theorem dX4_latest_81 : decode cX4_latest 81 = .ok (.iconst 1, 1) := dk_4 (dk_at dksX4_latest_3 10 rfl rfl)
theorem dX4_latest_82 : decode cX4_latest 82 = .ok (.goto 4, 3) := dk_167 0 4 (dk_at dksX4_latest_3 11 rfl rfl)
theorem dX4_latest_85 : decode cX4_latest 85 = .ok (.iconst 0, 1) := dk_3 (dk_at dksX4_latest_3 14 rfl rfl)
theorem dX4_latest_86 : decode cX4_latest 86 = .ok (.istore 6, 2) := dk_54 6 (dk_at dksX4_latest_3 15 rfl rfl)
theorem dX4_latest_88 : decode cX4_latest 88 = .ok (.iload 6, 2) := dk_21 6 (dk_at dksX4_latest_3 17 rfl rfl)
theorem dX4_latest_90 : decode cX4_latest 90 = .ok (.ifCond .eq 23, 3) := dk_153 0 23 (dk_at dksX4_latest_3 19 rfl rfl)
theorem dX4_latest_93 : decode cX4_latest 93 = .ok (.aload_n 0, 1) := dk_42 (dk_at dksX4_latest_3 22 rfl rfl)
theorem dX4_latest_94 : decode cX4_latest 94 = .ok (.iload 5, 2) := dk_21 5 (dk_at dksX4_latest_4 0 rfl rfl)
theorem dX4_latest_96 : decode cX4_latest 96 = .ok (.invokevirtual 250, 3) := dk_182 0 250 (dk_at dksX4_latest_4 2 rfl rfl)
theorem dX4_latest_99 : decode cX4_latest 99 = .ok (.iload 4, 2) := dk_21 4 (dk_at dksX4_latest_4 5 rfl rfl)
theorem dX4_latest_101 : decode cX4_latest 101 = .ok (.if_icmp .le 12, 3) := dk_164 0 12 (dk_at dksX4_latest_4 7 rfl rfl)
theorem dX4_latest_104 : decode cX4_latest 104 = .ok (.aload_n 0, 1) := dk_42 (dk_at dksX4_latest_4 10 rfl rfl)
theorem dX4_latest_105 : decode cX4_latest 105 = .ok (.iload 5, 2) := dk_21 5 (dk_at dksX4_latest_4 11 rfl rfl)
theorem dX4_latest_107 : decode cX4_latest 107 = .ok (.invokevirtual 250, 3) := dk_182 0 250 (dk_at dksX4_latest_4 13 rfl rfl)
theorem dX4_latest_110 : decode cX4_latest 110 = .ok (.goto 5, 3) := dk_167 0 5 (dk_at dksX4_latest_4 16 rfl rfl)
theorem dX4_latest_113 : decode cX4_latest 113 = .ok (.iload 4, 2) := dk_21 4 (dk_at dksX4_latest_4 19 rfl rfl)
theorem dX4_latest_115 : decode cX4_latest 115 = .ok (.istore 4, 2) := dk_54 4 (dk_at dksX4_latest_4 21 rfl rfl)
theorem dX4_latest_117 : decode cX4_latest 117 = .ok (.iinc 5 1, 3) := dk_132 5 1 (dk_at dksX4_latest_5 0 rfl rfl)
theorem dX4_latest_120 : decode cX4_latest 120 = .ok (.goto (-85), 3) := dk_167 255 171 (dk_at dksX4_latest_5 3 rfl rfl)
theorem dX4_latest_123 : decode cX4_latest 123 = .ok (.iload 4, 2) := dk_21 4 (dk_at dksX4_latest_5 6 rfl rfl)
theorem dX4_latest_125 : decode cX4_latest 125 = .ok (.ireturn, 1) := dk_172 (dk_at dksX4_latest_5 8 rfl rfl)
abbrev cX4_reach : ByteArray := prog_15_method_74_code
def yX4_reach : MethodName := ⟨RX4, "reach", "(III)I"⟩
def dkwX4_reach_4 : List UInt8 := [3, 128, 54, 4, 132, 5, 1, 167, 255, 206, 21, 4, 172]
abbrev dktX4_reach_4 : List UInt8 := dkwX4_reach_4 ++ []
def dkwX4_reach_3 : List UInt8 := [54, 6, 21, 4, 21, 6, 16, 254, 159, 0, 16, 21, 6, 29, 163, 0, 10, 4, 21, 5, 120, 167, 0, 4]
abbrev dktX4_reach_3 : List UInt8 := dkwX4_reach_3 ++ dktX4_reach_4
def dkwX4_reach_2 : List UInt8 := [54, 4, 3, 54, 5, 21, 5, 42, 180, 0, 17, 4, 46, 162, 0, 45, 42, 27, 21, 5, 28, 182, 1, 55]
abbrev dktX4_reach_2 : List UInt8 := dkwX4_reach_2 ++ dktX4_reach_3
def dkwX4_reach_1 : List UInt8 := [184, 0, 107, 153, 0, 7, 4, 167, 0, 4, 3, 184, 1, 48, 182, 0, 228, 153, 0, 5, 2, 172, 3]
abbrev dktX4_reach_1 : List UInt8 := dkwX4_reach_1 ++ dktX4_reach_2
def dkwX4_reach_0 : List UInt8 := [42, 42, 27, 182, 1, 7, 28, 3, 17, 7, 207, 184, 0, 107, 153, 0, 18, 29, 3, 17, 7, 207]
abbrev dktX4_reach_0 : List UInt8 := dkwX4_reach_0 ++ dktX4_reach_1
theorem dksX4_reach_0 : cX4_reach.data.toList.drop 0 = dktX4_reach_0 := by decide +kernel
theorem dksX4_reach_1 : cX4_reach.data.toList.drop 22 = dktX4_reach_1 := dk_seg dksX4_reach_0 22 rfl rfl
theorem dksX4_reach_2 : cX4_reach.data.toList.drop 45 = dktX4_reach_2 := dk_seg dksX4_reach_1 23 rfl rfl
theorem dksX4_reach_3 : cX4_reach.data.toList.drop 69 = dktX4_reach_3 := dk_seg dksX4_reach_2 24 rfl rfl
theorem dksX4_reach_4 : cX4_reach.data.toList.drop 93 = dktX4_reach_4 := dk_seg dksX4_reach_3 24 rfl rfl
theorem dX4_reach_0 : decode cX4_reach 0 = .ok (.aload_n 0, 1) := dk_42 (dk_at dksX4_reach_0 0 rfl rfl)
theorem dX4_reach_1 : decode cX4_reach 1 = .ok (.aload_n 0, 1) := dk_42 (dk_at dksX4_reach_0 1 rfl rfl)
theorem dX4_reach_2 : decode cX4_reach 2 = .ok (.iload_n 1, 1) := dk_27 (dk_at dksX4_reach_0 2 rfl rfl)
theorem dX4_reach_3 : decode cX4_reach 3 = .ok (.invokevirtual 263, 3) := dk_182 1 7 (dk_at dksX4_reach_0 3 rfl rfl)
theorem dX4_reach_6 : decode cX4_reach 6 = .ok (.iload_n 2, 1) := dk_28 (dk_at dksX4_reach_0 6 rfl rfl)
theorem dX4_reach_7 : decode cX4_reach 7 = .ok (.iconst 0, 1) := dk_3 (dk_at dksX4_reach_0 7 rfl rfl)
theorem dX4_reach_8 : decode cX4_reach 8 = .ok (.sipush 1999, 3) := dk_17 7 207 (dk_at dksX4_reach_0 8 rfl rfl)
theorem dX4_reach_11 : decode cX4_reach 11 = .ok (.invokestatic 107, 3) := dk_184 0 107 (dk_at dksX4_reach_0 11 rfl rfl)
theorem dX4_reach_14 : decode cX4_reach 14 = .ok (.ifCond .eq 18, 3) := dk_153 0 18 (dk_at dksX4_reach_0 14 rfl rfl)
theorem dX4_reach_17 : decode cX4_reach 17 = .ok (.iload_n 3, 1) := dk_29 (dk_at dksX4_reach_0 17 rfl rfl)
theorem dX4_reach_18 : decode cX4_reach 18 = .ok (.iconst 0, 1) := dk_3 (dk_at dksX4_reach_0 18 rfl rfl)
theorem dX4_reach_19 : decode cX4_reach 19 = .ok (.sipush 1999, 3) := dk_17 7 207 (dk_at dksX4_reach_0 19 rfl rfl)
theorem dX4_reach_22 : decode cX4_reach 22 = .ok (.invokestatic 107, 3) := dk_184 0 107 (dk_at dksX4_reach_1 0 rfl rfl)
theorem dX4_reach_25 : decode cX4_reach 25 = .ok (.ifCond .eq 7, 3) := dk_153 0 7 (dk_at dksX4_reach_1 3 rfl rfl)
theorem dX4_reach_28 : decode cX4_reach 28 = .ok (.iconst 1, 1) := dk_4 (dk_at dksX4_reach_1 6 rfl rfl)
theorem dX4_reach_29 : decode cX4_reach 29 = .ok (.goto 4, 3) := dk_167 0 4 (dk_at dksX4_reach_1 7 rfl rfl)
theorem dX4_reach_32 : decode cX4_reach 32 = .ok (.iconst 0, 1) := dk_3 (dk_at dksX4_reach_1 10 rfl rfl)
theorem dX4_reach_33 : decode cX4_reach 33 = .ok (.invokestatic 304, 3) := dk_184 1 48 (dk_at dksX4_reach_1 11 rfl rfl)
theorem dX4_reach_36 : decode cX4_reach 36 = .ok (.invokevirtual 228, 3) := dk_182 0 228 (dk_at dksX4_reach_1 14 rfl rfl)
theorem dX4_reach_39 : decode cX4_reach 39 = .ok (.ifCond .eq 5, 3) := dk_153 0 5 (dk_at dksX4_reach_1 17 rfl rfl)
theorem dX4_reach_42 : decode cX4_reach 42 = .ok (.iconst (-1), 1) := dk_2 (dk_at dksX4_reach_1 20 rfl rfl)
theorem dX4_reach_43 : decode cX4_reach 43 = .ok (.ireturn, 1) := dk_172 (dk_at dksX4_reach_1 21 rfl rfl)
theorem dX4_reach_44 : decode cX4_reach 44 = .ok (.iconst 0, 1) := dk_3 (dk_at dksX4_reach_1 22 rfl rfl)
theorem dX4_reach_45 : decode cX4_reach 45 = .ok (.istore 4, 2) := dk_54 4 (dk_at dksX4_reach_2 0 rfl rfl)
theorem dX4_reach_47 : decode cX4_reach 47 = .ok (.iconst 0, 1) := dk_3 (dk_at dksX4_reach_2 2 rfl rfl)
theorem dX4_reach_48 : decode cX4_reach 48 = .ok (.istore 5, 2) := dk_54 5 (dk_at dksX4_reach_2 3 rfl rfl)
theorem dX4_reach_50 : decode cX4_reach 50 = .ok (.iload 5, 2) := dk_21 5 (dk_at dksX4_reach_2 5 rfl rfl)
theorem dX4_reach_52 : decode cX4_reach 52 = .ok (.aload_n 0, 1) := dk_42 (dk_at dksX4_reach_2 7 rfl rfl)
theorem dX4_reach_53 : decode cX4_reach 53 = .ok (.getfield 17, 3) := dk_180 0 17 (dk_at dksX4_reach_2 8 rfl rfl)
theorem dX4_reach_56 : decode cX4_reach 56 = .ok (.iconst 1, 1) := dk_4 (dk_at dksX4_reach_2 11 rfl rfl)
theorem dX4_reach_57 : decode cX4_reach 57 = .ok (.iaload, 1) := dk_46 (dk_at dksX4_reach_2 12 rfl rfl)
theorem dX4_reach_58 : decode cX4_reach 58 = .ok (.if_icmp .ge 45, 3) := dk_162 0 45 (dk_at dksX4_reach_2 13 rfl rfl)
theorem dX4_reach_61 : decode cX4_reach 61 = .ok (.aload_n 0, 1) := dk_42 (dk_at dksX4_reach_2 16 rfl rfl)
theorem dX4_reach_62 : decode cX4_reach 62 = .ok (.iload_n 1, 1) := dk_27 (dk_at dksX4_reach_2 17 rfl rfl)
theorem dX4_reach_63 : decode cX4_reach 63 = .ok (.iload 5, 2) := dk_21 5 (dk_at dksX4_reach_2 18 rfl rfl)
theorem dX4_reach_65 : decode cX4_reach 65 = .ok (.iload_n 2, 1) := dk_28 (dk_at dksX4_reach_2 20 rfl rfl)
theorem dX4_reach_66 : decode cX4_reach 66 = .ok (.invokevirtual 311, 3) := dk_182 1 55 (dk_at dksX4_reach_2 21 rfl rfl)
theorem dX4_reach_69 : decode cX4_reach 69 = .ok (.istore 6, 2) := dk_54 6 (dk_at dksX4_reach_3 0 rfl rfl)
theorem dX4_reach_71 : decode cX4_reach 71 = .ok (.iload 4, 2) := dk_21 4 (dk_at dksX4_reach_3 2 rfl rfl)
theorem dX4_reach_73 : decode cX4_reach 73 = .ok (.iload 6, 2) := dk_21 6 (dk_at dksX4_reach_3 4 rfl rfl)
theorem dX4_reach_75 : decode cX4_reach 75 = .ok (.bipush (-2), 2) := dk_16 254 (dk_at dksX4_reach_3 6 rfl rfl)
theorem dX4_reach_77 : decode cX4_reach 77 = .ok (.if_icmp .eq 16, 3) := dk_159 0 16 (dk_at dksX4_reach_3 8 rfl rfl)
theorem dX4_reach_80 : decode cX4_reach 80 = .ok (.iload 6, 2) := dk_21 6 (dk_at dksX4_reach_3 11 rfl rfl)
theorem dX4_reach_82 : decode cX4_reach 82 = .ok (.iload_n 3, 1) := dk_29 (dk_at dksX4_reach_3 13 rfl rfl)
theorem dX4_reach_83 : decode cX4_reach 83 = .ok (.if_icmp .gt 10, 3) := dk_163 0 10 (dk_at dksX4_reach_3 14 rfl rfl)
theorem dX4_reach_86 : decode cX4_reach 86 = .ok (.iconst 1, 1) := dk_4 (dk_at dksX4_reach_3 17 rfl rfl)
theorem dX4_reach_87 : decode cX4_reach 87 = .ok (.iload 5, 2) := dk_21 5 (dk_at dksX4_reach_3 18 rfl rfl)
theorem dX4_reach_89 : decode cX4_reach 89 = .ok (.ishl, 1) := dk_120 (dk_at dksX4_reach_3 20 rfl rfl)
theorem dX4_reach_90 : decode cX4_reach 90 = .ok (.goto 4, 3) := dk_167 0 4 (dk_at dksX4_reach_3 21 rfl rfl)
theorem dX4_reach_93 : decode cX4_reach 93 = .ok (.iconst 0, 1) := dk_3 (dk_at dksX4_reach_4 0 rfl rfl)
theorem dX4_reach_94 : decode cX4_reach 94 = .ok (.ior, 1) := dk_128 (dk_at dksX4_reach_4 1 rfl rfl)
theorem dX4_reach_95 : decode cX4_reach 95 = .ok (.istore 4, 2) := dk_54 4 (dk_at dksX4_reach_4 2 rfl rfl)
theorem dX4_reach_97 : decode cX4_reach 97 = .ok (.iinc 5 1, 3) := dk_132 5 1 (dk_at dksX4_reach_4 4 rfl rfl)
theorem dX4_reach_100 : decode cX4_reach 100 = .ok (.goto (-50), 3) := dk_167 255 206 (dk_at dksX4_reach_4 7 rfl rfl)
theorem dX4_reach_103 : decode cX4_reach 103 = .ok (.iload 4, 2) := dk_21 4 (dk_at dksX4_reach_4 10 rfl rfl)
theorem dX4_reach_105 : decode cX4_reach 105 = .ok (.ireturn, 1) := dk_172 (dk_at dksX4_reach_4 12 rfl rfl)
abbrev cX4_farthest : ByteArray := prog_15_method_75_code
def yX4_farthest : MethodName := ⟨RX4, "farthest", "(II)I"⟩
def dkwX4_farthest_3 : List UInt8 := [132, 5, 1, 167, 255, 218, 29, 172]
abbrev dktX4_farthest_3 : List UInt8 := dkwX4_farthest_3 ++ []
def dkwX4_farthest_2 : List UInt8 := [21, 5, 28, 182, 1, 55, 54, 6, 21, 6, 21, 4, 164, 0, 10, 21, 6, 54, 4, 21, 5, 62]
abbrev dktX4_farthest_2 : List UInt8 := dkwX4_farthest_2 ++ dktX4_farthest_3
def dkwX4_farthest_1 : List UInt8 := [172, 2, 62, 16, 254, 54, 4, 3, 54, 5, 21, 5, 42, 180, 0, 17, 4, 46, 162, 0, 33, 42, 27]
abbrev dktX4_farthest_1 : List UInt8 := dkwX4_farthest_1 ++ dktX4_farthest_2
def dkwX4_farthest_0 : List UInt8 := [42, 42, 27, 182, 1, 7, 28, 3, 17, 7, 207, 184, 0, 107, 184, 1, 48, 182, 0, 228, 153, 0, 5, 2]
abbrev dktX4_farthest_0 : List UInt8 := dkwX4_farthest_0 ++ dktX4_farthest_1
theorem dksX4_farthest_0 : cX4_farthest.data.toList.drop 0 = dktX4_farthest_0 := by decide +kernel
theorem dksX4_farthest_1 : cX4_farthest.data.toList.drop 24 = dktX4_farthest_1 := dk_seg dksX4_farthest_0 24 rfl rfl
theorem dksX4_farthest_2 : cX4_farthest.data.toList.drop 47 = dktX4_farthest_2 := dk_seg dksX4_farthest_1 23 rfl rfl
theorem dksX4_farthest_3 : cX4_farthest.data.toList.drop 69 = dktX4_farthest_3 := dk_seg dksX4_farthest_2 22 rfl rfl
theorem dX4_farthest_0 : decode cX4_farthest 0 = .ok (.aload_n 0, 1) := dk_42 (dk_at dksX4_farthest_0 0 rfl rfl)
theorem dX4_farthest_1 : decode cX4_farthest 1 = .ok (.aload_n 0, 1) := dk_42 (dk_at dksX4_farthest_0 1 rfl rfl)
theorem dX4_farthest_2 : decode cX4_farthest 2 = .ok (.iload_n 1, 1) := dk_27 (dk_at dksX4_farthest_0 2 rfl rfl)
theorem dX4_farthest_3 : decode cX4_farthest 3 = .ok (.invokevirtual 263, 3) := dk_182 1 7 (dk_at dksX4_farthest_0 3 rfl rfl)
theorem dX4_farthest_6 : decode cX4_farthest 6 = .ok (.iload_n 2, 1) := dk_28 (dk_at dksX4_farthest_0 6 rfl rfl)
theorem dX4_farthest_7 : decode cX4_farthest 7 = .ok (.iconst 0, 1) := dk_3 (dk_at dksX4_farthest_0 7 rfl rfl)
theorem dX4_farthest_8 : decode cX4_farthest 8 = .ok (.sipush 1999, 3) := dk_17 7 207 (dk_at dksX4_farthest_0 8 rfl rfl)
theorem dX4_farthest_11 : decode cX4_farthest 11 = .ok (.invokestatic 107, 3) := dk_184 0 107 (dk_at dksX4_farthest_0 11 rfl rfl)
theorem dX4_farthest_14 : decode cX4_farthest 14 = .ok (.invokestatic 304, 3) := dk_184 1 48 (dk_at dksX4_farthest_0 14 rfl rfl)
theorem dX4_farthest_17 : decode cX4_farthest 17 = .ok (.invokevirtual 228, 3) := dk_182 0 228 (dk_at dksX4_farthest_0 17 rfl rfl)
theorem dX4_farthest_20 : decode cX4_farthest 20 = .ok (.ifCond .eq 5, 3) := dk_153 0 5 (dk_at dksX4_farthest_0 20 rfl rfl)
theorem dX4_farthest_23 : decode cX4_farthest 23 = .ok (.iconst (-1), 1) := dk_2 (dk_at dksX4_farthest_0 23 rfl rfl)
theorem dX4_farthest_24 : decode cX4_farthest 24 = .ok (.ireturn, 1) := dk_172 (dk_at dksX4_farthest_1 0 rfl rfl)
theorem dX4_farthest_25 : decode cX4_farthest 25 = .ok (.iconst (-1), 1) := dk_2 (dk_at dksX4_farthest_1 1 rfl rfl)
theorem dX4_farthest_26 : decode cX4_farthest 26 = .ok (.istore_n 3, 1) := dk_62 (dk_at dksX4_farthest_1 2 rfl rfl)
theorem dX4_farthest_27 : decode cX4_farthest 27 = .ok (.bipush (-2), 2) := dk_16 254 (dk_at dksX4_farthest_1 3 rfl rfl)
theorem dX4_farthest_29 : decode cX4_farthest 29 = .ok (.istore 4, 2) := dk_54 4 (dk_at dksX4_farthest_1 5 rfl rfl)
theorem dX4_farthest_31 : decode cX4_farthest 31 = .ok (.iconst 0, 1) := dk_3 (dk_at dksX4_farthest_1 7 rfl rfl)
theorem dX4_farthest_32 : decode cX4_farthest 32 = .ok (.istore 5, 2) := dk_54 5 (dk_at dksX4_farthest_1 8 rfl rfl)
theorem dX4_farthest_34 : decode cX4_farthest 34 = .ok (.iload 5, 2) := dk_21 5 (dk_at dksX4_farthest_1 10 rfl rfl)
theorem dX4_farthest_36 : decode cX4_farthest 36 = .ok (.aload_n 0, 1) := dk_42 (dk_at dksX4_farthest_1 12 rfl rfl)
theorem dX4_farthest_37 : decode cX4_farthest 37 = .ok (.getfield 17, 3) := dk_180 0 17 (dk_at dksX4_farthest_1 13 rfl rfl)
theorem dX4_farthest_40 : decode cX4_farthest 40 = .ok (.iconst 1, 1) := dk_4 (dk_at dksX4_farthest_1 16 rfl rfl)
theorem dX4_farthest_41 : decode cX4_farthest 41 = .ok (.iaload, 1) := dk_46 (dk_at dksX4_farthest_1 17 rfl rfl)
theorem dX4_farthest_42 : decode cX4_farthest 42 = .ok (.if_icmp .ge 33, 3) := dk_162 0 33 (dk_at dksX4_farthest_1 18 rfl rfl)
theorem dX4_farthest_45 : decode cX4_farthest 45 = .ok (.aload_n 0, 1) := dk_42 (dk_at dksX4_farthest_1 21 rfl rfl)
theorem dX4_farthest_46 : decode cX4_farthest 46 = .ok (.iload_n 1, 1) := dk_27 (dk_at dksX4_farthest_1 22 rfl rfl)
theorem dX4_farthest_47 : decode cX4_farthest 47 = .ok (.iload 5, 2) := dk_21 5 (dk_at dksX4_farthest_2 0 rfl rfl)
theorem dX4_farthest_49 : decode cX4_farthest 49 = .ok (.iload_n 2, 1) := dk_28 (dk_at dksX4_farthest_2 2 rfl rfl)
theorem dX4_farthest_50 : decode cX4_farthest 50 = .ok (.invokevirtual 311, 3) := dk_182 1 55 (dk_at dksX4_farthest_2 3 rfl rfl)
theorem dX4_farthest_53 : decode cX4_farthest 53 = .ok (.istore 6, 2) := dk_54 6 (dk_at dksX4_farthest_2 6 rfl rfl)
theorem dX4_farthest_55 : decode cX4_farthest 55 = .ok (.iload 6, 2) := dk_21 6 (dk_at dksX4_farthest_2 8 rfl rfl)
theorem dX4_farthest_57 : decode cX4_farthest 57 = .ok (.iload 4, 2) := dk_21 4 (dk_at dksX4_farthest_2 10 rfl rfl)
theorem dX4_farthest_59 : decode cX4_farthest 59 = .ok (.if_icmp .le 10, 3) := dk_164 0 10 (dk_at dksX4_farthest_2 12 rfl rfl)
theorem dX4_farthest_62 : decode cX4_farthest 62 = .ok (.iload 6, 2) := dk_21 6 (dk_at dksX4_farthest_2 15 rfl rfl)
theorem dX4_farthest_64 : decode cX4_farthest 64 = .ok (.istore 4, 2) := dk_54 4 (dk_at dksX4_farthest_2 17 rfl rfl)
theorem dX4_farthest_66 : decode cX4_farthest 66 = .ok (.iload 5, 2) := dk_21 5 (dk_at dksX4_farthest_2 19 rfl rfl)
theorem dX4_farthest_68 : decode cX4_farthest 68 = .ok (.istore_n 3, 1) := dk_62 (dk_at dksX4_farthest_2 21 rfl rfl)
theorem dX4_farthest_69 : decode cX4_farthest 69 = .ok (.iinc 5 1, 3) := dk_132 5 1 (dk_at dksX4_farthest_3 0 rfl rfl)
theorem dX4_farthest_72 : decode cX4_farthest 72 = .ok (.goto (-38), 3) := dk_167 255 218 (dk_at dksX4_farthest_3 3 rfl rfl)
theorem dX4_farthest_75 : decode cX4_farthest 75 = .ok (.iload_n 3, 1) := dk_29 (dk_at dksX4_farthest_3 6 rfl rfl)
theorem dX4_farthest_76 : decode cX4_farthest 76 = .ok (.ireturn, 1) := dk_172 (dk_at dksX4_farthest_3 7 rfl rfl)
abbrev cX4_meets : ByteArray := prog_15_method_76_code
def yX4_meets : MethodName := ⟨RX4, "meets", "(III)I"⟩
def dkwX4_meets_4 : List UInt8 := [162, 0, 11, 21, 9, 54, 5, 21, 6, 54, 4, 132, 6, 1, 167, 255, 177, 21, 4, 172]
abbrev dktX4_meets_4 : List UInt8 := dkwX4_meets_4 ++ []
def dkwX4_meets_3 : List UInt8 := [21, 8, 54, 9, 21, 7, 16, 254, 159, 0, 25, 21, 8, 16, 254, 159, 0, 18, 21, 9, 21, 5]
abbrev dktX4_meets_3 : List UInt8 := dkwX4_meets_3 ++ dktX4_meets_4
def dkwX4_meets_2 : List UInt8 := [54, 7, 42, 28, 21, 6, 29, 182, 1, 55, 54, 8, 21, 7, 21, 8, 164, 0, 8, 21, 7, 167, 0, 5]
abbrev dktX4_meets_2 : List UInt8 := dkwX4_meets_2 ++ dktX4_meets_3
def dkwX4_meets_1 : List UInt8 := [54, 5, 3, 54, 6, 21, 6, 42, 180, 0, 17, 4, 46, 162, 0, 74, 42, 27, 21, 6, 29, 182, 1, 55]
abbrev dktX4_meets_1 : List UInt8 := dkwX4_meets_1 ++ dktX4_meets_2
def dkwX4_meets_0 : List UInt8 := [42, 42, 27, 28, 29, 182, 1, 51, 182, 0, 228, 153, 0, 5, 2, 172, 16, 254, 54, 4, 17, 39, 15]
abbrev dktX4_meets_0 : List UInt8 := dkwX4_meets_0 ++ dktX4_meets_1
theorem dksX4_meets_0 : cX4_meets.data.toList.drop 0 = dktX4_meets_0 := by decide +kernel
theorem dksX4_meets_1 : cX4_meets.data.toList.drop 23 = dktX4_meets_1 := dk_seg dksX4_meets_0 23 rfl rfl
theorem dksX4_meets_2 : cX4_meets.data.toList.drop 47 = dktX4_meets_2 := dk_seg dksX4_meets_1 24 rfl rfl
theorem dksX4_meets_3 : cX4_meets.data.toList.drop 71 = dktX4_meets_3 := dk_seg dksX4_meets_2 24 rfl rfl
theorem dksX4_meets_4 : cX4_meets.data.toList.drop 93 = dktX4_meets_4 := dk_seg dksX4_meets_3 22 rfl rfl
theorem dX4_meets_0 : decode cX4_meets 0 = .ok (.aload_n 0, 1) := dk_42 (dk_at dksX4_meets_0 0 rfl rfl)
theorem dX4_meets_1 : decode cX4_meets 1 = .ok (.aload_n 0, 1) := dk_42 (dk_at dksX4_meets_0 1 rfl rfl)
theorem dX4_meets_2 : decode cX4_meets 2 = .ok (.iload_n 1, 1) := dk_27 (dk_at dksX4_meets_0 2 rfl rfl)
theorem dX4_meets_3 : decode cX4_meets 3 = .ok (.iload_n 2, 1) := dk_28 (dk_at dksX4_meets_0 3 rfl rfl)
theorem dX4_meets_4 : decode cX4_meets 4 = .ok (.iload_n 3, 1) := dk_29 (dk_at dksX4_meets_0 4 rfl rfl)
theorem dX4_meets_5 : decode cX4_meets 5 = .ok (.invokevirtual 307, 3) := dk_182 1 51 (dk_at dksX4_meets_0 5 rfl rfl)
theorem dX4_meets_8 : decode cX4_meets 8 = .ok (.invokevirtual 228, 3) := dk_182 0 228 (dk_at dksX4_meets_0 8 rfl rfl)
theorem dX4_meets_11 : decode cX4_meets 11 = .ok (.ifCond .eq 5, 3) := dk_153 0 5 (dk_at dksX4_meets_0 11 rfl rfl)
theorem dX4_meets_14 : decode cX4_meets 14 = .ok (.iconst (-1), 1) := dk_2 (dk_at dksX4_meets_0 14 rfl rfl)
theorem dX4_meets_15 : decode cX4_meets 15 = .ok (.ireturn, 1) := dk_172 (dk_at dksX4_meets_0 15 rfl rfl)
theorem dX4_meets_16 : decode cX4_meets 16 = .ok (.bipush (-2), 2) := dk_16 254 (dk_at dksX4_meets_0 16 rfl rfl)
theorem dX4_meets_18 : decode cX4_meets 18 = .ok (.istore 4, 2) := dk_54 4 (dk_at dksX4_meets_0 18 rfl rfl)
theorem dX4_meets_20 : decode cX4_meets 20 = .ok (.sipush 9999, 3) := dk_17 39 15 (dk_at dksX4_meets_0 20 rfl rfl)
theorem dX4_meets_23 : decode cX4_meets 23 = .ok (.istore 5, 2) := dk_54 5 (dk_at dksX4_meets_1 0 rfl rfl)
theorem dX4_meets_25 : decode cX4_meets 25 = .ok (.iconst 0, 1) := dk_3 (dk_at dksX4_meets_1 2 rfl rfl)
theorem dX4_meets_26 : decode cX4_meets 26 = .ok (.istore 6, 2) := dk_54 6 (dk_at dksX4_meets_1 3 rfl rfl)
theorem dX4_meets_28 : decode cX4_meets 28 = .ok (.iload 6, 2) := dk_21 6 (dk_at dksX4_meets_1 5 rfl rfl)
theorem dX4_meets_30 : decode cX4_meets 30 = .ok (.aload_n 0, 1) := dk_42 (dk_at dksX4_meets_1 7 rfl rfl)
theorem dX4_meets_31 : decode cX4_meets 31 = .ok (.getfield 17, 3) := dk_180 0 17 (dk_at dksX4_meets_1 8 rfl rfl)
theorem dX4_meets_34 : decode cX4_meets 34 = .ok (.iconst 1, 1) := dk_4 (dk_at dksX4_meets_1 11 rfl rfl)
theorem dX4_meets_35 : decode cX4_meets 35 = .ok (.iaload, 1) := dk_46 (dk_at dksX4_meets_1 12 rfl rfl)
theorem dX4_meets_36 : decode cX4_meets 36 = .ok (.if_icmp .ge 74, 3) := dk_162 0 74 (dk_at dksX4_meets_1 13 rfl rfl)
theorem dX4_meets_39 : decode cX4_meets 39 = .ok (.aload_n 0, 1) := dk_42 (dk_at dksX4_meets_1 16 rfl rfl)
theorem dX4_meets_40 : decode cX4_meets 40 = .ok (.iload_n 1, 1) := dk_27 (dk_at dksX4_meets_1 17 rfl rfl)
theorem dX4_meets_41 : decode cX4_meets 41 = .ok (.iload 6, 2) := dk_21 6 (dk_at dksX4_meets_1 18 rfl rfl)
theorem dX4_meets_43 : decode cX4_meets 43 = .ok (.iload_n 3, 1) := dk_29 (dk_at dksX4_meets_1 20 rfl rfl)
theorem dX4_meets_44 : decode cX4_meets 44 = .ok (.invokevirtual 311, 3) := dk_182 1 55 (dk_at dksX4_meets_1 21 rfl rfl)
theorem dX4_meets_47 : decode cX4_meets 47 = .ok (.istore 7, 2) := dk_54 7 (dk_at dksX4_meets_2 0 rfl rfl)
theorem dX4_meets_49 : decode cX4_meets 49 = .ok (.aload_n 0, 1) := dk_42 (dk_at dksX4_meets_2 2 rfl rfl)
theorem dX4_meets_50 : decode cX4_meets 50 = .ok (.iload_n 2, 1) := dk_28 (dk_at dksX4_meets_2 3 rfl rfl)
theorem dX4_meets_51 : decode cX4_meets 51 = .ok (.iload 6, 2) := dk_21 6 (dk_at dksX4_meets_2 4 rfl rfl)
theorem dX4_meets_53 : decode cX4_meets 53 = .ok (.iload_n 3, 1) := dk_29 (dk_at dksX4_meets_2 6 rfl rfl)
theorem dX4_meets_54 : decode cX4_meets 54 = .ok (.invokevirtual 311, 3) := dk_182 1 55 (dk_at dksX4_meets_2 7 rfl rfl)
theorem dX4_meets_57 : decode cX4_meets 57 = .ok (.istore 8, 2) := dk_54 8 (dk_at dksX4_meets_2 10 rfl rfl)
theorem dX4_meets_59 : decode cX4_meets 59 = .ok (.iload 7, 2) := dk_21 7 (dk_at dksX4_meets_2 12 rfl rfl)
theorem dX4_meets_61 : decode cX4_meets 61 = .ok (.iload 8, 2) := dk_21 8 (dk_at dksX4_meets_2 14 rfl rfl)
theorem dX4_meets_63 : decode cX4_meets 63 = .ok (.if_icmp .le 8, 3) := dk_164 0 8 (dk_at dksX4_meets_2 16 rfl rfl)
theorem dX4_meets_66 : decode cX4_meets 66 = .ok (.iload 7, 2) := dk_21 7 (dk_at dksX4_meets_2 19 rfl rfl)
theorem dX4_meets_68 : decode cX4_meets 68 = .ok (.goto 5, 3) := dk_167 0 5 (dk_at dksX4_meets_2 21 rfl rfl)
theorem dX4_meets_71 : decode cX4_meets 71 = .ok (.iload 8, 2) := dk_21 8 (dk_at dksX4_meets_3 0 rfl rfl)
theorem dX4_meets_73 : decode cX4_meets 73 = .ok (.istore 9, 2) := dk_54 9 (dk_at dksX4_meets_3 2 rfl rfl)
theorem dX4_meets_75 : decode cX4_meets 75 = .ok (.iload 7, 2) := dk_21 7 (dk_at dksX4_meets_3 4 rfl rfl)
theorem dX4_meets_77 : decode cX4_meets 77 = .ok (.bipush (-2), 2) := dk_16 254 (dk_at dksX4_meets_3 6 rfl rfl)
theorem dX4_meets_79 : decode cX4_meets 79 = .ok (.if_icmp .eq 25, 3) := dk_159 0 25 (dk_at dksX4_meets_3 8 rfl rfl)
theorem dX4_meets_82 : decode cX4_meets 82 = .ok (.iload 8, 2) := dk_21 8 (dk_at dksX4_meets_3 11 rfl rfl)
theorem dX4_meets_84 : decode cX4_meets 84 = .ok (.bipush (-2), 2) := dk_16 254 (dk_at dksX4_meets_3 13 rfl rfl)
theorem dX4_meets_86 : decode cX4_meets 86 = .ok (.if_icmp .eq 18, 3) := dk_159 0 18 (dk_at dksX4_meets_3 15 rfl rfl)
theorem dX4_meets_89 : decode cX4_meets 89 = .ok (.iload 9, 2) := dk_21 9 (dk_at dksX4_meets_3 18 rfl rfl)
theorem dX4_meets_91 : decode cX4_meets 91 = .ok (.iload 5, 2) := dk_21 5 (dk_at dksX4_meets_3 20 rfl rfl)
theorem dX4_meets_93 : decode cX4_meets 93 = .ok (.if_icmp .ge 11, 3) := dk_162 0 11 (dk_at dksX4_meets_4 0 rfl rfl)
theorem dX4_meets_96 : decode cX4_meets 96 = .ok (.iload 9, 2) := dk_21 9 (dk_at dksX4_meets_4 3 rfl rfl)
theorem dX4_meets_98 : decode cX4_meets 98 = .ok (.istore 5, 2) := dk_54 5 (dk_at dksX4_meets_4 5 rfl rfl)
theorem dX4_meets_100 : decode cX4_meets 100 = .ok (.iload 6, 2) := dk_21 6 (dk_at dksX4_meets_4 7 rfl rfl)
theorem dX4_meets_102 : decode cX4_meets 102 = .ok (.istore 4, 2) := dk_54 4 (dk_at dksX4_meets_4 9 rfl rfl)
theorem dX4_meets_104 : decode cX4_meets 104 = .ok (.iinc 6 1, 3) := dk_132 6 1 (dk_at dksX4_meets_4 11 rfl rfl)
theorem dX4_meets_107 : decode cX4_meets 107 = .ok (.goto (-79), 3) := dk_167 255 177 (dk_at dksX4_meets_4 14 rfl rfl)
theorem dX4_meets_110 : decode cX4_meets 110 = .ok (.iload 4, 2) := dk_21 4 (dk_at dksX4_meets_4 17 rfl rfl)
theorem dX4_meets_112 : decode cX4_meets 112 = .ok (.ireturn, 1) := dk_172 (dk_at dksX4_meets_4 19 rfl rfl)
abbrev cX4_round : ByteArray := prog_15_method_77_code
def yX4_round : MethodName := ⟨RX4, "round", "(IIII)I"⟩
def dkwX4_round_3 : List UInt8 := [182, 1, 55, 172]
abbrev dktX4_round_3 : List UInt8 := dkwX4_round_3 ++ []
def dkwX4_round_2 : List UInt8 := [54, 6, 21, 6, 16, 254, 160, 0, 8, 16, 254, 167, 0, 14, 42, 28, 27, 21, 6, 21, 4, 96]
abbrev dktX4_round_2 : List UInt8 := dkwX4_round_2 ++ dktX4_round_3
def dkwX4_round_1 : List UInt8 := [154, 0, 7, 5, 167, 0, 5, 21, 5, 182, 0, 228, 153, 0, 5, 2, 172, 42, 27, 28, 29, 182, 1, 55]
abbrev dktX4_round_1 : List UInt8 := dkwX4_round_1 ++ dktX4_round_2
def dkwX4_round_0 : List UInt8 := [42, 27, 28, 29, 182, 1, 51, 54, 5, 42, 21, 5, 154, 0, 19, 21, 4, 3, 17, 3, 231, 184, 0, 107]
abbrev dktX4_round_0 : List UInt8 := dkwX4_round_0 ++ dktX4_round_1
theorem dksX4_round_0 : cX4_round.data.toList.drop 0 = dktX4_round_0 := by decide +kernel
theorem dksX4_round_1 : cX4_round.data.toList.drop 24 = dktX4_round_1 := dk_seg dksX4_round_0 24 rfl rfl
theorem dksX4_round_2 : cX4_round.data.toList.drop 48 = dktX4_round_2 := dk_seg dksX4_round_1 24 rfl rfl
theorem dksX4_round_3 : cX4_round.data.toList.drop 70 = dktX4_round_3 := dk_seg dksX4_round_2 22 rfl rfl
theorem dX4_round_0 : decode cX4_round 0 = .ok (.aload_n 0, 1) := dk_42 (dk_at dksX4_round_0 0 rfl rfl)
theorem dX4_round_1 : decode cX4_round 1 = .ok (.iload_n 1, 1) := dk_27 (dk_at dksX4_round_0 1 rfl rfl)
theorem dX4_round_2 : decode cX4_round 2 = .ok (.iload_n 2, 1) := dk_28 (dk_at dksX4_round_0 2 rfl rfl)
theorem dX4_round_3 : decode cX4_round 3 = .ok (.iload_n 3, 1) := dk_29 (dk_at dksX4_round_0 3 rfl rfl)
theorem dX4_round_4 : decode cX4_round 4 = .ok (.invokevirtual 307, 3) := dk_182 1 51 (dk_at dksX4_round_0 4 rfl rfl)
theorem dX4_round_7 : decode cX4_round 7 = .ok (.istore 5, 2) := dk_54 5 (dk_at dksX4_round_0 7 rfl rfl)
theorem dX4_round_9 : decode cX4_round 9 = .ok (.aload_n 0, 1) := dk_42 (dk_at dksX4_round_0 9 rfl rfl)
theorem dX4_round_10 : decode cX4_round 10 = .ok (.iload 5, 2) := dk_21 5 (dk_at dksX4_round_0 10 rfl rfl)
theorem dX4_round_12 : decode cX4_round 12 = .ok (.ifCond .ne 19, 3) := dk_154 0 19 (dk_at dksX4_round_0 12 rfl rfl)
theorem dX4_round_15 : decode cX4_round 15 = .ok (.iload 4, 2) := dk_21 4 (dk_at dksX4_round_0 15 rfl rfl)
theorem dX4_round_17 : decode cX4_round 17 = .ok (.iconst 0, 1) := dk_3 (dk_at dksX4_round_0 17 rfl rfl)
theorem dX4_round_18 : decode cX4_round 18 = .ok (.sipush 999, 3) := dk_17 3 231 (dk_at dksX4_round_0 18 rfl rfl)
theorem dX4_round_21 : decode cX4_round 21 = .ok (.invokestatic 107, 3) := dk_184 0 107 (dk_at dksX4_round_0 21 rfl rfl)
theorem dX4_round_24 : decode cX4_round 24 = .ok (.ifCond .ne 7, 3) := dk_154 0 7 (dk_at dksX4_round_1 0 rfl rfl)
theorem dX4_round_27 : decode cX4_round 27 = .ok (.iconst 2, 1) := dk_5 (dk_at dksX4_round_1 3 rfl rfl)
theorem dX4_round_28 : decode cX4_round 28 = .ok (.goto 5, 3) := dk_167 0 5 (dk_at dksX4_round_1 4 rfl rfl)
theorem dX4_round_31 : decode cX4_round 31 = .ok (.iload 5, 2) := dk_21 5 (dk_at dksX4_round_1 7 rfl rfl)
theorem dX4_round_33 : decode cX4_round 33 = .ok (.invokevirtual 228, 3) := dk_182 0 228 (dk_at dksX4_round_1 9 rfl rfl)
theorem dX4_round_36 : decode cX4_round 36 = .ok (.ifCond .eq 5, 3) := dk_153 0 5 (dk_at dksX4_round_1 12 rfl rfl)
theorem dX4_round_39 : decode cX4_round 39 = .ok (.iconst (-1), 1) := dk_2 (dk_at dksX4_round_1 15 rfl rfl)
theorem dX4_round_40 : decode cX4_round 40 = .ok (.ireturn, 1) := dk_172 (dk_at dksX4_round_1 16 rfl rfl)
theorem dX4_round_41 : decode cX4_round 41 = .ok (.aload_n 0, 1) := dk_42 (dk_at dksX4_round_1 17 rfl rfl)
theorem dX4_round_42 : decode cX4_round 42 = .ok (.iload_n 1, 1) := dk_27 (dk_at dksX4_round_1 18 rfl rfl)
theorem dX4_round_43 : decode cX4_round 43 = .ok (.iload_n 2, 1) := dk_28 (dk_at dksX4_round_1 19 rfl rfl)
theorem dX4_round_44 : decode cX4_round 44 = .ok (.iload_n 3, 1) := dk_29 (dk_at dksX4_round_1 20 rfl rfl)
theorem dX4_round_45 : decode cX4_round 45 = .ok (.invokevirtual 311, 3) := dk_182 1 55 (dk_at dksX4_round_1 21 rfl rfl)
theorem dX4_round_48 : decode cX4_round 48 = .ok (.istore 6, 2) := dk_54 6 (dk_at dksX4_round_2 0 rfl rfl)
theorem dX4_round_50 : decode cX4_round 50 = .ok (.iload 6, 2) := dk_21 6 (dk_at dksX4_round_2 2 rfl rfl)
theorem dX4_round_52 : decode cX4_round 52 = .ok (.bipush (-2), 2) := dk_16 254 (dk_at dksX4_round_2 4 rfl rfl)
theorem dX4_round_54 : decode cX4_round 54 = .ok (.if_icmp .ne 8, 3) := dk_160 0 8 (dk_at dksX4_round_2 6 rfl rfl)
theorem dX4_round_57 : decode cX4_round 57 = .ok (.bipush (-2), 2) := dk_16 254 (dk_at dksX4_round_2 9 rfl rfl)
theorem dX4_round_59 : decode cX4_round 59 = .ok (.goto 14, 3) := dk_167 0 14 (dk_at dksX4_round_2 11 rfl rfl)
theorem dX4_round_62 : decode cX4_round 62 = .ok (.aload_n 0, 1) := dk_42 (dk_at dksX4_round_2 14 rfl rfl)
theorem dX4_round_63 : decode cX4_round 63 = .ok (.iload_n 2, 1) := dk_28 (dk_at dksX4_round_2 15 rfl rfl)
theorem dX4_round_64 : decode cX4_round 64 = .ok (.iload_n 1, 1) := dk_27 (dk_at dksX4_round_2 16 rfl rfl)
theorem dX4_round_65 : decode cX4_round 65 = .ok (.iload 6, 2) := dk_21 6 (dk_at dksX4_round_2 17 rfl rfl)
theorem dX4_round_67 : decode cX4_round 67 = .ok (.iload 4, 2) := dk_21 4 (dk_at dksX4_round_2 19 rfl rfl)
theorem dX4_round_69 : decode cX4_round 69 = .ok (.iadd, 1) := dk_96 (dk_at dksX4_round_2 21 rfl rfl)
theorem dX4_round_70 : decode cX4_round 70 = .ok (.invokevirtual 311, 3) := dk_182 1 55 (dk_at dksX4_round_3 0 rfl rfl)
theorem dX4_round_73 : decode cX4_round 73 = .ok (.ireturn, 1) := dk_172 (dk_at dksX4_round_3 3 rfl rfl)
abbrev cX4_others : ByteArray := prog_15_method_81_code
def yX4_others : MethodName := ⟨RX4, "others", "(III)I"⟩
def dkwX4_others_1 : List UInt8 := [2, 172, 42, 27, 28, 29, 182, 1, 98, 42, 180, 1, 89, 172]
abbrev dktX4_others_1 : List UInt8 := dkwX4_others_1 ++ []
def dkwX4_others_0 : List UInt8 := [42, 42, 27, 28, 182, 1, 95, 29, 3, 17, 7, 207, 184, 0, 107, 184, 1, 48, 182, 0, 228, 153, 0, 5]
abbrev dktX4_others_0 : List UInt8 := dkwX4_others_0 ++ dktX4_others_1
theorem dksX4_others_0 : cX4_others.data.toList.drop 0 = dktX4_others_0 := by decide +kernel
theorem dksX4_others_1 : cX4_others.data.toList.drop 24 = dktX4_others_1 := dk_seg dksX4_others_0 24 rfl rfl
theorem dX4_others_0 : decode cX4_others 0 = .ok (.aload_n 0, 1) := dk_42 (dk_at dksX4_others_0 0 rfl rfl)
theorem dX4_others_1 : decode cX4_others 1 = .ok (.aload_n 0, 1) := dk_42 (dk_at dksX4_others_0 1 rfl rfl)
theorem dX4_others_2 : decode cX4_others 2 = .ok (.iload_n 1, 1) := dk_27 (dk_at dksX4_others_0 2 rfl rfl)
theorem dX4_others_3 : decode cX4_others 3 = .ok (.iload_n 2, 1) := dk_28 (dk_at dksX4_others_0 3 rfl rfl)
theorem dX4_others_4 : decode cX4_others 4 = .ok (.invokevirtual 351, 3) := dk_182 1 95 (dk_at dksX4_others_0 4 rfl rfl)
theorem dX4_others_7 : decode cX4_others 7 = .ok (.iload_n 3, 1) := dk_29 (dk_at dksX4_others_0 7 rfl rfl)
theorem dX4_others_8 : decode cX4_others 8 = .ok (.iconst 0, 1) := dk_3 (dk_at dksX4_others_0 8 rfl rfl)
theorem dX4_others_9 : decode cX4_others 9 = .ok (.sipush 1999, 3) := dk_17 7 207 (dk_at dksX4_others_0 9 rfl rfl)
theorem dX4_others_12 : decode cX4_others 12 = .ok (.invokestatic 107, 3) := dk_184 0 107 (dk_at dksX4_others_0 12 rfl rfl)
theorem dX4_others_15 : decode cX4_others 15 = .ok (.invokestatic 304, 3) := dk_184 1 48 (dk_at dksX4_others_0 15 rfl rfl)
theorem dX4_others_18 : decode cX4_others 18 = .ok (.invokevirtual 228, 3) := dk_182 0 228 (dk_at dksX4_others_0 18 rfl rfl)
theorem dX4_others_21 : decode cX4_others 21 = .ok (.ifCond .eq 5, 3) := dk_153 0 5 (dk_at dksX4_others_0 21 rfl rfl)
theorem dX4_others_24 : decode cX4_others 24 = .ok (.iconst (-1), 1) := dk_2 (dk_at dksX4_others_1 0 rfl rfl)
theorem dX4_others_25 : decode cX4_others 25 = .ok (.ireturn, 1) := dk_172 (dk_at dksX4_others_1 1 rfl rfl)
theorem dX4_others_26 : decode cX4_others 26 = .ok (.aload_n 0, 1) := dk_42 (dk_at dksX4_others_1 2 rfl rfl)
theorem dX4_others_27 : decode cX4_others 27 = .ok (.iload_n 1, 1) := dk_27 (dk_at dksX4_others_1 3 rfl rfl)
theorem dX4_others_28 : decode cX4_others 28 = .ok (.iload_n 2, 1) := dk_28 (dk_at dksX4_others_1 4 rfl rfl)
theorem dX4_others_29 : decode cX4_others 29 = .ok (.iload_n 3, 1) := dk_29 (dk_at dksX4_others_1 5 rfl rfl)
theorem dX4_others_30 : decode cX4_others 30 = .ok (.invokevirtual 354, 3) := dk_182 1 98 (dk_at dksX4_others_1 6 rfl rfl)
theorem dX4_others_33 : decode cX4_others 33 = .ok (.aload_n 0, 1) := dk_42 (dk_at dksX4_others_1 9 rfl rfl)
theorem dX4_others_34 : decode cX4_others 34 = .ok (.getfield 345, 3) := dk_180 1 89 (dk_at dksX4_others_1 10 rfl rfl)
theorem dX4_others_37 : decode cX4_others 37 = .ok (.ireturn, 1) := dk_172 (dk_at dksX4_others_1 13 rfl rfl)
abbrev cX4_areUnlike : ByteArray := prog_15_method_88_code
def yX4_areUnlike : MethodName := ⟨RX4, "areUnlike", "(II)Z"⟩
def dkwX4_areUnlike_1 : List UInt8 := [167, 0, 4, 3, 172]
abbrev dktX4_areUnlike_1 : List UInt8 := dkwX4_areUnlike_1 ++ []
def dkwX4_areUnlike_0 : List UInt8 := [42, 27, 182, 1, 7, 153, 0, 20, 42, 28, 182, 1, 7, 153, 0, 12, 27, 28, 159, 0, 7, 4]
abbrev dktX4_areUnlike_0 : List UInt8 := dkwX4_areUnlike_0 ++ dktX4_areUnlike_1
theorem dksX4_areUnlike_0 : cX4_areUnlike.data.toList.drop 0 = dktX4_areUnlike_0 := by decide +kernel
theorem dksX4_areUnlike_1 : cX4_areUnlike.data.toList.drop 22 = dktX4_areUnlike_1 := dk_seg dksX4_areUnlike_0 22 rfl rfl
theorem dX4_areUnlike_0 : decode cX4_areUnlike 0 = .ok (.aload_n 0, 1) := dk_42 (dk_at dksX4_areUnlike_0 0 rfl rfl)
theorem dX4_areUnlike_1 : decode cX4_areUnlike 1 = .ok (.iload_n 1, 1) := dk_27 (dk_at dksX4_areUnlike_0 1 rfl rfl)
theorem dX4_areUnlike_2 : decode cX4_areUnlike 2 = .ok (.invokevirtual 263, 3) := dk_182 1 7 (dk_at dksX4_areUnlike_0 2 rfl rfl)
theorem dX4_areUnlike_5 : decode cX4_areUnlike 5 = .ok (.ifCond .eq 20, 3) := dk_153 0 20 (dk_at dksX4_areUnlike_0 5 rfl rfl)
theorem dX4_areUnlike_8 : decode cX4_areUnlike 8 = .ok (.aload_n 0, 1) := dk_42 (dk_at dksX4_areUnlike_0 8 rfl rfl)
theorem dX4_areUnlike_9 : decode cX4_areUnlike 9 = .ok (.iload_n 2, 1) := dk_28 (dk_at dksX4_areUnlike_0 9 rfl rfl)
theorem dX4_areUnlike_10 : decode cX4_areUnlike 10 = .ok (.invokevirtual 263, 3) := dk_182 1 7 (dk_at dksX4_areUnlike_0 10 rfl rfl)
theorem dX4_areUnlike_13 : decode cX4_areUnlike 13 = .ok (.ifCond .eq 12, 3) := dk_153 0 12 (dk_at dksX4_areUnlike_0 13 rfl rfl)
theorem dX4_areUnlike_16 : decode cX4_areUnlike 16 = .ok (.iload_n 1, 1) := dk_27 (dk_at dksX4_areUnlike_0 16 rfl rfl)
theorem dX4_areUnlike_17 : decode cX4_areUnlike 17 = .ok (.iload_n 2, 1) := dk_28 (dk_at dksX4_areUnlike_0 17 rfl rfl)
theorem dX4_areUnlike_18 : decode cX4_areUnlike 18 = .ok (.if_icmp .eq 7, 3) := dk_159 0 7 (dk_at dksX4_areUnlike_0 18 rfl rfl)
theorem dX4_areUnlike_21 : decode cX4_areUnlike 21 = .ok (.iconst 1, 1) := dk_4 (dk_at dksX4_areUnlike_0 21 rfl rfl)
theorem dX4_areUnlike_22 : decode cX4_areUnlike 22 = .ok (.goto 4, 3) := dk_167 0 4 (dk_at dksX4_areUnlike_1 0 rfl rfl)
theorem dX4_areUnlike_25 : decode cX4_areUnlike 25 = .ok (.iconst 0, 1) := dk_3 (dk_at dksX4_areUnlike_1 3 rfl rfl)
theorem dX4_areUnlike_26 : decode cX4_areUnlike 26 = .ok (.ireturn, 1) := dk_172 (dk_at dksX4_areUnlike_1 4 rfl rfl)
abbrev cX4_laysOthers : ByteArray := prog_15_method_80_code
def yX4_laysOthers : MethodName := ⟨RX4, "laysOthers", "(III)V"⟩
def dkwX4_laysOthers_4 : List UInt8 := [182, 1, 92, 177]
abbrev dktX4_laysOthers_4 : List UInt8 := dkwX4_laysOthers_4 ++ []
def dkwX4_laysOthers_3 : List UInt8 := [180, 0, 48, 21, 4, 46, 54, 4, 167, 255, 228, 42, 27, 28, 29, 182, 1, 58, 54, 4, 167, 255, 184, 42]
abbrev dktX4_laysOthers_3 : List UInt8 := dkwX4_laysOthers_3 ++ dktX4_laysOthers_4
def dkwX4_laysOthers_2 : List UInt8 := [181, 1, 89, 21, 4, 2, 159, 0, 28, 42, 180, 0, 17, 21, 4, 16, 6, 184, 0, 209, 3, 79, 42]
abbrev dktX4_laysOthers_2 : List UInt8 := dkwX4_laysOthers_2 ++ dktX4_laysOthers_3
def dkwX4_laysOthers_1 : List UInt8 := [42, 180, 0, 72, 42, 180, 1, 89, 42, 180, 0, 39, 21, 4, 46, 79, 42, 89, 180, 1, 89, 4, 96]
abbrev dktX4_laysOthers_1 : List UInt8 := dkwX4_laysOthers_1 ++ dktX4_laysOthers_2
def dkwX4_laysOthers_0 : List UInt8 := [42, 182, 1, 86, 42, 3, 181, 1, 89, 42, 27, 28, 29, 182, 1, 58, 54, 4, 21, 4, 2, 159, 0, 72]
abbrev dktX4_laysOthers_0 : List UInt8 := dkwX4_laysOthers_0 ++ dktX4_laysOthers_1
theorem dksX4_laysOthers_0 : cX4_laysOthers.data.toList.drop 0 = dktX4_laysOthers_0 := by decide +kernel
theorem dksX4_laysOthers_1 : cX4_laysOthers.data.toList.drop 24 = dktX4_laysOthers_1 := dk_seg dksX4_laysOthers_0 24 rfl rfl
theorem dksX4_laysOthers_2 : cX4_laysOthers.data.toList.drop 47 = dktX4_laysOthers_2 := dk_seg dksX4_laysOthers_1 23 rfl rfl
theorem dksX4_laysOthers_3 : cX4_laysOthers.data.toList.drop 70 = dktX4_laysOthers_3 := dk_seg dksX4_laysOthers_2 23 rfl rfl
theorem dksX4_laysOthers_4 : cX4_laysOthers.data.toList.drop 94 = dktX4_laysOthers_4 := dk_seg dksX4_laysOthers_3 24 rfl rfl
theorem dX4_laysOthers_0 : decode cX4_laysOthers 0 = .ok (.aload_n 0, 1) := dk_42 (dk_at dksX4_laysOthers_0 0 rfl rfl)
theorem dX4_laysOthers_1 : decode cX4_laysOthers 1 = .ok (.invokevirtual 342, 3) := dk_182 1 86 (dk_at dksX4_laysOthers_0 1 rfl rfl)
theorem dX4_laysOthers_4 : decode cX4_laysOthers 4 = .ok (.aload_n 0, 1) := dk_42 (dk_at dksX4_laysOthers_0 4 rfl rfl)
theorem dX4_laysOthers_5 : decode cX4_laysOthers 5 = .ok (.iconst 0, 1) := dk_3 (dk_at dksX4_laysOthers_0 5 rfl rfl)
theorem dX4_laysOthers_6 : decode cX4_laysOthers 6 = .ok (.putfield 345, 3) := dk_181 1 89 (dk_at dksX4_laysOthers_0 6 rfl rfl)
theorem dX4_laysOthers_9 : decode cX4_laysOthers 9 = .ok (.aload_n 0, 1) := dk_42 (dk_at dksX4_laysOthers_0 9 rfl rfl)
theorem dX4_laysOthers_10 : decode cX4_laysOthers 10 = .ok (.iload_n 1, 1) := dk_27 (dk_at dksX4_laysOthers_0 10 rfl rfl)
theorem dX4_laysOthers_11 : decode cX4_laysOthers 11 = .ok (.iload_n 2, 1) := dk_28 (dk_at dksX4_laysOthers_0 11 rfl rfl)
theorem dX4_laysOthers_12 : decode cX4_laysOthers 12 = .ok (.iload_n 3, 1) := dk_29 (dk_at dksX4_laysOthers_0 12 rfl rfl)
theorem dX4_laysOthers_13 : decode cX4_laysOthers 13 = .ok (.invokevirtual 314, 3) := dk_182 1 58 (dk_at dksX4_laysOthers_0 13 rfl rfl)
theorem dX4_laysOthers_16 : decode cX4_laysOthers 16 = .ok (.istore 4, 2) := dk_54 4 (dk_at dksX4_laysOthers_0 16 rfl rfl)
theorem dX4_laysOthers_18 : decode cX4_laysOthers 18 = .ok (.iload 4, 2) := dk_21 4 (dk_at dksX4_laysOthers_0 18 rfl rfl)
theorem dX4_laysOthers_20 : decode cX4_laysOthers 20 = .ok (.iconst (-1), 1) := dk_2 (dk_at dksX4_laysOthers_0 20 rfl rfl)
theorem dX4_laysOthers_21 : decode cX4_laysOthers 21 = .ok (.if_icmp .eq 72, 3) := dk_159 0 72 (dk_at dksX4_laysOthers_0 21 rfl rfl)
theorem dX4_laysOthers_24 : decode cX4_laysOthers 24 = .ok (.aload_n 0, 1) := dk_42 (dk_at dksX4_laysOthers_1 0 rfl rfl)
theorem dX4_laysOthers_25 : decode cX4_laysOthers 25 = .ok (.getfield 72, 3) := dk_180 0 72 (dk_at dksX4_laysOthers_1 1 rfl rfl)
theorem dX4_laysOthers_28 : decode cX4_laysOthers 28 = .ok (.aload_n 0, 1) := dk_42 (dk_at dksX4_laysOthers_1 4 rfl rfl)
theorem dX4_laysOthers_29 : decode cX4_laysOthers 29 = .ok (.getfield 345, 3) := dk_180 1 89 (dk_at dksX4_laysOthers_1 5 rfl rfl)
theorem dX4_laysOthers_32 : decode cX4_laysOthers 32 = .ok (.aload_n 0, 1) := dk_42 (dk_at dksX4_laysOthers_1 8 rfl rfl)
theorem dX4_laysOthers_33 : decode cX4_laysOthers 33 = .ok (.getfield 39, 3) := dk_180 0 39 (dk_at dksX4_laysOthers_1 9 rfl rfl)
theorem dX4_laysOthers_36 : decode cX4_laysOthers 36 = .ok (.iload 4, 2) := dk_21 4 (dk_at dksX4_laysOthers_1 12 rfl rfl)
theorem dX4_laysOthers_38 : decode cX4_laysOthers 38 = .ok (.iaload, 1) := dk_46 (dk_at dksX4_laysOthers_1 14 rfl rfl)
theorem dX4_laysOthers_39 : decode cX4_laysOthers 39 = .ok (.iastore, 1) := dk_79 (dk_at dksX4_laysOthers_1 15 rfl rfl)
theorem dX4_laysOthers_40 : decode cX4_laysOthers 40 = .ok (.aload_n 0, 1) := dk_42 (dk_at dksX4_laysOthers_1 16 rfl rfl)
theorem dX4_laysOthers_41 : decode cX4_laysOthers 41 = .ok (.dup, 1) := dk_89 (dk_at dksX4_laysOthers_1 17 rfl rfl)
theorem dX4_laysOthers_42 : decode cX4_laysOthers 42 = .ok (.getfield 345, 3) := dk_180 1 89 (dk_at dksX4_laysOthers_1 18 rfl rfl)
theorem dX4_laysOthers_45 : decode cX4_laysOthers 45 = .ok (.iconst 1, 1) := dk_4 (dk_at dksX4_laysOthers_1 21 rfl rfl)
theorem dX4_laysOthers_46 : decode cX4_laysOthers 46 = .ok (.iadd, 1) := dk_96 (dk_at dksX4_laysOthers_1 22 rfl rfl)
theorem dX4_laysOthers_47 : decode cX4_laysOthers 47 = .ok (.putfield 345, 3) := dk_181 1 89 (dk_at dksX4_laysOthers_2 0 rfl rfl)
theorem dX4_laysOthers_50 : decode cX4_laysOthers 50 = .ok (.iload 4, 2) := dk_21 4 (dk_at dksX4_laysOthers_2 3 rfl rfl)
theorem dX4_laysOthers_52 : decode cX4_laysOthers 52 = .ok (.iconst (-1), 1) := dk_2 (dk_at dksX4_laysOthers_2 5 rfl rfl)
theorem dX4_laysOthers_53 : decode cX4_laysOthers 53 = .ok (.if_icmp .eq 28, 3) := dk_159 0 28 (dk_at dksX4_laysOthers_2 6 rfl rfl)
theorem dX4_laysOthers_56 : decode cX4_laysOthers 56 = .ok (.aload_n 0, 1) := dk_42 (dk_at dksX4_laysOthers_2 9 rfl rfl)
theorem dX4_laysOthers_57 : decode cX4_laysOthers 57 = .ok (.getfield 17, 3) := dk_180 0 17 (dk_at dksX4_laysOthers_2 10 rfl rfl)
theorem dX4_laysOthers_60 : decode cX4_laysOthers 60 = .ok (.iload 4, 2) := dk_21 4 (dk_at dksX4_laysOthers_2 13 rfl rfl)
theorem dX4_laysOthers_62 : decode cX4_laysOthers 62 = .ok (.bipush 6, 2) := dk_16 6 (dk_at dksX4_laysOthers_2 15 rfl rfl)
theorem dX4_laysOthers_64 : decode cX4_laysOthers 64 = .ok (.invokestatic 209, 3) := dk_184 0 209 (dk_at dksX4_laysOthers_2 17 rfl rfl)
theorem dX4_laysOthers_67 : decode cX4_laysOthers 67 = .ok (.iconst 0, 1) := dk_3 (dk_at dksX4_laysOthers_2 20 rfl rfl)
theorem dX4_laysOthers_68 : decode cX4_laysOthers 68 = .ok (.iastore, 1) := dk_79 (dk_at dksX4_laysOthers_2 21 rfl rfl)
theorem dX4_laysOthers_69 : decode cX4_laysOthers 69 = .ok (.aload_n 0, 1) := dk_42 (dk_at dksX4_laysOthers_2 22 rfl rfl)
theorem dX4_laysOthers_70 : decode cX4_laysOthers 70 = .ok (.getfield 48, 3) := dk_180 0 48 (dk_at dksX4_laysOthers_3 0 rfl rfl)
theorem dX4_laysOthers_73 : decode cX4_laysOthers 73 = .ok (.iload 4, 2) := dk_21 4 (dk_at dksX4_laysOthers_3 3 rfl rfl)
theorem dX4_laysOthers_75 : decode cX4_laysOthers 75 = .ok (.iaload, 1) := dk_46 (dk_at dksX4_laysOthers_3 5 rfl rfl)
theorem dX4_laysOthers_76 : decode cX4_laysOthers 76 = .ok (.istore 4, 2) := dk_54 4 (dk_at dksX4_laysOthers_3 6 rfl rfl)
theorem dX4_laysOthers_78 : decode cX4_laysOthers 78 = .ok (.goto (-28), 3) := dk_167 255 228 (dk_at dksX4_laysOthers_3 8 rfl rfl)
theorem dX4_laysOthers_81 : decode cX4_laysOthers 81 = .ok (.aload_n 0, 1) := dk_42 (dk_at dksX4_laysOthers_3 11 rfl rfl)
theorem dX4_laysOthers_82 : decode cX4_laysOthers 82 = .ok (.iload_n 1, 1) := dk_27 (dk_at dksX4_laysOthers_3 12 rfl rfl)
theorem dX4_laysOthers_83 : decode cX4_laysOthers 83 = .ok (.iload_n 2, 1) := dk_28 (dk_at dksX4_laysOthers_3 13 rfl rfl)
theorem dX4_laysOthers_84 : decode cX4_laysOthers 84 = .ok (.iload_n 3, 1) := dk_29 (dk_at dksX4_laysOthers_3 14 rfl rfl)
theorem dX4_laysOthers_85 : decode cX4_laysOthers 85 = .ok (.invokevirtual 314, 3) := dk_182 1 58 (dk_at dksX4_laysOthers_3 15 rfl rfl)
theorem dX4_laysOthers_88 : decode cX4_laysOthers 88 = .ok (.istore 4, 2) := dk_54 4 (dk_at dksX4_laysOthers_3 18 rfl rfl)
theorem dX4_laysOthers_90 : decode cX4_laysOthers 90 = .ok (.goto (-72), 3) := dk_167 255 184 (dk_at dksX4_laysOthers_3 20 rfl rfl)
theorem dX4_laysOthers_93 : decode cX4_laysOthers 93 = .ok (.aload_n 0, 1) := dk_42 (dk_at dksX4_laysOthers_3 23 rfl rfl)
theorem dX4_laysOthers_94 : decode cX4_laysOthers 94 = .ok (.invokevirtual 348, 3) := dk_182 1 92 (dk_at dksX4_laysOthers_4 0 rfl rfl)
theorem dX4_laysOthers_97 : decode cX4_laysOthers 97 = .ok (.return_, 1) := dk_177 (dk_at dksX4_laysOthers_4 3 rfl rfl)
abbrev cX4_laysAside : ByteArray := prog_15_method_93_code
def yX4_laysAside : MethodName := ⟨RX4, "laysAside", "()V"⟩
def dkwX4_laysAside_0 : List UInt8 := [42, 180, 0, 17, 3, 42, 180, 0, 23, 3, 184, 0, 240, 177]
abbrev dktX4_laysAside_0 : List UInt8 := dkwX4_laysAside_0 ++ []
theorem dksX4_laysAside_0 : cX4_laysAside.data.toList.drop 0 = dktX4_laysAside_0 := by decide +kernel
theorem dX4_laysAside_0 : decode cX4_laysAside 0 = .ok (.aload_n 0, 1) := dk_42 (dk_at dksX4_laysAside_0 0 rfl rfl)
theorem dX4_laysAside_1 : decode cX4_laysAside 1 = .ok (.getfield 17, 3) := dk_180 0 17 (dk_at dksX4_laysAside_0 1 rfl rfl)
theorem dX4_laysAside_4 : decode cX4_laysAside 4 = .ok (.iconst 0, 1) := dk_3 (dk_at dksX4_laysAside_0 4 rfl rfl)
theorem dX4_laysAside_5 : decode cX4_laysAside 5 = .ok (.aload_n 0, 1) := dk_42 (dk_at dksX4_laysAside_0 5 rfl rfl)
theorem dX4_laysAside_6 : decode cX4_laysAside 6 = .ok (.getfield 23, 3) := dk_180 0 23 (dk_at dksX4_laysAside_0 6 rfl rfl)
theorem dX4_laysAside_9 : decode cX4_laysAside 9 = .ok (.iconst 0, 1) := dk_3 (dk_at dksX4_laysAside_0 9 rfl rfl)
theorem dX4_laysAside_10 : decode cX4_laysAside 10 = .ok (.invokestatic 240, 3) := dk_184 0 240 (dk_at dksX4_laysAside_0 10 rfl rfl)
theorem dX4_laysAside_13 : decode cX4_laysAside 13 = .ok (.return_, 1) := dk_177 (dk_at dksX4_laysAside_0 13 rfl rfl)
abbrev cX4_takesBack : ByteArray := prog_15_method_94_code
def yX4_takesBack : MethodName := ⟨RX4, "takesBack", "()V"⟩
def dkwX4_takesBack_0 : List UInt8 := [42, 180, 0, 23, 3, 42, 180, 0, 17, 3, 184, 0, 240, 177]
abbrev dktX4_takesBack_0 : List UInt8 := dkwX4_takesBack_0 ++ []
theorem dksX4_takesBack_0 : cX4_takesBack.data.toList.drop 0 = dktX4_takesBack_0 := by decide +kernel
theorem dX4_takesBack_0 : decode cX4_takesBack 0 = .ok (.aload_n 0, 1) := dk_42 (dk_at dksX4_takesBack_0 0 rfl rfl)
theorem dX4_takesBack_1 : decode cX4_takesBack 1 = .ok (.getfield 23, 3) := dk_180 0 23 (dk_at dksX4_takesBack_0 1 rfl rfl)
theorem dX4_takesBack_4 : decode cX4_takesBack 4 = .ok (.iconst 0, 1) := dk_3 (dk_at dksX4_takesBack_0 4 rfl rfl)
theorem dX4_takesBack_5 : decode cX4_takesBack 5 = .ok (.aload_n 0, 1) := dk_42 (dk_at dksX4_takesBack_0 5 rfl rfl)
theorem dX4_takesBack_6 : decode cX4_takesBack 6 = .ok (.getfield 17, 3) := dk_180 0 17 (dk_at dksX4_takesBack_0 6 rfl rfl)
theorem dX4_takesBack_9 : decode cX4_takesBack 9 = .ok (.iconst 0, 1) := dk_3 (dk_at dksX4_takesBack_0 9 rfl rfl)
theorem dX4_takesBack_10 : decode cX4_takesBack 10 = .ok (.invokestatic 240, 3) := dk_184 0 240 (dk_at dksX4_takesBack_0 10 rfl rfl)
theorem dX4_takesBack_13 : decode cX4_takesBack 13 = .ok (.return_, 1) := dk_177 (dk_at dksX4_takesBack_0 13 rfl rfl)
abbrev cX4_other : ByteArray := prog_15_method_82_code
def yX4_other : MethodName := ⟨RX4, "other", "(IIII)I"⟩
def dkwX4_other_2 : List UInt8 := [42, 180, 0, 72, 21, 4, 46, 167, 0, 8, 42, 4, 182, 0, 237, 172]
abbrev dktX4_other_2 : List UInt8 := dkwX4_other_2 ++ []
def dkwX4_other_1 : List UInt8 := [2, 172, 42, 27, 28, 29, 182, 1, 98, 21, 4, 3, 42, 180, 1, 89, 4, 100, 184, 0, 107, 153, 0, 13]
abbrev dktX4_other_1 : List UInt8 := dkwX4_other_1 ++ dktX4_other_2
def dkwX4_other_0 : List UInt8 := [42, 42, 27, 28, 182, 1, 95, 29, 3, 17, 7, 207, 184, 0, 107, 184, 1, 48, 182, 0, 228, 153, 0, 5]
abbrev dktX4_other_0 : List UInt8 := dkwX4_other_0 ++ dktX4_other_1
theorem dksX4_other_0 : cX4_other.data.toList.drop 0 = dktX4_other_0 := by decide +kernel
theorem dksX4_other_1 : cX4_other.data.toList.drop 24 = dktX4_other_1 := dk_seg dksX4_other_0 24 rfl rfl
theorem dksX4_other_2 : cX4_other.data.toList.drop 48 = dktX4_other_2 := dk_seg dksX4_other_1 24 rfl rfl
theorem dX4_other_0 : decode cX4_other 0 = .ok (.aload_n 0, 1) := dk_42 (dk_at dksX4_other_0 0 rfl rfl)
theorem dX4_other_1 : decode cX4_other 1 = .ok (.aload_n 0, 1) := dk_42 (dk_at dksX4_other_0 1 rfl rfl)
theorem dX4_other_2 : decode cX4_other 2 = .ok (.iload_n 1, 1) := dk_27 (dk_at dksX4_other_0 2 rfl rfl)
theorem dX4_other_3 : decode cX4_other 3 = .ok (.iload_n 2, 1) := dk_28 (dk_at dksX4_other_0 3 rfl rfl)
theorem dX4_other_4 : decode cX4_other 4 = .ok (.invokevirtual 351, 3) := dk_182 1 95 (dk_at dksX4_other_0 4 rfl rfl)
theorem dX4_other_7 : decode cX4_other 7 = .ok (.iload_n 3, 1) := dk_29 (dk_at dksX4_other_0 7 rfl rfl)
theorem dX4_other_8 : decode cX4_other 8 = .ok (.iconst 0, 1) := dk_3 (dk_at dksX4_other_0 8 rfl rfl)
theorem dX4_other_9 : decode cX4_other 9 = .ok (.sipush 1999, 3) := dk_17 7 207 (dk_at dksX4_other_0 9 rfl rfl)
theorem dX4_other_12 : decode cX4_other 12 = .ok (.invokestatic 107, 3) := dk_184 0 107 (dk_at dksX4_other_0 12 rfl rfl)
theorem dX4_other_15 : decode cX4_other 15 = .ok (.invokestatic 304, 3) := dk_184 1 48 (dk_at dksX4_other_0 15 rfl rfl)
theorem dX4_other_18 : decode cX4_other 18 = .ok (.invokevirtual 228, 3) := dk_182 0 228 (dk_at dksX4_other_0 18 rfl rfl)
theorem dX4_other_21 : decode cX4_other 21 = .ok (.ifCond .eq 5, 3) := dk_153 0 5 (dk_at dksX4_other_0 21 rfl rfl)
theorem dX4_other_24 : decode cX4_other 24 = .ok (.iconst (-1), 1) := dk_2 (dk_at dksX4_other_1 0 rfl rfl)
theorem dX4_other_25 : decode cX4_other 25 = .ok (.ireturn, 1) := dk_172 (dk_at dksX4_other_1 1 rfl rfl)
theorem dX4_other_26 : decode cX4_other 26 = .ok (.aload_n 0, 1) := dk_42 (dk_at dksX4_other_1 2 rfl rfl)
theorem dX4_other_27 : decode cX4_other 27 = .ok (.iload_n 1, 1) := dk_27 (dk_at dksX4_other_1 3 rfl rfl)
theorem dX4_other_28 : decode cX4_other 28 = .ok (.iload_n 2, 1) := dk_28 (dk_at dksX4_other_1 4 rfl rfl)
theorem dX4_other_29 : decode cX4_other 29 = .ok (.iload_n 3, 1) := dk_29 (dk_at dksX4_other_1 5 rfl rfl)
theorem dX4_other_30 : decode cX4_other 30 = .ok (.invokevirtual 354, 3) := dk_182 1 98 (dk_at dksX4_other_1 6 rfl rfl)
theorem dX4_other_33 : decode cX4_other 33 = .ok (.iload 4, 2) := dk_21 4 (dk_at dksX4_other_1 9 rfl rfl)
theorem dX4_other_35 : decode cX4_other 35 = .ok (.iconst 0, 1) := dk_3 (dk_at dksX4_other_1 11 rfl rfl)
theorem dX4_other_36 : decode cX4_other 36 = .ok (.aload_n 0, 1) := dk_42 (dk_at dksX4_other_1 12 rfl rfl)
theorem dX4_other_37 : decode cX4_other 37 = .ok (.getfield 345, 3) := dk_180 1 89 (dk_at dksX4_other_1 13 rfl rfl)
theorem dX4_other_40 : decode cX4_other 40 = .ok (.iconst 1, 1) := dk_4 (dk_at dksX4_other_1 16 rfl rfl)
theorem dX4_other_41 : decode cX4_other 41 = .ok (.isub, 1) := dk_100 (dk_at dksX4_other_1 17 rfl rfl)
theorem dX4_other_42 : decode cX4_other 42 = .ok (.invokestatic 107, 3) := dk_184 0 107 (dk_at dksX4_other_1 18 rfl rfl)
theorem dX4_other_45 : decode cX4_other 45 = .ok (.ifCond .eq 13, 3) := dk_153 0 13 (dk_at dksX4_other_1 21 rfl rfl)
theorem dX4_other_48 : decode cX4_other 48 = .ok (.aload_n 0, 1) := dk_42 (dk_at dksX4_other_2 0 rfl rfl)
theorem dX4_other_49 : decode cX4_other 49 = .ok (.getfield 72, 3) := dk_180 0 72 (dk_at dksX4_other_2 1 rfl rfl)
theorem dX4_other_52 : decode cX4_other 52 = .ok (.iload 4, 2) := dk_21 4 (dk_at dksX4_other_2 4 rfl rfl)
theorem dX4_other_54 : decode cX4_other 54 = .ok (.iaload, 1) := dk_46 (dk_at dksX4_other_2 6 rfl rfl)
theorem dX4_other_55 : decode cX4_other 55 = .ok (.goto 8, 3) := dk_167 0 8 (dk_at dksX4_other_2 7 rfl rfl)
theorem dX4_other_58 : decode cX4_other 58 = .ok (.aload_n 0, 1) := dk_42 (dk_at dksX4_other_2 10 rfl rfl)
theorem dX4_other_59 : decode cX4_other 59 = .ok (.iconst 1, 1) := dk_4 (dk_at dksX4_other_2 11 rfl rfl)
theorem dX4_other_60 : decode cX4_other 60 = .ok (.invokevirtual 237, 3) := dk_182 0 237 (dk_at dksX4_other_2 12 rfl rfl)
theorem dX4_other_63 : decode cX4_other 63 = .ok (.ireturn, 1) := dk_172 (dk_at dksX4_other_2 15 rfl rfl)
abbrev cX4_pairs : ByteArray := prog_15_method_85_code
def yX4_pairs : MethodName := ⟨RX4, "pairs", "(I)I"⟩
def dkwX4_pairs_0 : List UInt8 := [42, 27, 182, 1, 110, 153, 0, 10, 42, 180, 1, 101, 167, 0, 4, 2, 172]
abbrev dktX4_pairs_0 : List UInt8 := dkwX4_pairs_0 ++ []
theorem dksX4_pairs_0 : cX4_pairs.data.toList.drop 0 = dktX4_pairs_0 := by decide +kernel
theorem dX4_pairs_0 : decode cX4_pairs 0 = .ok (.aload_n 0, 1) := dk_42 (dk_at dksX4_pairs_0 0 rfl rfl)
theorem dX4_pairs_1 : decode cX4_pairs 1 = .ok (.iload_n 1, 1) := dk_27 (dk_at dksX4_pairs_0 1 rfl rfl)
theorem dX4_pairs_2 : decode cX4_pairs 2 = .ok (.invokevirtual 366, 3) := dk_182 1 110 (dk_at dksX4_pairs_0 2 rfl rfl)
theorem dX4_pairs_5 : decode cX4_pairs 5 = .ok (.ifCond .eq 10, 3) := dk_153 0 10 (dk_at dksX4_pairs_0 5 rfl rfl)
theorem dX4_pairs_8 : decode cX4_pairs 8 = .ok (.aload_n 0, 1) := dk_42 (dk_at dksX4_pairs_0 8 rfl rfl)
theorem dX4_pairs_9 : decode cX4_pairs 9 = .ok (.getfield 357, 3) := dk_180 1 101 (dk_at dksX4_pairs_0 9 rfl rfl)
theorem dX4_pairs_12 : decode cX4_pairs 12 = .ok (.goto 4, 3) := dk_167 0 4 (dk_at dksX4_pairs_0 12 rfl rfl)
theorem dX4_pairs_15 : decode cX4_pairs 15 = .ok (.iconst (-1), 1) := dk_2 (dk_at dksX4_pairs_0 15 rfl rfl)
theorem dX4_pairs_16 : decode cX4_pairs 16 = .ok (.ireturn, 1) := dk_172 (dk_at dksX4_pairs_0 16 rfl rfl)
abbrev cX4_isAsked : ByteArray := prog_15_method_84_code
def yX4_isAsked : MethodName := ⟨RX4, "isAsked", "(I)Z"⟩
def dkwX4_isAsked_1 : List UInt8 := [42, 27, 182, 1, 107, 4, 172]
abbrev dktX4_isAsked_1 : List UInt8 := dkwX4_isAsked_1 ++ []
def dkwX4_isAsked_0 : List UInt8 := [42, 42, 180, 0, 244, 27, 3, 17, 7, 207, 184, 0, 107, 184, 1, 48, 182, 0, 228, 153, 0, 5, 3, 172]
abbrev dktX4_isAsked_0 : List UInt8 := dkwX4_isAsked_0 ++ dktX4_isAsked_1
theorem dksX4_isAsked_0 : cX4_isAsked.data.toList.drop 0 = dktX4_isAsked_0 := by decide +kernel
theorem dksX4_isAsked_1 : cX4_isAsked.data.toList.drop 24 = dktX4_isAsked_1 := dk_seg dksX4_isAsked_0 24 rfl rfl
theorem dX4_isAsked_0 : decode cX4_isAsked 0 = .ok (.aload_n 0, 1) := dk_42 (dk_at dksX4_isAsked_0 0 rfl rfl)
theorem dX4_isAsked_1 : decode cX4_isAsked 1 = .ok (.aload_n 0, 1) := dk_42 (dk_at dksX4_isAsked_0 1 rfl rfl)
theorem dX4_isAsked_2 : decode cX4_isAsked 2 = .ok (.getfield 244, 3) := dk_180 0 244 (dk_at dksX4_isAsked_0 2 rfl rfl)
theorem dX4_isAsked_5 : decode cX4_isAsked 5 = .ok (.iload_n 1, 1) := dk_27 (dk_at dksX4_isAsked_0 5 rfl rfl)
theorem dX4_isAsked_6 : decode cX4_isAsked 6 = .ok (.iconst 0, 1) := dk_3 (dk_at dksX4_isAsked_0 6 rfl rfl)
theorem dX4_isAsked_7 : decode cX4_isAsked 7 = .ok (.sipush 1999, 3) := dk_17 7 207 (dk_at dksX4_isAsked_0 7 rfl rfl)
theorem dX4_isAsked_10 : decode cX4_isAsked 10 = .ok (.invokestatic 107, 3) := dk_184 0 107 (dk_at dksX4_isAsked_0 10 rfl rfl)
theorem dX4_isAsked_13 : decode cX4_isAsked 13 = .ok (.invokestatic 304, 3) := dk_184 1 48 (dk_at dksX4_isAsked_0 13 rfl rfl)
theorem dX4_isAsked_16 : decode cX4_isAsked 16 = .ok (.invokevirtual 228, 3) := dk_182 0 228 (dk_at dksX4_isAsked_0 16 rfl rfl)
theorem dX4_isAsked_19 : decode cX4_isAsked 19 = .ok (.ifCond .eq 5, 3) := dk_153 0 5 (dk_at dksX4_isAsked_0 19 rfl rfl)
theorem dX4_isAsked_22 : decode cX4_isAsked 22 = .ok (.iconst 0, 1) := dk_3 (dk_at dksX4_isAsked_0 22 rfl rfl)
theorem dX4_isAsked_23 : decode cX4_isAsked 23 = .ok (.ireturn, 1) := dk_172 (dk_at dksX4_isAsked_0 23 rfl rfl)
theorem dX4_isAsked_24 : decode cX4_isAsked 24 = .ok (.aload_n 0, 1) := dk_42 (dk_at dksX4_isAsked_1 0 rfl rfl)
theorem dX4_isAsked_25 : decode cX4_isAsked 25 = .ok (.iload_n 1, 1) := dk_27 (dk_at dksX4_isAsked_1 1 rfl rfl)
theorem dX4_isAsked_26 : decode cX4_isAsked 26 = .ok (.invokevirtual 363, 3) := dk_182 1 107 (dk_at dksX4_isAsked_1 2 rfl rfl)
theorem dX4_isAsked_29 : decode cX4_isAsked 29 = .ok (.iconst 1, 1) := dk_4 (dk_at dksX4_isAsked_1 5 rfl rfl)
theorem dX4_isAsked_30 : decode cX4_isAsked 30 = .ok (.ireturn, 1) := dk_172 (dk_at dksX4_isAsked_1 6 rfl rfl)
abbrev cX4_laysPairs : ByteArray := prog_15_method_83_code
def yX4_laysPairs : MethodName := ⟨RX4, "laysPairs", "(I)V"⟩
def dkwX4_laysPairs_8 : List UInt8 := [132, 3, 1, 167, 255, 116, 132, 2, 1, 167, 255, 93, 177]
abbrev dktX4_laysPairs_8 : List UInt8 := dkwX4_laysPairs_8 ++ []
def dkwX4_laysPairs_7 : List UInt8 := [180, 0, 48, 21, 4, 46, 182, 1, 33, 96, 79, 42, 180, 0, 48, 21, 4, 46, 54, 4, 167, 255, 204]
abbrev dktX4_laysPairs_7 : List UInt8 := dkwX4_laysPairs_7 ++ dktX4_laysPairs_8
def dkwX4_laysPairs_6 : List UInt8 := [159, 0, 47, 42, 180, 0, 75, 42, 180, 0, 17, 21, 4, 5, 184, 0, 209, 46, 92, 46, 42, 21, 4, 42]
abbrev dktX4_laysPairs_6 : List UInt8 := dkwX4_laysPairs_6 ++ dktX4_laysPairs_7
def dkwX4_laysPairs_5 : List UInt8 := [21, 4, 46, 27, 100, 167, 0, 7, 42, 180, 1, 104, 181, 1, 104, 42, 180, 0, 48, 21, 4, 46, 2]
abbrev dktX4_laysPairs_5 : List UInt8 := dkwX4_laysPairs_5 ++ dktX4_laysPairs_6
def dkwX4_laysPairs_4 : List UInt8 := [181, 1, 101, 42, 42, 180, 0, 39, 21, 4, 46, 27, 100, 42, 180, 1, 104, 164, 0, 15, 42, 180, 0, 39]
abbrev dktX4_laysPairs_4 : List UInt8 := dkwX4_laysPairs_4 ++ dktX4_laysPairs_5
def dkwX4_laysPairs_3 : List UInt8 := [42, 29, 27, 182, 1, 45, 54, 4, 21, 4, 2, 160, 0, 6, 167, 0, 104, 42, 89, 180, 1, 101, 4, 96]
abbrev dktX4_laysPairs_3 : List UInt8 := dkwX4_laysPairs_3 ++ dktX4_laysPairs_4
def dkwX4_laysPairs_2 : List UInt8 := [182, 1, 42, 3, 62, 29, 42, 180, 0, 17, 4, 46, 162, 0, 136, 29, 28, 160, 0, 7, 2, 167, 0, 9]
abbrev dktX4_laysPairs_2 : List UInt8 := dkwX4_laysPairs_2 ++ dktX4_laysPairs_3
def dkwX4_laysPairs_1 : List UInt8 := [3, 79, 132, 2, 1, 167, 255, 240, 3, 61, 28, 42, 180, 0, 17, 4, 46, 162, 0, 159, 42, 28]
abbrev dktX4_laysPairs_1 : List UInt8 := dkwX4_laysPairs_1 ++ dktX4_laysPairs_2
def dkwX4_laysPairs_0 : List UInt8 := [42, 3, 181, 1, 101, 42, 16, 254, 181, 1, 104, 3, 61, 28, 16, 10, 162, 0, 16, 42, 180, 0, 75, 28]
abbrev dktX4_laysPairs_0 : List UInt8 := dkwX4_laysPairs_0 ++ dktX4_laysPairs_1
theorem dksX4_laysPairs_0 : cX4_laysPairs.data.toList.drop 0 = dktX4_laysPairs_0 := by decide +kernel
theorem dksX4_laysPairs_1 : cX4_laysPairs.data.toList.drop 24 = dktX4_laysPairs_1 := dk_seg dksX4_laysPairs_0 24 rfl rfl
theorem dksX4_laysPairs_2 : cX4_laysPairs.data.toList.drop 46 = dktX4_laysPairs_2 := dk_seg dksX4_laysPairs_1 22 rfl rfl
theorem dksX4_laysPairs_3 : cX4_laysPairs.data.toList.drop 70 = dktX4_laysPairs_3 := dk_seg dksX4_laysPairs_2 24 rfl rfl
theorem dksX4_laysPairs_4 : cX4_laysPairs.data.toList.drop 94 = dktX4_laysPairs_4 := dk_seg dksX4_laysPairs_3 24 rfl rfl
theorem dksX4_laysPairs_5 : cX4_laysPairs.data.toList.drop 118 = dktX4_laysPairs_5 := dk_seg dksX4_laysPairs_4 24 rfl rfl
theorem dksX4_laysPairs_6 : cX4_laysPairs.data.toList.drop 141 = dktX4_laysPairs_6 := dk_seg dksX4_laysPairs_5 23 rfl rfl
theorem dksX4_laysPairs_7 : cX4_laysPairs.data.toList.drop 165 = dktX4_laysPairs_7 := dk_seg dksX4_laysPairs_6 24 rfl rfl
theorem dksX4_laysPairs_8 : cX4_laysPairs.data.toList.drop 188 = dktX4_laysPairs_8 := dk_seg dksX4_laysPairs_7 23 rfl rfl
theorem dX4_laysPairs_0 : decode cX4_laysPairs 0 = .ok (.aload_n 0, 1) := dk_42 (dk_at dksX4_laysPairs_0 0 rfl rfl)
theorem dX4_laysPairs_1 : decode cX4_laysPairs 1 = .ok (.iconst 0, 1) := dk_3 (dk_at dksX4_laysPairs_0 1 rfl rfl)
theorem dX4_laysPairs_2 : decode cX4_laysPairs 2 = .ok (.putfield 357, 3) := dk_181 1 101 (dk_at dksX4_laysPairs_0 2 rfl rfl)
theorem dX4_laysPairs_5 : decode cX4_laysPairs 5 = .ok (.aload_n 0, 1) := dk_42 (dk_at dksX4_laysPairs_0 5 rfl rfl)
theorem dX4_laysPairs_6 : decode cX4_laysPairs 6 = .ok (.bipush (-2), 2) := dk_16 254 (dk_at dksX4_laysPairs_0 6 rfl rfl)
theorem dX4_laysPairs_8 : decode cX4_laysPairs 8 = .ok (.putfield 360, 3) := dk_181 1 104 (dk_at dksX4_laysPairs_0 8 rfl rfl)
theorem dX4_laysPairs_11 : decode cX4_laysPairs 11 = .ok (.iconst 0, 1) := dk_3 (dk_at dksX4_laysPairs_0 11 rfl rfl)
theorem dX4_laysPairs_12 : decode cX4_laysPairs 12 = .ok (.istore_n 2, 1) := dk_61 (dk_at dksX4_laysPairs_0 12 rfl rfl)
theorem dX4_laysPairs_13 : decode cX4_laysPairs 13 = .ok (.iload_n 2, 1) := dk_28 (dk_at dksX4_laysPairs_0 13 rfl rfl)
theorem dX4_laysPairs_14 : decode cX4_laysPairs 14 = .ok (.bipush 10, 2) := dk_16 10 (dk_at dksX4_laysPairs_0 14 rfl rfl)
theorem dX4_laysPairs_16 : decode cX4_laysPairs 16 = .ok (.if_icmp .ge 16, 3) := dk_162 0 16 (dk_at dksX4_laysPairs_0 16 rfl rfl)
theorem dX4_laysPairs_19 : decode cX4_laysPairs 19 = .ok (.aload_n 0, 1) := dk_42 (dk_at dksX4_laysPairs_0 19 rfl rfl)
theorem dX4_laysPairs_20 : decode cX4_laysPairs 20 = .ok (.getfield 75, 3) := dk_180 0 75 (dk_at dksX4_laysPairs_0 20 rfl rfl)
theorem dX4_laysPairs_23 : decode cX4_laysPairs 23 = .ok (.iload_n 2, 1) := dk_28 (dk_at dksX4_laysPairs_0 23 rfl rfl)
theorem dX4_laysPairs_24 : decode cX4_laysPairs 24 = .ok (.iconst 0, 1) := dk_3 (dk_at dksX4_laysPairs_1 0 rfl rfl)
theorem dX4_laysPairs_25 : decode cX4_laysPairs 25 = .ok (.iastore, 1) := dk_79 (dk_at dksX4_laysPairs_1 1 rfl rfl)
theorem dX4_laysPairs_26 : decode cX4_laysPairs 26 = .ok (.iinc 2 1, 3) := dk_132 2 1 (dk_at dksX4_laysPairs_1 2 rfl rfl)
theorem dX4_laysPairs_29 : decode cX4_laysPairs 29 = .ok (.goto (-16), 3) := dk_167 255 240 (dk_at dksX4_laysPairs_1 5 rfl rfl)
theorem dX4_laysPairs_32 : decode cX4_laysPairs 32 = .ok (.iconst 0, 1) := dk_3 (dk_at dksX4_laysPairs_1 8 rfl rfl)
theorem dX4_laysPairs_33 : decode cX4_laysPairs 33 = .ok (.istore_n 2, 1) := dk_61 (dk_at dksX4_laysPairs_1 9 rfl rfl)
theorem dX4_laysPairs_34 : decode cX4_laysPairs 34 = .ok (.iload_n 2, 1) := dk_28 (dk_at dksX4_laysPairs_1 10 rfl rfl)
theorem dX4_laysPairs_35 : decode cX4_laysPairs 35 = .ok (.aload_n 0, 1) := dk_42 (dk_at dksX4_laysPairs_1 11 rfl rfl)
theorem dX4_laysPairs_36 : decode cX4_laysPairs 36 = .ok (.getfield 17, 3) := dk_180 0 17 (dk_at dksX4_laysPairs_1 12 rfl rfl)
theorem dX4_laysPairs_39 : decode cX4_laysPairs 39 = .ok (.iconst 1, 1) := dk_4 (dk_at dksX4_laysPairs_1 15 rfl rfl)
theorem dX4_laysPairs_40 : decode cX4_laysPairs 40 = .ok (.iaload, 1) := dk_46 (dk_at dksX4_laysPairs_1 16 rfl rfl)
theorem dX4_laysPairs_41 : decode cX4_laysPairs 41 = .ok (.if_icmp .ge 159, 3) := dk_162 0 159 (dk_at dksX4_laysPairs_1 17 rfl rfl)
theorem dX4_laysPairs_44 : decode cX4_laysPairs 44 = .ok (.aload_n 0, 1) := dk_42 (dk_at dksX4_laysPairs_1 20 rfl rfl)
theorem dX4_laysPairs_45 : decode cX4_laysPairs 45 = .ok (.iload_n 2, 1) := dk_28 (dk_at dksX4_laysPairs_1 21 rfl rfl)
theorem dX4_laysPairs_46 : decode cX4_laysPairs 46 = .ok (.invokevirtual 298, 3) := dk_182 1 42 (dk_at dksX4_laysPairs_2 0 rfl rfl)
theorem dX4_laysPairs_49 : decode cX4_laysPairs 49 = .ok (.iconst 0, 1) := dk_3 (dk_at dksX4_laysPairs_2 3 rfl rfl)
theorem dX4_laysPairs_50 : decode cX4_laysPairs 50 = .ok (.istore_n 3, 1) := dk_62 (dk_at dksX4_laysPairs_2 4 rfl rfl)
theorem dX4_laysPairs_51 : decode cX4_laysPairs 51 = .ok (.iload_n 3, 1) := dk_29 (dk_at dksX4_laysPairs_2 5 rfl rfl)
theorem dX4_laysPairs_52 : decode cX4_laysPairs 52 = .ok (.aload_n 0, 1) := dk_42 (dk_at dksX4_laysPairs_2 6 rfl rfl)
theorem dX4_laysPairs_53 : decode cX4_laysPairs 53 = .ok (.getfield 17, 3) := dk_180 0 17 (dk_at dksX4_laysPairs_2 7 rfl rfl)
theorem dX4_laysPairs_56 : decode cX4_laysPairs 56 = .ok (.iconst 1, 1) := dk_4 (dk_at dksX4_laysPairs_2 10 rfl rfl)
theorem dX4_laysPairs_57 : decode cX4_laysPairs 57 = .ok (.iaload, 1) := dk_46 (dk_at dksX4_laysPairs_2 11 rfl rfl)
theorem dX4_laysPairs_58 : decode cX4_laysPairs 58 = .ok (.if_icmp .ge 136, 3) := dk_162 0 136 (dk_at dksX4_laysPairs_2 12 rfl rfl)
theorem dX4_laysPairs_61 : decode cX4_laysPairs 61 = .ok (.iload_n 3, 1) := dk_29 (dk_at dksX4_laysPairs_2 15 rfl rfl)
theorem dX4_laysPairs_62 : decode cX4_laysPairs 62 = .ok (.iload_n 2, 1) := dk_28 (dk_at dksX4_laysPairs_2 16 rfl rfl)
theorem dX4_laysPairs_63 : decode cX4_laysPairs 63 = .ok (.if_icmp .ne 7, 3) := dk_160 0 7 (dk_at dksX4_laysPairs_2 17 rfl rfl)
theorem dX4_laysPairs_66 : decode cX4_laysPairs 66 = .ok (.iconst (-1), 1) := dk_2 (dk_at dksX4_laysPairs_2 20 rfl rfl)
theorem dX4_laysPairs_67 : decode cX4_laysPairs 67 = .ok (.goto 9, 3) := dk_167 0 9 (dk_at dksX4_laysPairs_2 21 rfl rfl)
theorem dX4_laysPairs_70 : decode cX4_laysPairs 70 = .ok (.aload_n 0, 1) := dk_42 (dk_at dksX4_laysPairs_3 0 rfl rfl)
theorem dX4_laysPairs_71 : decode cX4_laysPairs 71 = .ok (.iload_n 3, 1) := dk_29 (dk_at dksX4_laysPairs_3 1 rfl rfl)
theorem dX4_laysPairs_72 : decode cX4_laysPairs 72 = .ok (.iload_n 1, 1) := dk_27 (dk_at dksX4_laysPairs_3 2 rfl rfl)
theorem dX4_laysPairs_73 : decode cX4_laysPairs 73 = .ok (.invokevirtual 301, 3) := dk_182 1 45 (dk_at dksX4_laysPairs_3 3 rfl rfl)
theorem dX4_laysPairs_76 : decode cX4_laysPairs 76 = .ok (.istore 4, 2) := dk_54 4 (dk_at dksX4_laysPairs_3 6 rfl rfl)
theorem dX4_laysPairs_78 : decode cX4_laysPairs 78 = .ok (.iload 4, 2) := dk_21 4 (dk_at dksX4_laysPairs_3 8 rfl rfl)
theorem dX4_laysPairs_80 : decode cX4_laysPairs 80 = .ok (.iconst (-1), 1) := dk_2 (dk_at dksX4_laysPairs_3 10 rfl rfl)
theorem dX4_laysPairs_81 : decode cX4_laysPairs 81 = .ok (.if_icmp .ne 6, 3) := dk_160 0 6 (dk_at dksX4_laysPairs_3 11 rfl rfl)
theorem dX4_laysPairs_84 : decode cX4_laysPairs 84 = .ok (.goto 104, 3) := dk_167 0 104 (dk_at dksX4_laysPairs_3 14 rfl rfl)
theorem dX4_laysPairs_87 : decode cX4_laysPairs 87 = .ok (.aload_n 0, 1) := dk_42 (dk_at dksX4_laysPairs_3 17 rfl rfl)
theorem dX4_laysPairs_88 : decode cX4_laysPairs 88 = .ok (.dup, 1) := dk_89 (dk_at dksX4_laysPairs_3 18 rfl rfl)
theorem dX4_laysPairs_89 : decode cX4_laysPairs 89 = .ok (.getfield 357, 3) := dk_180 1 101 (dk_at dksX4_laysPairs_3 19 rfl rfl)
theorem dX4_laysPairs_92 : decode cX4_laysPairs 92 = .ok (.iconst 1, 1) := dk_4 (dk_at dksX4_laysPairs_3 22 rfl rfl)
theorem dX4_laysPairs_93 : decode cX4_laysPairs 93 = .ok (.iadd, 1) := dk_96 (dk_at dksX4_laysPairs_3 23 rfl rfl)
theorem dX4_laysPairs_94 : decode cX4_laysPairs 94 = .ok (.putfield 357, 3) := dk_181 1 101 (dk_at dksX4_laysPairs_4 0 rfl rfl)
theorem dX4_laysPairs_97 : decode cX4_laysPairs 97 = .ok (.aload_n 0, 1) := dk_42 (dk_at dksX4_laysPairs_4 3 rfl rfl)
theorem dX4_laysPairs_98 : decode cX4_laysPairs 98 = .ok (.aload_n 0, 1) := dk_42 (dk_at dksX4_laysPairs_4 4 rfl rfl)
theorem dX4_laysPairs_99 : decode cX4_laysPairs 99 = .ok (.getfield 39, 3) := dk_180 0 39 (dk_at dksX4_laysPairs_4 5 rfl rfl)
theorem dX4_laysPairs_102 : decode cX4_laysPairs 102 = .ok (.iload 4, 2) := dk_21 4 (dk_at dksX4_laysPairs_4 8 rfl rfl)
theorem dX4_laysPairs_104 : decode cX4_laysPairs 104 = .ok (.iaload, 1) := dk_46 (dk_at dksX4_laysPairs_4 10 rfl rfl)
theorem dX4_laysPairs_105 : decode cX4_laysPairs 105 = .ok (.iload_n 1, 1) := dk_27 (dk_at dksX4_laysPairs_4 11 rfl rfl)
theorem dX4_laysPairs_106 : decode cX4_laysPairs 106 = .ok (.isub, 1) := dk_100 (dk_at dksX4_laysPairs_4 12 rfl rfl)
theorem dX4_laysPairs_107 : decode cX4_laysPairs 107 = .ok (.aload_n 0, 1) := dk_42 (dk_at dksX4_laysPairs_4 13 rfl rfl)
theorem dX4_laysPairs_108 : decode cX4_laysPairs 108 = .ok (.getfield 360, 3) := dk_180 1 104 (dk_at dksX4_laysPairs_4 14 rfl rfl)
theorem dX4_laysPairs_111 : decode cX4_laysPairs 111 = .ok (.if_icmp .le 15, 3) := dk_164 0 15 (dk_at dksX4_laysPairs_4 17 rfl rfl)
theorem dX4_laysPairs_114 : decode cX4_laysPairs 114 = .ok (.aload_n 0, 1) := dk_42 (dk_at dksX4_laysPairs_4 20 rfl rfl)
theorem dX4_laysPairs_115 : decode cX4_laysPairs 115 = .ok (.getfield 39, 3) := dk_180 0 39 (dk_at dksX4_laysPairs_4 21 rfl rfl)
theorem dX4_laysPairs_118 : decode cX4_laysPairs 118 = .ok (.iload 4, 2) := dk_21 4 (dk_at dksX4_laysPairs_5 0 rfl rfl)
theorem dX4_laysPairs_120 : decode cX4_laysPairs 120 = .ok (.iaload, 1) := dk_46 (dk_at dksX4_laysPairs_5 2 rfl rfl)
theorem dX4_laysPairs_121 : decode cX4_laysPairs 121 = .ok (.iload_n 1, 1) := dk_27 (dk_at dksX4_laysPairs_5 3 rfl rfl)
theorem dX4_laysPairs_122 : decode cX4_laysPairs 122 = .ok (.isub, 1) := dk_100 (dk_at dksX4_laysPairs_5 4 rfl rfl)
theorem dX4_laysPairs_123 : decode cX4_laysPairs 123 = .ok (.goto 7, 3) := dk_167 0 7 (dk_at dksX4_laysPairs_5 5 rfl rfl)
theorem dX4_laysPairs_126 : decode cX4_laysPairs 126 = .ok (.aload_n 0, 1) := dk_42 (dk_at dksX4_laysPairs_5 8 rfl rfl)
theorem dX4_laysPairs_127 : decode cX4_laysPairs 127 = .ok (.getfield 360, 3) := dk_180 1 104 (dk_at dksX4_laysPairs_5 9 rfl rfl)
theorem dX4_laysPairs_130 : decode cX4_laysPairs 130 = .ok (.putfield 360, 3) := dk_181 1 104 (dk_at dksX4_laysPairs_5 12 rfl rfl)
theorem dX4_laysPairs_133 : decode cX4_laysPairs 133 = .ok (.aload_n 0, 1) := dk_42 (dk_at dksX4_laysPairs_5 15 rfl rfl)
theorem dX4_laysPairs_134 : decode cX4_laysPairs 134 = .ok (.getfield 48, 3) := dk_180 0 48 (dk_at dksX4_laysPairs_5 16 rfl rfl)
theorem dX4_laysPairs_137 : decode cX4_laysPairs 137 = .ok (.iload 4, 2) := dk_21 4 (dk_at dksX4_laysPairs_5 19 rfl rfl)
theorem dX4_laysPairs_139 : decode cX4_laysPairs 139 = .ok (.iaload, 1) := dk_46 (dk_at dksX4_laysPairs_5 21 rfl rfl)
theorem dX4_laysPairs_140 : decode cX4_laysPairs 140 = .ok (.iconst (-1), 1) := dk_2 (dk_at dksX4_laysPairs_5 22 rfl rfl)
theorem dX4_laysPairs_141 : decode cX4_laysPairs 141 = .ok (.if_icmp .eq 47, 3) := dk_159 0 47 (dk_at dksX4_laysPairs_6 0 rfl rfl)
theorem dX4_laysPairs_144 : decode cX4_laysPairs 144 = .ok (.aload_n 0, 1) := dk_42 (dk_at dksX4_laysPairs_6 3 rfl rfl)
theorem dX4_laysPairs_145 : decode cX4_laysPairs 145 = .ok (.getfield 75, 3) := dk_180 0 75 (dk_at dksX4_laysPairs_6 4 rfl rfl)
theorem dX4_laysPairs_148 : decode cX4_laysPairs 148 = .ok (.aload_n 0, 1) := dk_42 (dk_at dksX4_laysPairs_6 7 rfl rfl)
theorem dX4_laysPairs_149 : decode cX4_laysPairs 149 = .ok (.getfield 17, 3) := dk_180 0 17 (dk_at dksX4_laysPairs_6 8 rfl rfl)
theorem dX4_laysPairs_152 : decode cX4_laysPairs 152 = .ok (.iload 4, 2) := dk_21 4 (dk_at dksX4_laysPairs_6 11 rfl rfl)
theorem dX4_laysPairs_154 : decode cX4_laysPairs 154 = .ok (.iconst 2, 1) := dk_5 (dk_at dksX4_laysPairs_6 13 rfl rfl)
theorem dX4_laysPairs_155 : decode cX4_laysPairs 155 = .ok (.invokestatic 209, 3) := dk_184 0 209 (dk_at dksX4_laysPairs_6 14 rfl rfl)
theorem dX4_laysPairs_158 : decode cX4_laysPairs 158 = .ok (.iaload, 1) := dk_46 (dk_at dksX4_laysPairs_6 17 rfl rfl)
theorem dX4_laysPairs_159 : decode cX4_laysPairs 159 = .ok (.dup2, 1) := dk_92 (dk_at dksX4_laysPairs_6 18 rfl rfl)
theorem dX4_laysPairs_160 : decode cX4_laysPairs 160 = .ok (.iaload, 1) := dk_46 (dk_at dksX4_laysPairs_6 19 rfl rfl)
theorem dX4_laysPairs_161 : decode cX4_laysPairs 161 = .ok (.aload_n 0, 1) := dk_42 (dk_at dksX4_laysPairs_6 20 rfl rfl)
theorem dX4_laysPairs_162 : decode cX4_laysPairs 162 = .ok (.iload 4, 2) := dk_21 4 (dk_at dksX4_laysPairs_6 21 rfl rfl)
theorem dX4_laysPairs_164 : decode cX4_laysPairs 164 = .ok (.aload_n 0, 1) := dk_42 (dk_at dksX4_laysPairs_6 23 rfl rfl)
theorem dX4_laysPairs_165 : decode cX4_laysPairs 165 = .ok (.getfield 48, 3) := dk_180 0 48 (dk_at dksX4_laysPairs_7 0 rfl rfl)
theorem dX4_laysPairs_168 : decode cX4_laysPairs 168 = .ok (.iload 4, 2) := dk_21 4 (dk_at dksX4_laysPairs_7 3 rfl rfl)
theorem dX4_laysPairs_170 : decode cX4_laysPairs 170 = .ok (.iaload, 1) := dk_46 (dk_at dksX4_laysPairs_7 5 rfl rfl)
theorem dX4_laysPairs_171 : decode cX4_laysPairs 171 = .ok (.invokevirtual 289, 3) := dk_182 1 33 (dk_at dksX4_laysPairs_7 6 rfl rfl)
theorem dX4_laysPairs_174 : decode cX4_laysPairs 174 = .ok (.iadd, 1) := dk_96 (dk_at dksX4_laysPairs_7 9 rfl rfl)
theorem dX4_laysPairs_175 : decode cX4_laysPairs 175 = .ok (.iastore, 1) := dk_79 (dk_at dksX4_laysPairs_7 10 rfl rfl)
theorem dX4_laysPairs_176 : decode cX4_laysPairs 176 = .ok (.aload_n 0, 1) := dk_42 (dk_at dksX4_laysPairs_7 11 rfl rfl)
theorem dX4_laysPairs_177 : decode cX4_laysPairs 177 = .ok (.getfield 48, 3) := dk_180 0 48 (dk_at dksX4_laysPairs_7 12 rfl rfl)
theorem dX4_laysPairs_180 : decode cX4_laysPairs 180 = .ok (.iload 4, 2) := dk_21 4 (dk_at dksX4_laysPairs_7 15 rfl rfl)
theorem dX4_laysPairs_182 : decode cX4_laysPairs 182 = .ok (.iaload, 1) := dk_46 (dk_at dksX4_laysPairs_7 17 rfl rfl)
theorem dX4_laysPairs_183 : decode cX4_laysPairs 183 = .ok (.istore 4, 2) := dk_54 4 (dk_at dksX4_laysPairs_7 18 rfl rfl)
theorem dX4_laysPairs_185 : decode cX4_laysPairs 185 = .ok (.goto (-52), 3) := dk_167 255 204 (dk_at dksX4_laysPairs_7 20 rfl rfl)
theorem dX4_laysPairs_188 : decode cX4_laysPairs 188 = .ok (.iinc 3 1, 3) := dk_132 3 1 (dk_at dksX4_laysPairs_8 0 rfl rfl)
theorem dX4_laysPairs_191 : decode cX4_laysPairs 191 = .ok (.goto (-140), 3) := dk_167 255 116 (dk_at dksX4_laysPairs_8 3 rfl rfl)
theorem dX4_laysPairs_194 : decode cX4_laysPairs 194 = .ok (.iinc 2 1, 3) := dk_132 2 1 (dk_at dksX4_laysPairs_8 6 rfl rfl)
theorem dX4_laysPairs_197 : decode cX4_laysPairs 197 = .ok (.goto (-163), 3) := dk_167 255 93 (dk_at dksX4_laysPairs_8 9 rfl rfl)
theorem dX4_laysPairs_200 : decode cX4_laysPairs 200 = .ok (.return_, 1) := dk_177 (dk_at dksX4_laysPairs_8 12 rfl rfl)
abbrev cX4_hub : ByteArray := prog_15_method_86_code
def yX4_hub : MethodName := ⟨RX4, "hub", "(I)I"⟩
def dkwX4_hub_2 : List UInt8 := [164, 0, 7, 29, 167, 0, 4, 28, 61, 132, 3, 1, 167, 255, 212, 28, 172]
abbrev dktX4_hub_2 : List UInt8 := dkwX4_hub_2 ++ []
def dkwX4_hub_1 : List UInt8 := [160, 0, 7, 3, 167, 0, 9, 42, 180, 0, 75, 28, 46, 54, 4, 42, 180, 0, 75, 29, 46, 21, 4]
abbrev dktX4_hub_1 : List UInt8 := dkwX4_hub_1 ++ dktX4_hub_2
def dkwX4_hub_0 : List UInt8 := [42, 27, 182, 1, 110, 154, 0, 5, 2, 172, 16, 254, 61, 3, 62, 29, 16, 10, 162, 0, 44, 28, 16, 254]
abbrev dktX4_hub_0 : List UInt8 := dkwX4_hub_0 ++ dktX4_hub_1
theorem dksX4_hub_0 : cX4_hub.data.toList.drop 0 = dktX4_hub_0 := by decide +kernel
theorem dksX4_hub_1 : cX4_hub.data.toList.drop 24 = dktX4_hub_1 := dk_seg dksX4_hub_0 24 rfl rfl
theorem dksX4_hub_2 : cX4_hub.data.toList.drop 47 = dktX4_hub_2 := dk_seg dksX4_hub_1 23 rfl rfl
theorem dX4_hub_0 : decode cX4_hub 0 = .ok (.aload_n 0, 1) := dk_42 (dk_at dksX4_hub_0 0 rfl rfl)
theorem dX4_hub_1 : decode cX4_hub 1 = .ok (.iload_n 1, 1) := dk_27 (dk_at dksX4_hub_0 1 rfl rfl)
theorem dX4_hub_2 : decode cX4_hub 2 = .ok (.invokevirtual 366, 3) := dk_182 1 110 (dk_at dksX4_hub_0 2 rfl rfl)
theorem dX4_hub_5 : decode cX4_hub 5 = .ok (.ifCond .ne 5, 3) := dk_154 0 5 (dk_at dksX4_hub_0 5 rfl rfl)
theorem dX4_hub_8 : decode cX4_hub 8 = .ok (.iconst (-1), 1) := dk_2 (dk_at dksX4_hub_0 8 rfl rfl)
theorem dX4_hub_9 : decode cX4_hub 9 = .ok (.ireturn, 1) := dk_172 (dk_at dksX4_hub_0 9 rfl rfl)
theorem dX4_hub_10 : decode cX4_hub 10 = .ok (.bipush (-2), 2) := dk_16 254 (dk_at dksX4_hub_0 10 rfl rfl)
theorem dX4_hub_12 : decode cX4_hub 12 = .ok (.istore_n 2, 1) := dk_61 (dk_at dksX4_hub_0 12 rfl rfl)
theorem dX4_hub_13 : decode cX4_hub 13 = .ok (.iconst 0, 1) := dk_3 (dk_at dksX4_hub_0 13 rfl rfl)
theorem dX4_hub_14 : decode cX4_hub 14 = .ok (.istore_n 3, 1) := dk_62 (dk_at dksX4_hub_0 14 rfl rfl)
theorem dX4_hub_15 : decode cX4_hub 15 = .ok (.iload_n 3, 1) := dk_29 (dk_at dksX4_hub_0 15 rfl rfl)
theorem dX4_hub_16 : decode cX4_hub 16 = .ok (.bipush 10, 2) := dk_16 10 (dk_at dksX4_hub_0 16 rfl rfl)
theorem dX4_hub_18 : decode cX4_hub 18 = .ok (.if_icmp .ge 44, 3) := dk_162 0 44 (dk_at dksX4_hub_0 18 rfl rfl)
theorem dX4_hub_21 : decode cX4_hub 21 = .ok (.iload_n 2, 1) := dk_28 (dk_at dksX4_hub_0 21 rfl rfl)
theorem dX4_hub_22 : decode cX4_hub 22 = .ok (.bipush (-2), 2) := dk_16 254 (dk_at dksX4_hub_0 22 rfl rfl)
theorem dX4_hub_24 : decode cX4_hub 24 = .ok (.if_icmp .ne 7, 3) := dk_160 0 7 (dk_at dksX4_hub_1 0 rfl rfl)
theorem dX4_hub_27 : decode cX4_hub 27 = .ok (.iconst 0, 1) := dk_3 (dk_at dksX4_hub_1 3 rfl rfl)
theorem dX4_hub_28 : decode cX4_hub 28 = .ok (.goto 9, 3) := dk_167 0 9 (dk_at dksX4_hub_1 4 rfl rfl)
theorem dX4_hub_31 : decode cX4_hub 31 = .ok (.aload_n 0, 1) := dk_42 (dk_at dksX4_hub_1 7 rfl rfl)
theorem dX4_hub_32 : decode cX4_hub 32 = .ok (.getfield 75, 3) := dk_180 0 75 (dk_at dksX4_hub_1 8 rfl rfl)
theorem dX4_hub_35 : decode cX4_hub 35 = .ok (.iload_n 2, 1) := dk_28 (dk_at dksX4_hub_1 11 rfl rfl)
theorem dX4_hub_36 : decode cX4_hub 36 = .ok (.iaload, 1) := dk_46 (dk_at dksX4_hub_1 12 rfl rfl)
theorem dX4_hub_37 : decode cX4_hub 37 = .ok (.istore 4, 2) := dk_54 4 (dk_at dksX4_hub_1 13 rfl rfl)
theorem dX4_hub_39 : decode cX4_hub 39 = .ok (.aload_n 0, 1) := dk_42 (dk_at dksX4_hub_1 15 rfl rfl)
theorem dX4_hub_40 : decode cX4_hub 40 = .ok (.getfield 75, 3) := dk_180 0 75 (dk_at dksX4_hub_1 16 rfl rfl)
theorem dX4_hub_43 : decode cX4_hub 43 = .ok (.iload_n 3, 1) := dk_29 (dk_at dksX4_hub_1 19 rfl rfl)
theorem dX4_hub_44 : decode cX4_hub 44 = .ok (.iaload, 1) := dk_46 (dk_at dksX4_hub_1 20 rfl rfl)
theorem dX4_hub_45 : decode cX4_hub 45 = .ok (.iload 4, 2) := dk_21 4 (dk_at dksX4_hub_1 21 rfl rfl)
theorem dX4_hub_47 : decode cX4_hub 47 = .ok (.if_icmp .le 7, 3) := dk_164 0 7 (dk_at dksX4_hub_2 0 rfl rfl)
theorem dX4_hub_50 : decode cX4_hub 50 = .ok (.iload_n 3, 1) := dk_29 (dk_at dksX4_hub_2 3 rfl rfl)
theorem dX4_hub_51 : decode cX4_hub 51 = .ok (.goto 4, 3) := dk_167 0 4 (dk_at dksX4_hub_2 4 rfl rfl)
theorem dX4_hub_54 : decode cX4_hub 54 = .ok (.iload_n 2, 1) := dk_28 (dk_at dksX4_hub_2 7 rfl rfl)
theorem dX4_hub_55 : decode cX4_hub 55 = .ok (.istore_n 2, 1) := dk_61 (dk_at dksX4_hub_2 8 rfl rfl)
theorem dX4_hub_56 : decode cX4_hub 56 = .ok (.iinc 3 1, 3) := dk_132 3 1 (dk_at dksX4_hub_2 9 rfl rfl)
theorem dX4_hub_59 : decode cX4_hub 59 = .ok (.goto (-44), 3) := dk_167 255 212 (dk_at dksX4_hub_2 12 rfl rfl)
theorem dX4_hub_62 : decode cX4_hub 62 = .ok (.iload_n 2, 1) := dk_28 (dk_at dksX4_hub_2 15 rfl rfl)
theorem dX4_hub_63 : decode cX4_hub 63 = .ok (.ireturn, 1) := dk_172 (dk_at dksX4_hub_2 16 rfl rfl)
abbrev cX4_slowest : ByteArray := prog_15_method_87_code
def yX4_slowest : MethodName := ⟨RX4, "slowest", "(I)I"⟩
def dkwX4_slowest_0 : List UInt8 := [42, 27, 182, 1, 110, 153, 0, 10, 42, 180, 1, 104, 167, 0, 4, 2, 172]
abbrev dktX4_slowest_0 : List UInt8 := dkwX4_slowest_0 ++ []
theorem dksX4_slowest_0 : cX4_slowest.data.toList.drop 0 = dktX4_slowest_0 := by decide +kernel
theorem dX4_slowest_0 : decode cX4_slowest 0 = .ok (.aload_n 0, 1) := dk_42 (dk_at dksX4_slowest_0 0 rfl rfl)
theorem dX4_slowest_1 : decode cX4_slowest 1 = .ok (.iload_n 1, 1) := dk_27 (dk_at dksX4_slowest_0 1 rfl rfl)
theorem dX4_slowest_2 : decode cX4_slowest 2 = .ok (.invokevirtual 366, 3) := dk_182 1 110 (dk_at dksX4_slowest_0 2 rfl rfl)
theorem dX4_slowest_5 : decode cX4_slowest 5 = .ok (.ifCond .eq 10, 3) := dk_153 0 10 (dk_at dksX4_slowest_0 5 rfl rfl)
theorem dX4_slowest_8 : decode cX4_slowest 8 = .ok (.aload_n 0, 1) := dk_42 (dk_at dksX4_slowest_0 8 rfl rfl)
theorem dX4_slowest_9 : decode cX4_slowest 9 = .ok (.getfield 360, 3) := dk_180 1 104 (dk_at dksX4_slowest_0 9 rfl rfl)
theorem dX4_slowest_12 : decode cX4_slowest 12 = .ok (.goto 4, 3) := dk_167 0 4 (dk_at dksX4_slowest_0 12 rfl rfl)
theorem dX4_slowest_15 : decode cX4_slowest 15 = .ok (.iconst (-1), 1) := dk_2 (dk_at dksX4_slowest_0 15 rfl rfl)
theorem dX4_slowest_16 : decode cX4_slowest 16 = .ok (.ireturn, 1) := dk_172 (dk_at dksX4_slowest_0 16 rfl rfl)
abbrev cX4_steps : ByteArray := prog_15_method_89_code
def yX4_steps : MethodName := ⟨RX4, "steps", "(II)I"⟩
def dkwX4_steps_1 : List UInt8 := [42, 180, 1, 80, 172]
abbrev dktX4_steps_1 : List UInt8 := dkwX4_steps_1 ++ []
def dkwX4_steps_0 : List UInt8 := [42, 42, 27, 28, 182, 1, 95, 184, 1, 0, 182, 0, 228, 153, 0, 5, 2, 172, 42, 27, 28, 182, 1, 113]
abbrev dktX4_steps_0 : List UInt8 := dkwX4_steps_0 ++ dktX4_steps_1
theorem dksX4_steps_0 : cX4_steps.data.toList.drop 0 = dktX4_steps_0 := by decide +kernel
theorem dksX4_steps_1 : cX4_steps.data.toList.drop 24 = dktX4_steps_1 := dk_seg dksX4_steps_0 24 rfl rfl
theorem dX4_steps_0 : decode cX4_steps 0 = .ok (.aload_n 0, 1) := dk_42 (dk_at dksX4_steps_0 0 rfl rfl)
theorem dX4_steps_1 : decode cX4_steps 1 = .ok (.aload_n 0, 1) := dk_42 (dk_at dksX4_steps_0 1 rfl rfl)
theorem dX4_steps_2 : decode cX4_steps 2 = .ok (.iload_n 1, 1) := dk_27 (dk_at dksX4_steps_0 2 rfl rfl)
theorem dX4_steps_3 : decode cX4_steps 3 = .ok (.iload_n 2, 1) := dk_28 (dk_at dksX4_steps_0 3 rfl rfl)
theorem dX4_steps_4 : decode cX4_steps 4 = .ok (.invokevirtual 351, 3) := dk_182 1 95 (dk_at dksX4_steps_0 4 rfl rfl)
theorem dX4_steps_7 : decode cX4_steps 7 = .ok (.invokestatic 256, 3) := dk_184 1 0 (dk_at dksX4_steps_0 7 rfl rfl)
theorem dX4_steps_10 : decode cX4_steps 10 = .ok (.invokevirtual 228, 3) := dk_182 0 228 (dk_at dksX4_steps_0 10 rfl rfl)
theorem dX4_steps_13 : decode cX4_steps 13 = .ok (.ifCond .eq 5, 3) := dk_153 0 5 (dk_at dksX4_steps_0 13 rfl rfl)
theorem dX4_steps_16 : decode cX4_steps 16 = .ok (.iconst (-1), 1) := dk_2 (dk_at dksX4_steps_0 16 rfl rfl)
theorem dX4_steps_17 : decode cX4_steps 17 = .ok (.ireturn, 1) := dk_172 (dk_at dksX4_steps_0 17 rfl rfl)
theorem dX4_steps_18 : decode cX4_steps 18 = .ok (.aload_n 0, 1) := dk_42 (dk_at dksX4_steps_0 18 rfl rfl)
theorem dX4_steps_19 : decode cX4_steps 19 = .ok (.iload_n 1, 1) := dk_27 (dk_at dksX4_steps_0 19 rfl rfl)
theorem dX4_steps_20 : decode cX4_steps 20 = .ok (.iload_n 2, 1) := dk_28 (dk_at dksX4_steps_0 20 rfl rfl)
theorem dX4_steps_21 : decode cX4_steps 21 = .ok (.invokevirtual 369, 3) := dk_182 1 113 (dk_at dksX4_steps_0 21 rfl rfl)
theorem dX4_steps_24 : decode cX4_steps 24 = .ok (.aload_n 0, 1) := dk_42 (dk_at dksX4_steps_1 0 rfl rfl)
theorem dX4_steps_25 : decode cX4_steps 25 = .ok (.getfield 336, 3) := dk_180 1 80 (dk_at dksX4_steps_1 1 rfl rfl)
theorem dX4_steps_28 : decode cX4_steps 28 = .ok (.ireturn, 1) := dk_172 (dk_at dksX4_steps_1 4 rfl rfl)
abbrev cX4_laysSteps : ByteArray := prog_15_method_79_code
def yX4_laysSteps : MethodName := ⟨RX4, "laysSteps", "(II)V"⟩
def dkwX4_laysSteps_4 : List UInt8 := [96, 181, 1, 80, 132, 3, 255, 167, 255, 174, 177]
abbrev dktX4_laysSteps_4 : List UInt8 := dkwX4_laysSteps_4 ++ []
def dkwX4_laysSteps_3 : List UInt8 := [46, 79, 42, 180, 0, 69, 42, 180, 1, 80, 42, 180, 0, 42, 21, 4, 46, 79, 42, 89, 180, 1, 80, 4]
abbrev dktX4_laysSteps_3 : List UInt8 := dkwX4_laysSteps_3 ++ dktX4_laysSteps_4
def dkwX4_laysSteps_2 : List UInt8 := [180, 1, 80, 42, 21, 4, 182, 0, 250, 79, 42, 180, 0, 66, 42, 180, 1, 80, 42, 180, 0, 39, 21, 4]
abbrev dktX4_laysSteps_2 : List UInt8 := dkwX4_laysSteps_2 ++ dktX4_laysSteps_3
def dkwX4_laysSteps_1 : List UInt8 := [180, 0, 51, 29, 46, 54, 4, 42, 27, 21, 4, 182, 1, 83, 153, 0, 60, 42, 180, 0, 63, 42]
abbrev dktX4_laysSteps_1 : List UInt8 := dkwX4_laysSteps_1 ++ dktX4_laysSteps_2
def dkwX4_laysSteps_0 : List UInt8 := [42, 28, 182, 1, 42, 42, 3, 181, 1, 80, 42, 180, 1, 19, 4, 100, 62, 29, 155, 0, 84, 42]
abbrev dktX4_laysSteps_0 : List UInt8 := dkwX4_laysSteps_0 ++ dktX4_laysSteps_1
theorem dksX4_laysSteps_0 : cX4_laysSteps.data.toList.drop 0 = dktX4_laysSteps_0 := by decide +kernel
theorem dksX4_laysSteps_1 : cX4_laysSteps.data.toList.drop 22 = dktX4_laysSteps_1 := dk_seg dksX4_laysSteps_0 22 rfl rfl
theorem dksX4_laysSteps_2 : cX4_laysSteps.data.toList.drop 44 = dktX4_laysSteps_2 := dk_seg dksX4_laysSteps_1 22 rfl rfl
theorem dksX4_laysSteps_3 : cX4_laysSteps.data.toList.drop 68 = dktX4_laysSteps_3 := dk_seg dksX4_laysSteps_2 24 rfl rfl
theorem dksX4_laysSteps_4 : cX4_laysSteps.data.toList.drop 92 = dktX4_laysSteps_4 := dk_seg dksX4_laysSteps_3 24 rfl rfl
theorem dX4_laysSteps_0 : decode cX4_laysSteps 0 = .ok (.aload_n 0, 1) := dk_42 (dk_at dksX4_laysSteps_0 0 rfl rfl)
theorem dX4_laysSteps_1 : decode cX4_laysSteps 1 = .ok (.iload_n 2, 1) := dk_28 (dk_at dksX4_laysSteps_0 1 rfl rfl)
theorem dX4_laysSteps_2 : decode cX4_laysSteps 2 = .ok (.invokevirtual 298, 3) := dk_182 1 42 (dk_at dksX4_laysSteps_0 2 rfl rfl)
theorem dX4_laysSteps_5 : decode cX4_laysSteps 5 = .ok (.aload_n 0, 1) := dk_42 (dk_at dksX4_laysSteps_0 5 rfl rfl)
theorem dX4_laysSteps_6 : decode cX4_laysSteps 6 = .ok (.iconst 0, 1) := dk_3 (dk_at dksX4_laysSteps_0 6 rfl rfl)
theorem dX4_laysSteps_7 : decode cX4_laysSteps 7 = .ok (.putfield 336, 3) := dk_181 1 80 (dk_at dksX4_laysSteps_0 7 rfl rfl)
theorem dX4_laysSteps_10 : decode cX4_laysSteps 10 = .ok (.aload_n 0, 1) := dk_42 (dk_at dksX4_laysSteps_0 10 rfl rfl)
theorem dX4_laysSteps_11 : decode cX4_laysSteps 11 = .ok (.getfield 275, 3) := dk_180 1 19 (dk_at dksX4_laysSteps_0 11 rfl rfl)
theorem dX4_laysSteps_14 : decode cX4_laysSteps 14 = .ok (.iconst 1, 1) := dk_4 (dk_at dksX4_laysSteps_0 14 rfl rfl)
theorem dX4_laysSteps_15 : decode cX4_laysSteps 15 = .ok (.isub, 1) := dk_100 (dk_at dksX4_laysSteps_0 15 rfl rfl)
theorem dX4_laysSteps_16 : decode cX4_laysSteps 16 = .ok (.istore_n 3, 1) := dk_62 (dk_at dksX4_laysSteps_0 16 rfl rfl)
theorem dX4_laysSteps_17 : decode cX4_laysSteps 17 = .ok (.iload_n 3, 1) := dk_29 (dk_at dksX4_laysSteps_0 17 rfl rfl)
theorem dX4_laysSteps_18 : decode cX4_laysSteps 18 = .ok (.ifCond .lt 84, 3) := dk_155 0 84 (dk_at dksX4_laysSteps_0 18 rfl rfl)
theorem dX4_laysSteps_21 : decode cX4_laysSteps 21 = .ok (.aload_n 0, 1) := dk_42 (dk_at dksX4_laysSteps_0 21 rfl rfl)
theorem dX4_laysSteps_22 : decode cX4_laysSteps 22 = .ok (.getfield 51, 3) := dk_180 0 51 (dk_at dksX4_laysSteps_1 0 rfl rfl)
theorem dX4_laysSteps_25 : decode cX4_laysSteps 25 = .ok (.iload_n 3, 1) := dk_29 (dk_at dksX4_laysSteps_1 3 rfl rfl)
theorem dX4_laysSteps_26 : decode cX4_laysSteps 26 = .ok (.iaload, 1) := dk_46 (dk_at dksX4_laysSteps_1 4 rfl rfl)
theorem dX4_laysSteps_27 : decode cX4_laysSteps 27 = .ok (.istore 4, 2) := dk_54 4 (dk_at dksX4_laysSteps_1 5 rfl rfl)
theorem dX4_laysSteps_29 : decode cX4_laysSteps 29 = .ok (.aload_n 0, 1) := dk_42 (dk_at dksX4_laysSteps_1 7 rfl rfl)
theorem dX4_laysSteps_30 : decode cX4_laysSteps 30 = .ok (.iload_n 1, 1) := dk_27 (dk_at dksX4_laysSteps_1 8 rfl rfl)
theorem dX4_laysSteps_31 : decode cX4_laysSteps 31 = .ok (.iload 4, 2) := dk_21 4 (dk_at dksX4_laysSteps_1 9 rfl rfl)
theorem dX4_laysSteps_33 : decode cX4_laysSteps 33 = .ok (.invokevirtual 339, 3) := dk_182 1 83 (dk_at dksX4_laysSteps_1 11 rfl rfl)
theorem dX4_laysSteps_36 : decode cX4_laysSteps 36 = .ok (.ifCond .eq 60, 3) := dk_153 0 60 (dk_at dksX4_laysSteps_1 14 rfl rfl)
theorem dX4_laysSteps_39 : decode cX4_laysSteps 39 = .ok (.aload_n 0, 1) := dk_42 (dk_at dksX4_laysSteps_1 17 rfl rfl)
theorem dX4_laysSteps_40 : decode cX4_laysSteps 40 = .ok (.getfield 63, 3) := dk_180 0 63 (dk_at dksX4_laysSteps_1 18 rfl rfl)
theorem dX4_laysSteps_43 : decode cX4_laysSteps 43 = .ok (.aload_n 0, 1) := dk_42 (dk_at dksX4_laysSteps_1 21 rfl rfl)
theorem dX4_laysSteps_44 : decode cX4_laysSteps 44 = .ok (.getfield 336, 3) := dk_180 1 80 (dk_at dksX4_laysSteps_2 0 rfl rfl)
theorem dX4_laysSteps_47 : decode cX4_laysSteps 47 = .ok (.aload_n 0, 1) := dk_42 (dk_at dksX4_laysSteps_2 3 rfl rfl)
theorem dX4_laysSteps_48 : decode cX4_laysSteps 48 = .ok (.iload 4, 2) := dk_21 4 (dk_at dksX4_laysSteps_2 4 rfl rfl)
theorem dX4_laysSteps_50 : decode cX4_laysSteps 50 = .ok (.invokevirtual 250, 3) := dk_182 0 250 (dk_at dksX4_laysSteps_2 6 rfl rfl)
theorem dX4_laysSteps_53 : decode cX4_laysSteps 53 = .ok (.iastore, 1) := dk_79 (dk_at dksX4_laysSteps_2 9 rfl rfl)
theorem dX4_laysSteps_54 : decode cX4_laysSteps 54 = .ok (.aload_n 0, 1) := dk_42 (dk_at dksX4_laysSteps_2 10 rfl rfl)
theorem dX4_laysSteps_55 : decode cX4_laysSteps 55 = .ok (.getfield 66, 3) := dk_180 0 66 (dk_at dksX4_laysSteps_2 11 rfl rfl)
theorem dX4_laysSteps_58 : decode cX4_laysSteps 58 = .ok (.aload_n 0, 1) := dk_42 (dk_at dksX4_laysSteps_2 14 rfl rfl)
theorem dX4_laysSteps_59 : decode cX4_laysSteps 59 = .ok (.getfield 336, 3) := dk_180 1 80 (dk_at dksX4_laysSteps_2 15 rfl rfl)
theorem dX4_laysSteps_62 : decode cX4_laysSteps 62 = .ok (.aload_n 0, 1) := dk_42 (dk_at dksX4_laysSteps_2 18 rfl rfl)
theorem dX4_laysSteps_63 : decode cX4_laysSteps 63 = .ok (.getfield 39, 3) := dk_180 0 39 (dk_at dksX4_laysSteps_2 19 rfl rfl)
theorem dX4_laysSteps_66 : decode cX4_laysSteps 66 = .ok (.iload 4, 2) := dk_21 4 (dk_at dksX4_laysSteps_2 22 rfl rfl)
theorem dX4_laysSteps_68 : decode cX4_laysSteps 68 = .ok (.iaload, 1) := dk_46 (dk_at dksX4_laysSteps_3 0 rfl rfl)
theorem dX4_laysSteps_69 : decode cX4_laysSteps 69 = .ok (.iastore, 1) := dk_79 (dk_at dksX4_laysSteps_3 1 rfl rfl)
theorem dX4_laysSteps_70 : decode cX4_laysSteps 70 = .ok (.aload_n 0, 1) := dk_42 (dk_at dksX4_laysSteps_3 2 rfl rfl)
theorem dX4_laysSteps_71 : decode cX4_laysSteps 71 = .ok (.getfield 69, 3) := dk_180 0 69 (dk_at dksX4_laysSteps_3 3 rfl rfl)
theorem dX4_laysSteps_74 : decode cX4_laysSteps 74 = .ok (.aload_n 0, 1) := dk_42 (dk_at dksX4_laysSteps_3 6 rfl rfl)
theorem dX4_laysSteps_75 : decode cX4_laysSteps 75 = .ok (.getfield 336, 3) := dk_180 1 80 (dk_at dksX4_laysSteps_3 7 rfl rfl)
theorem dX4_laysSteps_78 : decode cX4_laysSteps 78 = .ok (.aload_n 0, 1) := dk_42 (dk_at dksX4_laysSteps_3 10 rfl rfl)
theorem dX4_laysSteps_79 : decode cX4_laysSteps 79 = .ok (.getfield 42, 3) := dk_180 0 42 (dk_at dksX4_laysSteps_3 11 rfl rfl)
theorem dX4_laysSteps_82 : decode cX4_laysSteps 82 = .ok (.iload 4, 2) := dk_21 4 (dk_at dksX4_laysSteps_3 14 rfl rfl)
theorem dX4_laysSteps_84 : decode cX4_laysSteps 84 = .ok (.iaload, 1) := dk_46 (dk_at dksX4_laysSteps_3 16 rfl rfl)
theorem dX4_laysSteps_85 : decode cX4_laysSteps 85 = .ok (.iastore, 1) := dk_79 (dk_at dksX4_laysSteps_3 17 rfl rfl)
theorem dX4_laysSteps_86 : decode cX4_laysSteps 86 = .ok (.aload_n 0, 1) := dk_42 (dk_at dksX4_laysSteps_3 18 rfl rfl)
theorem dX4_laysSteps_87 : decode cX4_laysSteps 87 = .ok (.dup, 1) := dk_89 (dk_at dksX4_laysSteps_3 19 rfl rfl)
theorem dX4_laysSteps_88 : decode cX4_laysSteps 88 = .ok (.getfield 336, 3) := dk_180 1 80 (dk_at dksX4_laysSteps_3 20 rfl rfl)
theorem dX4_laysSteps_91 : decode cX4_laysSteps 91 = .ok (.iconst 1, 1) := dk_4 (dk_at dksX4_laysSteps_3 23 rfl rfl)
theorem dX4_laysSteps_92 : decode cX4_laysSteps 92 = .ok (.iadd, 1) := dk_96 (dk_at dksX4_laysSteps_4 0 rfl rfl)
theorem dX4_laysSteps_93 : decode cX4_laysSteps 93 = .ok (.putfield 336, 3) := dk_181 1 80 (dk_at dksX4_laysSteps_4 1 rfl rfl)
theorem dX4_laysSteps_96 : decode cX4_laysSteps 96 = .ok (.iinc 3 (-1), 3) := dk_132 3 255 (dk_at dksX4_laysSteps_4 4 rfl rfl)
theorem dX4_laysSteps_99 : decode cX4_laysSteps 99 = .ok (.goto (-82), 3) := dk_167 255 174 (dk_at dksX4_laysSteps_4 7 rfl rfl)
theorem dX4_laysSteps_102 : decode cX4_laysSteps 102 = .ok (.return_, 1) := dk_177 (dk_at dksX4_laysSteps_4 10 rfl rfl)
abbrev cX4_beginsStep : ByteArray := prog_15_method_78_code
def yX4_beginsStep : MethodName := ⟨RX4, "beginsStep", "(II)Z"⟩
def dkwX4_beginsStep_9 : List UInt8 := [3, 172, 132, 3, 1, 167, 255, 79, 4, 172]
abbrev dktX4_beginsStep_9 : List UInt8 := dkwX4_beginsStep_9 ++ []
def dkwX4_beginsStep_8 : List UInt8 := [46, 161, 0, 23, 42, 180, 0, 42, 29, 46, 42, 180, 0, 42, 28, 46, 160, 0, 10, 29, 28, 162, 0, 5]
abbrev dktX4_beginsStep_8 : List UInt8 := dkwX4_beginsStep_8 ++ dktX4_beginsStep_9
def dkwX4_beginsStep_7 : List UInt8 := [153, 0, 8, 21, 5, 153, 0, 43, 21, 5, 153, 0, 40, 42, 180, 0, 42, 29, 46, 42, 180, 0, 42, 28]
abbrev dktX4_beginsStep_7 : List UInt8 := dkwX4_beginsStep_7 ++ dktX4_beginsStep_8
def dkwX4_beginsStep_6 : List UInt8 := [180, 0, 39, 29, 46, 42, 180, 0, 39, 28, 46, 160, 0, 7, 4, 167, 0, 4, 3, 54, 5, 21, 4]
abbrev dktX4_beginsStep_6 : List UInt8 := dkwX4_beginsStep_6 ++ dktX4_beginsStep_7
def dkwX4_beginsStep_5 : List UInt8 := [163, 0, 7, 4, 167, 0, 4, 3, 54, 4, 42, 29, 182, 0, 250, 42, 28, 182, 0, 250, 160, 0, 22, 42]
abbrev dktX4_beginsStep_5 : List UInt8 := dkwX4_beginsStep_5 ++ dktX4_beginsStep_6
def dkwX4_beginsStep_4 : List UInt8 := [29, 182, 0, 250, 42, 28, 182, 0, 250, 161, 0, 22, 42, 180, 0, 39, 29, 46, 42, 180, 0, 39, 28, 46]
abbrev dktX4_beginsStep_4 : List UInt8 := dkwX4_beginsStep_4 ++ dktX4_beginsStep_5
def dkwX4_beginsStep_3 : List UInt8 := [184, 0, 209, 46, 27, 160, 0, 140, 42, 180, 0, 39, 29, 46, 17, 39, 15, 160, 0, 6, 167, 0, 125, 42]
abbrev dktX4_beginsStep_3 : List UInt8 := dkwX4_beginsStep_3 ++ dktX4_beginsStep_4
def dkwX4_beginsStep_2 : List UInt8 := [162, 0, 173, 29, 28, 159, 0, 162, 42, 29, 182, 0, 253, 153, 0, 154, 42, 180, 0, 17, 29, 4]
abbrev dktX4_beginsStep_2 : List UInt8 := dkwX4_beginsStep_2 ++ dktX4_beginsStep_3
def dkwX4_beginsStep_1 : List UInt8 := [180, 0, 39, 28, 46, 17, 39, 15, 160, 0, 5, 3, 172, 3, 62, 29, 42, 180, 0, 17, 7, 46]
abbrev dktX4_beginsStep_1 : List UInt8 := dkwX4_beginsStep_1 ++ dktX4_beginsStep_2
def dkwX4_beginsStep_0 : List UInt8 := [42, 28, 182, 0, 253, 153, 0, 29, 42, 180, 0, 17, 28, 4, 184, 0, 209, 46, 27, 160, 0, 15, 42]
abbrev dktX4_beginsStep_0 : List UInt8 := dkwX4_beginsStep_0 ++ dktX4_beginsStep_1
theorem dksX4_beginsStep_0 : cX4_beginsStep.data.toList.drop 0 = dktX4_beginsStep_0 := by decide +kernel
theorem dksX4_beginsStep_1 : cX4_beginsStep.data.toList.drop 23 = dktX4_beginsStep_1 := dk_seg dksX4_beginsStep_0 23 rfl rfl
theorem dksX4_beginsStep_2 : cX4_beginsStep.data.toList.drop 45 = dktX4_beginsStep_2 := dk_seg dksX4_beginsStep_1 22 rfl rfl
theorem dksX4_beginsStep_3 : cX4_beginsStep.data.toList.drop 67 = dktX4_beginsStep_3 := dk_seg dksX4_beginsStep_2 22 rfl rfl
theorem dksX4_beginsStep_4 : cX4_beginsStep.data.toList.drop 91 = dktX4_beginsStep_4 := dk_seg dksX4_beginsStep_3 24 rfl rfl
theorem dksX4_beginsStep_5 : cX4_beginsStep.data.toList.drop 115 = dktX4_beginsStep_5 := dk_seg dksX4_beginsStep_4 24 rfl rfl
theorem dksX4_beginsStep_6 : cX4_beginsStep.data.toList.drop 139 = dktX4_beginsStep_6 := dk_seg dksX4_beginsStep_5 24 rfl rfl
theorem dksX4_beginsStep_7 : cX4_beginsStep.data.toList.drop 162 = dktX4_beginsStep_7 := dk_seg dksX4_beginsStep_6 23 rfl rfl
theorem dksX4_beginsStep_8 : cX4_beginsStep.data.toList.drop 186 = dktX4_beginsStep_8 := dk_seg dksX4_beginsStep_7 24 rfl rfl
theorem dksX4_beginsStep_9 : cX4_beginsStep.data.toList.drop 210 = dktX4_beginsStep_9 := dk_seg dksX4_beginsStep_8 24 rfl rfl
theorem dX4_beginsStep_0 : decode cX4_beginsStep 0 = .ok (.aload_n 0, 1) := dk_42 (dk_at dksX4_beginsStep_0 0 rfl rfl)
theorem dX4_beginsStep_1 : decode cX4_beginsStep 1 = .ok (.iload_n 2, 1) := dk_28 (dk_at dksX4_beginsStep_0 1 rfl rfl)
theorem dX4_beginsStep_2 : decode cX4_beginsStep 2 = .ok (.invokevirtual 253, 3) := dk_182 0 253 (dk_at dksX4_beginsStep_0 2 rfl rfl)
theorem dX4_beginsStep_5 : decode cX4_beginsStep 5 = .ok (.ifCond .eq 29, 3) := dk_153 0 29 (dk_at dksX4_beginsStep_0 5 rfl rfl)
theorem dX4_beginsStep_8 : decode cX4_beginsStep 8 = .ok (.aload_n 0, 1) := dk_42 (dk_at dksX4_beginsStep_0 8 rfl rfl)
theorem dX4_beginsStep_9 : decode cX4_beginsStep 9 = .ok (.getfield 17, 3) := dk_180 0 17 (dk_at dksX4_beginsStep_0 9 rfl rfl)
theorem dX4_beginsStep_12 : decode cX4_beginsStep 12 = .ok (.iload_n 2, 1) := dk_28 (dk_at dksX4_beginsStep_0 12 rfl rfl)
theorem dX4_beginsStep_13 : decode cX4_beginsStep 13 = .ok (.iconst 1, 1) := dk_4 (dk_at dksX4_beginsStep_0 13 rfl rfl)
theorem dX4_beginsStep_14 : decode cX4_beginsStep 14 = .ok (.invokestatic 209, 3) := dk_184 0 209 (dk_at dksX4_beginsStep_0 14 rfl rfl)
theorem dX4_beginsStep_17 : decode cX4_beginsStep 17 = .ok (.iaload, 1) := dk_46 (dk_at dksX4_beginsStep_0 17 rfl rfl)
theorem dX4_beginsStep_18 : decode cX4_beginsStep 18 = .ok (.iload_n 1, 1) := dk_27 (dk_at dksX4_beginsStep_0 18 rfl rfl)
theorem dX4_beginsStep_19 : decode cX4_beginsStep 19 = .ok (.if_icmp .ne 15, 3) := dk_160 0 15 (dk_at dksX4_beginsStep_0 19 rfl rfl)
theorem dX4_beginsStep_22 : decode cX4_beginsStep 22 = .ok (.aload_n 0, 1) := dk_42 (dk_at dksX4_beginsStep_0 22 rfl rfl)
theorem dX4_beginsStep_23 : decode cX4_beginsStep 23 = .ok (.getfield 39, 3) := dk_180 0 39 (dk_at dksX4_beginsStep_1 0 rfl rfl)
theorem dX4_beginsStep_26 : decode cX4_beginsStep 26 = .ok (.iload_n 2, 1) := dk_28 (dk_at dksX4_beginsStep_1 3 rfl rfl)
theorem dX4_beginsStep_27 : decode cX4_beginsStep 27 = .ok (.iaload, 1) := dk_46 (dk_at dksX4_beginsStep_1 4 rfl rfl)
theorem dX4_beginsStep_28 : decode cX4_beginsStep 28 = .ok (.sipush 9999, 3) := dk_17 39 15 (dk_at dksX4_beginsStep_1 5 rfl rfl)
theorem dX4_beginsStep_31 : decode cX4_beginsStep 31 = .ok (.if_icmp .ne 5, 3) := dk_160 0 5 (dk_at dksX4_beginsStep_1 8 rfl rfl)
theorem dX4_beginsStep_34 : decode cX4_beginsStep 34 = .ok (.iconst 0, 1) := dk_3 (dk_at dksX4_beginsStep_1 11 rfl rfl)
theorem dX4_beginsStep_35 : decode cX4_beginsStep 35 = .ok (.ireturn, 1) := dk_172 (dk_at dksX4_beginsStep_1 12 rfl rfl)
theorem dX4_beginsStep_36 : decode cX4_beginsStep 36 = .ok (.iconst 0, 1) := dk_3 (dk_at dksX4_beginsStep_1 13 rfl rfl)
theorem dX4_beginsStep_37 : decode cX4_beginsStep 37 = .ok (.istore_n 3, 1) := dk_62 (dk_at dksX4_beginsStep_1 14 rfl rfl)
theorem dX4_beginsStep_38 : decode cX4_beginsStep 38 = .ok (.iload_n 3, 1) := dk_29 (dk_at dksX4_beginsStep_1 15 rfl rfl)
theorem dX4_beginsStep_39 : decode cX4_beginsStep 39 = .ok (.aload_n 0, 1) := dk_42 (dk_at dksX4_beginsStep_1 16 rfl rfl)
theorem dX4_beginsStep_40 : decode cX4_beginsStep 40 = .ok (.getfield 17, 3) := dk_180 0 17 (dk_at dksX4_beginsStep_1 17 rfl rfl)
theorem dX4_beginsStep_43 : decode cX4_beginsStep 43 = .ok (.iconst 4, 1) := dk_7 (dk_at dksX4_beginsStep_1 20 rfl rfl)
theorem dX4_beginsStep_44 : decode cX4_beginsStep 44 = .ok (.iaload, 1) := dk_46 (dk_at dksX4_beginsStep_1 21 rfl rfl)
theorem dX4_beginsStep_45 : decode cX4_beginsStep 45 = .ok (.if_icmp .ge 173, 3) := dk_162 0 173 (dk_at dksX4_beginsStep_2 0 rfl rfl)
theorem dX4_beginsStep_48 : decode cX4_beginsStep 48 = .ok (.iload_n 3, 1) := dk_29 (dk_at dksX4_beginsStep_2 3 rfl rfl)
theorem dX4_beginsStep_49 : decode cX4_beginsStep 49 = .ok (.iload_n 2, 1) := dk_28 (dk_at dksX4_beginsStep_2 4 rfl rfl)
theorem dX4_beginsStep_50 : decode cX4_beginsStep 50 = .ok (.if_icmp .eq 162, 3) := dk_159 0 162 (dk_at dksX4_beginsStep_2 5 rfl rfl)
theorem dX4_beginsStep_53 : decode cX4_beginsStep 53 = .ok (.aload_n 0, 1) := dk_42 (dk_at dksX4_beginsStep_2 8 rfl rfl)
theorem dX4_beginsStep_54 : decode cX4_beginsStep 54 = .ok (.iload_n 3, 1) := dk_29 (dk_at dksX4_beginsStep_2 9 rfl rfl)
theorem dX4_beginsStep_55 : decode cX4_beginsStep 55 = .ok (.invokevirtual 253, 3) := dk_182 0 253 (dk_at dksX4_beginsStep_2 10 rfl rfl)
theorem dX4_beginsStep_58 : decode cX4_beginsStep 58 = .ok (.ifCond .eq 154, 3) := dk_153 0 154 (dk_at dksX4_beginsStep_2 13 rfl rfl)
theorem dX4_beginsStep_61 : decode cX4_beginsStep 61 = .ok (.aload_n 0, 1) := dk_42 (dk_at dksX4_beginsStep_2 16 rfl rfl)
theorem dX4_beginsStep_62 : decode cX4_beginsStep 62 = .ok (.getfield 17, 3) := dk_180 0 17 (dk_at dksX4_beginsStep_2 17 rfl rfl)
theorem dX4_beginsStep_65 : decode cX4_beginsStep 65 = .ok (.iload_n 3, 1) := dk_29 (dk_at dksX4_beginsStep_2 20 rfl rfl)
theorem dX4_beginsStep_66 : decode cX4_beginsStep 66 = .ok (.iconst 1, 1) := dk_4 (dk_at dksX4_beginsStep_2 21 rfl rfl)
theorem dX4_beginsStep_67 : decode cX4_beginsStep 67 = .ok (.invokestatic 209, 3) := dk_184 0 209 (dk_at dksX4_beginsStep_3 0 rfl rfl)
theorem dX4_beginsStep_70 : decode cX4_beginsStep 70 = .ok (.iaload, 1) := dk_46 (dk_at dksX4_beginsStep_3 3 rfl rfl)
theorem dX4_beginsStep_71 : decode cX4_beginsStep 71 = .ok (.iload_n 1, 1) := dk_27 (dk_at dksX4_beginsStep_3 4 rfl rfl)
theorem dX4_beginsStep_72 : decode cX4_beginsStep 72 = .ok (.if_icmp .ne 140, 3) := dk_160 0 140 (dk_at dksX4_beginsStep_3 5 rfl rfl)
theorem dX4_beginsStep_75 : decode cX4_beginsStep 75 = .ok (.aload_n 0, 1) := dk_42 (dk_at dksX4_beginsStep_3 8 rfl rfl)
theorem dX4_beginsStep_76 : decode cX4_beginsStep 76 = .ok (.getfield 39, 3) := dk_180 0 39 (dk_at dksX4_beginsStep_3 9 rfl rfl)
theorem dX4_beginsStep_79 : decode cX4_beginsStep 79 = .ok (.iload_n 3, 1) := dk_29 (dk_at dksX4_beginsStep_3 12 rfl rfl)
theorem dX4_beginsStep_80 : decode cX4_beginsStep 80 = .ok (.iaload, 1) := dk_46 (dk_at dksX4_beginsStep_3 13 rfl rfl)
theorem dX4_beginsStep_81 : decode cX4_beginsStep 81 = .ok (.sipush 9999, 3) := dk_17 39 15 (dk_at dksX4_beginsStep_3 14 rfl rfl)
theorem dX4_beginsStep_84 : decode cX4_beginsStep 84 = .ok (.if_icmp .ne 6, 3) := dk_160 0 6 (dk_at dksX4_beginsStep_3 17 rfl rfl)
theorem dX4_beginsStep_87 : decode cX4_beginsStep 87 = .ok (.goto 125, 3) := dk_167 0 125 (dk_at dksX4_beginsStep_3 20 rfl rfl)
theorem dX4_beginsStep_90 : decode cX4_beginsStep 90 = .ok (.aload_n 0, 1) := dk_42 (dk_at dksX4_beginsStep_3 23 rfl rfl)
theorem dX4_beginsStep_91 : decode cX4_beginsStep 91 = .ok (.iload_n 3, 1) := dk_29 (dk_at dksX4_beginsStep_4 0 rfl rfl)
theorem dX4_beginsStep_92 : decode cX4_beginsStep 92 = .ok (.invokevirtual 250, 3) := dk_182 0 250 (dk_at dksX4_beginsStep_4 1 rfl rfl)
theorem dX4_beginsStep_95 : decode cX4_beginsStep 95 = .ok (.aload_n 0, 1) := dk_42 (dk_at dksX4_beginsStep_4 4 rfl rfl)
theorem dX4_beginsStep_96 : decode cX4_beginsStep 96 = .ok (.iload_n 2, 1) := dk_28 (dk_at dksX4_beginsStep_4 5 rfl rfl)
theorem dX4_beginsStep_97 : decode cX4_beginsStep 97 = .ok (.invokevirtual 250, 3) := dk_182 0 250 (dk_at dksX4_beginsStep_4 6 rfl rfl)
theorem dX4_beginsStep_100 : decode cX4_beginsStep 100 = .ok (.if_icmp .lt 22, 3) := dk_161 0 22 (dk_at dksX4_beginsStep_4 9 rfl rfl)
theorem dX4_beginsStep_103 : decode cX4_beginsStep 103 = .ok (.aload_n 0, 1) := dk_42 (dk_at dksX4_beginsStep_4 12 rfl rfl)
theorem dX4_beginsStep_104 : decode cX4_beginsStep 104 = .ok (.getfield 39, 3) := dk_180 0 39 (dk_at dksX4_beginsStep_4 13 rfl rfl)
theorem dX4_beginsStep_107 : decode cX4_beginsStep 107 = .ok (.iload_n 3, 1) := dk_29 (dk_at dksX4_beginsStep_4 16 rfl rfl)
theorem dX4_beginsStep_108 : decode cX4_beginsStep 108 = .ok (.iaload, 1) := dk_46 (dk_at dksX4_beginsStep_4 17 rfl rfl)
theorem dX4_beginsStep_109 : decode cX4_beginsStep 109 = .ok (.aload_n 0, 1) := dk_42 (dk_at dksX4_beginsStep_4 18 rfl rfl)
theorem dX4_beginsStep_110 : decode cX4_beginsStep 110 = .ok (.getfield 39, 3) := dk_180 0 39 (dk_at dksX4_beginsStep_4 19 rfl rfl)
theorem dX4_beginsStep_113 : decode cX4_beginsStep 113 = .ok (.iload_n 2, 1) := dk_28 (dk_at dksX4_beginsStep_4 22 rfl rfl)
theorem dX4_beginsStep_114 : decode cX4_beginsStep 114 = .ok (.iaload, 1) := dk_46 (dk_at dksX4_beginsStep_4 23 rfl rfl)
theorem dX4_beginsStep_115 : decode cX4_beginsStep 115 = .ok (.if_icmp .gt 7, 3) := dk_163 0 7 (dk_at dksX4_beginsStep_5 0 rfl rfl)
theorem dX4_beginsStep_118 : decode cX4_beginsStep 118 = .ok (.iconst 1, 1) := dk_4 (dk_at dksX4_beginsStep_5 3 rfl rfl)
theorem dX4_beginsStep_119 : decode cX4_beginsStep 119 = .ok (.goto 4, 3) := dk_167 0 4 (dk_at dksX4_beginsStep_5 4 rfl rfl)
theorem dX4_beginsStep_122 : decode cX4_beginsStep 122 = .ok (.iconst 0, 1) := dk_3 (dk_at dksX4_beginsStep_5 7 rfl rfl)
theorem dX4_beginsStep_123 : decode cX4_beginsStep 123 = .ok (.istore 4, 2) := dk_54 4 (dk_at dksX4_beginsStep_5 8 rfl rfl)
theorem dX4_beginsStep_125 : decode cX4_beginsStep 125 = .ok (.aload_n 0, 1) := dk_42 (dk_at dksX4_beginsStep_5 10 rfl rfl)
theorem dX4_beginsStep_126 : decode cX4_beginsStep 126 = .ok (.iload_n 3, 1) := dk_29 (dk_at dksX4_beginsStep_5 11 rfl rfl)
theorem dX4_beginsStep_127 : decode cX4_beginsStep 127 = .ok (.invokevirtual 250, 3) := dk_182 0 250 (dk_at dksX4_beginsStep_5 12 rfl rfl)
theorem dX4_beginsStep_130 : decode cX4_beginsStep 130 = .ok (.aload_n 0, 1) := dk_42 (dk_at dksX4_beginsStep_5 15 rfl rfl)
theorem dX4_beginsStep_131 : decode cX4_beginsStep 131 = .ok (.iload_n 2, 1) := dk_28 (dk_at dksX4_beginsStep_5 16 rfl rfl)
theorem dX4_beginsStep_132 : decode cX4_beginsStep 132 = .ok (.invokevirtual 250, 3) := dk_182 0 250 (dk_at dksX4_beginsStep_5 17 rfl rfl)
theorem dX4_beginsStep_135 : decode cX4_beginsStep 135 = .ok (.if_icmp .ne 22, 3) := dk_160 0 22 (dk_at dksX4_beginsStep_5 20 rfl rfl)
theorem dX4_beginsStep_138 : decode cX4_beginsStep 138 = .ok (.aload_n 0, 1) := dk_42 (dk_at dksX4_beginsStep_5 23 rfl rfl)
theorem dX4_beginsStep_139 : decode cX4_beginsStep 139 = .ok (.getfield 39, 3) := dk_180 0 39 (dk_at dksX4_beginsStep_6 0 rfl rfl)
theorem dX4_beginsStep_142 : decode cX4_beginsStep 142 = .ok (.iload_n 3, 1) := dk_29 (dk_at dksX4_beginsStep_6 3 rfl rfl)
theorem dX4_beginsStep_143 : decode cX4_beginsStep 143 = .ok (.iaload, 1) := dk_46 (dk_at dksX4_beginsStep_6 4 rfl rfl)
theorem dX4_beginsStep_144 : decode cX4_beginsStep 144 = .ok (.aload_n 0, 1) := dk_42 (dk_at dksX4_beginsStep_6 5 rfl rfl)
theorem dX4_beginsStep_145 : decode cX4_beginsStep 145 = .ok (.getfield 39, 3) := dk_180 0 39 (dk_at dksX4_beginsStep_6 6 rfl rfl)
theorem dX4_beginsStep_148 : decode cX4_beginsStep 148 = .ok (.iload_n 2, 1) := dk_28 (dk_at dksX4_beginsStep_6 9 rfl rfl)
theorem dX4_beginsStep_149 : decode cX4_beginsStep 149 = .ok (.iaload, 1) := dk_46 (dk_at dksX4_beginsStep_6 10 rfl rfl)
theorem dX4_beginsStep_150 : decode cX4_beginsStep 150 = .ok (.if_icmp .ne 7, 3) := dk_160 0 7 (dk_at dksX4_beginsStep_6 11 rfl rfl)
theorem dX4_beginsStep_153 : decode cX4_beginsStep 153 = .ok (.iconst 1, 1) := dk_4 (dk_at dksX4_beginsStep_6 14 rfl rfl)
theorem dX4_beginsStep_154 : decode cX4_beginsStep 154 = .ok (.goto 4, 3) := dk_167 0 4 (dk_at dksX4_beginsStep_6 15 rfl rfl)
theorem dX4_beginsStep_157 : decode cX4_beginsStep 157 = .ok (.iconst 0, 1) := dk_3 (dk_at dksX4_beginsStep_6 18 rfl rfl)
theorem dX4_beginsStep_158 : decode cX4_beginsStep 158 = .ok (.istore 5, 2) := dk_54 5 (dk_at dksX4_beginsStep_6 19 rfl rfl)
theorem dX4_beginsStep_160 : decode cX4_beginsStep 160 = .ok (.iload 4, 2) := dk_21 4 (dk_at dksX4_beginsStep_6 21 rfl rfl)
theorem dX4_beginsStep_162 : decode cX4_beginsStep 162 = .ok (.ifCond .eq 8, 3) := dk_153 0 8 (dk_at dksX4_beginsStep_7 0 rfl rfl)
theorem dX4_beginsStep_165 : decode cX4_beginsStep 165 = .ok (.iload 5, 2) := dk_21 5 (dk_at dksX4_beginsStep_7 3 rfl rfl)
theorem dX4_beginsStep_167 : decode cX4_beginsStep 167 = .ok (.ifCond .eq 43, 3) := dk_153 0 43 (dk_at dksX4_beginsStep_7 5 rfl rfl)
theorem dX4_beginsStep_170 : decode cX4_beginsStep 170 = .ok (.iload 5, 2) := dk_21 5 (dk_at dksX4_beginsStep_7 8 rfl rfl)
theorem dX4_beginsStep_172 : decode cX4_beginsStep 172 = .ok (.ifCond .eq 40, 3) := dk_153 0 40 (dk_at dksX4_beginsStep_7 10 rfl rfl)
theorem dX4_beginsStep_175 : decode cX4_beginsStep 175 = .ok (.aload_n 0, 1) := dk_42 (dk_at dksX4_beginsStep_7 13 rfl rfl)
theorem dX4_beginsStep_176 : decode cX4_beginsStep 176 = .ok (.getfield 42, 3) := dk_180 0 42 (dk_at dksX4_beginsStep_7 14 rfl rfl)
theorem dX4_beginsStep_179 : decode cX4_beginsStep 179 = .ok (.iload_n 3, 1) := dk_29 (dk_at dksX4_beginsStep_7 17 rfl rfl)
theorem dX4_beginsStep_180 : decode cX4_beginsStep 180 = .ok (.iaload, 1) := dk_46 (dk_at dksX4_beginsStep_7 18 rfl rfl)
theorem dX4_beginsStep_181 : decode cX4_beginsStep 181 = .ok (.aload_n 0, 1) := dk_42 (dk_at dksX4_beginsStep_7 19 rfl rfl)
theorem dX4_beginsStep_182 : decode cX4_beginsStep 182 = .ok (.getfield 42, 3) := dk_180 0 42 (dk_at dksX4_beginsStep_7 20 rfl rfl)
theorem dX4_beginsStep_185 : decode cX4_beginsStep 185 = .ok (.iload_n 2, 1) := dk_28 (dk_at dksX4_beginsStep_7 23 rfl rfl)
theorem dX4_beginsStep_186 : decode cX4_beginsStep 186 = .ok (.iaload, 1) := dk_46 (dk_at dksX4_beginsStep_8 0 rfl rfl)
theorem dX4_beginsStep_187 : decode cX4_beginsStep 187 = .ok (.if_icmp .lt 23, 3) := dk_161 0 23 (dk_at dksX4_beginsStep_8 1 rfl rfl)
theorem dX4_beginsStep_190 : decode cX4_beginsStep 190 = .ok (.aload_n 0, 1) := dk_42 (dk_at dksX4_beginsStep_8 4 rfl rfl)
theorem dX4_beginsStep_191 : decode cX4_beginsStep 191 = .ok (.getfield 42, 3) := dk_180 0 42 (dk_at dksX4_beginsStep_8 5 rfl rfl)
theorem dX4_beginsStep_194 : decode cX4_beginsStep 194 = .ok (.iload_n 3, 1) := dk_29 (dk_at dksX4_beginsStep_8 8 rfl rfl)
theorem dX4_beginsStep_195 : decode cX4_beginsStep 195 = .ok (.iaload, 1) := dk_46 (dk_at dksX4_beginsStep_8 9 rfl rfl)
theorem dX4_beginsStep_196 : decode cX4_beginsStep 196 = .ok (.aload_n 0, 1) := dk_42 (dk_at dksX4_beginsStep_8 10 rfl rfl)
theorem dX4_beginsStep_197 : decode cX4_beginsStep 197 = .ok (.getfield 42, 3) := dk_180 0 42 (dk_at dksX4_beginsStep_8 11 rfl rfl)
theorem dX4_beginsStep_200 : decode cX4_beginsStep 200 = .ok (.iload_n 2, 1) := dk_28 (dk_at dksX4_beginsStep_8 14 rfl rfl)
theorem dX4_beginsStep_201 : decode cX4_beginsStep 201 = .ok (.iaload, 1) := dk_46 (dk_at dksX4_beginsStep_8 15 rfl rfl)
theorem dX4_beginsStep_202 : decode cX4_beginsStep 202 = .ok (.if_icmp .ne 10, 3) := dk_160 0 10 (dk_at dksX4_beginsStep_8 16 rfl rfl)
theorem dX4_beginsStep_205 : decode cX4_beginsStep 205 = .ok (.iload_n 3, 1) := dk_29 (dk_at dksX4_beginsStep_8 19 rfl rfl)
theorem dX4_beginsStep_206 : decode cX4_beginsStep 206 = .ok (.iload_n 2, 1) := dk_28 (dk_at dksX4_beginsStep_8 20 rfl rfl)
theorem dX4_beginsStep_207 : decode cX4_beginsStep 207 = .ok (.if_icmp .ge 5, 3) := dk_162 0 5 (dk_at dksX4_beginsStep_8 21 rfl rfl)
theorem dX4_beginsStep_210 : decode cX4_beginsStep 210 = .ok (.iconst 0, 1) := dk_3 (dk_at dksX4_beginsStep_9 0 rfl rfl)
theorem dX4_beginsStep_211 : decode cX4_beginsStep 211 = .ok (.ireturn, 1) := dk_172 (dk_at dksX4_beginsStep_9 1 rfl rfl)
theorem dX4_beginsStep_212 : decode cX4_beginsStep 212 = .ok (.iinc 3 1, 3) := dk_132 3 1 (dk_at dksX4_beginsStep_9 2 rfl rfl)
theorem dX4_beginsStep_215 : decode cX4_beginsStep 215 = .ok (.goto (-177), 3) := dk_167 255 79 (dk_at dksX4_beginsStep_9 5 rfl rfl)
theorem dX4_beginsStep_218 : decode cX4_beginsStep 218 = .ok (.iconst 1, 1) := dk_4 (dk_at dksX4_beginsStep_9 8 rfl rfl)
theorem dX4_beginsStep_219 : decode cX4_beginsStep 219 = .ok (.ireturn, 1) := dk_172 (dk_at dksX4_beginsStep_9 9 rfl rfl)
abbrev cX4_step : ByteArray := prog_15_method_90_code
def yX4_step : MethodName := ⟨RX4, "step", "(IIII)I"⟩
def dkwX4_step_4 : List UInt8 := [46, 172]
abbrev dktX4_step_4 : List UInt8 := dkwX4_step_4 ++ []
def dkwX4_step_3 : List UInt8 := [46, 167, 0, 24, 21, 4, 4, 160, 0, 12, 42, 180, 0, 66, 29, 46, 167, 0, 9, 42, 180, 0, 69, 29]
abbrev dktX4_step_3 : List UInt8 := dkwX4_step_3 ++ dktX4_step_4
def dkwX4_step_2 : List UInt8 := [4, 100, 184, 0, 107, 154, 0, 9, 42, 4, 182, 0, 237, 172, 21, 4, 154, 0, 12, 42, 180, 0, 63, 29]
abbrev dktX4_step_2 : List UInt8 := dkwX4_step_2 ++ dktX4_step_3
def dkwX4_step_1 : List UInt8 := [3, 184, 1, 0, 182, 0, 228, 153, 0, 5, 2, 172, 42, 27, 28, 182, 1, 113, 29, 3, 42, 180, 1, 80]
abbrev dktX4_step_1 : List UInt8 := dkwX4_step_1 ++ dktX4_step_2
def dkwX4_step_0 : List UInt8 := [42, 42, 27, 28, 182, 1, 95, 153, 0, 17, 21, 4, 3, 5, 184, 0, 107, 153, 0, 7, 4, 167, 0, 4]
abbrev dktX4_step_0 : List UInt8 := dkwX4_step_0 ++ dktX4_step_1
theorem dksX4_step_0 : cX4_step.data.toList.drop 0 = dktX4_step_0 := by decide +kernel
theorem dksX4_step_1 : cX4_step.data.toList.drop 24 = dktX4_step_1 := dk_seg dksX4_step_0 24 rfl rfl
theorem dksX4_step_2 : cX4_step.data.toList.drop 48 = dktX4_step_2 := dk_seg dksX4_step_1 24 rfl rfl
theorem dksX4_step_3 : cX4_step.data.toList.drop 72 = dktX4_step_3 := dk_seg dksX4_step_2 24 rfl rfl
theorem dksX4_step_4 : cX4_step.data.toList.drop 96 = dktX4_step_4 := dk_seg dksX4_step_3 24 rfl rfl
theorem dX4_step_0 : decode cX4_step 0 = .ok (.aload_n 0, 1) := dk_42 (dk_at dksX4_step_0 0 rfl rfl)
theorem dX4_step_1 : decode cX4_step 1 = .ok (.aload_n 0, 1) := dk_42 (dk_at dksX4_step_0 1 rfl rfl)
theorem dX4_step_2 : decode cX4_step 2 = .ok (.iload_n 1, 1) := dk_27 (dk_at dksX4_step_0 2 rfl rfl)
theorem dX4_step_3 : decode cX4_step 3 = .ok (.iload_n 2, 1) := dk_28 (dk_at dksX4_step_0 3 rfl rfl)
theorem dX4_step_4 : decode cX4_step 4 = .ok (.invokevirtual 351, 3) := dk_182 1 95 (dk_at dksX4_step_0 4 rfl rfl)
theorem dX4_step_7 : decode cX4_step 7 = .ok (.ifCond .eq 17, 3) := dk_153 0 17 (dk_at dksX4_step_0 7 rfl rfl)
theorem dX4_step_10 : decode cX4_step 10 = .ok (.iload 4, 2) := dk_21 4 (dk_at dksX4_step_0 10 rfl rfl)
theorem dX4_step_12 : decode cX4_step 12 = .ok (.iconst 0, 1) := dk_3 (dk_at dksX4_step_0 12 rfl rfl)
theorem dX4_step_13 : decode cX4_step 13 = .ok (.iconst 2, 1) := dk_5 (dk_at dksX4_step_0 13 rfl rfl)
theorem dX4_step_14 : decode cX4_step 14 = .ok (.invokestatic 107, 3) := dk_184 0 107 (dk_at dksX4_step_0 14 rfl rfl)
theorem dX4_step_17 : decode cX4_step 17 = .ok (.ifCond .eq 7, 3) := dk_153 0 7 (dk_at dksX4_step_0 17 rfl rfl)
theorem dX4_step_20 : decode cX4_step 20 = .ok (.iconst 1, 1) := dk_4 (dk_at dksX4_step_0 20 rfl rfl)
theorem dX4_step_21 : decode cX4_step 21 = .ok (.goto 4, 3) := dk_167 0 4 (dk_at dksX4_step_0 21 rfl rfl)
theorem dX4_step_24 : decode cX4_step 24 = .ok (.iconst 0, 1) := dk_3 (dk_at dksX4_step_1 0 rfl rfl)
theorem dX4_step_25 : decode cX4_step 25 = .ok (.invokestatic 256, 3) := dk_184 1 0 (dk_at dksX4_step_1 1 rfl rfl)
theorem dX4_step_28 : decode cX4_step 28 = .ok (.invokevirtual 228, 3) := dk_182 0 228 (dk_at dksX4_step_1 4 rfl rfl)
theorem dX4_step_31 : decode cX4_step 31 = .ok (.ifCond .eq 5, 3) := dk_153 0 5 (dk_at dksX4_step_1 7 rfl rfl)
theorem dX4_step_34 : decode cX4_step 34 = .ok (.iconst (-1), 1) := dk_2 (dk_at dksX4_step_1 10 rfl rfl)
theorem dX4_step_35 : decode cX4_step 35 = .ok (.ireturn, 1) := dk_172 (dk_at dksX4_step_1 11 rfl rfl)
theorem dX4_step_36 : decode cX4_step 36 = .ok (.aload_n 0, 1) := dk_42 (dk_at dksX4_step_1 12 rfl rfl)
theorem dX4_step_37 : decode cX4_step 37 = .ok (.iload_n 1, 1) := dk_27 (dk_at dksX4_step_1 13 rfl rfl)
theorem dX4_step_38 : decode cX4_step 38 = .ok (.iload_n 2, 1) := dk_28 (dk_at dksX4_step_1 14 rfl rfl)
theorem dX4_step_39 : decode cX4_step 39 = .ok (.invokevirtual 369, 3) := dk_182 1 113 (dk_at dksX4_step_1 15 rfl rfl)
theorem dX4_step_42 : decode cX4_step 42 = .ok (.iload_n 3, 1) := dk_29 (dk_at dksX4_step_1 18 rfl rfl)
theorem dX4_step_43 : decode cX4_step 43 = .ok (.iconst 0, 1) := dk_3 (dk_at dksX4_step_1 19 rfl rfl)
theorem dX4_step_44 : decode cX4_step 44 = .ok (.aload_n 0, 1) := dk_42 (dk_at dksX4_step_1 20 rfl rfl)
theorem dX4_step_45 : decode cX4_step 45 = .ok (.getfield 336, 3) := dk_180 1 80 (dk_at dksX4_step_1 21 rfl rfl)
theorem dX4_step_48 : decode cX4_step 48 = .ok (.iconst 1, 1) := dk_4 (dk_at dksX4_step_2 0 rfl rfl)
theorem dX4_step_49 : decode cX4_step 49 = .ok (.isub, 1) := dk_100 (dk_at dksX4_step_2 1 rfl rfl)
theorem dX4_step_50 : decode cX4_step 50 = .ok (.invokestatic 107, 3) := dk_184 0 107 (dk_at dksX4_step_2 2 rfl rfl)
theorem dX4_step_53 : decode cX4_step 53 = .ok (.ifCond .ne 9, 3) := dk_154 0 9 (dk_at dksX4_step_2 5 rfl rfl)
theorem dX4_step_56 : decode cX4_step 56 = .ok (.aload_n 0, 1) := dk_42 (dk_at dksX4_step_2 8 rfl rfl)
theorem dX4_step_57 : decode cX4_step 57 = .ok (.iconst 1, 1) := dk_4 (dk_at dksX4_step_2 9 rfl rfl)
theorem dX4_step_58 : decode cX4_step 58 = .ok (.invokevirtual 237, 3) := dk_182 0 237 (dk_at dksX4_step_2 10 rfl rfl)
theorem dX4_step_61 : decode cX4_step 61 = .ok (.ireturn, 1) := dk_172 (dk_at dksX4_step_2 13 rfl rfl)
theorem dX4_step_62 : decode cX4_step 62 = .ok (.iload 4, 2) := dk_21 4 (dk_at dksX4_step_2 14 rfl rfl)
theorem dX4_step_64 : decode cX4_step 64 = .ok (.ifCond .ne 12, 3) := dk_154 0 12 (dk_at dksX4_step_2 16 rfl rfl)
theorem dX4_step_67 : decode cX4_step 67 = .ok (.aload_n 0, 1) := dk_42 (dk_at dksX4_step_2 19 rfl rfl)
theorem dX4_step_68 : decode cX4_step 68 = .ok (.getfield 63, 3) := dk_180 0 63 (dk_at dksX4_step_2 20 rfl rfl)
theorem dX4_step_71 : decode cX4_step 71 = .ok (.iload_n 3, 1) := dk_29 (dk_at dksX4_step_2 23 rfl rfl)
theorem dX4_step_72 : decode cX4_step 72 = .ok (.iaload, 1) := dk_46 (dk_at dksX4_step_3 0 rfl rfl)
theorem dX4_step_73 : decode cX4_step 73 = .ok (.goto 24, 3) := dk_167 0 24 (dk_at dksX4_step_3 1 rfl rfl)
theorem dX4_step_76 : decode cX4_step 76 = .ok (.iload 4, 2) := dk_21 4 (dk_at dksX4_step_3 4 rfl rfl)
theorem dX4_step_78 : decode cX4_step 78 = .ok (.iconst 1, 1) := dk_4 (dk_at dksX4_step_3 6 rfl rfl)
theorem dX4_step_79 : decode cX4_step 79 = .ok (.if_icmp .ne 12, 3) := dk_160 0 12 (dk_at dksX4_step_3 7 rfl rfl)
theorem dX4_step_82 : decode cX4_step 82 = .ok (.aload_n 0, 1) := dk_42 (dk_at dksX4_step_3 10 rfl rfl)
theorem dX4_step_83 : decode cX4_step 83 = .ok (.getfield 66, 3) := dk_180 0 66 (dk_at dksX4_step_3 11 rfl rfl)
theorem dX4_step_86 : decode cX4_step 86 = .ok (.iload_n 3, 1) := dk_29 (dk_at dksX4_step_3 14 rfl rfl)
theorem dX4_step_87 : decode cX4_step 87 = .ok (.iaload, 1) := dk_46 (dk_at dksX4_step_3 15 rfl rfl)
theorem dX4_step_88 : decode cX4_step 88 = .ok (.goto 9, 3) := dk_167 0 9 (dk_at dksX4_step_3 16 rfl rfl)
theorem dX4_step_91 : decode cX4_step 91 = .ok (.aload_n 0, 1) := dk_42 (dk_at dksX4_step_3 19 rfl rfl)
theorem dX4_step_92 : decode cX4_step 92 = .ok (.getfield 69, 3) := dk_180 0 69 (dk_at dksX4_step_3 20 rfl rfl)
theorem dX4_step_95 : decode cX4_step 95 = .ok (.iload_n 3, 1) := dk_29 (dk_at dksX4_step_3 23 rfl rfl)
theorem dX4_step_96 : decode cX4_step 96 = .ok (.iaload, 1) := dk_46 (dk_at dksX4_step_4 0 rfl rfl)
theorem dX4_step_97 : decode cX4_step 97 = .ok (.ireturn, 1) := dk_172 (dk_at dksX4_step_4 1 rfl rfl)
abbrev cX4_quickest : ByteArray := prog_15_method_91_code
def yX4_quickest : MethodName := ⟨RX4, "quickest", "(II)I"⟩
def dkwX4_quickest_3 : List UInt8 := [167, 0, 4, 29, 62, 132, 4, 1, 167, 255, 208, 29, 172]
abbrev dktX4_quickest_3 : List UInt8 := dkwX4_quickest_3 ++ []
def dkwX4_quickest_2 : List UInt8 := [180, 0, 63, 21, 4, 46, 100, 54, 5, 29, 16, 254, 159, 0, 9, 21, 5, 29, 162, 0, 8, 21, 5]
abbrev dktX4_quickest_2 : List UInt8 := dkwX4_quickest_2 ++ dktX4_quickest_3
def dkwX4_quickest_1 : List UInt8 := [16, 254, 62, 3, 54, 4, 21, 4, 42, 180, 1, 80, 162, 0, 45, 42, 180, 0, 66, 21, 4, 46, 42]
abbrev dktX4_quickest_1 : List UInt8 := dkwX4_quickest_1 ++ dktX4_quickest_2
def dkwX4_quickest_0 : List UInt8 := [42, 42, 27, 28, 182, 1, 95, 184, 1, 0, 182, 0, 228, 153, 0, 5, 2, 172, 42, 27, 28, 182, 1, 113]
abbrev dktX4_quickest_0 : List UInt8 := dkwX4_quickest_0 ++ dktX4_quickest_1
theorem dksX4_quickest_0 : cX4_quickest.data.toList.drop 0 = dktX4_quickest_0 := by decide +kernel
theorem dksX4_quickest_1 : cX4_quickest.data.toList.drop 24 = dktX4_quickest_1 := dk_seg dksX4_quickest_0 24 rfl rfl
theorem dksX4_quickest_2 : cX4_quickest.data.toList.drop 47 = dktX4_quickest_2 := dk_seg dksX4_quickest_1 23 rfl rfl
theorem dksX4_quickest_3 : cX4_quickest.data.toList.drop 70 = dktX4_quickest_3 := dk_seg dksX4_quickest_2 23 rfl rfl
theorem dX4_quickest_0 : decode cX4_quickest 0 = .ok (.aload_n 0, 1) := dk_42 (dk_at dksX4_quickest_0 0 rfl rfl)
theorem dX4_quickest_1 : decode cX4_quickest 1 = .ok (.aload_n 0, 1) := dk_42 (dk_at dksX4_quickest_0 1 rfl rfl)
theorem dX4_quickest_2 : decode cX4_quickest 2 = .ok (.iload_n 1, 1) := dk_27 (dk_at dksX4_quickest_0 2 rfl rfl)
theorem dX4_quickest_3 : decode cX4_quickest 3 = .ok (.iload_n 2, 1) := dk_28 (dk_at dksX4_quickest_0 3 rfl rfl)
theorem dX4_quickest_4 : decode cX4_quickest 4 = .ok (.invokevirtual 351, 3) := dk_182 1 95 (dk_at dksX4_quickest_0 4 rfl rfl)
theorem dX4_quickest_7 : decode cX4_quickest 7 = .ok (.invokestatic 256, 3) := dk_184 1 0 (dk_at dksX4_quickest_0 7 rfl rfl)
theorem dX4_quickest_10 : decode cX4_quickest 10 = .ok (.invokevirtual 228, 3) := dk_182 0 228 (dk_at dksX4_quickest_0 10 rfl rfl)
theorem dX4_quickest_13 : decode cX4_quickest 13 = .ok (.ifCond .eq 5, 3) := dk_153 0 5 (dk_at dksX4_quickest_0 13 rfl rfl)
theorem dX4_quickest_16 : decode cX4_quickest 16 = .ok (.iconst (-1), 1) := dk_2 (dk_at dksX4_quickest_0 16 rfl rfl)
theorem dX4_quickest_17 : decode cX4_quickest 17 = .ok (.ireturn, 1) := dk_172 (dk_at dksX4_quickest_0 17 rfl rfl)
theorem dX4_quickest_18 : decode cX4_quickest 18 = .ok (.aload_n 0, 1) := dk_42 (dk_at dksX4_quickest_0 18 rfl rfl)
theorem dX4_quickest_19 : decode cX4_quickest 19 = .ok (.iload_n 1, 1) := dk_27 (dk_at dksX4_quickest_0 19 rfl rfl)
theorem dX4_quickest_20 : decode cX4_quickest 20 = .ok (.iload_n 2, 1) := dk_28 (dk_at dksX4_quickest_0 20 rfl rfl)
theorem dX4_quickest_21 : decode cX4_quickest 21 = .ok (.invokevirtual 369, 3) := dk_182 1 113 (dk_at dksX4_quickest_0 21 rfl rfl)
theorem dX4_quickest_24 : decode cX4_quickest 24 = .ok (.bipush (-2), 2) := dk_16 254 (dk_at dksX4_quickest_1 0 rfl rfl)
theorem dX4_quickest_26 : decode cX4_quickest 26 = .ok (.istore_n 3, 1) := dk_62 (dk_at dksX4_quickest_1 2 rfl rfl)
theorem dX4_quickest_27 : decode cX4_quickest 27 = .ok (.iconst 0, 1) := dk_3 (dk_at dksX4_quickest_1 3 rfl rfl)
theorem dX4_quickest_28 : decode cX4_quickest 28 = .ok (.istore 4, 2) := dk_54 4 (dk_at dksX4_quickest_1 4 rfl rfl)
theorem dX4_quickest_30 : decode cX4_quickest 30 = .ok (.iload 4, 2) := dk_21 4 (dk_at dksX4_quickest_1 6 rfl rfl)
theorem dX4_quickest_32 : decode cX4_quickest 32 = .ok (.aload_n 0, 1) := dk_42 (dk_at dksX4_quickest_1 8 rfl rfl)
theorem dX4_quickest_33 : decode cX4_quickest 33 = .ok (.getfield 336, 3) := dk_180 1 80 (dk_at dksX4_quickest_1 9 rfl rfl)
theorem dX4_quickest_36 : decode cX4_quickest 36 = .ok (.if_icmp .ge 45, 3) := dk_162 0 45 (dk_at dksX4_quickest_1 12 rfl rfl)
theorem dX4_quickest_39 : decode cX4_quickest 39 = .ok (.aload_n 0, 1) := dk_42 (dk_at dksX4_quickest_1 15 rfl rfl)
theorem dX4_quickest_40 : decode cX4_quickest 40 = .ok (.getfield 66, 3) := dk_180 0 66 (dk_at dksX4_quickest_1 16 rfl rfl)
theorem dX4_quickest_43 : decode cX4_quickest 43 = .ok (.iload 4, 2) := dk_21 4 (dk_at dksX4_quickest_1 19 rfl rfl)
theorem dX4_quickest_45 : decode cX4_quickest 45 = .ok (.iaload, 1) := dk_46 (dk_at dksX4_quickest_1 21 rfl rfl)
theorem dX4_quickest_46 : decode cX4_quickest 46 = .ok (.aload_n 0, 1) := dk_42 (dk_at dksX4_quickest_1 22 rfl rfl)
theorem dX4_quickest_47 : decode cX4_quickest 47 = .ok (.getfield 63, 3) := dk_180 0 63 (dk_at dksX4_quickest_2 0 rfl rfl)
theorem dX4_quickest_50 : decode cX4_quickest 50 = .ok (.iload 4, 2) := dk_21 4 (dk_at dksX4_quickest_2 3 rfl rfl)
theorem dX4_quickest_52 : decode cX4_quickest 52 = .ok (.iaload, 1) := dk_46 (dk_at dksX4_quickest_2 5 rfl rfl)
theorem dX4_quickest_53 : decode cX4_quickest 53 = .ok (.isub, 1) := dk_100 (dk_at dksX4_quickest_2 6 rfl rfl)
theorem dX4_quickest_54 : decode cX4_quickest 54 = .ok (.istore 5, 2) := dk_54 5 (dk_at dksX4_quickest_2 7 rfl rfl)
theorem dX4_quickest_56 : decode cX4_quickest 56 = .ok (.iload_n 3, 1) := dk_29 (dk_at dksX4_quickest_2 9 rfl rfl)
theorem dX4_quickest_57 : decode cX4_quickest 57 = .ok (.bipush (-2), 2) := dk_16 254 (dk_at dksX4_quickest_2 10 rfl rfl)
theorem dX4_quickest_59 : decode cX4_quickest 59 = .ok (.if_icmp .eq 9, 3) := dk_159 0 9 (dk_at dksX4_quickest_2 12 rfl rfl)
theorem dX4_quickest_62 : decode cX4_quickest 62 = .ok (.iload 5, 2) := dk_21 5 (dk_at dksX4_quickest_2 15 rfl rfl)
theorem dX4_quickest_64 : decode cX4_quickest 64 = .ok (.iload_n 3, 1) := dk_29 (dk_at dksX4_quickest_2 17 rfl rfl)
theorem dX4_quickest_65 : decode cX4_quickest 65 = .ok (.if_icmp .ge 8, 3) := dk_162 0 8 (dk_at dksX4_quickest_2 18 rfl rfl)
theorem dX4_quickest_68 : decode cX4_quickest 68 = .ok (.iload 5, 2) := dk_21 5 (dk_at dksX4_quickest_2 21 rfl rfl)
theorem dX4_quickest_70 : decode cX4_quickest 70 = .ok (.goto 4, 3) := dk_167 0 4 (dk_at dksX4_quickest_3 0 rfl rfl)
theorem dX4_quickest_73 : decode cX4_quickest 73 = .ok (.iload_n 3, 1) := dk_29 (dk_at dksX4_quickest_3 3 rfl rfl)
theorem dX4_quickest_74 : decode cX4_quickest 74 = .ok (.istore_n 3, 1) := dk_62 (dk_at dksX4_quickest_3 4 rfl rfl)
theorem dX4_quickest_75 : decode cX4_quickest 75 = .ok (.iinc 4 1, 3) := dk_132 4 1 (dk_at dksX4_quickest_3 5 rfl rfl)
theorem dX4_quickest_78 : decode cX4_quickest 78 = .ok (.goto (-48), 3) := dk_167 255 208 (dk_at dksX4_quickest_3 8 rfl rfl)
theorem dX4_quickest_81 : decode cX4_quickest 81 = .ok (.iload_n 3, 1) := dk_29 (dk_at dksX4_quickest_3 11 rfl rfl)
theorem dX4_quickest_82 : decode cX4_quickest 82 = .ok (.ireturn, 1) := dk_172 (dk_at dksX4_quickest_3 12 rfl rfl)
abbrev cX4_spent : ByteArray := prog_15_method_92_code
def yX4_spent : MethodName := ⟨RX4, "spent", "(IIII)I"⟩
def dkwX4_spent_4 : List UInt8 := [54, 5, 132, 6, 1, 167, 255, 213, 21, 5, 172]
abbrev dktX4_spent_4 : List UInt8 := dkwX4_spent_4 ++ []
def dkwX4_spent_3 : List UInt8 := [54, 7, 21, 7, 2, 160, 0, 6, 16, 254, 172, 21, 5, 42, 180, 0, 39, 21, 7, 46, 21, 6, 100, 96]
abbrev dktX4_spent_3 : List UInt8 := dkwX4_spent_3 ++ dktX4_spent_4
def dkwX4_spent_2 : List UInt8 := [182, 1, 42, 3, 54, 5, 29, 54, 6, 21, 6, 21, 4, 163, 0, 42, 42, 27, 21, 6, 182, 1, 45]
abbrev dktX4_spent_2 : List UInt8 := dkwX4_spent_2 ++ dktX4_spent_3
def dkwX4_spent_1 : List UInt8 := [184, 0, 107, 153, 0, 7, 4, 167, 0, 4, 3, 184, 1, 48, 182, 0, 228, 153, 0, 5, 2, 172, 42, 28]
abbrev dktX4_spent_1 : List UInt8 := dkwX4_spent_1 ++ dktX4_spent_2
def dkwX4_spent_0 : List UInt8 := [42, 42, 27, 28, 182, 1, 95, 29, 3, 17, 7, 207, 184, 0, 107, 153, 0, 19, 21, 4, 29, 17, 7, 207]
abbrev dktX4_spent_0 : List UInt8 := dkwX4_spent_0 ++ dktX4_spent_1
theorem dksX4_spent_0 : cX4_spent.data.toList.drop 0 = dktX4_spent_0 := by decide +kernel
theorem dksX4_spent_1 : cX4_spent.data.toList.drop 24 = dktX4_spent_1 := dk_seg dksX4_spent_0 24 rfl rfl
theorem dksX4_spent_2 : cX4_spent.data.toList.drop 48 = dktX4_spent_2 := dk_seg dksX4_spent_1 24 rfl rfl
theorem dksX4_spent_3 : cX4_spent.data.toList.drop 71 = dktX4_spent_3 := dk_seg dksX4_spent_2 23 rfl rfl
theorem dksX4_spent_4 : cX4_spent.data.toList.drop 95 = dktX4_spent_4 := dk_seg dksX4_spent_3 24 rfl rfl
theorem dX4_spent_0 : decode cX4_spent 0 = .ok (.aload_n 0, 1) := dk_42 (dk_at dksX4_spent_0 0 rfl rfl)
theorem dX4_spent_1 : decode cX4_spent 1 = .ok (.aload_n 0, 1) := dk_42 (dk_at dksX4_spent_0 1 rfl rfl)
theorem dX4_spent_2 : decode cX4_spent 2 = .ok (.iload_n 1, 1) := dk_27 (dk_at dksX4_spent_0 2 rfl rfl)
theorem dX4_spent_3 : decode cX4_spent 3 = .ok (.iload_n 2, 1) := dk_28 (dk_at dksX4_spent_0 3 rfl rfl)
theorem dX4_spent_4 : decode cX4_spent 4 = .ok (.invokevirtual 351, 3) := dk_182 1 95 (dk_at dksX4_spent_0 4 rfl rfl)
theorem dX4_spent_7 : decode cX4_spent 7 = .ok (.iload_n 3, 1) := dk_29 (dk_at dksX4_spent_0 7 rfl rfl)
theorem dX4_spent_8 : decode cX4_spent 8 = .ok (.iconst 0, 1) := dk_3 (dk_at dksX4_spent_0 8 rfl rfl)
theorem dX4_spent_9 : decode cX4_spent 9 = .ok (.sipush 1999, 3) := dk_17 7 207 (dk_at dksX4_spent_0 9 rfl rfl)
theorem dX4_spent_12 : decode cX4_spent 12 = .ok (.invokestatic 107, 3) := dk_184 0 107 (dk_at dksX4_spent_0 12 rfl rfl)
theorem dX4_spent_15 : decode cX4_spent 15 = .ok (.ifCond .eq 19, 3) := dk_153 0 19 (dk_at dksX4_spent_0 15 rfl rfl)
theorem dX4_spent_18 : decode cX4_spent 18 = .ok (.iload 4, 2) := dk_21 4 (dk_at dksX4_spent_0 18 rfl rfl)
theorem dX4_spent_20 : decode cX4_spent 20 = .ok (.iload_n 3, 1) := dk_29 (dk_at dksX4_spent_0 20 rfl rfl)
theorem dX4_spent_21 : decode cX4_spent 21 = .ok (.sipush 1999, 3) := dk_17 7 207 (dk_at dksX4_spent_0 21 rfl rfl)
theorem dX4_spent_24 : decode cX4_spent 24 = .ok (.invokestatic 107, 3) := dk_184 0 107 (dk_at dksX4_spent_1 0 rfl rfl)
theorem dX4_spent_27 : decode cX4_spent 27 = .ok (.ifCond .eq 7, 3) := dk_153 0 7 (dk_at dksX4_spent_1 3 rfl rfl)
theorem dX4_spent_30 : decode cX4_spent 30 = .ok (.iconst 1, 1) := dk_4 (dk_at dksX4_spent_1 6 rfl rfl)
theorem dX4_spent_31 : decode cX4_spent 31 = .ok (.goto 4, 3) := dk_167 0 4 (dk_at dksX4_spent_1 7 rfl rfl)
theorem dX4_spent_34 : decode cX4_spent 34 = .ok (.iconst 0, 1) := dk_3 (dk_at dksX4_spent_1 10 rfl rfl)
theorem dX4_spent_35 : decode cX4_spent 35 = .ok (.invokestatic 304, 3) := dk_184 1 48 (dk_at dksX4_spent_1 11 rfl rfl)
theorem dX4_spent_38 : decode cX4_spent 38 = .ok (.invokevirtual 228, 3) := dk_182 0 228 (dk_at dksX4_spent_1 14 rfl rfl)
theorem dX4_spent_41 : decode cX4_spent 41 = .ok (.ifCond .eq 5, 3) := dk_153 0 5 (dk_at dksX4_spent_1 17 rfl rfl)
theorem dX4_spent_44 : decode cX4_spent 44 = .ok (.iconst (-1), 1) := dk_2 (dk_at dksX4_spent_1 20 rfl rfl)
theorem dX4_spent_45 : decode cX4_spent 45 = .ok (.ireturn, 1) := dk_172 (dk_at dksX4_spent_1 21 rfl rfl)
theorem dX4_spent_46 : decode cX4_spent 46 = .ok (.aload_n 0, 1) := dk_42 (dk_at dksX4_spent_1 22 rfl rfl)
theorem dX4_spent_47 : decode cX4_spent 47 = .ok (.iload_n 2, 1) := dk_28 (dk_at dksX4_spent_1 23 rfl rfl)
theorem dX4_spent_48 : decode cX4_spent 48 = .ok (.invokevirtual 298, 3) := dk_182 1 42 (dk_at dksX4_spent_2 0 rfl rfl)
theorem dX4_spent_51 : decode cX4_spent 51 = .ok (.iconst 0, 1) := dk_3 (dk_at dksX4_spent_2 3 rfl rfl)
theorem dX4_spent_52 : decode cX4_spent 52 = .ok (.istore 5, 2) := dk_54 5 (dk_at dksX4_spent_2 4 rfl rfl)
theorem dX4_spent_54 : decode cX4_spent 54 = .ok (.iload_n 3, 1) := dk_29 (dk_at dksX4_spent_2 6 rfl rfl)
theorem dX4_spent_55 : decode cX4_spent 55 = .ok (.istore 6, 2) := dk_54 6 (dk_at dksX4_spent_2 7 rfl rfl)
theorem dX4_spent_57 : decode cX4_spent 57 = .ok (.iload 6, 2) := dk_21 6 (dk_at dksX4_spent_2 9 rfl rfl)
theorem dX4_spent_59 : decode cX4_spent 59 = .ok (.iload 4, 2) := dk_21 4 (dk_at dksX4_spent_2 11 rfl rfl)
theorem dX4_spent_61 : decode cX4_spent 61 = .ok (.if_icmp .gt 42, 3) := dk_163 0 42 (dk_at dksX4_spent_2 13 rfl rfl)
theorem dX4_spent_64 : decode cX4_spent 64 = .ok (.aload_n 0, 1) := dk_42 (dk_at dksX4_spent_2 16 rfl rfl)
theorem dX4_spent_65 : decode cX4_spent 65 = .ok (.iload_n 1, 1) := dk_27 (dk_at dksX4_spent_2 17 rfl rfl)
theorem dX4_spent_66 : decode cX4_spent 66 = .ok (.iload 6, 2) := dk_21 6 (dk_at dksX4_spent_2 18 rfl rfl)
theorem dX4_spent_68 : decode cX4_spent 68 = .ok (.invokevirtual 301, 3) := dk_182 1 45 (dk_at dksX4_spent_2 20 rfl rfl)
theorem dX4_spent_71 : decode cX4_spent 71 = .ok (.istore 7, 2) := dk_54 7 (dk_at dksX4_spent_3 0 rfl rfl)
theorem dX4_spent_73 : decode cX4_spent 73 = .ok (.iload 7, 2) := dk_21 7 (dk_at dksX4_spent_3 2 rfl rfl)
theorem dX4_spent_75 : decode cX4_spent 75 = .ok (.iconst (-1), 1) := dk_2 (dk_at dksX4_spent_3 4 rfl rfl)
theorem dX4_spent_76 : decode cX4_spent 76 = .ok (.if_icmp .ne 6, 3) := dk_160 0 6 (dk_at dksX4_spent_3 5 rfl rfl)
theorem dX4_spent_79 : decode cX4_spent 79 = .ok (.bipush (-2), 2) := dk_16 254 (dk_at dksX4_spent_3 8 rfl rfl)
theorem dX4_spent_81 : decode cX4_spent 81 = .ok (.ireturn, 1) := dk_172 (dk_at dksX4_spent_3 10 rfl rfl)
theorem dX4_spent_82 : decode cX4_spent 82 = .ok (.iload 5, 2) := dk_21 5 (dk_at dksX4_spent_3 11 rfl rfl)
theorem dX4_spent_84 : decode cX4_spent 84 = .ok (.aload_n 0, 1) := dk_42 (dk_at dksX4_spent_3 13 rfl rfl)
theorem dX4_spent_85 : decode cX4_spent 85 = .ok (.getfield 39, 3) := dk_180 0 39 (dk_at dksX4_spent_3 14 rfl rfl)
theorem dX4_spent_88 : decode cX4_spent 88 = .ok (.iload 7, 2) := dk_21 7 (dk_at dksX4_spent_3 17 rfl rfl)
theorem dX4_spent_90 : decode cX4_spent 90 = .ok (.iaload, 1) := dk_46 (dk_at dksX4_spent_3 19 rfl rfl)
theorem dX4_spent_91 : decode cX4_spent 91 = .ok (.iload 6, 2) := dk_21 6 (dk_at dksX4_spent_3 20 rfl rfl)
theorem dX4_spent_93 : decode cX4_spent 93 = .ok (.isub, 1) := dk_100 (dk_at dksX4_spent_3 22 rfl rfl)
theorem dX4_spent_94 : decode cX4_spent 94 = .ok (.iadd, 1) := dk_96 (dk_at dksX4_spent_3 23 rfl rfl)
theorem dX4_spent_95 : decode cX4_spent 95 = .ok (.istore 5, 2) := dk_54 5 (dk_at dksX4_spent_4 0 rfl rfl)
theorem dX4_spent_97 : decode cX4_spent 97 = .ok (.iinc 6 1, 3) := dk_132 6 1 (dk_at dksX4_spent_4 2 rfl rfl)
theorem dX4_spent_100 : decode cX4_spent 100 = .ok (.goto (-43), 3) := dk_167 255 213 (dk_at dksX4_spent_4 5 rfl rfl)
theorem dX4_spent_103 : decode cX4_spent 103 = .ok (.iload 5, 2) := dk_21 5 (dk_at dksX4_spent_4 8 rfl rfl)
theorem dX4_spent_105 : decode cX4_spent 105 = .ok (.ireturn, 1) := dk_172 (dk_at dksX4_spent_4 10 rfl rfl)
abbrev cX4_needs : ByteArray := prog_15_method_96_code
def yX4_needs : MethodName := ⟨RX4, "needs", "(IIII)I"⟩
def dkwX4_needs_4 : List UInt8 := [167, 0, 8, 21, 6, 21, 5, 100, 172]
abbrev dktX4_needs_4 : List UInt8 := dkwX4_needs_4 ++ []
def dkwX4_needs_3 : List UInt8 := [54, 6, 21, 5, 16, 254, 160, 0, 8, 16, 253, 167, 0, 20, 21, 6, 16, 254, 160, 0, 8, 16, 254]
abbrev dktX4_needs_3 : List UInt8 := dkwX4_needs_3 ++ dktX4_needs_4
def dkwX4_needs_2 : List UInt8 := [153, 0, 5, 2, 172, 42, 27, 28, 29, 182, 1, 55, 54, 5, 42, 27, 28, 29, 21, 4, 182, 1, 116]
abbrev dktX4_needs_2 : List UInt8 := dkwX4_needs_2 ++ dktX4_needs_3
def dkwX4_needs_1 : List UInt8 := [153, 0, 7, 4, 167, 0, 4, 3, 29, 3, 17, 7, 207, 184, 0, 107, 184, 1, 48, 182, 0, 228]
abbrev dktX4_needs_1 : List UInt8 := dkwX4_needs_1 ++ dktX4_needs_2
def dkwX4_needs_0 : List UInt8 := [42, 42, 27, 182, 1, 7, 153, 0, 24, 42, 28, 182, 1, 7, 153, 0, 16, 42, 21, 4, 182, 1, 13]
abbrev dktX4_needs_0 : List UInt8 := dkwX4_needs_0 ++ dktX4_needs_1
theorem dksX4_needs_0 : cX4_needs.data.toList.drop 0 = dktX4_needs_0 := by decide +kernel
theorem dksX4_needs_1 : cX4_needs.data.toList.drop 23 = dktX4_needs_1 := dk_seg dksX4_needs_0 23 rfl rfl
theorem dksX4_needs_2 : cX4_needs.data.toList.drop 45 = dktX4_needs_2 := dk_seg dksX4_needs_1 22 rfl rfl
theorem dksX4_needs_3 : cX4_needs.data.toList.drop 68 = dktX4_needs_3 := dk_seg dksX4_needs_2 23 rfl rfl
theorem dksX4_needs_4 : cX4_needs.data.toList.drop 91 = dktX4_needs_4 := dk_seg dksX4_needs_3 23 rfl rfl
theorem dX4_needs_0 : decode cX4_needs 0 = .ok (.aload_n 0, 1) := dk_42 (dk_at dksX4_needs_0 0 rfl rfl)
theorem dX4_needs_1 : decode cX4_needs 1 = .ok (.aload_n 0, 1) := dk_42 (dk_at dksX4_needs_0 1 rfl rfl)
theorem dX4_needs_2 : decode cX4_needs 2 = .ok (.iload_n 1, 1) := dk_27 (dk_at dksX4_needs_0 2 rfl rfl)
theorem dX4_needs_3 : decode cX4_needs 3 = .ok (.invokevirtual 263, 3) := dk_182 1 7 (dk_at dksX4_needs_0 3 rfl rfl)
theorem dX4_needs_6 : decode cX4_needs 6 = .ok (.ifCond .eq 24, 3) := dk_153 0 24 (dk_at dksX4_needs_0 6 rfl rfl)
theorem dX4_needs_9 : decode cX4_needs 9 = .ok (.aload_n 0, 1) := dk_42 (dk_at dksX4_needs_0 9 rfl rfl)
theorem dX4_needs_10 : decode cX4_needs 10 = .ok (.iload_n 2, 1) := dk_28 (dk_at dksX4_needs_0 10 rfl rfl)
theorem dX4_needs_11 : decode cX4_needs 11 = .ok (.invokevirtual 263, 3) := dk_182 1 7 (dk_at dksX4_needs_0 11 rfl rfl)
theorem dX4_needs_14 : decode cX4_needs 14 = .ok (.ifCond .eq 16, 3) := dk_153 0 16 (dk_at dksX4_needs_0 14 rfl rfl)
theorem dX4_needs_17 : decode cX4_needs 17 = .ok (.aload_n 0, 1) := dk_42 (dk_at dksX4_needs_0 17 rfl rfl)
theorem dX4_needs_18 : decode cX4_needs 18 = .ok (.iload 4, 2) := dk_21 4 (dk_at dksX4_needs_0 18 rfl rfl)
theorem dX4_needs_20 : decode cX4_needs 20 = .ok (.invokevirtual 269, 3) := dk_182 1 13 (dk_at dksX4_needs_0 20 rfl rfl)
theorem dX4_needs_23 : decode cX4_needs 23 = .ok (.ifCond .eq 7, 3) := dk_153 0 7 (dk_at dksX4_needs_1 0 rfl rfl)
theorem dX4_needs_26 : decode cX4_needs 26 = .ok (.iconst 1, 1) := dk_4 (dk_at dksX4_needs_1 3 rfl rfl)
theorem dX4_needs_27 : decode cX4_needs 27 = .ok (.goto 4, 3) := dk_167 0 4 (dk_at dksX4_needs_1 4 rfl rfl)
theorem dX4_needs_30 : decode cX4_needs 30 = .ok (.iconst 0, 1) := dk_3 (dk_at dksX4_needs_1 7 rfl rfl)
theorem dX4_needs_31 : decode cX4_needs 31 = .ok (.iload_n 3, 1) := dk_29 (dk_at dksX4_needs_1 8 rfl rfl)
theorem dX4_needs_32 : decode cX4_needs 32 = .ok (.iconst 0, 1) := dk_3 (dk_at dksX4_needs_1 9 rfl rfl)
theorem dX4_needs_33 : decode cX4_needs 33 = .ok (.sipush 1999, 3) := dk_17 7 207 (dk_at dksX4_needs_1 10 rfl rfl)
theorem dX4_needs_36 : decode cX4_needs 36 = .ok (.invokestatic 107, 3) := dk_184 0 107 (dk_at dksX4_needs_1 13 rfl rfl)
theorem dX4_needs_39 : decode cX4_needs 39 = .ok (.invokestatic 304, 3) := dk_184 1 48 (dk_at dksX4_needs_1 16 rfl rfl)
theorem dX4_needs_42 : decode cX4_needs 42 = .ok (.invokevirtual 228, 3) := dk_182 0 228 (dk_at dksX4_needs_1 19 rfl rfl)
theorem dX4_needs_45 : decode cX4_needs 45 = .ok (.ifCond .eq 5, 3) := dk_153 0 5 (dk_at dksX4_needs_2 0 rfl rfl)
theorem dX4_needs_48 : decode cX4_needs 48 = .ok (.iconst (-1), 1) := dk_2 (dk_at dksX4_needs_2 3 rfl rfl)
theorem dX4_needs_49 : decode cX4_needs 49 = .ok (.ireturn, 1) := dk_172 (dk_at dksX4_needs_2 4 rfl rfl)
theorem dX4_needs_50 : decode cX4_needs 50 = .ok (.aload_n 0, 1) := dk_42 (dk_at dksX4_needs_2 5 rfl rfl)
theorem dX4_needs_51 : decode cX4_needs 51 = .ok (.iload_n 1, 1) := dk_27 (dk_at dksX4_needs_2 6 rfl rfl)
theorem dX4_needs_52 : decode cX4_needs 52 = .ok (.iload_n 2, 1) := dk_28 (dk_at dksX4_needs_2 7 rfl rfl)
theorem dX4_needs_53 : decode cX4_needs 53 = .ok (.iload_n 3, 1) := dk_29 (dk_at dksX4_needs_2 8 rfl rfl)
theorem dX4_needs_54 : decode cX4_needs 54 = .ok (.invokevirtual 311, 3) := dk_182 1 55 (dk_at dksX4_needs_2 9 rfl rfl)
theorem dX4_needs_57 : decode cX4_needs 57 = .ok (.istore 5, 2) := dk_54 5 (dk_at dksX4_needs_2 12 rfl rfl)
theorem dX4_needs_59 : decode cX4_needs 59 = .ok (.aload_n 0, 1) := dk_42 (dk_at dksX4_needs_2 14 rfl rfl)
theorem dX4_needs_60 : decode cX4_needs 60 = .ok (.iload_n 1, 1) := dk_27 (dk_at dksX4_needs_2 15 rfl rfl)
theorem dX4_needs_61 : decode cX4_needs 61 = .ok (.iload_n 2, 1) := dk_28 (dk_at dksX4_needs_2 16 rfl rfl)
theorem dX4_needs_62 : decode cX4_needs 62 = .ok (.iload_n 3, 1) := dk_29 (dk_at dksX4_needs_2 17 rfl rfl)
theorem dX4_needs_63 : decode cX4_needs 63 = .ok (.iload 4, 2) := dk_21 4 (dk_at dksX4_needs_2 18 rfl rfl)
theorem dX4_needs_65 : decode cX4_needs 65 = .ok (.invokevirtual 372, 3) := dk_182 1 116 (dk_at dksX4_needs_2 20 rfl rfl)
theorem dX4_needs_68 : decode cX4_needs 68 = .ok (.istore 6, 2) := dk_54 6 (dk_at dksX4_needs_3 0 rfl rfl)
theorem dX4_needs_70 : decode cX4_needs 70 = .ok (.iload 5, 2) := dk_21 5 (dk_at dksX4_needs_3 2 rfl rfl)
theorem dX4_needs_72 : decode cX4_needs 72 = .ok (.bipush (-2), 2) := dk_16 254 (dk_at dksX4_needs_3 4 rfl rfl)
theorem dX4_needs_74 : decode cX4_needs 74 = .ok (.if_icmp .ne 8, 3) := dk_160 0 8 (dk_at dksX4_needs_3 6 rfl rfl)
theorem dX4_needs_77 : decode cX4_needs 77 = .ok (.bipush (-3), 2) := dk_16 253 (dk_at dksX4_needs_3 9 rfl rfl)
theorem dX4_needs_79 : decode cX4_needs 79 = .ok (.goto 20, 3) := dk_167 0 20 (dk_at dksX4_needs_3 11 rfl rfl)
theorem dX4_needs_82 : decode cX4_needs 82 = .ok (.iload 6, 2) := dk_21 6 (dk_at dksX4_needs_3 14 rfl rfl)
theorem dX4_needs_84 : decode cX4_needs 84 = .ok (.bipush (-2), 2) := dk_16 254 (dk_at dksX4_needs_3 16 rfl rfl)
theorem dX4_needs_86 : decode cX4_needs 86 = .ok (.if_icmp .ne 8, 3) := dk_160 0 8 (dk_at dksX4_needs_3 18 rfl rfl)
theorem dX4_needs_89 : decode cX4_needs 89 = .ok (.bipush (-2), 2) := dk_16 254 (dk_at dksX4_needs_3 21 rfl rfl)
theorem dX4_needs_91 : decode cX4_needs 91 = .ok (.goto 8, 3) := dk_167 0 8 (dk_at dksX4_needs_4 0 rfl rfl)
theorem dX4_needs_94 : decode cX4_needs 94 = .ok (.iload 6, 2) := dk_21 6 (dk_at dksX4_needs_4 3 rfl rfl)
theorem dX4_needs_96 : decode cX4_needs 96 = .ok (.iload 5, 2) := dk_21 5 (dk_at dksX4_needs_4 5 rfl rfl)
theorem dX4_needs_98 : decode cX4_needs 98 = .ok (.isub, 1) := dk_100 (dk_at dksX4_needs_4 7 rfl rfl)
theorem dX4_needs_99 : decode cX4_needs 99 = .ok (.ireturn, 1) := dk_172 (dk_at dksX4_needs_4 8 rfl rfl)
abbrev cX4_without : ByteArray := prog_15_method_95_code
def yX4_without : MethodName := ⟨RX4, "without", "(IIII)I"⟩
def dkwX4_without_2 : List UInt8 := [184, 0, 209, 21, 5, 79, 21, 6, 172]
abbrev dktX4_without_2 : List UInt8 := dkwX4_without_2 ++ []
def dkwX4_without_1 : List UInt8 := [184, 0, 209, 3, 79, 42, 27, 28, 29, 182, 1, 55, 54, 6, 42, 180, 0, 17, 21, 4, 16, 6]
abbrev dktX4_without_1 : List UInt8 := dkwX4_without_1 ++ dktX4_without_2
def dkwX4_without_0 : List UInt8 := [42, 180, 0, 17, 21, 4, 16, 6, 184, 0, 209, 46, 54, 5, 42, 180, 0, 17, 21, 4, 16, 6]
abbrev dktX4_without_0 : List UInt8 := dkwX4_without_0 ++ dktX4_without_1
theorem dksX4_without_0 : cX4_without.data.toList.drop 0 = dktX4_without_0 := by decide +kernel
theorem dksX4_without_1 : cX4_without.data.toList.drop 22 = dktX4_without_1 := dk_seg dksX4_without_0 22 rfl rfl
theorem dksX4_without_2 : cX4_without.data.toList.drop 44 = dktX4_without_2 := dk_seg dksX4_without_1 22 rfl rfl
theorem dX4_without_0 : decode cX4_without 0 = .ok (.aload_n 0, 1) := dk_42 (dk_at dksX4_without_0 0 rfl rfl)
theorem dX4_without_1 : decode cX4_without 1 = .ok (.getfield 17, 3) := dk_180 0 17 (dk_at dksX4_without_0 1 rfl rfl)
theorem dX4_without_4 : decode cX4_without 4 = .ok (.iload 4, 2) := dk_21 4 (dk_at dksX4_without_0 4 rfl rfl)
theorem dX4_without_6 : decode cX4_without 6 = .ok (.bipush 6, 2) := dk_16 6 (dk_at dksX4_without_0 6 rfl rfl)
theorem dX4_without_8 : decode cX4_without 8 = .ok (.invokestatic 209, 3) := dk_184 0 209 (dk_at dksX4_without_0 8 rfl rfl)
theorem dX4_without_11 : decode cX4_without 11 = .ok (.iaload, 1) := dk_46 (dk_at dksX4_without_0 11 rfl rfl)
theorem dX4_without_12 : decode cX4_without 12 = .ok (.istore 5, 2) := dk_54 5 (dk_at dksX4_without_0 12 rfl rfl)
theorem dX4_without_14 : decode cX4_without 14 = .ok (.aload_n 0, 1) := dk_42 (dk_at dksX4_without_0 14 rfl rfl)
theorem dX4_without_15 : decode cX4_without 15 = .ok (.getfield 17, 3) := dk_180 0 17 (dk_at dksX4_without_0 15 rfl rfl)
theorem dX4_without_18 : decode cX4_without 18 = .ok (.iload 4, 2) := dk_21 4 (dk_at dksX4_without_0 18 rfl rfl)
theorem dX4_without_20 : decode cX4_without 20 = .ok (.bipush 6, 2) := dk_16 6 (dk_at dksX4_without_0 20 rfl rfl)
theorem dX4_without_22 : decode cX4_without 22 = .ok (.invokestatic 209, 3) := dk_184 0 209 (dk_at dksX4_without_1 0 rfl rfl)
theorem dX4_without_25 : decode cX4_without 25 = .ok (.iconst 0, 1) := dk_3 (dk_at dksX4_without_1 3 rfl rfl)
theorem dX4_without_26 : decode cX4_without 26 = .ok (.iastore, 1) := dk_79 (dk_at dksX4_without_1 4 rfl rfl)
theorem dX4_without_27 : decode cX4_without 27 = .ok (.aload_n 0, 1) := dk_42 (dk_at dksX4_without_1 5 rfl rfl)
theorem dX4_without_28 : decode cX4_without 28 = .ok (.iload_n 1, 1) := dk_27 (dk_at dksX4_without_1 6 rfl rfl)
theorem dX4_without_29 : decode cX4_without 29 = .ok (.iload_n 2, 1) := dk_28 (dk_at dksX4_without_1 7 rfl rfl)
theorem dX4_without_30 : decode cX4_without 30 = .ok (.iload_n 3, 1) := dk_29 (dk_at dksX4_without_1 8 rfl rfl)
theorem dX4_without_31 : decode cX4_without 31 = .ok (.invokevirtual 311, 3) := dk_182 1 55 (dk_at dksX4_without_1 9 rfl rfl)
theorem dX4_without_34 : decode cX4_without 34 = .ok (.istore 6, 2) := dk_54 6 (dk_at dksX4_without_1 12 rfl rfl)
theorem dX4_without_36 : decode cX4_without 36 = .ok (.aload_n 0, 1) := dk_42 (dk_at dksX4_without_1 14 rfl rfl)
theorem dX4_without_37 : decode cX4_without 37 = .ok (.getfield 17, 3) := dk_180 0 17 (dk_at dksX4_without_1 15 rfl rfl)
theorem dX4_without_40 : decode cX4_without 40 = .ok (.iload 4, 2) := dk_21 4 (dk_at dksX4_without_1 18 rfl rfl)
theorem dX4_without_42 : decode cX4_without 42 = .ok (.bipush 6, 2) := dk_16 6 (dk_at dksX4_without_1 20 rfl rfl)
theorem dX4_without_44 : decode cX4_without 44 = .ok (.invokestatic 209, 3) := dk_184 0 209 (dk_at dksX4_without_2 0 rfl rfl)
theorem dX4_without_47 : decode cX4_without 47 = .ok (.iload 5, 2) := dk_21 5 (dk_at dksX4_without_2 3 rfl rfl)
theorem dX4_without_49 : decode cX4_without 49 = .ok (.iastore, 1) := dk_79 (dk_at dksX4_without_2 5 rfl rfl)
theorem dX4_without_50 : decode cX4_without 50 = .ok (.iload 6, 2) := dk_21 6 (dk_at dksX4_without_2 6 rfl rfl)
theorem dX4_without_52 : decode cX4_without 52 = .ok (.ireturn, 1) := dk_172 (dk_at dksX4_without_2 8 rfl rfl)
abbrev cX4_vital : ByteArray := prog_15_method_97_code
def yX4_vital : MethodName := ⟨RX4, "vital", "(III)I"⟩
def dkwX4_vital_3 : List UInt8 := [167, 0, 4, 3, 96, 54, 5, 132, 6, 1, 167, 255, 218, 21, 5, 172]
abbrev dktX4_vital_3 : List UInt8 := dkwX4_vital_3 ++ []
def dkwX4_vital_2 : List UInt8 := [7, 46, 162, 0, 33, 21, 5, 42, 27, 28, 29, 21, 6, 182, 1, 116, 21, 4, 159, 0, 7, 4]
abbrev dktX4_vital_2 : List UInt8 := dkwX4_vital_2 ++ dktX4_vital_3
def dkwX4_vital_1 : List UInt8 := [54, 4, 21, 4, 16, 254, 160, 0, 6, 16, 254, 172, 3, 54, 5, 3, 54, 6, 21, 6, 42, 180, 0, 17]
abbrev dktX4_vital_1 : List UInt8 := dkwX4_vital_1 ++ dktX4_vital_2
def dkwX4_vital_0 : List UInt8 := [42, 42, 27, 28, 29, 182, 1, 51, 182, 0, 228, 153, 0, 5, 2, 172, 42, 27, 28, 29, 182, 1, 55]
abbrev dktX4_vital_0 : List UInt8 := dkwX4_vital_0 ++ dktX4_vital_1
theorem dksX4_vital_0 : cX4_vital.data.toList.drop 0 = dktX4_vital_0 := by decide +kernel
theorem dksX4_vital_1 : cX4_vital.data.toList.drop 23 = dktX4_vital_1 := dk_seg dksX4_vital_0 23 rfl rfl
theorem dksX4_vital_2 : cX4_vital.data.toList.drop 47 = dktX4_vital_2 := dk_seg dksX4_vital_1 24 rfl rfl
theorem dksX4_vital_3 : cX4_vital.data.toList.drop 69 = dktX4_vital_3 := dk_seg dksX4_vital_2 22 rfl rfl
theorem dX4_vital_0 : decode cX4_vital 0 = .ok (.aload_n 0, 1) := dk_42 (dk_at dksX4_vital_0 0 rfl rfl)
theorem dX4_vital_1 : decode cX4_vital 1 = .ok (.aload_n 0, 1) := dk_42 (dk_at dksX4_vital_0 1 rfl rfl)
theorem dX4_vital_2 : decode cX4_vital 2 = .ok (.iload_n 1, 1) := dk_27 (dk_at dksX4_vital_0 2 rfl rfl)
theorem dX4_vital_3 : decode cX4_vital 3 = .ok (.iload_n 2, 1) := dk_28 (dk_at dksX4_vital_0 3 rfl rfl)
theorem dX4_vital_4 : decode cX4_vital 4 = .ok (.iload_n 3, 1) := dk_29 (dk_at dksX4_vital_0 4 rfl rfl)
theorem dX4_vital_5 : decode cX4_vital 5 = .ok (.invokevirtual 307, 3) := dk_182 1 51 (dk_at dksX4_vital_0 5 rfl rfl)
theorem dX4_vital_8 : decode cX4_vital 8 = .ok (.invokevirtual 228, 3) := dk_182 0 228 (dk_at dksX4_vital_0 8 rfl rfl)
theorem dX4_vital_11 : decode cX4_vital 11 = .ok (.ifCond .eq 5, 3) := dk_153 0 5 (dk_at dksX4_vital_0 11 rfl rfl)
theorem dX4_vital_14 : decode cX4_vital 14 = .ok (.iconst (-1), 1) := dk_2 (dk_at dksX4_vital_0 14 rfl rfl)
theorem dX4_vital_15 : decode cX4_vital 15 = .ok (.ireturn, 1) := dk_172 (dk_at dksX4_vital_0 15 rfl rfl)
theorem dX4_vital_16 : decode cX4_vital 16 = .ok (.aload_n 0, 1) := dk_42 (dk_at dksX4_vital_0 16 rfl rfl)
theorem dX4_vital_17 : decode cX4_vital 17 = .ok (.iload_n 1, 1) := dk_27 (dk_at dksX4_vital_0 17 rfl rfl)
theorem dX4_vital_18 : decode cX4_vital 18 = .ok (.iload_n 2, 1) := dk_28 (dk_at dksX4_vital_0 18 rfl rfl)
theorem dX4_vital_19 : decode cX4_vital 19 = .ok (.iload_n 3, 1) := dk_29 (dk_at dksX4_vital_0 19 rfl rfl)
theorem dX4_vital_20 : decode cX4_vital 20 = .ok (.invokevirtual 311, 3) := dk_182 1 55 (dk_at dksX4_vital_0 20 rfl rfl)
theorem dX4_vital_23 : decode cX4_vital 23 = .ok (.istore 4, 2) := dk_54 4 (dk_at dksX4_vital_1 0 rfl rfl)
theorem dX4_vital_25 : decode cX4_vital 25 = .ok (.iload 4, 2) := dk_21 4 (dk_at dksX4_vital_1 2 rfl rfl)
theorem dX4_vital_27 : decode cX4_vital 27 = .ok (.bipush (-2), 2) := dk_16 254 (dk_at dksX4_vital_1 4 rfl rfl)
theorem dX4_vital_29 : decode cX4_vital 29 = .ok (.if_icmp .ne 6, 3) := dk_160 0 6 (dk_at dksX4_vital_1 6 rfl rfl)
theorem dX4_vital_32 : decode cX4_vital 32 = .ok (.bipush (-2), 2) := dk_16 254 (dk_at dksX4_vital_1 9 rfl rfl)
theorem dX4_vital_34 : decode cX4_vital 34 = .ok (.ireturn, 1) := dk_172 (dk_at dksX4_vital_1 11 rfl rfl)
theorem dX4_vital_35 : decode cX4_vital 35 = .ok (.iconst 0, 1) := dk_3 (dk_at dksX4_vital_1 12 rfl rfl)
theorem dX4_vital_36 : decode cX4_vital 36 = .ok (.istore 5, 2) := dk_54 5 (dk_at dksX4_vital_1 13 rfl rfl)
theorem dX4_vital_38 : decode cX4_vital 38 = .ok (.iconst 0, 1) := dk_3 (dk_at dksX4_vital_1 15 rfl rfl)
theorem dX4_vital_39 : decode cX4_vital 39 = .ok (.istore 6, 2) := dk_54 6 (dk_at dksX4_vital_1 16 rfl rfl)
theorem dX4_vital_41 : decode cX4_vital 41 = .ok (.iload 6, 2) := dk_21 6 (dk_at dksX4_vital_1 18 rfl rfl)
theorem dX4_vital_43 : decode cX4_vital 43 = .ok (.aload_n 0, 1) := dk_42 (dk_at dksX4_vital_1 20 rfl rfl)
theorem dX4_vital_44 : decode cX4_vital 44 = .ok (.getfield 17, 3) := dk_180 0 17 (dk_at dksX4_vital_1 21 rfl rfl)
theorem dX4_vital_47 : decode cX4_vital 47 = .ok (.iconst 4, 1) := dk_7 (dk_at dksX4_vital_2 0 rfl rfl)
theorem dX4_vital_48 : decode cX4_vital 48 = .ok (.iaload, 1) := dk_46 (dk_at dksX4_vital_2 1 rfl rfl)
theorem dX4_vital_49 : decode cX4_vital 49 = .ok (.if_icmp .ge 33, 3) := dk_162 0 33 (dk_at dksX4_vital_2 2 rfl rfl)
theorem dX4_vital_52 : decode cX4_vital 52 = .ok (.iload 5, 2) := dk_21 5 (dk_at dksX4_vital_2 5 rfl rfl)
theorem dX4_vital_54 : decode cX4_vital 54 = .ok (.aload_n 0, 1) := dk_42 (dk_at dksX4_vital_2 7 rfl rfl)
theorem dX4_vital_55 : decode cX4_vital 55 = .ok (.iload_n 1, 1) := dk_27 (dk_at dksX4_vital_2 8 rfl rfl)
theorem dX4_vital_56 : decode cX4_vital 56 = .ok (.iload_n 2, 1) := dk_28 (dk_at dksX4_vital_2 9 rfl rfl)
theorem dX4_vital_57 : decode cX4_vital 57 = .ok (.iload_n 3, 1) := dk_29 (dk_at dksX4_vital_2 10 rfl rfl)
theorem dX4_vital_58 : decode cX4_vital 58 = .ok (.iload 6, 2) := dk_21 6 (dk_at dksX4_vital_2 11 rfl rfl)
theorem dX4_vital_60 : decode cX4_vital 60 = .ok (.invokevirtual 372, 3) := dk_182 1 116 (dk_at dksX4_vital_2 13 rfl rfl)
theorem dX4_vital_63 : decode cX4_vital 63 = .ok (.iload 4, 2) := dk_21 4 (dk_at dksX4_vital_2 16 rfl rfl)
theorem dX4_vital_65 : decode cX4_vital 65 = .ok (.if_icmp .eq 7, 3) := dk_159 0 7 (dk_at dksX4_vital_2 18 rfl rfl)
theorem dX4_vital_68 : decode cX4_vital 68 = .ok (.iconst 1, 1) := dk_4 (dk_at dksX4_vital_2 21 rfl rfl)
theorem dX4_vital_69 : decode cX4_vital 69 = .ok (.goto 4, 3) := dk_167 0 4 (dk_at dksX4_vital_3 0 rfl rfl)
theorem dX4_vital_72 : decode cX4_vital 72 = .ok (.iconst 0, 1) := dk_3 (dk_at dksX4_vital_3 3 rfl rfl)
theorem dX4_vital_73 : decode cX4_vital 73 = .ok (.iadd, 1) := dk_96 (dk_at dksX4_vital_3 4 rfl rfl)
theorem dX4_vital_74 : decode cX4_vital 74 = .ok (.istore 5, 2) := dk_54 5 (dk_at dksX4_vital_3 5 rfl rfl)
theorem dX4_vital_76 : decode cX4_vital 76 = .ok (.iinc 6 1, 3) := dk_132 6 1 (dk_at dksX4_vital_3 7 rfl rfl)
theorem dX4_vital_79 : decode cX4_vital 79 = .ok (.goto (-38), 3) := dk_167 255 218 (dk_at dksX4_vital_3 10 rfl rfl)
theorem dX4_vital_82 : decode cX4_vital 82 = .ok (.iload 5, 2) := dk_21 5 (dk_at dksX4_vital_3 13 rfl rfl)
theorem dX4_vital_84 : decode cX4_vital 84 = .ok (.ireturn, 1) := dk_172 (dk_at dksX4_vital_3 15 rfl rfl)
abbrev cX4_slack : ByteArray := prog_15_method_98_code
def yX4_slack : MethodName := ⟨RX4, "slack", "(IIII)I"⟩
def dkwX4_slack_6 : List UInt8 := [21, 7, 153, 0, 7, 4, 167, 0, 4, 3, 96, 54, 6, 167, 255, 184, 42, 182, 1, 92, 21, 6, 172]
abbrev dktX4_slack_6 : List UInt8 := dkwX4_slack_6 ++ []
def dkwX4_slack_5 : List UInt8 := [21, 8, 16, 254, 159, 0, 14, 21, 8, 21, 5, 163, 0, 7, 4, 167, 0, 4, 3, 54, 7, 21, 6]
abbrev dktX4_slack_5 : List UInt8 := dkwX4_slack_5 ++ dktX4_slack_6
def dkwX4_slack_4 : List UInt8 := [180, 0, 17, 21, 4, 8, 184, 0, 209, 92, 46, 4, 96, 79, 42, 27, 28, 29, 182, 1, 55, 54, 8]
abbrev dktX4_slack_4 : List UInt8 := dkwX4_slack_4 ++ dktX4_slack_5
def dkwX4_slack_3 : List UInt8 := [42, 182, 1, 86, 3, 54, 6, 4, 54, 7, 21, 6, 16, 99, 162, 0, 71, 21, 7, 153, 0, 66, 42]
abbrev dktX4_slack_3 : List UInt8 := dkwX4_slack_3 ++ dktX4_slack_4
def dkwX4_slack_2 : List UInt8 := [153, 0, 5, 2, 172, 42, 27, 28, 29, 182, 1, 55, 54, 5, 21, 5, 16, 254, 160, 0, 6, 16, 254, 172]
abbrev dktX4_slack_2 : List UInt8 := dkwX4_slack_2 ++ dktX4_slack_3
def dkwX4_slack_1 : List UInt8 := [153, 0, 7, 4, 167, 0, 4, 3, 29, 3, 17, 7, 207, 184, 0, 107, 184, 1, 48, 182, 0, 228]
abbrev dktX4_slack_1 : List UInt8 := dkwX4_slack_1 ++ dktX4_slack_2
def dkwX4_slack_0 : List UInt8 := [42, 42, 27, 182, 1, 7, 153, 0, 24, 42, 28, 182, 1, 7, 153, 0, 16, 42, 21, 4, 182, 1, 13]
abbrev dktX4_slack_0 : List UInt8 := dkwX4_slack_0 ++ dktX4_slack_1
theorem dksX4_slack_0 : cX4_slack.data.toList.drop 0 = dktX4_slack_0 := by decide +kernel
theorem dksX4_slack_1 : cX4_slack.data.toList.drop 23 = dktX4_slack_1 := dk_seg dksX4_slack_0 23 rfl rfl
theorem dksX4_slack_2 : cX4_slack.data.toList.drop 45 = dktX4_slack_2 := dk_seg dksX4_slack_1 22 rfl rfl
theorem dksX4_slack_3 : cX4_slack.data.toList.drop 69 = dktX4_slack_3 := dk_seg dksX4_slack_2 24 rfl rfl
theorem dksX4_slack_4 : cX4_slack.data.toList.drop 92 = dktX4_slack_4 := dk_seg dksX4_slack_3 23 rfl rfl
theorem dksX4_slack_5 : cX4_slack.data.toList.drop 115 = dktX4_slack_5 := dk_seg dksX4_slack_4 23 rfl rfl
theorem dksX4_slack_6 : cX4_slack.data.toList.drop 138 = dktX4_slack_6 := dk_seg dksX4_slack_5 23 rfl rfl
theorem dX4_slack_0 : decode cX4_slack 0 = .ok (.aload_n 0, 1) := dk_42 (dk_at dksX4_slack_0 0 rfl rfl)
theorem dX4_slack_1 : decode cX4_slack 1 = .ok (.aload_n 0, 1) := dk_42 (dk_at dksX4_slack_0 1 rfl rfl)
theorem dX4_slack_2 : decode cX4_slack 2 = .ok (.iload_n 1, 1) := dk_27 (dk_at dksX4_slack_0 2 rfl rfl)
theorem dX4_slack_3 : decode cX4_slack 3 = .ok (.invokevirtual 263, 3) := dk_182 1 7 (dk_at dksX4_slack_0 3 rfl rfl)
theorem dX4_slack_6 : decode cX4_slack 6 = .ok (.ifCond .eq 24, 3) := dk_153 0 24 (dk_at dksX4_slack_0 6 rfl rfl)
theorem dX4_slack_9 : decode cX4_slack 9 = .ok (.aload_n 0, 1) := dk_42 (dk_at dksX4_slack_0 9 rfl rfl)
theorem dX4_slack_10 : decode cX4_slack 10 = .ok (.iload_n 2, 1) := dk_28 (dk_at dksX4_slack_0 10 rfl rfl)
theorem dX4_slack_11 : decode cX4_slack 11 = .ok (.invokevirtual 263, 3) := dk_182 1 7 (dk_at dksX4_slack_0 11 rfl rfl)
theorem dX4_slack_14 : decode cX4_slack 14 = .ok (.ifCond .eq 16, 3) := dk_153 0 16 (dk_at dksX4_slack_0 14 rfl rfl)
theorem dX4_slack_17 : decode cX4_slack 17 = .ok (.aload_n 0, 1) := dk_42 (dk_at dksX4_slack_0 17 rfl rfl)
theorem dX4_slack_18 : decode cX4_slack 18 = .ok (.iload 4, 2) := dk_21 4 (dk_at dksX4_slack_0 18 rfl rfl)
theorem dX4_slack_20 : decode cX4_slack 20 = .ok (.invokevirtual 269, 3) := dk_182 1 13 (dk_at dksX4_slack_0 20 rfl rfl)
theorem dX4_slack_23 : decode cX4_slack 23 = .ok (.ifCond .eq 7, 3) := dk_153 0 7 (dk_at dksX4_slack_1 0 rfl rfl)
theorem dX4_slack_26 : decode cX4_slack 26 = .ok (.iconst 1, 1) := dk_4 (dk_at dksX4_slack_1 3 rfl rfl)
theorem dX4_slack_27 : decode cX4_slack 27 = .ok (.goto 4, 3) := dk_167 0 4 (dk_at dksX4_slack_1 4 rfl rfl)
theorem dX4_slack_30 : decode cX4_slack 30 = .ok (.iconst 0, 1) := dk_3 (dk_at dksX4_slack_1 7 rfl rfl)
theorem dX4_slack_31 : decode cX4_slack 31 = .ok (.iload_n 3, 1) := dk_29 (dk_at dksX4_slack_1 8 rfl rfl)
theorem dX4_slack_32 : decode cX4_slack 32 = .ok (.iconst 0, 1) := dk_3 (dk_at dksX4_slack_1 9 rfl rfl)
theorem dX4_slack_33 : decode cX4_slack 33 = .ok (.sipush 1999, 3) := dk_17 7 207 (dk_at dksX4_slack_1 10 rfl rfl)
theorem dX4_slack_36 : decode cX4_slack 36 = .ok (.invokestatic 107, 3) := dk_184 0 107 (dk_at dksX4_slack_1 13 rfl rfl)
theorem dX4_slack_39 : decode cX4_slack 39 = .ok (.invokestatic 304, 3) := dk_184 1 48 (dk_at dksX4_slack_1 16 rfl rfl)
theorem dX4_slack_42 : decode cX4_slack 42 = .ok (.invokevirtual 228, 3) := dk_182 0 228 (dk_at dksX4_slack_1 19 rfl rfl)
theorem dX4_slack_45 : decode cX4_slack 45 = .ok (.ifCond .eq 5, 3) := dk_153 0 5 (dk_at dksX4_slack_2 0 rfl rfl)
theorem dX4_slack_48 : decode cX4_slack 48 = .ok (.iconst (-1), 1) := dk_2 (dk_at dksX4_slack_2 3 rfl rfl)
theorem dX4_slack_49 : decode cX4_slack 49 = .ok (.ireturn, 1) := dk_172 (dk_at dksX4_slack_2 4 rfl rfl)
theorem dX4_slack_50 : decode cX4_slack 50 = .ok (.aload_n 0, 1) := dk_42 (dk_at dksX4_slack_2 5 rfl rfl)
theorem dX4_slack_51 : decode cX4_slack 51 = .ok (.iload_n 1, 1) := dk_27 (dk_at dksX4_slack_2 6 rfl rfl)
theorem dX4_slack_52 : decode cX4_slack 52 = .ok (.iload_n 2, 1) := dk_28 (dk_at dksX4_slack_2 7 rfl rfl)
theorem dX4_slack_53 : decode cX4_slack 53 = .ok (.iload_n 3, 1) := dk_29 (dk_at dksX4_slack_2 8 rfl rfl)
theorem dX4_slack_54 : decode cX4_slack 54 = .ok (.invokevirtual 311, 3) := dk_182 1 55 (dk_at dksX4_slack_2 9 rfl rfl)
theorem dX4_slack_57 : decode cX4_slack 57 = .ok (.istore 5, 2) := dk_54 5 (dk_at dksX4_slack_2 12 rfl rfl)
theorem dX4_slack_59 : decode cX4_slack 59 = .ok (.iload 5, 2) := dk_21 5 (dk_at dksX4_slack_2 14 rfl rfl)
theorem dX4_slack_61 : decode cX4_slack 61 = .ok (.bipush (-2), 2) := dk_16 254 (dk_at dksX4_slack_2 16 rfl rfl)
theorem dX4_slack_63 : decode cX4_slack 63 = .ok (.if_icmp .ne 6, 3) := dk_160 0 6 (dk_at dksX4_slack_2 18 rfl rfl)
theorem dX4_slack_66 : decode cX4_slack 66 = .ok (.bipush (-2), 2) := dk_16 254 (dk_at dksX4_slack_2 21 rfl rfl)
theorem dX4_slack_68 : decode cX4_slack 68 = .ok (.ireturn, 1) := dk_172 (dk_at dksX4_slack_2 23 rfl rfl)
theorem dX4_slack_69 : decode cX4_slack 69 = .ok (.aload_n 0, 1) := dk_42 (dk_at dksX4_slack_3 0 rfl rfl)
theorem dX4_slack_70 : decode cX4_slack 70 = .ok (.invokevirtual 342, 3) := dk_182 1 86 (dk_at dksX4_slack_3 1 rfl rfl)
theorem dX4_slack_73 : decode cX4_slack 73 = .ok (.iconst 0, 1) := dk_3 (dk_at dksX4_slack_3 4 rfl rfl)
theorem dX4_slack_74 : decode cX4_slack 74 = .ok (.istore 6, 2) := dk_54 6 (dk_at dksX4_slack_3 5 rfl rfl)
theorem dX4_slack_76 : decode cX4_slack 76 = .ok (.iconst 1, 1) := dk_4 (dk_at dksX4_slack_3 7 rfl rfl)
theorem dX4_slack_77 : decode cX4_slack 77 = .ok (.istore 7, 2) := dk_54 7 (dk_at dksX4_slack_3 8 rfl rfl)
theorem dX4_slack_79 : decode cX4_slack 79 = .ok (.iload 6, 2) := dk_21 6 (dk_at dksX4_slack_3 10 rfl rfl)
theorem dX4_slack_81 : decode cX4_slack 81 = .ok (.bipush 99, 2) := dk_16 99 (dk_at dksX4_slack_3 12 rfl rfl)
theorem dX4_slack_83 : decode cX4_slack 83 = .ok (.if_icmp .ge 71, 3) := dk_162 0 71 (dk_at dksX4_slack_3 14 rfl rfl)
theorem dX4_slack_86 : decode cX4_slack 86 = .ok (.iload 7, 2) := dk_21 7 (dk_at dksX4_slack_3 17 rfl rfl)
theorem dX4_slack_88 : decode cX4_slack 88 = .ok (.ifCond .eq 66, 3) := dk_153 0 66 (dk_at dksX4_slack_3 19 rfl rfl)
theorem dX4_slack_91 : decode cX4_slack 91 = .ok (.aload_n 0, 1) := dk_42 (dk_at dksX4_slack_3 22 rfl rfl)
theorem dX4_slack_92 : decode cX4_slack 92 = .ok (.getfield 17, 3) := dk_180 0 17 (dk_at dksX4_slack_4 0 rfl rfl)
theorem dX4_slack_95 : decode cX4_slack 95 = .ok (.iload 4, 2) := dk_21 4 (dk_at dksX4_slack_4 3 rfl rfl)
theorem dX4_slack_97 : decode cX4_slack 97 = .ok (.iconst 5, 1) := dk_8 (dk_at dksX4_slack_4 5 rfl rfl)
theorem dX4_slack_98 : decode cX4_slack 98 = .ok (.invokestatic 209, 3) := dk_184 0 209 (dk_at dksX4_slack_4 6 rfl rfl)
theorem dX4_slack_101 : decode cX4_slack 101 = .ok (.dup2, 1) := dk_92 (dk_at dksX4_slack_4 9 rfl rfl)
theorem dX4_slack_102 : decode cX4_slack 102 = .ok (.iaload, 1) := dk_46 (dk_at dksX4_slack_4 10 rfl rfl)
theorem dX4_slack_103 : decode cX4_slack 103 = .ok (.iconst 1, 1) := dk_4 (dk_at dksX4_slack_4 11 rfl rfl)
theorem dX4_slack_104 : decode cX4_slack 104 = .ok (.iadd, 1) := dk_96 (dk_at dksX4_slack_4 12 rfl rfl)
theorem dX4_slack_105 : decode cX4_slack 105 = .ok (.iastore, 1) := dk_79 (dk_at dksX4_slack_4 13 rfl rfl)
theorem dX4_slack_106 : decode cX4_slack 106 = .ok (.aload_n 0, 1) := dk_42 (dk_at dksX4_slack_4 14 rfl rfl)
theorem dX4_slack_107 : decode cX4_slack 107 = .ok (.iload_n 1, 1) := dk_27 (dk_at dksX4_slack_4 15 rfl rfl)
theorem dX4_slack_108 : decode cX4_slack 108 = .ok (.iload_n 2, 1) := dk_28 (dk_at dksX4_slack_4 16 rfl rfl)
theorem dX4_slack_109 : decode cX4_slack 109 = .ok (.iload_n 3, 1) := dk_29 (dk_at dksX4_slack_4 17 rfl rfl)
theorem dX4_slack_110 : decode cX4_slack 110 = .ok (.invokevirtual 311, 3) := dk_182 1 55 (dk_at dksX4_slack_4 18 rfl rfl)
theorem dX4_slack_113 : decode cX4_slack 113 = .ok (.istore 8, 2) := dk_54 8 (dk_at dksX4_slack_4 21 rfl rfl)
theorem dX4_slack_115 : decode cX4_slack 115 = .ok (.iload 8, 2) := dk_21 8 (dk_at dksX4_slack_5 0 rfl rfl)
theorem dX4_slack_117 : decode cX4_slack 117 = .ok (.bipush (-2), 2) := dk_16 254 (dk_at dksX4_slack_5 2 rfl rfl)
theorem dX4_slack_119 : decode cX4_slack 119 = .ok (.if_icmp .eq 14, 3) := dk_159 0 14 (dk_at dksX4_slack_5 4 rfl rfl)
theorem dX4_slack_122 : decode cX4_slack 122 = .ok (.iload 8, 2) := dk_21 8 (dk_at dksX4_slack_5 7 rfl rfl)
theorem dX4_slack_124 : decode cX4_slack 124 = .ok (.iload 5, 2) := dk_21 5 (dk_at dksX4_slack_5 9 rfl rfl)
theorem dX4_slack_126 : decode cX4_slack 126 = .ok (.if_icmp .gt 7, 3) := dk_163 0 7 (dk_at dksX4_slack_5 11 rfl rfl)
theorem dX4_slack_129 : decode cX4_slack 129 = .ok (.iconst 1, 1) := dk_4 (dk_at dksX4_slack_5 14 rfl rfl)
theorem dX4_slack_130 : decode cX4_slack 130 = .ok (.goto 4, 3) := dk_167 0 4 (dk_at dksX4_slack_5 15 rfl rfl)
theorem dX4_slack_133 : decode cX4_slack 133 = .ok (.iconst 0, 1) := dk_3 (dk_at dksX4_slack_5 18 rfl rfl)
theorem dX4_slack_134 : decode cX4_slack 134 = .ok (.istore 7, 2) := dk_54 7 (dk_at dksX4_slack_5 19 rfl rfl)
theorem dX4_slack_136 : decode cX4_slack 136 = .ok (.iload 6, 2) := dk_21 6 (dk_at dksX4_slack_5 21 rfl rfl)
theorem dX4_slack_138 : decode cX4_slack 138 = .ok (.iload 7, 2) := dk_21 7 (dk_at dksX4_slack_6 0 rfl rfl)
theorem dX4_slack_140 : decode cX4_slack 140 = .ok (.ifCond .eq 7, 3) := dk_153 0 7 (dk_at dksX4_slack_6 2 rfl rfl)
theorem dX4_slack_143 : decode cX4_slack 143 = .ok (.iconst 1, 1) := dk_4 (dk_at dksX4_slack_6 5 rfl rfl)
theorem dX4_slack_144 : decode cX4_slack 144 = .ok (.goto 4, 3) := dk_167 0 4 (dk_at dksX4_slack_6 6 rfl rfl)
theorem dX4_slack_147 : decode cX4_slack 147 = .ok (.iconst 0, 1) := dk_3 (dk_at dksX4_slack_6 9 rfl rfl)
theorem dX4_slack_148 : decode cX4_slack 148 = .ok (.iadd, 1) := dk_96 (dk_at dksX4_slack_6 10 rfl rfl)
theorem dX4_slack_149 : decode cX4_slack 149 = .ok (.istore 6, 2) := dk_54 6 (dk_at dksX4_slack_6 11 rfl rfl)
theorem dX4_slack_151 : decode cX4_slack 151 = .ok (.goto (-72), 3) := dk_167 255 184 (dk_at dksX4_slack_6 13 rfl rfl)
theorem dX4_slack_154 : decode cX4_slack 154 = .ok (.aload_n 0, 1) := dk_42 (dk_at dksX4_slack_6 16 rfl rfl)
theorem dX4_slack_155 : decode cX4_slack 155 = .ok (.invokevirtual 348, 3) := dk_182 1 92 (dk_at dksX4_slack_6 17 rfl rfl)
theorem dX4_slack_158 : decode cX4_slack 158 = .ok (.iload 6, 2) := dk_21 6 (dk_at dksX4_slack_6 20 rfl rfl)
theorem dX4_slack_160 : decode cX4_slack 160 = .ok (.ireturn, 1) := dk_172 (dk_at dksX4_slack_6 22 rfl rfl)
abbrev cX4_why : ByteArray := prog_15_method_100_code
def yX4_why : MethodName := ⟨RX4, "why", "(IIII)I"⟩
def dkwX4_why_3 : List UInt8 := [182, 1, 92, 21, 4, 21, 5, 162, 0, 10, 21, 4, 4, 96, 167, 0, 4, 3, 172]
abbrev dktX4_why_3 : List UInt8 := dkwX4_why_3 ++ []
def dkwX4_why_2 : List UInt8 := [182, 0, 228, 153, 0, 5, 2, 172, 42, 182, 1, 86, 42, 27, 28, 29, 182, 1, 119, 54, 5, 42]
abbrev dktX4_why_2 : List UInt8 := dkwX4_why_2 ++ dktX4_why_3
def dkwX4_why_1 : List UInt8 := [17, 7, 207, 184, 0, 107, 153, 0, 12, 21, 4, 155, 0, 7, 4, 167, 0, 4, 3, 184, 1, 48]
abbrev dktX4_why_1 : List UInt8 := dkwX4_why_1 ++ dktX4_why_2
def dkwX4_why_0 : List UInt8 := [42, 42, 27, 182, 1, 7, 153, 0, 15, 42, 28, 182, 1, 7, 153, 0, 7, 4, 167, 0, 4, 3, 29, 3]
abbrev dktX4_why_0 : List UInt8 := dkwX4_why_0 ++ dktX4_why_1
theorem dksX4_why_0 : cX4_why.data.toList.drop 0 = dktX4_why_0 := by decide +kernel
theorem dksX4_why_1 : cX4_why.data.toList.drop 24 = dktX4_why_1 := dk_seg dksX4_why_0 24 rfl rfl
theorem dksX4_why_2 : cX4_why.data.toList.drop 46 = dktX4_why_2 := dk_seg dksX4_why_1 22 rfl rfl
theorem dksX4_why_3 : cX4_why.data.toList.drop 68 = dktX4_why_3 := dk_seg dksX4_why_2 22 rfl rfl
theorem dX4_why_0 : decode cX4_why 0 = .ok (.aload_n 0, 1) := dk_42 (dk_at dksX4_why_0 0 rfl rfl)
theorem dX4_why_1 : decode cX4_why 1 = .ok (.aload_n 0, 1) := dk_42 (dk_at dksX4_why_0 1 rfl rfl)
theorem dX4_why_2 : decode cX4_why 2 = .ok (.iload_n 1, 1) := dk_27 (dk_at dksX4_why_0 2 rfl rfl)
theorem dX4_why_3 : decode cX4_why 3 = .ok (.invokevirtual 263, 3) := dk_182 1 7 (dk_at dksX4_why_0 3 rfl rfl)
theorem dX4_why_6 : decode cX4_why 6 = .ok (.ifCond .eq 15, 3) := dk_153 0 15 (dk_at dksX4_why_0 6 rfl rfl)
theorem dX4_why_9 : decode cX4_why 9 = .ok (.aload_n 0, 1) := dk_42 (dk_at dksX4_why_0 9 rfl rfl)
theorem dX4_why_10 : decode cX4_why 10 = .ok (.iload_n 2, 1) := dk_28 (dk_at dksX4_why_0 10 rfl rfl)
theorem dX4_why_11 : decode cX4_why 11 = .ok (.invokevirtual 263, 3) := dk_182 1 7 (dk_at dksX4_why_0 11 rfl rfl)
theorem dX4_why_14 : decode cX4_why 14 = .ok (.ifCond .eq 7, 3) := dk_153 0 7 (dk_at dksX4_why_0 14 rfl rfl)
theorem dX4_why_17 : decode cX4_why 17 = .ok (.iconst 1, 1) := dk_4 (dk_at dksX4_why_0 17 rfl rfl)
theorem dX4_why_18 : decode cX4_why 18 = .ok (.goto 4, 3) := dk_167 0 4 (dk_at dksX4_why_0 18 rfl rfl)
theorem dX4_why_21 : decode cX4_why 21 = .ok (.iconst 0, 1) := dk_3 (dk_at dksX4_why_0 21 rfl rfl)
theorem dX4_why_22 : decode cX4_why 22 = .ok (.iload_n 3, 1) := dk_29 (dk_at dksX4_why_0 22 rfl rfl)
theorem dX4_why_23 : decode cX4_why 23 = .ok (.iconst 0, 1) := dk_3 (dk_at dksX4_why_0 23 rfl rfl)
theorem dX4_why_24 : decode cX4_why 24 = .ok (.sipush 1999, 3) := dk_17 7 207 (dk_at dksX4_why_1 0 rfl rfl)
theorem dX4_why_27 : decode cX4_why 27 = .ok (.invokestatic 107, 3) := dk_184 0 107 (dk_at dksX4_why_1 3 rfl rfl)
theorem dX4_why_30 : decode cX4_why 30 = .ok (.ifCond .eq 12, 3) := dk_153 0 12 (dk_at dksX4_why_1 6 rfl rfl)
theorem dX4_why_33 : decode cX4_why 33 = .ok (.iload 4, 2) := dk_21 4 (dk_at dksX4_why_1 9 rfl rfl)
theorem dX4_why_35 : decode cX4_why 35 = .ok (.ifCond .lt 7, 3) := dk_155 0 7 (dk_at dksX4_why_1 11 rfl rfl)
theorem dX4_why_38 : decode cX4_why 38 = .ok (.iconst 1, 1) := dk_4 (dk_at dksX4_why_1 14 rfl rfl)
theorem dX4_why_39 : decode cX4_why 39 = .ok (.goto 4, 3) := dk_167 0 4 (dk_at dksX4_why_1 15 rfl rfl)
theorem dX4_why_42 : decode cX4_why 42 = .ok (.iconst 0, 1) := dk_3 (dk_at dksX4_why_1 18 rfl rfl)
theorem dX4_why_43 : decode cX4_why 43 = .ok (.invokestatic 304, 3) := dk_184 1 48 (dk_at dksX4_why_1 19 rfl rfl)
theorem dX4_why_46 : decode cX4_why 46 = .ok (.invokevirtual 228, 3) := dk_182 0 228 (dk_at dksX4_why_2 0 rfl rfl)
theorem dX4_why_49 : decode cX4_why 49 = .ok (.ifCond .eq 5, 3) := dk_153 0 5 (dk_at dksX4_why_2 3 rfl rfl)
theorem dX4_why_52 : decode cX4_why 52 = .ok (.iconst (-1), 1) := dk_2 (dk_at dksX4_why_2 6 rfl rfl)
theorem dX4_why_53 : decode cX4_why 53 = .ok (.ireturn, 1) := dk_172 (dk_at dksX4_why_2 7 rfl rfl)
theorem dX4_why_54 : decode cX4_why 54 = .ok (.aload_n 0, 1) := dk_42 (dk_at dksX4_why_2 8 rfl rfl)
theorem dX4_why_55 : decode cX4_why 55 = .ok (.invokevirtual 342, 3) := dk_182 1 86 (dk_at dksX4_why_2 9 rfl rfl)
theorem dX4_why_58 : decode cX4_why 58 = .ok (.aload_n 0, 1) := dk_42 (dk_at dksX4_why_2 12 rfl rfl)
theorem dX4_why_59 : decode cX4_why 59 = .ok (.iload_n 1, 1) := dk_27 (dk_at dksX4_why_2 13 rfl rfl)
theorem dX4_why_60 : decode cX4_why 60 = .ok (.iload_n 2, 1) := dk_28 (dk_at dksX4_why_2 14 rfl rfl)
theorem dX4_why_61 : decode cX4_why 61 = .ok (.iload_n 3, 1) := dk_29 (dk_at dksX4_why_2 15 rfl rfl)
theorem dX4_why_62 : decode cX4_why 62 = .ok (.invokevirtual 375, 3) := dk_182 1 119 (dk_at dksX4_why_2 16 rfl rfl)
theorem dX4_why_65 : decode cX4_why 65 = .ok (.istore 5, 2) := dk_54 5 (dk_at dksX4_why_2 19 rfl rfl)
theorem dX4_why_67 : decode cX4_why 67 = .ok (.aload_n 0, 1) := dk_42 (dk_at dksX4_why_2 21 rfl rfl)
theorem dX4_why_68 : decode cX4_why 68 = .ok (.invokevirtual 348, 3) := dk_182 1 92 (dk_at dksX4_why_3 0 rfl rfl)
theorem dX4_why_71 : decode cX4_why 71 = .ok (.iload 4, 2) := dk_21 4 (dk_at dksX4_why_3 3 rfl rfl)
theorem dX4_why_73 : decode cX4_why 73 = .ok (.iload 5, 2) := dk_21 5 (dk_at dksX4_why_3 5 rfl rfl)
theorem dX4_why_75 : decode cX4_why 75 = .ok (.if_icmp .ge 10, 3) := dk_162 0 10 (dk_at dksX4_why_3 7 rfl rfl)
theorem dX4_why_78 : decode cX4_why 78 = .ok (.iload 4, 2) := dk_21 4 (dk_at dksX4_why_3 10 rfl rfl)
theorem dX4_why_80 : decode cX4_why 80 = .ok (.iconst 1, 1) := dk_4 (dk_at dksX4_why_3 12 rfl rfl)
theorem dX4_why_81 : decode cX4_why 81 = .ok (.iadd, 1) := dk_96 (dk_at dksX4_why_3 13 rfl rfl)
theorem dX4_why_82 : decode cX4_why 82 = .ok (.goto 4, 3) := dk_167 0 4 (dk_at dksX4_why_3 14 rfl rfl)
theorem dX4_why_85 : decode cX4_why 85 = .ok (.iconst 0, 1) := dk_3 (dk_at dksX4_why_3 17 rfl rfl)
theorem dX4_why_86 : decode cX4_why 86 = .ok (.ireturn, 1) := dk_172 (dk_at dksX4_why_3 18 rfl rfl)
abbrev cX4_causes : ByteArray := prog_15_method_99_code
def yX4_causes : MethodName := ⟨RX4, "causes", "(III)I"⟩
def dkwX4_causes_6 : List UInt8 := [167, 0, 4, 7, 172]
abbrev dktX4_causes_6 : List UInt8 := dkwX4_causes_6 ++ []
def dkwX4_causes_5 : List UInt8 := [182, 1, 55, 16, 254, 159, 0, 5, 5, 172, 42, 27, 28, 3, 182, 1, 55, 16, 254, 159, 0, 7, 6]
abbrev dktX4_causes_5 : List UInt8 := dkwX4_causes_5 ++ dktX4_causes_6
def dkwX4_causes_4 : List UInt8 := [79, 42, 180, 0, 17, 16, 15, 21, 4, 96, 16, 254, 79, 132, 4, 1, 167, 255, 220, 42, 27, 28, 29]
abbrev dktX4_causes_4 : List UInt8 := dkwX4_causes_4 ++ dktX4_causes_5
def dkwX4_causes_3 : List UInt8 := [172, 3, 54, 4, 21, 4, 42, 180, 0, 17, 4, 46, 162, 0, 31, 42, 180, 0, 17, 8, 21, 4, 96, 3]
abbrev dktX4_causes_3 : List UInt8 := dkwX4_causes_3 ++ dktX4_causes_4
def dkwX4_causes_2 : List UInt8 := [184, 0, 209, 4, 79, 132, 4, 1, 167, 255, 217, 42, 27, 28, 29, 182, 1, 55, 16, 254, 159, 0, 5, 4]
abbrev dktX4_causes_2 : List UInt8 := dkwX4_causes_2 ++ dktX4_causes_3
def dkwX4_causes_1 : List UInt8 := [46, 162, 0, 34, 42, 180, 0, 17, 21, 4, 8, 184, 0, 209, 3, 79, 42, 180, 0, 17, 21, 4, 16, 6]
abbrev dktX4_causes_1 : List UInt8 := dkwX4_causes_1 ++ dktX4_causes_2
def dkwX4_causes_0 : List UInt8 := [42, 27, 28, 29, 182, 1, 55, 16, 254, 159, 0, 5, 3, 172, 3, 54, 4, 21, 4, 42, 180, 0, 17, 7]
abbrev dktX4_causes_0 : List UInt8 := dkwX4_causes_0 ++ dktX4_causes_1
theorem dksX4_causes_0 : cX4_causes.data.toList.drop 0 = dktX4_causes_0 := by decide +kernel
theorem dksX4_causes_1 : cX4_causes.data.toList.drop 24 = dktX4_causes_1 := dk_seg dksX4_causes_0 24 rfl rfl
theorem dksX4_causes_2 : cX4_causes.data.toList.drop 48 = dktX4_causes_2 := dk_seg dksX4_causes_1 24 rfl rfl
theorem dksX4_causes_3 : cX4_causes.data.toList.drop 72 = dktX4_causes_3 := dk_seg dksX4_causes_2 24 rfl rfl
theorem dksX4_causes_4 : cX4_causes.data.toList.drop 96 = dktX4_causes_4 := dk_seg dksX4_causes_3 24 rfl rfl
theorem dksX4_causes_5 : cX4_causes.data.toList.drop 119 = dktX4_causes_5 := dk_seg dksX4_causes_4 23 rfl rfl
theorem dksX4_causes_6 : cX4_causes.data.toList.drop 142 = dktX4_causes_6 := dk_seg dksX4_causes_5 23 rfl rfl
theorem dX4_causes_0 : decode cX4_causes 0 = .ok (.aload_n 0, 1) := dk_42 (dk_at dksX4_causes_0 0 rfl rfl)
theorem dX4_causes_1 : decode cX4_causes 1 = .ok (.iload_n 1, 1) := dk_27 (dk_at dksX4_causes_0 1 rfl rfl)
theorem dX4_causes_2 : decode cX4_causes 2 = .ok (.iload_n 2, 1) := dk_28 (dk_at dksX4_causes_0 2 rfl rfl)
theorem dX4_causes_3 : decode cX4_causes 3 = .ok (.iload_n 3, 1) := dk_29 (dk_at dksX4_causes_0 3 rfl rfl)
theorem dX4_causes_4 : decode cX4_causes 4 = .ok (.invokevirtual 311, 3) := dk_182 1 55 (dk_at dksX4_causes_0 4 rfl rfl)
theorem dX4_causes_7 : decode cX4_causes 7 = .ok (.bipush (-2), 2) := dk_16 254 (dk_at dksX4_causes_0 7 rfl rfl)
theorem dX4_causes_9 : decode cX4_causes 9 = .ok (.if_icmp .eq 5, 3) := dk_159 0 5 (dk_at dksX4_causes_0 9 rfl rfl)
theorem dX4_causes_12 : decode cX4_causes 12 = .ok (.iconst 0, 1) := dk_3 (dk_at dksX4_causes_0 12 rfl rfl)
theorem dX4_causes_13 : decode cX4_causes 13 = .ok (.ireturn, 1) := dk_172 (dk_at dksX4_causes_0 13 rfl rfl)
theorem dX4_causes_14 : decode cX4_causes 14 = .ok (.iconst 0, 1) := dk_3 (dk_at dksX4_causes_0 14 rfl rfl)
theorem dX4_causes_15 : decode cX4_causes 15 = .ok (.istore 4, 2) := dk_54 4 (dk_at dksX4_causes_0 15 rfl rfl)
theorem dX4_causes_17 : decode cX4_causes 17 = .ok (.iload 4, 2) := dk_21 4 (dk_at dksX4_causes_0 17 rfl rfl)
theorem dX4_causes_19 : decode cX4_causes 19 = .ok (.aload_n 0, 1) := dk_42 (dk_at dksX4_causes_0 19 rfl rfl)
theorem dX4_causes_20 : decode cX4_causes 20 = .ok (.getfield 17, 3) := dk_180 0 17 (dk_at dksX4_causes_0 20 rfl rfl)
theorem dX4_causes_23 : decode cX4_causes 23 = .ok (.iconst 4, 1) := dk_7 (dk_at dksX4_causes_0 23 rfl rfl)
theorem dX4_causes_24 : decode cX4_causes 24 = .ok (.iaload, 1) := dk_46 (dk_at dksX4_causes_1 0 rfl rfl)
theorem dX4_causes_25 : decode cX4_causes 25 = .ok (.if_icmp .ge 34, 3) := dk_162 0 34 (dk_at dksX4_causes_1 1 rfl rfl)
theorem dX4_causes_28 : decode cX4_causes 28 = .ok (.aload_n 0, 1) := dk_42 (dk_at dksX4_causes_1 4 rfl rfl)
theorem dX4_causes_29 : decode cX4_causes 29 = .ok (.getfield 17, 3) := dk_180 0 17 (dk_at dksX4_causes_1 5 rfl rfl)
theorem dX4_causes_32 : decode cX4_causes 32 = .ok (.iload 4, 2) := dk_21 4 (dk_at dksX4_causes_1 8 rfl rfl)
theorem dX4_causes_34 : decode cX4_causes 34 = .ok (.iconst 5, 1) := dk_8 (dk_at dksX4_causes_1 10 rfl rfl)
theorem dX4_causes_35 : decode cX4_causes 35 = .ok (.invokestatic 209, 3) := dk_184 0 209 (dk_at dksX4_causes_1 11 rfl rfl)
theorem dX4_causes_38 : decode cX4_causes 38 = .ok (.iconst 0, 1) := dk_3 (dk_at dksX4_causes_1 14 rfl rfl)
theorem dX4_causes_39 : decode cX4_causes 39 = .ok (.iastore, 1) := dk_79 (dk_at dksX4_causes_1 15 rfl rfl)
theorem dX4_causes_40 : decode cX4_causes 40 = .ok (.aload_n 0, 1) := dk_42 (dk_at dksX4_causes_1 16 rfl rfl)
theorem dX4_causes_41 : decode cX4_causes 41 = .ok (.getfield 17, 3) := dk_180 0 17 (dk_at dksX4_causes_1 17 rfl rfl)
theorem dX4_causes_44 : decode cX4_causes 44 = .ok (.iload 4, 2) := dk_21 4 (dk_at dksX4_causes_1 20 rfl rfl)
theorem dX4_causes_46 : decode cX4_causes 46 = .ok (.bipush 6, 2) := dk_16 6 (dk_at dksX4_causes_1 22 rfl rfl)
theorem dX4_causes_48 : decode cX4_causes 48 = .ok (.invokestatic 209, 3) := dk_184 0 209 (dk_at dksX4_causes_2 0 rfl rfl)
theorem dX4_causes_51 : decode cX4_causes 51 = .ok (.iconst 1, 1) := dk_4 (dk_at dksX4_causes_2 3 rfl rfl)
theorem dX4_causes_52 : decode cX4_causes 52 = .ok (.iastore, 1) := dk_79 (dk_at dksX4_causes_2 4 rfl rfl)
theorem dX4_causes_53 : decode cX4_causes 53 = .ok (.iinc 4 1, 3) := dk_132 4 1 (dk_at dksX4_causes_2 5 rfl rfl)
theorem dX4_causes_56 : decode cX4_causes 56 = .ok (.goto (-39), 3) := dk_167 255 217 (dk_at dksX4_causes_2 8 rfl rfl)
theorem dX4_causes_59 : decode cX4_causes 59 = .ok (.aload_n 0, 1) := dk_42 (dk_at dksX4_causes_2 11 rfl rfl)
theorem dX4_causes_60 : decode cX4_causes 60 = .ok (.iload_n 1, 1) := dk_27 (dk_at dksX4_causes_2 12 rfl rfl)
theorem dX4_causes_61 : decode cX4_causes 61 = .ok (.iload_n 2, 1) := dk_28 (dk_at dksX4_causes_2 13 rfl rfl)
theorem dX4_causes_62 : decode cX4_causes 62 = .ok (.iload_n 3, 1) := dk_29 (dk_at dksX4_causes_2 14 rfl rfl)
theorem dX4_causes_63 : decode cX4_causes 63 = .ok (.invokevirtual 311, 3) := dk_182 1 55 (dk_at dksX4_causes_2 15 rfl rfl)
theorem dX4_causes_66 : decode cX4_causes 66 = .ok (.bipush (-2), 2) := dk_16 254 (dk_at dksX4_causes_2 18 rfl rfl)
theorem dX4_causes_68 : decode cX4_causes 68 = .ok (.if_icmp .eq 5, 3) := dk_159 0 5 (dk_at dksX4_causes_2 20 rfl rfl)
theorem dX4_causes_71 : decode cX4_causes 71 = .ok (.iconst 1, 1) := dk_4 (dk_at dksX4_causes_2 23 rfl rfl)
theorem dX4_causes_72 : decode cX4_causes 72 = .ok (.ireturn, 1) := dk_172 (dk_at dksX4_causes_3 0 rfl rfl)
theorem dX4_causes_73 : decode cX4_causes 73 = .ok (.iconst 0, 1) := dk_3 (dk_at dksX4_causes_3 1 rfl rfl)
theorem dX4_causes_74 : decode cX4_causes 74 = .ok (.istore 4, 2) := dk_54 4 (dk_at dksX4_causes_3 2 rfl rfl)
theorem dX4_causes_76 : decode cX4_causes 76 = .ok (.iload 4, 2) := dk_21 4 (dk_at dksX4_causes_3 4 rfl rfl)
theorem dX4_causes_78 : decode cX4_causes 78 = .ok (.aload_n 0, 1) := dk_42 (dk_at dksX4_causes_3 6 rfl rfl)
theorem dX4_causes_79 : decode cX4_causes 79 = .ok (.getfield 17, 3) := dk_180 0 17 (dk_at dksX4_causes_3 7 rfl rfl)
theorem dX4_causes_82 : decode cX4_causes 82 = .ok (.iconst 1, 1) := dk_4 (dk_at dksX4_causes_3 10 rfl rfl)
theorem dX4_causes_83 : decode cX4_causes 83 = .ok (.iaload, 1) := dk_46 (dk_at dksX4_causes_3 11 rfl rfl)
theorem dX4_causes_84 : decode cX4_causes 84 = .ok (.if_icmp .ge 31, 3) := dk_162 0 31 (dk_at dksX4_causes_3 12 rfl rfl)
theorem dX4_causes_87 : decode cX4_causes 87 = .ok (.aload_n 0, 1) := dk_42 (dk_at dksX4_causes_3 15 rfl rfl)
theorem dX4_causes_88 : decode cX4_causes 88 = .ok (.getfield 17, 3) := dk_180 0 17 (dk_at dksX4_causes_3 16 rfl rfl)
theorem dX4_causes_91 : decode cX4_causes 91 = .ok (.iconst 5, 1) := dk_8 (dk_at dksX4_causes_3 19 rfl rfl)
theorem dX4_causes_92 : decode cX4_causes 92 = .ok (.iload 4, 2) := dk_21 4 (dk_at dksX4_causes_3 20 rfl rfl)
theorem dX4_causes_94 : decode cX4_causes 94 = .ok (.iadd, 1) := dk_96 (dk_at dksX4_causes_3 22 rfl rfl)
theorem dX4_causes_95 : decode cX4_causes 95 = .ok (.iconst 0, 1) := dk_3 (dk_at dksX4_causes_3 23 rfl rfl)
theorem dX4_causes_96 : decode cX4_causes 96 = .ok (.iastore, 1) := dk_79 (dk_at dksX4_causes_4 0 rfl rfl)
theorem dX4_causes_97 : decode cX4_causes 97 = .ok (.aload_n 0, 1) := dk_42 (dk_at dksX4_causes_4 1 rfl rfl)
theorem dX4_causes_98 : decode cX4_causes 98 = .ok (.getfield 17, 3) := dk_180 0 17 (dk_at dksX4_causes_4 2 rfl rfl)
theorem dX4_causes_101 : decode cX4_causes 101 = .ok (.bipush 15, 2) := dk_16 15 (dk_at dksX4_causes_4 5 rfl rfl)
theorem dX4_causes_103 : decode cX4_causes 103 = .ok (.iload 4, 2) := dk_21 4 (dk_at dksX4_causes_4 7 rfl rfl)
theorem dX4_causes_105 : decode cX4_causes 105 = .ok (.iadd, 1) := dk_96 (dk_at dksX4_causes_4 9 rfl rfl)
theorem dX4_causes_106 : decode cX4_causes 106 = .ok (.bipush (-2), 2) := dk_16 254 (dk_at dksX4_causes_4 10 rfl rfl)
theorem dX4_causes_108 : decode cX4_causes 108 = .ok (.iastore, 1) := dk_79 (dk_at dksX4_causes_4 12 rfl rfl)
theorem dX4_causes_109 : decode cX4_causes 109 = .ok (.iinc 4 1, 3) := dk_132 4 1 (dk_at dksX4_causes_4 13 rfl rfl)
theorem dX4_causes_112 : decode cX4_causes 112 = .ok (.goto (-36), 3) := dk_167 255 220 (dk_at dksX4_causes_4 16 rfl rfl)
theorem dX4_causes_115 : decode cX4_causes 115 = .ok (.aload_n 0, 1) := dk_42 (dk_at dksX4_causes_4 19 rfl rfl)
theorem dX4_causes_116 : decode cX4_causes 116 = .ok (.iload_n 1, 1) := dk_27 (dk_at dksX4_causes_4 20 rfl rfl)
theorem dX4_causes_117 : decode cX4_causes 117 = .ok (.iload_n 2, 1) := dk_28 (dk_at dksX4_causes_4 21 rfl rfl)
theorem dX4_causes_118 : decode cX4_causes 118 = .ok (.iload_n 3, 1) := dk_29 (dk_at dksX4_causes_4 22 rfl rfl)
theorem dX4_causes_119 : decode cX4_causes 119 = .ok (.invokevirtual 311, 3) := dk_182 1 55 (dk_at dksX4_causes_5 0 rfl rfl)
theorem dX4_causes_122 : decode cX4_causes 122 = .ok (.bipush (-2), 2) := dk_16 254 (dk_at dksX4_causes_5 3 rfl rfl)
theorem dX4_causes_124 : decode cX4_causes 124 = .ok (.if_icmp .eq 5, 3) := dk_159 0 5 (dk_at dksX4_causes_5 5 rfl rfl)
theorem dX4_causes_127 : decode cX4_causes 127 = .ok (.iconst 2, 1) := dk_5 (dk_at dksX4_causes_5 8 rfl rfl)
theorem dX4_causes_128 : decode cX4_causes 128 = .ok (.ireturn, 1) := dk_172 (dk_at dksX4_causes_5 9 rfl rfl)
theorem dX4_causes_129 : decode cX4_causes 129 = .ok (.aload_n 0, 1) := dk_42 (dk_at dksX4_causes_5 10 rfl rfl)
theorem dX4_causes_130 : decode cX4_causes 130 = .ok (.iload_n 1, 1) := dk_27 (dk_at dksX4_causes_5 11 rfl rfl)
theorem dX4_causes_131 : decode cX4_causes 131 = .ok (.iload_n 2, 1) := dk_28 (dk_at dksX4_causes_5 12 rfl rfl)
theorem dX4_causes_132 : decode cX4_causes 132 = .ok (.iconst 0, 1) := dk_3 (dk_at dksX4_causes_5 13 rfl rfl)
theorem dX4_causes_133 : decode cX4_causes 133 = .ok (.invokevirtual 311, 3) := dk_182 1 55 (dk_at dksX4_causes_5 14 rfl rfl)
theorem dX4_causes_136 : decode cX4_causes 136 = .ok (.bipush (-2), 2) := dk_16 254 (dk_at dksX4_causes_5 17 rfl rfl)
theorem dX4_causes_138 : decode cX4_causes 138 = .ok (.if_icmp .eq 7, 3) := dk_159 0 7 (dk_at dksX4_causes_5 19 rfl rfl)
theorem dX4_causes_141 : decode cX4_causes 141 = .ok (.iconst 3, 1) := dk_6 (dk_at dksX4_causes_5 22 rfl rfl)
theorem dX4_causes_142 : decode cX4_causes 142 = .ok (.goto 4, 3) := dk_167 0 4 (dk_at dksX4_causes_6 0 rfl rfl)
theorem dX4_causes_145 : decode cX4_causes 145 = .ok (.iconst 4, 1) := dk_7 (dk_at dksX4_causes_6 3 rfl rfl)
theorem dX4_causes_146 : decode cX4_causes 146 = .ok (.ireturn, 1) := dk_172 (dk_at dksX4_causes_6 4 rfl rfl)
abbrev cX4_cancel : ByteArray := prog_15_method_103_code
def yX4_cancel : MethodName := ⟨RX4, "cancel", "(I)I"⟩
def dkwX4_cancel_2 : List UInt8 := [42, 182, 1, 4, 172]
abbrev dktX4_cancel_2 : List UInt8 := dkwX4_cancel_2 ++ []
def dkwX4_cancel_1 : List UInt8 := [167, 0, 4, 8, 182, 0, 228, 153, 0, 5, 2, 172, 42, 27, 16, 6, 184, 0, 209, 3, 182, 1, 125, 61]
abbrev dktX4_cancel_1 : List UInt8 := dkwX4_cancel_1 ++ dktX4_cancel_2
def dkwX4_cancel_0 : List UInt8 := [42, 42, 27, 182, 1, 13, 154, 0, 7, 4, 167, 0, 16, 42, 27, 182, 0, 253, 153, 0, 7, 3]
abbrev dktX4_cancel_0 : List UInt8 := dkwX4_cancel_0 ++ dktX4_cancel_1
theorem dksX4_cancel_0 : cX4_cancel.data.toList.drop 0 = dktX4_cancel_0 := by decide +kernel
theorem dksX4_cancel_1 : cX4_cancel.data.toList.drop 22 = dktX4_cancel_1 := dk_seg dksX4_cancel_0 22 rfl rfl
theorem dksX4_cancel_2 : cX4_cancel.data.toList.drop 46 = dktX4_cancel_2 := dk_seg dksX4_cancel_1 24 rfl rfl
theorem dX4_cancel_0 : decode cX4_cancel 0 = .ok (.aload_n 0, 1) := dk_42 (dk_at dksX4_cancel_0 0 rfl rfl)
theorem dX4_cancel_1 : decode cX4_cancel 1 = .ok (.aload_n 0, 1) := dk_42 (dk_at dksX4_cancel_0 1 rfl rfl)
theorem dX4_cancel_2 : decode cX4_cancel 2 = .ok (.iload_n 1, 1) := dk_27 (dk_at dksX4_cancel_0 2 rfl rfl)
theorem dX4_cancel_3 : decode cX4_cancel 3 = .ok (.invokevirtual 269, 3) := dk_182 1 13 (dk_at dksX4_cancel_0 3 rfl rfl)
theorem dX4_cancel_6 : decode cX4_cancel 6 = .ok (.ifCond .ne 7, 3) := dk_154 0 7 (dk_at dksX4_cancel_0 6 rfl rfl)
theorem dX4_cancel_9 : decode cX4_cancel 9 = .ok (.iconst 1, 1) := dk_4 (dk_at dksX4_cancel_0 9 rfl rfl)
theorem dX4_cancel_10 : decode cX4_cancel 10 = .ok (.goto 16, 3) := dk_167 0 16 (dk_at dksX4_cancel_0 10 rfl rfl)
theorem dX4_cancel_13 : decode cX4_cancel 13 = .ok (.aload_n 0, 1) := dk_42 (dk_at dksX4_cancel_0 13 rfl rfl)
theorem dX4_cancel_14 : decode cX4_cancel 14 = .ok (.iload_n 1, 1) := dk_27 (dk_at dksX4_cancel_0 14 rfl rfl)
theorem dX4_cancel_15 : decode cX4_cancel 15 = .ok (.invokevirtual 253, 3) := dk_182 0 253 (dk_at dksX4_cancel_0 15 rfl rfl)
theorem dX4_cancel_18 : decode cX4_cancel 18 = .ok (.ifCond .eq 7, 3) := dk_153 0 7 (dk_at dksX4_cancel_0 18 rfl rfl)
theorem dX4_cancel_21 : decode cX4_cancel 21 = .ok (.iconst 0, 1) := dk_3 (dk_at dksX4_cancel_0 21 rfl rfl)
theorem dX4_cancel_22 : decode cX4_cancel 22 = .ok (.goto 4, 3) := dk_167 0 4 (dk_at dksX4_cancel_1 0 rfl rfl)
theorem dX4_cancel_25 : decode cX4_cancel 25 = .ok (.iconst 5, 1) := dk_8 (dk_at dksX4_cancel_1 3 rfl rfl)
theorem dX4_cancel_26 : decode cX4_cancel 26 = .ok (.invokevirtual 228, 3) := dk_182 0 228 (dk_at dksX4_cancel_1 4 rfl rfl)
theorem dX4_cancel_29 : decode cX4_cancel 29 = .ok (.ifCond .eq 5, 3) := dk_153 0 5 (dk_at dksX4_cancel_1 7 rfl rfl)
theorem dX4_cancel_32 : decode cX4_cancel 32 = .ok (.iconst (-1), 1) := dk_2 (dk_at dksX4_cancel_1 10 rfl rfl)
theorem dX4_cancel_33 : decode cX4_cancel 33 = .ok (.ireturn, 1) := dk_172 (dk_at dksX4_cancel_1 11 rfl rfl)
theorem dX4_cancel_34 : decode cX4_cancel 34 = .ok (.aload_n 0, 1) := dk_42 (dk_at dksX4_cancel_1 12 rfl rfl)
theorem dX4_cancel_35 : decode cX4_cancel 35 = .ok (.iload_n 1, 1) := dk_27 (dk_at dksX4_cancel_1 13 rfl rfl)
theorem dX4_cancel_36 : decode cX4_cancel 36 = .ok (.bipush 6, 2) := dk_16 6 (dk_at dksX4_cancel_1 14 rfl rfl)
theorem dX4_cancel_38 : decode cX4_cancel 38 = .ok (.invokestatic 209, 3) := dk_184 0 209 (dk_at dksX4_cancel_1 16 rfl rfl)
theorem dX4_cancel_41 : decode cX4_cancel 41 = .ok (.iconst 0, 1) := dk_3 (dk_at dksX4_cancel_1 19 rfl rfl)
theorem dX4_cancel_42 : decode cX4_cancel 42 = .ok (.invokevirtual 381, 3) := dk_182 1 125 (dk_at dksX4_cancel_1 20 rfl rfl)
theorem dX4_cancel_45 : decode cX4_cancel 45 = .ok (.istore_n 2, 1) := dk_61 (dk_at dksX4_cancel_1 23 rfl rfl)
theorem dX4_cancel_46 : decode cX4_cancel 46 = .ok (.aload_n 0, 1) := dk_42 (dk_at dksX4_cancel_2 0 rfl rfl)
theorem dX4_cancel_47 : decode cX4_cancel 47 = .ok (.invokevirtual 260, 3) := dk_182 1 4 (dk_at dksX4_cancel_2 1 rfl rfl)
theorem dX4_cancel_50 : decode cX4_cancel 50 = .ok (.ireturn, 1) := dk_172 (dk_at dksX4_cancel_2 4 rfl rfl)
abbrev cX4_puts : ByteArray := prog_15_method_102_code
def yX4_puts : MethodName := ⟨RX4, "puts", "(II)I"⟩
def dkwX4_puts_0 : List UInt8 := [42, 182, 1, 122, 42, 180, 0, 17, 27, 46, 62, 42, 180, 0, 17, 27, 28, 79, 29, 172]
abbrev dktX4_puts_0 : List UInt8 := dkwX4_puts_0 ++ []
theorem dksX4_puts_0 : cX4_puts.data.toList.drop 0 = dktX4_puts_0 := by decide +kernel
theorem dX4_puts_0 : decode cX4_puts 0 = .ok (.aload_n 0, 1) := dk_42 (dk_at dksX4_puts_0 0 rfl rfl)
theorem dX4_puts_1 : decode cX4_puts 1 = .ok (.invokevirtual 378, 3) := dk_182 1 122 (dk_at dksX4_puts_0 1 rfl rfl)
theorem dX4_puts_4 : decode cX4_puts 4 = .ok (.aload_n 0, 1) := dk_42 (dk_at dksX4_puts_0 4 rfl rfl)
theorem dX4_puts_5 : decode cX4_puts 5 = .ok (.getfield 17, 3) := dk_180 0 17 (dk_at dksX4_puts_0 5 rfl rfl)
theorem dX4_puts_8 : decode cX4_puts 8 = .ok (.iload_n 1, 1) := dk_27 (dk_at dksX4_puts_0 8 rfl rfl)
theorem dX4_puts_9 : decode cX4_puts 9 = .ok (.iaload, 1) := dk_46 (dk_at dksX4_puts_0 9 rfl rfl)
theorem dX4_puts_10 : decode cX4_puts 10 = .ok (.istore_n 3, 1) := dk_62 (dk_at dksX4_puts_0 10 rfl rfl)
theorem dX4_puts_11 : decode cX4_puts 11 = .ok (.aload_n 0, 1) := dk_42 (dk_at dksX4_puts_0 11 rfl rfl)
theorem dX4_puts_12 : decode cX4_puts 12 = .ok (.getfield 17, 3) := dk_180 0 17 (dk_at dksX4_puts_0 12 rfl rfl)
theorem dX4_puts_15 : decode cX4_puts 15 = .ok (.iload_n 1, 1) := dk_27 (dk_at dksX4_puts_0 15 rfl rfl)
theorem dX4_puts_16 : decode cX4_puts 16 = .ok (.iload_n 2, 1) := dk_28 (dk_at dksX4_puts_0 16 rfl rfl)
theorem dX4_puts_17 : decode cX4_puts 17 = .ok (.iastore, 1) := dk_79 (dk_at dksX4_puts_0 17 rfl rfl)
theorem dX4_puts_18 : decode cX4_puts 18 = .ok (.iload_n 3, 1) := dk_29 (dk_at dksX4_puts_0 18 rfl rfl)
theorem dX4_puts_19 : decode cX4_puts 19 = .ok (.ireturn, 1) := dk_172 (dk_at dksX4_puts_0 19 rfl rfl)
abbrev cX4_keeps : ByteArray := prog_15_method_101_code
def yX4_keeps : MethodName := ⟨RX4, "keeps", "()V"⟩
def dkwX4_keeps_3 : List UInt8 := [89, 180, 0, 247, 4, 96, 181, 0, 247, 177]
abbrev dktX4_keeps_3 : List UInt8 := dkwX4_keeps_3 ++ []
def dkwX4_keeps_2 : List UInt8 := [181, 0, 247, 42, 180, 0, 17, 3, 42, 180, 0, 26, 17, 3, 217, 42, 180, 0, 247, 104, 184, 0, 240, 42]
abbrev dktX4_keeps_2 : List UInt8 := dkwX4_keeps_2 ++ dktX4_keeps_3
def dkwX4_keeps_1 : List UInt8 := [180, 0, 26, 27, 17, 3, 217, 96, 46, 79, 132, 1, 1, 167, 255, 230, 42, 89, 180, 0, 247, 4, 100]
abbrev dktX4_keeps_1 : List UInt8 := dkwX4_keeps_1 ++ dktX4_keeps_2
def dkwX4_keeps_0 : List UInt8 := [42, 180, 0, 247, 16, 10, 160, 0, 44, 3, 60, 27, 17, 34, 161, 162, 0, 25, 42, 180, 0, 26, 27, 42]
abbrev dktX4_keeps_0 : List UInt8 := dkwX4_keeps_0 ++ dktX4_keeps_1
theorem dksX4_keeps_0 : cX4_keeps.data.toList.drop 0 = dktX4_keeps_0 := by decide +kernel
theorem dksX4_keeps_1 : cX4_keeps.data.toList.drop 24 = dktX4_keeps_1 := dk_seg dksX4_keeps_0 24 rfl rfl
theorem dksX4_keeps_2 : cX4_keeps.data.toList.drop 47 = dktX4_keeps_2 := dk_seg dksX4_keeps_1 23 rfl rfl
theorem dksX4_keeps_3 : cX4_keeps.data.toList.drop 71 = dktX4_keeps_3 := dk_seg dksX4_keeps_2 24 rfl rfl
theorem dX4_keeps_0 : decode cX4_keeps 0 = .ok (.aload_n 0, 1) := dk_42 (dk_at dksX4_keeps_0 0 rfl rfl)
theorem dX4_keeps_1 : decode cX4_keeps 1 = .ok (.getfield 247, 3) := dk_180 0 247 (dk_at dksX4_keeps_0 1 rfl rfl)
theorem dX4_keeps_4 : decode cX4_keeps 4 = .ok (.bipush 10, 2) := dk_16 10 (dk_at dksX4_keeps_0 4 rfl rfl)
theorem dX4_keeps_6 : decode cX4_keeps 6 = .ok (.if_icmp .ne 44, 3) := dk_160 0 44 (dk_at dksX4_keeps_0 6 rfl rfl)
theorem dX4_keeps_9 : decode cX4_keeps 9 = .ok (.iconst 0, 1) := dk_3 (dk_at dksX4_keeps_0 9 rfl rfl)
theorem dX4_keeps_10 : decode cX4_keeps 10 = .ok (.istore_n 1, 1) := dk_60 (dk_at dksX4_keeps_0 10 rfl rfl)
theorem dX4_keeps_11 : decode cX4_keeps 11 = .ok (.iload_n 1, 1) := dk_27 (dk_at dksX4_keeps_0 11 rfl rfl)
theorem dX4_keeps_12 : decode cX4_keeps 12 = .ok (.sipush 8865, 3) := dk_17 34 161 (dk_at dksX4_keeps_0 12 rfl rfl)
theorem dX4_keeps_15 : decode cX4_keeps 15 = .ok (.if_icmp .ge 25, 3) := dk_162 0 25 (dk_at dksX4_keeps_0 15 rfl rfl)
theorem dX4_keeps_18 : decode cX4_keeps 18 = .ok (.aload_n 0, 1) := dk_42 (dk_at dksX4_keeps_0 18 rfl rfl)
theorem dX4_keeps_19 : decode cX4_keeps 19 = .ok (.getfield 26, 3) := dk_180 0 26 (dk_at dksX4_keeps_0 19 rfl rfl)
theorem dX4_keeps_22 : decode cX4_keeps 22 = .ok (.iload_n 1, 1) := dk_27 (dk_at dksX4_keeps_0 22 rfl rfl)
theorem dX4_keeps_23 : decode cX4_keeps 23 = .ok (.aload_n 0, 1) := dk_42 (dk_at dksX4_keeps_0 23 rfl rfl)
theorem dX4_keeps_24 : decode cX4_keeps 24 = .ok (.getfield 26, 3) := dk_180 0 26 (dk_at dksX4_keeps_1 0 rfl rfl)
theorem dX4_keeps_27 : decode cX4_keeps 27 = .ok (.iload_n 1, 1) := dk_27 (dk_at dksX4_keeps_1 3 rfl rfl)
theorem dX4_keeps_28 : decode cX4_keeps 28 = .ok (.sipush 985, 3) := dk_17 3 217 (dk_at dksX4_keeps_1 4 rfl rfl)
theorem dX4_keeps_31 : decode cX4_keeps 31 = .ok (.iadd, 1) := dk_96 (dk_at dksX4_keeps_1 7 rfl rfl)
theorem dX4_keeps_32 : decode cX4_keeps 32 = .ok (.iaload, 1) := dk_46 (dk_at dksX4_keeps_1 8 rfl rfl)
theorem dX4_keeps_33 : decode cX4_keeps 33 = .ok (.iastore, 1) := dk_79 (dk_at dksX4_keeps_1 9 rfl rfl)
theorem dX4_keeps_34 : decode cX4_keeps 34 = .ok (.iinc 1 1, 3) := dk_132 1 1 (dk_at dksX4_keeps_1 10 rfl rfl)
theorem dX4_keeps_37 : decode cX4_keeps 37 = .ok (.goto (-26), 3) := dk_167 255 230 (dk_at dksX4_keeps_1 13 rfl rfl)
theorem dX4_keeps_40 : decode cX4_keeps 40 = .ok (.aload_n 0, 1) := dk_42 (dk_at dksX4_keeps_1 16 rfl rfl)
theorem dX4_keeps_41 : decode cX4_keeps 41 = .ok (.dup, 1) := dk_89 (dk_at dksX4_keeps_1 17 rfl rfl)
theorem dX4_keeps_42 : decode cX4_keeps 42 = .ok (.getfield 247, 3) := dk_180 0 247 (dk_at dksX4_keeps_1 18 rfl rfl)
theorem dX4_keeps_45 : decode cX4_keeps 45 = .ok (.iconst 1, 1) := dk_4 (dk_at dksX4_keeps_1 21 rfl rfl)
theorem dX4_keeps_46 : decode cX4_keeps 46 = .ok (.isub, 1) := dk_100 (dk_at dksX4_keeps_1 22 rfl rfl)
theorem dX4_keeps_47 : decode cX4_keeps 47 = .ok (.putfield 247, 3) := dk_181 0 247 (dk_at dksX4_keeps_2 0 rfl rfl)
theorem dX4_keeps_50 : decode cX4_keeps 50 = .ok (.aload_n 0, 1) := dk_42 (dk_at dksX4_keeps_2 3 rfl rfl)
theorem dX4_keeps_51 : decode cX4_keeps 51 = .ok (.getfield 17, 3) := dk_180 0 17 (dk_at dksX4_keeps_2 4 rfl rfl)
theorem dX4_keeps_54 : decode cX4_keeps 54 = .ok (.iconst 0, 1) := dk_3 (dk_at dksX4_keeps_2 7 rfl rfl)
theorem dX4_keeps_55 : decode cX4_keeps 55 = .ok (.aload_n 0, 1) := dk_42 (dk_at dksX4_keeps_2 8 rfl rfl)
theorem dX4_keeps_56 : decode cX4_keeps 56 = .ok (.getfield 26, 3) := dk_180 0 26 (dk_at dksX4_keeps_2 9 rfl rfl)
theorem dX4_keeps_59 : decode cX4_keeps 59 = .ok (.sipush 985, 3) := dk_17 3 217 (dk_at dksX4_keeps_2 12 rfl rfl)
theorem dX4_keeps_62 : decode cX4_keeps 62 = .ok (.aload_n 0, 1) := dk_42 (dk_at dksX4_keeps_2 15 rfl rfl)
theorem dX4_keeps_63 : decode cX4_keeps 63 = .ok (.getfield 247, 3) := dk_180 0 247 (dk_at dksX4_keeps_2 16 rfl rfl)
theorem dX4_keeps_66 : decode cX4_keeps 66 = .ok (.imul, 1) := dk_104 (dk_at dksX4_keeps_2 19 rfl rfl)
theorem dX4_keeps_67 : decode cX4_keeps 67 = .ok (.invokestatic 240, 3) := dk_184 0 240 (dk_at dksX4_keeps_2 20 rfl rfl)
theorem dX4_keeps_70 : decode cX4_keeps 70 = .ok (.aload_n 0, 1) := dk_42 (dk_at dksX4_keeps_2 23 rfl rfl)
theorem dX4_keeps_71 : decode cX4_keeps 71 = .ok (.dup, 1) := dk_89 (dk_at dksX4_keeps_3 0 rfl rfl)
theorem dX4_keeps_72 : decode cX4_keeps 72 = .ok (.getfield 247, 3) := dk_180 0 247 (dk_at dksX4_keeps_3 1 rfl rfl)
theorem dX4_keeps_75 : decode cX4_keeps 75 = .ok (.iconst 1, 1) := dk_4 (dk_at dksX4_keeps_3 4 rfl rfl)
theorem dX4_keeps_76 : decode cX4_keeps 76 = .ok (.iadd, 1) := dk_96 (dk_at dksX4_keeps_3 5 rfl rfl)
theorem dX4_keeps_77 : decode cX4_keeps 77 = .ok (.putfield 247, 3) := dk_181 0 247 (dk_at dksX4_keeps_3 6 rfl rfl)
theorem dX4_keeps_80 : decode cX4_keeps 80 = .ok (.return_, 1) := dk_177 (dk_at dksX4_keeps_3 9 rfl rfl)
abbrev cX4_run : ByteArray := prog_15_method_104_code
def yX4_run : MethodName := ⟨RX4, "run", "(I)I"⟩
def dkwX4_run_2 : List UInt8 := [42, 182, 1, 4, 172]
abbrev dktX4_run_2 : List UInt8 := dkwX4_run_2 ++ []
def dkwX4_run_1 : List UInt8 := [167, 0, 4, 3, 182, 0, 228, 153, 0, 5, 2, 172, 42, 27, 16, 6, 184, 0, 209, 4, 182, 1, 125, 61]
abbrev dktX4_run_1 : List UInt8 := dkwX4_run_1 ++ dktX4_run_2
def dkwX4_run_0 : List UInt8 := [42, 42, 27, 182, 1, 13, 154, 0, 7, 4, 167, 0, 16, 42, 27, 182, 0, 253, 153, 0, 7, 8]
abbrev dktX4_run_0 : List UInt8 := dkwX4_run_0 ++ dktX4_run_1
theorem dksX4_run_0 : cX4_run.data.toList.drop 0 = dktX4_run_0 := by decide +kernel
theorem dksX4_run_1 : cX4_run.data.toList.drop 22 = dktX4_run_1 := dk_seg dksX4_run_0 22 rfl rfl
theorem dksX4_run_2 : cX4_run.data.toList.drop 46 = dktX4_run_2 := dk_seg dksX4_run_1 24 rfl rfl
theorem dX4_run_0 : decode cX4_run 0 = .ok (.aload_n 0, 1) := dk_42 (dk_at dksX4_run_0 0 rfl rfl)
theorem dX4_run_1 : decode cX4_run 1 = .ok (.aload_n 0, 1) := dk_42 (dk_at dksX4_run_0 1 rfl rfl)
theorem dX4_run_2 : decode cX4_run 2 = .ok (.iload_n 1, 1) := dk_27 (dk_at dksX4_run_0 2 rfl rfl)
theorem dX4_run_3 : decode cX4_run 3 = .ok (.invokevirtual 269, 3) := dk_182 1 13 (dk_at dksX4_run_0 3 rfl rfl)
theorem dX4_run_6 : decode cX4_run 6 = .ok (.ifCond .ne 7, 3) := dk_154 0 7 (dk_at dksX4_run_0 6 rfl rfl)
theorem dX4_run_9 : decode cX4_run 9 = .ok (.iconst 1, 1) := dk_4 (dk_at dksX4_run_0 9 rfl rfl)
theorem dX4_run_10 : decode cX4_run 10 = .ok (.goto 16, 3) := dk_167 0 16 (dk_at dksX4_run_0 10 rfl rfl)
theorem dX4_run_13 : decode cX4_run 13 = .ok (.aload_n 0, 1) := dk_42 (dk_at dksX4_run_0 13 rfl rfl)
theorem dX4_run_14 : decode cX4_run 14 = .ok (.iload_n 1, 1) := dk_27 (dk_at dksX4_run_0 14 rfl rfl)
theorem dX4_run_15 : decode cX4_run 15 = .ok (.invokevirtual 253, 3) := dk_182 0 253 (dk_at dksX4_run_0 15 rfl rfl)
theorem dX4_run_18 : decode cX4_run 18 = .ok (.ifCond .eq 7, 3) := dk_153 0 7 (dk_at dksX4_run_0 18 rfl rfl)
theorem dX4_run_21 : decode cX4_run 21 = .ok (.iconst 5, 1) := dk_8 (dk_at dksX4_run_0 21 rfl rfl)
theorem dX4_run_22 : decode cX4_run 22 = .ok (.goto 4, 3) := dk_167 0 4 (dk_at dksX4_run_1 0 rfl rfl)
theorem dX4_run_25 : decode cX4_run 25 = .ok (.iconst 0, 1) := dk_3 (dk_at dksX4_run_1 3 rfl rfl)
theorem dX4_run_26 : decode cX4_run 26 = .ok (.invokevirtual 228, 3) := dk_182 0 228 (dk_at dksX4_run_1 4 rfl rfl)
theorem dX4_run_29 : decode cX4_run 29 = .ok (.ifCond .eq 5, 3) := dk_153 0 5 (dk_at dksX4_run_1 7 rfl rfl)
theorem dX4_run_32 : decode cX4_run 32 = .ok (.iconst (-1), 1) := dk_2 (dk_at dksX4_run_1 10 rfl rfl)
theorem dX4_run_33 : decode cX4_run 33 = .ok (.ireturn, 1) := dk_172 (dk_at dksX4_run_1 11 rfl rfl)
theorem dX4_run_34 : decode cX4_run 34 = .ok (.aload_n 0, 1) := dk_42 (dk_at dksX4_run_1 12 rfl rfl)
theorem dX4_run_35 : decode cX4_run 35 = .ok (.iload_n 1, 1) := dk_27 (dk_at dksX4_run_1 13 rfl rfl)
theorem dX4_run_36 : decode cX4_run 36 = .ok (.bipush 6, 2) := dk_16 6 (dk_at dksX4_run_1 14 rfl rfl)
theorem dX4_run_38 : decode cX4_run 38 = .ok (.invokestatic 209, 3) := dk_184 0 209 (dk_at dksX4_run_1 16 rfl rfl)
theorem dX4_run_41 : decode cX4_run 41 = .ok (.iconst 1, 1) := dk_4 (dk_at dksX4_run_1 19 rfl rfl)
theorem dX4_run_42 : decode cX4_run 42 = .ok (.invokevirtual 381, 3) := dk_182 1 125 (dk_at dksX4_run_1 20 rfl rfl)
theorem dX4_run_45 : decode cX4_run 45 = .ok (.istore_n 2, 1) := dk_61 (dk_at dksX4_run_1 23 rfl rfl)
theorem dX4_run_46 : decode cX4_run 46 = .ok (.aload_n 0, 1) := dk_42 (dk_at dksX4_run_2 0 rfl rfl)
theorem dX4_run_47 : decode cX4_run 47 = .ok (.invokevirtual 260, 3) := dk_182 1 4 (dk_at dksX4_run_2 1 rfl rfl)
theorem dX4_run_50 : decode cX4_run 50 = .ok (.ireturn, 1) := dk_172 (dk_at dksX4_run_2 4 rfl rfl)
abbrev cX4_delay : ByteArray := prog_15_method_105_code
def yX4_delay : MethodName := ⟨RX4, "delay", "(II)I"⟩
def dkwX4_delay_1 : List UInt8 := [167, 0, 13, 42, 27, 8, 184, 0, 209, 28, 182, 1, 125, 172]
abbrev dktX4_delay_1 : List UInt8 := dkwX4_delay_1 ++ []
def dkwX4_delay_0 : List UInt8 := [42, 42, 27, 182, 1, 13, 28, 3, 16, 99, 184, 0, 107, 184, 1, 48, 182, 0, 228, 153, 0, 7, 2]
abbrev dktX4_delay_0 : List UInt8 := dkwX4_delay_0 ++ dktX4_delay_1
theorem dksX4_delay_0 : cX4_delay.data.toList.drop 0 = dktX4_delay_0 := by decide +kernel
theorem dksX4_delay_1 : cX4_delay.data.toList.drop 23 = dktX4_delay_1 := dk_seg dksX4_delay_0 23 rfl rfl
theorem dX4_delay_0 : decode cX4_delay 0 = .ok (.aload_n 0, 1) := dk_42 (dk_at dksX4_delay_0 0 rfl rfl)
theorem dX4_delay_1 : decode cX4_delay 1 = .ok (.aload_n 0, 1) := dk_42 (dk_at dksX4_delay_0 1 rfl rfl)
theorem dX4_delay_2 : decode cX4_delay 2 = .ok (.iload_n 1, 1) := dk_27 (dk_at dksX4_delay_0 2 rfl rfl)
theorem dX4_delay_3 : decode cX4_delay 3 = .ok (.invokevirtual 269, 3) := dk_182 1 13 (dk_at dksX4_delay_0 3 rfl rfl)
theorem dX4_delay_6 : decode cX4_delay 6 = .ok (.iload_n 2, 1) := dk_28 (dk_at dksX4_delay_0 6 rfl rfl)
theorem dX4_delay_7 : decode cX4_delay 7 = .ok (.iconst 0, 1) := dk_3 (dk_at dksX4_delay_0 7 rfl rfl)
theorem dX4_delay_8 : decode cX4_delay 8 = .ok (.bipush 99, 2) := dk_16 99 (dk_at dksX4_delay_0 8 rfl rfl)
theorem dX4_delay_10 : decode cX4_delay 10 = .ok (.invokestatic 107, 3) := dk_184 0 107 (dk_at dksX4_delay_0 10 rfl rfl)
theorem dX4_delay_13 : decode cX4_delay 13 = .ok (.invokestatic 304, 3) := dk_184 1 48 (dk_at dksX4_delay_0 13 rfl rfl)
theorem dX4_delay_16 : decode cX4_delay 16 = .ok (.invokevirtual 228, 3) := dk_182 0 228 (dk_at dksX4_delay_0 16 rfl rfl)
theorem dX4_delay_19 : decode cX4_delay 19 = .ok (.ifCond .eq 7, 3) := dk_153 0 7 (dk_at dksX4_delay_0 19 rfl rfl)
theorem dX4_delay_22 : decode cX4_delay 22 = .ok (.iconst (-1), 1) := dk_2 (dk_at dksX4_delay_0 22 rfl rfl)
theorem dX4_delay_23 : decode cX4_delay 23 = .ok (.goto 13, 3) := dk_167 0 13 (dk_at dksX4_delay_1 0 rfl rfl)
theorem dX4_delay_26 : decode cX4_delay 26 = .ok (.aload_n 0, 1) := dk_42 (dk_at dksX4_delay_1 3 rfl rfl)
theorem dX4_delay_27 : decode cX4_delay 27 = .ok (.iload_n 1, 1) := dk_27 (dk_at dksX4_delay_1 4 rfl rfl)
theorem dX4_delay_28 : decode cX4_delay 28 = .ok (.iconst 5, 1) := dk_8 (dk_at dksX4_delay_1 5 rfl rfl)
theorem dX4_delay_29 : decode cX4_delay 29 = .ok (.invokestatic 209, 3) := dk_184 0 209 (dk_at dksX4_delay_1 6 rfl rfl)
theorem dX4_delay_32 : decode cX4_delay 32 = .ok (.iload_n 2, 1) := dk_28 (dk_at dksX4_delay_1 9 rfl rfl)
theorem dX4_delay_33 : decode cX4_delay 33 = .ok (.invokevirtual 381, 3) := dk_182 1 125 (dk_at dksX4_delay_1 10 rfl rfl)
theorem dX4_delay_36 : decode cX4_delay 36 = .ok (.ireturn, 1) := dk_172 (dk_at dksX4_delay_1 13 rfl rfl)
abbrev cX4_change : ByteArray := prog_15_method_106_code
def yX4_change : MethodName := ⟨RX4, "change", "(II)I"⟩
def dkwX4_change_1 : List UInt8 := [167, 0, 11, 42, 8, 27, 96, 28, 182, 1, 125, 172]
abbrev dktX4_change_1 : List UInt8 := dkwX4_change_1 ++ []
def dkwX4_change_0 : List UInt8 := [42, 42, 27, 182, 1, 7, 28, 3, 16, 99, 184, 0, 107, 184, 1, 48, 182, 0, 228, 153, 0, 7, 2]
abbrev dktX4_change_0 : List UInt8 := dkwX4_change_0 ++ dktX4_change_1
theorem dksX4_change_0 : cX4_change.data.toList.drop 0 = dktX4_change_0 := by decide +kernel
theorem dksX4_change_1 : cX4_change.data.toList.drop 23 = dktX4_change_1 := dk_seg dksX4_change_0 23 rfl rfl
theorem dX4_change_0 : decode cX4_change 0 = .ok (.aload_n 0, 1) := dk_42 (dk_at dksX4_change_0 0 rfl rfl)
theorem dX4_change_1 : decode cX4_change 1 = .ok (.aload_n 0, 1) := dk_42 (dk_at dksX4_change_0 1 rfl rfl)
theorem dX4_change_2 : decode cX4_change 2 = .ok (.iload_n 1, 1) := dk_27 (dk_at dksX4_change_0 2 rfl rfl)
theorem dX4_change_3 : decode cX4_change 3 = .ok (.invokevirtual 263, 3) := dk_182 1 7 (dk_at dksX4_change_0 3 rfl rfl)
theorem dX4_change_6 : decode cX4_change 6 = .ok (.iload_n 2, 1) := dk_28 (dk_at dksX4_change_0 6 rfl rfl)
theorem dX4_change_7 : decode cX4_change 7 = .ok (.iconst 0, 1) := dk_3 (dk_at dksX4_change_0 7 rfl rfl)
theorem dX4_change_8 : decode cX4_change 8 = .ok (.bipush 99, 2) := dk_16 99 (dk_at dksX4_change_0 8 rfl rfl)
theorem dX4_change_10 : decode cX4_change 10 = .ok (.invokestatic 107, 3) := dk_184 0 107 (dk_at dksX4_change_0 10 rfl rfl)
theorem dX4_change_13 : decode cX4_change 13 = .ok (.invokestatic 304, 3) := dk_184 1 48 (dk_at dksX4_change_0 13 rfl rfl)
theorem dX4_change_16 : decode cX4_change 16 = .ok (.invokevirtual 228, 3) := dk_182 0 228 (dk_at dksX4_change_0 16 rfl rfl)
theorem dX4_change_19 : decode cX4_change 19 = .ok (.ifCond .eq 7, 3) := dk_153 0 7 (dk_at dksX4_change_0 19 rfl rfl)
theorem dX4_change_22 : decode cX4_change 22 = .ok (.iconst (-1), 1) := dk_2 (dk_at dksX4_change_0 22 rfl rfl)
theorem dX4_change_23 : decode cX4_change 23 = .ok (.goto 11, 3) := dk_167 0 11 (dk_at dksX4_change_1 0 rfl rfl)
theorem dX4_change_26 : decode cX4_change 26 = .ok (.aload_n 0, 1) := dk_42 (dk_at dksX4_change_1 3 rfl rfl)
theorem dX4_change_27 : decode cX4_change 27 = .ok (.iconst 5, 1) := dk_8 (dk_at dksX4_change_1 4 rfl rfl)
theorem dX4_change_28 : decode cX4_change 28 = .ok (.iload_n 1, 1) := dk_27 (dk_at dksX4_change_1 5 rfl rfl)
theorem dX4_change_29 : decode cX4_change 29 = .ok (.iadd, 1) := dk_96 (dk_at dksX4_change_1 6 rfl rfl)
theorem dX4_change_30 : decode cX4_change 30 = .ok (.iload_n 2, 1) := dk_28 (dk_at dksX4_change_1 7 rfl rfl)
theorem dX4_change_31 : decode cX4_change 31 = .ok (.invokevirtual 381, 3) := dk_182 1 125 (dk_at dksX4_change_1 8 rfl rfl)
theorem dX4_change_34 : decode cX4_change 34 = .ok (.ireturn, 1) := dk_172 (dk_at dksX4_change_1 11 rfl rfl)
abbrev cX4_hold : ByteArray := prog_15_method_107_code
def yX4_hold : MethodName := ⟨RX4, "hold", "(II)I"⟩
def dkwX4_hold_1 : List UInt8 := [167, 0, 22, 42, 16, 15, 27, 96, 28, 2, 160, 0, 8, 16, 254, 167, 0, 4, 28, 182, 1, 125, 172]
abbrev dktX4_hold_1 : List UInt8 := dkwX4_hold_1 ++ []
def dkwX4_hold_0 : List UInt8 := [42, 42, 27, 182, 1, 7, 28, 2, 17, 3, 231, 184, 0, 107, 184, 1, 48, 182, 0, 228, 153, 0, 7, 2]
abbrev dktX4_hold_0 : List UInt8 := dkwX4_hold_0 ++ dktX4_hold_1
theorem dksX4_hold_0 : cX4_hold.data.toList.drop 0 = dktX4_hold_0 := by decide +kernel
theorem dksX4_hold_1 : cX4_hold.data.toList.drop 24 = dktX4_hold_1 := dk_seg dksX4_hold_0 24 rfl rfl
theorem dX4_hold_0 : decode cX4_hold 0 = .ok (.aload_n 0, 1) := dk_42 (dk_at dksX4_hold_0 0 rfl rfl)
theorem dX4_hold_1 : decode cX4_hold 1 = .ok (.aload_n 0, 1) := dk_42 (dk_at dksX4_hold_0 1 rfl rfl)
theorem dX4_hold_2 : decode cX4_hold 2 = .ok (.iload_n 1, 1) := dk_27 (dk_at dksX4_hold_0 2 rfl rfl)
theorem dX4_hold_3 : decode cX4_hold 3 = .ok (.invokevirtual 263, 3) := dk_182 1 7 (dk_at dksX4_hold_0 3 rfl rfl)
theorem dX4_hold_6 : decode cX4_hold 6 = .ok (.iload_n 2, 1) := dk_28 (dk_at dksX4_hold_0 6 rfl rfl)
theorem dX4_hold_7 : decode cX4_hold 7 = .ok (.iconst (-1), 1) := dk_2 (dk_at dksX4_hold_0 7 rfl rfl)
theorem dX4_hold_8 : decode cX4_hold 8 = .ok (.sipush 999, 3) := dk_17 3 231 (dk_at dksX4_hold_0 8 rfl rfl)
theorem dX4_hold_11 : decode cX4_hold 11 = .ok (.invokestatic 107, 3) := dk_184 0 107 (dk_at dksX4_hold_0 11 rfl rfl)
theorem dX4_hold_14 : decode cX4_hold 14 = .ok (.invokestatic 304, 3) := dk_184 1 48 (dk_at dksX4_hold_0 14 rfl rfl)
theorem dX4_hold_17 : decode cX4_hold 17 = .ok (.invokevirtual 228, 3) := dk_182 0 228 (dk_at dksX4_hold_0 17 rfl rfl)
theorem dX4_hold_20 : decode cX4_hold 20 = .ok (.ifCond .eq 7, 3) := dk_153 0 7 (dk_at dksX4_hold_0 20 rfl rfl)
theorem dX4_hold_23 : decode cX4_hold 23 = .ok (.iconst (-1), 1) := dk_2 (dk_at dksX4_hold_0 23 rfl rfl)
theorem dX4_hold_24 : decode cX4_hold 24 = .ok (.goto 22, 3) := dk_167 0 22 (dk_at dksX4_hold_1 0 rfl rfl)
theorem dX4_hold_27 : decode cX4_hold 27 = .ok (.aload_n 0, 1) := dk_42 (dk_at dksX4_hold_1 3 rfl rfl)
theorem dX4_hold_28 : decode cX4_hold 28 = .ok (.bipush 15, 2) := dk_16 15 (dk_at dksX4_hold_1 4 rfl rfl)
theorem dX4_hold_30 : decode cX4_hold 30 = .ok (.iload_n 1, 1) := dk_27 (dk_at dksX4_hold_1 6 rfl rfl)
theorem dX4_hold_31 : decode cX4_hold 31 = .ok (.iadd, 1) := dk_96 (dk_at dksX4_hold_1 7 rfl rfl)
theorem dX4_hold_32 : decode cX4_hold 32 = .ok (.iload_n 2, 1) := dk_28 (dk_at dksX4_hold_1 8 rfl rfl)
theorem dX4_hold_33 : decode cX4_hold 33 = .ok (.iconst (-1), 1) := dk_2 (dk_at dksX4_hold_1 9 rfl rfl)
theorem dX4_hold_34 : decode cX4_hold 34 = .ok (.if_icmp .ne 8, 3) := dk_160 0 8 (dk_at dksX4_hold_1 10 rfl rfl)
theorem dX4_hold_37 : decode cX4_hold 37 = .ok (.bipush (-2), 2) := dk_16 254 (dk_at dksX4_hold_1 13 rfl rfl)
theorem dX4_hold_39 : decode cX4_hold 39 = .ok (.goto 4, 3) := dk_167 0 4 (dk_at dksX4_hold_1 15 rfl rfl)
theorem dX4_hold_42 : decode cX4_hold 42 = .ok (.iload_n 2, 1) := dk_28 (dk_at dksX4_hold_1 18 rfl rfl)
theorem dX4_hold_43 : decode cX4_hold 43 = .ok (.invokevirtual 381, 3) := dk_182 1 125 (dk_at dksX4_hold_1 19 rfl rfl)
theorem dX4_hold_46 : decode cX4_hold 46 = .ok (.ireturn, 1) := dk_172 (dk_at dksX4_hold_1 22 rfl rfl)
abbrev cX4_extra : ByteArray := prog_15_method_108_code
def yX4_extra : MethodName := ⟨RX4, "extra", "(IIIII)I"⟩
def dkwX4_extra_5 : List UInt8 := [184, 0, 206, 42, 180, 0, 17, 7, 46, 4, 100, 172]
abbrev dktX4_extra_5 : List UInt8 := dkwX4_extra_5 ++ []
def dkwX4_extra_4 : List UInt8 := [153, 0, 5, 2, 172, 42, 182, 1, 122, 42, 180, 0, 17, 27, 28, 29, 21, 4, 21, 5, 16, 254]
abbrev dktX4_extra_4 : List UInt8 := dkwX4_extra_4 ++ dktX4_extra_5
def dkwX4_extra_3 : List UInt8 := [167, 0, 19, 42, 180, 0, 17, 7, 46, 16, 120, 160, 0, 7, 6, 167, 0, 4, 3, 182, 0, 228]
abbrev dktX4_extra_3 : List UInt8 := dkwX4_extra_3 ++ dktX4_extra_4
def dkwX4_extra_2 : List UInt8 := [180, 0, 17, 3, 46, 184, 0, 107, 153, 0, 14, 21, 5, 4, 16, 99, 184, 0, 107, 154, 0, 7, 5]
abbrev dktX4_extra_2 : List UInt8 := dkwX4_extra_2 ++ dktX4_extra_3
def dkwX4_extra_1 : List UInt8 := [153, 0, 7, 4, 167, 0, 4, 3, 54, 6, 42, 21, 6, 154, 0, 7, 4, 167, 0, 49, 21, 4, 3, 42]
abbrev dktX4_extra_1 : List UInt8 := dkwX4_extra_1 ++ dktX4_extra_2
def dkwX4_extra_0 : List UInt8 := [42, 28, 29, 182, 1, 95, 153, 0, 23, 27, 3, 42, 180, 0, 17, 5, 46, 4, 100, 184, 0, 107]
abbrev dktX4_extra_0 : List UInt8 := dkwX4_extra_0 ++ dktX4_extra_1
theorem dksX4_extra_0 : cX4_extra.data.toList.drop 0 = dktX4_extra_0 := by decide +kernel
theorem dksX4_extra_1 : cX4_extra.data.toList.drop 22 = dktX4_extra_1 := dk_seg dksX4_extra_0 22 rfl rfl
theorem dksX4_extra_2 : cX4_extra.data.toList.drop 46 = dktX4_extra_2 := dk_seg dksX4_extra_1 24 rfl rfl
theorem dksX4_extra_3 : cX4_extra.data.toList.drop 69 = dktX4_extra_3 := dk_seg dksX4_extra_2 23 rfl rfl
theorem dksX4_extra_4 : cX4_extra.data.toList.drop 91 = dktX4_extra_4 := dk_seg dksX4_extra_3 22 rfl rfl
theorem dksX4_extra_5 : cX4_extra.data.toList.drop 113 = dktX4_extra_5 := dk_seg dksX4_extra_4 22 rfl rfl
theorem dX4_extra_0 : decode cX4_extra 0 = .ok (.aload_n 0, 1) := dk_42 (dk_at dksX4_extra_0 0 rfl rfl)
theorem dX4_extra_1 : decode cX4_extra 1 = .ok (.iload_n 2, 1) := dk_28 (dk_at dksX4_extra_0 1 rfl rfl)
theorem dX4_extra_2 : decode cX4_extra 2 = .ok (.iload_n 3, 1) := dk_29 (dk_at dksX4_extra_0 2 rfl rfl)
theorem dX4_extra_3 : decode cX4_extra 3 = .ok (.invokevirtual 351, 3) := dk_182 1 95 (dk_at dksX4_extra_0 3 rfl rfl)
theorem dX4_extra_6 : decode cX4_extra 6 = .ok (.ifCond .eq 23, 3) := dk_153 0 23 (dk_at dksX4_extra_0 6 rfl rfl)
theorem dX4_extra_9 : decode cX4_extra 9 = .ok (.iload_n 1, 1) := dk_27 (dk_at dksX4_extra_0 9 rfl rfl)
theorem dX4_extra_10 : decode cX4_extra 10 = .ok (.iconst 0, 1) := dk_3 (dk_at dksX4_extra_0 10 rfl rfl)
theorem dX4_extra_11 : decode cX4_extra 11 = .ok (.aload_n 0, 1) := dk_42 (dk_at dksX4_extra_0 11 rfl rfl)
theorem dX4_extra_12 : decode cX4_extra 12 = .ok (.getfield 17, 3) := dk_180 0 17 (dk_at dksX4_extra_0 12 rfl rfl)
theorem dX4_extra_15 : decode cX4_extra 15 = .ok (.iconst 2, 1) := dk_5 (dk_at dksX4_extra_0 15 rfl rfl)
theorem dX4_extra_16 : decode cX4_extra 16 = .ok (.iaload, 1) := dk_46 (dk_at dksX4_extra_0 16 rfl rfl)
theorem dX4_extra_17 : decode cX4_extra 17 = .ok (.iconst 1, 1) := dk_4 (dk_at dksX4_extra_0 17 rfl rfl)
theorem dX4_extra_18 : decode cX4_extra 18 = .ok (.isub, 1) := dk_100 (dk_at dksX4_extra_0 18 rfl rfl)
theorem dX4_extra_19 : decode cX4_extra 19 = .ok (.invokestatic 107, 3) := dk_184 0 107 (dk_at dksX4_extra_0 19 rfl rfl)
theorem dX4_extra_22 : decode cX4_extra 22 = .ok (.ifCond .eq 7, 3) := dk_153 0 7 (dk_at dksX4_extra_1 0 rfl rfl)
theorem dX4_extra_25 : decode cX4_extra 25 = .ok (.iconst 1, 1) := dk_4 (dk_at dksX4_extra_1 3 rfl rfl)
theorem dX4_extra_26 : decode cX4_extra 26 = .ok (.goto 4, 3) := dk_167 0 4 (dk_at dksX4_extra_1 4 rfl rfl)
theorem dX4_extra_29 : decode cX4_extra 29 = .ok (.iconst 0, 1) := dk_3 (dk_at dksX4_extra_1 7 rfl rfl)
theorem dX4_extra_30 : decode cX4_extra 30 = .ok (.istore 6, 2) := dk_54 6 (dk_at dksX4_extra_1 8 rfl rfl)
theorem dX4_extra_32 : decode cX4_extra 32 = .ok (.aload_n 0, 1) := dk_42 (dk_at dksX4_extra_1 10 rfl rfl)
theorem dX4_extra_33 : decode cX4_extra 33 = .ok (.iload 6, 2) := dk_21 6 (dk_at dksX4_extra_1 11 rfl rfl)
theorem dX4_extra_35 : decode cX4_extra 35 = .ok (.ifCond .ne 7, 3) := dk_154 0 7 (dk_at dksX4_extra_1 13 rfl rfl)
theorem dX4_extra_38 : decode cX4_extra 38 = .ok (.iconst 1, 1) := dk_4 (dk_at dksX4_extra_1 16 rfl rfl)
theorem dX4_extra_39 : decode cX4_extra 39 = .ok (.goto 49, 3) := dk_167 0 49 (dk_at dksX4_extra_1 17 rfl rfl)
theorem dX4_extra_42 : decode cX4_extra 42 = .ok (.iload 4, 2) := dk_21 4 (dk_at dksX4_extra_1 20 rfl rfl)
theorem dX4_extra_44 : decode cX4_extra 44 = .ok (.iconst 0, 1) := dk_3 (dk_at dksX4_extra_1 22 rfl rfl)
theorem dX4_extra_45 : decode cX4_extra 45 = .ok (.aload_n 0, 1) := dk_42 (dk_at dksX4_extra_1 23 rfl rfl)
theorem dX4_extra_46 : decode cX4_extra 46 = .ok (.getfield 17, 3) := dk_180 0 17 (dk_at dksX4_extra_2 0 rfl rfl)
theorem dX4_extra_49 : decode cX4_extra 49 = .ok (.iconst 0, 1) := dk_3 (dk_at dksX4_extra_2 3 rfl rfl)
theorem dX4_extra_50 : decode cX4_extra 50 = .ok (.iaload, 1) := dk_46 (dk_at dksX4_extra_2 4 rfl rfl)
theorem dX4_extra_51 : decode cX4_extra 51 = .ok (.invokestatic 107, 3) := dk_184 0 107 (dk_at dksX4_extra_2 5 rfl rfl)
theorem dX4_extra_54 : decode cX4_extra 54 = .ok (.ifCond .eq 14, 3) := dk_153 0 14 (dk_at dksX4_extra_2 8 rfl rfl)
theorem dX4_extra_57 : decode cX4_extra 57 = .ok (.iload 5, 2) := dk_21 5 (dk_at dksX4_extra_2 11 rfl rfl)
theorem dX4_extra_59 : decode cX4_extra 59 = .ok (.iconst 1, 1) := dk_4 (dk_at dksX4_extra_2 13 rfl rfl)
theorem dX4_extra_60 : decode cX4_extra 60 = .ok (.bipush 99, 2) := dk_16 99 (dk_at dksX4_extra_2 14 rfl rfl)
theorem dX4_extra_62 : decode cX4_extra 62 = .ok (.invokestatic 107, 3) := dk_184 0 107 (dk_at dksX4_extra_2 16 rfl rfl)
theorem dX4_extra_65 : decode cX4_extra 65 = .ok (.ifCond .ne 7, 3) := dk_154 0 7 (dk_at dksX4_extra_2 19 rfl rfl)
theorem dX4_extra_68 : decode cX4_extra 68 = .ok (.iconst 2, 1) := dk_5 (dk_at dksX4_extra_2 22 rfl rfl)
theorem dX4_extra_69 : decode cX4_extra 69 = .ok (.goto 19, 3) := dk_167 0 19 (dk_at dksX4_extra_3 0 rfl rfl)
theorem dX4_extra_72 : decode cX4_extra 72 = .ok (.aload_n 0, 1) := dk_42 (dk_at dksX4_extra_3 3 rfl rfl)
theorem dX4_extra_73 : decode cX4_extra 73 = .ok (.getfield 17, 3) := dk_180 0 17 (dk_at dksX4_extra_3 4 rfl rfl)
theorem dX4_extra_76 : decode cX4_extra 76 = .ok (.iconst 4, 1) := dk_7 (dk_at dksX4_extra_3 7 rfl rfl)
theorem dX4_extra_77 : decode cX4_extra 77 = .ok (.iaload, 1) := dk_46 (dk_at dksX4_extra_3 8 rfl rfl)
theorem dX4_extra_78 : decode cX4_extra 78 = .ok (.bipush 120, 2) := dk_16 120 (dk_at dksX4_extra_3 9 rfl rfl)
theorem dX4_extra_80 : decode cX4_extra 80 = .ok (.if_icmp .ne 7, 3) := dk_160 0 7 (dk_at dksX4_extra_3 11 rfl rfl)
theorem dX4_extra_83 : decode cX4_extra 83 = .ok (.iconst 3, 1) := dk_6 (dk_at dksX4_extra_3 14 rfl rfl)
theorem dX4_extra_84 : decode cX4_extra 84 = .ok (.goto 4, 3) := dk_167 0 4 (dk_at dksX4_extra_3 15 rfl rfl)
theorem dX4_extra_87 : decode cX4_extra 87 = .ok (.iconst 0, 1) := dk_3 (dk_at dksX4_extra_3 18 rfl rfl)
theorem dX4_extra_88 : decode cX4_extra 88 = .ok (.invokevirtual 228, 3) := dk_182 0 228 (dk_at dksX4_extra_3 19 rfl rfl)
theorem dX4_extra_91 : decode cX4_extra 91 = .ok (.ifCond .eq 5, 3) := dk_153 0 5 (dk_at dksX4_extra_4 0 rfl rfl)
theorem dX4_extra_94 : decode cX4_extra 94 = .ok (.iconst (-1), 1) := dk_2 (dk_at dksX4_extra_4 3 rfl rfl)
theorem dX4_extra_95 : decode cX4_extra 95 = .ok (.ireturn, 1) := dk_172 (dk_at dksX4_extra_4 4 rfl rfl)
theorem dX4_extra_96 : decode cX4_extra 96 = .ok (.aload_n 0, 1) := dk_42 (dk_at dksX4_extra_4 5 rfl rfl)
theorem dX4_extra_97 : decode cX4_extra 97 = .ok (.invokevirtual 378, 3) := dk_182 1 122 (dk_at dksX4_extra_4 6 rfl rfl)
theorem dX4_extra_100 : decode cX4_extra 100 = .ok (.aload_n 0, 1) := dk_42 (dk_at dksX4_extra_4 9 rfl rfl)
theorem dX4_extra_101 : decode cX4_extra 101 = .ok (.getfield 17, 3) := dk_180 0 17 (dk_at dksX4_extra_4 10 rfl rfl)
theorem dX4_extra_104 : decode cX4_extra 104 = .ok (.iload_n 1, 1) := dk_27 (dk_at dksX4_extra_4 13 rfl rfl)
theorem dX4_extra_105 : decode cX4_extra 105 = .ok (.iload_n 2, 1) := dk_28 (dk_at dksX4_extra_4 14 rfl rfl)
theorem dX4_extra_106 : decode cX4_extra 106 = .ok (.iload_n 3, 1) := dk_29 (dk_at dksX4_extra_4 15 rfl rfl)
theorem dX4_extra_107 : decode cX4_extra 107 = .ok (.iload 4, 2) := dk_21 4 (dk_at dksX4_extra_4 16 rfl rfl)
theorem dX4_extra_109 : decode cX4_extra 109 = .ok (.iload 5, 2) := dk_21 5 (dk_at dksX4_extra_4 18 rfl rfl)
theorem dX4_extra_111 : decode cX4_extra 111 = .ok (.bipush (-2), 2) := dk_16 254 (dk_at dksX4_extra_4 20 rfl rfl)
theorem dX4_extra_113 : decode cX4_extra 113 = .ok (.invokestatic 206, 3) := dk_184 0 206 (dk_at dksX4_extra_5 0 rfl rfl)
theorem dX4_extra_116 : decode cX4_extra 116 = .ok (.aload_n 0, 1) := dk_42 (dk_at dksX4_extra_5 3 rfl rfl)
theorem dX4_extra_117 : decode cX4_extra 117 = .ok (.getfield 17, 3) := dk_180 0 17 (dk_at dksX4_extra_5 4 rfl rfl)
theorem dX4_extra_120 : decode cX4_extra 120 = .ok (.iconst 4, 1) := dk_7 (dk_at dksX4_extra_5 7 rfl rfl)
theorem dX4_extra_121 : decode cX4_extra 121 = .ok (.iaload, 1) := dk_46 (dk_at dksX4_extra_5 8 rfl rfl)
theorem dX4_extra_122 : decode cX4_extra 122 = .ok (.iconst 1, 1) := dk_4 (dk_at dksX4_extra_5 9 rfl rfl)
theorem dX4_extra_123 : decode cX4_extra 123 = .ok (.isub, 1) := dk_100 (dk_at dksX4_extra_5 10 rfl rfl)
theorem dX4_extra_124 : decode cX4_extra 124 = .ok (.ireturn, 1) := dk_172 (dk_at dksX4_extra_5 11 rfl rfl)
abbrev cX4_undo : ByteArray := prog_15_method_109_code
def yX4_undo : MethodName := ⟨RX4, "undo", "()Z"⟩
def dkwX4_undo_2 : List UInt8 := [180, 0, 17, 3, 184, 0, 240, 4, 172]
abbrev dktX4_undo_2 : List UInt8 := dkwX4_undo_2 ++ []
def dkwX4_undo_1 : List UInt8 := [42, 89, 180, 0, 247, 4, 100, 181, 0, 247, 42, 180, 0, 26, 17, 3, 217, 42, 180, 0, 247, 104, 42]
abbrev dktX4_undo_1 : List UInt8 := dkwX4_undo_1 ++ dktX4_undo_2
def dkwX4_undo_0 : List UInt8 := [42, 42, 180, 0, 247, 158, 0, 7, 4, 167, 0, 4, 3, 184, 1, 0, 182, 0, 228, 153, 0, 5, 3, 172]
abbrev dktX4_undo_0 : List UInt8 := dkwX4_undo_0 ++ dktX4_undo_1
theorem dksX4_undo_0 : cX4_undo.data.toList.drop 0 = dktX4_undo_0 := by decide +kernel
theorem dksX4_undo_1 : cX4_undo.data.toList.drop 24 = dktX4_undo_1 := dk_seg dksX4_undo_0 24 rfl rfl
theorem dksX4_undo_2 : cX4_undo.data.toList.drop 47 = dktX4_undo_2 := dk_seg dksX4_undo_1 23 rfl rfl
theorem dX4_undo_0 : decode cX4_undo 0 = .ok (.aload_n 0, 1) := dk_42 (dk_at dksX4_undo_0 0 rfl rfl)
theorem dX4_undo_1 : decode cX4_undo 1 = .ok (.aload_n 0, 1) := dk_42 (dk_at dksX4_undo_0 1 rfl rfl)
theorem dX4_undo_2 : decode cX4_undo 2 = .ok (.getfield 247, 3) := dk_180 0 247 (dk_at dksX4_undo_0 2 rfl rfl)
theorem dX4_undo_5 : decode cX4_undo 5 = .ok (.ifCond .le 7, 3) := dk_158 0 7 (dk_at dksX4_undo_0 5 rfl rfl)
theorem dX4_undo_8 : decode cX4_undo 8 = .ok (.iconst 1, 1) := dk_4 (dk_at dksX4_undo_0 8 rfl rfl)
theorem dX4_undo_9 : decode cX4_undo 9 = .ok (.goto 4, 3) := dk_167 0 4 (dk_at dksX4_undo_0 9 rfl rfl)
theorem dX4_undo_12 : decode cX4_undo 12 = .ok (.iconst 0, 1) := dk_3 (dk_at dksX4_undo_0 12 rfl rfl)
theorem dX4_undo_13 : decode cX4_undo 13 = .ok (.invokestatic 256, 3) := dk_184 1 0 (dk_at dksX4_undo_0 13 rfl rfl)
theorem dX4_undo_16 : decode cX4_undo 16 = .ok (.invokevirtual 228, 3) := dk_182 0 228 (dk_at dksX4_undo_0 16 rfl rfl)
theorem dX4_undo_19 : decode cX4_undo 19 = .ok (.ifCond .eq 5, 3) := dk_153 0 5 (dk_at dksX4_undo_0 19 rfl rfl)
theorem dX4_undo_22 : decode cX4_undo 22 = .ok (.iconst 0, 1) := dk_3 (dk_at dksX4_undo_0 22 rfl rfl)
theorem dX4_undo_23 : decode cX4_undo 23 = .ok (.ireturn, 1) := dk_172 (dk_at dksX4_undo_0 23 rfl rfl)
theorem dX4_undo_24 : decode cX4_undo 24 = .ok (.aload_n 0, 1) := dk_42 (dk_at dksX4_undo_1 0 rfl rfl)
theorem dX4_undo_25 : decode cX4_undo 25 = .ok (.dup, 1) := dk_89 (dk_at dksX4_undo_1 1 rfl rfl)
theorem dX4_undo_26 : decode cX4_undo 26 = .ok (.getfield 247, 3) := dk_180 0 247 (dk_at dksX4_undo_1 2 rfl rfl)
theorem dX4_undo_29 : decode cX4_undo 29 = .ok (.iconst 1, 1) := dk_4 (dk_at dksX4_undo_1 5 rfl rfl)
theorem dX4_undo_30 : decode cX4_undo 30 = .ok (.isub, 1) := dk_100 (dk_at dksX4_undo_1 6 rfl rfl)
theorem dX4_undo_31 : decode cX4_undo 31 = .ok (.putfield 247, 3) := dk_181 0 247 (dk_at dksX4_undo_1 7 rfl rfl)
theorem dX4_undo_34 : decode cX4_undo 34 = .ok (.aload_n 0, 1) := dk_42 (dk_at dksX4_undo_1 10 rfl rfl)
theorem dX4_undo_35 : decode cX4_undo 35 = .ok (.getfield 26, 3) := dk_180 0 26 (dk_at dksX4_undo_1 11 rfl rfl)
theorem dX4_undo_38 : decode cX4_undo 38 = .ok (.sipush 985, 3) := dk_17 3 217 (dk_at dksX4_undo_1 14 rfl rfl)
theorem dX4_undo_41 : decode cX4_undo 41 = .ok (.aload_n 0, 1) := dk_42 (dk_at dksX4_undo_1 17 rfl rfl)
theorem dX4_undo_42 : decode cX4_undo 42 = .ok (.getfield 247, 3) := dk_180 0 247 (dk_at dksX4_undo_1 18 rfl rfl)
theorem dX4_undo_45 : decode cX4_undo 45 = .ok (.imul, 1) := dk_104 (dk_at dksX4_undo_1 21 rfl rfl)
theorem dX4_undo_46 : decode cX4_undo 46 = .ok (.aload_n 0, 1) := dk_42 (dk_at dksX4_undo_1 22 rfl rfl)
theorem dX4_undo_47 : decode cX4_undo 47 = .ok (.getfield 17, 3) := dk_180 0 17 (dk_at dksX4_undo_2 0 rfl rfl)
theorem dX4_undo_50 : decode cX4_undo 50 = .ok (.iconst 0, 1) := dk_3 (dk_at dksX4_undo_2 3 rfl rfl)
theorem dX4_undo_51 : decode cX4_undo 51 = .ok (.invokestatic 240, 3) := dk_184 0 240 (dk_at dksX4_undo_2 4 rfl rfl)
theorem dX4_undo_54 : decode cX4_undo 54 = .ok (.iconst 1, 1) := dk_4 (dk_at dksX4_undo_2 7 rfl rfl)
theorem dX4_undo_55 : decode cX4_undo 55 = .ok (.ireturn, 1) := dk_172 (dk_at dksX4_undo_2 8 rfl rfl)
abbrev cX4_still : ByteArray := prog_15_method_110_code
def yX4_still : MethodName := ⟨RX4, "still", "(I)I"⟩
def dkwX4_still_2 : List UInt8 := [29, 172, 132, 2, 1, 132, 3, 1, 167, 255, 210, 42, 4, 181, 0, 78, 3, 172]
abbrev dktX4_still_2 : List UInt8 := dkwX4_still_2 ++ []
def dkwX4_still_1 : List UInt8 := [162, 0, 35, 42, 29, 4, 182, 1, 10, 42, 29, 5, 182, 1, 10, 96, 154, 0, 13, 28, 27, 160, 0, 5]
abbrev dktX4_still_1 : List UInt8 := dkwX4_still_1 ++ dktX4_still_2
def dkwX4_still_0 : List UInt8 := [42, 3, 181, 0, 78, 3, 61, 3, 62, 42, 180, 0, 244, 153, 0, 45, 29, 42, 180, 0, 17, 4, 46]
abbrev dktX4_still_0 : List UInt8 := dkwX4_still_0 ++ dktX4_still_1
theorem dksX4_still_0 : cX4_still.data.toList.drop 0 = dktX4_still_0 := by decide +kernel
theorem dksX4_still_1 : cX4_still.data.toList.drop 23 = dktX4_still_1 := dk_seg dksX4_still_0 23 rfl rfl
theorem dksX4_still_2 : cX4_still.data.toList.drop 47 = dktX4_still_2 := dk_seg dksX4_still_1 24 rfl rfl
theorem dX4_still_0 : decode cX4_still 0 = .ok (.aload_n 0, 1) := dk_42 (dk_at dksX4_still_0 0 rfl rfl)
theorem dX4_still_1 : decode cX4_still 1 = .ok (.iconst 0, 1) := dk_3 (dk_at dksX4_still_0 1 rfl rfl)
theorem dX4_still_2 : decode cX4_still 2 = .ok (.putfield 78, 3) := dk_181 0 78 (dk_at dksX4_still_0 2 rfl rfl)
theorem dX4_still_5 : decode cX4_still 5 = .ok (.iconst 0, 1) := dk_3 (dk_at dksX4_still_0 5 rfl rfl)
theorem dX4_still_6 : decode cX4_still 6 = .ok (.istore_n 2, 1) := dk_61 (dk_at dksX4_still_0 6 rfl rfl)
theorem dX4_still_7 : decode cX4_still 7 = .ok (.iconst 0, 1) := dk_3 (dk_at dksX4_still_0 7 rfl rfl)
theorem dX4_still_8 : decode cX4_still 8 = .ok (.istore_n 3, 1) := dk_62 (dk_at dksX4_still_0 8 rfl rfl)
theorem dX4_still_9 : decode cX4_still 9 = .ok (.aload_n 0, 1) := dk_42 (dk_at dksX4_still_0 9 rfl rfl)
theorem dX4_still_10 : decode cX4_still 10 = .ok (.getfield 244, 3) := dk_180 0 244 (dk_at dksX4_still_0 10 rfl rfl)
theorem dX4_still_13 : decode cX4_still 13 = .ok (.ifCond .eq 45, 3) := dk_153 0 45 (dk_at dksX4_still_0 13 rfl rfl)
theorem dX4_still_16 : decode cX4_still 16 = .ok (.iload_n 3, 1) := dk_29 (dk_at dksX4_still_0 16 rfl rfl)
theorem dX4_still_17 : decode cX4_still 17 = .ok (.aload_n 0, 1) := dk_42 (dk_at dksX4_still_0 17 rfl rfl)
theorem dX4_still_18 : decode cX4_still 18 = .ok (.getfield 17, 3) := dk_180 0 17 (dk_at dksX4_still_0 18 rfl rfl)
theorem dX4_still_21 : decode cX4_still 21 = .ok (.iconst 1, 1) := dk_4 (dk_at dksX4_still_0 21 rfl rfl)
theorem dX4_still_22 : decode cX4_still 22 = .ok (.iaload, 1) := dk_46 (dk_at dksX4_still_0 22 rfl rfl)
theorem dX4_still_23 : decode cX4_still 23 = .ok (.if_icmp .ge 35, 3) := dk_162 0 35 (dk_at dksX4_still_1 0 rfl rfl)
theorem dX4_still_26 : decode cX4_still 26 = .ok (.aload_n 0, 1) := dk_42 (dk_at dksX4_still_1 3 rfl rfl)
theorem dX4_still_27 : decode cX4_still 27 = .ok (.iload_n 3, 1) := dk_29 (dk_at dksX4_still_1 4 rfl rfl)
theorem dX4_still_28 : decode cX4_still 28 = .ok (.iconst 1, 1) := dk_4 (dk_at dksX4_still_1 5 rfl rfl)
theorem dX4_still_29 : decode cX4_still 29 = .ok (.invokevirtual 266, 3) := dk_182 1 10 (dk_at dksX4_still_1 6 rfl rfl)
theorem dX4_still_32 : decode cX4_still 32 = .ok (.aload_n 0, 1) := dk_42 (dk_at dksX4_still_1 9 rfl rfl)
theorem dX4_still_33 : decode cX4_still 33 = .ok (.iload_n 3, 1) := dk_29 (dk_at dksX4_still_1 10 rfl rfl)
theorem dX4_still_34 : decode cX4_still 34 = .ok (.iconst 2, 1) := dk_5 (dk_at dksX4_still_1 11 rfl rfl)
theorem dX4_still_35 : decode cX4_still 35 = .ok (.invokevirtual 266, 3) := dk_182 1 10 (dk_at dksX4_still_1 12 rfl rfl)
theorem dX4_still_38 : decode cX4_still 38 = .ok (.iadd, 1) := dk_96 (dk_at dksX4_still_1 15 rfl rfl)
theorem dX4_still_39 : decode cX4_still 39 = .ok (.ifCond .ne 13, 3) := dk_154 0 13 (dk_at dksX4_still_1 16 rfl rfl)
theorem dX4_still_42 : decode cX4_still 42 = .ok (.iload_n 2, 1) := dk_28 (dk_at dksX4_still_1 19 rfl rfl)
theorem dX4_still_43 : decode cX4_still 43 = .ok (.iload_n 1, 1) := dk_27 (dk_at dksX4_still_1 20 rfl rfl)
theorem dX4_still_44 : decode cX4_still 44 = .ok (.if_icmp .ne 5, 3) := dk_160 0 5 (dk_at dksX4_still_1 21 rfl rfl)
theorem dX4_still_47 : decode cX4_still 47 = .ok (.iload_n 3, 1) := dk_29 (dk_at dksX4_still_2 0 rfl rfl)
theorem dX4_still_48 : decode cX4_still 48 = .ok (.ireturn, 1) := dk_172 (dk_at dksX4_still_2 1 rfl rfl)
theorem dX4_still_49 : decode cX4_still 49 = .ok (.iinc 2 1, 3) := dk_132 2 1 (dk_at dksX4_still_2 2 rfl rfl)
theorem dX4_still_52 : decode cX4_still 52 = .ok (.iinc 3 1, 3) := dk_132 3 1 (dk_at dksX4_still_2 5 rfl rfl)
theorem dX4_still_55 : decode cX4_still 55 = .ok (.goto (-46), 3) := dk_167 255 210 (dk_at dksX4_still_2 8 rfl rfl)
theorem dX4_still_58 : decode cX4_still 58 = .ok (.aload_n 0, 1) := dk_42 (dk_at dksX4_still_2 11 rfl rfl)
theorem dX4_still_59 : decode cX4_still 59 = .ok (.iconst 1, 1) := dk_4 (dk_at dksX4_still_2 12 rfl rfl)
theorem dX4_still_60 : decode cX4_still 60 = .ok (.putfield 78, 3) := dk_181 0 78 (dk_at dksX4_still_2 13 rfl rfl)
theorem dX4_still_63 : decode cX4_still 63 = .ok (.iconst 0, 1) := dk_3 (dk_at dksX4_still_2 16 rfl rfl)
theorem dX4_still_64 : decode cX4_still 64 = .ok (.ireturn, 1) := dk_172 (dk_at dksX4_still_2 17 rfl rfl)
abbrev cX4_size : ByteArray := prog_15_method_112_code
def yX4_size : MethodName := ⟨RX4, "size", "(I)I"⟩
def dkwX4_size_2 : List UInt8 := [42, 180, 0, 84, 172, 42, 180, 0, 247, 172, 42, 182, 1, 128, 172, 2, 172]
abbrev dktX4_size_2 : List UInt8 := dkwX4_size_2 ++ []
def dkwX4_size_1 : List UInt8 := [170, 0, 0, 0, 0, 41, 0, 0, 0, 0, 0, 0, 0, 2, 0, 0, 0, 26, 0, 0, 0, 31, 0, 0, 0, 36]
abbrev dktX4_size_1 : List UInt8 := dkwX4_size_1 ++ dktX4_size_2
def dkwX4_size_0 : List UInt8 := [42, 3, 181, 0, 78, 27]
abbrev dktX4_size_0 : List UInt8 := dkwX4_size_0 ++ dktX4_size_1
theorem dksX4_size_0 : cX4_size.data.toList.drop 0 = dktX4_size_0 := by decide +kernel
theorem dksX4_size_1 : cX4_size.data.toList.drop 6 = dktX4_size_1 := dk_seg dksX4_size_0 6 rfl rfl
theorem dksX4_size_2 : cX4_size.data.toList.drop 32 = dktX4_size_2 := dk_seg dksX4_size_1 26 rfl rfl
theorem dX4_size_0 : decode cX4_size 0 = .ok (.aload_n 0, 1) := dk_42 (dk_at dksX4_size_0 0 rfl rfl)
theorem dX4_size_1 : decode cX4_size 1 = .ok (.iconst 0, 1) := dk_3 (dk_at dksX4_size_0 1 rfl rfl)
theorem dX4_size_2 : decode cX4_size 2 = .ok (.putfield 78, 3) := dk_181 0 78 (dk_at dksX4_size_0 2 rfl rfl)
theorem dX4_size_5 : decode cX4_size 5 = .ok (.iload_n 1, 1) := dk_27 (dk_at dksX4_size_0 5 rfl rfl)
theorem dX4_size_6 : decode cX4_size 6 = .ok (.tableswitch 41 0 2 #[26, 31, 36], 26) := by decide +kernel
theorem dX4_size_32 : decode cX4_size 32 = .ok (.aload_n 0, 1) := dk_42 (dk_at dksX4_size_2 0 rfl rfl)
theorem dX4_size_33 : decode cX4_size 33 = .ok (.getfield 84, 3) := dk_180 0 84 (dk_at dksX4_size_2 1 rfl rfl)
theorem dX4_size_36 : decode cX4_size 36 = .ok (.ireturn, 1) := dk_172 (dk_at dksX4_size_2 4 rfl rfl)
theorem dX4_size_37 : decode cX4_size 37 = .ok (.aload_n 0, 1) := dk_42 (dk_at dksX4_size_2 5 rfl rfl)
theorem dX4_size_38 : decode cX4_size 38 = .ok (.getfield 247, 3) := dk_180 0 247 (dk_at dksX4_size_2 6 rfl rfl)
theorem dX4_size_41 : decode cX4_size 41 = .ok (.ireturn, 1) := dk_172 (dk_at dksX4_size_2 9 rfl rfl)
theorem dX4_size_42 : decode cX4_size 42 = .ok (.aload_n 0, 1) := dk_42 (dk_at dksX4_size_2 10 rfl rfl)
theorem dX4_size_43 : decode cX4_size 43 = .ok (.invokevirtual 384, 3) := dk_182 1 128 (dk_at dksX4_size_2 11 rfl rfl)
theorem dX4_size_46 : decode cX4_size 46 = .ok (.ireturn, 1) := dk_172 (dk_at dksX4_size_2 14 rfl rfl)
theorem dX4_size_47 : decode cX4_size 47 = .ok (.iconst (-1), 1) := dk_2 (dk_at dksX4_size_2 15 rfl rfl)
theorem dX4_size_48 : decode cX4_size 48 = .ok (.ireturn, 1) := dk_172 (dk_at dksX4_size_2 16 rfl rfl)
abbrev cX4_lateMany : ByteArray := prog_15_method_111_code
def yX4_lateMany : MethodName := ⟨RX4, "lateMany", "()I"⟩
def dkwX4_lateMany_1 : List UInt8 := [46, 158, 0, 7, 4, 167, 0, 4, 3, 96, 60, 132, 2, 1, 167, 255, 222, 27, 172]
abbrev dktX4_lateMany_1 : List UInt8 := dkwX4_lateMany_1 ++ []
def dkwX4_lateMany_0 : List UInt8 := [3, 60, 3, 61, 28, 42, 180, 0, 17, 7, 46, 162, 0, 30, 27, 42, 180, 0, 17, 28, 8, 184, 0, 209]
abbrev dktX4_lateMany_0 : List UInt8 := dkwX4_lateMany_0 ++ dktX4_lateMany_1
theorem dksX4_lateMany_0 : cX4_lateMany.data.toList.drop 0 = dktX4_lateMany_0 := by decide +kernel
theorem dksX4_lateMany_1 : cX4_lateMany.data.toList.drop 24 = dktX4_lateMany_1 := dk_seg dksX4_lateMany_0 24 rfl rfl
theorem dX4_lateMany_0 : decode cX4_lateMany 0 = .ok (.iconst 0, 1) := dk_3 (dk_at dksX4_lateMany_0 0 rfl rfl)
theorem dX4_lateMany_1 : decode cX4_lateMany 1 = .ok (.istore_n 1, 1) := dk_60 (dk_at dksX4_lateMany_0 1 rfl rfl)
theorem dX4_lateMany_2 : decode cX4_lateMany 2 = .ok (.iconst 0, 1) := dk_3 (dk_at dksX4_lateMany_0 2 rfl rfl)
theorem dX4_lateMany_3 : decode cX4_lateMany 3 = .ok (.istore_n 2, 1) := dk_61 (dk_at dksX4_lateMany_0 3 rfl rfl)
theorem dX4_lateMany_4 : decode cX4_lateMany 4 = .ok (.iload_n 2, 1) := dk_28 (dk_at dksX4_lateMany_0 4 rfl rfl)
theorem dX4_lateMany_5 : decode cX4_lateMany 5 = .ok (.aload_n 0, 1) := dk_42 (dk_at dksX4_lateMany_0 5 rfl rfl)
theorem dX4_lateMany_6 : decode cX4_lateMany 6 = .ok (.getfield 17, 3) := dk_180 0 17 (dk_at dksX4_lateMany_0 6 rfl rfl)
theorem dX4_lateMany_9 : decode cX4_lateMany 9 = .ok (.iconst 4, 1) := dk_7 (dk_at dksX4_lateMany_0 9 rfl rfl)
theorem dX4_lateMany_10 : decode cX4_lateMany 10 = .ok (.iaload, 1) := dk_46 (dk_at dksX4_lateMany_0 10 rfl rfl)
theorem dX4_lateMany_11 : decode cX4_lateMany 11 = .ok (.if_icmp .ge 30, 3) := dk_162 0 30 (dk_at dksX4_lateMany_0 11 rfl rfl)
theorem dX4_lateMany_14 : decode cX4_lateMany 14 = .ok (.iload_n 1, 1) := dk_27 (dk_at dksX4_lateMany_0 14 rfl rfl)
theorem dX4_lateMany_15 : decode cX4_lateMany 15 = .ok (.aload_n 0, 1) := dk_42 (dk_at dksX4_lateMany_0 15 rfl rfl)
theorem dX4_lateMany_16 : decode cX4_lateMany 16 = .ok (.getfield 17, 3) := dk_180 0 17 (dk_at dksX4_lateMany_0 16 rfl rfl)
theorem dX4_lateMany_19 : decode cX4_lateMany 19 = .ok (.iload_n 2, 1) := dk_28 (dk_at dksX4_lateMany_0 19 rfl rfl)
theorem dX4_lateMany_20 : decode cX4_lateMany 20 = .ok (.iconst 5, 1) := dk_8 (dk_at dksX4_lateMany_0 20 rfl rfl)
theorem dX4_lateMany_21 : decode cX4_lateMany 21 = .ok (.invokestatic 209, 3) := dk_184 0 209 (dk_at dksX4_lateMany_0 21 rfl rfl)
theorem dX4_lateMany_24 : decode cX4_lateMany 24 = .ok (.iaload, 1) := dk_46 (dk_at dksX4_lateMany_1 0 rfl rfl)
theorem dX4_lateMany_25 : decode cX4_lateMany 25 = .ok (.ifCond .le 7, 3) := dk_158 0 7 (dk_at dksX4_lateMany_1 1 rfl rfl)
theorem dX4_lateMany_28 : decode cX4_lateMany 28 = .ok (.iconst 1, 1) := dk_4 (dk_at dksX4_lateMany_1 4 rfl rfl)
theorem dX4_lateMany_29 : decode cX4_lateMany 29 = .ok (.goto 4, 3) := dk_167 0 4 (dk_at dksX4_lateMany_1 5 rfl rfl)
theorem dX4_lateMany_32 : decode cX4_lateMany 32 = .ok (.iconst 0, 1) := dk_3 (dk_at dksX4_lateMany_1 8 rfl rfl)
theorem dX4_lateMany_33 : decode cX4_lateMany 33 = .ok (.iadd, 1) := dk_96 (dk_at dksX4_lateMany_1 9 rfl rfl)
theorem dX4_lateMany_34 : decode cX4_lateMany 34 = .ok (.istore_n 1, 1) := dk_60 (dk_at dksX4_lateMany_1 10 rfl rfl)
theorem dX4_lateMany_35 : decode cX4_lateMany 35 = .ok (.iinc 2 1, 3) := dk_132 2 1 (dk_at dksX4_lateMany_1 11 rfl rfl)
theorem dX4_lateMany_38 : decode cX4_lateMany 38 = .ok (.goto (-34), 3) := dk_167 255 222 (dk_at dksX4_lateMany_1 14 rfl rfl)
theorem dX4_lateMany_41 : decode cX4_lateMany 41 = .ok (.iload_n 1, 1) := dk_27 (dk_at dksX4_lateMany_1 17 rfl rfl)
theorem dX4_lateMany_42 : decode cX4_lateMany 42 = .ok (.ireturn, 1) := dk_172 (dk_at dksX4_lateMany_1 18 rfl rfl)
abbrev cX4_trouble : ByteArray := prog_15_method_113_code
def yX4_trouble : MethodName := ⟨RX4, "trouble", "()I"⟩
def dkwX4_trouble_0 : List UInt8 := [42, 3, 181, 0, 78, 42, 180, 0, 81, 172]
abbrev dktX4_trouble_0 : List UInt8 := dkwX4_trouble_0 ++ []
theorem dksX4_trouble_0 : cX4_trouble.data.toList.drop 0 = dktX4_trouble_0 := by decide +kernel
theorem dX4_trouble_0 : decode cX4_trouble 0 = .ok (.aload_n 0, 1) := dk_42 (dk_at dksX4_trouble_0 0 rfl rfl)
theorem dX4_trouble_1 : decode cX4_trouble 1 = .ok (.iconst 0, 1) := dk_3 (dk_at dksX4_trouble_0 1 rfl rfl)
theorem dX4_trouble_2 : decode cX4_trouble 2 = .ok (.putfield 78, 3) := dk_181 0 78 (dk_at dksX4_trouble_0 2 rfl rfl)
theorem dX4_trouble_5 : decode cX4_trouble 5 = .ok (.aload_n 0, 1) := dk_42 (dk_at dksX4_trouble_0 5 rfl rfl)
theorem dX4_trouble_6 : decode cX4_trouble 6 = .ok (.getfield 81, 3) := dk_180 0 81 (dk_at dksX4_trouble_0 6 rfl rfl)
theorem dX4_trouble_9 : decode cX4_trouble 9 = .ok (.ireturn, 1) := dk_172 (dk_at dksX4_trouble_0 9 rfl rfl)
theorem q137 : (Jvm.Cond.initialized "LinkTimesModel") ∈ lw_all := lw_g (lw_at lw_m1 10 rfl) rfl
theorem q783 : (Jvm.Cond.selects "LinkTimesModel" ({ cls := "java/lang/Object", name := "getClass", desc := "()Ljava/lang/Class;" } : Jvm.MethodName) ({ cls := "java/lang/Object", name := "getClass", desc := "()Ljava/lang/Class;" } : Jvm.MethodName)) ∈ lw_all := lw_g (lw_at lw_m3 176 rfl) rfl
theorem q1794 : (Jvm.Cond.instantiable "LinkTimesModel" (42 : Nat)) ∈ lw_all := lw_g (lw_at lw_m7 227 rfl) rfl
theorem q1796 : (Jvm.Cond.instanceMethod ({ cls := "LinkTimesModel", name := "<init>", desc := "()V" } : Jvm.MethodName)) ∈ lw_all := lw_g (lw_at lw_m7 229 rfl) rfl
theorem q1797 : (Jvm.Cond.code ({ cls := "LinkTimesModel", name := "<init>", desc := "()V" } : Jvm.MethodName) prog_15_method_1_code (1 : Nat) (Option.none : Option Jvm.ClassFile.FieldType)) ∈ lw_all := lw_g (lw_at lw_m7 230 rfl) rfl
theorem q1798 : (Jvm.Cond.methodLink "LinkTimesModel" (3 : Nat) ({ cls := "java/lang/Object", name := "<init>", desc := "()V" } : Jvm.MethodName)) ∈ lw_all := lw_g (lw_at lw_m7 231 rfl) rfl
theorem q1799 : (Jvm.Cond.fieldLink "LinkTimesModel" (78 : Nat) "LinkTimesModel" "thrown" "I") ∈ lw_all := lw_g (lw_at lw_m7 232 rfl) rfl
theorem q1800 : (Jvm.Cond.fieldLink "LinkTimesModel" (81 : Nat) "LinkTimesModel" "trouble" "I") ∈ lw_all := lw_g (lw_at lw_m7 233 rfl) rfl
theorem q1801 : (Jvm.Cond.fieldLink "LinkTimesModel" (231 : Nat) "LinkTimesModel" "fault" "I") ∈ lw_all := lw_g (lw_at lw_m7 234 rfl) rfl
theorem q1802 : (Jvm.Cond.fieldLink "LinkTimesModel" (9 : Nat) "LinkTimesModel" "where" "I") ∈ lw_all := lw_g (lw_at lw_m7 235 rfl) rfl
theorem q1803 : (Jvm.Cond.fieldLink "LinkTimesModel" (13 : Nat) "LinkTimesModel" "tape" "[I") ∈ lw_all := lw_g (lw_at lw_m7 236 rfl) rfl
theorem q1804 : (Jvm.Cond.fieldLink "LinkTimesModel" (84 : Nat) "LinkTimesModel" "taped" "I") ∈ lw_all := lw_g (lw_at lw_m7 237 rfl) rfl
theorem q1805 : (Jvm.Cond.fieldLink "LinkTimesModel" (17 : Nat) "LinkTimesModel" "row" "[I") ∈ lw_all := lw_g (lw_at lw_m7 238 rfl) rfl
theorem q1806 : (Jvm.Cond.fieldLink "LinkTimesModel" (20 : Nat) "LinkTimesModel" "read" "[I") ∈ lw_all := lw_g (lw_at lw_m7 239 rfl) rfl
theorem q1807 : (Jvm.Cond.fieldLink "LinkTimesModel" (23 : Nat) "LinkTimesModel" "aside" "[I") ∈ lw_all := lw_g (lw_at lw_m8 0 rfl) rfl
theorem q1808 : (Jvm.Cond.fieldLink "LinkTimesModel" (26 : Nat) "LinkTimesModel" "kept" "[I") ∈ lw_all := lw_g (lw_at lw_m8 1 rfl) rfl
theorem q1809 : (Jvm.Cond.fieldLink "LinkTimesModel" (247 : Nat) "LinkTimesModel" "actMany" "I") ∈ lw_all := lw_g (lw_at lw_m8 2 rfl) rfl
theorem q1810 : (Jvm.Cond.fieldLink "LinkTimesModel" (244 : Nat) "LinkTimesModel" "isTold" "Z") ∈ lw_all := lw_g (lw_at lw_m8 3 rfl) rfl
theorem q1811 : (Jvm.Cond.fieldLink "LinkTimesModel" (91 : Nat) "LinkTimesModel" "textLong" "I") ∈ lw_all := lw_g (lw_at lw_m8 4 rfl) rfl
theorem q1812 : (Jvm.Cond.fieldLink "LinkTimesModel" (101 : Nat) "LinkTimesModel" "place" "I") ∈ lw_all := lw_g (lw_at lw_m8 5 rfl) rfl
theorem q1813 : (Jvm.Cond.fieldLink "LinkTimesModel" (94 : Nat) "LinkTimesModel" "spot" "I") ∈ lw_all := lw_g (lw_at lw_m8 6 rfl) rfl
theorem q1814 : (Jvm.Cond.fieldLink "LinkTimesModel" (104 : Nat) "LinkTimesModel" "token" "I") ∈ lw_all := lw_g (lw_at lw_m8 7 rfl) rfl
theorem q1815 : (Jvm.Cond.fieldLink "LinkTimesModel" (111 : Nat) "LinkTimesModel" "whole" "I") ∈ lw_all := lw_g (lw_at lw_m8 8 rfl) rfl
theorem q1816 : (Jvm.Cond.fieldLink "LinkTimesModel" (124 : Nat) "LinkTimesModel" "readFault" "I") ∈ lw_all := lw_g (lw_at lw_m8 9 rfl) rfl
theorem q1817 : (Jvm.Cond.fieldLink "LinkTimesModel" (127 : Nat) "LinkTimesModel" "readPlace" "I") ∈ lw_all := lw_g (lw_at lw_m8 10 rfl) rfl
theorem q1818 : (Jvm.Cond.fieldLink "LinkTimesModel" (166 : Nat) "LinkTimesModel" "hasDesk" "Z") ∈ lw_all := lw_g (lw_at lw_m8 11 rfl) rfl
theorem q1819 : (Jvm.Cond.fieldLink "LinkTimesModel" (29 : Nat) "LinkTimesModel" "spotNames" "[J") ∈ lw_all := lw_g (lw_at lw_m8 12 rfl) rfl
theorem q1820 : (Jvm.Cond.fieldLink "LinkTimesModel" (33 : Nat) "LinkTimesModel" "lineNames" "[J") ∈ lw_all := lw_g (lw_at lw_m8 13 rfl) rfl
theorem q1821 : (Jvm.Cond.fieldLink "LinkTimesModel" (36 : Nat) "LinkTimesModel" "link" "[I") ∈ lw_all := lw_g (lw_at lw_m8 14 rfl) rfl
theorem q1822 : (Jvm.Cond.fieldLink "LinkTimesModel" (39 : Nat) "LinkTimesModel" "there" "[I") ∈ lw_all := lw_g (lw_at lw_m8 15 rfl) rfl
theorem q1823 : (Jvm.Cond.fieldLink "LinkTimesModel" (42 : Nat) "LinkTimesModel" "changesBy" "[I") ∈ lw_all := lw_g (lw_at lw_m8 16 rfl) rfl
theorem q1824 : (Jvm.Cond.fieldLink "LinkTimesModel" (45 : Nat) "LinkTimesModel" "ridesBy" "[I") ∈ lw_all := lw_g (lw_at lw_m8 17 rfl) rfl
theorem q1825 : (Jvm.Cond.fieldLink "LinkTimesModel" (48 : Nat) "LinkTimesModel" "nextBy" "[I") ∈ lw_all := lw_g (lw_at lw_m8 18 rfl) rfl
theorem q1826 : (Jvm.Cond.fieldLink "LinkTimesModel" (51 : Nat) "LinkTimesModel" "sorted" "[I") ∈ lw_all := lw_g (lw_at lw_m8 19 rfl) rfl
theorem q1827 : (Jvm.Cond.fieldLink "LinkTimesModel" (275 : Nat) "LinkTimesModel" "sortedMany" "I") ∈ lw_all := lw_g (lw_at lw_m8 20 rfl) rfl
theorem q1828 : (Jvm.Cond.fieldLink "LinkTimesModel" (54 : Nat) "LinkTimesModel" "thereBy" "[I") ∈ lw_all := lw_g (lw_at lw_m8 21 rfl) rfl
theorem q1829 : (Jvm.Cond.fieldLink "LinkTimesModel" (57 : Nat) "LinkTimesModel" "tradeAt" "[I") ∈ lw_all := lw_g (lw_at lw_m8 22 rfl) rfl
theorem q1830 : (Jvm.Cond.fieldLink "LinkTimesModel" (60 : Nat) "LinkTimesModel" "tradeChanges" "[I") ∈ lw_all := lw_g (lw_at lw_m8 23 rfl) rfl
theorem q1831 : (Jvm.Cond.fieldLink "LinkTimesModel" (325 : Nat) "LinkTimesModel" "tradeMany" "I") ∈ lw_all := lw_g (lw_at lw_m8 24 rfl) rfl
theorem q1832 : (Jvm.Cond.fieldLink "LinkTimesModel" (63 : Nat) "LinkTimesModel" "stepLeaves" "[I") ∈ lw_all := lw_g (lw_at lw_m8 25 rfl) rfl
theorem q1833 : (Jvm.Cond.fieldLink "LinkTimesModel" (66 : Nat) "LinkTimesModel" "stepArrives" "[I") ∈ lw_all := lw_g (lw_at lw_m8 26 rfl) rfl
theorem q1834 : (Jvm.Cond.fieldLink "LinkTimesModel" (69 : Nat) "LinkTimesModel" "stepChanges" "[I") ∈ lw_all := lw_g (lw_at lw_m8 27 rfl) rfl
theorem q1835 : (Jvm.Cond.fieldLink "LinkTimesModel" (336 : Nat) "LinkTimesModel" "stepMany" "I") ∈ lw_all := lw_g (lw_at lw_m8 28 rfl) rfl
theorem q1836 : (Jvm.Cond.fieldLink "LinkTimesModel" (72 : Nat) "LinkTimesModel" "otherAt" "[I") ∈ lw_all := lw_g (lw_at lw_m8 29 rfl) rfl
theorem q1837 : (Jvm.Cond.fieldLink "LinkTimesModel" (345 : Nat) "LinkTimesModel" "otherMany" "I") ∈ lw_all := lw_g (lw_at lw_m8 30 rfl) rfl
theorem q1838 : (Jvm.Cond.fieldLink "LinkTimesModel" (75 : Nat) "LinkTimesModel" "turnsAt" "[I") ∈ lw_all := lw_g (lw_at lw_m8 31 rfl) rfl
theorem q1839 : (Jvm.Cond.fieldLink "LinkTimesModel" (357 : Nat) "LinkTimesModel" "pairMany" "I") ∈ lw_all := lw_g (lw_at lw_m8 32 rfl) rfl
theorem q1840 : (Jvm.Cond.fieldLink "LinkTimesModel" (360 : Nat) "LinkTimesModel" "longest" "I") ∈ lw_all := lw_g (lw_at lw_m8 33 rfl) rfl
theorem q1841 : (Jvm.Cond.lays "LinkTimesModel" "LinkTimesModel" "thrown" "I") ∈ lw_all := lw_g (lw_at lw_m8 34 rfl) rfl
theorem q1842 : (Jvm.Cond.soleField "LinkTimesModel" "thrown") ∈ lw_all := lw_g (lw_at lw_m8 35 rfl) rfl
theorem q1843 : (Jvm.Cond.lays "LinkTimesModel" "LinkTimesModel" "trouble" "I") ∈ lw_all := lw_g (lw_at lw_m8 36 rfl) rfl
theorem q1844 : (Jvm.Cond.soleField "LinkTimesModel" "trouble") ∈ lw_all := lw_g (lw_at lw_m8 37 rfl) rfl
theorem q1845 : (Jvm.Cond.lays "LinkTimesModel" "LinkTimesModel" "fault" "I") ∈ lw_all := lw_g (lw_at lw_m8 38 rfl) rfl
theorem q1846 : (Jvm.Cond.soleField "LinkTimesModel" "fault") ∈ lw_all := lw_g (lw_at lw_m8 39 rfl) rfl
theorem q1847 : (Jvm.Cond.lays "LinkTimesModel" "LinkTimesModel" "where" "I") ∈ lw_all := lw_g (lw_at lw_m8 40 rfl) rfl
theorem q1848 : (Jvm.Cond.soleField "LinkTimesModel" "where") ∈ lw_all := lw_g (lw_at lw_m8 41 rfl) rfl
theorem q1849 : (Jvm.Cond.laysFinal "LinkTimesModel" "LinkTimesModel" "tape" "[I") ∈ lw_all := lw_g (lw_at lw_m8 42 rfl) rfl
theorem q1850 : (Jvm.Cond.soleField "LinkTimesModel" "tape") ∈ lw_all := lw_g (lw_at lw_m8 43 rfl) rfl
theorem q1851 : (Jvm.Cond.lays "LinkTimesModel" "LinkTimesModel" "taped" "I") ∈ lw_all := lw_g (lw_at lw_m8 44 rfl) rfl
theorem q1852 : (Jvm.Cond.soleField "LinkTimesModel" "taped") ∈ lw_all := lw_g (lw_at lw_m8 45 rfl) rfl
theorem q1853 : (Jvm.Cond.laysFinal "LinkTimesModel" "LinkTimesModel" "row" "[I") ∈ lw_all := lw_g (lw_at lw_m8 46 rfl) rfl
theorem q1854 : (Jvm.Cond.soleField "LinkTimesModel" "row") ∈ lw_all := lw_g (lw_at lw_m8 47 rfl) rfl
theorem q1855 : (Jvm.Cond.laysFinal "LinkTimesModel" "LinkTimesModel" "read" "[I") ∈ lw_all := lw_g (lw_at lw_m8 48 rfl) rfl
theorem q1856 : (Jvm.Cond.soleField "LinkTimesModel" "read") ∈ lw_all := lw_g (lw_at lw_m8 49 rfl) rfl
theorem q1857 : (Jvm.Cond.laysFinal "LinkTimesModel" "LinkTimesModel" "aside" "[I") ∈ lw_all := lw_g (lw_at lw_m8 50 rfl) rfl
theorem q1858 : (Jvm.Cond.soleField "LinkTimesModel" "aside") ∈ lw_all := lw_g (lw_at lw_m8 51 rfl) rfl
theorem q1859 : (Jvm.Cond.laysFinal "LinkTimesModel" "LinkTimesModel" "kept" "[I") ∈ lw_all := lw_g (lw_at lw_m8 52 rfl) rfl
theorem q1860 : (Jvm.Cond.soleField "LinkTimesModel" "kept") ∈ lw_all := lw_g (lw_at lw_m8 53 rfl) rfl
theorem q1861 : (Jvm.Cond.lays "LinkTimesModel" "LinkTimesModel" "actMany" "I") ∈ lw_all := lw_g (lw_at lw_m8 54 rfl) rfl
theorem q1862 : (Jvm.Cond.soleField "LinkTimesModel" "actMany") ∈ lw_all := lw_g (lw_at lw_m8 55 rfl) rfl
theorem q1863 : (Jvm.Cond.lays "LinkTimesModel" "LinkTimesModel" "isTold" "Z") ∈ lw_all := lw_g (lw_at lw_m8 56 rfl) rfl
theorem q1864 : (Jvm.Cond.soleField "LinkTimesModel" "isTold") ∈ lw_all := lw_g (lw_at lw_m8 57 rfl) rfl
theorem q1865 : (Jvm.Cond.lays "LinkTimesModel" "LinkTimesModel" "textLong" "I") ∈ lw_all := lw_g (lw_at lw_m8 58 rfl) rfl
theorem q1866 : (Jvm.Cond.soleField "LinkTimesModel" "textLong") ∈ lw_all := lw_g (lw_at lw_m8 59 rfl) rfl
theorem q1867 : (Jvm.Cond.lays "LinkTimesModel" "LinkTimesModel" "place" "I") ∈ lw_all := lw_g (lw_at lw_m8 60 rfl) rfl
theorem q1868 : (Jvm.Cond.soleField "LinkTimesModel" "place") ∈ lw_all := lw_g (lw_at lw_m8 61 rfl) rfl
theorem q1869 : (Jvm.Cond.lays "LinkTimesModel" "LinkTimesModel" "spot" "I") ∈ lw_all := lw_g (lw_at lw_m8 62 rfl) rfl
theorem q1870 : (Jvm.Cond.soleField "LinkTimesModel" "spot") ∈ lw_all := lw_g (lw_at lw_m8 63 rfl) rfl
theorem q1871 : (Jvm.Cond.lays "LinkTimesModel" "LinkTimesModel" "token" "I") ∈ lw_all := lw_g (lw_at lw_m8 64 rfl) rfl
theorem q1872 : (Jvm.Cond.soleField "LinkTimesModel" "token") ∈ lw_all := lw_g (lw_at lw_m8 65 rfl) rfl
theorem q1873 : (Jvm.Cond.lays "LinkTimesModel" "LinkTimesModel" "whole" "I") ∈ lw_all := lw_g (lw_at lw_m8 66 rfl) rfl
theorem q1874 : (Jvm.Cond.soleField "LinkTimesModel" "whole") ∈ lw_all := lw_g (lw_at lw_m8 67 rfl) rfl
theorem q1875 : (Jvm.Cond.lays "LinkTimesModel" "LinkTimesModel" "readFault" "I") ∈ lw_all := lw_g (lw_at lw_m8 68 rfl) rfl
theorem q1876 : (Jvm.Cond.soleField "LinkTimesModel" "readFault") ∈ lw_all := lw_g (lw_at lw_m8 69 rfl) rfl
theorem q1877 : (Jvm.Cond.lays "LinkTimesModel" "LinkTimesModel" "readPlace" "I") ∈ lw_all := lw_g (lw_at lw_m8 70 rfl) rfl
theorem q1878 : (Jvm.Cond.soleField "LinkTimesModel" "readPlace") ∈ lw_all := lw_g (lw_at lw_m8 71 rfl) rfl
theorem q1879 : (Jvm.Cond.lays "LinkTimesModel" "LinkTimesModel" "hasDesk" "Z") ∈ lw_all := lw_g (lw_at lw_m8 72 rfl) rfl
theorem q1880 : (Jvm.Cond.soleField "LinkTimesModel" "hasDesk") ∈ lw_all := lw_g (lw_at lw_m8 73 rfl) rfl
theorem q1881 : (Jvm.Cond.laysFinal "LinkTimesModel" "LinkTimesModel" "spotNames" "[J") ∈ lw_all := lw_g (lw_at lw_m8 74 rfl) rfl
theorem q1882 : (Jvm.Cond.soleField "LinkTimesModel" "spotNames") ∈ lw_all := lw_g (lw_at lw_m8 75 rfl) rfl
theorem q1883 : (Jvm.Cond.laysFinal "LinkTimesModel" "LinkTimesModel" "lineNames" "[J") ∈ lw_all := lw_g (lw_at lw_m8 76 rfl) rfl
theorem q1884 : (Jvm.Cond.soleField "LinkTimesModel" "lineNames") ∈ lw_all := lw_g (lw_at lw_m8 77 rfl) rfl
theorem q1885 : (Jvm.Cond.laysFinal "LinkTimesModel" "LinkTimesModel" "link" "[I") ∈ lw_all := lw_g (lw_at lw_m8 78 rfl) rfl
theorem q1886 : (Jvm.Cond.soleField "LinkTimesModel" "link") ∈ lw_all := lw_g (lw_at lw_m8 79 rfl) rfl
theorem q1887 : (Jvm.Cond.laysFinal "LinkTimesModel" "LinkTimesModel" "there" "[I") ∈ lw_all := lw_g (lw_at lw_m8 80 rfl) rfl
theorem q1888 : (Jvm.Cond.soleField "LinkTimesModel" "there") ∈ lw_all := lw_g (lw_at lw_m8 81 rfl) rfl
theorem q1889 : (Jvm.Cond.laysFinal "LinkTimesModel" "LinkTimesModel" "changesBy" "[I") ∈ lw_all := lw_g (lw_at lw_m8 82 rfl) rfl
theorem q1890 : (Jvm.Cond.soleField "LinkTimesModel" "changesBy") ∈ lw_all := lw_g (lw_at lw_m8 83 rfl) rfl
theorem q1891 : (Jvm.Cond.laysFinal "LinkTimesModel" "LinkTimesModel" "ridesBy" "[I") ∈ lw_all := lw_g (lw_at lw_m8 84 rfl) rfl
theorem q1892 : (Jvm.Cond.soleField "LinkTimesModel" "ridesBy") ∈ lw_all := lw_g (lw_at lw_m8 85 rfl) rfl
theorem q1893 : (Jvm.Cond.laysFinal "LinkTimesModel" "LinkTimesModel" "nextBy" "[I") ∈ lw_all := lw_g (lw_at lw_m8 86 rfl) rfl
theorem q1894 : (Jvm.Cond.soleField "LinkTimesModel" "nextBy") ∈ lw_all := lw_g (lw_at lw_m8 87 rfl) rfl
theorem q1895 : (Jvm.Cond.laysFinal "LinkTimesModel" "LinkTimesModel" "sorted" "[I") ∈ lw_all := lw_g (lw_at lw_m8 88 rfl) rfl
theorem q1896 : (Jvm.Cond.soleField "LinkTimesModel" "sorted") ∈ lw_all := lw_g (lw_at lw_m8 89 rfl) rfl
theorem q1897 : (Jvm.Cond.lays "LinkTimesModel" "LinkTimesModel" "sortedMany" "I") ∈ lw_all := lw_g (lw_at lw_m8 90 rfl) rfl
theorem q1898 : (Jvm.Cond.soleField "LinkTimesModel" "sortedMany") ∈ lw_all := lw_g (lw_at lw_m8 91 rfl) rfl
theorem q1899 : (Jvm.Cond.laysFinal "LinkTimesModel" "LinkTimesModel" "thereBy" "[I") ∈ lw_all := lw_g (lw_at lw_m8 92 rfl) rfl
theorem q1900 : (Jvm.Cond.soleField "LinkTimesModel" "thereBy") ∈ lw_all := lw_g (lw_at lw_m8 93 rfl) rfl
theorem q1901 : (Jvm.Cond.laysFinal "LinkTimesModel" "LinkTimesModel" "tradeAt" "[I") ∈ lw_all := lw_g (lw_at lw_m8 94 rfl) rfl
theorem q1902 : (Jvm.Cond.soleField "LinkTimesModel" "tradeAt") ∈ lw_all := lw_g (lw_at lw_m8 95 rfl) rfl
theorem q1903 : (Jvm.Cond.laysFinal "LinkTimesModel" "LinkTimesModel" "tradeChanges" "[I") ∈ lw_all := lw_g (lw_at lw_m8 96 rfl) rfl
theorem q1904 : (Jvm.Cond.soleField "LinkTimesModel" "tradeChanges") ∈ lw_all := lw_g (lw_at lw_m8 97 rfl) rfl
theorem q1905 : (Jvm.Cond.lays "LinkTimesModel" "LinkTimesModel" "tradeMany" "I") ∈ lw_all := lw_g (lw_at lw_m8 98 rfl) rfl
theorem q1906 : (Jvm.Cond.soleField "LinkTimesModel" "tradeMany") ∈ lw_all := lw_g (lw_at lw_m8 99 rfl) rfl
theorem q1907 : (Jvm.Cond.laysFinal "LinkTimesModel" "LinkTimesModel" "stepLeaves" "[I") ∈ lw_all := lw_g (lw_at lw_m8 100 rfl) rfl
theorem q1908 : (Jvm.Cond.soleField "LinkTimesModel" "stepLeaves") ∈ lw_all := lw_g (lw_at lw_m8 101 rfl) rfl
theorem q1909 : (Jvm.Cond.laysFinal "LinkTimesModel" "LinkTimesModel" "stepArrives" "[I") ∈ lw_all := lw_g (lw_at lw_m8 102 rfl) rfl
theorem q1910 : (Jvm.Cond.soleField "LinkTimesModel" "stepArrives") ∈ lw_all := lw_g (lw_at lw_m8 103 rfl) rfl
theorem q1911 : (Jvm.Cond.laysFinal "LinkTimesModel" "LinkTimesModel" "stepChanges" "[I") ∈ lw_all := lw_g (lw_at lw_m8 104 rfl) rfl
theorem q1912 : (Jvm.Cond.soleField "LinkTimesModel" "stepChanges") ∈ lw_all := lw_g (lw_at lw_m8 105 rfl) rfl
theorem q1913 : (Jvm.Cond.lays "LinkTimesModel" "LinkTimesModel" "stepMany" "I") ∈ lw_all := lw_g (lw_at lw_m8 106 rfl) rfl
theorem q1914 : (Jvm.Cond.soleField "LinkTimesModel" "stepMany") ∈ lw_all := lw_g (lw_at lw_m8 107 rfl) rfl
theorem q1915 : (Jvm.Cond.laysFinal "LinkTimesModel" "LinkTimesModel" "otherAt" "[I") ∈ lw_all := lw_g (lw_at lw_m8 108 rfl) rfl
theorem q1916 : (Jvm.Cond.soleField "LinkTimesModel" "otherAt") ∈ lw_all := lw_g (lw_at lw_m8 109 rfl) rfl
theorem q1917 : (Jvm.Cond.lays "LinkTimesModel" "LinkTimesModel" "otherMany" "I") ∈ lw_all := lw_g (lw_at lw_m8 110 rfl) rfl
theorem q1918 : (Jvm.Cond.soleField "LinkTimesModel" "otherMany") ∈ lw_all := lw_g (lw_at lw_m8 111 rfl) rfl
theorem q1919 : (Jvm.Cond.laysFinal "LinkTimesModel" "LinkTimesModel" "turnsAt" "[I") ∈ lw_all := lw_g (lw_at lw_m8 112 rfl) rfl
theorem q1920 : (Jvm.Cond.soleField "LinkTimesModel" "turnsAt") ∈ lw_all := lw_g (lw_at lw_m8 113 rfl) rfl
theorem q1921 : (Jvm.Cond.lays "LinkTimesModel" "LinkTimesModel" "pairMany" "I") ∈ lw_all := lw_g (lw_at lw_m8 114 rfl) rfl
theorem q1922 : (Jvm.Cond.soleField "LinkTimesModel" "pairMany") ∈ lw_all := lw_g (lw_at lw_m8 115 rfl) rfl
theorem q1923 : (Jvm.Cond.lays "LinkTimesModel" "LinkTimesModel" "longest" "I") ∈ lw_all := lw_g (lw_at lw_m8 116 rfl) rfl
theorem q1924 : (Jvm.Cond.soleField "LinkTimesModel" "longest") ∈ lw_all := lw_g (lw_at lw_m8 117 rfl) rfl
theorem q1925 : (Jvm.Cond.superclass "LinkTimesModel" "java/lang/Object") ∈ lw_all := lw_g (lw_at lw_m8 118 rfl) rfl
theorem q1928 : (Jvm.Cond.instanceMethod ({ cls := "LinkTimesModel", name := "thrown", desc := "()I" } : Jvm.MethodName)) ∈ lw_all := lw_g (lw_at lw_m8 121 rfl) rfl
theorem q1929 : (Jvm.Cond.selects "LinkTimesModel" ({ cls := "LinkTimesModel", name := "thrown", desc := "()I" } : Jvm.MethodName) ({ cls := "LinkTimesModel", name := "thrown", desc := "()I" } : Jvm.MethodName)) ∈ lw_all := lw_g (lw_at lw_m8 122 rfl) rfl
theorem q1930 : (Jvm.Cond.code ({ cls := "LinkTimesModel", name := "thrown", desc := "()I" } : Jvm.MethodName) prog_15_method_2_code (1 : Nat) (Option.some Jvm.ClassFile.FieldType.int)) ∈ lw_all := lw_g (lw_at lw_m8 123 rfl) rfl
theorem q1932 : (Jvm.Cond.instanceMethod ({ cls := "LinkTimesModel", name := "feed", desc := "(IIIII)I" } : Jvm.MethodName)) ∈ lw_all := lw_g (lw_at lw_m8 125 rfl) rfl
theorem q1933 : (Jvm.Cond.selects "LinkTimesModel" ({ cls := "LinkTimesModel", name := "feed", desc := "(IIIII)I" } : Jvm.MethodName) ({ cls := "LinkTimesModel", name := "feed", desc := "(IIIII)I" } : Jvm.MethodName)) ∈ lw_all := lw_g (lw_at lw_m8 126 rfl) rfl
theorem q1934 : (Jvm.Cond.code ({ cls := "LinkTimesModel", name := "feed", desc := "(IIIII)I" } : Jvm.MethodName) prog_15_method_8_code (6 : Nat) (Option.some Jvm.ClassFile.FieldType.int)) ∈ lw_all := lw_g (lw_at lw_m8 127 rfl) rfl
theorem q1935 : (Jvm.Cond.methodLink "LinkTimesModel" (87 : Nat) ({ cls := "LinkTimesModel", name := "laysWord", desc := "(I)V" } : Jvm.MethodName)) ∈ lw_all := lw_g (lw_at lw_m8 128 rfl) rfl
theorem q1936 : (Jvm.Cond.privateMethod ({ cls := "LinkTimesModel", name := "laysWord", desc := "(I)V" } : Jvm.MethodName)) ∈ lw_tbl := lw_at lw_m8 129 rfl
theorem q1937 : (Jvm.Cond.instanceMethod ({ cls := "LinkTimesModel", name := "laysWord", desc := "(I)V" } : Jvm.MethodName)) ∈ lw_all := lw_g (lw_at lw_m8 130 rfl) rfl
theorem q1938 : (Jvm.Cond.code ({ cls := "LinkTimesModel", name := "laysWord", desc := "(I)V" } : Jvm.MethodName) prog_15_method_9_code (3 : Nat) (Option.none : Option Jvm.ClassFile.FieldType)) ∈ lw_all := lw_g (lw_at lw_m8 131 rfl) rfl
theorem q1940 : (Jvm.Cond.instanceMethod ({ cls := "LinkTimesModel", name := "desk", desc := "(I)I" } : Jvm.MethodName)) ∈ lw_all := lw_g (lw_at lw_m8 133 rfl) rfl
theorem q1941 : (Jvm.Cond.selects "LinkTimesModel" ({ cls := "LinkTimesModel", name := "desk", desc := "(I)I" } : Jvm.MethodName) ({ cls := "LinkTimesModel", name := "desk", desc := "(I)I" } : Jvm.MethodName)) ∈ lw_all := lw_g (lw_at lw_m8 134 rfl) rfl
theorem q1942 : (Jvm.Cond.code ({ cls := "LinkTimesModel", name := "desk", desc := "(I)I" } : Jvm.MethodName) prog_15_method_33_code (2 : Nat) (Option.some Jvm.ClassFile.FieldType.int)) ∈ lw_all := lw_g (lw_at lw_m8 135 rfl) rfl
theorem q1943 : (Jvm.Cond.methodLink "LinkTimesModel" (107 : Nat) ({ cls := "LinkTimesModel", name := "in", desc := "(III)Z" } : Jvm.MethodName)) ∈ lw_all := lw_g (lw_at lw_m8 136 rfl) rfl
theorem q1944 : (Jvm.Cond.static ({ cls := "LinkTimesModel", name := "in", desc := "(III)Z" } : Jvm.MethodName)) ∈ lw_all := lw_g (lw_at lw_m8 137 rfl) rfl
theorem q1945 : (Jvm.Cond.code ({ cls := "LinkTimesModel", name := "in", desc := "(III)Z" } : Jvm.MethodName) prog_15_method_3_code (3 : Nat) (Option.some Jvm.ClassFile.FieldType.boolean)) ∈ lw_all := lw_g (lw_at lw_m8 138 rfl) rfl
theorem q1946 : (Jvm.Cond.methodLink "LinkTimesModel" (228 : Nat) ({ cls := "LinkTimesModel", name := "isRefused", desc := "(I)Z" } : Jvm.MethodName)) ∈ lw_all := lw_g (lw_at lw_m8 139 rfl) rfl
theorem q1947 : (Jvm.Cond.privateMethod ({ cls := "LinkTimesModel", name := "isRefused", desc := "(I)Z" } : Jvm.MethodName)) ∈ lw_tbl := lw_at lw_m8 140 rfl
theorem q1948 : (Jvm.Cond.instanceMethod ({ cls := "LinkTimesModel", name := "isRefused", desc := "(I)Z" } : Jvm.MethodName)) ∈ lw_all := lw_g (lw_at lw_m8 141 rfl) rfl
theorem q1949 : (Jvm.Cond.code ({ cls := "LinkTimesModel", name := "isRefused", desc := "(I)Z" } : Jvm.MethodName) prog_15_method_5_code (2 : Nat) (Option.some Jvm.ClassFile.FieldType.boolean)) ∈ lw_all := lw_g (lw_at lw_m8 142 rfl) rfl
theorem q1950 : (Jvm.Cond.methodLink "LinkTimesModel" (234 : Nat) ({ cls := "LinkTimesModel", name := "readAll", desc := "(I)Z" } : Jvm.MethodName)) ∈ lw_all := lw_g (lw_at lw_m8 143 rfl) rfl
theorem q1951 : (Jvm.Cond.privateMethod ({ cls := "LinkTimesModel", name := "readAll", desc := "(I)Z" } : Jvm.MethodName)) ∈ lw_tbl := lw_at lw_m8 144 rfl
theorem q1952 : (Jvm.Cond.instanceMethod ({ cls := "LinkTimesModel", name := "readAll", desc := "(I)Z" } : Jvm.MethodName)) ∈ lw_all := lw_g (lw_at lw_m8 145 rfl) rfl
theorem q1953 : (Jvm.Cond.code ({ cls := "LinkTimesModel", name := "readAll", desc := "(I)Z" } : Jvm.MethodName) prog_15_method_32_code (3 : Nat) (Option.some Jvm.ClassFile.FieldType.boolean)) ∈ lw_all := lw_g (lw_at lw_m8 146 rfl) rfl
theorem q1954 : (Jvm.Cond.methodLink "LinkTimesModel" (134 : Nat) ({ cls := "LinkTimesModel", name := "goesOn", desc := "()V" } : Jvm.MethodName)) ∈ lw_all := lw_g (lw_at lw_m8 147 rfl) rfl
theorem q1955 : (Jvm.Cond.privateMethod ({ cls := "LinkTimesModel", name := "goesOn", desc := "()V" } : Jvm.MethodName)) ∈ lw_tbl := lw_at lw_m8 148 rfl
theorem q1956 : (Jvm.Cond.instanceMethod ({ cls := "LinkTimesModel", name := "goesOn", desc := "()V" } : Jvm.MethodName)) ∈ lw_all := lw_g (lw_at lw_m8 149 rfl) rfl
theorem q1957 : (Jvm.Cond.code ({ cls := "LinkTimesModel", name := "goesOn", desc := "()V" } : Jvm.MethodName) prog_15_method_12_code (2 : Nat) (Option.none : Option Jvm.ClassFile.FieldType)) ∈ lw_all := lw_g (lw_at lw_m8 150 rfl) rfl
theorem q1958 : (Jvm.Cond.methodLink "LinkTimesModel" (97 : Nat) ({ cls := "LinkTimesModel", name := "see", desc := "(I)I" } : Jvm.MethodName)) ∈ lw_all := lw_g (lw_at lw_m8 151 rfl) rfl
theorem q1959 : (Jvm.Cond.privateMethod ({ cls := "LinkTimesModel", name := "see", desc := "(I)I" } : Jvm.MethodName)) ∈ lw_tbl := lw_at lw_m8 152 rfl
theorem q1960 : (Jvm.Cond.instanceMethod ({ cls := "LinkTimesModel", name := "see", desc := "(I)I" } : Jvm.MethodName)) ∈ lw_all := lw_g (lw_at lw_m8 153 rfl) rfl
theorem q1961 : (Jvm.Cond.code ({ cls := "LinkTimesModel", name := "see", desc := "(I)I" } : Jvm.MethodName) prog_15_method_11_code (2 : Nat) (Option.some Jvm.ClassFile.FieldType.int)) ∈ lw_all := lw_g (lw_at lw_m8 154 rfl) rfl
theorem q1962 : (Jvm.Cond.methodLink "LinkTimesModel" (225 : Nat) ({ cls := "LinkTimesModel", name := "readLine", desc := "()Z" } : Jvm.MethodName)) ∈ lw_all := lw_g (lw_at lw_m8 155 rfl) rfl
theorem q1963 : (Jvm.Cond.privateMethod ({ cls := "LinkTimesModel", name := "readLine", desc := "()Z" } : Jvm.MethodName)) ∈ lw_tbl := lw_at lw_m8 156 rfl
theorem q1964 : (Jvm.Cond.instanceMethod ({ cls := "LinkTimesModel", name := "readLine", desc := "()Z" } : Jvm.MethodName)) ∈ lw_all := lw_g (lw_at lw_m8 157 rfl) rfl
theorem q1965 : (Jvm.Cond.code ({ cls := "LinkTimesModel", name := "readLine", desc := "()Z" } : Jvm.MethodName) prog_15_method_31_code (1 : Nat) (Option.some Jvm.ClassFile.FieldType.boolean)) ∈ lw_all := lw_g (lw_at lw_m8 158 rfl) rfl
theorem q1966 : (Jvm.Cond.stringRef "LinkTimesModel" (148 : Nat) "desk") ∈ lw_tbl := lw_at lw_m8 159 rfl
theorem q1967 : (Jvm.Cond.methodLink "LinkTimesModel" (137 : Nat) ({ cls := "LinkTimesModel", name := "isWord", desc := "(Ljava/lang/String;)Z" } : Jvm.MethodName)) ∈ lw_all := lw_g (lw_at lw_m8 160 rfl) rfl
theorem q1968 : (Jvm.Cond.privateMethod ({ cls := "LinkTimesModel", name := "isWord", desc := "(Ljava/lang/String;)Z" } : Jvm.MethodName)) ∈ lw_tbl := lw_at lw_m8 161 rfl
theorem q1969 : (Jvm.Cond.instanceMethod ({ cls := "LinkTimesModel", name := "isWord", desc := "(Ljava/lang/String;)Z" } : Jvm.MethodName)) ∈ lw_all := lw_g (lw_at lw_m8 162 rfl) rfl
theorem q1970 : (Jvm.Cond.code ({ cls := "LinkTimesModel", name := "isWord", desc := "(Ljava/lang/String;)Z" } : Jvm.MethodName) prog_15_method_13_code (3 : Nat) (Option.some Jvm.ClassFile.FieldType.boolean)) ∈ lw_all := lw_g (lw_at lw_m8 163 rfl) rfl
theorem q1971 : (Jvm.Cond.methodLink "LinkTimesModel" (114 : Nat) ({ cls := "java/lang/String", name := "length", desc := "()I" } : Jvm.MethodName)) ∈ lw_all := lw_g (lw_at lw_m8 164 rfl) rfl
theorem q1972 : (Jvm.Cond.methodLink "LinkTimesModel" (120 : Nat) ({ cls := "java/lang/String", name := "charAt", desc := "(I)C" } : Jvm.MethodName)) ∈ lw_all := lw_g (lw_at lw_m8 165 rfl) rfl
theorem q1973 : (Jvm.Cond.methodLink "LinkTimesModel" (213 : Nat) ({ cls := "LinkTimesModel", name := "readDesk", desc := "()Z" } : Jvm.MethodName)) ∈ lw_all := lw_g (lw_at lw_m8 166 rfl) rfl
theorem q1974 : (Jvm.Cond.privateMethod ({ cls := "LinkTimesModel", name := "readDesk", desc := "()Z" } : Jvm.MethodName)) ∈ lw_tbl := lw_at lw_m8 167 rfl
theorem q1975 : (Jvm.Cond.instanceMethod ({ cls := "LinkTimesModel", name := "readDesk", desc := "()Z" } : Jvm.MethodName)) ∈ lw_all := lw_g (lw_at lw_m8 168 rfl) rfl
theorem q1976 : (Jvm.Cond.code ({ cls := "LinkTimesModel", name := "readDesk", desc := "()Z" } : Jvm.MethodName) prog_15_method_23_code (1 : Nat) (Option.some Jvm.ClassFile.FieldType.boolean)) ∈ lw_all := lw_g (lw_at lw_m8 169 rfl) rfl
theorem q1977 : (Jvm.Cond.methodLink "LinkTimesModel" (130 : Nat) ({ cls := "LinkTimesModel", name := "errs", desc := "(I)Z" } : Jvm.MethodName)) ∈ lw_all := lw_g (lw_at lw_m8 170 rfl) rfl
theorem q1978 : (Jvm.Cond.privateMethod ({ cls := "LinkTimesModel", name := "errs", desc := "(I)Z" } : Jvm.MethodName)) ∈ lw_tbl := lw_at lw_m8 171 rfl
theorem q1979 : (Jvm.Cond.instanceMethod ({ cls := "LinkTimesModel", name := "errs", desc := "(I)Z" } : Jvm.MethodName)) ∈ lw_all := lw_g (lw_at lw_m8 172 rfl) rfl
theorem q1980 : (Jvm.Cond.code ({ cls := "LinkTimesModel", name := "errs", desc := "(I)Z" } : Jvm.MethodName) prog_15_method_14_code (2 : Nat) (Option.some Jvm.ClassFile.FieldType.boolean)) ∈ lw_all := lw_g (lw_at lw_m8 173 rfl) rfl
theorem q1981 : (Jvm.Cond.stringRef "LinkTimesModel" (170 : Nat) "span") ∈ lw_tbl := lw_at lw_m8 174 rfl
theorem q1982 : (Jvm.Cond.methodLink "LinkTimesModel" (172 : Nat) ({ cls := "LinkTimesModel", name := "after", desc := "(Ljava/lang/String;III)Z" } : Jvm.MethodName)) ∈ lw_all := lw_g (lw_at lw_m8 175 rfl) rfl
theorem q1983 : (Jvm.Cond.privateMethod ({ cls := "LinkTimesModel", name := "after", desc := "(Ljava/lang/String;III)Z" } : Jvm.MethodName)) ∈ lw_tbl := lw_at lw_m8 176 rfl
theorem q1984 : (Jvm.Cond.instanceMethod ({ cls := "LinkTimesModel", name := "after", desc := "(Ljava/lang/String;III)Z" } : Jvm.MethodName)) ∈ lw_all := lw_g (lw_at lw_m8 177 rfl) rfl
theorem q1985 : (Jvm.Cond.code ({ cls := "LinkTimesModel", name := "after", desc := "(Ljava/lang/String;III)Z" } : Jvm.MethodName) prog_15_method_16_code (5 : Nat) (Option.some Jvm.ClassFile.FieldType.boolean)) ∈ lw_all := lw_g (lw_at lw_m8 178 rfl) rfl
theorem q1986 : (Jvm.Cond.methodLink "LinkTimesModel" (141 : Nat) ({ cls := "LinkTimesModel", name := "lays", desc := "(III)Z" } : Jvm.MethodName)) ∈ lw_all := lw_g (lw_at lw_m8 179 rfl) rfl
theorem q1987 : (Jvm.Cond.privateMethod ({ cls := "LinkTimesModel", name := "lays", desc := "(III)Z" } : Jvm.MethodName)) ∈ lw_tbl := lw_at lw_m8 180 rfl
theorem q1988 : (Jvm.Cond.instanceMethod ({ cls := "LinkTimesModel", name := "lays", desc := "(III)Z" } : Jvm.MethodName)) ∈ lw_all := lw_g (lw_at lw_m8 181 rfl) rfl
theorem q1989 : (Jvm.Cond.code ({ cls := "LinkTimesModel", name := "lays", desc := "(III)Z" } : Jvm.MethodName) prog_15_method_15_code (4 : Nat) (Option.some Jvm.ClassFile.FieldType.boolean)) ∈ lw_all := lw_g (lw_at lw_m8 182 rfl) rfl
theorem q1990 : (Jvm.Cond.stringRef "LinkTimesModel" (150 : Nat) "spot") ∈ lw_tbl := lw_at lw_m8 183 rfl
theorem q1991 : (Jvm.Cond.methodLink "LinkTimesModel" (216 : Nat) ({ cls := "LinkTimesModel", name := "readSpot", desc := "()Z" } : Jvm.MethodName)) ∈ lw_all := lw_g (lw_at lw_m8 184 rfl) rfl
theorem q1992 : (Jvm.Cond.privateMethod ({ cls := "LinkTimesModel", name := "readSpot", desc := "()Z" } : Jvm.MethodName)) ∈ lw_tbl := lw_at lw_m8 185 rfl
theorem q1993 : (Jvm.Cond.instanceMethod ({ cls := "LinkTimesModel", name := "readSpot", desc := "()Z" } : Jvm.MethodName)) ∈ lw_all := lw_g (lw_at lw_m8 186 rfl) rfl
theorem q1994 : (Jvm.Cond.code ({ cls := "LinkTimesModel", name := "readSpot", desc := "()Z" } : Jvm.MethodName) prog_15_method_24_code (2 : Nat) (Option.some Jvm.ClassFile.FieldType.boolean)) ∈ lw_all := lw_g (lw_at lw_m8 187 rfl) rfl
theorem q1995 : (Jvm.Cond.methodLink "LinkTimesModel" (176 : Nat) ({ cls := "LinkTimesModel", name := "begins", desc := "(Z)Z" } : Jvm.MethodName)) ∈ lw_all := lw_g (lw_at lw_m8 188 rfl) rfl
theorem q1996 : (Jvm.Cond.privateMethod ({ cls := "LinkTimesModel", name := "begins", desc := "(Z)Z" } : Jvm.MethodName)) ∈ lw_tbl := lw_at lw_m8 189 rfl
theorem q1997 : (Jvm.Cond.instanceMethod ({ cls := "LinkTimesModel", name := "begins", desc := "(Z)Z" } : Jvm.MethodName)) ∈ lw_all := lw_g (lw_at lw_m8 190 rfl) rfl
theorem q1998 : (Jvm.Cond.code ({ cls := "LinkTimesModel", name := "begins", desc := "(Z)Z" } : Jvm.MethodName) prog_15_method_22_code (2 : Nat) (Option.some Jvm.ClassFile.FieldType.boolean)) ∈ lw_all := lw_g (lw_at lw_m8 191 rfl) rfl
theorem q1999 : (Jvm.Cond.methodLink "LinkTimesModel" (180 : Nat) ({ cls := "LinkTimesModel", name := "takesNew", desc := "([JI)Z" } : Jvm.MethodName)) ∈ lw_all := lw_g (lw_at lw_m8 192 rfl) rfl
theorem q2000 : (Jvm.Cond.privateMethod ({ cls := "LinkTimesModel", name := "takesNew", desc := "([JI)Z" } : Jvm.MethodName)) ∈ lw_tbl := lw_at lw_m8 193 rfl
theorem q2001 : (Jvm.Cond.instanceMethod ({ cls := "LinkTimesModel", name := "takesNew", desc := "([JI)Z" } : Jvm.MethodName)) ∈ lw_all := lw_g (lw_at lw_m8 194 rfl) rfl
theorem q2002 : (Jvm.Cond.code ({ cls := "LinkTimesModel", name := "takesNew", desc := "([JI)Z" } : Jvm.MethodName) prog_15_method_20_code (3 : Nat) (Option.some Jvm.ClassFile.FieldType.boolean)) ∈ lw_all := lw_g (lw_at lw_m8 195 rfl) rfl
theorem q2003 : (Jvm.Cond.methodLink "LinkTimesModel" (154 : Nat) ({ cls := "LinkTimesModel", name := "isName", desc := "()Z" } : Jvm.MethodName)) ∈ lw_all := lw_g (lw_at lw_m8 196 rfl) rfl
theorem q2004 : (Jvm.Cond.privateMethod ({ cls := "LinkTimesModel", name := "isName", desc := "()Z" } : Jvm.MethodName)) ∈ lw_tbl := lw_at lw_m8 197 rfl
theorem q2005 : (Jvm.Cond.instanceMethod ({ cls := "LinkTimesModel", name := "isName", desc := "()Z" } : Jvm.MethodName)) ∈ lw_all := lw_g (lw_at lw_m8 198 rfl) rfl
theorem q2006 : (Jvm.Cond.code ({ cls := "LinkTimesModel", name := "isName", desc := "()Z" } : Jvm.MethodName) prog_15_method_19_code (1 : Nat) (Option.some Jvm.ClassFile.FieldType.boolean)) ∈ lw_all := lw_g (lw_at lw_m8 199 rfl) rfl
theorem q2007 : (Jvm.Cond.stringRef "LinkTimesModel" (151 : Nat) "line") ∈ lw_tbl := lw_at lw_m8 200 rfl
theorem q2008 : (Jvm.Cond.stringRef "LinkTimesModel" (153 : Nat) "link") ∈ lw_tbl := lw_at lw_m8 201 rfl
theorem q2009 : (Jvm.Cond.methodLink "LinkTimesModel" (158 : Nat) ({ cls := "LinkTimesModel", name := "spelt", desc := "()J" } : Jvm.MethodName)) ∈ lw_all := lw_g (lw_at lw_m8 202 rfl) rfl
theorem q2010 : (Jvm.Cond.privateMethod ({ cls := "LinkTimesModel", name := "spelt", desc := "()J" } : Jvm.MethodName)) ∈ lw_tbl := lw_at lw_m8 203 rfl
theorem q2011 : (Jvm.Cond.instanceMethod ({ cls := "LinkTimesModel", name := "spelt", desc := "()J" } : Jvm.MethodName)) ∈ lw_all := lw_g (lw_at lw_m8 204 rfl) rfl
theorem q2012 : (Jvm.Cond.code ({ cls := "LinkTimesModel", name := "spelt", desc := "()J" } : Jvm.MethodName) prog_15_method_17_code (4 : Nat) (Option.some Jvm.ClassFile.FieldType.long)) ∈ lw_all := lw_g (lw_at lw_m8 205 rfl) rfl
theorem q2013 : (Jvm.Cond.constantLong "LinkTimesModel" (144 : Nat) (32 : Int64)) ∈ lw_all := lw_g (lw_at lw_m8 206 rfl) rfl
theorem q2014 : (Jvm.Cond.constantLong "LinkTimesModel" (146 : Nat) (96 : Int64)) ∈ lw_all := lw_g (lw_at lw_m8 207 rfl) rfl
theorem q2015 : (Jvm.Cond.methodLink "LinkTimesModel" (162 : Nat) ({ cls := "LinkTimesModel", name := "placeOf", desc := "([JIJ)I" } : Jvm.MethodName)) ∈ lw_all := lw_g (lw_at lw_m8 208 rfl) rfl
theorem q2016 : (Jvm.Cond.static ({ cls := "LinkTimesModel", name := "placeOf", desc := "([JIJ)I" } : Jvm.MethodName)) ∈ lw_all := lw_g (lw_at lw_m8 209 rfl) rfl
theorem q2017 : (Jvm.Cond.code ({ cls := "LinkTimesModel", name := "placeOf", desc := "([JIJ)I" } : Jvm.MethodName) prog_15_method_18_code (5 : Nat) (Option.some Jvm.ClassFile.FieldType.int)) ∈ lw_all := lw_g (lw_at lw_m8 210 rfl) rfl
theorem q2018 : (Jvm.Cond.stringRef "LinkTimesModel" (184 : Nat) "change") ∈ lw_tbl := lw_at lw_m8 211 rfl
theorem q2019 : (Jvm.Cond.stringRef "LinkTimesModel" (186 : Nat) "wait") ∈ lw_tbl := lw_at lw_m8 212 rfl
theorem q2020 : (Jvm.Cond.methodLink "LinkTimesModel" (219 : Nat) ({ cls := "LinkTimesModel", name := "readOneLine", desc := "()Z" } : Jvm.MethodName)) ∈ lw_all := lw_g (lw_at lw_m8 213 rfl) rfl
theorem q2021 : (Jvm.Cond.privateMethod ({ cls := "LinkTimesModel", name := "readOneLine", desc := "()Z" } : Jvm.MethodName)) ∈ lw_tbl := lw_at lw_m8 214 rfl
theorem q2022 : (Jvm.Cond.instanceMethod ({ cls := "LinkTimesModel", name := "readOneLine", desc := "()Z" } : Jvm.MethodName)) ∈ lw_all := lw_g (lw_at lw_m8 215 rfl) rfl
theorem q2023 : (Jvm.Cond.code ({ cls := "LinkTimesModel", name := "readOneLine", desc := "()Z" } : Jvm.MethodName) prog_15_method_25_code (1 : Nat) (Option.some Jvm.ClassFile.FieldType.boolean)) ∈ lw_all := lw_g (lw_at lw_m8 216 rfl) rfl
theorem q2024 : (Jvm.Cond.methodLink "LinkTimesModel" (222 : Nat) ({ cls := "LinkTimesModel", name := "readLink", desc := "()Z" } : Jvm.MethodName)) ∈ lw_all := lw_g (lw_at lw_m8 217 rfl) rfl
theorem q2025 : (Jvm.Cond.privateMethod ({ cls := "LinkTimesModel", name := "readLink", desc := "()Z" } : Jvm.MethodName)) ∈ lw_tbl := lw_at lw_m8 218 rfl
theorem q2026 : (Jvm.Cond.instanceMethod ({ cls := "LinkTimesModel", name := "readLink", desc := "()Z" } : Jvm.MethodName)) ∈ lw_all := lw_g (lw_at lw_m8 219 rfl) rfl
theorem q2027 : (Jvm.Cond.code ({ cls := "LinkTimesModel", name := "readLink", desc := "()Z" } : Jvm.MethodName) prog_15_method_29_code (2 : Nat) (Option.some Jvm.ClassFile.FieldType.boolean)) ∈ lw_all := lw_g (lw_at lw_m8 220 rfl) rfl
theorem q2028 : (Jvm.Cond.methodLink "LinkTimesModel" (191 : Nat) ({ cls := "LinkTimesModel", name := "namesLink", desc := "([JII)Z" } : Jvm.MethodName)) ∈ lw_all := lw_g (lw_at lw_m8 221 rfl) rfl
theorem q2029 : (Jvm.Cond.privateMethod ({ cls := "LinkTimesModel", name := "namesLink", desc := "([JII)Z" } : Jvm.MethodName)) ∈ lw_tbl := lw_at lw_m8 222 rfl
theorem q2030 : (Jvm.Cond.instanceMethod ({ cls := "LinkTimesModel", name := "namesLink", desc := "([JII)Z" } : Jvm.MethodName)) ∈ lw_all := lw_g (lw_at lw_m8 223 rfl) rfl
theorem q2031 : (Jvm.Cond.code ({ cls := "LinkTimesModel", name := "namesLink", desc := "([JII)Z" } : Jvm.MethodName) prog_15_method_28_code (4 : Nat) (Option.some Jvm.ClassFile.FieldType.boolean)) ∈ lw_all := lw_g (lw_at lw_m8 224 rfl) rfl
theorem q2032 : (Jvm.Cond.stringRef "LinkTimesModel" (195 : Nat) "from") ∈ lw_tbl := lw_at lw_m8 225 rfl
theorem q2033 : (Jvm.Cond.methodLink "LinkTimesModel" (197 : Nat) ({ cls := "LinkTimesModel", name := "afterLink", desc := "(Ljava/lang/String;III)Z" } : Jvm.MethodName)) ∈ lw_all := lw_g (lw_at lw_m8 226 rfl) rfl
theorem q2034 : (Jvm.Cond.privateMethod ({ cls := "LinkTimesModel", name := "afterLink", desc := "(Ljava/lang/String;III)Z" } : Jvm.MethodName)) ∈ lw_tbl := lw_at lw_m8 227 rfl
theorem q2035 : (Jvm.Cond.instanceMethod ({ cls := "LinkTimesModel", name := "afterLink", desc := "(Ljava/lang/String;III)Z" } : Jvm.MethodName)) ∈ lw_all := lw_g (lw_at lw_m8 228 rfl) rfl
theorem q2036 : (Jvm.Cond.code ({ cls := "LinkTimesModel", name := "afterLink", desc := "(Ljava/lang/String;III)Z" } : Jvm.MethodName) prog_15_method_27_code (5 : Nat) (Option.some Jvm.ClassFile.FieldType.boolean)) ∈ lw_all := lw_g (lw_at lw_m8 229 rfl) rfl
theorem q2037 : (Jvm.Cond.methodLink "LinkTimesModel" (188 : Nat) ({ cls := "LinkTimesModel", name := "laysLink", desc := "(III)Z" } : Jvm.MethodName)) ∈ lw_all := lw_g (lw_at lw_m8 230 rfl) rfl
theorem q2038 : (Jvm.Cond.privateMethod ({ cls := "LinkTimesModel", name := "laysLink", desc := "(III)Z" } : Jvm.MethodName)) ∈ lw_tbl := lw_at lw_m8 231 rfl
theorem q2039 : (Jvm.Cond.instanceMethod ({ cls := "LinkTimesModel", name := "laysLink", desc := "(III)Z" } : Jvm.MethodName)) ∈ lw_all := lw_g (lw_at lw_m8 232 rfl) rfl
theorem q2040 : (Jvm.Cond.code ({ cls := "LinkTimesModel", name := "laysLink", desc := "(III)Z" } : Jvm.MethodName) prog_15_method_26_code (4 : Nat) (Option.some Jvm.ClassFile.FieldType.boolean)) ∈ lw_all := lw_g (lw_at lw_m8 233 rfl) rfl
theorem q2041 : (Jvm.Cond.stringRef "LinkTimesModel" (200 : Nat) "till") ∈ lw_tbl := lw_at lw_m8 234 rfl
theorem q2042 : (Jvm.Cond.stringRef "LinkTimesModel" (202 : Nat) "every") ∈ lw_tbl := lw_at lw_m8 235 rfl
theorem q2043 : (Jvm.Cond.stringRef "LinkTimesModel" (204 : Nat) "takes") ∈ lw_tbl := lw_at lw_m8 236 rfl
theorem q2044 : (Jvm.Cond.methodLink "LinkTimesModel" (206 : Nat) ({ cls := "LinkTimesModel", name := "lays", desc := "([IIIIIII)V" } : Jvm.MethodName)) ∈ lw_all := lw_g (lw_at lw_m8 237 rfl) rfl
theorem q2045 : (Jvm.Cond.static ({ cls := "LinkTimesModel", name := "lays", desc := "([IIIIIII)V" } : Jvm.MethodName)) ∈ lw_all := lw_g (lw_at lw_m8 238 rfl) rfl
theorem q2046 : (Jvm.Cond.code ({ cls := "LinkTimesModel", name := "lays", desc := "([IIIIIII)V" } : Jvm.MethodName) prog_15_method_30_code (8 : Nat) (Option.none : Option Jvm.ClassFile.FieldType)) ∈ lw_all := lw_g (lw_at lw_m8 239 rfl) rfl
theorem q2047 : (Jvm.Cond.methodLink "LinkTimesModel" (209 : Nat) ({ cls := "LinkTimesModel", name := "at", desc := "(II)I" } : Jvm.MethodName)) ∈ lw_all := lw_g (lw_at lw_m9 0 rfl) rfl
theorem q2048 : (Jvm.Cond.static ({ cls := "LinkTimesModel", name := "at", desc := "(II)I" } : Jvm.MethodName)) ∈ lw_all := lw_g (lw_at lw_m9 1 rfl) rfl
theorem q2049 : (Jvm.Cond.code ({ cls := "LinkTimesModel", name := "at", desc := "(II)I" } : Jvm.MethodName) prog_15_method_10_code (2 : Nat) (Option.some Jvm.ClassFile.FieldType.int)) ∈ lw_all := lw_g (lw_at lw_m9 2 rfl) rfl
theorem q2050 : (Jvm.Cond.methodLink "LinkTimesModel" (237 : Nat) ({ cls := "LinkTimesModel", name := "no", desc := "(I)I" } : Jvm.MethodName)) ∈ lw_all := lw_g (lw_at lw_m9 3 rfl) rfl
theorem q2051 : (Jvm.Cond.privateMethod ({ cls := "LinkTimesModel", name := "no", desc := "(I)I" } : Jvm.MethodName)) ∈ lw_tbl := lw_at lw_m9 4 rfl
theorem q2052 : (Jvm.Cond.instanceMethod ({ cls := "LinkTimesModel", name := "no", desc := "(I)I" } : Jvm.MethodName)) ∈ lw_all := lw_g (lw_at lw_m9 5 rfl) rfl
theorem q2053 : (Jvm.Cond.code ({ cls := "LinkTimesModel", name := "no", desc := "(I)I" } : Jvm.MethodName) prog_15_method_4_code (2 : Nat) (Option.some Jvm.ClassFile.FieldType.int)) ∈ lw_all := lw_g (lw_at lw_m9 6 rfl) rfl
theorem q2054 : (Jvm.Cond.methodLink "LinkTimesModel" (240 : Nat) ({ cls := "LinkTimesModel", name := "copies", desc := "([II[II)V" } : Jvm.MethodName)) ∈ lw_all := lw_g (lw_at lw_m9 7 rfl) rfl
theorem q2055 : (Jvm.Cond.static ({ cls := "LinkTimesModel", name := "copies", desc := "([II[II)V" } : Jvm.MethodName)) ∈ lw_all := lw_g (lw_at lw_m9 8 rfl) rfl
theorem q2056 : (Jvm.Cond.code ({ cls := "LinkTimesModel", name := "copies", desc := "([II[II)V" } : Jvm.MethodName) prog_15_method_34_code (5 : Nat) (Option.none : Option Jvm.ClassFile.FieldType)) ∈ lw_all := lw_g (lw_at lw_m9 9 rfl) rfl
theorem q2058 : (Jvm.Cond.instanceMethod ({ cls := "LinkTimesModel", name := "fault", desc := "()I" } : Jvm.MethodName)) ∈ lw_all := lw_g (lw_at lw_m9 11 rfl) rfl
theorem q2059 : (Jvm.Cond.selects "LinkTimesModel" ({ cls := "LinkTimesModel", name := "fault", desc := "()I" } : Jvm.MethodName) ({ cls := "LinkTimesModel", name := "fault", desc := "()I" } : Jvm.MethodName)) ∈ lw_all := lw_g (lw_at lw_m9 12 rfl) rfl
theorem q2060 : (Jvm.Cond.code ({ cls := "LinkTimesModel", name := "fault", desc := "()I" } : Jvm.MethodName) prog_15_method_35_code (1 : Nat) (Option.some Jvm.ClassFile.FieldType.int)) ∈ lw_all := lw_g (lw_at lw_m9 13 rfl) rfl
theorem q2062 : (Jvm.Cond.instanceMethod ({ cls := "LinkTimesModel", name := "where", desc := "()I" } : Jvm.MethodName)) ∈ lw_all := lw_g (lw_at lw_m9 15 rfl) rfl
theorem q2063 : (Jvm.Cond.selects "LinkTimesModel" ({ cls := "LinkTimesModel", name := "where", desc := "()I" } : Jvm.MethodName) ({ cls := "LinkTimesModel", name := "where", desc := "()I" } : Jvm.MethodName)) ∈ lw_all := lw_g (lw_at lw_m9 16 rfl) rfl
theorem q2064 : (Jvm.Cond.code ({ cls := "LinkTimesModel", name := "where", desc := "()I" } : Jvm.MethodName) prog_15_method_36_code (1 : Nat) (Option.some Jvm.ClassFile.FieldType.int)) ∈ lw_all := lw_g (lw_at lw_m9 17 rfl) rfl
theorem q2066 : (Jvm.Cond.instanceMethod ({ cls := "LinkTimesModel", name := "about", desc := "(I)I" } : Jvm.MethodName)) ∈ lw_all := lw_g (lw_at lw_m9 19 rfl) rfl
theorem q2067 : (Jvm.Cond.selects "LinkTimesModel" ({ cls := "LinkTimesModel", name := "about", desc := "(I)I" } : Jvm.MethodName) ({ cls := "LinkTimesModel", name := "about", desc := "(I)I" } : Jvm.MethodName)) ∈ lw_all := lw_g (lw_at lw_m9 20 rfl) rfl
theorem q2068 : (Jvm.Cond.code ({ cls := "LinkTimesModel", name := "about", desc := "(I)I" } : Jvm.MethodName) prog_15_method_43_code (2 : Nat) (Option.some Jvm.ClassFile.FieldType.int)) ∈ lw_all := lw_g (lw_at lw_m9 21 rfl) rfl
theorem q2069 : (Jvm.Cond.methodLink "LinkTimesModel" (256 : Nat) ({ cls := "LinkTimesModel", name := "unless", desc := "(Z)I" } : Jvm.MethodName)) ∈ lw_all := lw_g (lw_at lw_m9 22 rfl) rfl
theorem q2070 : (Jvm.Cond.static ({ cls := "LinkTimesModel", name := "unless", desc := "(Z)I" } : Jvm.MethodName)) ∈ lw_all := lw_g (lw_at lw_m9 23 rfl) rfl
theorem q2071 : (Jvm.Cond.code ({ cls := "LinkTimesModel", name := "unless", desc := "(Z)I" } : Jvm.MethodName) prog_15_method_6_code (1 : Nat) (Option.some Jvm.ClassFile.FieldType.int)) ∈ lw_all := lw_g (lw_at lw_m9 24 rfl) rfl
theorem q2072 : (Jvm.Cond.methodLink "LinkTimesModel" (260 : Nat) ({ cls := "LinkTimesModel", name := "runMany", desc := "()I" } : Jvm.MethodName)) ∈ lw_all := lw_g (lw_at lw_m9 25 rfl) rfl
theorem q2073 : (Jvm.Cond.privateMethod ({ cls := "LinkTimesModel", name := "runMany", desc := "()I" } : Jvm.MethodName)) ∈ lw_tbl := lw_at lw_m9 26 rfl
theorem q2074 : (Jvm.Cond.instanceMethod ({ cls := "LinkTimesModel", name := "runMany", desc := "()I" } : Jvm.MethodName)) ∈ lw_all := lw_g (lw_at lw_m9 27 rfl) rfl
theorem q2075 : (Jvm.Cond.code ({ cls := "LinkTimesModel", name := "runMany", desc := "()I" } : Jvm.MethodName) prog_15_method_42_code (3 : Nat) (Option.some Jvm.ClassFile.FieldType.int)) ∈ lw_all := lw_g (lw_at lw_m9 28 rfl) rfl
theorem q2076 : (Jvm.Cond.methodLink "LinkTimesModel" (253 : Nat) ({ cls := "LinkTimesModel", name := "runs", desc := "(I)Z" } : Jvm.MethodName)) ∈ lw_all := lw_g (lw_at lw_m9 29 rfl) rfl
theorem q2077 : (Jvm.Cond.privateMethod ({ cls := "LinkTimesModel", name := "runs", desc := "(I)Z" } : Jvm.MethodName)) ∈ lw_tbl := lw_at lw_m9 30 rfl
theorem q2078 : (Jvm.Cond.instanceMethod ({ cls := "LinkTimesModel", name := "runs", desc := "(I)Z" } : Jvm.MethodName)) ∈ lw_all := lw_g (lw_at lw_m9 31 rfl) rfl
theorem q2079 : (Jvm.Cond.code ({ cls := "LinkTimesModel", name := "runs", desc := "(I)Z" } : Jvm.MethodName) prog_15_method_39_code (2 : Nat) (Option.some Jvm.ClassFile.FieldType.boolean)) ∈ lw_all := lw_g (lw_at lw_m9 32 rfl) rfl
theorem q2081 : (Jvm.Cond.instanceMethod ({ cls := "LinkTimesModel", name := "spot", desc := "(II)I" } : Jvm.MethodName)) ∈ lw_all := lw_g (lw_at lw_m9 34 rfl) rfl
theorem q2082 : (Jvm.Cond.selects "LinkTimesModel" ({ cls := "LinkTimesModel", name := "spot", desc := "(II)I" } : Jvm.MethodName) ({ cls := "LinkTimesModel", name := "spot", desc := "(II)I" } : Jvm.MethodName)) ∈ lw_all := lw_g (lw_at lw_m9 35 rfl) rfl
theorem q2083 : (Jvm.Cond.code ({ cls := "LinkTimesModel", name := "spot", desc := "(II)I" } : Jvm.MethodName) prog_15_method_45_code (3 : Nat) (Option.some Jvm.ClassFile.FieldType.int)) ∈ lw_all := lw_g (lw_at lw_m9 36 rfl) rfl
theorem q2084 : (Jvm.Cond.methodLink "LinkTimesModel" (263 : Nat) ({ cls := "LinkTimesModel", name := "isSpot", desc := "(I)Z" } : Jvm.MethodName)) ∈ lw_all := lw_g (lw_at lw_m9 37 rfl) rfl
theorem q2085 : (Jvm.Cond.privateMethod ({ cls := "LinkTimesModel", name := "isSpot", desc := "(I)Z" } : Jvm.MethodName)) ∈ lw_tbl := lw_at lw_m9 38 rfl
theorem q2086 : (Jvm.Cond.instanceMethod ({ cls := "LinkTimesModel", name := "isSpot", desc := "(I)Z" } : Jvm.MethodName)) ∈ lw_all := lw_g (lw_at lw_m9 39 rfl) rfl
theorem q2087 : (Jvm.Cond.code ({ cls := "LinkTimesModel", name := "isSpot", desc := "(I)Z" } : Jvm.MethodName) prog_15_method_37_code (2 : Nat) (Option.some Jvm.ClassFile.FieldType.boolean)) ∈ lw_all := lw_g (lw_at lw_m9 40 rfl) rfl
theorem q2088 : (Jvm.Cond.methodLink "LinkTimesModel" (266 : Nat) ({ cls := "LinkTimesModel", name := "runsBy", desc := "(II)I" } : Jvm.MethodName)) ∈ lw_all := lw_g (lw_at lw_m9 41 rfl) rfl
theorem q2089 : (Jvm.Cond.privateMethod ({ cls := "LinkTimesModel", name := "runsBy", desc := "(II)I" } : Jvm.MethodName)) ∈ lw_tbl := lw_at lw_m9 42 rfl
theorem q2090 : (Jvm.Cond.instanceMethod ({ cls := "LinkTimesModel", name := "runsBy", desc := "(II)I" } : Jvm.MethodName)) ∈ lw_all := lw_g (lw_at lw_m9 43 rfl) rfl
theorem q2091 : (Jvm.Cond.code ({ cls := "LinkTimesModel", name := "runsBy", desc := "(II)I" } : Jvm.MethodName) prog_15_method_44_code (5 : Nat) (Option.some Jvm.ClassFile.FieldType.int)) ∈ lw_all := lw_g (lw_at lw_m9 44 rfl) rfl
theorem q2093 : (Jvm.Cond.instanceMethod ({ cls := "LinkTimesModel", name := "departure", desc := "(II)I" } : Jvm.MethodName)) ∈ lw_all := lw_g (lw_at lw_m9 46 rfl) rfl
theorem q2094 : (Jvm.Cond.selects "LinkTimesModel" ({ cls := "LinkTimesModel", name := "departure", desc := "(II)I" } : Jvm.MethodName) ({ cls := "LinkTimesModel", name := "departure", desc := "(II)I" } : Jvm.MethodName)) ∈ lw_all := lw_g (lw_at lw_m9 47 rfl) rfl
theorem q2095 : (Jvm.Cond.code ({ cls := "LinkTimesModel", name := "departure", desc := "(II)I" } : Jvm.MethodName) prog_15_method_46_code (3 : Nat) (Option.some Jvm.ClassFile.FieldType.int)) ∈ lw_all := lw_g (lw_at lw_m9 48 rfl) rfl
theorem q2096 : (Jvm.Cond.methodLink "LinkTimesModel" (269 : Nat) ({ cls := "LinkTimesModel", name := "isOne", desc := "(I)Z" } : Jvm.MethodName)) ∈ lw_all := lw_g (lw_at lw_m9 49 rfl) rfl
theorem q2097 : (Jvm.Cond.privateMethod ({ cls := "LinkTimesModel", name := "isOne", desc := "(I)Z" } : Jvm.MethodName)) ∈ lw_tbl := lw_at lw_m9 50 rfl
theorem q2098 : (Jvm.Cond.instanceMethod ({ cls := "LinkTimesModel", name := "isOne", desc := "(I)Z" } : Jvm.MethodName)) ∈ lw_all := lw_g (lw_at lw_m9 51 rfl) rfl
theorem q2099 : (Jvm.Cond.code ({ cls := "LinkTimesModel", name := "isOne", desc := "(I)Z" } : Jvm.MethodName) prog_15_method_38_code (2 : Nat) (Option.some Jvm.ClassFile.FieldType.boolean)) ∈ lw_all := lw_g (lw_at lw_m9 52 rfl) rfl
theorem q2100 : (Jvm.Cond.methodLink "LinkTimesModel" (250 : Nat) ({ cls := "LinkTimesModel", name := "leavesAt", desc := "(I)I" } : Jvm.MethodName)) ∈ lw_all := lw_g (lw_at lw_m9 53 rfl) rfl
theorem q2101 : (Jvm.Cond.privateMethod ({ cls := "LinkTimesModel", name := "leavesAt", desc := "(I)I" } : Jvm.MethodName)) ∈ lw_tbl := lw_at lw_m9 54 rfl
theorem q2102 : (Jvm.Cond.instanceMethod ({ cls := "LinkTimesModel", name := "leavesAt", desc := "(I)I" } : Jvm.MethodName)) ∈ lw_all := lw_g (lw_at lw_m9 55 rfl) rfl
theorem q2103 : (Jvm.Cond.code ({ cls := "LinkTimesModel", name := "leavesAt", desc := "(I)I" } : Jvm.MethodName) prog_15_method_40_code (2 : Nat) (Option.some Jvm.ClassFile.FieldType.int)) ∈ lw_all := lw_g (lw_at lw_m9 56 rfl) rfl
theorem q2104 : (Jvm.Cond.methodLink "LinkTimesModel" (272 : Nat) ({ cls := "LinkTimesModel", name := "arrivesAt", desc := "(I)I" } : Jvm.MethodName)) ∈ lw_all := lw_g (lw_at lw_m9 57 rfl) rfl
theorem q2105 : (Jvm.Cond.privateMethod ({ cls := "LinkTimesModel", name := "arrivesAt", desc := "(I)I" } : Jvm.MethodName)) ∈ lw_tbl := lw_at lw_m9 58 rfl
theorem q2106 : (Jvm.Cond.instanceMethod ({ cls := "LinkTimesModel", name := "arrivesAt", desc := "(I)I" } : Jvm.MethodName)) ∈ lw_all := lw_g (lw_at lw_m9 59 rfl) rfl
theorem q2107 : (Jvm.Cond.code ({ cls := "LinkTimesModel", name := "arrivesAt", desc := "(I)I" } : Jvm.MethodName) prog_15_method_41_code (2 : Nat) (Option.some Jvm.ClassFile.FieldType.int)) ∈ lw_all := lw_g (lw_at lw_m9 60 rfl) rfl
theorem q2109 : (Jvm.Cond.instanceMethod ({ cls := "LinkTimesModel", name := "ordered", desc := "(I)I" } : Jvm.MethodName)) ∈ lw_all := lw_g (lw_at lw_m9 62 rfl) rfl
theorem q2110 : (Jvm.Cond.selects "LinkTimesModel" ({ cls := "LinkTimesModel", name := "ordered", desc := "(I)I" } : Jvm.MethodName) ({ cls := "LinkTimesModel", name := "ordered", desc := "(I)I" } : Jvm.MethodName)) ∈ lw_all := lw_g (lw_at lw_m9 63 rfl) rfl
theorem q2111 : (Jvm.Cond.code ({ cls := "LinkTimesModel", name := "ordered", desc := "(I)I" } : Jvm.MethodName) prog_15_method_47_code (5 : Nat) (Option.some Jvm.ClassFile.FieldType.int)) ∈ lw_all := lw_g (lw_at lw_m9 64 rfl) rfl
theorem q2113 : (Jvm.Cond.instanceMethod ({ cls := "LinkTimesModel", name := "arrives", desc := "(III)I" } : Jvm.MethodName)) ∈ lw_all := lw_g (lw_at lw_m9 66 rfl) rfl
theorem q2114 : (Jvm.Cond.selects "LinkTimesModel" ({ cls := "LinkTimesModel", name := "arrives", desc := "(III)I" } : Jvm.MethodName) ({ cls := "LinkTimesModel", name := "arrives", desc := "(III)I" } : Jvm.MethodName)) ∈ lw_all := lw_g (lw_at lw_m9 67 rfl) rfl
theorem q2115 : (Jvm.Cond.code ({ cls := "LinkTimesModel", name := "arrives", desc := "(III)I" } : Jvm.MethodName) prog_15_method_58_code (4 : Nat) (Option.some Jvm.ClassFile.FieldType.int)) ∈ lw_all := lw_g (lw_at lw_m9 68 rfl) rfl
theorem q2116 : (Jvm.Cond.methodLink "LinkTimesModel" (307 : Nat) ({ cls := "LinkTimesModel", name := "wayWhy", desc := "(III)I" } : Jvm.MethodName)) ∈ lw_all := lw_g (lw_at lw_m9 69 rfl) rfl
theorem q2117 : (Jvm.Cond.privateMethod ({ cls := "LinkTimesModel", name := "wayWhy", desc := "(III)I" } : Jvm.MethodName)) ∈ lw_tbl := lw_at lw_m9 70 rfl
theorem q2118 : (Jvm.Cond.instanceMethod ({ cls := "LinkTimesModel", name := "wayWhy", desc := "(III)I" } : Jvm.MethodName)) ∈ lw_all := lw_g (lw_at lw_m9 71 rfl) rfl
theorem q2119 : (Jvm.Cond.code ({ cls := "LinkTimesModel", name := "wayWhy", desc := "(III)I" } : Jvm.MethodName) prog_15_method_57_code (4 : Nat) (Option.some Jvm.ClassFile.FieldType.int)) ∈ lw_all := lw_g (lw_at lw_m9 72 rfl) rfl
theorem q2120 : (Jvm.Cond.methodLink "LinkTimesModel" (304 : Nat) ({ cls := "LinkTimesModel", name := "unless", desc := "(ZZ)I" } : Jvm.MethodName)) ∈ lw_all := lw_g (lw_at lw_m9 73 rfl) rfl
theorem q2121 : (Jvm.Cond.static ({ cls := "LinkTimesModel", name := "unless", desc := "(ZZ)I" } : Jvm.MethodName)) ∈ lw_all := lw_g (lw_at lw_m9 74 rfl) rfl
theorem q2122 : (Jvm.Cond.code ({ cls := "LinkTimesModel", name := "unless", desc := "(ZZ)I" } : Jvm.MethodName) prog_15_method_7_code (2 : Nat) (Option.some Jvm.ClassFile.FieldType.int)) ∈ lw_all := lw_g (lw_at lw_m9 75 rfl) rfl
theorem q2123 : (Jvm.Cond.methodLink "LinkTimesModel" (311 : Nat) ({ cls := "LinkTimesModel", name := "best", desc := "(III)I" } : Jvm.MethodName)) ∈ lw_all := lw_g (lw_at lw_m9 76 rfl) rfl
theorem q2124 : (Jvm.Cond.privateMethod ({ cls := "LinkTimesModel", name := "best", desc := "(III)I" } : Jvm.MethodName)) ∈ lw_tbl := lw_at lw_m9 77 rfl
theorem q2125 : (Jvm.Cond.instanceMethod ({ cls := "LinkTimesModel", name := "best", desc := "(III)I" } : Jvm.MethodName)) ∈ lw_all := lw_g (lw_at lw_m9 78 rfl) rfl
theorem q2126 : (Jvm.Cond.code ({ cls := "LinkTimesModel", name := "best", desc := "(III)I" } : Jvm.MethodName) prog_15_method_56_code (5 : Nat) (Option.some Jvm.ClassFile.FieldType.int)) ∈ lw_all := lw_g (lw_at lw_m9 79 rfl) rfl
theorem q2127 : (Jvm.Cond.methodLink "LinkTimesModel" (298 : Nat) ({ cls := "LinkTimesModel", name := "laysGoal", desc := "(I)V" } : Jvm.MethodName)) ∈ lw_all := lw_g (lw_at lw_m9 80 rfl) rfl
theorem q2128 : (Jvm.Cond.privateMethod ({ cls := "LinkTimesModel", name := "laysGoal", desc := "(I)V" } : Jvm.MethodName)) ∈ lw_tbl := lw_at lw_m9 81 rfl
theorem q2129 : (Jvm.Cond.instanceMethod ({ cls := "LinkTimesModel", name := "laysGoal", desc := "(I)V" } : Jvm.MethodName)) ∈ lw_all := lw_g (lw_at lw_m9 82 rfl) rfl
theorem q2130 : (Jvm.Cond.code ({ cls := "LinkTimesModel", name := "laysGoal", desc := "(I)V" } : Jvm.MethodName) prog_15_method_52_code (6 : Nat) (Option.none : Option Jvm.ClassFile.FieldType)) ∈ lw_all := lw_g (lw_at lw_m9 83 rfl) rfl
theorem q2131 : (Jvm.Cond.methodLink "LinkTimesModel" (278 : Nat) ({ cls := "LinkTimesModel", name := "sorts", desc := "()V" } : Jvm.MethodName)) ∈ lw_all := lw_g (lw_at lw_m9 84 rfl) rfl
theorem q2132 : (Jvm.Cond.privateMethod ({ cls := "LinkTimesModel", name := "sorts", desc := "()V" } : Jvm.MethodName)) ∈ lw_tbl := lw_at lw_m9 85 rfl
theorem q2133 : (Jvm.Cond.instanceMethod ({ cls := "LinkTimesModel", name := "sorts", desc := "()V" } : Jvm.MethodName)) ∈ lw_all := lw_g (lw_at lw_m9 86 rfl) rfl
theorem q2134 : (Jvm.Cond.code ({ cls := "LinkTimesModel", name := "sorts", desc := "()V" } : Jvm.MethodName) prog_15_method_48_code (3 : Nat) (Option.none : Option Jvm.ClassFile.FieldType)) ∈ lw_all := lw_g (lw_at lw_m9 87 rfl) rfl
theorem q2135 : (Jvm.Cond.methodLink "LinkTimesModel" (281 : Nat) ({ cls := "LinkTimesModel", name := "comesNext", desc := "(II)V" } : Jvm.MethodName)) ∈ lw_all := lw_g (lw_at lw_m9 88 rfl) rfl
theorem q2136 : (Jvm.Cond.privateMethod ({ cls := "LinkTimesModel", name := "comesNext", desc := "(II)V" } : Jvm.MethodName)) ∈ lw_tbl := lw_at lw_m9 89 rfl
theorem q2137 : (Jvm.Cond.instanceMethod ({ cls := "LinkTimesModel", name := "comesNext", desc := "(II)V" } : Jvm.MethodName)) ∈ lw_all := lw_g (lw_at lw_m9 90 rfl) rfl
theorem q2138 : (Jvm.Cond.code ({ cls := "LinkTimesModel", name := "comesNext", desc := "(II)V" } : Jvm.MethodName) prog_15_method_53_code (5 : Nat) (Option.none : Option Jvm.ClassFile.FieldType)) ∈ lw_all := lw_g (lw_at lw_m9 91 rfl) rfl
theorem q2139 : (Jvm.Cond.methodLink "LinkTimesModel" (285 : Nat) ({ cls := "LinkTimesModel", name := "canFollow", desc := "(II)Z" } : Jvm.MethodName)) ∈ lw_all := lw_g (lw_at lw_m9 92 rfl) rfl
theorem q2140 : (Jvm.Cond.privateMethod ({ cls := "LinkTimesModel", name := "canFollow", desc := "(II)Z" } : Jvm.MethodName)) ∈ lw_tbl := lw_at lw_m9 93 rfl
theorem q2141 : (Jvm.Cond.instanceMethod ({ cls := "LinkTimesModel", name := "canFollow", desc := "(II)Z" } : Jvm.MethodName)) ∈ lw_all := lw_g (lw_at lw_m9 94 rfl) rfl
theorem q2142 : (Jvm.Cond.code ({ cls := "LinkTimesModel", name := "canFollow", desc := "(II)Z" } : Jvm.MethodName) prog_15_method_49_code (5 : Nat) (Option.some Jvm.ClassFile.FieldType.boolean)) ∈ lw_all := lw_g (lw_at lw_m9 95 rfl) rfl
theorem q2143 : (Jvm.Cond.methodLink "LinkTimesModel" (289 : Nat) ({ cls := "LinkTimesModel", name := "turns", desc := "(II)I" } : Jvm.MethodName)) ∈ lw_all := lw_g (lw_at lw_m9 96 rfl) rfl
theorem q2144 : (Jvm.Cond.privateMethod ({ cls := "LinkTimesModel", name := "turns", desc := "(II)I" } : Jvm.MethodName)) ∈ lw_tbl := lw_at lw_m9 97 rfl
theorem q2145 : (Jvm.Cond.instanceMethod ({ cls := "LinkTimesModel", name := "turns", desc := "(II)I" } : Jvm.MethodName)) ∈ lw_all := lw_g (lw_at lw_m9 98 rfl) rfl
theorem q2146 : (Jvm.Cond.code ({ cls := "LinkTimesModel", name := "turns", desc := "(II)I" } : Jvm.MethodName) prog_15_method_50_code (3 : Nat) (Option.some Jvm.ClassFile.FieldType.int)) ∈ lw_all := lw_g (lw_at lw_m9 99 rfl) rfl
theorem q2147 : (Jvm.Cond.methodLink "LinkTimesModel" (292 : Nat) ({ cls := "LinkTimesModel", name := "isLessRow", desc := "(II)Z" } : Jvm.MethodName)) ∈ lw_all := lw_g (lw_at lw_m9 100 rfl) rfl
theorem q2148 : (Jvm.Cond.privateMethod ({ cls := "LinkTimesModel", name := "isLessRow", desc := "(II)Z" } : Jvm.MethodName)) ∈ lw_tbl := lw_at lw_m9 101 rfl
theorem q2149 : (Jvm.Cond.instanceMethod ({ cls := "LinkTimesModel", name := "isLessRow", desc := "(II)Z" } : Jvm.MethodName)) ∈ lw_all := lw_g (lw_at lw_m9 102 rfl) rfl
theorem q2150 : (Jvm.Cond.code ({ cls := "LinkTimesModel", name := "isLessRow", desc := "(II)Z" } : Jvm.MethodName) prog_15_method_51_code (5 : Nat) (Option.some Jvm.ClassFile.FieldType.boolean)) ∈ lw_all := lw_g (lw_at lw_m9 103 rfl) rfl
theorem q2151 : (Jvm.Cond.methodLink "LinkTimesModel" (301 : Nat) ({ cls := "LinkTimesModel", name := "firstOf", desc := "(II)I" } : Jvm.MethodName)) ∈ lw_all := lw_g (lw_at lw_m9 104 rfl) rfl
theorem q2152 : (Jvm.Cond.privateMethod ({ cls := "LinkTimesModel", name := "firstOf", desc := "(II)I" } : Jvm.MethodName)) ∈ lw_tbl := lw_at lw_m9 105 rfl
theorem q2153 : (Jvm.Cond.instanceMethod ({ cls := "LinkTimesModel", name := "firstOf", desc := "(II)I" } : Jvm.MethodName)) ∈ lw_all := lw_g (lw_at lw_m9 106 rfl) rfl
theorem q2154 : (Jvm.Cond.code ({ cls := "LinkTimesModel", name := "firstOf", desc := "(II)I" } : Jvm.MethodName) prog_15_method_54_code (5 : Nat) (Option.some Jvm.ClassFile.FieldType.int)) ∈ lw_all := lw_g (lw_at lw_m9 107 rfl) rfl
theorem q2155 : (Jvm.Cond.methodLink "LinkTimesModel" (295 : Nat) ({ cls := "LinkTimesModel", name := "isBetter", desc := "(II)Z" } : Jvm.MethodName)) ∈ lw_all := lw_g (lw_at lw_m9 108 rfl) rfl
theorem q2156 : (Jvm.Cond.privateMethod ({ cls := "LinkTimesModel", name := "isBetter", desc := "(II)Z" } : Jvm.MethodName)) ∈ lw_tbl := lw_at lw_m9 109 rfl
theorem q2157 : (Jvm.Cond.instanceMethod ({ cls := "LinkTimesModel", name := "isBetter", desc := "(II)Z" } : Jvm.MethodName)) ∈ lw_all := lw_g (lw_at lw_m9 110 rfl) rfl
theorem q2158 : (Jvm.Cond.code ({ cls := "LinkTimesModel", name := "isBetter", desc := "(II)Z" } : Jvm.MethodName) prog_15_method_55_code (4 : Nat) (Option.some Jvm.ClassFile.FieldType.boolean)) ∈ lw_all := lw_g (lw_at lw_m9 111 rfl) rfl
theorem q2160 : (Jvm.Cond.instanceMethod ({ cls := "LinkTimesModel", name := "changes", desc := "(III)I" } : Jvm.MethodName)) ∈ lw_all := lw_g (lw_at lw_m9 113 rfl) rfl
theorem q2161 : (Jvm.Cond.selects "LinkTimesModel" ({ cls := "LinkTimesModel", name := "changes", desc := "(III)I" } : Jvm.MethodName) ({ cls := "LinkTimesModel", name := "changes", desc := "(III)I" } : Jvm.MethodName)) ∈ lw_all := lw_g (lw_at lw_m9 114 rfl) rfl
theorem q2162 : (Jvm.Cond.code ({ cls := "LinkTimesModel", name := "changes", desc := "(III)I" } : Jvm.MethodName) prog_15_method_60_code (5 : Nat) (Option.some Jvm.ClassFile.FieldType.int)) ∈ lw_all := lw_g (lw_at lw_m9 115 rfl) rfl
theorem q2163 : (Jvm.Cond.methodLink "LinkTimesModel" (314 : Nat) ({ cls := "LinkTimesModel", name := "begins", desc := "(III)I" } : Jvm.MethodName)) ∈ lw_all := lw_g (lw_at lw_m9 116 rfl) rfl
theorem q2164 : (Jvm.Cond.privateMethod ({ cls := "LinkTimesModel", name := "begins", desc := "(III)I" } : Jvm.MethodName)) ∈ lw_tbl := lw_at lw_m9 117 rfl
theorem q2165 : (Jvm.Cond.instanceMethod ({ cls := "LinkTimesModel", name := "begins", desc := "(III)I" } : Jvm.MethodName)) ∈ lw_all := lw_g (lw_at lw_m9 118 rfl) rfl
theorem q2166 : (Jvm.Cond.code ({ cls := "LinkTimesModel", name := "begins", desc := "(III)I" } : Jvm.MethodName) prog_15_method_59_code (5 : Nat) (Option.some Jvm.ClassFile.FieldType.int)) ∈ lw_all := lw_g (lw_at lw_m9 119 rfl) rfl
theorem q2168 : (Jvm.Cond.instanceMethod ({ cls := "LinkTimesModel", name := "leaves", desc := "(III)I" } : Jvm.MethodName)) ∈ lw_all := lw_g (lw_at lw_m9 121 rfl) rfl
theorem q2169 : (Jvm.Cond.selects "LinkTimesModel" ({ cls := "LinkTimesModel", name := "leaves", desc := "(III)I" } : Jvm.MethodName) ({ cls := "LinkTimesModel", name := "leaves", desc := "(III)I" } : Jvm.MethodName)) ∈ lw_all := lw_g (lw_at lw_m9 122 rfl) rfl
theorem q2170 : (Jvm.Cond.code ({ cls := "LinkTimesModel", name := "leaves", desc := "(III)I" } : Jvm.MethodName) prog_15_method_61_code (5 : Nat) (Option.some Jvm.ClassFile.FieldType.int)) ∈ lw_all := lw_g (lw_at lw_m9 123 rfl) rfl
theorem q2172 : (Jvm.Cond.instanceMethod ({ cls := "LinkTimesModel", name := "rides", desc := "(III)I" } : Jvm.MethodName)) ∈ lw_all := lw_g (lw_at lw_m9 125 rfl) rfl
theorem q2173 : (Jvm.Cond.selects "LinkTimesModel" ({ cls := "LinkTimesModel", name := "rides", desc := "(III)I" } : Jvm.MethodName) ({ cls := "LinkTimesModel", name := "rides", desc := "(III)I" } : Jvm.MethodName)) ∈ lw_all := lw_g (lw_at lw_m9 126 rfl) rfl
theorem q2174 : (Jvm.Cond.code ({ cls := "LinkTimesModel", name := "rides", desc := "(III)I" } : Jvm.MethodName) prog_15_method_62_code (5 : Nat) (Option.some Jvm.ClassFile.FieldType.int)) ∈ lw_all := lw_g (lw_at lw_m9 127 rfl) rfl
theorem q2176 : (Jvm.Cond.instanceMethod ({ cls := "LinkTimesModel", name := "ride", desc := "(IIII)I" } : Jvm.MethodName)) ∈ lw_all := lw_g (lw_at lw_m9 129 rfl) rfl
theorem q2177 : (Jvm.Cond.selects "LinkTimesModel" ({ cls := "LinkTimesModel", name := "ride", desc := "(IIII)I" } : Jvm.MethodName) ({ cls := "LinkTimesModel", name := "ride", desc := "(IIII)I" } : Jvm.MethodName)) ∈ lw_all := lw_g (lw_at lw_m9 130 rfl) rfl
theorem q2178 : (Jvm.Cond.code ({ cls := "LinkTimesModel", name := "ride", desc := "(IIII)I" } : Jvm.MethodName) prog_15_method_63_code (7 : Nat) (Option.some Jvm.ClassFile.FieldType.int)) ∈ lw_all := lw_g (lw_at lw_m9 131 rfl) rfl
theorem q2180 : (Jvm.Cond.instanceMethod ({ cls := "LinkTimesModel", name := "within", desc := "(IIII)I" } : Jvm.MethodName)) ∈ lw_all := lw_g (lw_at lw_m9 133 rfl) rfl
theorem q2181 : (Jvm.Cond.selects "LinkTimesModel" ({ cls := "LinkTimesModel", name := "within", desc := "(IIII)I" } : Jvm.MethodName) ({ cls := "LinkTimesModel", name := "within", desc := "(IIII)I" } : Jvm.MethodName)) ∈ lw_all := lw_g (lw_at lw_m9 134 rfl) rfl
theorem q2182 : (Jvm.Cond.code ({ cls := "LinkTimesModel", name := "within", desc := "(IIII)I" } : Jvm.MethodName) prog_15_method_66_code (7 : Nat) (Option.some Jvm.ClassFile.FieldType.int)) ∈ lw_all := lw_g (lw_at lw_m9 135 rfl) rfl
theorem q2183 : (Jvm.Cond.methodLink "LinkTimesModel" (319 : Nat) ({ cls := "LinkTimesModel", name := "laysWithin", desc := "(II)V" } : Jvm.MethodName)) ∈ lw_all := lw_g (lw_at lw_m9 136 rfl) rfl
theorem q2184 : (Jvm.Cond.privateMethod ({ cls := "LinkTimesModel", name := "laysWithin", desc := "(II)V" } : Jvm.MethodName)) ∈ lw_tbl := lw_at lw_m9 137 rfl
theorem q2185 : (Jvm.Cond.instanceMethod ({ cls := "LinkTimesModel", name := "laysWithin", desc := "(II)V" } : Jvm.MethodName)) ∈ lw_all := lw_g (lw_at lw_m9 138 rfl) rfl
theorem q2186 : (Jvm.Cond.code ({ cls := "LinkTimesModel", name := "laysWithin", desc := "(II)V" } : Jvm.MethodName) prog_15_method_65_code (10 : Nat) (Option.none : Option Jvm.ClassFile.FieldType)) ∈ lw_all := lw_g (lw_at lw_m9 139 rfl) rfl
theorem q2187 : (Jvm.Cond.methodLink "LinkTimesModel" (316 : Nat) ({ cls := "LinkTimesModel", name := "soonest", desc := "(II)I" } : Jvm.MethodName)) ∈ lw_all := lw_g (lw_at lw_m9 140 rfl) rfl
theorem q2188 : (Jvm.Cond.privateMethod ({ cls := "LinkTimesModel", name := "soonest", desc := "(II)I" } : Jvm.MethodName)) ∈ lw_tbl := lw_at lw_m9 141 rfl
theorem q2189 : (Jvm.Cond.instanceMethod ({ cls := "LinkTimesModel", name := "soonest", desc := "(II)I" } : Jvm.MethodName)) ∈ lw_all := lw_g (lw_at lw_m9 142 rfl) rfl
theorem q2190 : (Jvm.Cond.code ({ cls := "LinkTimesModel", name := "soonest", desc := "(II)I" } : Jvm.MethodName) prog_15_method_64_code (3 : Nat) (Option.some Jvm.ClassFile.FieldType.int)) ∈ lw_all := lw_g (lw_at lw_m9 143 rfl) rfl
theorem q2191 : (Jvm.Cond.methodLink "LinkTimesModel" (322 : Nat) ({ cls := "LinkTimesModel", name := "soonestBy", desc := "(III)I" } : Jvm.MethodName)) ∈ lw_all := lw_g (lw_at lw_m9 144 rfl) rfl
theorem q2192 : (Jvm.Cond.privateMethod ({ cls := "LinkTimesModel", name := "soonestBy", desc := "(III)I" } : Jvm.MethodName)) ∈ lw_tbl := lw_at lw_m9 145 rfl
theorem q2193 : (Jvm.Cond.instanceMethod ({ cls := "LinkTimesModel", name := "soonestBy", desc := "(III)I" } : Jvm.MethodName)) ∈ lw_all := lw_g (lw_at lw_m9 146 rfl) rfl
theorem q2194 : (Jvm.Cond.code ({ cls := "LinkTimesModel", name := "soonestBy", desc := "(III)I" } : Jvm.MethodName) prog_15_method_67_code (7 : Nat) (Option.some Jvm.ClassFile.FieldType.int)) ∈ lw_all := lw_g (lw_at lw_m9 147 rfl) rfl
theorem q2196 : (Jvm.Cond.instanceMethod ({ cls := "LinkTimesModel", name := "trades", desc := "(III)I" } : Jvm.MethodName)) ∈ lw_all := lw_g (lw_at lw_m9 149 rfl) rfl
theorem q2197 : (Jvm.Cond.selects "LinkTimesModel" ({ cls := "LinkTimesModel", name := "trades", desc := "(III)I" } : Jvm.MethodName) ({ cls := "LinkTimesModel", name := "trades", desc := "(III)I" } : Jvm.MethodName)) ∈ lw_all := lw_g (lw_at lw_m9 150 rfl) rfl
theorem q2198 : (Jvm.Cond.code ({ cls := "LinkTimesModel", name := "trades", desc := "(III)I" } : Jvm.MethodName) prog_15_method_69_code (4 : Nat) (Option.some Jvm.ClassFile.FieldType.int)) ∈ lw_all := lw_g (lw_at lw_m9 151 rfl) rfl
theorem q2199 : (Jvm.Cond.methodLink "LinkTimesModel" (328 : Nat) ({ cls := "LinkTimesModel", name := "laysTrades", desc := "(III)V" } : Jvm.MethodName)) ∈ lw_all := lw_g (lw_at lw_m9 152 rfl) rfl
theorem q2200 : (Jvm.Cond.privateMethod ({ cls := "LinkTimesModel", name := "laysTrades", desc := "(III)V" } : Jvm.MethodName)) ∈ lw_tbl := lw_at lw_m9 153 rfl
theorem q2201 : (Jvm.Cond.instanceMethod ({ cls := "LinkTimesModel", name := "laysTrades", desc := "(III)V" } : Jvm.MethodName)) ∈ lw_all := lw_g (lw_at lw_m9 154 rfl) rfl
theorem q2202 : (Jvm.Cond.code ({ cls := "LinkTimesModel", name := "laysTrades", desc := "(III)V" } : Jvm.MethodName) prog_15_method_68_code (7 : Nat) (Option.none : Option Jvm.ClassFile.FieldType)) ∈ lw_all := lw_g (lw_at lw_m9 155 rfl) rfl
theorem q2204 : (Jvm.Cond.instanceMethod ({ cls := "LinkTimesModel", name := "trade", desc := "(IIIII)I" } : Jvm.MethodName)) ∈ lw_all := lw_g (lw_at lw_m9 157 rfl) rfl
theorem q2205 : (Jvm.Cond.selects "LinkTimesModel" ({ cls := "LinkTimesModel", name := "trade", desc := "(IIIII)I" } : Jvm.MethodName) ({ cls := "LinkTimesModel", name := "trade", desc := "(IIIII)I" } : Jvm.MethodName)) ∈ lw_all := lw_g (lw_at lw_m9 158 rfl) rfl
theorem q2206 : (Jvm.Cond.code ({ cls := "LinkTimesModel", name := "trade", desc := "(IIIII)I" } : Jvm.MethodName) prog_15_method_71_code (6 : Nat) (Option.some Jvm.ClassFile.FieldType.int)) ∈ lw_all := lw_g (lw_at lw_m9 159 rfl) rfl
theorem q2207 : (Jvm.Cond.methodLink "LinkTimesModel" (332 : Nat) ({ cls := "LinkTimesModel", name := "latestOf", desc := "(IIII)I" } : Jvm.MethodName)) ∈ lw_all := lw_g (lw_at lw_m9 160 rfl) rfl
theorem q2208 : (Jvm.Cond.privateMethod ({ cls := "LinkTimesModel", name := "latestOf", desc := "(IIII)I" } : Jvm.MethodName)) ∈ lw_tbl := lw_at lw_m9 161 rfl
theorem q2209 : (Jvm.Cond.instanceMethod ({ cls := "LinkTimesModel", name := "latestOf", desc := "(IIII)I" } : Jvm.MethodName)) ∈ lw_all := lw_g (lw_at lw_m9 162 rfl) rfl
theorem q2210 : (Jvm.Cond.code ({ cls := "LinkTimesModel", name := "latestOf", desc := "(IIII)I" } : Jvm.MethodName) prog_15_method_70_code (8 : Nat) (Option.some Jvm.ClassFile.FieldType.int)) ∈ lw_all := lw_g (lw_at lw_m9 163 rfl) rfl
theorem q2212 : (Jvm.Cond.instanceMethod ({ cls := "LinkTimesModel", name := "stands", desc := "(III)I" } : Jvm.MethodName)) ∈ lw_all := lw_g (lw_at lw_m9 165 rfl) rfl
theorem q2213 : (Jvm.Cond.selects "LinkTimesModel" ({ cls := "LinkTimesModel", name := "stands", desc := "(III)I" } : Jvm.MethodName) ({ cls := "LinkTimesModel", name := "stands", desc := "(III)I" } : Jvm.MethodName)) ∈ lw_all := lw_g (lw_at lw_m9 166 rfl) rfl
theorem q2214 : (Jvm.Cond.code ({ cls := "LinkTimesModel", name := "stands", desc := "(III)I" } : Jvm.MethodName) prog_15_method_72_code (6 : Nat) (Option.some Jvm.ClassFile.FieldType.int)) ∈ lw_all := lw_g (lw_at lw_m9 167 rfl) rfl
theorem q2216 : (Jvm.Cond.instanceMethod ({ cls := "LinkTimesModel", name := "latest", desc := "(III)I" } : Jvm.MethodName)) ∈ lw_all := lw_g (lw_at lw_m9 169 rfl) rfl
theorem q2217 : (Jvm.Cond.selects "LinkTimesModel" ({ cls := "LinkTimesModel", name := "latest", desc := "(III)I" } : Jvm.MethodName) ({ cls := "LinkTimesModel", name := "latest", desc := "(III)I" } : Jvm.MethodName)) ∈ lw_all := lw_g (lw_at lw_m9 170 rfl) rfl
theorem q2218 : (Jvm.Cond.code ({ cls := "LinkTimesModel", name := "latest", desc := "(III)I" } : Jvm.MethodName) prog_15_method_73_code (7 : Nat) (Option.some Jvm.ClassFile.FieldType.int)) ∈ lw_all := lw_g (lw_at lw_m9 171 rfl) rfl
theorem q2220 : (Jvm.Cond.instanceMethod ({ cls := "LinkTimesModel", name := "reach", desc := "(III)I" } : Jvm.MethodName)) ∈ lw_all := lw_g (lw_at lw_m9 173 rfl) rfl
theorem q2221 : (Jvm.Cond.selects "LinkTimesModel" ({ cls := "LinkTimesModel", name := "reach", desc := "(III)I" } : Jvm.MethodName) ({ cls := "LinkTimesModel", name := "reach", desc := "(III)I" } : Jvm.MethodName)) ∈ lw_all := lw_g (lw_at lw_m9 174 rfl) rfl
theorem q2222 : (Jvm.Cond.code ({ cls := "LinkTimesModel", name := "reach", desc := "(III)I" } : Jvm.MethodName) prog_15_method_74_code (7 : Nat) (Option.some Jvm.ClassFile.FieldType.int)) ∈ lw_all := lw_g (lw_at lw_m9 175 rfl) rfl
theorem q2224 : (Jvm.Cond.instanceMethod ({ cls := "LinkTimesModel", name := "farthest", desc := "(II)I" } : Jvm.MethodName)) ∈ lw_all := lw_g (lw_at lw_m9 177 rfl) rfl
theorem q2225 : (Jvm.Cond.selects "LinkTimesModel" ({ cls := "LinkTimesModel", name := "farthest", desc := "(II)I" } : Jvm.MethodName) ({ cls := "LinkTimesModel", name := "farthest", desc := "(II)I" } : Jvm.MethodName)) ∈ lw_all := lw_g (lw_at lw_m9 178 rfl) rfl
theorem q2226 : (Jvm.Cond.code ({ cls := "LinkTimesModel", name := "farthest", desc := "(II)I" } : Jvm.MethodName) prog_15_method_75_code (7 : Nat) (Option.some Jvm.ClassFile.FieldType.int)) ∈ lw_all := lw_g (lw_at lw_m9 179 rfl) rfl
theorem q2228 : (Jvm.Cond.instanceMethod ({ cls := "LinkTimesModel", name := "meets", desc := "(III)I" } : Jvm.MethodName)) ∈ lw_all := lw_g (lw_at lw_m9 181 rfl) rfl
theorem q2229 : (Jvm.Cond.selects "LinkTimesModel" ({ cls := "LinkTimesModel", name := "meets", desc := "(III)I" } : Jvm.MethodName) ({ cls := "LinkTimesModel", name := "meets", desc := "(III)I" } : Jvm.MethodName)) ∈ lw_all := lw_g (lw_at lw_m9 182 rfl) rfl
theorem q2230 : (Jvm.Cond.code ({ cls := "LinkTimesModel", name := "meets", desc := "(III)I" } : Jvm.MethodName) prog_15_method_76_code (10 : Nat) (Option.some Jvm.ClassFile.FieldType.int)) ∈ lw_all := lw_g (lw_at lw_m9 183 rfl) rfl
theorem q2232 : (Jvm.Cond.instanceMethod ({ cls := "LinkTimesModel", name := "round", desc := "(IIII)I" } : Jvm.MethodName)) ∈ lw_all := lw_g (lw_at lw_m9 185 rfl) rfl
theorem q2233 : (Jvm.Cond.selects "LinkTimesModel" ({ cls := "LinkTimesModel", name := "round", desc := "(IIII)I" } : Jvm.MethodName) ({ cls := "LinkTimesModel", name := "round", desc := "(IIII)I" } : Jvm.MethodName)) ∈ lw_all := lw_g (lw_at lw_m9 186 rfl) rfl
theorem q2234 : (Jvm.Cond.code ({ cls := "LinkTimesModel", name := "round", desc := "(IIII)I" } : Jvm.MethodName) prog_15_method_77_code (7 : Nat) (Option.some Jvm.ClassFile.FieldType.int)) ∈ lw_all := lw_g (lw_at lw_m9 187 rfl) rfl
theorem q2236 : (Jvm.Cond.instanceMethod ({ cls := "LinkTimesModel", name := "others", desc := "(III)I" } : Jvm.MethodName)) ∈ lw_all := lw_g (lw_at lw_m9 189 rfl) rfl
theorem q2237 : (Jvm.Cond.selects "LinkTimesModel" ({ cls := "LinkTimesModel", name := "others", desc := "(III)I" } : Jvm.MethodName) ({ cls := "LinkTimesModel", name := "others", desc := "(III)I" } : Jvm.MethodName)) ∈ lw_all := lw_g (lw_at lw_m9 190 rfl) rfl
theorem q2238 : (Jvm.Cond.code ({ cls := "LinkTimesModel", name := "others", desc := "(III)I" } : Jvm.MethodName) prog_15_method_81_code (4 : Nat) (Option.some Jvm.ClassFile.FieldType.int)) ∈ lw_all := lw_g (lw_at lw_m9 191 rfl) rfl
theorem q2239 : (Jvm.Cond.methodLink "LinkTimesModel" (351 : Nat) ({ cls := "LinkTimesModel", name := "areUnlike", desc := "(II)Z" } : Jvm.MethodName)) ∈ lw_all := lw_g (lw_at lw_m9 192 rfl) rfl
theorem q2240 : (Jvm.Cond.privateMethod ({ cls := "LinkTimesModel", name := "areUnlike", desc := "(II)Z" } : Jvm.MethodName)) ∈ lw_tbl := lw_at lw_m9 193 rfl
theorem q2241 : (Jvm.Cond.instanceMethod ({ cls := "LinkTimesModel", name := "areUnlike", desc := "(II)Z" } : Jvm.MethodName)) ∈ lw_all := lw_g (lw_at lw_m9 194 rfl) rfl
theorem q2242 : (Jvm.Cond.code ({ cls := "LinkTimesModel", name := "areUnlike", desc := "(II)Z" } : Jvm.MethodName) prog_15_method_88_code (3 : Nat) (Option.some Jvm.ClassFile.FieldType.boolean)) ∈ lw_all := lw_g (lw_at lw_m9 195 rfl) rfl
theorem q2243 : (Jvm.Cond.methodLink "LinkTimesModel" (354 : Nat) ({ cls := "LinkTimesModel", name := "laysOthers", desc := "(III)V" } : Jvm.MethodName)) ∈ lw_all := lw_g (lw_at lw_m9 196 rfl) rfl
theorem q2244 : (Jvm.Cond.privateMethod ({ cls := "LinkTimesModel", name := "laysOthers", desc := "(III)V" } : Jvm.MethodName)) ∈ lw_tbl := lw_at lw_m9 197 rfl
theorem q2245 : (Jvm.Cond.instanceMethod ({ cls := "LinkTimesModel", name := "laysOthers", desc := "(III)V" } : Jvm.MethodName)) ∈ lw_all := lw_g (lw_at lw_m9 198 rfl) rfl
theorem q2246 : (Jvm.Cond.code ({ cls := "LinkTimesModel", name := "laysOthers", desc := "(III)V" } : Jvm.MethodName) prog_15_method_80_code (5 : Nat) (Option.none : Option Jvm.ClassFile.FieldType)) ∈ lw_all := lw_g (lw_at lw_m9 199 rfl) rfl
theorem q2247 : (Jvm.Cond.methodLink "LinkTimesModel" (342 : Nat) ({ cls := "LinkTimesModel", name := "laysAside", desc := "()V" } : Jvm.MethodName)) ∈ lw_all := lw_g (lw_at lw_m9 200 rfl) rfl
theorem q2248 : (Jvm.Cond.privateMethod ({ cls := "LinkTimesModel", name := "laysAside", desc := "()V" } : Jvm.MethodName)) ∈ lw_tbl := lw_at lw_m9 201 rfl
theorem q2249 : (Jvm.Cond.instanceMethod ({ cls := "LinkTimesModel", name := "laysAside", desc := "()V" } : Jvm.MethodName)) ∈ lw_all := lw_g (lw_at lw_m9 202 rfl) rfl
theorem q2250 : (Jvm.Cond.code ({ cls := "LinkTimesModel", name := "laysAside", desc := "()V" } : Jvm.MethodName) prog_15_method_93_code (1 : Nat) (Option.none : Option Jvm.ClassFile.FieldType)) ∈ lw_all := lw_g (lw_at lw_m9 203 rfl) rfl
theorem q2251 : (Jvm.Cond.methodLink "LinkTimesModel" (348 : Nat) ({ cls := "LinkTimesModel", name := "takesBack", desc := "()V" } : Jvm.MethodName)) ∈ lw_all := lw_g (lw_at lw_m9 204 rfl) rfl
theorem q2252 : (Jvm.Cond.privateMethod ({ cls := "LinkTimesModel", name := "takesBack", desc := "()V" } : Jvm.MethodName)) ∈ lw_tbl := lw_at lw_m9 205 rfl
theorem q2253 : (Jvm.Cond.instanceMethod ({ cls := "LinkTimesModel", name := "takesBack", desc := "()V" } : Jvm.MethodName)) ∈ lw_all := lw_g (lw_at lw_m9 206 rfl) rfl
theorem q2254 : (Jvm.Cond.code ({ cls := "LinkTimesModel", name := "takesBack", desc := "()V" } : Jvm.MethodName) prog_15_method_94_code (1 : Nat) (Option.none : Option Jvm.ClassFile.FieldType)) ∈ lw_all := lw_g (lw_at lw_m9 207 rfl) rfl
theorem q2256 : (Jvm.Cond.instanceMethod ({ cls := "LinkTimesModel", name := "other", desc := "(IIII)I" } : Jvm.MethodName)) ∈ lw_all := lw_g (lw_at lw_m9 209 rfl) rfl
theorem q2257 : (Jvm.Cond.selects "LinkTimesModel" ({ cls := "LinkTimesModel", name := "other", desc := "(IIII)I" } : Jvm.MethodName) ({ cls := "LinkTimesModel", name := "other", desc := "(IIII)I" } : Jvm.MethodName)) ∈ lw_all := lw_g (lw_at lw_m9 210 rfl) rfl
theorem q2258 : (Jvm.Cond.code ({ cls := "LinkTimesModel", name := "other", desc := "(IIII)I" } : Jvm.MethodName) prog_15_method_82_code (5 : Nat) (Option.some Jvm.ClassFile.FieldType.int)) ∈ lw_all := lw_g (lw_at lw_m9 211 rfl) rfl
theorem q2260 : (Jvm.Cond.instanceMethod ({ cls := "LinkTimesModel", name := "pairs", desc := "(I)I" } : Jvm.MethodName)) ∈ lw_all := lw_g (lw_at lw_m9 213 rfl) rfl
theorem q2261 : (Jvm.Cond.selects "LinkTimesModel" ({ cls := "LinkTimesModel", name := "pairs", desc := "(I)I" } : Jvm.MethodName) ({ cls := "LinkTimesModel", name := "pairs", desc := "(I)I" } : Jvm.MethodName)) ∈ lw_all := lw_g (lw_at lw_m9 214 rfl) rfl
theorem q2262 : (Jvm.Cond.code ({ cls := "LinkTimesModel", name := "pairs", desc := "(I)I" } : Jvm.MethodName) prog_15_method_85_code (2 : Nat) (Option.some Jvm.ClassFile.FieldType.int)) ∈ lw_all := lw_g (lw_at lw_m9 215 rfl) rfl
theorem q2263 : (Jvm.Cond.methodLink "LinkTimesModel" (366 : Nat) ({ cls := "LinkTimesModel", name := "isAsked", desc := "(I)Z" } : Jvm.MethodName)) ∈ lw_all := lw_g (lw_at lw_m9 216 rfl) rfl
theorem q2264 : (Jvm.Cond.privateMethod ({ cls := "LinkTimesModel", name := "isAsked", desc := "(I)Z" } : Jvm.MethodName)) ∈ lw_tbl := lw_at lw_m9 217 rfl
theorem q2265 : (Jvm.Cond.instanceMethod ({ cls := "LinkTimesModel", name := "isAsked", desc := "(I)Z" } : Jvm.MethodName)) ∈ lw_all := lw_g (lw_at lw_m9 218 rfl) rfl
theorem q2266 : (Jvm.Cond.code ({ cls := "LinkTimesModel", name := "isAsked", desc := "(I)Z" } : Jvm.MethodName) prog_15_method_84_code (2 : Nat) (Option.some Jvm.ClassFile.FieldType.boolean)) ∈ lw_all := lw_g (lw_at lw_m9 219 rfl) rfl
theorem q2267 : (Jvm.Cond.methodLink "LinkTimesModel" (363 : Nat) ({ cls := "LinkTimesModel", name := "laysPairs", desc := "(I)V" } : Jvm.MethodName)) ∈ lw_all := lw_g (lw_at lw_m9 220 rfl) rfl
theorem q2268 : (Jvm.Cond.privateMethod ({ cls := "LinkTimesModel", name := "laysPairs", desc := "(I)V" } : Jvm.MethodName)) ∈ lw_tbl := lw_at lw_m9 221 rfl
theorem q2269 : (Jvm.Cond.instanceMethod ({ cls := "LinkTimesModel", name := "laysPairs", desc := "(I)V" } : Jvm.MethodName)) ∈ lw_all := lw_g (lw_at lw_m9 222 rfl) rfl
theorem q2270 : (Jvm.Cond.code ({ cls := "LinkTimesModel", name := "laysPairs", desc := "(I)V" } : Jvm.MethodName) prog_15_method_83_code (5 : Nat) (Option.none : Option Jvm.ClassFile.FieldType)) ∈ lw_all := lw_g (lw_at lw_m9 223 rfl) rfl
theorem q2272 : (Jvm.Cond.instanceMethod ({ cls := "LinkTimesModel", name := "hub", desc := "(I)I" } : Jvm.MethodName)) ∈ lw_all := lw_g (lw_at lw_m9 225 rfl) rfl
theorem q2273 : (Jvm.Cond.selects "LinkTimesModel" ({ cls := "LinkTimesModel", name := "hub", desc := "(I)I" } : Jvm.MethodName) ({ cls := "LinkTimesModel", name := "hub", desc := "(I)I" } : Jvm.MethodName)) ∈ lw_all := lw_g (lw_at lw_m9 226 rfl) rfl
theorem q2274 : (Jvm.Cond.code ({ cls := "LinkTimesModel", name := "hub", desc := "(I)I" } : Jvm.MethodName) prog_15_method_86_code (5 : Nat) (Option.some Jvm.ClassFile.FieldType.int)) ∈ lw_all := lw_g (lw_at lw_m9 227 rfl) rfl
theorem q2276 : (Jvm.Cond.instanceMethod ({ cls := "LinkTimesModel", name := "slowest", desc := "(I)I" } : Jvm.MethodName)) ∈ lw_all := lw_g (lw_at lw_m9 229 rfl) rfl
theorem q2277 : (Jvm.Cond.selects "LinkTimesModel" ({ cls := "LinkTimesModel", name := "slowest", desc := "(I)I" } : Jvm.MethodName) ({ cls := "LinkTimesModel", name := "slowest", desc := "(I)I" } : Jvm.MethodName)) ∈ lw_all := lw_g (lw_at lw_m9 230 rfl) rfl
theorem q2278 : (Jvm.Cond.code ({ cls := "LinkTimesModel", name := "slowest", desc := "(I)I" } : Jvm.MethodName) prog_15_method_87_code (2 : Nat) (Option.some Jvm.ClassFile.FieldType.int)) ∈ lw_all := lw_g (lw_at lw_m9 231 rfl) rfl
theorem q2280 : (Jvm.Cond.instanceMethod ({ cls := "LinkTimesModel", name := "steps", desc := "(II)I" } : Jvm.MethodName)) ∈ lw_all := lw_g (lw_at lw_m9 233 rfl) rfl
theorem q2281 : (Jvm.Cond.selects "LinkTimesModel" ({ cls := "LinkTimesModel", name := "steps", desc := "(II)I" } : Jvm.MethodName) ({ cls := "LinkTimesModel", name := "steps", desc := "(II)I" } : Jvm.MethodName)) ∈ lw_all := lw_g (lw_at lw_m9 234 rfl) rfl
theorem q2282 : (Jvm.Cond.code ({ cls := "LinkTimesModel", name := "steps", desc := "(II)I" } : Jvm.MethodName) prog_15_method_89_code (3 : Nat) (Option.some Jvm.ClassFile.FieldType.int)) ∈ lw_all := lw_g (lw_at lw_m9 235 rfl) rfl
theorem q2283 : (Jvm.Cond.methodLink "LinkTimesModel" (369 : Nat) ({ cls := "LinkTimesModel", name := "laysSteps", desc := "(II)V" } : Jvm.MethodName)) ∈ lw_all := lw_g (lw_at lw_m9 236 rfl) rfl
theorem q2284 : (Jvm.Cond.privateMethod ({ cls := "LinkTimesModel", name := "laysSteps", desc := "(II)V" } : Jvm.MethodName)) ∈ lw_tbl := lw_at lw_m9 237 rfl
theorem q2285 : (Jvm.Cond.instanceMethod ({ cls := "LinkTimesModel", name := "laysSteps", desc := "(II)V" } : Jvm.MethodName)) ∈ lw_all := lw_g (lw_at lw_m9 238 rfl) rfl
theorem q2286 : (Jvm.Cond.code ({ cls := "LinkTimesModel", name := "laysSteps", desc := "(II)V" } : Jvm.MethodName) prog_15_method_79_code (5 : Nat) (Option.none : Option Jvm.ClassFile.FieldType)) ∈ lw_all := lw_g (lw_at lw_m9 239 rfl) rfl
theorem q2287 : (Jvm.Cond.methodLink "LinkTimesModel" (339 : Nat) ({ cls := "LinkTimesModel", name := "beginsStep", desc := "(II)Z" } : Jvm.MethodName)) ∈ lw_all := lw_g (lw_at lw_m10 0 rfl) rfl
theorem q2288 : (Jvm.Cond.privateMethod ({ cls := "LinkTimesModel", name := "beginsStep", desc := "(II)Z" } : Jvm.MethodName)) ∈ lw_tbl := lw_at lw_m10 1 rfl
theorem q2289 : (Jvm.Cond.instanceMethod ({ cls := "LinkTimesModel", name := "beginsStep", desc := "(II)Z" } : Jvm.MethodName)) ∈ lw_all := lw_g (lw_at lw_m10 2 rfl) rfl
theorem q2290 : (Jvm.Cond.code ({ cls := "LinkTimesModel", name := "beginsStep", desc := "(II)Z" } : Jvm.MethodName) prog_15_method_78_code (6 : Nat) (Option.some Jvm.ClassFile.FieldType.boolean)) ∈ lw_all := lw_g (lw_at lw_m10 3 rfl) rfl
theorem q2292 : (Jvm.Cond.instanceMethod ({ cls := "LinkTimesModel", name := "step", desc := "(IIII)I" } : Jvm.MethodName)) ∈ lw_all := lw_g (lw_at lw_m10 5 rfl) rfl
theorem q2293 : (Jvm.Cond.selects "LinkTimesModel" ({ cls := "LinkTimesModel", name := "step", desc := "(IIII)I" } : Jvm.MethodName) ({ cls := "LinkTimesModel", name := "step", desc := "(IIII)I" } : Jvm.MethodName)) ∈ lw_all := lw_g (lw_at lw_m10 6 rfl) rfl
theorem q2294 : (Jvm.Cond.code ({ cls := "LinkTimesModel", name := "step", desc := "(IIII)I" } : Jvm.MethodName) prog_15_method_90_code (5 : Nat) (Option.some Jvm.ClassFile.FieldType.int)) ∈ lw_all := lw_g (lw_at lw_m10 7 rfl) rfl
theorem q2296 : (Jvm.Cond.instanceMethod ({ cls := "LinkTimesModel", name := "quickest", desc := "(II)I" } : Jvm.MethodName)) ∈ lw_all := lw_g (lw_at lw_m10 9 rfl) rfl
theorem q2297 : (Jvm.Cond.selects "LinkTimesModel" ({ cls := "LinkTimesModel", name := "quickest", desc := "(II)I" } : Jvm.MethodName) ({ cls := "LinkTimesModel", name := "quickest", desc := "(II)I" } : Jvm.MethodName)) ∈ lw_all := lw_g (lw_at lw_m10 10 rfl) rfl
theorem q2298 : (Jvm.Cond.code ({ cls := "LinkTimesModel", name := "quickest", desc := "(II)I" } : Jvm.MethodName) prog_15_method_91_code (6 : Nat) (Option.some Jvm.ClassFile.FieldType.int)) ∈ lw_all := lw_g (lw_at lw_m10 11 rfl) rfl
theorem q2300 : (Jvm.Cond.instanceMethod ({ cls := "LinkTimesModel", name := "spent", desc := "(IIII)I" } : Jvm.MethodName)) ∈ lw_all := lw_g (lw_at lw_m10 13 rfl) rfl
theorem q2301 : (Jvm.Cond.selects "LinkTimesModel" ({ cls := "LinkTimesModel", name := "spent", desc := "(IIII)I" } : Jvm.MethodName) ({ cls := "LinkTimesModel", name := "spent", desc := "(IIII)I" } : Jvm.MethodName)) ∈ lw_all := lw_g (lw_at lw_m10 14 rfl) rfl
theorem q2302 : (Jvm.Cond.code ({ cls := "LinkTimesModel", name := "spent", desc := "(IIII)I" } : Jvm.MethodName) prog_15_method_92_code (8 : Nat) (Option.some Jvm.ClassFile.FieldType.int)) ∈ lw_all := lw_g (lw_at lw_m10 15 rfl) rfl
theorem q2304 : (Jvm.Cond.instanceMethod ({ cls := "LinkTimesModel", name := "needs", desc := "(IIII)I" } : Jvm.MethodName)) ∈ lw_all := lw_g (lw_at lw_m10 17 rfl) rfl
theorem q2305 : (Jvm.Cond.selects "LinkTimesModel" ({ cls := "LinkTimesModel", name := "needs", desc := "(IIII)I" } : Jvm.MethodName) ({ cls := "LinkTimesModel", name := "needs", desc := "(IIII)I" } : Jvm.MethodName)) ∈ lw_all := lw_g (lw_at lw_m10 18 rfl) rfl
theorem q2306 : (Jvm.Cond.code ({ cls := "LinkTimesModel", name := "needs", desc := "(IIII)I" } : Jvm.MethodName) prog_15_method_96_code (7 : Nat) (Option.some Jvm.ClassFile.FieldType.int)) ∈ lw_all := lw_g (lw_at lw_m10 19 rfl) rfl
theorem q2307 : (Jvm.Cond.methodLink "LinkTimesModel" (372 : Nat) ({ cls := "LinkTimesModel", name := "without", desc := "(IIII)I" } : Jvm.MethodName)) ∈ lw_all := lw_g (lw_at lw_m10 20 rfl) rfl
theorem q2308 : (Jvm.Cond.privateMethod ({ cls := "LinkTimesModel", name := "without", desc := "(IIII)I" } : Jvm.MethodName)) ∈ lw_tbl := lw_at lw_m10 21 rfl
theorem q2309 : (Jvm.Cond.instanceMethod ({ cls := "LinkTimesModel", name := "without", desc := "(IIII)I" } : Jvm.MethodName)) ∈ lw_all := lw_g (lw_at lw_m10 22 rfl) rfl
theorem q2310 : (Jvm.Cond.code ({ cls := "LinkTimesModel", name := "without", desc := "(IIII)I" } : Jvm.MethodName) prog_15_method_95_code (7 : Nat) (Option.some Jvm.ClassFile.FieldType.int)) ∈ lw_all := lw_g (lw_at lw_m10 23 rfl) rfl
theorem q2312 : (Jvm.Cond.instanceMethod ({ cls := "LinkTimesModel", name := "vital", desc := "(III)I" } : Jvm.MethodName)) ∈ lw_all := lw_g (lw_at lw_m10 25 rfl) rfl
theorem q2313 : (Jvm.Cond.selects "LinkTimesModel" ({ cls := "LinkTimesModel", name := "vital", desc := "(III)I" } : Jvm.MethodName) ({ cls := "LinkTimesModel", name := "vital", desc := "(III)I" } : Jvm.MethodName)) ∈ lw_all := lw_g (lw_at lw_m10 26 rfl) rfl
theorem q2314 : (Jvm.Cond.code ({ cls := "LinkTimesModel", name := "vital", desc := "(III)I" } : Jvm.MethodName) prog_15_method_97_code (7 : Nat) (Option.some Jvm.ClassFile.FieldType.int)) ∈ lw_all := lw_g (lw_at lw_m10 27 rfl) rfl
theorem q2316 : (Jvm.Cond.instanceMethod ({ cls := "LinkTimesModel", name := "slack", desc := "(IIII)I" } : Jvm.MethodName)) ∈ lw_all := lw_g (lw_at lw_m10 29 rfl) rfl
theorem q2317 : (Jvm.Cond.selects "LinkTimesModel" ({ cls := "LinkTimesModel", name := "slack", desc := "(IIII)I" } : Jvm.MethodName) ({ cls := "LinkTimesModel", name := "slack", desc := "(IIII)I" } : Jvm.MethodName)) ∈ lw_all := lw_g (lw_at lw_m10 30 rfl) rfl
theorem q2318 : (Jvm.Cond.code ({ cls := "LinkTimesModel", name := "slack", desc := "(IIII)I" } : Jvm.MethodName) prog_15_method_98_code (9 : Nat) (Option.some Jvm.ClassFile.FieldType.int)) ∈ lw_all := lw_g (lw_at lw_m10 31 rfl) rfl
theorem q2320 : (Jvm.Cond.instanceMethod ({ cls := "LinkTimesModel", name := "why", desc := "(IIII)I" } : Jvm.MethodName)) ∈ lw_all := lw_g (lw_at lw_m10 33 rfl) rfl
theorem q2321 : (Jvm.Cond.selects "LinkTimesModel" ({ cls := "LinkTimesModel", name := "why", desc := "(IIII)I" } : Jvm.MethodName) ({ cls := "LinkTimesModel", name := "why", desc := "(IIII)I" } : Jvm.MethodName)) ∈ lw_all := lw_g (lw_at lw_m10 34 rfl) rfl
theorem q2322 : (Jvm.Cond.code ({ cls := "LinkTimesModel", name := "why", desc := "(IIII)I" } : Jvm.MethodName) prog_15_method_100_code (6 : Nat) (Option.some Jvm.ClassFile.FieldType.int)) ∈ lw_all := lw_g (lw_at lw_m10 35 rfl) rfl
theorem q2323 : (Jvm.Cond.methodLink "LinkTimesModel" (375 : Nat) ({ cls := "LinkTimesModel", name := "causes", desc := "(III)I" } : Jvm.MethodName)) ∈ lw_all := lw_g (lw_at lw_m10 36 rfl) rfl
theorem q2324 : (Jvm.Cond.privateMethod ({ cls := "LinkTimesModel", name := "causes", desc := "(III)I" } : Jvm.MethodName)) ∈ lw_tbl := lw_at lw_m10 37 rfl
theorem q2325 : (Jvm.Cond.instanceMethod ({ cls := "LinkTimesModel", name := "causes", desc := "(III)I" } : Jvm.MethodName)) ∈ lw_all := lw_g (lw_at lw_m10 38 rfl) rfl
theorem q2326 : (Jvm.Cond.code ({ cls := "LinkTimesModel", name := "causes", desc := "(III)I" } : Jvm.MethodName) prog_15_method_99_code (5 : Nat) (Option.some Jvm.ClassFile.FieldType.int)) ∈ lw_all := lw_g (lw_at lw_m10 39 rfl) rfl
theorem q2328 : (Jvm.Cond.instanceMethod ({ cls := "LinkTimesModel", name := "cancel", desc := "(I)I" } : Jvm.MethodName)) ∈ lw_all := lw_g (lw_at lw_m10 41 rfl) rfl
theorem q2329 : (Jvm.Cond.selects "LinkTimesModel" ({ cls := "LinkTimesModel", name := "cancel", desc := "(I)I" } : Jvm.MethodName) ({ cls := "LinkTimesModel", name := "cancel", desc := "(I)I" } : Jvm.MethodName)) ∈ lw_all := lw_g (lw_at lw_m10 42 rfl) rfl
theorem q2330 : (Jvm.Cond.code ({ cls := "LinkTimesModel", name := "cancel", desc := "(I)I" } : Jvm.MethodName) prog_15_method_103_code (3 : Nat) (Option.some Jvm.ClassFile.FieldType.int)) ∈ lw_all := lw_g (lw_at lw_m10 43 rfl) rfl
theorem q2331 : (Jvm.Cond.methodLink "LinkTimesModel" (381 : Nat) ({ cls := "LinkTimesModel", name := "puts", desc := "(II)I" } : Jvm.MethodName)) ∈ lw_all := lw_g (lw_at lw_m10 44 rfl) rfl
theorem q2332 : (Jvm.Cond.privateMethod ({ cls := "LinkTimesModel", name := "puts", desc := "(II)I" } : Jvm.MethodName)) ∈ lw_tbl := lw_at lw_m10 45 rfl
theorem q2333 : (Jvm.Cond.instanceMethod ({ cls := "LinkTimesModel", name := "puts", desc := "(II)I" } : Jvm.MethodName)) ∈ lw_all := lw_g (lw_at lw_m10 46 rfl) rfl
theorem q2334 : (Jvm.Cond.code ({ cls := "LinkTimesModel", name := "puts", desc := "(II)I" } : Jvm.MethodName) prog_15_method_102_code (4 : Nat) (Option.some Jvm.ClassFile.FieldType.int)) ∈ lw_all := lw_g (lw_at lw_m10 47 rfl) rfl
theorem q2335 : (Jvm.Cond.methodLink "LinkTimesModel" (378 : Nat) ({ cls := "LinkTimesModel", name := "keeps", desc := "()V" } : Jvm.MethodName)) ∈ lw_all := lw_g (lw_at lw_m10 48 rfl) rfl
theorem q2336 : (Jvm.Cond.privateMethod ({ cls := "LinkTimesModel", name := "keeps", desc := "()V" } : Jvm.MethodName)) ∈ lw_tbl := lw_at lw_m10 49 rfl
theorem q2337 : (Jvm.Cond.instanceMethod ({ cls := "LinkTimesModel", name := "keeps", desc := "()V" } : Jvm.MethodName)) ∈ lw_all := lw_g (lw_at lw_m10 50 rfl) rfl
theorem q2338 : (Jvm.Cond.code ({ cls := "LinkTimesModel", name := "keeps", desc := "()V" } : Jvm.MethodName) prog_15_method_101_code (2 : Nat) (Option.none : Option Jvm.ClassFile.FieldType)) ∈ lw_all := lw_g (lw_at lw_m10 51 rfl) rfl
theorem q2340 : (Jvm.Cond.instanceMethod ({ cls := "LinkTimesModel", name := "run", desc := "(I)I" } : Jvm.MethodName)) ∈ lw_all := lw_g (lw_at lw_m10 53 rfl) rfl
theorem q2341 : (Jvm.Cond.selects "LinkTimesModel" ({ cls := "LinkTimesModel", name := "run", desc := "(I)I" } : Jvm.MethodName) ({ cls := "LinkTimesModel", name := "run", desc := "(I)I" } : Jvm.MethodName)) ∈ lw_all := lw_g (lw_at lw_m10 54 rfl) rfl
theorem q2342 : (Jvm.Cond.code ({ cls := "LinkTimesModel", name := "run", desc := "(I)I" } : Jvm.MethodName) prog_15_method_104_code (3 : Nat) (Option.some Jvm.ClassFile.FieldType.int)) ∈ lw_all := lw_g (lw_at lw_m10 55 rfl) rfl
theorem q2344 : (Jvm.Cond.instanceMethod ({ cls := "LinkTimesModel", name := "delay", desc := "(II)I" } : Jvm.MethodName)) ∈ lw_all := lw_g (lw_at lw_m10 57 rfl) rfl
theorem q2345 : (Jvm.Cond.selects "LinkTimesModel" ({ cls := "LinkTimesModel", name := "delay", desc := "(II)I" } : Jvm.MethodName) ({ cls := "LinkTimesModel", name := "delay", desc := "(II)I" } : Jvm.MethodName)) ∈ lw_all := lw_g (lw_at lw_m10 58 rfl) rfl
theorem q2346 : (Jvm.Cond.code ({ cls := "LinkTimesModel", name := "delay", desc := "(II)I" } : Jvm.MethodName) prog_15_method_105_code (3 : Nat) (Option.some Jvm.ClassFile.FieldType.int)) ∈ lw_all := lw_g (lw_at lw_m10 59 rfl) rfl
theorem q2348 : (Jvm.Cond.instanceMethod ({ cls := "LinkTimesModel", name := "change", desc := "(II)I" } : Jvm.MethodName)) ∈ lw_all := lw_g (lw_at lw_m10 61 rfl) rfl
theorem q2349 : (Jvm.Cond.selects "LinkTimesModel" ({ cls := "LinkTimesModel", name := "change", desc := "(II)I" } : Jvm.MethodName) ({ cls := "LinkTimesModel", name := "change", desc := "(II)I" } : Jvm.MethodName)) ∈ lw_all := lw_g (lw_at lw_m10 62 rfl) rfl
theorem q2350 : (Jvm.Cond.code ({ cls := "LinkTimesModel", name := "change", desc := "(II)I" } : Jvm.MethodName) prog_15_method_106_code (3 : Nat) (Option.some Jvm.ClassFile.FieldType.int)) ∈ lw_all := lw_g (lw_at lw_m10 63 rfl) rfl
theorem q2352 : (Jvm.Cond.instanceMethod ({ cls := "LinkTimesModel", name := "hold", desc := "(II)I" } : Jvm.MethodName)) ∈ lw_all := lw_g (lw_at lw_m10 65 rfl) rfl
theorem q2353 : (Jvm.Cond.selects "LinkTimesModel" ({ cls := "LinkTimesModel", name := "hold", desc := "(II)I" } : Jvm.MethodName) ({ cls := "LinkTimesModel", name := "hold", desc := "(II)I" } : Jvm.MethodName)) ∈ lw_all := lw_g (lw_at lw_m10 66 rfl) rfl
theorem q2354 : (Jvm.Cond.code ({ cls := "LinkTimesModel", name := "hold", desc := "(II)I" } : Jvm.MethodName) prog_15_method_107_code (3 : Nat) (Option.some Jvm.ClassFile.FieldType.int)) ∈ lw_all := lw_g (lw_at lw_m10 67 rfl) rfl
theorem q2356 : (Jvm.Cond.instanceMethod ({ cls := "LinkTimesModel", name := "extra", desc := "(IIIII)I" } : Jvm.MethodName)) ∈ lw_all := lw_g (lw_at lw_m10 69 rfl) rfl
theorem q2357 : (Jvm.Cond.selects "LinkTimesModel" ({ cls := "LinkTimesModel", name := "extra", desc := "(IIIII)I" } : Jvm.MethodName) ({ cls := "LinkTimesModel", name := "extra", desc := "(IIIII)I" } : Jvm.MethodName)) ∈ lw_all := lw_g (lw_at lw_m10 70 rfl) rfl
theorem q2358 : (Jvm.Cond.code ({ cls := "LinkTimesModel", name := "extra", desc := "(IIIII)I" } : Jvm.MethodName) prog_15_method_108_code (7 : Nat) (Option.some Jvm.ClassFile.FieldType.int)) ∈ lw_all := lw_g (lw_at lw_m10 71 rfl) rfl
theorem q2360 : (Jvm.Cond.instanceMethod ({ cls := "LinkTimesModel", name := "undo", desc := "()Z" } : Jvm.MethodName)) ∈ lw_all := lw_g (lw_at lw_m10 73 rfl) rfl
theorem q2361 : (Jvm.Cond.selects "LinkTimesModel" ({ cls := "LinkTimesModel", name := "undo", desc := "()Z" } : Jvm.MethodName) ({ cls := "LinkTimesModel", name := "undo", desc := "()Z" } : Jvm.MethodName)) ∈ lw_all := lw_g (lw_at lw_m10 74 rfl) rfl
theorem q2362 : (Jvm.Cond.code ({ cls := "LinkTimesModel", name := "undo", desc := "()Z" } : Jvm.MethodName) prog_15_method_109_code (1 : Nat) (Option.some Jvm.ClassFile.FieldType.boolean)) ∈ lw_all := lw_g (lw_at lw_m10 75 rfl) rfl
theorem q2364 : (Jvm.Cond.instanceMethod ({ cls := "LinkTimesModel", name := "still", desc := "(I)I" } : Jvm.MethodName)) ∈ lw_all := lw_g (lw_at lw_m10 77 rfl) rfl
theorem q2365 : (Jvm.Cond.selects "LinkTimesModel" ({ cls := "LinkTimesModel", name := "still", desc := "(I)I" } : Jvm.MethodName) ({ cls := "LinkTimesModel", name := "still", desc := "(I)I" } : Jvm.MethodName)) ∈ lw_all := lw_g (lw_at lw_m10 78 rfl) rfl
theorem q2366 : (Jvm.Cond.code ({ cls := "LinkTimesModel", name := "still", desc := "(I)I" } : Jvm.MethodName) prog_15_method_110_code (4 : Nat) (Option.some Jvm.ClassFile.FieldType.int)) ∈ lw_all := lw_g (lw_at lw_m10 79 rfl) rfl
theorem q2368 : (Jvm.Cond.instanceMethod ({ cls := "LinkTimesModel", name := "size", desc := "(I)I" } : Jvm.MethodName)) ∈ lw_all := lw_g (lw_at lw_m10 81 rfl) rfl
theorem q2369 : (Jvm.Cond.selects "LinkTimesModel" ({ cls := "LinkTimesModel", name := "size", desc := "(I)I" } : Jvm.MethodName) ({ cls := "LinkTimesModel", name := "size", desc := "(I)I" } : Jvm.MethodName)) ∈ lw_all := lw_g (lw_at lw_m10 82 rfl) rfl
theorem q2370 : (Jvm.Cond.code ({ cls := "LinkTimesModel", name := "size", desc := "(I)I" } : Jvm.MethodName) prog_15_method_112_code (2 : Nat) (Option.some Jvm.ClassFile.FieldType.int)) ∈ lw_all := lw_g (lw_at lw_m10 83 rfl) rfl
theorem q2371 : (Jvm.Cond.methodLink "LinkTimesModel" (384 : Nat) ({ cls := "LinkTimesModel", name := "lateMany", desc := "()I" } : Jvm.MethodName)) ∈ lw_all := lw_g (lw_at lw_m10 84 rfl) rfl
theorem q2372 : (Jvm.Cond.privateMethod ({ cls := "LinkTimesModel", name := "lateMany", desc := "()I" } : Jvm.MethodName)) ∈ lw_tbl := lw_at lw_m10 85 rfl
theorem q2373 : (Jvm.Cond.instanceMethod ({ cls := "LinkTimesModel", name := "lateMany", desc := "()I" } : Jvm.MethodName)) ∈ lw_all := lw_g (lw_at lw_m10 86 rfl) rfl
theorem q2374 : (Jvm.Cond.code ({ cls := "LinkTimesModel", name := "lateMany", desc := "()I" } : Jvm.MethodName) prog_15_method_111_code (3 : Nat) (Option.some Jvm.ClassFile.FieldType.int)) ∈ lw_all := lw_g (lw_at lw_m10 87 rfl) rfl
theorem q2376 : (Jvm.Cond.instanceMethod ({ cls := "LinkTimesModel", name := "trouble", desc := "()I" } : Jvm.MethodName)) ∈ lw_all := lw_g (lw_at lw_m10 89 rfl) rfl
theorem q2377 : (Jvm.Cond.selects "LinkTimesModel" ({ cls := "LinkTimesModel", name := "trouble", desc := "()I" } : Jvm.MethodName) ({ cls := "LinkTimesModel", name := "trouble", desc := "()I" } : Jvm.MethodName)) ∈ lw_all := lw_g (lw_at lw_m10 90 rfl) rfl
theorem q2378 : (Jvm.Cond.code ({ cls := "LinkTimesModel", name := "trouble", desc := "()I" } : Jvm.MethodName) prog_15_method_113_code (1 : Nat) (Option.some Jvm.ClassFile.FieldType.int)) ∈ lw_all := lw_g (lw_at lw_m10 91 rfl) rfl
theorem q2395 : (Jvm.Cond.castable "LinkTimesModel" "java/lang/Object") ∈ lw_tbl := lw_at lw_m10 108 rfl

