/-! LinkTimes$Search -/
set_option maxRecDepth 100000
abbrev cX3_init : ByteArray := prog_11_method_1_code
def yX3_init : MethodName := ⟨RX3, "<init>", "(LLinkTimes;)V"⟩
def dkwX3_init_2 : List UInt8 := [181, 0, 31, 42, 16, 120, 188, 10, 181, 0, 34, 177]
abbrev dktX3_init_2 : List UInt8 := dkwX3_init_2 ++ []
def dkwX3_init_1 : List UInt8 := [181, 0, 21, 42, 16, 120, 188, 10, 181, 0, 25, 42, 16, 120, 188, 10, 181, 0, 28, 42, 16, 120, 188, 10]
abbrev dktX3_init_1 : List UInt8 := dkwX3_init_1 ++ dktX3_init_2
def dkwX3_init_0 : List UInt8 := [42, 43, 181, 0, 3, 42, 183, 0, 9, 42, 16, 120, 189, 0, 15, 181, 0, 17, 42, 16, 120, 188, 10]
abbrev dktX3_init_0 : List UInt8 := dkwX3_init_0 ++ dktX3_init_1
theorem dksX3_init_0 : cX3_init.data.toList.drop 0 = dktX3_init_0 := by decide +kernel
theorem dksX3_init_1 : cX3_init.data.toList.drop 23 = dktX3_init_1 := dk_seg dksX3_init_0 23 rfl rfl
theorem dksX3_init_2 : cX3_init.data.toList.drop 47 = dktX3_init_2 := dk_seg dksX3_init_1 24 rfl rfl
theorem dX3_init_0 : decode cX3_init 0 = .ok (.aload_n 0, 1) := dk_42 (dk_at dksX3_init_0 0 rfl rfl)
theorem dX3_init_1 : decode cX3_init 1 = .ok (.aload_n 1, 1) := dk_43 (dk_at dksX3_init_0 1 rfl rfl)
theorem dX3_init_2 : decode cX3_init 2 = .ok (.putfield 3, 3) := dk_181 0 3 (dk_at dksX3_init_0 2 rfl rfl)
theorem dX3_init_5 : decode cX3_init 5 = .ok (.aload_n 0, 1) := dk_42 (dk_at dksX3_init_0 5 rfl rfl)
theorem dX3_init_6 : decode cX3_init 6 = .ok (.invokespecial 9, 3) := dk_183 0 9 (dk_at dksX3_init_0 6 rfl rfl)
theorem dX3_init_9 : decode cX3_init 9 = .ok (.aload_n 0, 1) := dk_42 (dk_at dksX3_init_0 9 rfl rfl)
theorem dX3_init_10 : decode cX3_init 10 = .ok (.bipush 120, 2) := dk_16 120 (dk_at dksX3_init_0 10 rfl rfl)
theorem dX3_init_12 : decode cX3_init 12 = .ok (.anewarray 15, 3) := dk_189 0 15 (dk_at dksX3_init_0 12 rfl rfl)
theorem dX3_init_15 : decode cX3_init 15 = .ok (.putfield 17, 3) := dk_181 0 17 (dk_at dksX3_init_0 15 rfl rfl)
theorem dX3_init_18 : decode cX3_init 18 = .ok (.aload_n 0, 1) := dk_42 (dk_at dksX3_init_0 18 rfl rfl)
theorem dX3_init_19 : decode cX3_init 19 = .ok (.bipush 120, 2) := dk_16 120 (dk_at dksX3_init_0 19 rfl rfl)
theorem dX3_init_21 : decode cX3_init 21 = .ok (.newarray .int, 2) := dk_188_10 (dk_at dksX3_init_0 21 rfl rfl)
theorem dX3_init_23 : decode cX3_init 23 = .ok (.putfield 21, 3) := dk_181 0 21 (dk_at dksX3_init_1 0 rfl rfl)
theorem dX3_init_26 : decode cX3_init 26 = .ok (.aload_n 0, 1) := dk_42 (dk_at dksX3_init_1 3 rfl rfl)
theorem dX3_init_27 : decode cX3_init 27 = .ok (.bipush 120, 2) := dk_16 120 (dk_at dksX3_init_1 4 rfl rfl)
theorem dX3_init_29 : decode cX3_init 29 = .ok (.newarray .int, 2) := dk_188_10 (dk_at dksX3_init_1 6 rfl rfl)
theorem dX3_init_31 : decode cX3_init 31 = .ok (.putfield 25, 3) := dk_181 0 25 (dk_at dksX3_init_1 8 rfl rfl)
theorem dX3_init_34 : decode cX3_init 34 = .ok (.aload_n 0, 1) := dk_42 (dk_at dksX3_init_1 11 rfl rfl)
theorem dX3_init_35 : decode cX3_init 35 = .ok (.bipush 120, 2) := dk_16 120 (dk_at dksX3_init_1 12 rfl rfl)
theorem dX3_init_37 : decode cX3_init 37 = .ok (.newarray .int, 2) := dk_188_10 (dk_at dksX3_init_1 14 rfl rfl)
theorem dX3_init_39 : decode cX3_init 39 = .ok (.putfield 28, 3) := dk_181 0 28 (dk_at dksX3_init_1 16 rfl rfl)
theorem dX3_init_42 : decode cX3_init 42 = .ok (.aload_n 0, 1) := dk_42 (dk_at dksX3_init_1 19 rfl rfl)
theorem dX3_init_43 : decode cX3_init 43 = .ok (.bipush 120, 2) := dk_16 120 (dk_at dksX3_init_1 20 rfl rfl)
theorem dX3_init_45 : decode cX3_init 45 = .ok (.newarray .int, 2) := dk_188_10 (dk_at dksX3_init_1 22 rfl rfl)
theorem dX3_init_47 : decode cX3_init 47 = .ok (.putfield 31, 3) := dk_181 0 31 (dk_at dksX3_init_2 0 rfl rfl)
theorem dX3_init_50 : decode cX3_init 50 = .ok (.aload_n 0, 1) := dk_42 (dk_at dksX3_init_2 3 rfl rfl)
theorem dX3_init_51 : decode cX3_init 51 = .ok (.bipush 120, 2) := dk_16 120 (dk_at dksX3_init_2 4 rfl rfl)
theorem dX3_init_53 : decode cX3_init 53 = .ok (.newarray .int, 2) := dk_188_10 (dk_at dksX3_init_2 6 rfl rfl)
theorem dX3_init_55 : decode cX3_init 55 = .ok (.putfield 34, 3) := dk_181 0 34 (dk_at dksX3_init_2 8 rfl rfl)
theorem dX3_init_58 : decode cX3_init 58 = .ok (.return_, 1) := dk_177 (dk_at dksX3_init_2 11 rfl rfl)
abbrev cX3_lays : ByteArray := prog_11_method_2_code
def yX3_lays : MethodName := ⟨RX3, "lays", "(III)LLinkTimes$Search;"⟩
def dkwX3_lays_4 : List UInt8 := [42, 176]
abbrev dktX3_lays_4 : List UInt8 := dkwX3_lays_4 ++ []
def dkwX3_lays_3 : List UInt8 := [182, 0, 68, 21, 4, 28, 160, 0, 7, 29, 167, 0, 4, 3, 96, 182, 0, 70, 132, 4, 1, 167, 255, 178]
abbrev dktX3_lays_3 : List UInt8 := dkwX3_lays_3 ++ dktX3_lays_4
def dkwX3_lays_2 : List UInt8 := [192, 0, 15, 58, 5, 25, 5, 180, 0, 64, 153, 0, 32, 21, 4, 27, 159, 0, 26, 42, 25, 5, 25, 5]
abbrev dktX3_lays_2 : List UInt8 := dkwX3_lays_2 ++ dktX3_lays_3
def dkwX3_lays_1 : List UInt8 := [180, 0, 48, 182, 0, 54, 162, 0, 66, 42, 180, 0, 3, 180, 0, 44, 180, 0, 48, 21, 4, 182, 0, 60]
abbrev dktX3_lays_1 : List UInt8 := dkwX3_lays_1 ++ dktX3_lays_2
def dkwX3_lays_0 : List UInt8 := [42, 3, 181, 0, 37, 42, 3, 181, 0, 41, 3, 54, 4, 21, 4, 42, 180, 0, 3, 180, 0, 44]
abbrev dktX3_lays_0 : List UInt8 := dkwX3_lays_0 ++ dktX3_lays_1
theorem dksX3_lays_0 : cX3_lays.data.toList.drop 0 = dktX3_lays_0 := by decide +kernel
theorem dksX3_lays_1 : cX3_lays.data.toList.drop 22 = dktX3_lays_1 := dk_seg dksX3_lays_0 22 rfl rfl
theorem dksX3_lays_2 : cX3_lays.data.toList.drop 46 = dktX3_lays_2 := dk_seg dksX3_lays_1 24 rfl rfl
theorem dksX3_lays_3 : cX3_lays.data.toList.drop 70 = dktX3_lays_3 := dk_seg dksX3_lays_2 24 rfl rfl
theorem dksX3_lays_4 : cX3_lays.data.toList.drop 94 = dktX3_lays_4 := dk_seg dksX3_lays_3 24 rfl rfl
theorem dX3_lays_0 : decode cX3_lays 0 = .ok (.aload_n 0, 1) := dk_42 (dk_at dksX3_lays_0 0 rfl rfl)
theorem dX3_lays_1 : decode cX3_lays 1 = .ok (.iconst 0, 1) := dk_3 (dk_at dksX3_lays_0 1 rfl rfl)
theorem dX3_lays_2 : decode cX3_lays 2 = .ok (.putfield 37, 3) := dk_181 0 37 (dk_at dksX3_lays_0 2 rfl rfl)
theorem dX3_lays_5 : decode cX3_lays 5 = .ok (.aload_n 0, 1) := dk_42 (dk_at dksX3_lays_0 5 rfl rfl)
theorem dX3_lays_6 : decode cX3_lays 6 = .ok (.iconst 0, 1) := dk_3 (dk_at dksX3_lays_0 6 rfl rfl)
theorem dX3_lays_7 : decode cX3_lays 7 = .ok (.putfield 41, 3) := dk_181 0 41 (dk_at dksX3_lays_0 7 rfl rfl)
theorem dX3_lays_10 : decode cX3_lays 10 = .ok (.iconst 0, 1) := dk_3 (dk_at dksX3_lays_0 10 rfl rfl)
theorem dX3_lays_11 : decode cX3_lays 11 = .ok (.istore 4, 2) := dk_54 4 (dk_at dksX3_lays_0 11 rfl rfl)
theorem dX3_lays_13 : decode cX3_lays 13 = .ok (.iload 4, 2) := dk_21 4 (dk_at dksX3_lays_0 13 rfl rfl)
theorem dX3_lays_15 : decode cX3_lays 15 = .ok (.aload_n 0, 1) := dk_42 (dk_at dksX3_lays_0 15 rfl rfl)
theorem dX3_lays_16 : decode cX3_lays 16 = .ok (.getfield 3, 3) := dk_180 0 3 (dk_at dksX3_lays_0 16 rfl rfl)
theorem dX3_lays_19 : decode cX3_lays 19 = .ok (.getfield 44, 3) := dk_180 0 44 (dk_at dksX3_lays_0 19 rfl rfl)
theorem dX3_lays_22 : decode cX3_lays 22 = .ok (.getfield 48, 3) := dk_180 0 48 (dk_at dksX3_lays_1 0 rfl rfl)
theorem dX3_lays_25 : decode cX3_lays 25 = .ok (.invokevirtual 54, 3) := dk_182 0 54 (dk_at dksX3_lays_1 3 rfl rfl)
theorem dX3_lays_28 : decode cX3_lays 28 = .ok (.if_icmp .ge 66, 3) := dk_162 0 66 (dk_at dksX3_lays_1 6 rfl rfl)
theorem dX3_lays_31 : decode cX3_lays 31 = .ok (.aload_n 0, 1) := dk_42 (dk_at dksX3_lays_1 9 rfl rfl)
theorem dX3_lays_32 : decode cX3_lays 32 = .ok (.getfield 3, 3) := dk_180 0 3 (dk_at dksX3_lays_1 10 rfl rfl)
theorem dX3_lays_35 : decode cX3_lays 35 = .ok (.getfield 44, 3) := dk_180 0 44 (dk_at dksX3_lays_1 13 rfl rfl)
theorem dX3_lays_38 : decode cX3_lays 38 = .ok (.getfield 48, 3) := dk_180 0 48 (dk_at dksX3_lays_1 16 rfl rfl)
theorem dX3_lays_41 : decode cX3_lays 41 = .ok (.iload 4, 2) := dk_21 4 (dk_at dksX3_lays_1 19 rfl rfl)
theorem dX3_lays_43 : decode cX3_lays 43 = .ok (.invokevirtual 60, 3) := dk_182 0 60 (dk_at dksX3_lays_1 21 rfl rfl)
theorem dX3_lays_46 : decode cX3_lays 46 = .ok (.checkcast 15, 3) := dk_192 0 15 (dk_at dksX3_lays_2 0 rfl rfl)
theorem dX3_lays_49 : decode cX3_lays 49 = .ok (.astore 5, 2) := dk_58 5 (dk_at dksX3_lays_2 3 rfl rfl)
theorem dX3_lays_51 : decode cX3_lays 51 = .ok (.aload 5, 2) := dk_25 5 (dk_at dksX3_lays_2 5 rfl rfl)
theorem dX3_lays_53 : decode cX3_lays 53 = .ok (.getfield 64, 3) := dk_180 0 64 (dk_at dksX3_lays_2 7 rfl rfl)
theorem dX3_lays_56 : decode cX3_lays 56 = .ok (.ifCond .eq 32, 3) := dk_153 0 32 (dk_at dksX3_lays_2 10 rfl rfl)
theorem dX3_lays_59 : decode cX3_lays 59 = .ok (.iload 4, 2) := dk_21 4 (dk_at dksX3_lays_2 13 rfl rfl)
theorem dX3_lays_61 : decode cX3_lays 61 = .ok (.iload_n 1, 1) := dk_27 (dk_at dksX3_lays_2 15 rfl rfl)
theorem dX3_lays_62 : decode cX3_lays 62 = .ok (.if_icmp .eq 26, 3) := dk_159 0 26 (dk_at dksX3_lays_2 16 rfl rfl)
theorem dX3_lays_65 : decode cX3_lays 65 = .ok (.aload_n 0, 1) := dk_42 (dk_at dksX3_lays_2 19 rfl rfl)
theorem dX3_lays_66 : decode cX3_lays 66 = .ok (.aload 5, 2) := dk_25 5 (dk_at dksX3_lays_2 20 rfl rfl)
theorem dX3_lays_68 : decode cX3_lays 68 = .ok (.aload 5, 2) := dk_25 5 (dk_at dksX3_lays_2 22 rfl rfl)
theorem dX3_lays_70 : decode cX3_lays 70 = .ok (.invokevirtual 68, 3) := dk_182 0 68 (dk_at dksX3_lays_3 0 rfl rfl)
theorem dX3_lays_73 : decode cX3_lays 73 = .ok (.iload 4, 2) := dk_21 4 (dk_at dksX3_lays_3 3 rfl rfl)
theorem dX3_lays_75 : decode cX3_lays 75 = .ok (.iload_n 2, 1) := dk_28 (dk_at dksX3_lays_3 5 rfl rfl)
theorem dX3_lays_76 : decode cX3_lays 76 = .ok (.if_icmp .ne 7, 3) := dk_160 0 7 (dk_at dksX3_lays_3 6 rfl rfl)
theorem dX3_lays_79 : decode cX3_lays 79 = .ok (.iload_n 3, 1) := dk_29 (dk_at dksX3_lays_3 9 rfl rfl)
theorem dX3_lays_80 : decode cX3_lays 80 = .ok (.goto 4, 3) := dk_167 0 4 (dk_at dksX3_lays_3 10 rfl rfl)
theorem dX3_lays_83 : decode cX3_lays 83 = .ok (.iconst 0, 1) := dk_3 (dk_at dksX3_lays_3 13 rfl rfl)
theorem dX3_lays_84 : decode cX3_lays 84 = .ok (.iadd, 1) := dk_96 (dk_at dksX3_lays_3 14 rfl rfl)
theorem dX3_lays_85 : decode cX3_lays 85 = .ok (.invokevirtual 70, 3) := dk_182 0 70 (dk_at dksX3_lays_3 15 rfl rfl)
theorem dX3_lays_88 : decode cX3_lays 88 = .ok (.iinc 4 1, 3) := dk_132 4 1 (dk_at dksX3_lays_3 18 rfl rfl)
theorem dX3_lays_91 : decode cX3_lays 91 = .ok (.goto (-78), 3) := dk_167 255 178 (dk_at dksX3_lays_3 21 rfl rfl)
theorem dX3_lays_94 : decode cX3_lays 94 = .ok (.aload_n 0, 1) := dk_42 (dk_at dksX3_lays_4 0 rfl rfl)
theorem dX3_lays_95 : decode cX3_lays 95 = .ok (.areturn, 1) := dk_176 (dk_at dksX3_lays_4 1 rfl rfl)
abbrev cX3_puts : ByteArray := prog_11_method_5_code
def yX3_puts : MethodName := ⟨RX3, "puts", "(LLinkTimes$Departure;I)V"⟩
def dkwX3_puts_4 : List UInt8 := [79, 42, 89, 180, 0, 41, 4, 96, 181, 0, 41, 177]
abbrev dktX3_puts_4 : List UInt8 := dkwX3_puts_4 ++ []
def dkwX3_puts_3 : List UInt8 := [180, 0, 17, 29, 43, 83, 42, 180, 0, 21, 29, 28, 79, 42, 180, 0, 25, 29, 28, 43, 180, 0, 77, 96]
abbrev dktX3_puts_3 : List UInt8 := dkwX3_puts_3 ++ dktX3_puts_4
def dkwX3_puts_2 : List UInt8 := [100, 46, 79, 42, 180, 0, 25, 29, 42, 180, 0, 25, 29, 4, 100, 46, 79, 132, 3, 255, 167, 255, 195, 42]
abbrev dktX3_puts_2 : List UInt8 := dkwX3_puts_2 ++ dktX3_puts_3
def dkwX3_puts_1 : List UInt8 := [180, 0, 17, 29, 42, 180, 0, 17, 29, 4, 100, 50, 83, 42, 180, 0, 21, 29, 42, 180, 0, 21, 29, 4]
abbrev dktX3_puts_1 : List UInt8 := dkwX3_puts_1 ++ dktX3_puts_2
def dkwX3_puts_0 : List UInt8 := [42, 180, 0, 41, 62, 29, 158, 0, 63, 42, 180, 0, 21, 29, 4, 100, 46, 28, 164, 0, 51, 42]
abbrev dktX3_puts_0 : List UInt8 := dkwX3_puts_0 ++ dktX3_puts_1
theorem dksX3_puts_0 : cX3_puts.data.toList.drop 0 = dktX3_puts_0 := by decide +kernel
theorem dksX3_puts_1 : cX3_puts.data.toList.drop 22 = dktX3_puts_1 := dk_seg dksX3_puts_0 22 rfl rfl
theorem dksX3_puts_2 : cX3_puts.data.toList.drop 46 = dktX3_puts_2 := dk_seg dksX3_puts_1 24 rfl rfl
theorem dksX3_puts_3 : cX3_puts.data.toList.drop 70 = dktX3_puts_3 := dk_seg dksX3_puts_2 24 rfl rfl
theorem dksX3_puts_4 : cX3_puts.data.toList.drop 94 = dktX3_puts_4 := dk_seg dksX3_puts_3 24 rfl rfl
theorem dX3_puts_0 : decode cX3_puts 0 = .ok (.aload_n 0, 1) := dk_42 (dk_at dksX3_puts_0 0 rfl rfl)
theorem dX3_puts_1 : decode cX3_puts 1 = .ok (.getfield 41, 3) := dk_180 0 41 (dk_at dksX3_puts_0 1 rfl rfl)
theorem dX3_puts_4 : decode cX3_puts 4 = .ok (.istore_n 3, 1) := dk_62 (dk_at dksX3_puts_0 4 rfl rfl)
theorem dX3_puts_5 : decode cX3_puts 5 = .ok (.iload_n 3, 1) := dk_29 (dk_at dksX3_puts_0 5 rfl rfl)
theorem dX3_puts_6 : decode cX3_puts 6 = .ok (.ifCond .le 63, 3) := dk_158 0 63 (dk_at dksX3_puts_0 6 rfl rfl)
theorem dX3_puts_9 : decode cX3_puts 9 = .ok (.aload_n 0, 1) := dk_42 (dk_at dksX3_puts_0 9 rfl rfl)
theorem dX3_puts_10 : decode cX3_puts 10 = .ok (.getfield 21, 3) := dk_180 0 21 (dk_at dksX3_puts_0 10 rfl rfl)
theorem dX3_puts_13 : decode cX3_puts 13 = .ok (.iload_n 3, 1) := dk_29 (dk_at dksX3_puts_0 13 rfl rfl)
theorem dX3_puts_14 : decode cX3_puts 14 = .ok (.iconst 1, 1) := dk_4 (dk_at dksX3_puts_0 14 rfl rfl)
theorem dX3_puts_15 : decode cX3_puts 15 = .ok (.isub, 1) := dk_100 (dk_at dksX3_puts_0 15 rfl rfl)
theorem dX3_puts_16 : decode cX3_puts 16 = .ok (.iaload, 1) := dk_46 (dk_at dksX3_puts_0 16 rfl rfl)
theorem dX3_puts_17 : decode cX3_puts 17 = .ok (.iload_n 2, 1) := dk_28 (dk_at dksX3_puts_0 17 rfl rfl)
theorem dX3_puts_18 : decode cX3_puts 18 = .ok (.if_icmp .le 51, 3) := dk_164 0 51 (dk_at dksX3_puts_0 18 rfl rfl)
theorem dX3_puts_21 : decode cX3_puts 21 = .ok (.aload_n 0, 1) := dk_42 (dk_at dksX3_puts_0 21 rfl rfl)
theorem dX3_puts_22 : decode cX3_puts 22 = .ok (.getfield 17, 3) := dk_180 0 17 (dk_at dksX3_puts_1 0 rfl rfl)
theorem dX3_puts_25 : decode cX3_puts 25 = .ok (.iload_n 3, 1) := dk_29 (dk_at dksX3_puts_1 3 rfl rfl)
theorem dX3_puts_26 : decode cX3_puts 26 = .ok (.aload_n 0, 1) := dk_42 (dk_at dksX3_puts_1 4 rfl rfl)
theorem dX3_puts_27 : decode cX3_puts 27 = .ok (.getfield 17, 3) := dk_180 0 17 (dk_at dksX3_puts_1 5 rfl rfl)
theorem dX3_puts_30 : decode cX3_puts 30 = .ok (.iload_n 3, 1) := dk_29 (dk_at dksX3_puts_1 8 rfl rfl)
theorem dX3_puts_31 : decode cX3_puts 31 = .ok (.iconst 1, 1) := dk_4 (dk_at dksX3_puts_1 9 rfl rfl)
theorem dX3_puts_32 : decode cX3_puts 32 = .ok (.isub, 1) := dk_100 (dk_at dksX3_puts_1 10 rfl rfl)
theorem dX3_puts_33 : decode cX3_puts 33 = .ok (.aaload, 1) := dk_50 (dk_at dksX3_puts_1 11 rfl rfl)
theorem dX3_puts_34 : decode cX3_puts 34 = .ok (.aastore, 1) := dk_83 (dk_at dksX3_puts_1 12 rfl rfl)
theorem dX3_puts_35 : decode cX3_puts 35 = .ok (.aload_n 0, 1) := dk_42 (dk_at dksX3_puts_1 13 rfl rfl)
theorem dX3_puts_36 : decode cX3_puts 36 = .ok (.getfield 21, 3) := dk_180 0 21 (dk_at dksX3_puts_1 14 rfl rfl)
theorem dX3_puts_39 : decode cX3_puts 39 = .ok (.iload_n 3, 1) := dk_29 (dk_at dksX3_puts_1 17 rfl rfl)
theorem dX3_puts_40 : decode cX3_puts 40 = .ok (.aload_n 0, 1) := dk_42 (dk_at dksX3_puts_1 18 rfl rfl)
theorem dX3_puts_41 : decode cX3_puts 41 = .ok (.getfield 21, 3) := dk_180 0 21 (dk_at dksX3_puts_1 19 rfl rfl)
theorem dX3_puts_44 : decode cX3_puts 44 = .ok (.iload_n 3, 1) := dk_29 (dk_at dksX3_puts_1 22 rfl rfl)
theorem dX3_puts_45 : decode cX3_puts 45 = .ok (.iconst 1, 1) := dk_4 (dk_at dksX3_puts_1 23 rfl rfl)
theorem dX3_puts_46 : decode cX3_puts 46 = .ok (.isub, 1) := dk_100 (dk_at dksX3_puts_2 0 rfl rfl)
theorem dX3_puts_47 : decode cX3_puts 47 = .ok (.iaload, 1) := dk_46 (dk_at dksX3_puts_2 1 rfl rfl)
theorem dX3_puts_48 : decode cX3_puts 48 = .ok (.iastore, 1) := dk_79 (dk_at dksX3_puts_2 2 rfl rfl)
theorem dX3_puts_49 : decode cX3_puts 49 = .ok (.aload_n 0, 1) := dk_42 (dk_at dksX3_puts_2 3 rfl rfl)
theorem dX3_puts_50 : decode cX3_puts 50 = .ok (.getfield 25, 3) := dk_180 0 25 (dk_at dksX3_puts_2 4 rfl rfl)
theorem dX3_puts_53 : decode cX3_puts 53 = .ok (.iload_n 3, 1) := dk_29 (dk_at dksX3_puts_2 7 rfl rfl)
theorem dX3_puts_54 : decode cX3_puts 54 = .ok (.aload_n 0, 1) := dk_42 (dk_at dksX3_puts_2 8 rfl rfl)
theorem dX3_puts_55 : decode cX3_puts 55 = .ok (.getfield 25, 3) := dk_180 0 25 (dk_at dksX3_puts_2 9 rfl rfl)
theorem dX3_puts_58 : decode cX3_puts 58 = .ok (.iload_n 3, 1) := dk_29 (dk_at dksX3_puts_2 12 rfl rfl)
theorem dX3_puts_59 : decode cX3_puts 59 = .ok (.iconst 1, 1) := dk_4 (dk_at dksX3_puts_2 13 rfl rfl)
theorem dX3_puts_60 : decode cX3_puts 60 = .ok (.isub, 1) := dk_100 (dk_at dksX3_puts_2 14 rfl rfl)
theorem dX3_puts_61 : decode cX3_puts 61 = .ok (.iaload, 1) := dk_46 (dk_at dksX3_puts_2 15 rfl rfl)
theorem dX3_puts_62 : decode cX3_puts 62 = .ok (.iastore, 1) := dk_79 (dk_at dksX3_puts_2 16 rfl rfl)
theorem dX3_puts_63 : decode cX3_puts 63 = .ok (.iinc 3 (-1), 3) := dk_132 3 255 (dk_at dksX3_puts_2 17 rfl rfl)
theorem dX3_puts_66 : decode cX3_puts 66 = .ok (.goto (-61), 3) := dk_167 255 195 (dk_at dksX3_puts_2 20 rfl rfl)
theorem dX3_puts_69 : decode cX3_puts 69 = .ok (.aload_n 0, 1) := dk_42 (dk_at dksX3_puts_2 23 rfl rfl)
theorem dX3_puts_70 : decode cX3_puts 70 = .ok (.getfield 17, 3) := dk_180 0 17 (dk_at dksX3_puts_3 0 rfl rfl)
theorem dX3_puts_73 : decode cX3_puts 73 = .ok (.iload_n 3, 1) := dk_29 (dk_at dksX3_puts_3 3 rfl rfl)
theorem dX3_puts_74 : decode cX3_puts 74 = .ok (.aload_n 1, 1) := dk_43 (dk_at dksX3_puts_3 4 rfl rfl)
theorem dX3_puts_75 : decode cX3_puts 75 = .ok (.aastore, 1) := dk_83 (dk_at dksX3_puts_3 5 rfl rfl)
theorem dX3_puts_76 : decode cX3_puts 76 = .ok (.aload_n 0, 1) := dk_42 (dk_at dksX3_puts_3 6 rfl rfl)
theorem dX3_puts_77 : decode cX3_puts 77 = .ok (.getfield 21, 3) := dk_180 0 21 (dk_at dksX3_puts_3 7 rfl rfl)
theorem dX3_puts_80 : decode cX3_puts 80 = .ok (.iload_n 3, 1) := dk_29 (dk_at dksX3_puts_3 10 rfl rfl)
theorem dX3_puts_81 : decode cX3_puts 81 = .ok (.iload_n 2, 1) := dk_28 (dk_at dksX3_puts_3 11 rfl rfl)
theorem dX3_puts_82 : decode cX3_puts 82 = .ok (.iastore, 1) := dk_79 (dk_at dksX3_puts_3 12 rfl rfl)
theorem dX3_puts_83 : decode cX3_puts 83 = .ok (.aload_n 0, 1) := dk_42 (dk_at dksX3_puts_3 13 rfl rfl)
theorem dX3_puts_84 : decode cX3_puts 84 = .ok (.getfield 25, 3) := dk_180 0 25 (dk_at dksX3_puts_3 14 rfl rfl)
theorem dX3_puts_87 : decode cX3_puts 87 = .ok (.iload_n 3, 1) := dk_29 (dk_at dksX3_puts_3 17 rfl rfl)
theorem dX3_puts_88 : decode cX3_puts 88 = .ok (.iload_n 2, 1) := dk_28 (dk_at dksX3_puts_3 18 rfl rfl)
theorem dX3_puts_89 : decode cX3_puts 89 = .ok (.aload_n 1, 1) := dk_43 (dk_at dksX3_puts_3 19 rfl rfl)
theorem dX3_puts_90 : decode cX3_puts 90 = .ok (.getfield 77, 3) := dk_180 0 77 (dk_at dksX3_puts_3 20 rfl rfl)
theorem dX3_puts_93 : decode cX3_puts 93 = .ok (.iadd, 1) := dk_96 (dk_at dksX3_puts_3 23 rfl rfl)
theorem dX3_puts_94 : decode cX3_puts 94 = .ok (.iastore, 1) := dk_79 (dk_at dksX3_puts_4 0 rfl rfl)
theorem dX3_puts_95 : decode cX3_puts 95 = .ok (.aload_n 0, 1) := dk_42 (dk_at dksX3_puts_4 1 rfl rfl)
theorem dX3_puts_96 : decode cX3_puts 96 = .ok (.dup, 1) := dk_89 (dk_at dksX3_puts_4 2 rfl rfl)
theorem dX3_puts_97 : decode cX3_puts 97 = .ok (.getfield 41, 3) := dk_180 0 41 (dk_at dksX3_puts_4 3 rfl rfl)
theorem dX3_puts_100 : decode cX3_puts 100 = .ok (.iconst 1, 1) := dk_4 (dk_at dksX3_puts_4 6 rfl rfl)
theorem dX3_puts_101 : decode cX3_puts 101 = .ok (.iadd, 1) := dk_96 (dk_at dksX3_puts_4 7 rfl rfl)
theorem dX3_puts_102 : decode cX3_puts 102 = .ok (.putfield 41, 3) := dk_181 0 41 (dk_at dksX3_puts_4 8 rfl rfl)
theorem dX3_puts_105 : decode cX3_puts 105 = .ok (.return_, 1) := dk_177 (dk_at dksX3_puts_4 11 rfl rfl)
abbrev cX3_arrives : ByteArray := prog_11_method_10_code
def yX3_arrives : MethodName := ⟨RX3, "arrives", "(III)I"⟩
def dkwX3_arrives_0 : List UInt8 := [42, 27, 28, 29, 16, 120, 182, 0, 118, 172]
abbrev dktX3_arrives_0 : List UInt8 := dkwX3_arrives_0 ++ []
theorem dksX3_arrives_0 : cX3_arrives.data.toList.drop 0 = dktX3_arrives_0 := by decide +kernel
theorem dX3_arrives_0 : decode cX3_arrives 0 = .ok (.aload_n 0, 1) := dk_42 (dk_at dksX3_arrives_0 0 rfl rfl)
theorem dX3_arrives_1 : decode cX3_arrives 1 = .ok (.iload_n 1, 1) := dk_27 (dk_at dksX3_arrives_0 1 rfl rfl)
theorem dX3_arrives_2 : decode cX3_arrives 2 = .ok (.iload_n 2, 1) := dk_28 (dk_at dksX3_arrives_0 2 rfl rfl)
theorem dX3_arrives_3 : decode cX3_arrives 3 = .ok (.iload_n 3, 1) := dk_29 (dk_at dksX3_arrives_0 3 rfl rfl)
theorem dX3_arrives_4 : decode cX3_arrives 4 = .ok (.bipush 120, 2) := dk_16 120 (dk_at dksX3_arrives_0 4 rfl rfl)
theorem dX3_arrives_6 : decode cX3_arrives 6 = .ok (.invokevirtual 118, 3) := dk_182 0 118 (dk_at dksX3_arrives_0 6 rfl rfl)
theorem dX3_arrives_9 : decode cX3_arrives 9 = .ok (.ireturn, 1) := dk_172 (dk_at dksX3_arrives_0 9 rfl rfl)
abbrev cX3_arrivesBy : ByteArray := prog_11_method_9_code
def yX3_arrivesBy : MethodName := ⟨RX3, "arrivesBy", "(IIII)I"⟩
def dkwX3_arrivesBy_3 : List UInt8 := [132, 6, 1, 167, 255, 204, 21, 5, 18, 104, 160, 0, 8, 16, 254, 167, 0, 5, 21, 5, 172]
abbrev dktX3_arrivesBy_3 : List UInt8 := dkwX3_arrivesBy_3 ++ []
def dkwX3_arrivesBy_2 : List UInt8 := [21, 6, 46, 21, 4, 163, 0, 17, 21, 5, 42, 180, 0, 25, 21, 6, 46, 184, 0, 113, 54, 5]
abbrev dktX3_arrivesBy_2 : List UInt8 := dkwX3_arrivesBy_2 ++ dktX3_arrivesBy_3
def dkwX3_arrivesBy_1 : List UInt8 := [180, 0, 41, 162, 0, 49, 42, 180, 0, 17, 21, 6, 50, 180, 0, 83, 28, 160, 0, 29, 42, 180, 0, 28]
abbrev dktX3_arrivesBy_1 : List UInt8 := dkwX3_arrivesBy_1 ++ dktX3_arrivesBy_2
def dkwX3_arrivesBy_0 : List UInt8 := [27, 28, 160, 0, 5, 29, 172, 42, 27, 29, 182, 0, 109, 18, 104, 54, 5, 3, 54, 6, 21, 6, 42]
abbrev dktX3_arrivesBy_0 : List UInt8 := dkwX3_arrivesBy_0 ++ dktX3_arrivesBy_1
theorem dksX3_arrivesBy_0 : cX3_arrivesBy.data.toList.drop 0 = dktX3_arrivesBy_0 := by decide +kernel
theorem dksX3_arrivesBy_1 : cX3_arrivesBy.data.toList.drop 23 = dktX3_arrivesBy_1 := dk_seg dksX3_arrivesBy_0 23 rfl rfl
theorem dksX3_arrivesBy_2 : cX3_arrivesBy.data.toList.drop 47 = dktX3_arrivesBy_2 := dk_seg dksX3_arrivesBy_1 24 rfl rfl
theorem dksX3_arrivesBy_3 : cX3_arrivesBy.data.toList.drop 69 = dktX3_arrivesBy_3 := dk_seg dksX3_arrivesBy_2 22 rfl rfl
theorem dX3_arrivesBy_0 : decode cX3_arrivesBy 0 = .ok (.iload_n 1, 1) := dk_27 (dk_at dksX3_arrivesBy_0 0 rfl rfl)
theorem dX3_arrivesBy_1 : decode cX3_arrivesBy 1 = .ok (.iload_n 2, 1) := dk_28 (dk_at dksX3_arrivesBy_0 1 rfl rfl)
theorem dX3_arrivesBy_2 : decode cX3_arrivesBy 2 = .ok (.if_icmp .ne 5, 3) := dk_160 0 5 (dk_at dksX3_arrivesBy_0 2 rfl rfl)
theorem dX3_arrivesBy_5 : decode cX3_arrivesBy 5 = .ok (.iload_n 3, 1) := dk_29 (dk_at dksX3_arrivesBy_0 5 rfl rfl)
theorem dX3_arrivesBy_6 : decode cX3_arrivesBy 6 = .ok (.ireturn, 1) := dk_172 (dk_at dksX3_arrivesBy_0 6 rfl rfl)
theorem dX3_arrivesBy_7 : decode cX3_arrivesBy 7 = .ok (.aload_n 0, 1) := dk_42 (dk_at dksX3_arrivesBy_0 7 rfl rfl)
theorem dX3_arrivesBy_8 : decode cX3_arrivesBy 8 = .ok (.iload_n 1, 1) := dk_27 (dk_at dksX3_arrivesBy_0 8 rfl rfl)
theorem dX3_arrivesBy_9 : decode cX3_arrivesBy 9 = .ok (.iload_n 3, 1) := dk_29 (dk_at dksX3_arrivesBy_0 9 rfl rfl)
theorem dX3_arrivesBy_10 : decode cX3_arrivesBy 10 = .ok (.invokevirtual 109, 3) := dk_182 0 109 (dk_at dksX3_arrivesBy_0 10 rfl rfl)
theorem dX3_arrivesBy_13 : decode cX3_arrivesBy 13 = .ok (.ldc 104, 2) := dk_18 104 (dk_at dksX3_arrivesBy_0 13 rfl rfl)
theorem dX3_arrivesBy_15 : decode cX3_arrivesBy 15 = .ok (.istore 5, 2) := dk_54 5 (dk_at dksX3_arrivesBy_0 15 rfl rfl)
theorem dX3_arrivesBy_17 : decode cX3_arrivesBy 17 = .ok (.iconst 0, 1) := dk_3 (dk_at dksX3_arrivesBy_0 17 rfl rfl)
theorem dX3_arrivesBy_18 : decode cX3_arrivesBy 18 = .ok (.istore 6, 2) := dk_54 6 (dk_at dksX3_arrivesBy_0 18 rfl rfl)
theorem dX3_arrivesBy_20 : decode cX3_arrivesBy 20 = .ok (.iload 6, 2) := dk_21 6 (dk_at dksX3_arrivesBy_0 20 rfl rfl)
theorem dX3_arrivesBy_22 : decode cX3_arrivesBy 22 = .ok (.aload_n 0, 1) := dk_42 (dk_at dksX3_arrivesBy_0 22 rfl rfl)
theorem dX3_arrivesBy_23 : decode cX3_arrivesBy 23 = .ok (.getfield 41, 3) := dk_180 0 41 (dk_at dksX3_arrivesBy_1 0 rfl rfl)
theorem dX3_arrivesBy_26 : decode cX3_arrivesBy 26 = .ok (.if_icmp .ge 49, 3) := dk_162 0 49 (dk_at dksX3_arrivesBy_1 3 rfl rfl)
theorem dX3_arrivesBy_29 : decode cX3_arrivesBy 29 = .ok (.aload_n 0, 1) := dk_42 (dk_at dksX3_arrivesBy_1 6 rfl rfl)
theorem dX3_arrivesBy_30 : decode cX3_arrivesBy 30 = .ok (.getfield 17, 3) := dk_180 0 17 (dk_at dksX3_arrivesBy_1 7 rfl rfl)
theorem dX3_arrivesBy_33 : decode cX3_arrivesBy 33 = .ok (.iload 6, 2) := dk_21 6 (dk_at dksX3_arrivesBy_1 10 rfl rfl)
theorem dX3_arrivesBy_35 : decode cX3_arrivesBy 35 = .ok (.aaload, 1) := dk_50 (dk_at dksX3_arrivesBy_1 12 rfl rfl)
theorem dX3_arrivesBy_36 : decode cX3_arrivesBy 36 = .ok (.getfield 83, 3) := dk_180 0 83 (dk_at dksX3_arrivesBy_1 13 rfl rfl)
theorem dX3_arrivesBy_39 : decode cX3_arrivesBy 39 = .ok (.iload_n 2, 1) := dk_28 (dk_at dksX3_arrivesBy_1 16 rfl rfl)
theorem dX3_arrivesBy_40 : decode cX3_arrivesBy 40 = .ok (.if_icmp .ne 29, 3) := dk_160 0 29 (dk_at dksX3_arrivesBy_1 17 rfl rfl)
theorem dX3_arrivesBy_43 : decode cX3_arrivesBy 43 = .ok (.aload_n 0, 1) := dk_42 (dk_at dksX3_arrivesBy_1 20 rfl rfl)
theorem dX3_arrivesBy_44 : decode cX3_arrivesBy 44 = .ok (.getfield 28, 3) := dk_180 0 28 (dk_at dksX3_arrivesBy_1 21 rfl rfl)
theorem dX3_arrivesBy_47 : decode cX3_arrivesBy 47 = .ok (.iload 6, 2) := dk_21 6 (dk_at dksX3_arrivesBy_2 0 rfl rfl)
theorem dX3_arrivesBy_49 : decode cX3_arrivesBy 49 = .ok (.iaload, 1) := dk_46 (dk_at dksX3_arrivesBy_2 2 rfl rfl)
theorem dX3_arrivesBy_50 : decode cX3_arrivesBy 50 = .ok (.iload 4, 2) := dk_21 4 (dk_at dksX3_arrivesBy_2 3 rfl rfl)
theorem dX3_arrivesBy_52 : decode cX3_arrivesBy 52 = .ok (.if_icmp .gt 17, 3) := dk_163 0 17 (dk_at dksX3_arrivesBy_2 5 rfl rfl)
theorem dX3_arrivesBy_55 : decode cX3_arrivesBy 55 = .ok (.iload 5, 2) := dk_21 5 (dk_at dksX3_arrivesBy_2 8 rfl rfl)
theorem dX3_arrivesBy_57 : decode cX3_arrivesBy 57 = .ok (.aload_n 0, 1) := dk_42 (dk_at dksX3_arrivesBy_2 10 rfl rfl)
theorem dX3_arrivesBy_58 : decode cX3_arrivesBy 58 = .ok (.getfield 25, 3) := dk_180 0 25 (dk_at dksX3_arrivesBy_2 11 rfl rfl)
theorem dX3_arrivesBy_61 : decode cX3_arrivesBy 61 = .ok (.iload 6, 2) := dk_21 6 (dk_at dksX3_arrivesBy_2 14 rfl rfl)
theorem dX3_arrivesBy_63 : decode cX3_arrivesBy 63 = .ok (.iaload, 1) := dk_46 (dk_at dksX3_arrivesBy_2 16 rfl rfl)
theorem dX3_arrivesBy_64 : decode cX3_arrivesBy 64 = .ok (.invokestatic 113, 3) := dk_184 0 113 (dk_at dksX3_arrivesBy_2 17 rfl rfl)
theorem dX3_arrivesBy_67 : decode cX3_arrivesBy 67 = .ok (.istore 5, 2) := dk_54 5 (dk_at dksX3_arrivesBy_2 20 rfl rfl)
theorem dX3_arrivesBy_69 : decode cX3_arrivesBy 69 = .ok (.iinc 6 1, 3) := dk_132 6 1 (dk_at dksX3_arrivesBy_3 0 rfl rfl)
theorem dX3_arrivesBy_72 : decode cX3_arrivesBy 72 = .ok (.goto (-52), 3) := dk_167 255 204 (dk_at dksX3_arrivesBy_3 3 rfl rfl)
theorem dX3_arrivesBy_75 : decode cX3_arrivesBy 75 = .ok (.iload 5, 2) := dk_21 5 (dk_at dksX3_arrivesBy_3 6 rfl rfl)
theorem dX3_arrivesBy_77 : decode cX3_arrivesBy 77 = .ok (.ldc 104, 2) := dk_18 104 (dk_at dksX3_arrivesBy_3 8 rfl rfl)
theorem dX3_arrivesBy_79 : decode cX3_arrivesBy 79 = .ok (.if_icmp .ne 8, 3) := dk_160 0 8 (dk_at dksX3_arrivesBy_3 10 rfl rfl)
theorem dX3_arrivesBy_82 : decode cX3_arrivesBy 82 = .ok (.bipush (-2), 2) := dk_16 254 (dk_at dksX3_arrivesBy_3 13 rfl rfl)
theorem dX3_arrivesBy_84 : decode cX3_arrivesBy 84 = .ok (.goto 5, 3) := dk_167 0 5 (dk_at dksX3_arrivesBy_3 15 rfl rfl)
theorem dX3_arrivesBy_87 : decode cX3_arrivesBy 87 = .ok (.iload 5, 2) := dk_21 5 (dk_at dksX3_arrivesBy_3 18 rfl rfl)
theorem dX3_arrivesBy_89 : decode cX3_arrivesBy 89 = .ok (.ireturn, 1) := dk_172 (dk_at dksX3_arrivesBy_3 20 rfl rfl)
abbrev cX3_laysForwards : ByteArray := prog_11_method_8_code
def yX3_laysForwards : MethodName := ⟨RX3, "laysForwards", "(II)V"⟩
def dkwX3_laysForwards_5 : List UInt8 := [167, 255, 140, 177]
abbrev dktX3_laysForwards_5 : List UInt8 := dkwX3_laysForwards_5 ++ []
def dkwX3_laysForwards_4 : List UInt8 := [180, 0, 28, 21, 4, 46, 42, 21, 4, 29, 182, 0, 94, 96, 79, 132, 4, 1, 167, 255, 192, 132, 3, 1]
abbrev dktX3_laysForwards_4 : List UInt8 := dkwX3_laysForwards_4 ++ dktX3_laysForwards_5
def dkwX3_laysForwards_3 : List UInt8 := [180, 0, 28, 29, 46, 162, 0, 34, 42, 21, 4, 29, 182, 0, 105, 153, 0, 24, 42, 180, 0, 28, 29, 42]
abbrev dktX3_laysForwards_3 : List UInt8 := dkwX3_laysForwards_3 ++ dktX3_laysForwards_4
def dkwX3_laysForwards_2 : List UInt8 := [21, 4, 29, 162, 0, 64, 42, 180, 0, 28, 21, 4, 46, 42, 21, 4, 29, 182, 0, 94, 96, 42]
abbrev dktX3_laysForwards_2 : List UInt8 := dkwX3_laysForwards_2 ++ dktX3_laysForwards_3
def dkwX3_laysForwards_1 : List UInt8 := [27, 160, 0, 17, 42, 180, 0, 21, 29, 46, 28, 161, 0, 7, 3, 167, 0, 5, 18, 104, 79, 3, 54, 4]
abbrev dktX3_laysForwards_1 : List UInt8 := dkwX3_laysForwards_1 ++ dktX3_laysForwards_2
def dkwX3_laysForwards_0 : List UInt8 := [3, 62, 29, 42, 180, 0, 41, 162, 0, 114, 42, 180, 0, 28, 29, 42, 180, 0, 17, 29, 50, 180, 0, 86]
abbrev dktX3_laysForwards_0 : List UInt8 := dkwX3_laysForwards_0 ++ dktX3_laysForwards_1
theorem dksX3_laysForwards_0 : cX3_laysForwards.data.toList.drop 0 = dktX3_laysForwards_0 := by decide +kernel
theorem dksX3_laysForwards_1 : cX3_laysForwards.data.toList.drop 24 = dktX3_laysForwards_1 := dk_seg dksX3_laysForwards_0 24 rfl rfl
theorem dksX3_laysForwards_2 : cX3_laysForwards.data.toList.drop 48 = dktX3_laysForwards_2 := dk_seg dksX3_laysForwards_1 24 rfl rfl
theorem dksX3_laysForwards_3 : cX3_laysForwards.data.toList.drop 70 = dktX3_laysForwards_3 := dk_seg dksX3_laysForwards_2 22 rfl rfl
theorem dksX3_laysForwards_4 : cX3_laysForwards.data.toList.drop 94 = dktX3_laysForwards_4 := dk_seg dksX3_laysForwards_3 24 rfl rfl
theorem dksX3_laysForwards_5 : cX3_laysForwards.data.toList.drop 118 = dktX3_laysForwards_5 := dk_seg dksX3_laysForwards_4 24 rfl rfl
theorem dX3_laysForwards_0 : decode cX3_laysForwards 0 = .ok (.iconst 0, 1) := dk_3 (dk_at dksX3_laysForwards_0 0 rfl rfl)
theorem dX3_laysForwards_1 : decode cX3_laysForwards 1 = .ok (.istore_n 3, 1) := dk_62 (dk_at dksX3_laysForwards_0 1 rfl rfl)
theorem dX3_laysForwards_2 : decode cX3_laysForwards 2 = .ok (.iload_n 3, 1) := dk_29 (dk_at dksX3_laysForwards_0 2 rfl rfl)
theorem dX3_laysForwards_3 : decode cX3_laysForwards 3 = .ok (.aload_n 0, 1) := dk_42 (dk_at dksX3_laysForwards_0 3 rfl rfl)
theorem dX3_laysForwards_4 : decode cX3_laysForwards 4 = .ok (.getfield 41, 3) := dk_180 0 41 (dk_at dksX3_laysForwards_0 4 rfl rfl)
theorem dX3_laysForwards_7 : decode cX3_laysForwards 7 = .ok (.if_icmp .ge 114, 3) := dk_162 0 114 (dk_at dksX3_laysForwards_0 7 rfl rfl)
theorem dX3_laysForwards_10 : decode cX3_laysForwards 10 = .ok (.aload_n 0, 1) := dk_42 (dk_at dksX3_laysForwards_0 10 rfl rfl)
theorem dX3_laysForwards_11 : decode cX3_laysForwards 11 = .ok (.getfield 28, 3) := dk_180 0 28 (dk_at dksX3_laysForwards_0 11 rfl rfl)
theorem dX3_laysForwards_14 : decode cX3_laysForwards 14 = .ok (.iload_n 3, 1) := dk_29 (dk_at dksX3_laysForwards_0 14 rfl rfl)
theorem dX3_laysForwards_15 : decode cX3_laysForwards 15 = .ok (.aload_n 0, 1) := dk_42 (dk_at dksX3_laysForwards_0 15 rfl rfl)
theorem dX3_laysForwards_16 : decode cX3_laysForwards 16 = .ok (.getfield 17, 3) := dk_180 0 17 (dk_at dksX3_laysForwards_0 16 rfl rfl)
theorem dX3_laysForwards_19 : decode cX3_laysForwards 19 = .ok (.iload_n 3, 1) := dk_29 (dk_at dksX3_laysForwards_0 19 rfl rfl)
theorem dX3_laysForwards_20 : decode cX3_laysForwards 20 = .ok (.aaload, 1) := dk_50 (dk_at dksX3_laysForwards_0 20 rfl rfl)
theorem dX3_laysForwards_21 : decode cX3_laysForwards 21 = .ok (.getfield 86, 3) := dk_180 0 86 (dk_at dksX3_laysForwards_0 21 rfl rfl)
theorem dX3_laysForwards_24 : decode cX3_laysForwards 24 = .ok (.iload_n 1, 1) := dk_27 (dk_at dksX3_laysForwards_1 0 rfl rfl)
theorem dX3_laysForwards_25 : decode cX3_laysForwards 25 = .ok (.if_icmp .ne 17, 3) := dk_160 0 17 (dk_at dksX3_laysForwards_1 1 rfl rfl)
theorem dX3_laysForwards_28 : decode cX3_laysForwards 28 = .ok (.aload_n 0, 1) := dk_42 (dk_at dksX3_laysForwards_1 4 rfl rfl)
theorem dX3_laysForwards_29 : decode cX3_laysForwards 29 = .ok (.getfield 21, 3) := dk_180 0 21 (dk_at dksX3_laysForwards_1 5 rfl rfl)
theorem dX3_laysForwards_32 : decode cX3_laysForwards 32 = .ok (.iload_n 3, 1) := dk_29 (dk_at dksX3_laysForwards_1 8 rfl rfl)
theorem dX3_laysForwards_33 : decode cX3_laysForwards 33 = .ok (.iaload, 1) := dk_46 (dk_at dksX3_laysForwards_1 9 rfl rfl)
theorem dX3_laysForwards_34 : decode cX3_laysForwards 34 = .ok (.iload_n 2, 1) := dk_28 (dk_at dksX3_laysForwards_1 10 rfl rfl)
theorem dX3_laysForwards_35 : decode cX3_laysForwards 35 = .ok (.if_icmp .lt 7, 3) := dk_161 0 7 (dk_at dksX3_laysForwards_1 11 rfl rfl)
theorem dX3_laysForwards_38 : decode cX3_laysForwards 38 = .ok (.iconst 0, 1) := dk_3 (dk_at dksX3_laysForwards_1 14 rfl rfl)
theorem dX3_laysForwards_39 : decode cX3_laysForwards 39 = .ok (.goto 5, 3) := dk_167 0 5 (dk_at dksX3_laysForwards_1 15 rfl rfl)
theorem dX3_laysForwards_42 : decode cX3_laysForwards 42 = .ok (.ldc 104, 2) := dk_18 104 (dk_at dksX3_laysForwards_1 18 rfl rfl)
theorem dX3_laysForwards_44 : decode cX3_laysForwards 44 = .ok (.iastore, 1) := dk_79 (dk_at dksX3_laysForwards_1 20 rfl rfl)
theorem dX3_laysForwards_45 : decode cX3_laysForwards 45 = .ok (.iconst 0, 1) := dk_3 (dk_at dksX3_laysForwards_1 21 rfl rfl)
theorem dX3_laysForwards_46 : decode cX3_laysForwards 46 = .ok (.istore 4, 2) := dk_54 4 (dk_at dksX3_laysForwards_1 22 rfl rfl)
theorem dX3_laysForwards_48 : decode cX3_laysForwards 48 = .ok (.iload 4, 2) := dk_21 4 (dk_at dksX3_laysForwards_2 0 rfl rfl)
theorem dX3_laysForwards_50 : decode cX3_laysForwards 50 = .ok (.iload_n 3, 1) := dk_29 (dk_at dksX3_laysForwards_2 2 rfl rfl)
theorem dX3_laysForwards_51 : decode cX3_laysForwards 51 = .ok (.if_icmp .ge 64, 3) := dk_162 0 64 (dk_at dksX3_laysForwards_2 3 rfl rfl)
theorem dX3_laysForwards_54 : decode cX3_laysForwards 54 = .ok (.aload_n 0, 1) := dk_42 (dk_at dksX3_laysForwards_2 6 rfl rfl)
theorem dX3_laysForwards_55 : decode cX3_laysForwards 55 = .ok (.getfield 28, 3) := dk_180 0 28 (dk_at dksX3_laysForwards_2 7 rfl rfl)
theorem dX3_laysForwards_58 : decode cX3_laysForwards 58 = .ok (.iload 4, 2) := dk_21 4 (dk_at dksX3_laysForwards_2 10 rfl rfl)
theorem dX3_laysForwards_60 : decode cX3_laysForwards 60 = .ok (.iaload, 1) := dk_46 (dk_at dksX3_laysForwards_2 12 rfl rfl)
theorem dX3_laysForwards_61 : decode cX3_laysForwards 61 = .ok (.aload_n 0, 1) := dk_42 (dk_at dksX3_laysForwards_2 13 rfl rfl)
theorem dX3_laysForwards_62 : decode cX3_laysForwards 62 = .ok (.iload 4, 2) := dk_21 4 (dk_at dksX3_laysForwards_2 14 rfl rfl)
theorem dX3_laysForwards_64 : decode cX3_laysForwards 64 = .ok (.iload_n 3, 1) := dk_29 (dk_at dksX3_laysForwards_2 16 rfl rfl)
theorem dX3_laysForwards_65 : decode cX3_laysForwards 65 = .ok (.invokevirtual 94, 3) := dk_182 0 94 (dk_at dksX3_laysForwards_2 17 rfl rfl)
theorem dX3_laysForwards_68 : decode cX3_laysForwards 68 = .ok (.iadd, 1) := dk_96 (dk_at dksX3_laysForwards_2 20 rfl rfl)
theorem dX3_laysForwards_69 : decode cX3_laysForwards 69 = .ok (.aload_n 0, 1) := dk_42 (dk_at dksX3_laysForwards_2 21 rfl rfl)
theorem dX3_laysForwards_70 : decode cX3_laysForwards 70 = .ok (.getfield 28, 3) := dk_180 0 28 (dk_at dksX3_laysForwards_3 0 rfl rfl)
theorem dX3_laysForwards_73 : decode cX3_laysForwards 73 = .ok (.iload_n 3, 1) := dk_29 (dk_at dksX3_laysForwards_3 3 rfl rfl)
theorem dX3_laysForwards_74 : decode cX3_laysForwards 74 = .ok (.iaload, 1) := dk_46 (dk_at dksX3_laysForwards_3 4 rfl rfl)
theorem dX3_laysForwards_75 : decode cX3_laysForwards 75 = .ok (.if_icmp .ge 34, 3) := dk_162 0 34 (dk_at dksX3_laysForwards_3 5 rfl rfl)
theorem dX3_laysForwards_78 : decode cX3_laysForwards 78 = .ok (.aload_n 0, 1) := dk_42 (dk_at dksX3_laysForwards_3 8 rfl rfl)
theorem dX3_laysForwards_79 : decode cX3_laysForwards 79 = .ok (.iload 4, 2) := dk_21 4 (dk_at dksX3_laysForwards_3 9 rfl rfl)
theorem dX3_laysForwards_81 : decode cX3_laysForwards 81 = .ok (.iload_n 3, 1) := dk_29 (dk_at dksX3_laysForwards_3 11 rfl rfl)
theorem dX3_laysForwards_82 : decode cX3_laysForwards 82 = .ok (.invokevirtual 105, 3) := dk_182 0 105 (dk_at dksX3_laysForwards_3 12 rfl rfl)
theorem dX3_laysForwards_85 : decode cX3_laysForwards 85 = .ok (.ifCond .eq 24, 3) := dk_153 0 24 (dk_at dksX3_laysForwards_3 15 rfl rfl)
theorem dX3_laysForwards_88 : decode cX3_laysForwards 88 = .ok (.aload_n 0, 1) := dk_42 (dk_at dksX3_laysForwards_3 18 rfl rfl)
theorem dX3_laysForwards_89 : decode cX3_laysForwards 89 = .ok (.getfield 28, 3) := dk_180 0 28 (dk_at dksX3_laysForwards_3 19 rfl rfl)
theorem dX3_laysForwards_92 : decode cX3_laysForwards 92 = .ok (.iload_n 3, 1) := dk_29 (dk_at dksX3_laysForwards_3 22 rfl rfl)
theorem dX3_laysForwards_93 : decode cX3_laysForwards 93 = .ok (.aload_n 0, 1) := dk_42 (dk_at dksX3_laysForwards_3 23 rfl rfl)
theorem dX3_laysForwards_94 : decode cX3_laysForwards 94 = .ok (.getfield 28, 3) := dk_180 0 28 (dk_at dksX3_laysForwards_4 0 rfl rfl)
theorem dX3_laysForwards_97 : decode cX3_laysForwards 97 = .ok (.iload 4, 2) := dk_21 4 (dk_at dksX3_laysForwards_4 3 rfl rfl)
theorem dX3_laysForwards_99 : decode cX3_laysForwards 99 = .ok (.iaload, 1) := dk_46 (dk_at dksX3_laysForwards_4 5 rfl rfl)
theorem dX3_laysForwards_100 : decode cX3_laysForwards 100 = .ok (.aload_n 0, 1) := dk_42 (dk_at dksX3_laysForwards_4 6 rfl rfl)
theorem dX3_laysForwards_101 : decode cX3_laysForwards 101 = .ok (.iload 4, 2) := dk_21 4 (dk_at dksX3_laysForwards_4 7 rfl rfl)
theorem dX3_laysForwards_103 : decode cX3_laysForwards 103 = .ok (.iload_n 3, 1) := dk_29 (dk_at dksX3_laysForwards_4 9 rfl rfl)
theorem dX3_laysForwards_104 : decode cX3_laysForwards 104 = .ok (.invokevirtual 94, 3) := dk_182 0 94 (dk_at dksX3_laysForwards_4 10 rfl rfl)
theorem dX3_laysForwards_107 : decode cX3_laysForwards 107 = .ok (.iadd, 1) := dk_96 (dk_at dksX3_laysForwards_4 13 rfl rfl)
theorem dX3_laysForwards_108 : decode cX3_laysForwards 108 = .ok (.iastore, 1) := dk_79 (dk_at dksX3_laysForwards_4 14 rfl rfl)
theorem dX3_laysForwards_109 : decode cX3_laysForwards 109 = .ok (.iinc 4 1, 3) := dk_132 4 1 (dk_at dksX3_laysForwards_4 15 rfl rfl)
theorem dX3_laysForwards_112 : decode cX3_laysForwards 112 = .ok (.goto (-64), 3) := dk_167 255 192 (dk_at dksX3_laysForwards_4 18 rfl rfl)
theorem dX3_laysForwards_115 : decode cX3_laysForwards 115 = .ok (.iinc 3 1, 3) := dk_132 3 1 (dk_at dksX3_laysForwards_4 21 rfl rfl)
theorem dX3_laysForwards_118 : decode cX3_laysForwards 118 = .ok (.goto (-116), 3) := dk_167 255 140 (dk_at dksX3_laysForwards_5 0 rfl rfl)
theorem dX3_laysForwards_121 : decode cX3_laysForwards 121 = .ok (.return_, 1) := dk_177 (dk_at dksX3_laysForwards_5 3 rfl rfl)
abbrev cX3_changed : ByteArray := prog_11_method_6_code
def yX3_changed : MethodName := ⟨RX3, "changed", "(II)I"⟩
def dkwX3_changed_1 : List UInt8 := [167, 0, 4, 4, 172]
abbrev dktX3_changed_1 : List UInt8 := dkwX3_changed_1 ++ []
def dkwX3_changed_0 : List UInt8 := [42, 180, 0, 17, 27, 50, 180, 0, 80, 42, 180, 0, 17, 28, 50, 180, 0, 80, 160, 0, 7, 3]
abbrev dktX3_changed_0 : List UInt8 := dkwX3_changed_0 ++ dktX3_changed_1
theorem dksX3_changed_0 : cX3_changed.data.toList.drop 0 = dktX3_changed_0 := by decide +kernel
theorem dksX3_changed_1 : cX3_changed.data.toList.drop 22 = dktX3_changed_1 := dk_seg dksX3_changed_0 22 rfl rfl
theorem dX3_changed_0 : decode cX3_changed 0 = .ok (.aload_n 0, 1) := dk_42 (dk_at dksX3_changed_0 0 rfl rfl)
theorem dX3_changed_1 : decode cX3_changed 1 = .ok (.getfield 17, 3) := dk_180 0 17 (dk_at dksX3_changed_0 1 rfl rfl)
theorem dX3_changed_4 : decode cX3_changed 4 = .ok (.iload_n 1, 1) := dk_27 (dk_at dksX3_changed_0 4 rfl rfl)
theorem dX3_changed_5 : decode cX3_changed 5 = .ok (.aaload, 1) := dk_50 (dk_at dksX3_changed_0 5 rfl rfl)
theorem dX3_changed_6 : decode cX3_changed 6 = .ok (.getfield 80, 3) := dk_180 0 80 (dk_at dksX3_changed_0 6 rfl rfl)
theorem dX3_changed_9 : decode cX3_changed 9 = .ok (.aload_n 0, 1) := dk_42 (dk_at dksX3_changed_0 9 rfl rfl)
theorem dX3_changed_10 : decode cX3_changed 10 = .ok (.getfield 17, 3) := dk_180 0 17 (dk_at dksX3_changed_0 10 rfl rfl)
theorem dX3_changed_13 : decode cX3_changed 13 = .ok (.iload_n 2, 1) := dk_28 (dk_at dksX3_changed_0 13 rfl rfl)
theorem dX3_changed_14 : decode cX3_changed 14 = .ok (.aaload, 1) := dk_50 (dk_at dksX3_changed_0 14 rfl rfl)
theorem dX3_changed_15 : decode cX3_changed 15 = .ok (.getfield 80, 3) := dk_180 0 80 (dk_at dksX3_changed_0 15 rfl rfl)
theorem dX3_changed_18 : decode cX3_changed 18 = .ok (.if_icmp .ne 7, 3) := dk_160 0 7 (dk_at dksX3_changed_0 18 rfl rfl)
theorem dX3_changed_21 : decode cX3_changed 21 = .ok (.iconst 0, 1) := dk_3 (dk_at dksX3_changed_0 21 rfl rfl)
theorem dX3_changed_22 : decode cX3_changed 22 = .ok (.goto 4, 3) := dk_167 0 4 (dk_at dksX3_changed_1 0 rfl rfl)
theorem dX3_changed_25 : decode cX3_changed 25 = .ok (.iconst 1, 1) := dk_4 (dk_at dksX3_changed_1 3 rfl rfl)
theorem dX3_changed_26 : decode cX3_changed 26 = .ok (.ireturn, 1) := dk_172 (dk_at dksX3_changed_1 4 rfl rfl)
abbrev cX3_goesOn : ByteArray := prog_11_method_7_code
def yX3_goesOn : MethodName := ⟨RX3, "goesOn", "(II)Z"⟩
def dkwX3_goesOn_5 : List UInt8 := [172]
abbrev dktX3_goesOn_5 : List UInt8 := dkwX3_goesOn_5 ++ []
def dkwX3_goesOn_4 : List UInt8 := [25, 4, 180, 0, 101, 16, 254, 159, 0, 12, 29, 25, 4, 180, 0, 101, 163, 0, 7, 4, 167, 0, 4, 3]
abbrev dktX3_goesOn_4 : List UInt8 := dkwX3_goesOn_4 ++ dktX3_goesOn_5
def dkwX3_goesOn_3 : List UInt8 := [182, 0, 60, 192, 0, 92, 58, 4, 29, 42, 27, 28, 182, 0, 94, 25, 4, 180, 0, 98, 104, 161, 0, 26]
abbrev dktX3_goesOn_3 : List UInt8 := dkwX3_goesOn_3 ++ dktX3_goesOn_4
def dkwX3_goesOn_2 : List UInt8 := [160, 0, 5, 4, 172, 42, 180, 0, 3, 180, 0, 44, 180, 0, 89, 42, 180, 0, 17, 28, 50, 180, 0, 86]
abbrev dktX3_goesOn_2 : List UInt8 := dkwX3_goesOn_2 ++ dktX3_goesOn_3
def dkwX3_goesOn_1 : List UInt8 := [180, 0, 17, 28, 50, 180, 0, 86, 160, 0, 7, 29, 156, 0, 5, 3, 172, 42, 180, 0, 37, 5]
abbrev dktX3_goesOn_1 : List UInt8 := dkwX3_goesOn_1 ++ dktX3_goesOn_2
def dkwX3_goesOn_0 : List UInt8 := [42, 180, 0, 21, 28, 46, 42, 180, 0, 25, 27, 46, 100, 62, 42, 180, 0, 17, 27, 50, 180, 0, 83, 42]
abbrev dktX3_goesOn_0 : List UInt8 := dkwX3_goesOn_0 ++ dktX3_goesOn_1
theorem dksX3_goesOn_0 : cX3_goesOn.data.toList.drop 0 = dktX3_goesOn_0 := by decide +kernel
theorem dksX3_goesOn_1 : cX3_goesOn.data.toList.drop 24 = dktX3_goesOn_1 := dk_seg dksX3_goesOn_0 24 rfl rfl
theorem dksX3_goesOn_2 : cX3_goesOn.data.toList.drop 46 = dktX3_goesOn_2 := dk_seg dksX3_goesOn_1 22 rfl rfl
theorem dksX3_goesOn_3 : cX3_goesOn.data.toList.drop 70 = dktX3_goesOn_3 := dk_seg dksX3_goesOn_2 24 rfl rfl
theorem dksX3_goesOn_4 : cX3_goesOn.data.toList.drop 94 = dktX3_goesOn_4 := dk_seg dksX3_goesOn_3 24 rfl rfl
theorem dksX3_goesOn_5 : cX3_goesOn.data.toList.drop 118 = dktX3_goesOn_5 := dk_seg dksX3_goesOn_4 24 rfl rfl
theorem dX3_goesOn_0 : decode cX3_goesOn 0 = .ok (.aload_n 0, 1) := dk_42 (dk_at dksX3_goesOn_0 0 rfl rfl)
theorem dX3_goesOn_1 : decode cX3_goesOn 1 = .ok (.getfield 21, 3) := dk_180 0 21 (dk_at dksX3_goesOn_0 1 rfl rfl)
theorem dX3_goesOn_4 : decode cX3_goesOn 4 = .ok (.iload_n 2, 1) := dk_28 (dk_at dksX3_goesOn_0 4 rfl rfl)
theorem dX3_goesOn_5 : decode cX3_goesOn 5 = .ok (.iaload, 1) := dk_46 (dk_at dksX3_goesOn_0 5 rfl rfl)
theorem dX3_goesOn_6 : decode cX3_goesOn 6 = .ok (.aload_n 0, 1) := dk_42 (dk_at dksX3_goesOn_0 6 rfl rfl)
theorem dX3_goesOn_7 : decode cX3_goesOn 7 = .ok (.getfield 25, 3) := dk_180 0 25 (dk_at dksX3_goesOn_0 7 rfl rfl)
theorem dX3_goesOn_10 : decode cX3_goesOn 10 = .ok (.iload_n 1, 1) := dk_27 (dk_at dksX3_goesOn_0 10 rfl rfl)
theorem dX3_goesOn_11 : decode cX3_goesOn 11 = .ok (.iaload, 1) := dk_46 (dk_at dksX3_goesOn_0 11 rfl rfl)
theorem dX3_goesOn_12 : decode cX3_goesOn 12 = .ok (.isub, 1) := dk_100 (dk_at dksX3_goesOn_0 12 rfl rfl)
theorem dX3_goesOn_13 : decode cX3_goesOn 13 = .ok (.istore_n 3, 1) := dk_62 (dk_at dksX3_goesOn_0 13 rfl rfl)
theorem dX3_goesOn_14 : decode cX3_goesOn 14 = .ok (.aload_n 0, 1) := dk_42 (dk_at dksX3_goesOn_0 14 rfl rfl)
theorem dX3_goesOn_15 : decode cX3_goesOn 15 = .ok (.getfield 17, 3) := dk_180 0 17 (dk_at dksX3_goesOn_0 15 rfl rfl)
theorem dX3_goesOn_18 : decode cX3_goesOn 18 = .ok (.iload_n 1, 1) := dk_27 (dk_at dksX3_goesOn_0 18 rfl rfl)
theorem dX3_goesOn_19 : decode cX3_goesOn 19 = .ok (.aaload, 1) := dk_50 (dk_at dksX3_goesOn_0 19 rfl rfl)
theorem dX3_goesOn_20 : decode cX3_goesOn 20 = .ok (.getfield 83, 3) := dk_180 0 83 (dk_at dksX3_goesOn_0 20 rfl rfl)
theorem dX3_goesOn_23 : decode cX3_goesOn 23 = .ok (.aload_n 0, 1) := dk_42 (dk_at dksX3_goesOn_0 23 rfl rfl)
theorem dX3_goesOn_24 : decode cX3_goesOn 24 = .ok (.getfield 17, 3) := dk_180 0 17 (dk_at dksX3_goesOn_1 0 rfl rfl)
theorem dX3_goesOn_27 : decode cX3_goesOn 27 = .ok (.iload_n 2, 1) := dk_28 (dk_at dksX3_goesOn_1 3 rfl rfl)
theorem dX3_goesOn_28 : decode cX3_goesOn 28 = .ok (.aaload, 1) := dk_50 (dk_at dksX3_goesOn_1 4 rfl rfl)
theorem dX3_goesOn_29 : decode cX3_goesOn 29 = .ok (.getfield 86, 3) := dk_180 0 86 (dk_at dksX3_goesOn_1 5 rfl rfl)
theorem dX3_goesOn_32 : decode cX3_goesOn 32 = .ok (.if_icmp .ne 7, 3) := dk_160 0 7 (dk_at dksX3_goesOn_1 8 rfl rfl)
theorem dX3_goesOn_35 : decode cX3_goesOn 35 = .ok (.iload_n 3, 1) := dk_29 (dk_at dksX3_goesOn_1 11 rfl rfl)
theorem dX3_goesOn_36 : decode cX3_goesOn 36 = .ok (.ifCond .ge 5, 3) := dk_156 0 5 (dk_at dksX3_goesOn_1 12 rfl rfl)
theorem dX3_goesOn_39 : decode cX3_goesOn 39 = .ok (.iconst 0, 1) := dk_3 (dk_at dksX3_goesOn_1 15 rfl rfl)
theorem dX3_goesOn_40 : decode cX3_goesOn 40 = .ok (.ireturn, 1) := dk_172 (dk_at dksX3_goesOn_1 16 rfl rfl)
theorem dX3_goesOn_41 : decode cX3_goesOn 41 = .ok (.aload_n 0, 1) := dk_42 (dk_at dksX3_goesOn_1 17 rfl rfl)
theorem dX3_goesOn_42 : decode cX3_goesOn 42 = .ok (.getfield 37, 3) := dk_180 0 37 (dk_at dksX3_goesOn_1 18 rfl rfl)
theorem dX3_goesOn_45 : decode cX3_goesOn 45 = .ok (.iconst 2, 1) := dk_5 (dk_at dksX3_goesOn_1 21 rfl rfl)
theorem dX3_goesOn_46 : decode cX3_goesOn 46 = .ok (.if_icmp .ne 5, 3) := dk_160 0 5 (dk_at dksX3_goesOn_2 0 rfl rfl)
theorem dX3_goesOn_49 : decode cX3_goesOn 49 = .ok (.iconst 1, 1) := dk_4 (dk_at dksX3_goesOn_2 3 rfl rfl)
theorem dX3_goesOn_50 : decode cX3_goesOn 50 = .ok (.ireturn, 1) := dk_172 (dk_at dksX3_goesOn_2 4 rfl rfl)
theorem dX3_goesOn_51 : decode cX3_goesOn 51 = .ok (.aload_n 0, 1) := dk_42 (dk_at dksX3_goesOn_2 5 rfl rfl)
theorem dX3_goesOn_52 : decode cX3_goesOn 52 = .ok (.getfield 3, 3) := dk_180 0 3 (dk_at dksX3_goesOn_2 6 rfl rfl)
theorem dX3_goesOn_55 : decode cX3_goesOn 55 = .ok (.getfield 44, 3) := dk_180 0 44 (dk_at dksX3_goesOn_2 9 rfl rfl)
theorem dX3_goesOn_58 : decode cX3_goesOn 58 = .ok (.getfield 89, 3) := dk_180 0 89 (dk_at dksX3_goesOn_2 12 rfl rfl)
theorem dX3_goesOn_61 : decode cX3_goesOn 61 = .ok (.aload_n 0, 1) := dk_42 (dk_at dksX3_goesOn_2 15 rfl rfl)
theorem dX3_goesOn_62 : decode cX3_goesOn 62 = .ok (.getfield 17, 3) := dk_180 0 17 (dk_at dksX3_goesOn_2 16 rfl rfl)
theorem dX3_goesOn_65 : decode cX3_goesOn 65 = .ok (.iload_n 2, 1) := dk_28 (dk_at dksX3_goesOn_2 19 rfl rfl)
theorem dX3_goesOn_66 : decode cX3_goesOn 66 = .ok (.aaload, 1) := dk_50 (dk_at dksX3_goesOn_2 20 rfl rfl)
theorem dX3_goesOn_67 : decode cX3_goesOn 67 = .ok (.getfield 86, 3) := dk_180 0 86 (dk_at dksX3_goesOn_2 21 rfl rfl)
theorem dX3_goesOn_70 : decode cX3_goesOn 70 = .ok (.invokevirtual 60, 3) := dk_182 0 60 (dk_at dksX3_goesOn_3 0 rfl rfl)
theorem dX3_goesOn_73 : decode cX3_goesOn 73 = .ok (.checkcast 92, 3) := dk_192 0 92 (dk_at dksX3_goesOn_3 3 rfl rfl)
theorem dX3_goesOn_76 : decode cX3_goesOn 76 = .ok (.astore 4, 2) := dk_58 4 (dk_at dksX3_goesOn_3 6 rfl rfl)
theorem dX3_goesOn_78 : decode cX3_goesOn 78 = .ok (.iload_n 3, 1) := dk_29 (dk_at dksX3_goesOn_3 8 rfl rfl)
theorem dX3_goesOn_79 : decode cX3_goesOn 79 = .ok (.aload_n 0, 1) := dk_42 (dk_at dksX3_goesOn_3 9 rfl rfl)
theorem dX3_goesOn_80 : decode cX3_goesOn 80 = .ok (.iload_n 1, 1) := dk_27 (dk_at dksX3_goesOn_3 10 rfl rfl)
theorem dX3_goesOn_81 : decode cX3_goesOn 81 = .ok (.iload_n 2, 1) := dk_28 (dk_at dksX3_goesOn_3 11 rfl rfl)
theorem dX3_goesOn_82 : decode cX3_goesOn 82 = .ok (.invokevirtual 94, 3) := dk_182 0 94 (dk_at dksX3_goesOn_3 12 rfl rfl)
theorem dX3_goesOn_85 : decode cX3_goesOn 85 = .ok (.aload 4, 2) := dk_25 4 (dk_at dksX3_goesOn_3 15 rfl rfl)
theorem dX3_goesOn_87 : decode cX3_goesOn 87 = .ok (.getfield 98, 3) := dk_180 0 98 (dk_at dksX3_goesOn_3 17 rfl rfl)
theorem dX3_goesOn_90 : decode cX3_goesOn 90 = .ok (.imul, 1) := dk_104 (dk_at dksX3_goesOn_3 20 rfl rfl)
theorem dX3_goesOn_91 : decode cX3_goesOn 91 = .ok (.if_icmp .lt 26, 3) := dk_161 0 26 (dk_at dksX3_goesOn_3 21 rfl rfl)
theorem dX3_goesOn_94 : decode cX3_goesOn 94 = .ok (.aload 4, 2) := dk_25 4 (dk_at dksX3_goesOn_4 0 rfl rfl)
theorem dX3_goesOn_96 : decode cX3_goesOn 96 = .ok (.getfield 101, 3) := dk_180 0 101 (dk_at dksX3_goesOn_4 2 rfl rfl)
theorem dX3_goesOn_99 : decode cX3_goesOn 99 = .ok (.bipush (-2), 2) := dk_16 254 (dk_at dksX3_goesOn_4 5 rfl rfl)
theorem dX3_goesOn_101 : decode cX3_goesOn 101 = .ok (.if_icmp .eq 12, 3) := dk_159 0 12 (dk_at dksX3_goesOn_4 7 rfl rfl)
theorem dX3_goesOn_104 : decode cX3_goesOn 104 = .ok (.iload_n 3, 1) := dk_29 (dk_at dksX3_goesOn_4 10 rfl rfl)
theorem dX3_goesOn_105 : decode cX3_goesOn 105 = .ok (.aload 4, 2) := dk_25 4 (dk_at dksX3_goesOn_4 11 rfl rfl)
theorem dX3_goesOn_107 : decode cX3_goesOn 107 = .ok (.getfield 101, 3) := dk_180 0 101 (dk_at dksX3_goesOn_4 13 rfl rfl)
theorem dX3_goesOn_110 : decode cX3_goesOn 110 = .ok (.if_icmp .gt 7, 3) := dk_163 0 7 (dk_at dksX3_goesOn_4 16 rfl rfl)
theorem dX3_goesOn_113 : decode cX3_goesOn 113 = .ok (.iconst 1, 1) := dk_4 (dk_at dksX3_goesOn_4 19 rfl rfl)
theorem dX3_goesOn_114 : decode cX3_goesOn 114 = .ok (.goto 4, 3) := dk_167 0 4 (dk_at dksX3_goesOn_4 20 rfl rfl)
theorem dX3_goesOn_117 : decode cX3_goesOn 117 = .ok (.iconst 0, 1) := dk_3 (dk_at dksX3_goesOn_4 23 rfl rfl)
theorem dX3_goesOn_118 : decode cX3_goesOn 118 = .ok (.ireturn, 1) := dk_172 (dk_at dksX3_goesOn_5 0 rfl rfl)
abbrev cX3_best : ByteArray := prog_11_method_14_code
def yX3_best : MethodName := ⟨RX3, "best", "(III)I"⟩
def dkwX3_best_1 : List UInt8 := [167, 0, 12, 42, 27, 28, 29, 21, 4, 182, 0, 133, 172]
abbrev dktX3_best_1 : List UInt8 := dkwX3_best_1 ++ []
def dkwX3_best_0 : List UInt8 := [42, 27, 28, 29, 182, 0, 130, 54, 4, 21, 4, 16, 254, 159, 0, 8, 27, 28, 160, 0, 7, 2]
abbrev dktX3_best_0 : List UInt8 := dkwX3_best_0 ++ dktX3_best_1
theorem dksX3_best_0 : cX3_best.data.toList.drop 0 = dktX3_best_0 := by decide +kernel
theorem dksX3_best_1 : cX3_best.data.toList.drop 22 = dktX3_best_1 := dk_seg dksX3_best_0 22 rfl rfl
theorem dX3_best_0 : decode cX3_best 0 = .ok (.aload_n 0, 1) := dk_42 (dk_at dksX3_best_0 0 rfl rfl)
theorem dX3_best_1 : decode cX3_best 1 = .ok (.iload_n 1, 1) := dk_27 (dk_at dksX3_best_0 1 rfl rfl)
theorem dX3_best_2 : decode cX3_best 2 = .ok (.iload_n 2, 1) := dk_28 (dk_at dksX3_best_0 2 rfl rfl)
theorem dX3_best_3 : decode cX3_best 3 = .ok (.iload_n 3, 1) := dk_29 (dk_at dksX3_best_0 3 rfl rfl)
theorem dX3_best_4 : decode cX3_best 4 = .ok (.invokevirtual 130, 3) := dk_182 0 130 (dk_at dksX3_best_0 4 rfl rfl)
theorem dX3_best_7 : decode cX3_best 7 = .ok (.istore 4, 2) := dk_54 4 (dk_at dksX3_best_0 7 rfl rfl)
theorem dX3_best_9 : decode cX3_best 9 = .ok (.iload 4, 2) := dk_21 4 (dk_at dksX3_best_0 9 rfl rfl)
theorem dX3_best_11 : decode cX3_best 11 = .ok (.bipush (-2), 2) := dk_16 254 (dk_at dksX3_best_0 11 rfl rfl)
theorem dX3_best_13 : decode cX3_best 13 = .ok (.if_icmp .eq 8, 3) := dk_159 0 8 (dk_at dksX3_best_0 13 rfl rfl)
theorem dX3_best_16 : decode cX3_best 16 = .ok (.iload_n 1, 1) := dk_27 (dk_at dksX3_best_0 16 rfl rfl)
theorem dX3_best_17 : decode cX3_best 17 = .ok (.iload_n 2, 1) := dk_28 (dk_at dksX3_best_0 17 rfl rfl)
theorem dX3_best_18 : decode cX3_best 18 = .ok (.if_icmp .ne 7, 3) := dk_160 0 7 (dk_at dksX3_best_0 18 rfl rfl)
theorem dX3_best_21 : decode cX3_best 21 = .ok (.iconst (-1), 1) := dk_2 (dk_at dksX3_best_0 21 rfl rfl)
theorem dX3_best_22 : decode cX3_best 22 = .ok (.goto 12, 3) := dk_167 0 12 (dk_at dksX3_best_1 0 rfl rfl)
theorem dX3_best_25 : decode cX3_best 25 = .ok (.aload_n 0, 1) := dk_42 (dk_at dksX3_best_1 3 rfl rfl)
theorem dX3_best_26 : decode cX3_best 26 = .ok (.iload_n 1, 1) := dk_27 (dk_at dksX3_best_1 4 rfl rfl)
theorem dX3_best_27 : decode cX3_best 27 = .ok (.iload_n 2, 1) := dk_28 (dk_at dksX3_best_1 5 rfl rfl)
theorem dX3_best_28 : decode cX3_best 28 = .ok (.iload_n 3, 1) := dk_29 (dk_at dksX3_best_1 6 rfl rfl)
theorem dX3_best_29 : decode cX3_best 29 = .ok (.iload 4, 2) := dk_21 4 (dk_at dksX3_best_1 7 rfl rfl)
theorem dX3_best_31 : decode cX3_best 31 = .ok (.invokevirtual 133, 3) := dk_182 0 133 (dk_at dksX3_best_1 9 rfl rfl)
theorem dX3_best_34 : decode cX3_best 34 = .ok (.ireturn, 1) := dk_172 (dk_at dksX3_best_1 12 rfl rfl)
abbrev cX3_bestBy : ByteArray := prog_11_method_15_code
def yX3_bestBy : MethodName := ⟨RX3, "bestBy", "(IIII)I"⟩
def dkwX3_bestBy_3 : List UInt8 := [182, 0, 139, 153, 0, 7, 21, 6, 54, 5, 132, 6, 1, 167, 255, 186, 21, 5, 172]
abbrev dktX3_bestBy_3 : List UInt8 := dkwX3_bestBy_3 ++ []
def dkwX3_bestBy_2 : List UInt8 := [42, 180, 0, 28, 21, 6, 46, 18, 104, 162, 0, 24, 21, 5, 2, 159, 0, 14, 42, 21, 6, 21, 5]
abbrev dktX3_bestBy_2 : List UInt8 := dkwX3_bestBy_2 ++ dktX3_bestBy_3
def dkwX3_bestBy_1 : List UInt8 := [180, 0, 17, 21, 6, 50, 180, 0, 86, 27, 160, 0, 47, 42, 180, 0, 21, 21, 6, 46, 29, 161, 0, 36]
abbrev dktX3_bestBy_1 : List UInt8 := dkwX3_bestBy_1 ++ dktX3_bestBy_2
def dkwX3_bestBy_0 : List UInt8 := [42, 28, 21, 4, 182, 0, 136, 2, 54, 5, 3, 54, 6, 21, 6, 42, 180, 0, 41, 162, 0, 67, 42]
abbrev dktX3_bestBy_0 : List UInt8 := dkwX3_bestBy_0 ++ dktX3_bestBy_1
theorem dksX3_bestBy_0 : cX3_bestBy.data.toList.drop 0 = dktX3_bestBy_0 := by decide +kernel
theorem dksX3_bestBy_1 : cX3_bestBy.data.toList.drop 23 = dktX3_bestBy_1 := dk_seg dksX3_bestBy_0 23 rfl rfl
theorem dksX3_bestBy_2 : cX3_bestBy.data.toList.drop 47 = dktX3_bestBy_2 := dk_seg dksX3_bestBy_1 24 rfl rfl
theorem dksX3_bestBy_3 : cX3_bestBy.data.toList.drop 70 = dktX3_bestBy_3 := dk_seg dksX3_bestBy_2 23 rfl rfl
theorem dX3_bestBy_0 : decode cX3_bestBy 0 = .ok (.aload_n 0, 1) := dk_42 (dk_at dksX3_bestBy_0 0 rfl rfl)
theorem dX3_bestBy_1 : decode cX3_bestBy 1 = .ok (.iload_n 2, 1) := dk_28 (dk_at dksX3_bestBy_0 1 rfl rfl)
theorem dX3_bestBy_2 : decode cX3_bestBy 2 = .ok (.iload 4, 2) := dk_21 4 (dk_at dksX3_bestBy_0 2 rfl rfl)
theorem dX3_bestBy_4 : decode cX3_bestBy 4 = .ok (.invokevirtual 136, 3) := dk_182 0 136 (dk_at dksX3_bestBy_0 4 rfl rfl)
theorem dX3_bestBy_7 : decode cX3_bestBy 7 = .ok (.iconst (-1), 1) := dk_2 (dk_at dksX3_bestBy_0 7 rfl rfl)
theorem dX3_bestBy_8 : decode cX3_bestBy 8 = .ok (.istore 5, 2) := dk_54 5 (dk_at dksX3_bestBy_0 8 rfl rfl)
theorem dX3_bestBy_10 : decode cX3_bestBy 10 = .ok (.iconst 0, 1) := dk_3 (dk_at dksX3_bestBy_0 10 rfl rfl)
theorem dX3_bestBy_11 : decode cX3_bestBy 11 = .ok (.istore 6, 2) := dk_54 6 (dk_at dksX3_bestBy_0 11 rfl rfl)
theorem dX3_bestBy_13 : decode cX3_bestBy 13 = .ok (.iload 6, 2) := dk_21 6 (dk_at dksX3_bestBy_0 13 rfl rfl)
theorem dX3_bestBy_15 : decode cX3_bestBy 15 = .ok (.aload_n 0, 1) := dk_42 (dk_at dksX3_bestBy_0 15 rfl rfl)
theorem dX3_bestBy_16 : decode cX3_bestBy 16 = .ok (.getfield 41, 3) := dk_180 0 41 (dk_at dksX3_bestBy_0 16 rfl rfl)
theorem dX3_bestBy_19 : decode cX3_bestBy 19 = .ok (.if_icmp .ge 67, 3) := dk_162 0 67 (dk_at dksX3_bestBy_0 19 rfl rfl)
theorem dX3_bestBy_22 : decode cX3_bestBy 22 = .ok (.aload_n 0, 1) := dk_42 (dk_at dksX3_bestBy_0 22 rfl rfl)
theorem dX3_bestBy_23 : decode cX3_bestBy 23 = .ok (.getfield 17, 3) := dk_180 0 17 (dk_at dksX3_bestBy_1 0 rfl rfl)
theorem dX3_bestBy_26 : decode cX3_bestBy 26 = .ok (.iload 6, 2) := dk_21 6 (dk_at dksX3_bestBy_1 3 rfl rfl)
theorem dX3_bestBy_28 : decode cX3_bestBy 28 = .ok (.aaload, 1) := dk_50 (dk_at dksX3_bestBy_1 5 rfl rfl)
theorem dX3_bestBy_29 : decode cX3_bestBy 29 = .ok (.getfield 86, 3) := dk_180 0 86 (dk_at dksX3_bestBy_1 6 rfl rfl)
theorem dX3_bestBy_32 : decode cX3_bestBy 32 = .ok (.iload_n 1, 1) := dk_27 (dk_at dksX3_bestBy_1 9 rfl rfl)
theorem dX3_bestBy_33 : decode cX3_bestBy 33 = .ok (.if_icmp .ne 47, 3) := dk_160 0 47 (dk_at dksX3_bestBy_1 10 rfl rfl)
theorem dX3_bestBy_36 : decode cX3_bestBy 36 = .ok (.aload_n 0, 1) := dk_42 (dk_at dksX3_bestBy_1 13 rfl rfl)
theorem dX3_bestBy_37 : decode cX3_bestBy 37 = .ok (.getfield 21, 3) := dk_180 0 21 (dk_at dksX3_bestBy_1 14 rfl rfl)
theorem dX3_bestBy_40 : decode cX3_bestBy 40 = .ok (.iload 6, 2) := dk_21 6 (dk_at dksX3_bestBy_1 17 rfl rfl)
theorem dX3_bestBy_42 : decode cX3_bestBy 42 = .ok (.iaload, 1) := dk_46 (dk_at dksX3_bestBy_1 19 rfl rfl)
theorem dX3_bestBy_43 : decode cX3_bestBy 43 = .ok (.iload_n 3, 1) := dk_29 (dk_at dksX3_bestBy_1 20 rfl rfl)
theorem dX3_bestBy_44 : decode cX3_bestBy 44 = .ok (.if_icmp .lt 36, 3) := dk_161 0 36 (dk_at dksX3_bestBy_1 21 rfl rfl)
theorem dX3_bestBy_47 : decode cX3_bestBy 47 = .ok (.aload_n 0, 1) := dk_42 (dk_at dksX3_bestBy_2 0 rfl rfl)
theorem dX3_bestBy_48 : decode cX3_bestBy 48 = .ok (.getfield 28, 3) := dk_180 0 28 (dk_at dksX3_bestBy_2 1 rfl rfl)
theorem dX3_bestBy_51 : decode cX3_bestBy 51 = .ok (.iload 6, 2) := dk_21 6 (dk_at dksX3_bestBy_2 4 rfl rfl)
theorem dX3_bestBy_53 : decode cX3_bestBy 53 = .ok (.iaload, 1) := dk_46 (dk_at dksX3_bestBy_2 6 rfl rfl)
theorem dX3_bestBy_54 : decode cX3_bestBy 54 = .ok (.ldc 104, 2) := dk_18 104 (dk_at dksX3_bestBy_2 7 rfl rfl)
theorem dX3_bestBy_56 : decode cX3_bestBy 56 = .ok (.if_icmp .ge 24, 3) := dk_162 0 24 (dk_at dksX3_bestBy_2 9 rfl rfl)
theorem dX3_bestBy_59 : decode cX3_bestBy 59 = .ok (.iload 5, 2) := dk_21 5 (dk_at dksX3_bestBy_2 12 rfl rfl)
theorem dX3_bestBy_61 : decode cX3_bestBy 61 = .ok (.iconst (-1), 1) := dk_2 (dk_at dksX3_bestBy_2 14 rfl rfl)
theorem dX3_bestBy_62 : decode cX3_bestBy 62 = .ok (.if_icmp .eq 14, 3) := dk_159 0 14 (dk_at dksX3_bestBy_2 15 rfl rfl)
theorem dX3_bestBy_65 : decode cX3_bestBy 65 = .ok (.aload_n 0, 1) := dk_42 (dk_at dksX3_bestBy_2 18 rfl rfl)
theorem dX3_bestBy_66 : decode cX3_bestBy 66 = .ok (.iload 6, 2) := dk_21 6 (dk_at dksX3_bestBy_2 19 rfl rfl)
theorem dX3_bestBy_68 : decode cX3_bestBy 68 = .ok (.iload 5, 2) := dk_21 5 (dk_at dksX3_bestBy_2 21 rfl rfl)
theorem dX3_bestBy_70 : decode cX3_bestBy 70 = .ok (.invokevirtual 139, 3) := dk_182 0 139 (dk_at dksX3_bestBy_3 0 rfl rfl)
theorem dX3_bestBy_73 : decode cX3_bestBy 73 = .ok (.ifCond .eq 7, 3) := dk_153 0 7 (dk_at dksX3_bestBy_3 3 rfl rfl)
theorem dX3_bestBy_76 : decode cX3_bestBy 76 = .ok (.iload 6, 2) := dk_21 6 (dk_at dksX3_bestBy_3 6 rfl rfl)
theorem dX3_bestBy_78 : decode cX3_bestBy 78 = .ok (.istore 5, 2) := dk_54 5 (dk_at dksX3_bestBy_3 8 rfl rfl)
theorem dX3_bestBy_80 : decode cX3_bestBy 80 = .ok (.iinc 6 1, 3) := dk_132 6 1 (dk_at dksX3_bestBy_3 10 rfl rfl)
theorem dX3_bestBy_83 : decode cX3_bestBy 83 = .ok (.goto (-70), 3) := dk_167 255 186 (dk_at dksX3_bestBy_3 13 rfl rfl)
theorem dX3_bestBy_86 : decode cX3_bestBy 86 = .ok (.iload 5, 2) := dk_21 5 (dk_at dksX3_bestBy_3 16 rfl rfl)
theorem dX3_bestBy_88 : decode cX3_bestBy 88 = .ok (.ireturn, 1) := dk_172 (dk_at dksX3_bestBy_3 18 rfl rfl)
abbrev cX3_laysBackwards : ByteArray := prog_11_method_11_code
def yX3_laysBackwards : MethodName := ⟨RX3, "laysBackwards", "(II)V"⟩
def dkwX3_laysBackwards_5 : List UInt8 := [29, 21, 5, 182, 0, 125, 132, 5, 1, 167, 255, 205, 132, 3, 255, 167, 255, 129, 177]
abbrev dktX3_laysBackwards_5 : List UInt8 := dkwX3_laysBackwards_5 ++ []
def dkwX3_laysBackwards_4 : List UInt8 := [162, 0, 30, 42, 29, 21, 5, 182, 0, 105, 153, 0, 20, 42, 21, 5, 29, 182, 0, 122, 153, 0, 10, 42]
abbrev dktX3_laysBackwards_4 : List UInt8 := dkwX3_laysBackwards_4 ++ dktX3_laysBackwards_5
def dkwX3_laysBackwards_3 : List UInt8 := [29, 4, 96, 54, 5, 21, 5, 42, 180, 0, 41, 162, 0, 48, 42, 180, 0, 28, 21, 5, 46, 18, 104]
abbrev dktX3_laysBackwards_3 : List UInt8 := dkwX3_laysBackwards_3 ++ dktX3_laysBackwards_4
def dkwX3_laysBackwards_2 : List UInt8 := [153, 0, 7, 3, 167, 0, 5, 18, 104, 79, 42, 180, 0, 31, 29, 4, 79, 42, 180, 0, 34, 29, 2, 79]
abbrev dktX3_laysBackwards_2 : List UInt8 := dkwX3_laysBackwards_2 ++ dktX3_laysBackwards_3
def dkwX3_laysBackwards_1 : List UInt8 := [42, 180, 0, 25, 29, 46, 28, 160, 0, 7, 4, 167, 0, 4, 3, 54, 4, 42, 180, 0, 28, 29, 21, 4]
abbrev dktX3_laysBackwards_1 : List UInt8 := dkwX3_laysBackwards_1 ++ dktX3_laysBackwards_2
def dkwX3_laysBackwards_0 : List UInt8 := [42, 180, 0, 41, 4, 100, 62, 29, 155, 0, 129, 42, 180, 0, 17, 29, 50, 180, 0, 83, 27, 160, 0, 17]
abbrev dktX3_laysBackwards_0 : List UInt8 := dkwX3_laysBackwards_0 ++ dktX3_laysBackwards_1
theorem dksX3_laysBackwards_0 : cX3_laysBackwards.data.toList.drop 0 = dktX3_laysBackwards_0 := by decide +kernel
theorem dksX3_laysBackwards_1 : cX3_laysBackwards.data.toList.drop 24 = dktX3_laysBackwards_1 := dk_seg dksX3_laysBackwards_0 24 rfl rfl
theorem dksX3_laysBackwards_2 : cX3_laysBackwards.data.toList.drop 48 = dktX3_laysBackwards_2 := dk_seg dksX3_laysBackwards_1 24 rfl rfl
theorem dksX3_laysBackwards_3 : cX3_laysBackwards.data.toList.drop 72 = dktX3_laysBackwards_3 := dk_seg dksX3_laysBackwards_2 24 rfl rfl
theorem dksX3_laysBackwards_4 : cX3_laysBackwards.data.toList.drop 95 = dktX3_laysBackwards_4 := dk_seg dksX3_laysBackwards_3 23 rfl rfl
theorem dksX3_laysBackwards_5 : cX3_laysBackwards.data.toList.drop 119 = dktX3_laysBackwards_5 := dk_seg dksX3_laysBackwards_4 24 rfl rfl
theorem dX3_laysBackwards_0 : decode cX3_laysBackwards 0 = .ok (.aload_n 0, 1) := dk_42 (dk_at dksX3_laysBackwards_0 0 rfl rfl)
theorem dX3_laysBackwards_1 : decode cX3_laysBackwards 1 = .ok (.getfield 41, 3) := dk_180 0 41 (dk_at dksX3_laysBackwards_0 1 rfl rfl)
theorem dX3_laysBackwards_4 : decode cX3_laysBackwards 4 = .ok (.iconst 1, 1) := dk_4 (dk_at dksX3_laysBackwards_0 4 rfl rfl)
theorem dX3_laysBackwards_5 : decode cX3_laysBackwards 5 = .ok (.isub, 1) := dk_100 (dk_at dksX3_laysBackwards_0 5 rfl rfl)
theorem dX3_laysBackwards_6 : decode cX3_laysBackwards 6 = .ok (.istore_n 3, 1) := dk_62 (dk_at dksX3_laysBackwards_0 6 rfl rfl)
theorem dX3_laysBackwards_7 : decode cX3_laysBackwards 7 = .ok (.iload_n 3, 1) := dk_29 (dk_at dksX3_laysBackwards_0 7 rfl rfl)
theorem dX3_laysBackwards_8 : decode cX3_laysBackwards 8 = .ok (.ifCond .lt 129, 3) := dk_155 0 129 (dk_at dksX3_laysBackwards_0 8 rfl rfl)
theorem dX3_laysBackwards_11 : decode cX3_laysBackwards 11 = .ok (.aload_n 0, 1) := dk_42 (dk_at dksX3_laysBackwards_0 11 rfl rfl)
theorem dX3_laysBackwards_12 : decode cX3_laysBackwards 12 = .ok (.getfield 17, 3) := dk_180 0 17 (dk_at dksX3_laysBackwards_0 12 rfl rfl)
theorem dX3_laysBackwards_15 : decode cX3_laysBackwards 15 = .ok (.iload_n 3, 1) := dk_29 (dk_at dksX3_laysBackwards_0 15 rfl rfl)
theorem dX3_laysBackwards_16 : decode cX3_laysBackwards 16 = .ok (.aaload, 1) := dk_50 (dk_at dksX3_laysBackwards_0 16 rfl rfl)
theorem dX3_laysBackwards_17 : decode cX3_laysBackwards 17 = .ok (.getfield 83, 3) := dk_180 0 83 (dk_at dksX3_laysBackwards_0 17 rfl rfl)
theorem dX3_laysBackwards_20 : decode cX3_laysBackwards 20 = .ok (.iload_n 1, 1) := dk_27 (dk_at dksX3_laysBackwards_0 20 rfl rfl)
theorem dX3_laysBackwards_21 : decode cX3_laysBackwards 21 = .ok (.if_icmp .ne 17, 3) := dk_160 0 17 (dk_at dksX3_laysBackwards_0 21 rfl rfl)
theorem dX3_laysBackwards_24 : decode cX3_laysBackwards 24 = .ok (.aload_n 0, 1) := dk_42 (dk_at dksX3_laysBackwards_1 0 rfl rfl)
theorem dX3_laysBackwards_25 : decode cX3_laysBackwards 25 = .ok (.getfield 25, 3) := dk_180 0 25 (dk_at dksX3_laysBackwards_1 1 rfl rfl)
theorem dX3_laysBackwards_28 : decode cX3_laysBackwards 28 = .ok (.iload_n 3, 1) := dk_29 (dk_at dksX3_laysBackwards_1 4 rfl rfl)
theorem dX3_laysBackwards_29 : decode cX3_laysBackwards 29 = .ok (.iaload, 1) := dk_46 (dk_at dksX3_laysBackwards_1 5 rfl rfl)
theorem dX3_laysBackwards_30 : decode cX3_laysBackwards 30 = .ok (.iload_n 2, 1) := dk_28 (dk_at dksX3_laysBackwards_1 6 rfl rfl)
theorem dX3_laysBackwards_31 : decode cX3_laysBackwards 31 = .ok (.if_icmp .ne 7, 3) := dk_160 0 7 (dk_at dksX3_laysBackwards_1 7 rfl rfl)
theorem dX3_laysBackwards_34 : decode cX3_laysBackwards 34 = .ok (.iconst 1, 1) := dk_4 (dk_at dksX3_laysBackwards_1 10 rfl rfl)
theorem dX3_laysBackwards_35 : decode cX3_laysBackwards 35 = .ok (.goto 4, 3) := dk_167 0 4 (dk_at dksX3_laysBackwards_1 11 rfl rfl)
theorem dX3_laysBackwards_38 : decode cX3_laysBackwards 38 = .ok (.iconst 0, 1) := dk_3 (dk_at dksX3_laysBackwards_1 14 rfl rfl)
theorem dX3_laysBackwards_39 : decode cX3_laysBackwards 39 = .ok (.istore 4, 2) := dk_54 4 (dk_at dksX3_laysBackwards_1 15 rfl rfl)
theorem dX3_laysBackwards_41 : decode cX3_laysBackwards 41 = .ok (.aload_n 0, 1) := dk_42 (dk_at dksX3_laysBackwards_1 17 rfl rfl)
theorem dX3_laysBackwards_42 : decode cX3_laysBackwards 42 = .ok (.getfield 28, 3) := dk_180 0 28 (dk_at dksX3_laysBackwards_1 18 rfl rfl)
theorem dX3_laysBackwards_45 : decode cX3_laysBackwards 45 = .ok (.iload_n 3, 1) := dk_29 (dk_at dksX3_laysBackwards_1 21 rfl rfl)
theorem dX3_laysBackwards_46 : decode cX3_laysBackwards 46 = .ok (.iload 4, 2) := dk_21 4 (dk_at dksX3_laysBackwards_1 22 rfl rfl)
theorem dX3_laysBackwards_48 : decode cX3_laysBackwards 48 = .ok (.ifCond .eq 7, 3) := dk_153 0 7 (dk_at dksX3_laysBackwards_2 0 rfl rfl)
theorem dX3_laysBackwards_51 : decode cX3_laysBackwards 51 = .ok (.iconst 0, 1) := dk_3 (dk_at dksX3_laysBackwards_2 3 rfl rfl)
theorem dX3_laysBackwards_52 : decode cX3_laysBackwards 52 = .ok (.goto 5, 3) := dk_167 0 5 (dk_at dksX3_laysBackwards_2 4 rfl rfl)
theorem dX3_laysBackwards_55 : decode cX3_laysBackwards 55 = .ok (.ldc 104, 2) := dk_18 104 (dk_at dksX3_laysBackwards_2 7 rfl rfl)
theorem dX3_laysBackwards_57 : decode cX3_laysBackwards 57 = .ok (.iastore, 1) := dk_79 (dk_at dksX3_laysBackwards_2 9 rfl rfl)
theorem dX3_laysBackwards_58 : decode cX3_laysBackwards 58 = .ok (.aload_n 0, 1) := dk_42 (dk_at dksX3_laysBackwards_2 10 rfl rfl)
theorem dX3_laysBackwards_59 : decode cX3_laysBackwards 59 = .ok (.getfield 31, 3) := dk_180 0 31 (dk_at dksX3_laysBackwards_2 11 rfl rfl)
theorem dX3_laysBackwards_62 : decode cX3_laysBackwards 62 = .ok (.iload_n 3, 1) := dk_29 (dk_at dksX3_laysBackwards_2 14 rfl rfl)
theorem dX3_laysBackwards_63 : decode cX3_laysBackwards 63 = .ok (.iconst 1, 1) := dk_4 (dk_at dksX3_laysBackwards_2 15 rfl rfl)
theorem dX3_laysBackwards_64 : decode cX3_laysBackwards 64 = .ok (.iastore, 1) := dk_79 (dk_at dksX3_laysBackwards_2 16 rfl rfl)
theorem dX3_laysBackwards_65 : decode cX3_laysBackwards 65 = .ok (.aload_n 0, 1) := dk_42 (dk_at dksX3_laysBackwards_2 17 rfl rfl)
theorem dX3_laysBackwards_66 : decode cX3_laysBackwards 66 = .ok (.getfield 34, 3) := dk_180 0 34 (dk_at dksX3_laysBackwards_2 18 rfl rfl)
theorem dX3_laysBackwards_69 : decode cX3_laysBackwards 69 = .ok (.iload_n 3, 1) := dk_29 (dk_at dksX3_laysBackwards_2 21 rfl rfl)
theorem dX3_laysBackwards_70 : decode cX3_laysBackwards 70 = .ok (.iconst (-1), 1) := dk_2 (dk_at dksX3_laysBackwards_2 22 rfl rfl)
theorem dX3_laysBackwards_71 : decode cX3_laysBackwards 71 = .ok (.iastore, 1) := dk_79 (dk_at dksX3_laysBackwards_2 23 rfl rfl)
theorem dX3_laysBackwards_72 : decode cX3_laysBackwards 72 = .ok (.iload_n 3, 1) := dk_29 (dk_at dksX3_laysBackwards_3 0 rfl rfl)
theorem dX3_laysBackwards_73 : decode cX3_laysBackwards 73 = .ok (.iconst 1, 1) := dk_4 (dk_at dksX3_laysBackwards_3 1 rfl rfl)
theorem dX3_laysBackwards_74 : decode cX3_laysBackwards 74 = .ok (.iadd, 1) := dk_96 (dk_at dksX3_laysBackwards_3 2 rfl rfl)
theorem dX3_laysBackwards_75 : decode cX3_laysBackwards 75 = .ok (.istore 5, 2) := dk_54 5 (dk_at dksX3_laysBackwards_3 3 rfl rfl)
theorem dX3_laysBackwards_77 : decode cX3_laysBackwards 77 = .ok (.iload 5, 2) := dk_21 5 (dk_at dksX3_laysBackwards_3 5 rfl rfl)
theorem dX3_laysBackwards_79 : decode cX3_laysBackwards 79 = .ok (.aload_n 0, 1) := dk_42 (dk_at dksX3_laysBackwards_3 7 rfl rfl)
theorem dX3_laysBackwards_80 : decode cX3_laysBackwards 80 = .ok (.getfield 41, 3) := dk_180 0 41 (dk_at dksX3_laysBackwards_3 8 rfl rfl)
theorem dX3_laysBackwards_83 : decode cX3_laysBackwards 83 = .ok (.if_icmp .ge 48, 3) := dk_162 0 48 (dk_at dksX3_laysBackwards_3 11 rfl rfl)
theorem dX3_laysBackwards_86 : decode cX3_laysBackwards 86 = .ok (.aload_n 0, 1) := dk_42 (dk_at dksX3_laysBackwards_3 14 rfl rfl)
theorem dX3_laysBackwards_87 : decode cX3_laysBackwards 87 = .ok (.getfield 28, 3) := dk_180 0 28 (dk_at dksX3_laysBackwards_3 15 rfl rfl)
theorem dX3_laysBackwards_90 : decode cX3_laysBackwards 90 = .ok (.iload 5, 2) := dk_21 5 (dk_at dksX3_laysBackwards_3 18 rfl rfl)
theorem dX3_laysBackwards_92 : decode cX3_laysBackwards 92 = .ok (.iaload, 1) := dk_46 (dk_at dksX3_laysBackwards_3 20 rfl rfl)
theorem dX3_laysBackwards_93 : decode cX3_laysBackwards 93 = .ok (.ldc 104, 2) := dk_18 104 (dk_at dksX3_laysBackwards_3 21 rfl rfl)
theorem dX3_laysBackwards_95 : decode cX3_laysBackwards 95 = .ok (.if_icmp .ge 30, 3) := dk_162 0 30 (dk_at dksX3_laysBackwards_4 0 rfl rfl)
theorem dX3_laysBackwards_98 : decode cX3_laysBackwards 98 = .ok (.aload_n 0, 1) := dk_42 (dk_at dksX3_laysBackwards_4 3 rfl rfl)
theorem dX3_laysBackwards_99 : decode cX3_laysBackwards 99 = .ok (.iload_n 3, 1) := dk_29 (dk_at dksX3_laysBackwards_4 4 rfl rfl)
theorem dX3_laysBackwards_100 : decode cX3_laysBackwards 100 = .ok (.iload 5, 2) := dk_21 5 (dk_at dksX3_laysBackwards_4 5 rfl rfl)
theorem dX3_laysBackwards_102 : decode cX3_laysBackwards 102 = .ok (.invokevirtual 105, 3) := dk_182 0 105 (dk_at dksX3_laysBackwards_4 7 rfl rfl)
theorem dX3_laysBackwards_105 : decode cX3_laysBackwards 105 = .ok (.ifCond .eq 20, 3) := dk_153 0 20 (dk_at dksX3_laysBackwards_4 10 rfl rfl)
theorem dX3_laysBackwards_108 : decode cX3_laysBackwards 108 = .ok (.aload_n 0, 1) := dk_42 (dk_at dksX3_laysBackwards_4 13 rfl rfl)
theorem dX3_laysBackwards_109 : decode cX3_laysBackwards 109 = .ok (.iload 5, 2) := dk_21 5 (dk_at dksX3_laysBackwards_4 14 rfl rfl)
theorem dX3_laysBackwards_111 : decode cX3_laysBackwards 111 = .ok (.iload_n 3, 1) := dk_29 (dk_at dksX3_laysBackwards_4 16 rfl rfl)
theorem dX3_laysBackwards_112 : decode cX3_laysBackwards 112 = .ok (.invokevirtual 122, 3) := dk_182 0 122 (dk_at dksX3_laysBackwards_4 17 rfl rfl)
theorem dX3_laysBackwards_115 : decode cX3_laysBackwards 115 = .ok (.ifCond .eq 10, 3) := dk_153 0 10 (dk_at dksX3_laysBackwards_4 20 rfl rfl)
theorem dX3_laysBackwards_118 : decode cX3_laysBackwards 118 = .ok (.aload_n 0, 1) := dk_42 (dk_at dksX3_laysBackwards_4 23 rfl rfl)
theorem dX3_laysBackwards_119 : decode cX3_laysBackwards 119 = .ok (.iload_n 3, 1) := dk_29 (dk_at dksX3_laysBackwards_5 0 rfl rfl)
theorem dX3_laysBackwards_120 : decode cX3_laysBackwards 120 = .ok (.iload 5, 2) := dk_21 5 (dk_at dksX3_laysBackwards_5 1 rfl rfl)
theorem dX3_laysBackwards_122 : decode cX3_laysBackwards 122 = .ok (.invokevirtual 125, 3) := dk_182 0 125 (dk_at dksX3_laysBackwards_5 3 rfl rfl)
theorem dX3_laysBackwards_125 : decode cX3_laysBackwards 125 = .ok (.iinc 5 1, 3) := dk_132 5 1 (dk_at dksX3_laysBackwards_5 6 rfl rfl)
theorem dX3_laysBackwards_128 : decode cX3_laysBackwards 128 = .ok (.goto (-51), 3) := dk_167 255 205 (dk_at dksX3_laysBackwards_5 9 rfl rfl)
theorem dX3_laysBackwards_131 : decode cX3_laysBackwards 131 = .ok (.iinc 3 (-1), 3) := dk_132 3 255 (dk_at dksX3_laysBackwards_5 12 rfl rfl)
theorem dX3_laysBackwards_134 : decode cX3_laysBackwards 134 = .ok (.goto (-127), 3) := dk_167 255 129 (dk_at dksX3_laysBackwards_5 15 rfl rfl)
theorem dX3_laysBackwards_137 : decode cX3_laysBackwards 137 = .ok (.return_, 1) := dk_177 (dk_at dksX3_laysBackwards_5 18 rfl rfl)
abbrev cX3_isBetter : ByteArray := prog_11_method_13_code
def yX3_isBetter : MethodName := ⟨RX3, "isBetter", "(II)Z"⟩
def dkwX3_isBetter_5 : List UInt8 := [167, 0, 4, 3, 172]
abbrev dktX3_isBetter_5 : List UInt8 := dkwX3_isBetter_5 ++ []
def dkwX3_isBetter_4 : List UInt8 := [50, 180, 0, 127, 42, 180, 0, 17, 42, 180, 0, 34, 28, 46, 50, 180, 0, 127, 162, 0, 7, 4]
abbrev dktX3_isBetter_4 : List UInt8 := dkwX3_isBetter_4 ++ dktX3_isBetter_5
def dkwX3_isBetter_3 : List UInt8 := [162, 0, 7, 4, 167, 0, 4, 3, 172, 42, 180, 0, 34, 28, 46, 2, 159, 0, 33, 42, 180, 0, 17, 27]
abbrev dktX3_isBetter_3 : List UInt8 := dkwX3_isBetter_3 ++ dktX3_isBetter_4
def dkwX3_isBetter_2 : List UInt8 := [42, 180, 0, 31, 28, 46, 159, 0, 26, 42, 180, 0, 31, 27, 46, 4, 96, 42, 180, 0, 31, 28, 46]
abbrev dktX3_isBetter_2 : List UInt8 := dkwX3_isBetter_2 ++ dktX3_isBetter_3
def dkwX3_isBetter_1 : List UInt8 := [29, 42, 180, 0, 28, 28, 46, 162, 0, 7, 4, 167, 0, 4, 3, 172, 42, 180, 0, 31, 27, 46, 4, 96]
abbrev dktX3_isBetter_1 : List UInt8 := dkwX3_isBetter_1 ++ dktX3_isBetter_2
def dkwX3_isBetter_0 : List UInt8 := [42, 180, 0, 28, 27, 46, 42, 28, 27, 182, 0, 94, 96, 62, 29, 42, 180, 0, 28, 28, 46, 159, 0, 19]
abbrev dktX3_isBetter_0 : List UInt8 := dkwX3_isBetter_0 ++ dktX3_isBetter_1
theorem dksX3_isBetter_0 : cX3_isBetter.data.toList.drop 0 = dktX3_isBetter_0 := by decide +kernel
theorem dksX3_isBetter_1 : cX3_isBetter.data.toList.drop 24 = dktX3_isBetter_1 := dk_seg dksX3_isBetter_0 24 rfl rfl
theorem dksX3_isBetter_2 : cX3_isBetter.data.toList.drop 48 = dktX3_isBetter_2 := dk_seg dksX3_isBetter_1 24 rfl rfl
theorem dksX3_isBetter_3 : cX3_isBetter.data.toList.drop 71 = dktX3_isBetter_3 := dk_seg dksX3_isBetter_2 23 rfl rfl
theorem dksX3_isBetter_4 : cX3_isBetter.data.toList.drop 95 = dktX3_isBetter_4 := dk_seg dksX3_isBetter_3 24 rfl rfl
theorem dksX3_isBetter_5 : cX3_isBetter.data.toList.drop 117 = dktX3_isBetter_5 := dk_seg dksX3_isBetter_4 22 rfl rfl
theorem dX3_isBetter_0 : decode cX3_isBetter 0 = .ok (.aload_n 0, 1) := dk_42 (dk_at dksX3_isBetter_0 0 rfl rfl)
theorem dX3_isBetter_1 : decode cX3_isBetter 1 = .ok (.getfield 28, 3) := dk_180 0 28 (dk_at dksX3_isBetter_0 1 rfl rfl)
theorem dX3_isBetter_4 : decode cX3_isBetter 4 = .ok (.iload_n 1, 1) := dk_27 (dk_at dksX3_isBetter_0 4 rfl rfl)
theorem dX3_isBetter_5 : decode cX3_isBetter 5 = .ok (.iaload, 1) := dk_46 (dk_at dksX3_isBetter_0 5 rfl rfl)
theorem dX3_isBetter_6 : decode cX3_isBetter 6 = .ok (.aload_n 0, 1) := dk_42 (dk_at dksX3_isBetter_0 6 rfl rfl)
theorem dX3_isBetter_7 : decode cX3_isBetter 7 = .ok (.iload_n 2, 1) := dk_28 (dk_at dksX3_isBetter_0 7 rfl rfl)
theorem dX3_isBetter_8 : decode cX3_isBetter 8 = .ok (.iload_n 1, 1) := dk_27 (dk_at dksX3_isBetter_0 8 rfl rfl)
theorem dX3_isBetter_9 : decode cX3_isBetter 9 = .ok (.invokevirtual 94, 3) := dk_182 0 94 (dk_at dksX3_isBetter_0 9 rfl rfl)
theorem dX3_isBetter_12 : decode cX3_isBetter 12 = .ok (.iadd, 1) := dk_96 (dk_at dksX3_isBetter_0 12 rfl rfl)
theorem dX3_isBetter_13 : decode cX3_isBetter 13 = .ok (.istore_n 3, 1) := dk_62 (dk_at dksX3_isBetter_0 13 rfl rfl)
theorem dX3_isBetter_14 : decode cX3_isBetter 14 = .ok (.iload_n 3, 1) := dk_29 (dk_at dksX3_isBetter_0 14 rfl rfl)
theorem dX3_isBetter_15 : decode cX3_isBetter 15 = .ok (.aload_n 0, 1) := dk_42 (dk_at dksX3_isBetter_0 15 rfl rfl)
theorem dX3_isBetter_16 : decode cX3_isBetter 16 = .ok (.getfield 28, 3) := dk_180 0 28 (dk_at dksX3_isBetter_0 16 rfl rfl)
theorem dX3_isBetter_19 : decode cX3_isBetter 19 = .ok (.iload_n 2, 1) := dk_28 (dk_at dksX3_isBetter_0 19 rfl rfl)
theorem dX3_isBetter_20 : decode cX3_isBetter 20 = .ok (.iaload, 1) := dk_46 (dk_at dksX3_isBetter_0 20 rfl rfl)
theorem dX3_isBetter_21 : decode cX3_isBetter 21 = .ok (.if_icmp .eq 19, 3) := dk_159 0 19 (dk_at dksX3_isBetter_0 21 rfl rfl)
theorem dX3_isBetter_24 : decode cX3_isBetter 24 = .ok (.iload_n 3, 1) := dk_29 (dk_at dksX3_isBetter_1 0 rfl rfl)
theorem dX3_isBetter_25 : decode cX3_isBetter 25 = .ok (.aload_n 0, 1) := dk_42 (dk_at dksX3_isBetter_1 1 rfl rfl)
theorem dX3_isBetter_26 : decode cX3_isBetter 26 = .ok (.getfield 28, 3) := dk_180 0 28 (dk_at dksX3_isBetter_1 2 rfl rfl)
theorem dX3_isBetter_29 : decode cX3_isBetter 29 = .ok (.iload_n 2, 1) := dk_28 (dk_at dksX3_isBetter_1 5 rfl rfl)
theorem dX3_isBetter_30 : decode cX3_isBetter 30 = .ok (.iaload, 1) := dk_46 (dk_at dksX3_isBetter_1 6 rfl rfl)
theorem dX3_isBetter_31 : decode cX3_isBetter 31 = .ok (.if_icmp .ge 7, 3) := dk_162 0 7 (dk_at dksX3_isBetter_1 7 rfl rfl)
theorem dX3_isBetter_34 : decode cX3_isBetter 34 = .ok (.iconst 1, 1) := dk_4 (dk_at dksX3_isBetter_1 10 rfl rfl)
theorem dX3_isBetter_35 : decode cX3_isBetter 35 = .ok (.goto 4, 3) := dk_167 0 4 (dk_at dksX3_isBetter_1 11 rfl rfl)
theorem dX3_isBetter_38 : decode cX3_isBetter 38 = .ok (.iconst 0, 1) := dk_3 (dk_at dksX3_isBetter_1 14 rfl rfl)
theorem dX3_isBetter_39 : decode cX3_isBetter 39 = .ok (.ireturn, 1) := dk_172 (dk_at dksX3_isBetter_1 15 rfl rfl)
theorem dX3_isBetter_40 : decode cX3_isBetter 40 = .ok (.aload_n 0, 1) := dk_42 (dk_at dksX3_isBetter_1 16 rfl rfl)
theorem dX3_isBetter_41 : decode cX3_isBetter 41 = .ok (.getfield 31, 3) := dk_180 0 31 (dk_at dksX3_isBetter_1 17 rfl rfl)
theorem dX3_isBetter_44 : decode cX3_isBetter 44 = .ok (.iload_n 1, 1) := dk_27 (dk_at dksX3_isBetter_1 20 rfl rfl)
theorem dX3_isBetter_45 : decode cX3_isBetter 45 = .ok (.iaload, 1) := dk_46 (dk_at dksX3_isBetter_1 21 rfl rfl)
theorem dX3_isBetter_46 : decode cX3_isBetter 46 = .ok (.iconst 1, 1) := dk_4 (dk_at dksX3_isBetter_1 22 rfl rfl)
theorem dX3_isBetter_47 : decode cX3_isBetter 47 = .ok (.iadd, 1) := dk_96 (dk_at dksX3_isBetter_1 23 rfl rfl)
theorem dX3_isBetter_48 : decode cX3_isBetter 48 = .ok (.aload_n 0, 1) := dk_42 (dk_at dksX3_isBetter_2 0 rfl rfl)
theorem dX3_isBetter_49 : decode cX3_isBetter 49 = .ok (.getfield 31, 3) := dk_180 0 31 (dk_at dksX3_isBetter_2 1 rfl rfl)
theorem dX3_isBetter_52 : decode cX3_isBetter 52 = .ok (.iload_n 2, 1) := dk_28 (dk_at dksX3_isBetter_2 4 rfl rfl)
theorem dX3_isBetter_53 : decode cX3_isBetter 53 = .ok (.iaload, 1) := dk_46 (dk_at dksX3_isBetter_2 5 rfl rfl)
theorem dX3_isBetter_54 : decode cX3_isBetter 54 = .ok (.if_icmp .eq 26, 3) := dk_159 0 26 (dk_at dksX3_isBetter_2 6 rfl rfl)
theorem dX3_isBetter_57 : decode cX3_isBetter 57 = .ok (.aload_n 0, 1) := dk_42 (dk_at dksX3_isBetter_2 9 rfl rfl)
theorem dX3_isBetter_58 : decode cX3_isBetter 58 = .ok (.getfield 31, 3) := dk_180 0 31 (dk_at dksX3_isBetter_2 10 rfl rfl)
theorem dX3_isBetter_61 : decode cX3_isBetter 61 = .ok (.iload_n 1, 1) := dk_27 (dk_at dksX3_isBetter_2 13 rfl rfl)
theorem dX3_isBetter_62 : decode cX3_isBetter 62 = .ok (.iaload, 1) := dk_46 (dk_at dksX3_isBetter_2 14 rfl rfl)
theorem dX3_isBetter_63 : decode cX3_isBetter 63 = .ok (.iconst 1, 1) := dk_4 (dk_at dksX3_isBetter_2 15 rfl rfl)
theorem dX3_isBetter_64 : decode cX3_isBetter 64 = .ok (.iadd, 1) := dk_96 (dk_at dksX3_isBetter_2 16 rfl rfl)
theorem dX3_isBetter_65 : decode cX3_isBetter 65 = .ok (.aload_n 0, 1) := dk_42 (dk_at dksX3_isBetter_2 17 rfl rfl)
theorem dX3_isBetter_66 : decode cX3_isBetter 66 = .ok (.getfield 31, 3) := dk_180 0 31 (dk_at dksX3_isBetter_2 18 rfl rfl)
theorem dX3_isBetter_69 : decode cX3_isBetter 69 = .ok (.iload_n 2, 1) := dk_28 (dk_at dksX3_isBetter_2 21 rfl rfl)
theorem dX3_isBetter_70 : decode cX3_isBetter 70 = .ok (.iaload, 1) := dk_46 (dk_at dksX3_isBetter_2 22 rfl rfl)
theorem dX3_isBetter_71 : decode cX3_isBetter 71 = .ok (.if_icmp .ge 7, 3) := dk_162 0 7 (dk_at dksX3_isBetter_3 0 rfl rfl)
theorem dX3_isBetter_74 : decode cX3_isBetter 74 = .ok (.iconst 1, 1) := dk_4 (dk_at dksX3_isBetter_3 3 rfl rfl)
theorem dX3_isBetter_75 : decode cX3_isBetter 75 = .ok (.goto 4, 3) := dk_167 0 4 (dk_at dksX3_isBetter_3 4 rfl rfl)
theorem dX3_isBetter_78 : decode cX3_isBetter 78 = .ok (.iconst 0, 1) := dk_3 (dk_at dksX3_isBetter_3 7 rfl rfl)
theorem dX3_isBetter_79 : decode cX3_isBetter 79 = .ok (.ireturn, 1) := dk_172 (dk_at dksX3_isBetter_3 8 rfl rfl)
theorem dX3_isBetter_80 : decode cX3_isBetter 80 = .ok (.aload_n 0, 1) := dk_42 (dk_at dksX3_isBetter_3 9 rfl rfl)
theorem dX3_isBetter_81 : decode cX3_isBetter 81 = .ok (.getfield 34, 3) := dk_180 0 34 (dk_at dksX3_isBetter_3 10 rfl rfl)
theorem dX3_isBetter_84 : decode cX3_isBetter 84 = .ok (.iload_n 2, 1) := dk_28 (dk_at dksX3_isBetter_3 13 rfl rfl)
theorem dX3_isBetter_85 : decode cX3_isBetter 85 = .ok (.iaload, 1) := dk_46 (dk_at dksX3_isBetter_3 14 rfl rfl)
theorem dX3_isBetter_86 : decode cX3_isBetter 86 = .ok (.iconst (-1), 1) := dk_2 (dk_at dksX3_isBetter_3 15 rfl rfl)
theorem dX3_isBetter_87 : decode cX3_isBetter 87 = .ok (.if_icmp .eq 33, 3) := dk_159 0 33 (dk_at dksX3_isBetter_3 16 rfl rfl)
theorem dX3_isBetter_90 : decode cX3_isBetter 90 = .ok (.aload_n 0, 1) := dk_42 (dk_at dksX3_isBetter_3 19 rfl rfl)
theorem dX3_isBetter_91 : decode cX3_isBetter 91 = .ok (.getfield 17, 3) := dk_180 0 17 (dk_at dksX3_isBetter_3 20 rfl rfl)
theorem dX3_isBetter_94 : decode cX3_isBetter 94 = .ok (.iload_n 1, 1) := dk_27 (dk_at dksX3_isBetter_3 23 rfl rfl)
theorem dX3_isBetter_95 : decode cX3_isBetter 95 = .ok (.aaload, 1) := dk_50 (dk_at dksX3_isBetter_4 0 rfl rfl)
theorem dX3_isBetter_96 : decode cX3_isBetter 96 = .ok (.getfield 127, 3) := dk_180 0 127 (dk_at dksX3_isBetter_4 1 rfl rfl)
theorem dX3_isBetter_99 : decode cX3_isBetter 99 = .ok (.aload_n 0, 1) := dk_42 (dk_at dksX3_isBetter_4 4 rfl rfl)
theorem dX3_isBetter_100 : decode cX3_isBetter 100 = .ok (.getfield 17, 3) := dk_180 0 17 (dk_at dksX3_isBetter_4 5 rfl rfl)
theorem dX3_isBetter_103 : decode cX3_isBetter 103 = .ok (.aload_n 0, 1) := dk_42 (dk_at dksX3_isBetter_4 8 rfl rfl)
theorem dX3_isBetter_104 : decode cX3_isBetter 104 = .ok (.getfield 34, 3) := dk_180 0 34 (dk_at dksX3_isBetter_4 9 rfl rfl)
theorem dX3_isBetter_107 : decode cX3_isBetter 107 = .ok (.iload_n 2, 1) := dk_28 (dk_at dksX3_isBetter_4 12 rfl rfl)
theorem dX3_isBetter_108 : decode cX3_isBetter 108 = .ok (.iaload, 1) := dk_46 (dk_at dksX3_isBetter_4 13 rfl rfl)
theorem dX3_isBetter_109 : decode cX3_isBetter 109 = .ok (.aaload, 1) := dk_50 (dk_at dksX3_isBetter_4 14 rfl rfl)
theorem dX3_isBetter_110 : decode cX3_isBetter 110 = .ok (.getfield 127, 3) := dk_180 0 127 (dk_at dksX3_isBetter_4 15 rfl rfl)
theorem dX3_isBetter_113 : decode cX3_isBetter 113 = .ok (.if_icmp .ge 7, 3) := dk_162 0 7 (dk_at dksX3_isBetter_4 18 rfl rfl)
theorem dX3_isBetter_116 : decode cX3_isBetter 116 = .ok (.iconst 1, 1) := dk_4 (dk_at dksX3_isBetter_4 21 rfl rfl)
theorem dX3_isBetter_117 : decode cX3_isBetter 117 = .ok (.goto 4, 3) := dk_167 0 4 (dk_at dksX3_isBetter_5 0 rfl rfl)
theorem dX3_isBetter_120 : decode cX3_isBetter 120 = .ok (.iconst 0, 1) := dk_3 (dk_at dksX3_isBetter_5 3 rfl rfl)
theorem dX3_isBetter_121 : decode cX3_isBetter 121 = .ok (.ireturn, 1) := dk_172 (dk_at dksX3_isBetter_5 4 rfl rfl)
abbrev cX3_puts_2 : ByteArray := prog_11_method_12_code
def yX3_puts_2 : MethodName := ⟨RX3, "puts", "(II)V"⟩
def dkwX3_puts_2_1 : List UInt8 := [42, 180, 0, 31, 28, 46, 4, 96, 79, 42, 180, 0, 34, 27, 28, 79, 177]
abbrev dktX3_puts_2_1 : List UInt8 := dkwX3_puts_2_1 ++ []
def dkwX3_puts_2_0 : List UInt8 := [42, 180, 0, 28, 27, 42, 180, 0, 28, 28, 46, 42, 27, 28, 182, 0, 94, 96, 79, 42, 180, 0, 31, 27]
abbrev dktX3_puts_2_0 : List UInt8 := dkwX3_puts_2_0 ++ dktX3_puts_2_1
theorem dksX3_puts_2_0 : cX3_puts_2.data.toList.drop 0 = dktX3_puts_2_0 := by decide +kernel
theorem dksX3_puts_2_1 : cX3_puts_2.data.toList.drop 24 = dktX3_puts_2_1 := dk_seg dksX3_puts_2_0 24 rfl rfl
theorem dX3_puts_2_0 : decode cX3_puts_2 0 = .ok (.aload_n 0, 1) := dk_42 (dk_at dksX3_puts_2_0 0 rfl rfl)
theorem dX3_puts_2_1 : decode cX3_puts_2 1 = .ok (.getfield 28, 3) := dk_180 0 28 (dk_at dksX3_puts_2_0 1 rfl rfl)
theorem dX3_puts_2_4 : decode cX3_puts_2 4 = .ok (.iload_n 1, 1) := dk_27 (dk_at dksX3_puts_2_0 4 rfl rfl)
theorem dX3_puts_2_5 : decode cX3_puts_2 5 = .ok (.aload_n 0, 1) := dk_42 (dk_at dksX3_puts_2_0 5 rfl rfl)
theorem dX3_puts_2_6 : decode cX3_puts_2 6 = .ok (.getfield 28, 3) := dk_180 0 28 (dk_at dksX3_puts_2_0 6 rfl rfl)
theorem dX3_puts_2_9 : decode cX3_puts_2 9 = .ok (.iload_n 2, 1) := dk_28 (dk_at dksX3_puts_2_0 9 rfl rfl)
theorem dX3_puts_2_10 : decode cX3_puts_2 10 = .ok (.iaload, 1) := dk_46 (dk_at dksX3_puts_2_0 10 rfl rfl)
theorem dX3_puts_2_11 : decode cX3_puts_2 11 = .ok (.aload_n 0, 1) := dk_42 (dk_at dksX3_puts_2_0 11 rfl rfl)
theorem dX3_puts_2_12 : decode cX3_puts_2 12 = .ok (.iload_n 1, 1) := dk_27 (dk_at dksX3_puts_2_0 12 rfl rfl)
theorem dX3_puts_2_13 : decode cX3_puts_2 13 = .ok (.iload_n 2, 1) := dk_28 (dk_at dksX3_puts_2_0 13 rfl rfl)
theorem dX3_puts_2_14 : decode cX3_puts_2 14 = .ok (.invokevirtual 94, 3) := dk_182 0 94 (dk_at dksX3_puts_2_0 14 rfl rfl)
theorem dX3_puts_2_17 : decode cX3_puts_2 17 = .ok (.iadd, 1) := dk_96 (dk_at dksX3_puts_2_0 17 rfl rfl)
theorem dX3_puts_2_18 : decode cX3_puts_2 18 = .ok (.iastore, 1) := dk_79 (dk_at dksX3_puts_2_0 18 rfl rfl)
theorem dX3_puts_2_19 : decode cX3_puts_2 19 = .ok (.aload_n 0, 1) := dk_42 (dk_at dksX3_puts_2_0 19 rfl rfl)
theorem dX3_puts_2_20 : decode cX3_puts_2 20 = .ok (.getfield 31, 3) := dk_180 0 31 (dk_at dksX3_puts_2_0 20 rfl rfl)
theorem dX3_puts_2_23 : decode cX3_puts_2 23 = .ok (.iload_n 1, 1) := dk_27 (dk_at dksX3_puts_2_0 23 rfl rfl)
theorem dX3_puts_2_24 : decode cX3_puts_2 24 = .ok (.aload_n 0, 1) := dk_42 (dk_at dksX3_puts_2_1 0 rfl rfl)
theorem dX3_puts_2_25 : decode cX3_puts_2 25 = .ok (.getfield 31, 3) := dk_180 0 31 (dk_at dksX3_puts_2_1 1 rfl rfl)
theorem dX3_puts_2_28 : decode cX3_puts_2 28 = .ok (.iload_n 2, 1) := dk_28 (dk_at dksX3_puts_2_1 4 rfl rfl)
theorem dX3_puts_2_29 : decode cX3_puts_2 29 = .ok (.iaload, 1) := dk_46 (dk_at dksX3_puts_2_1 5 rfl rfl)
theorem dX3_puts_2_30 : decode cX3_puts_2 30 = .ok (.iconst 1, 1) := dk_4 (dk_at dksX3_puts_2_1 6 rfl rfl)
theorem dX3_puts_2_31 : decode cX3_puts_2 31 = .ok (.iadd, 1) := dk_96 (dk_at dksX3_puts_2_1 7 rfl rfl)
theorem dX3_puts_2_32 : decode cX3_puts_2 32 = .ok (.iastore, 1) := dk_79 (dk_at dksX3_puts_2_1 8 rfl rfl)
theorem dX3_puts_2_33 : decode cX3_puts_2 33 = .ok (.aload_n 0, 1) := dk_42 (dk_at dksX3_puts_2_1 9 rfl rfl)
theorem dX3_puts_2_34 : decode cX3_puts_2 34 = .ok (.getfield 34, 3) := dk_180 0 34 (dk_at dksX3_puts_2_1 10 rfl rfl)
theorem dX3_puts_2_37 : decode cX3_puts_2 37 = .ok (.iload_n 1, 1) := dk_27 (dk_at dksX3_puts_2_1 13 rfl rfl)
theorem dX3_puts_2_38 : decode cX3_puts_2 38 = .ok (.iload_n 2, 1) := dk_28 (dk_at dksX3_puts_2_1 14 rfl rfl)
theorem dX3_puts_2_39 : decode cX3_puts_2 39 = .ok (.iastore, 1) := dk_79 (dk_at dksX3_puts_2_1 15 rfl rfl)
theorem dX3_puts_2_40 : decode cX3_puts_2 40 = .ok (.return_, 1) := dk_177 (dk_at dksX3_puts_2_1 16 rfl rfl)
abbrev cX3_isAhead : ByteArray := prog_11_method_16_code
def yX3_isAhead : MethodName := ⟨RX3, "isAhead", "(II)Z"⟩
def dkwX3_isAhead_5 : List UInt8 := [180, 0, 127, 42, 180, 0, 17, 28, 50, 180, 0, 127, 162, 0, 7, 4, 167, 0, 4, 3, 172]
abbrev dktX3_isAhead_5 : List UInt8 := dkwX3_isAhead_5 ++ []
def dkwX3_isAhead_4 : List UInt8 := [180, 0, 31, 28, 46, 162, 0, 7, 4, 167, 0, 33, 3, 167, 0, 29, 42, 180, 0, 17, 27, 50]
abbrev dktX3_isAhead_4 : List UInt8 := dkwX3_isAhead_4 ++ dktX3_isAhead_5
def dkwX3_isAhead_3 : List UInt8 := [3, 172, 42, 180, 0, 31, 27, 46, 42, 180, 0, 31, 28, 46, 159, 0, 26, 42, 180, 0, 31, 27, 46, 42]
abbrev dktX3_isAhead_3 : List UInt8 := dkwX3_isAhead_3 ++ dktX3_isAhead_4
def dkwX3_isAhead_2 : List UInt8 := [28, 46, 159, 0, 24, 42, 180, 0, 21, 27, 46, 42, 180, 0, 21, 28, 46, 164, 0, 7, 4, 167, 0, 4]
abbrev dktX3_isAhead_2 : List UInt8 := dkwX3_isAhead_2 ++ dktX3_isAhead_3
def dkwX3_isAhead_1 : List UInt8 := [180, 0, 28, 28, 46, 162, 0, 7, 4, 167, 0, 4, 3, 172, 42, 180, 0, 21, 27, 46, 42, 180, 0, 21]
abbrev dktX3_isAhead_1 : List UInt8 := dkwX3_isAhead_1 ++ dktX3_isAhead_2
def dkwX3_isAhead_0 : List UInt8 := [42, 180, 0, 28, 27, 46, 42, 180, 0, 28, 28, 46, 159, 0, 24, 42, 180, 0, 28, 27, 46, 42]
abbrev dktX3_isAhead_0 : List UInt8 := dkwX3_isAhead_0 ++ dktX3_isAhead_1
theorem dksX3_isAhead_0 : cX3_isAhead.data.toList.drop 0 = dktX3_isAhead_0 := by decide +kernel
theorem dksX3_isAhead_1 : cX3_isAhead.data.toList.drop 22 = dktX3_isAhead_1 := dk_seg dksX3_isAhead_0 22 rfl rfl
theorem dksX3_isAhead_2 : cX3_isAhead.data.toList.drop 46 = dktX3_isAhead_2 := dk_seg dksX3_isAhead_1 24 rfl rfl
theorem dksX3_isAhead_3 : cX3_isAhead.data.toList.drop 70 = dktX3_isAhead_3 := dk_seg dksX3_isAhead_2 24 rfl rfl
theorem dksX3_isAhead_4 : cX3_isAhead.data.toList.drop 94 = dktX3_isAhead_4 := dk_seg dksX3_isAhead_3 24 rfl rfl
theorem dksX3_isAhead_5 : cX3_isAhead.data.toList.drop 116 = dktX3_isAhead_5 := dk_seg dksX3_isAhead_4 22 rfl rfl
theorem dX3_isAhead_0 : decode cX3_isAhead 0 = .ok (.aload_n 0, 1) := dk_42 (dk_at dksX3_isAhead_0 0 rfl rfl)
theorem dX3_isAhead_1 : decode cX3_isAhead 1 = .ok (.getfield 28, 3) := dk_180 0 28 (dk_at dksX3_isAhead_0 1 rfl rfl)
theorem dX3_isAhead_4 : decode cX3_isAhead 4 = .ok (.iload_n 1, 1) := dk_27 (dk_at dksX3_isAhead_0 4 rfl rfl)
theorem dX3_isAhead_5 : decode cX3_isAhead 5 = .ok (.iaload, 1) := dk_46 (dk_at dksX3_isAhead_0 5 rfl rfl)
theorem dX3_isAhead_6 : decode cX3_isAhead 6 = .ok (.aload_n 0, 1) := dk_42 (dk_at dksX3_isAhead_0 6 rfl rfl)
theorem dX3_isAhead_7 : decode cX3_isAhead 7 = .ok (.getfield 28, 3) := dk_180 0 28 (dk_at dksX3_isAhead_0 7 rfl rfl)
theorem dX3_isAhead_10 : decode cX3_isAhead 10 = .ok (.iload_n 2, 1) := dk_28 (dk_at dksX3_isAhead_0 10 rfl rfl)
theorem dX3_isAhead_11 : decode cX3_isAhead 11 = .ok (.iaload, 1) := dk_46 (dk_at dksX3_isAhead_0 11 rfl rfl)
theorem dX3_isAhead_12 : decode cX3_isAhead 12 = .ok (.if_icmp .eq 24, 3) := dk_159 0 24 (dk_at dksX3_isAhead_0 12 rfl rfl)
theorem dX3_isAhead_15 : decode cX3_isAhead 15 = .ok (.aload_n 0, 1) := dk_42 (dk_at dksX3_isAhead_0 15 rfl rfl)
theorem dX3_isAhead_16 : decode cX3_isAhead 16 = .ok (.getfield 28, 3) := dk_180 0 28 (dk_at dksX3_isAhead_0 16 rfl rfl)
theorem dX3_isAhead_19 : decode cX3_isAhead 19 = .ok (.iload_n 1, 1) := dk_27 (dk_at dksX3_isAhead_0 19 rfl rfl)
theorem dX3_isAhead_20 : decode cX3_isAhead 20 = .ok (.iaload, 1) := dk_46 (dk_at dksX3_isAhead_0 20 rfl rfl)
theorem dX3_isAhead_21 : decode cX3_isAhead 21 = .ok (.aload_n 0, 1) := dk_42 (dk_at dksX3_isAhead_0 21 rfl rfl)
theorem dX3_isAhead_22 : decode cX3_isAhead 22 = .ok (.getfield 28, 3) := dk_180 0 28 (dk_at dksX3_isAhead_1 0 rfl rfl)
theorem dX3_isAhead_25 : decode cX3_isAhead 25 = .ok (.iload_n 2, 1) := dk_28 (dk_at dksX3_isAhead_1 3 rfl rfl)
theorem dX3_isAhead_26 : decode cX3_isAhead 26 = .ok (.iaload, 1) := dk_46 (dk_at dksX3_isAhead_1 4 rfl rfl)
theorem dX3_isAhead_27 : decode cX3_isAhead 27 = .ok (.if_icmp .ge 7, 3) := dk_162 0 7 (dk_at dksX3_isAhead_1 5 rfl rfl)
theorem dX3_isAhead_30 : decode cX3_isAhead 30 = .ok (.iconst 1, 1) := dk_4 (dk_at dksX3_isAhead_1 8 rfl rfl)
theorem dX3_isAhead_31 : decode cX3_isAhead 31 = .ok (.goto 4, 3) := dk_167 0 4 (dk_at dksX3_isAhead_1 9 rfl rfl)
theorem dX3_isAhead_34 : decode cX3_isAhead 34 = .ok (.iconst 0, 1) := dk_3 (dk_at dksX3_isAhead_1 12 rfl rfl)
theorem dX3_isAhead_35 : decode cX3_isAhead 35 = .ok (.ireturn, 1) := dk_172 (dk_at dksX3_isAhead_1 13 rfl rfl)
theorem dX3_isAhead_36 : decode cX3_isAhead 36 = .ok (.aload_n 0, 1) := dk_42 (dk_at dksX3_isAhead_1 14 rfl rfl)
theorem dX3_isAhead_37 : decode cX3_isAhead 37 = .ok (.getfield 21, 3) := dk_180 0 21 (dk_at dksX3_isAhead_1 15 rfl rfl)
theorem dX3_isAhead_40 : decode cX3_isAhead 40 = .ok (.iload_n 1, 1) := dk_27 (dk_at dksX3_isAhead_1 18 rfl rfl)
theorem dX3_isAhead_41 : decode cX3_isAhead 41 = .ok (.iaload, 1) := dk_46 (dk_at dksX3_isAhead_1 19 rfl rfl)
theorem dX3_isAhead_42 : decode cX3_isAhead 42 = .ok (.aload_n 0, 1) := dk_42 (dk_at dksX3_isAhead_1 20 rfl rfl)
theorem dX3_isAhead_43 : decode cX3_isAhead 43 = .ok (.getfield 21, 3) := dk_180 0 21 (dk_at dksX3_isAhead_1 21 rfl rfl)
theorem dX3_isAhead_46 : decode cX3_isAhead 46 = .ok (.iload_n 2, 1) := dk_28 (dk_at dksX3_isAhead_2 0 rfl rfl)
theorem dX3_isAhead_47 : decode cX3_isAhead 47 = .ok (.iaload, 1) := dk_46 (dk_at dksX3_isAhead_2 1 rfl rfl)
theorem dX3_isAhead_48 : decode cX3_isAhead 48 = .ok (.if_icmp .eq 24, 3) := dk_159 0 24 (dk_at dksX3_isAhead_2 2 rfl rfl)
theorem dX3_isAhead_51 : decode cX3_isAhead 51 = .ok (.aload_n 0, 1) := dk_42 (dk_at dksX3_isAhead_2 5 rfl rfl)
theorem dX3_isAhead_52 : decode cX3_isAhead 52 = .ok (.getfield 21, 3) := dk_180 0 21 (dk_at dksX3_isAhead_2 6 rfl rfl)
theorem dX3_isAhead_55 : decode cX3_isAhead 55 = .ok (.iload_n 1, 1) := dk_27 (dk_at dksX3_isAhead_2 9 rfl rfl)
theorem dX3_isAhead_56 : decode cX3_isAhead 56 = .ok (.iaload, 1) := dk_46 (dk_at dksX3_isAhead_2 10 rfl rfl)
theorem dX3_isAhead_57 : decode cX3_isAhead 57 = .ok (.aload_n 0, 1) := dk_42 (dk_at dksX3_isAhead_2 11 rfl rfl)
theorem dX3_isAhead_58 : decode cX3_isAhead 58 = .ok (.getfield 21, 3) := dk_180 0 21 (dk_at dksX3_isAhead_2 12 rfl rfl)
theorem dX3_isAhead_61 : decode cX3_isAhead 61 = .ok (.iload_n 2, 1) := dk_28 (dk_at dksX3_isAhead_2 15 rfl rfl)
theorem dX3_isAhead_62 : decode cX3_isAhead 62 = .ok (.iaload, 1) := dk_46 (dk_at dksX3_isAhead_2 16 rfl rfl)
theorem dX3_isAhead_63 : decode cX3_isAhead 63 = .ok (.if_icmp .le 7, 3) := dk_164 0 7 (dk_at dksX3_isAhead_2 17 rfl rfl)
theorem dX3_isAhead_66 : decode cX3_isAhead 66 = .ok (.iconst 1, 1) := dk_4 (dk_at dksX3_isAhead_2 20 rfl rfl)
theorem dX3_isAhead_67 : decode cX3_isAhead 67 = .ok (.goto 4, 3) := dk_167 0 4 (dk_at dksX3_isAhead_2 21 rfl rfl)
theorem dX3_isAhead_70 : decode cX3_isAhead 70 = .ok (.iconst 0, 1) := dk_3 (dk_at dksX3_isAhead_3 0 rfl rfl)
theorem dX3_isAhead_71 : decode cX3_isAhead 71 = .ok (.ireturn, 1) := dk_172 (dk_at dksX3_isAhead_3 1 rfl rfl)
theorem dX3_isAhead_72 : decode cX3_isAhead 72 = .ok (.aload_n 0, 1) := dk_42 (dk_at dksX3_isAhead_3 2 rfl rfl)
theorem dX3_isAhead_73 : decode cX3_isAhead 73 = .ok (.getfield 31, 3) := dk_180 0 31 (dk_at dksX3_isAhead_3 3 rfl rfl)
theorem dX3_isAhead_76 : decode cX3_isAhead 76 = .ok (.iload_n 1, 1) := dk_27 (dk_at dksX3_isAhead_3 6 rfl rfl)
theorem dX3_isAhead_77 : decode cX3_isAhead 77 = .ok (.iaload, 1) := dk_46 (dk_at dksX3_isAhead_3 7 rfl rfl)
theorem dX3_isAhead_78 : decode cX3_isAhead 78 = .ok (.aload_n 0, 1) := dk_42 (dk_at dksX3_isAhead_3 8 rfl rfl)
theorem dX3_isAhead_79 : decode cX3_isAhead 79 = .ok (.getfield 31, 3) := dk_180 0 31 (dk_at dksX3_isAhead_3 9 rfl rfl)
theorem dX3_isAhead_82 : decode cX3_isAhead 82 = .ok (.iload_n 2, 1) := dk_28 (dk_at dksX3_isAhead_3 12 rfl rfl)
theorem dX3_isAhead_83 : decode cX3_isAhead 83 = .ok (.iaload, 1) := dk_46 (dk_at dksX3_isAhead_3 13 rfl rfl)
theorem dX3_isAhead_84 : decode cX3_isAhead 84 = .ok (.if_icmp .eq 26, 3) := dk_159 0 26 (dk_at dksX3_isAhead_3 14 rfl rfl)
theorem dX3_isAhead_87 : decode cX3_isAhead 87 = .ok (.aload_n 0, 1) := dk_42 (dk_at dksX3_isAhead_3 17 rfl rfl)
theorem dX3_isAhead_88 : decode cX3_isAhead 88 = .ok (.getfield 31, 3) := dk_180 0 31 (dk_at dksX3_isAhead_3 18 rfl rfl)
theorem dX3_isAhead_91 : decode cX3_isAhead 91 = .ok (.iload_n 1, 1) := dk_27 (dk_at dksX3_isAhead_3 21 rfl rfl)
theorem dX3_isAhead_92 : decode cX3_isAhead 92 = .ok (.iaload, 1) := dk_46 (dk_at dksX3_isAhead_3 22 rfl rfl)
theorem dX3_isAhead_93 : decode cX3_isAhead 93 = .ok (.aload_n 0, 1) := dk_42 (dk_at dksX3_isAhead_3 23 rfl rfl)
theorem dX3_isAhead_94 : decode cX3_isAhead 94 = .ok (.getfield 31, 3) := dk_180 0 31 (dk_at dksX3_isAhead_4 0 rfl rfl)
theorem dX3_isAhead_97 : decode cX3_isAhead 97 = .ok (.iload_n 2, 1) := dk_28 (dk_at dksX3_isAhead_4 3 rfl rfl)
theorem dX3_isAhead_98 : decode cX3_isAhead 98 = .ok (.iaload, 1) := dk_46 (dk_at dksX3_isAhead_4 4 rfl rfl)
theorem dX3_isAhead_99 : decode cX3_isAhead 99 = .ok (.if_icmp .ge 7, 3) := dk_162 0 7 (dk_at dksX3_isAhead_4 5 rfl rfl)
theorem dX3_isAhead_102 : decode cX3_isAhead 102 = .ok (.iconst 1, 1) := dk_4 (dk_at dksX3_isAhead_4 8 rfl rfl)
theorem dX3_isAhead_103 : decode cX3_isAhead 103 = .ok (.goto 33, 3) := dk_167 0 33 (dk_at dksX3_isAhead_4 9 rfl rfl)
theorem dX3_isAhead_106 : decode cX3_isAhead 106 = .ok (.iconst 0, 1) := dk_3 (dk_at dksX3_isAhead_4 12 rfl rfl)
theorem dX3_isAhead_107 : decode cX3_isAhead 107 = .ok (.goto 29, 3) := dk_167 0 29 (dk_at dksX3_isAhead_4 13 rfl rfl)
theorem dX3_isAhead_110 : decode cX3_isAhead 110 = .ok (.aload_n 0, 1) := dk_42 (dk_at dksX3_isAhead_4 16 rfl rfl)
theorem dX3_isAhead_111 : decode cX3_isAhead 111 = .ok (.getfield 17, 3) := dk_180 0 17 (dk_at dksX3_isAhead_4 17 rfl rfl)
theorem dX3_isAhead_114 : decode cX3_isAhead 114 = .ok (.iload_n 1, 1) := dk_27 (dk_at dksX3_isAhead_4 20 rfl rfl)
theorem dX3_isAhead_115 : decode cX3_isAhead 115 = .ok (.aaload, 1) := dk_50 (dk_at dksX3_isAhead_4 21 rfl rfl)
theorem dX3_isAhead_116 : decode cX3_isAhead 116 = .ok (.getfield 127, 3) := dk_180 0 127 (dk_at dksX3_isAhead_5 0 rfl rfl)
theorem dX3_isAhead_119 : decode cX3_isAhead 119 = .ok (.aload_n 0, 1) := dk_42 (dk_at dksX3_isAhead_5 3 rfl rfl)
theorem dX3_isAhead_120 : decode cX3_isAhead 120 = .ok (.getfield 17, 3) := dk_180 0 17 (dk_at dksX3_isAhead_5 4 rfl rfl)
theorem dX3_isAhead_123 : decode cX3_isAhead 123 = .ok (.iload_n 2, 1) := dk_28 (dk_at dksX3_isAhead_5 7 rfl rfl)
theorem dX3_isAhead_124 : decode cX3_isAhead 124 = .ok (.aaload, 1) := dk_50 (dk_at dksX3_isAhead_5 8 rfl rfl)
theorem dX3_isAhead_125 : decode cX3_isAhead 125 = .ok (.getfield 127, 3) := dk_180 0 127 (dk_at dksX3_isAhead_5 9 rfl rfl)
theorem dX3_isAhead_128 : decode cX3_isAhead 128 = .ok (.if_icmp .ge 7, 3) := dk_162 0 7 (dk_at dksX3_isAhead_5 12 rfl rfl)
theorem dX3_isAhead_131 : decode cX3_isAhead 131 = .ok (.iconst 1, 1) := dk_4 (dk_at dksX3_isAhead_5 15 rfl rfl)
theorem dX3_isAhead_132 : decode cX3_isAhead 132 = .ok (.goto 4, 3) := dk_167 0 4 (dk_at dksX3_isAhead_5 16 rfl rfl)
theorem dX3_isAhead_135 : decode cX3_isAhead 135 = .ok (.iconst 0, 1) := dk_3 (dk_at dksX3_isAhead_5 19 rfl rfl)
theorem dX3_isAhead_136 : decode cX3_isAhead 136 = .ok (.ireturn, 1) := dk_172 (dk_at dksX3_isAhead_5 20 rfl rfl)
abbrev cX3_latest : ByteArray := prog_11_method_18_code
def yX3_latest : MethodName := ⟨RX3, "latest", "(III)I"⟩
def dkwX3_latest_2 : List UInt8 := [21, 4, 42, 180, 0, 21, 21, 5, 46, 184, 0, 146, 54, 4, 132, 5, 1, 167, 255, 205, 21, 4, 172]
abbrev dktX3_latest_2 : List UInt8 := dkwX3_latest_2 ++ []
def dkwX3_latest_1 : List UInt8 := [180, 0, 17, 21, 5, 50, 180, 0, 86, 27, 160, 0, 28, 42, 180, 0, 28, 21, 5, 46, 29, 163, 0, 17]
abbrev dktX3_latest_1 : List UInt8 := dkwX3_latest_1 ++ dktX3_latest_2
def dkwX3_latest_0 : List UInt8 := [42, 28, 182, 0, 142, 16, 254, 54, 4, 3, 54, 5, 21, 5, 42, 180, 0, 41, 162, 0, 48, 42]
abbrev dktX3_latest_0 : List UInt8 := dkwX3_latest_0 ++ dktX3_latest_1
theorem dksX3_latest_0 : cX3_latest.data.toList.drop 0 = dktX3_latest_0 := by decide +kernel
theorem dksX3_latest_1 : cX3_latest.data.toList.drop 22 = dktX3_latest_1 := dk_seg dksX3_latest_0 22 rfl rfl
theorem dksX3_latest_2 : cX3_latest.data.toList.drop 46 = dktX3_latest_2 := dk_seg dksX3_latest_1 24 rfl rfl
theorem dX3_latest_0 : decode cX3_latest 0 = .ok (.aload_n 0, 1) := dk_42 (dk_at dksX3_latest_0 0 rfl rfl)
theorem dX3_latest_1 : decode cX3_latest 1 = .ok (.iload_n 2, 1) := dk_28 (dk_at dksX3_latest_0 1 rfl rfl)
theorem dX3_latest_2 : decode cX3_latest 2 = .ok (.invokevirtual 142, 3) := dk_182 0 142 (dk_at dksX3_latest_0 2 rfl rfl)
theorem dX3_latest_5 : decode cX3_latest 5 = .ok (.bipush (-2), 2) := dk_16 254 (dk_at dksX3_latest_0 5 rfl rfl)
theorem dX3_latest_7 : decode cX3_latest 7 = .ok (.istore 4, 2) := dk_54 4 (dk_at dksX3_latest_0 7 rfl rfl)
theorem dX3_latest_9 : decode cX3_latest 9 = .ok (.iconst 0, 1) := dk_3 (dk_at dksX3_latest_0 9 rfl rfl)
theorem dX3_latest_10 : decode cX3_latest 10 = .ok (.istore 5, 2) := dk_54 5 (dk_at dksX3_latest_0 10 rfl rfl)
theorem dX3_latest_12 : decode cX3_latest 12 = .ok (.iload 5, 2) := dk_21 5 (dk_at dksX3_latest_0 12 rfl rfl)
theorem dX3_latest_14 : decode cX3_latest 14 = .ok (.aload_n 0, 1) := dk_42 (dk_at dksX3_latest_0 14 rfl rfl)
theorem dX3_latest_15 : decode cX3_latest 15 = .ok (.getfield 41, 3) := dk_180 0 41 (dk_at dksX3_latest_0 15 rfl rfl)
theorem dX3_latest_18 : decode cX3_latest 18 = .ok (.if_icmp .ge 48, 3) := dk_162 0 48 (dk_at dksX3_latest_0 18 rfl rfl)
theorem dX3_latest_21 : decode cX3_latest 21 = .ok (.aload_n 0, 1) := dk_42 (dk_at dksX3_latest_0 21 rfl rfl)
theorem dX3_latest_22 : decode cX3_latest 22 = .ok (.getfield 17, 3) := dk_180 0 17 (dk_at dksX3_latest_1 0 rfl rfl)
theorem dX3_latest_25 : decode cX3_latest 25 = .ok (.iload 5, 2) := dk_21 5 (dk_at dksX3_latest_1 3 rfl rfl)
theorem dX3_latest_27 : decode cX3_latest 27 = .ok (.aaload, 1) := dk_50 (dk_at dksX3_latest_1 5 rfl rfl)
theorem dX3_latest_28 : decode cX3_latest 28 = .ok (.getfield 86, 3) := dk_180 0 86 (dk_at dksX3_latest_1 6 rfl rfl)
theorem dX3_latest_31 : decode cX3_latest 31 = .ok (.iload_n 1, 1) := dk_27 (dk_at dksX3_latest_1 9 rfl rfl)
theorem dX3_latest_32 : decode cX3_latest 32 = .ok (.if_icmp .ne 28, 3) := dk_160 0 28 (dk_at dksX3_latest_1 10 rfl rfl)
theorem dX3_latest_35 : decode cX3_latest 35 = .ok (.aload_n 0, 1) := dk_42 (dk_at dksX3_latest_1 13 rfl rfl)
theorem dX3_latest_36 : decode cX3_latest 36 = .ok (.getfield 28, 3) := dk_180 0 28 (dk_at dksX3_latest_1 14 rfl rfl)
theorem dX3_latest_39 : decode cX3_latest 39 = .ok (.iload 5, 2) := dk_21 5 (dk_at dksX3_latest_1 17 rfl rfl)
theorem dX3_latest_41 : decode cX3_latest 41 = .ok (.iaload, 1) := dk_46 (dk_at dksX3_latest_1 19 rfl rfl)
theorem dX3_latest_42 : decode cX3_latest 42 = .ok (.iload_n 3, 1) := dk_29 (dk_at dksX3_latest_1 20 rfl rfl)
theorem dX3_latest_43 : decode cX3_latest 43 = .ok (.if_icmp .gt 17, 3) := dk_163 0 17 (dk_at dksX3_latest_1 21 rfl rfl)
theorem dX3_latest_46 : decode cX3_latest 46 = .ok (.iload 4, 2) := dk_21 4 (dk_at dksX3_latest_2 0 rfl rfl)
theorem dX3_latest_48 : decode cX3_latest 48 = .ok (.aload_n 0, 1) := dk_42 (dk_at dksX3_latest_2 2 rfl rfl)
theorem dX3_latest_49 : decode cX3_latest 49 = .ok (.getfield 21, 3) := dk_180 0 21 (dk_at dksX3_latest_2 3 rfl rfl)
theorem dX3_latest_52 : decode cX3_latest 52 = .ok (.iload 5, 2) := dk_21 5 (dk_at dksX3_latest_2 6 rfl rfl)
theorem dX3_latest_54 : decode cX3_latest 54 = .ok (.iaload, 1) := dk_46 (dk_at dksX3_latest_2 8 rfl rfl)
theorem dX3_latest_55 : decode cX3_latest 55 = .ok (.invokestatic 146, 3) := dk_184 0 146 (dk_at dksX3_latest_2 9 rfl rfl)
theorem dX3_latest_58 : decode cX3_latest 58 = .ok (.istore 4, 2) := dk_54 4 (dk_at dksX3_latest_2 12 rfl rfl)
theorem dX3_latest_60 : decode cX3_latest 60 = .ok (.iinc 5 1, 3) := dk_132 5 1 (dk_at dksX3_latest_2 14 rfl rfl)
theorem dX3_latest_63 : decode cX3_latest 63 = .ok (.goto (-51), 3) := dk_167 255 205 (dk_at dksX3_latest_2 17 rfl rfl)
theorem dX3_latest_66 : decode cX3_latest 66 = .ok (.iload 4, 2) := dk_21 4 (dk_at dksX3_latest_2 20 rfl rfl)
theorem dX3_latest_68 : decode cX3_latest 68 = .ok (.ireturn, 1) := dk_172 (dk_at dksX3_latest_2 22 rfl rfl)
abbrev cX3_laysFirst : ByteArray := prog_11_method_17_code
def yX3_laysFirst : MethodName := ⟨RX3, "laysFirst", "(I)V"⟩
def dkwX3_laysFirst_4 : List UInt8 := [167, 255, 209, 132, 2, 255, 167, 255, 165, 177]
abbrev dktX3_laysFirst_4 : List UInt8 := dkwX3_laysFirst_4 ++ []
def dkwX3_laysFirst_3 : List UInt8 := [29, 182, 0, 105, 153, 0, 15, 42, 180, 0, 28, 28, 42, 180, 0, 28, 29, 46, 79, 132, 3, 1]
abbrev dktX3_laysFirst_3 : List UInt8 := dkwX3_laysFirst_3 ++ dktX3_laysFirst_4
def dkwX3_laysFirst_2 : List UInt8 := [42, 180, 0, 41, 162, 0, 45, 42, 180, 0, 28, 29, 46, 42, 180, 0, 28, 28, 46, 162, 0, 24, 42, 28]
abbrev dktX3_laysFirst_2 : List UInt8 := dkwX3_laysFirst_2 ++ dktX3_laysFirst_3
def dkwX3_laysFirst_1 : List UInt8 := [180, 0, 83, 27, 160, 0, 12, 42, 180, 0, 25, 28, 46, 167, 0, 5, 18, 104, 79, 28, 4, 96, 62, 29]
abbrev dktX3_laysFirst_1 : List UInt8 := dkwX3_laysFirst_1 ++ dktX3_laysFirst_2
def dkwX3_laysFirst_0 : List UInt8 := [42, 180, 0, 41, 4, 100, 61, 28, 155, 0, 93, 42, 180, 0, 28, 28, 42, 180, 0, 17, 28, 50]
abbrev dktX3_laysFirst_0 : List UInt8 := dkwX3_laysFirst_0 ++ dktX3_laysFirst_1
theorem dksX3_laysFirst_0 : cX3_laysFirst.data.toList.drop 0 = dktX3_laysFirst_0 := by decide +kernel
theorem dksX3_laysFirst_1 : cX3_laysFirst.data.toList.drop 22 = dktX3_laysFirst_1 := dk_seg dksX3_laysFirst_0 22 rfl rfl
theorem dksX3_laysFirst_2 : cX3_laysFirst.data.toList.drop 46 = dktX3_laysFirst_2 := dk_seg dksX3_laysFirst_1 24 rfl rfl
theorem dksX3_laysFirst_3 : cX3_laysFirst.data.toList.drop 70 = dktX3_laysFirst_3 := dk_seg dksX3_laysFirst_2 24 rfl rfl
theorem dksX3_laysFirst_4 : cX3_laysFirst.data.toList.drop 92 = dktX3_laysFirst_4 := dk_seg dksX3_laysFirst_3 22 rfl rfl
theorem dX3_laysFirst_0 : decode cX3_laysFirst 0 = .ok (.aload_n 0, 1) := dk_42 (dk_at dksX3_laysFirst_0 0 rfl rfl)
theorem dX3_laysFirst_1 : decode cX3_laysFirst 1 = .ok (.getfield 41, 3) := dk_180 0 41 (dk_at dksX3_laysFirst_0 1 rfl rfl)
theorem dX3_laysFirst_4 : decode cX3_laysFirst 4 = .ok (.iconst 1, 1) := dk_4 (dk_at dksX3_laysFirst_0 4 rfl rfl)
theorem dX3_laysFirst_5 : decode cX3_laysFirst 5 = .ok (.isub, 1) := dk_100 (dk_at dksX3_laysFirst_0 5 rfl rfl)
theorem dX3_laysFirst_6 : decode cX3_laysFirst 6 = .ok (.istore_n 2, 1) := dk_61 (dk_at dksX3_laysFirst_0 6 rfl rfl)
theorem dX3_laysFirst_7 : decode cX3_laysFirst 7 = .ok (.iload_n 2, 1) := dk_28 (dk_at dksX3_laysFirst_0 7 rfl rfl)
theorem dX3_laysFirst_8 : decode cX3_laysFirst 8 = .ok (.ifCond .lt 93, 3) := dk_155 0 93 (dk_at dksX3_laysFirst_0 8 rfl rfl)
theorem dX3_laysFirst_11 : decode cX3_laysFirst 11 = .ok (.aload_n 0, 1) := dk_42 (dk_at dksX3_laysFirst_0 11 rfl rfl)
theorem dX3_laysFirst_12 : decode cX3_laysFirst 12 = .ok (.getfield 28, 3) := dk_180 0 28 (dk_at dksX3_laysFirst_0 12 rfl rfl)
theorem dX3_laysFirst_15 : decode cX3_laysFirst 15 = .ok (.iload_n 2, 1) := dk_28 (dk_at dksX3_laysFirst_0 15 rfl rfl)
theorem dX3_laysFirst_16 : decode cX3_laysFirst 16 = .ok (.aload_n 0, 1) := dk_42 (dk_at dksX3_laysFirst_0 16 rfl rfl)
theorem dX3_laysFirst_17 : decode cX3_laysFirst 17 = .ok (.getfield 17, 3) := dk_180 0 17 (dk_at dksX3_laysFirst_0 17 rfl rfl)
theorem dX3_laysFirst_20 : decode cX3_laysFirst 20 = .ok (.iload_n 2, 1) := dk_28 (dk_at dksX3_laysFirst_0 20 rfl rfl)
theorem dX3_laysFirst_21 : decode cX3_laysFirst 21 = .ok (.aaload, 1) := dk_50 (dk_at dksX3_laysFirst_0 21 rfl rfl)
theorem dX3_laysFirst_22 : decode cX3_laysFirst 22 = .ok (.getfield 83, 3) := dk_180 0 83 (dk_at dksX3_laysFirst_1 0 rfl rfl)
theorem dX3_laysFirst_25 : decode cX3_laysFirst 25 = .ok (.iload_n 1, 1) := dk_27 (dk_at dksX3_laysFirst_1 3 rfl rfl)
theorem dX3_laysFirst_26 : decode cX3_laysFirst 26 = .ok (.if_icmp .ne 12, 3) := dk_160 0 12 (dk_at dksX3_laysFirst_1 4 rfl rfl)
theorem dX3_laysFirst_29 : decode cX3_laysFirst 29 = .ok (.aload_n 0, 1) := dk_42 (dk_at dksX3_laysFirst_1 7 rfl rfl)
theorem dX3_laysFirst_30 : decode cX3_laysFirst 30 = .ok (.getfield 25, 3) := dk_180 0 25 (dk_at dksX3_laysFirst_1 8 rfl rfl)
theorem dX3_laysFirst_33 : decode cX3_laysFirst 33 = .ok (.iload_n 2, 1) := dk_28 (dk_at dksX3_laysFirst_1 11 rfl rfl)
theorem dX3_laysFirst_34 : decode cX3_laysFirst 34 = .ok (.iaload, 1) := dk_46 (dk_at dksX3_laysFirst_1 12 rfl rfl)
theorem dX3_laysFirst_35 : decode cX3_laysFirst 35 = .ok (.goto 5, 3) := dk_167 0 5 (dk_at dksX3_laysFirst_1 13 rfl rfl)
theorem dX3_laysFirst_38 : decode cX3_laysFirst 38 = .ok (.ldc 104, 2) := dk_18 104 (dk_at dksX3_laysFirst_1 16 rfl rfl)
theorem dX3_laysFirst_40 : decode cX3_laysFirst 40 = .ok (.iastore, 1) := dk_79 (dk_at dksX3_laysFirst_1 18 rfl rfl)
theorem dX3_laysFirst_41 : decode cX3_laysFirst 41 = .ok (.iload_n 2, 1) := dk_28 (dk_at dksX3_laysFirst_1 19 rfl rfl)
theorem dX3_laysFirst_42 : decode cX3_laysFirst 42 = .ok (.iconst 1, 1) := dk_4 (dk_at dksX3_laysFirst_1 20 rfl rfl)
theorem dX3_laysFirst_43 : decode cX3_laysFirst 43 = .ok (.iadd, 1) := dk_96 (dk_at dksX3_laysFirst_1 21 rfl rfl)
theorem dX3_laysFirst_44 : decode cX3_laysFirst 44 = .ok (.istore_n 3, 1) := dk_62 (dk_at dksX3_laysFirst_1 22 rfl rfl)
theorem dX3_laysFirst_45 : decode cX3_laysFirst 45 = .ok (.iload_n 3, 1) := dk_29 (dk_at dksX3_laysFirst_1 23 rfl rfl)
theorem dX3_laysFirst_46 : decode cX3_laysFirst 46 = .ok (.aload_n 0, 1) := dk_42 (dk_at dksX3_laysFirst_2 0 rfl rfl)
theorem dX3_laysFirst_47 : decode cX3_laysFirst 47 = .ok (.getfield 41, 3) := dk_180 0 41 (dk_at dksX3_laysFirst_2 1 rfl rfl)
theorem dX3_laysFirst_50 : decode cX3_laysFirst 50 = .ok (.if_icmp .ge 45, 3) := dk_162 0 45 (dk_at dksX3_laysFirst_2 4 rfl rfl)
theorem dX3_laysFirst_53 : decode cX3_laysFirst 53 = .ok (.aload_n 0, 1) := dk_42 (dk_at dksX3_laysFirst_2 7 rfl rfl)
theorem dX3_laysFirst_54 : decode cX3_laysFirst 54 = .ok (.getfield 28, 3) := dk_180 0 28 (dk_at dksX3_laysFirst_2 8 rfl rfl)
theorem dX3_laysFirst_57 : decode cX3_laysFirst 57 = .ok (.iload_n 3, 1) := dk_29 (dk_at dksX3_laysFirst_2 11 rfl rfl)
theorem dX3_laysFirst_58 : decode cX3_laysFirst 58 = .ok (.iaload, 1) := dk_46 (dk_at dksX3_laysFirst_2 12 rfl rfl)
theorem dX3_laysFirst_59 : decode cX3_laysFirst 59 = .ok (.aload_n 0, 1) := dk_42 (dk_at dksX3_laysFirst_2 13 rfl rfl)
theorem dX3_laysFirst_60 : decode cX3_laysFirst 60 = .ok (.getfield 28, 3) := dk_180 0 28 (dk_at dksX3_laysFirst_2 14 rfl rfl)
theorem dX3_laysFirst_63 : decode cX3_laysFirst 63 = .ok (.iload_n 2, 1) := dk_28 (dk_at dksX3_laysFirst_2 17 rfl rfl)
theorem dX3_laysFirst_64 : decode cX3_laysFirst 64 = .ok (.iaload, 1) := dk_46 (dk_at dksX3_laysFirst_2 18 rfl rfl)
theorem dX3_laysFirst_65 : decode cX3_laysFirst 65 = .ok (.if_icmp .ge 24, 3) := dk_162 0 24 (dk_at dksX3_laysFirst_2 19 rfl rfl)
theorem dX3_laysFirst_68 : decode cX3_laysFirst 68 = .ok (.aload_n 0, 1) := dk_42 (dk_at dksX3_laysFirst_2 22 rfl rfl)
theorem dX3_laysFirst_69 : decode cX3_laysFirst 69 = .ok (.iload_n 2, 1) := dk_28 (dk_at dksX3_laysFirst_2 23 rfl rfl)
theorem dX3_laysFirst_70 : decode cX3_laysFirst 70 = .ok (.iload_n 3, 1) := dk_29 (dk_at dksX3_laysFirst_3 0 rfl rfl)
theorem dX3_laysFirst_71 : decode cX3_laysFirst 71 = .ok (.invokevirtual 105, 3) := dk_182 0 105 (dk_at dksX3_laysFirst_3 1 rfl rfl)
theorem dX3_laysFirst_74 : decode cX3_laysFirst 74 = .ok (.ifCond .eq 15, 3) := dk_153 0 15 (dk_at dksX3_laysFirst_3 4 rfl rfl)
theorem dX3_laysFirst_77 : decode cX3_laysFirst 77 = .ok (.aload_n 0, 1) := dk_42 (dk_at dksX3_laysFirst_3 7 rfl rfl)
theorem dX3_laysFirst_78 : decode cX3_laysFirst 78 = .ok (.getfield 28, 3) := dk_180 0 28 (dk_at dksX3_laysFirst_3 8 rfl rfl)
theorem dX3_laysFirst_81 : decode cX3_laysFirst 81 = .ok (.iload_n 2, 1) := dk_28 (dk_at dksX3_laysFirst_3 11 rfl rfl)
theorem dX3_laysFirst_82 : decode cX3_laysFirst 82 = .ok (.aload_n 0, 1) := dk_42 (dk_at dksX3_laysFirst_3 12 rfl rfl)
theorem dX3_laysFirst_83 : decode cX3_laysFirst 83 = .ok (.getfield 28, 3) := dk_180 0 28 (dk_at dksX3_laysFirst_3 13 rfl rfl)
theorem dX3_laysFirst_86 : decode cX3_laysFirst 86 = .ok (.iload_n 3, 1) := dk_29 (dk_at dksX3_laysFirst_3 16 rfl rfl)
theorem dX3_laysFirst_87 : decode cX3_laysFirst 87 = .ok (.iaload, 1) := dk_46 (dk_at dksX3_laysFirst_3 17 rfl rfl)
theorem dX3_laysFirst_88 : decode cX3_laysFirst 88 = .ok (.iastore, 1) := dk_79 (dk_at dksX3_laysFirst_3 18 rfl rfl)
theorem dX3_laysFirst_89 : decode cX3_laysFirst 89 = .ok (.iinc 3 1, 3) := dk_132 3 1 (dk_at dksX3_laysFirst_3 19 rfl rfl)
theorem dX3_laysFirst_92 : decode cX3_laysFirst 92 = .ok (.goto (-47), 3) := dk_167 255 209 (dk_at dksX3_laysFirst_4 0 rfl rfl)
theorem dX3_laysFirst_95 : decode cX3_laysFirst 95 = .ok (.iinc 2 (-1), 3) := dk_132 2 255 (dk_at dksX3_laysFirst_4 3 rfl rfl)
theorem dX3_laysFirst_98 : decode cX3_laysFirst 98 = .ok (.goto (-91), 3) := dk_167 255 165 (dk_at dksX3_laysFirst_4 6 rfl rfl)
theorem dX3_laysFirst_101 : decode cX3_laysFirst 101 = .ok (.return_, 1) := dk_177 (dk_at dksX3_laysFirst_4 9 rfl rfl)
abbrev cX3_laysRest : ByteArray := prog_11_method_3_code
def yX3_laysRest : MethodName := ⟨RX3, "laysRest", "([Z)LLinkTimes$Search;"⟩
def dkwX3_laysRest_4 : List UInt8 := [182, 0, 68, 182, 0, 70, 132, 2, 1, 167, 255, 166, 42, 176]
abbrev dktX3_laysRest_4 : List UInt8 := dkwX3_laysRest_4 ++ []
def dkwX3_laysRest_3 : List UInt8 := [182, 0, 60, 192, 0, 15, 42, 180, 0, 3, 180, 0, 44, 180, 0, 48, 28, 182, 0, 60, 192, 0, 15]
abbrev dktX3_laysRest_3 : List UInt8 := dkwX3_laysRest_3 ++ dktX3_laysRest_4
def dkwX3_laysRest_2 : List UInt8 := [180, 0, 64, 153, 0, 50, 43, 28, 51, 154, 0, 44, 42, 42, 180, 0, 3, 180, 0, 44, 180, 0, 48, 28]
abbrev dktX3_laysRest_2 : List UInt8 := dkwX3_laysRest_2 ++ dktX3_laysRest_3
def dkwX3_laysRest_1 : List UInt8 := [182, 0, 54, 162, 0, 79, 42, 180, 0, 3, 180, 0, 44, 180, 0, 48, 28, 182, 0, 60, 192, 0, 15]
abbrev dktX3_laysRest_1 : List UInt8 := dkwX3_laysRest_1 ++ dktX3_laysRest_2
def dkwX3_laysRest_0 : List UInt8 := [42, 3, 181, 0, 37, 42, 3, 181, 0, 41, 3, 61, 28, 42, 180, 0, 3, 180, 0, 44, 180, 0, 48]
abbrev dktX3_laysRest_0 : List UInt8 := dkwX3_laysRest_0 ++ dktX3_laysRest_1
theorem dksX3_laysRest_0 : cX3_laysRest.data.toList.drop 0 = dktX3_laysRest_0 := by decide +kernel
theorem dksX3_laysRest_1 : cX3_laysRest.data.toList.drop 23 = dktX3_laysRest_1 := dk_seg dksX3_laysRest_0 23 rfl rfl
theorem dksX3_laysRest_2 : cX3_laysRest.data.toList.drop 46 = dktX3_laysRest_2 := dk_seg dksX3_laysRest_1 23 rfl rfl
theorem dksX3_laysRest_3 : cX3_laysRest.data.toList.drop 70 = dktX3_laysRest_3 := dk_seg dksX3_laysRest_2 24 rfl rfl
theorem dksX3_laysRest_4 : cX3_laysRest.data.toList.drop 93 = dktX3_laysRest_4 := dk_seg dksX3_laysRest_3 23 rfl rfl
theorem dX3_laysRest_0 : decode cX3_laysRest 0 = .ok (.aload_n 0, 1) := dk_42 (dk_at dksX3_laysRest_0 0 rfl rfl)
theorem dX3_laysRest_1 : decode cX3_laysRest 1 = .ok (.iconst 0, 1) := dk_3 (dk_at dksX3_laysRest_0 1 rfl rfl)
theorem dX3_laysRest_2 : decode cX3_laysRest 2 = .ok (.putfield 37, 3) := dk_181 0 37 (dk_at dksX3_laysRest_0 2 rfl rfl)
theorem dX3_laysRest_5 : decode cX3_laysRest 5 = .ok (.aload_n 0, 1) := dk_42 (dk_at dksX3_laysRest_0 5 rfl rfl)
theorem dX3_laysRest_6 : decode cX3_laysRest 6 = .ok (.iconst 0, 1) := dk_3 (dk_at dksX3_laysRest_0 6 rfl rfl)
theorem dX3_laysRest_7 : decode cX3_laysRest 7 = .ok (.putfield 41, 3) := dk_181 0 41 (dk_at dksX3_laysRest_0 7 rfl rfl)
theorem dX3_laysRest_10 : decode cX3_laysRest 10 = .ok (.iconst 0, 1) := dk_3 (dk_at dksX3_laysRest_0 10 rfl rfl)
theorem dX3_laysRest_11 : decode cX3_laysRest 11 = .ok (.istore_n 2, 1) := dk_61 (dk_at dksX3_laysRest_0 11 rfl rfl)
theorem dX3_laysRest_12 : decode cX3_laysRest 12 = .ok (.iload_n 2, 1) := dk_28 (dk_at dksX3_laysRest_0 12 rfl rfl)
theorem dX3_laysRest_13 : decode cX3_laysRest 13 = .ok (.aload_n 0, 1) := dk_42 (dk_at dksX3_laysRest_0 13 rfl rfl)
theorem dX3_laysRest_14 : decode cX3_laysRest 14 = .ok (.getfield 3, 3) := dk_180 0 3 (dk_at dksX3_laysRest_0 14 rfl rfl)
theorem dX3_laysRest_17 : decode cX3_laysRest 17 = .ok (.getfield 44, 3) := dk_180 0 44 (dk_at dksX3_laysRest_0 17 rfl rfl)
theorem dX3_laysRest_20 : decode cX3_laysRest 20 = .ok (.getfield 48, 3) := dk_180 0 48 (dk_at dksX3_laysRest_0 20 rfl rfl)
theorem dX3_laysRest_23 : decode cX3_laysRest 23 = .ok (.invokevirtual 54, 3) := dk_182 0 54 (dk_at dksX3_laysRest_1 0 rfl rfl)
theorem dX3_laysRest_26 : decode cX3_laysRest 26 = .ok (.if_icmp .ge 79, 3) := dk_162 0 79 (dk_at dksX3_laysRest_1 3 rfl rfl)
theorem dX3_laysRest_29 : decode cX3_laysRest 29 = .ok (.aload_n 0, 1) := dk_42 (dk_at dksX3_laysRest_1 6 rfl rfl)
theorem dX3_laysRest_30 : decode cX3_laysRest 30 = .ok (.getfield 3, 3) := dk_180 0 3 (dk_at dksX3_laysRest_1 7 rfl rfl)
theorem dX3_laysRest_33 : decode cX3_laysRest 33 = .ok (.getfield 44, 3) := dk_180 0 44 (dk_at dksX3_laysRest_1 10 rfl rfl)
theorem dX3_laysRest_36 : decode cX3_laysRest 36 = .ok (.getfield 48, 3) := dk_180 0 48 (dk_at dksX3_laysRest_1 13 rfl rfl)
theorem dX3_laysRest_39 : decode cX3_laysRest 39 = .ok (.iload_n 2, 1) := dk_28 (dk_at dksX3_laysRest_1 16 rfl rfl)
theorem dX3_laysRest_40 : decode cX3_laysRest 40 = .ok (.invokevirtual 60, 3) := dk_182 0 60 (dk_at dksX3_laysRest_1 17 rfl rfl)
theorem dX3_laysRest_43 : decode cX3_laysRest 43 = .ok (.checkcast 15, 3) := dk_192 0 15 (dk_at dksX3_laysRest_1 20 rfl rfl)
theorem dX3_laysRest_46 : decode cX3_laysRest 46 = .ok (.getfield 64, 3) := dk_180 0 64 (dk_at dksX3_laysRest_2 0 rfl rfl)
theorem dX3_laysRest_49 : decode cX3_laysRest 49 = .ok (.ifCond .eq 50, 3) := dk_153 0 50 (dk_at dksX3_laysRest_2 3 rfl rfl)
theorem dX3_laysRest_52 : decode cX3_laysRest 52 = .ok (.aload_n 1, 1) := dk_43 (dk_at dksX3_laysRest_2 6 rfl rfl)
theorem dX3_laysRest_53 : decode cX3_laysRest 53 = .ok (.iload_n 2, 1) := dk_28 (dk_at dksX3_laysRest_2 7 rfl rfl)
theorem dX3_laysRest_54 : decode cX3_laysRest 54 = .ok (.baload, 1) := dk_51 (dk_at dksX3_laysRest_2 8 rfl rfl)
theorem dX3_laysRest_55 : decode cX3_laysRest 55 = .ok (.ifCond .ne 44, 3) := dk_154 0 44 (dk_at dksX3_laysRest_2 9 rfl rfl)
theorem dX3_laysRest_58 : decode cX3_laysRest 58 = .ok (.aload_n 0, 1) := dk_42 (dk_at dksX3_laysRest_2 12 rfl rfl)
theorem dX3_laysRest_59 : decode cX3_laysRest 59 = .ok (.aload_n 0, 1) := dk_42 (dk_at dksX3_laysRest_2 13 rfl rfl)
theorem dX3_laysRest_60 : decode cX3_laysRest 60 = .ok (.getfield 3, 3) := dk_180 0 3 (dk_at dksX3_laysRest_2 14 rfl rfl)
theorem dX3_laysRest_63 : decode cX3_laysRest 63 = .ok (.getfield 44, 3) := dk_180 0 44 (dk_at dksX3_laysRest_2 17 rfl rfl)
theorem dX3_laysRest_66 : decode cX3_laysRest 66 = .ok (.getfield 48, 3) := dk_180 0 48 (dk_at dksX3_laysRest_2 20 rfl rfl)
theorem dX3_laysRest_69 : decode cX3_laysRest 69 = .ok (.iload_n 2, 1) := dk_28 (dk_at dksX3_laysRest_2 23 rfl rfl)
theorem dX3_laysRest_70 : decode cX3_laysRest 70 = .ok (.invokevirtual 60, 3) := dk_182 0 60 (dk_at dksX3_laysRest_3 0 rfl rfl)
theorem dX3_laysRest_73 : decode cX3_laysRest 73 = .ok (.checkcast 15, 3) := dk_192 0 15 (dk_at dksX3_laysRest_3 3 rfl rfl)
theorem dX3_laysRest_76 : decode cX3_laysRest 76 = .ok (.aload_n 0, 1) := dk_42 (dk_at dksX3_laysRest_3 6 rfl rfl)
theorem dX3_laysRest_77 : decode cX3_laysRest 77 = .ok (.getfield 3, 3) := dk_180 0 3 (dk_at dksX3_laysRest_3 7 rfl rfl)
theorem dX3_laysRest_80 : decode cX3_laysRest 80 = .ok (.getfield 44, 3) := dk_180 0 44 (dk_at dksX3_laysRest_3 10 rfl rfl)
theorem dX3_laysRest_83 : decode cX3_laysRest 83 = .ok (.getfield 48, 3) := dk_180 0 48 (dk_at dksX3_laysRest_3 13 rfl rfl)
theorem dX3_laysRest_86 : decode cX3_laysRest 86 = .ok (.iload_n 2, 1) := dk_28 (dk_at dksX3_laysRest_3 16 rfl rfl)
theorem dX3_laysRest_87 : decode cX3_laysRest 87 = .ok (.invokevirtual 60, 3) := dk_182 0 60 (dk_at dksX3_laysRest_3 17 rfl rfl)
theorem dX3_laysRest_90 : decode cX3_laysRest 90 = .ok (.checkcast 15, 3) := dk_192 0 15 (dk_at dksX3_laysRest_3 20 rfl rfl)
theorem dX3_laysRest_93 : decode cX3_laysRest 93 = .ok (.invokevirtual 68, 3) := dk_182 0 68 (dk_at dksX3_laysRest_4 0 rfl rfl)
theorem dX3_laysRest_96 : decode cX3_laysRest 96 = .ok (.invokevirtual 70, 3) := dk_182 0 70 (dk_at dksX3_laysRest_4 3 rfl rfl)
theorem dX3_laysRest_99 : decode cX3_laysRest 99 = .ok (.iinc 2 1, 3) := dk_132 2 1 (dk_at dksX3_laysRest_4 6 rfl rfl)
theorem dX3_laysRest_102 : decode cX3_laysRest 102 = .ok (.goto (-90), 3) := dk_167 255 166 (dk_at dksX3_laysRest_4 9 rfl rfl)
theorem dX3_laysRest_105 : decode cX3_laysRest 105 = .ok (.aload_n 0, 1) := dk_42 (dk_at dksX3_laysRest_4 12 rfl rfl)
theorem dX3_laysRest_106 : decode cX3_laysRest 106 = .ok (.areturn, 1) := dk_176 (dk_at dksX3_laysRest_4 13 rfl rfl)
abbrev cX3_laysAll : ByteArray := prog_11_method_4_code
def yX3_laysAll : MethodName := ⟨RX3, "laysAll", "(I)LLinkTimes$Search;"⟩
def dkwX3_laysAll_3 : List UInt8 := [132, 2, 1, 167, 255, 195, 42, 176]
abbrev dktX3_laysAll_3 : List UInt8 := dkwX3_laysAll_3 ++ []
def dkwX3_laysAll_2 : List UInt8 := [42, 180, 0, 3, 180, 0, 44, 180, 0, 48, 28, 182, 0, 60, 192, 0, 15, 180, 0, 74, 182, 0, 70]
abbrev dktX3_laysAll_2 : List UInt8 := dkwX3_laysAll_2 ++ dktX3_laysAll_3
def dkwX3_laysAll_1 : List UInt8 := [182, 0, 54, 162, 0, 50, 42, 42, 180, 0, 3, 180, 0, 44, 180, 0, 48, 28, 182, 0, 60, 192, 0, 15]
abbrev dktX3_laysAll_1 : List UInt8 := dkwX3_laysAll_1 ++ dktX3_laysAll_2
def dkwX3_laysAll_0 : List UInt8 := [42, 27, 181, 0, 37, 42, 3, 181, 0, 41, 3, 61, 28, 42, 180, 0, 3, 180, 0, 44, 180, 0, 48]
abbrev dktX3_laysAll_0 : List UInt8 := dkwX3_laysAll_0 ++ dktX3_laysAll_1
theorem dksX3_laysAll_0 : cX3_laysAll.data.toList.drop 0 = dktX3_laysAll_0 := by decide +kernel
theorem dksX3_laysAll_1 : cX3_laysAll.data.toList.drop 23 = dktX3_laysAll_1 := dk_seg dksX3_laysAll_0 23 rfl rfl
theorem dksX3_laysAll_2 : cX3_laysAll.data.toList.drop 47 = dktX3_laysAll_2 := dk_seg dksX3_laysAll_1 24 rfl rfl
theorem dksX3_laysAll_3 : cX3_laysAll.data.toList.drop 70 = dktX3_laysAll_3 := dk_seg dksX3_laysAll_2 23 rfl rfl
theorem dX3_laysAll_0 : decode cX3_laysAll 0 = .ok (.aload_n 0, 1) := dk_42 (dk_at dksX3_laysAll_0 0 rfl rfl)
theorem dX3_laysAll_1 : decode cX3_laysAll 1 = .ok (.iload_n 1, 1) := dk_27 (dk_at dksX3_laysAll_0 1 rfl rfl)
theorem dX3_laysAll_2 : decode cX3_laysAll 2 = .ok (.putfield 37, 3) := dk_181 0 37 (dk_at dksX3_laysAll_0 2 rfl rfl)
theorem dX3_laysAll_5 : decode cX3_laysAll 5 = .ok (.aload_n 0, 1) := dk_42 (dk_at dksX3_laysAll_0 5 rfl rfl)
theorem dX3_laysAll_6 : decode cX3_laysAll 6 = .ok (.iconst 0, 1) := dk_3 (dk_at dksX3_laysAll_0 6 rfl rfl)
theorem dX3_laysAll_7 : decode cX3_laysAll 7 = .ok (.putfield 41, 3) := dk_181 0 41 (dk_at dksX3_laysAll_0 7 rfl rfl)
theorem dX3_laysAll_10 : decode cX3_laysAll 10 = .ok (.iconst 0, 1) := dk_3 (dk_at dksX3_laysAll_0 10 rfl rfl)
theorem dX3_laysAll_11 : decode cX3_laysAll 11 = .ok (.istore_n 2, 1) := dk_61 (dk_at dksX3_laysAll_0 11 rfl rfl)
theorem dX3_laysAll_12 : decode cX3_laysAll 12 = .ok (.iload_n 2, 1) := dk_28 (dk_at dksX3_laysAll_0 12 rfl rfl)
theorem dX3_laysAll_13 : decode cX3_laysAll 13 = .ok (.aload_n 0, 1) := dk_42 (dk_at dksX3_laysAll_0 13 rfl rfl)
theorem dX3_laysAll_14 : decode cX3_laysAll 14 = .ok (.getfield 3, 3) := dk_180 0 3 (dk_at dksX3_laysAll_0 14 rfl rfl)
theorem dX3_laysAll_17 : decode cX3_laysAll 17 = .ok (.getfield 44, 3) := dk_180 0 44 (dk_at dksX3_laysAll_0 17 rfl rfl)
theorem dX3_laysAll_20 : decode cX3_laysAll 20 = .ok (.getfield 48, 3) := dk_180 0 48 (dk_at dksX3_laysAll_0 20 rfl rfl)
theorem dX3_laysAll_23 : decode cX3_laysAll 23 = .ok (.invokevirtual 54, 3) := dk_182 0 54 (dk_at dksX3_laysAll_1 0 rfl rfl)
theorem dX3_laysAll_26 : decode cX3_laysAll 26 = .ok (.if_icmp .ge 50, 3) := dk_162 0 50 (dk_at dksX3_laysAll_1 3 rfl rfl)
theorem dX3_laysAll_29 : decode cX3_laysAll 29 = .ok (.aload_n 0, 1) := dk_42 (dk_at dksX3_laysAll_1 6 rfl rfl)
theorem dX3_laysAll_30 : decode cX3_laysAll 30 = .ok (.aload_n 0, 1) := dk_42 (dk_at dksX3_laysAll_1 7 rfl rfl)
theorem dX3_laysAll_31 : decode cX3_laysAll 31 = .ok (.getfield 3, 3) := dk_180 0 3 (dk_at dksX3_laysAll_1 8 rfl rfl)
theorem dX3_laysAll_34 : decode cX3_laysAll 34 = .ok (.getfield 44, 3) := dk_180 0 44 (dk_at dksX3_laysAll_1 11 rfl rfl)
theorem dX3_laysAll_37 : decode cX3_laysAll 37 = .ok (.getfield 48, 3) := dk_180 0 48 (dk_at dksX3_laysAll_1 14 rfl rfl)
theorem dX3_laysAll_40 : decode cX3_laysAll 40 = .ok (.iload_n 2, 1) := dk_28 (dk_at dksX3_laysAll_1 17 rfl rfl)
theorem dX3_laysAll_41 : decode cX3_laysAll 41 = .ok (.invokevirtual 60, 3) := dk_182 0 60 (dk_at dksX3_laysAll_1 18 rfl rfl)
theorem dX3_laysAll_44 : decode cX3_laysAll 44 = .ok (.checkcast 15, 3) := dk_192 0 15 (dk_at dksX3_laysAll_1 21 rfl rfl)
theorem dX3_laysAll_47 : decode cX3_laysAll 47 = .ok (.aload_n 0, 1) := dk_42 (dk_at dksX3_laysAll_2 0 rfl rfl)
theorem dX3_laysAll_48 : decode cX3_laysAll 48 = .ok (.getfield 3, 3) := dk_180 0 3 (dk_at dksX3_laysAll_2 1 rfl rfl)
theorem dX3_laysAll_51 : decode cX3_laysAll 51 = .ok (.getfield 44, 3) := dk_180 0 44 (dk_at dksX3_laysAll_2 4 rfl rfl)
theorem dX3_laysAll_54 : decode cX3_laysAll 54 = .ok (.getfield 48, 3) := dk_180 0 48 (dk_at dksX3_laysAll_2 7 rfl rfl)
theorem dX3_laysAll_57 : decode cX3_laysAll 57 = .ok (.iload_n 2, 1) := dk_28 (dk_at dksX3_laysAll_2 10 rfl rfl)
theorem dX3_laysAll_58 : decode cX3_laysAll 58 = .ok (.invokevirtual 60, 3) := dk_182 0 60 (dk_at dksX3_laysAll_2 11 rfl rfl)
theorem dX3_laysAll_61 : decode cX3_laysAll 61 = .ok (.checkcast 15, 3) := dk_192 0 15 (dk_at dksX3_laysAll_2 14 rfl rfl)
theorem dX3_laysAll_64 : decode cX3_laysAll 64 = .ok (.getfield 74, 3) := dk_180 0 74 (dk_at dksX3_laysAll_2 17 rfl rfl)
theorem dX3_laysAll_67 : decode cX3_laysAll 67 = .ok (.invokevirtual 70, 3) := dk_182 0 70 (dk_at dksX3_laysAll_2 20 rfl rfl)
theorem dX3_laysAll_70 : decode cX3_laysAll 70 = .ok (.iinc 2 1, 3) := dk_132 2 1 (dk_at dksX3_laysAll_3 0 rfl rfl)
theorem dX3_laysAll_73 : decode cX3_laysAll 73 = .ok (.goto (-61), 3) := dk_167 255 195 (dk_at dksX3_laysAll_3 3 rfl rfl)
theorem dX3_laysAll_76 : decode cX3_laysAll 76 = .ok (.aload_n 0, 1) := dk_42 (dk_at dksX3_laysAll_3 6 rfl rfl)
theorem dX3_laysAll_77 : decode cX3_laysAll 77 = .ok (.areturn, 1) := dk_176 (dk_at dksX3_laysAll_3 7 rfl rfl)
theorem q136 : (Jvm.Cond.initialized "LinkTimes$Search") ∈ lw_all := lw_g (lw_at lw_m1 9 rfl) rfl
theorem q258 : (Jvm.Cond.instantiable "LinkTimes$Search" (9 : Nat)) ∈ lw_all := lw_g (lw_at lw_m1 131 rfl) rfl
theorem q260 : (Jvm.Cond.instanceMethod ({ cls := "LinkTimes$Search", name := "<init>", desc := "(LLinkTimes;)V" } : Jvm.MethodName)) ∈ lw_all := lw_g (lw_at lw_m1 133 rfl) rfl
theorem q261 : (Jvm.Cond.code ({ cls := "LinkTimes$Search", name := "<init>", desc := "(LLinkTimes;)V" } : Jvm.MethodName) prog_11_method_1_code (2 : Nat) (Option.none : Option Jvm.ClassFile.FieldType)) ∈ lw_all := lw_g (lw_at lw_m1 134 rfl) rfl
theorem q262 : (Jvm.Cond.methodLink "LinkTimes$Search" (9 : Nat) ({ cls := "java/lang/Object", name := "<init>", desc := "()V" } : Jvm.MethodName)) ∈ lw_all := lw_g (lw_at lw_m1 135 rfl) rfl
theorem q263 : (Jvm.Cond.classLink "LinkTimes$Search" (15 : Nat) "LinkTimes$Departure") ∈ lw_all := lw_g (lw_at lw_m1 136 rfl) rfl
theorem q265 : (Jvm.Cond.fieldLink "LinkTimes$Search" (17 : Nat) "LinkTimes$Search" "row" "[LLinkTimes$Departure;") ∈ lw_all := lw_g (lw_at lw_m1 138 rfl) rfl
theorem q267 : (Jvm.Cond.fieldLink "LinkTimes$Search" (21 : Nat) "LinkTimes$Search" "leaves" "[I") ∈ lw_all := lw_g (lw_at lw_m1 140 rfl) rfl
theorem q269 : (Jvm.Cond.fieldLink "LinkTimes$Search" (25 : Nat) "LinkTimes$Search" "arrives" "[I") ∈ lw_all := lw_g (lw_at lw_m1 142 rfl) rfl
theorem q271 : (Jvm.Cond.fieldLink "LinkTimes$Search" (28 : Nat) "LinkTimes$Search" "value" "[I") ∈ lw_all := lw_g (lw_at lw_m1 144 rfl) rfl
theorem q273 : (Jvm.Cond.fieldLink "LinkTimes$Search" (31 : Nat) "LinkTimes$Search" "rides" "[I") ∈ lw_all := lw_g (lw_at lw_m1 146 rfl) rfl
theorem q275 : (Jvm.Cond.fieldLink "LinkTimes$Search" (34 : Nat) "LinkTimes$Search" "next" "[I") ∈ lw_all := lw_g (lw_at lw_m1 148 rfl) rfl
theorem q277 : (Jvm.Cond.fieldLink "LinkTimes$Search" (41 : Nat) "LinkTimes$Search" "many" "I") ∈ lw_all := lw_g (lw_at lw_m1 150 rfl) rfl
theorem q279 : (Jvm.Cond.fieldLink "LinkTimes$Search" (37 : Nat) "LinkTimes$Search" "freedom" "I") ∈ lw_all := lw_g (lw_at lw_m1 152 rfl) rfl
theorem q280 : (Jvm.Cond.fieldLink "LinkTimes$Search" (3 : Nat) "LinkTimes$Search" "this$0" "LLinkTimes;") ∈ lw_all := lw_g (lw_at lw_m1 153 rfl) rfl
theorem q281 : (Jvm.Cond.laysFinal "LinkTimes$Search" "LinkTimes$Search" "row" "[LLinkTimes$Departure;") ∈ lw_all := lw_g (lw_at lw_m1 154 rfl) rfl
theorem q282 : (Jvm.Cond.soleField "LinkTimes$Search" "row") ∈ lw_all := lw_g (lw_at lw_m1 155 rfl) rfl
theorem q283 : (Jvm.Cond.laysFinal "LinkTimes$Search" "LinkTimes$Search" "leaves" "[I") ∈ lw_all := lw_g (lw_at lw_m1 156 rfl) rfl
theorem q284 : (Jvm.Cond.soleField "LinkTimes$Search" "leaves") ∈ lw_all := lw_g (lw_at lw_m1 157 rfl) rfl
theorem q285 : (Jvm.Cond.laysFinal "LinkTimes$Search" "LinkTimes$Search" "arrives" "[I") ∈ lw_all := lw_g (lw_at lw_m1 158 rfl) rfl
theorem q286 : (Jvm.Cond.soleField "LinkTimes$Search" "arrives") ∈ lw_all := lw_g (lw_at lw_m1 159 rfl) rfl
theorem q287 : (Jvm.Cond.laysFinal "LinkTimes$Search" "LinkTimes$Search" "value" "[I") ∈ lw_all := lw_g (lw_at lw_m1 160 rfl) rfl
theorem q288 : (Jvm.Cond.soleField "LinkTimes$Search" "value") ∈ lw_all := lw_g (lw_at lw_m1 161 rfl) rfl
theorem q289 : (Jvm.Cond.laysFinal "LinkTimes$Search" "LinkTimes$Search" "rides" "[I") ∈ lw_all := lw_g (lw_at lw_m1 162 rfl) rfl
theorem q290 : (Jvm.Cond.soleField "LinkTimes$Search" "rides") ∈ lw_all := lw_g (lw_at lw_m1 163 rfl) rfl
theorem q291 : (Jvm.Cond.laysFinal "LinkTimes$Search" "LinkTimes$Search" "next" "[I") ∈ lw_all := lw_g (lw_at lw_m1 164 rfl) rfl
theorem q292 : (Jvm.Cond.soleField "LinkTimes$Search" "next") ∈ lw_all := lw_g (lw_at lw_m1 165 rfl) rfl
theorem q293 : (Jvm.Cond.lays "LinkTimes$Search" "LinkTimes$Search" "many" "I") ∈ lw_all := lw_g (lw_at lw_m1 166 rfl) rfl
theorem q294 : (Jvm.Cond.soleField "LinkTimes$Search" "many") ∈ lw_all := lw_g (lw_at lw_m1 167 rfl) rfl
theorem q295 : (Jvm.Cond.lays "LinkTimes$Search" "LinkTimes$Search" "freedom" "I") ∈ lw_all := lw_g (lw_at lw_m1 168 rfl) rfl
theorem q296 : (Jvm.Cond.soleField "LinkTimes$Search" "freedom") ∈ lw_all := lw_g (lw_at lw_m1 169 rfl) rfl
theorem q297 : (Jvm.Cond.laysFinal "LinkTimes$Search" "LinkTimes$Search" "this$0" "LLinkTimes;") ∈ lw_all := lw_g (lw_at lw_m1 170 rfl) rfl
theorem q298 : (Jvm.Cond.soleField "LinkTimes$Search" "this$0") ∈ lw_all := lw_g (lw_at lw_m1 171 rfl) rfl
theorem q299 : (Jvm.Cond.superclass "LinkTimes$Search" "java/lang/Object") ∈ lw_all := lw_g (lw_at lw_m1 172 rfl) rfl
theorem q307 : (Jvm.Cond.fieldLinkNest "LinkTimes$Search" (44 : Nat) "LinkTimes" "desk" "LLinkTimes$Desk;" "LinkTimes") ∈ lw_tbl := lw_at lw_m1 180 rfl
theorem q422 : (Jvm.Cond.fieldLinkNest "LinkTimes$Search" (89 : Nat) "LinkTimes$Desk" "spots" "Ljava/util/ArrayList;" "LinkTimes") ∈ lw_tbl := lw_at lw_m2 55 rfl
theorem q429 : (Jvm.Cond.fieldLinkNest "LinkTimes$Search" (48 : Nat) "LinkTimes$Desk" "departures" "Ljava/util/ArrayList;" "LinkTimes") ∈ lw_tbl := lw_at lw_m2 62 rfl
theorem q727 : (Jvm.Cond.fieldLinkNest "LinkTimes$Search" (98 : Nat) "LinkTimes$Spot" "change" "I" "LinkTimes") ∈ lw_tbl := lw_at lw_m3 120 rfl
theorem q730 : (Jvm.Cond.fieldLinkNest "LinkTimes$Search" (101 : Nat) "LinkTimes$Spot" "wait" "I" "LinkTimes") ∈ lw_tbl := lw_at lw_m3 123 rfl
theorem q781 : (Jvm.Cond.selects "LinkTimes$Search" ({ cls := "java/lang/Object", name := "getClass", desc := "()Ljava/lang/Class;" } : Jvm.MethodName) ({ cls := "java/lang/Object", name := "getClass", desc := "()Ljava/lang/Class;" } : Jvm.MethodName)) ∈ lw_all := lw_g (lw_at lw_m3 174 rfl) rfl
theorem q850 : (Jvm.Cond.fieldLinkNest "LinkTimes$Search" (127 : Nat) "LinkTimes$Departure" "number" "I" "LinkTimes") ∈ lw_tbl := lw_at lw_m4 3 rfl
theorem q855 : (Jvm.Cond.fieldLinkNest "LinkTimes$Search" (80 : Nat) "LinkTimes$Departure" "line" "I" "LinkTimes") ∈ lw_tbl := lw_at lw_m4 8 rfl
theorem q858 : (Jvm.Cond.fieldLinkNest "LinkTimes$Search" (86 : Nat) "LinkTimes$Departure" "from" "I" "LinkTimes") ∈ lw_tbl := lw_at lw_m4 11 rfl
theorem q861 : (Jvm.Cond.fieldLinkNest "LinkTimes$Search" (83 : Nat) "LinkTimes$Departure" "to" "I" "LinkTimes") ∈ lw_tbl := lw_at lw_m4 14 rfl
theorem q864 : (Jvm.Cond.fieldLinkNest "LinkTimes$Search" (74 : Nat) "LinkTimes$Departure" "told" "I" "LinkTimes") ∈ lw_tbl := lw_at lw_m4 17 rfl
theorem q866 : (Jvm.Cond.fieldLinkNest "LinkTimes$Search" (77 : Nat) "LinkTimes$Departure" "takes" "I" "LinkTimes") ∈ lw_tbl := lw_at lw_m4 19 rfl
theorem q870 : (Jvm.Cond.fieldLinkNest "LinkTimes$Search" (64 : Nat) "LinkTimes$Departure" "runs" "Z" "LinkTimes") ∈ lw_tbl := lw_at lw_m4 23 rfl
theorem q1343 : (Jvm.Cond.instanceMethod ({ cls := "LinkTimes$Search", name := "lays", desc := "(III)LLinkTimes$Search;" } : Jvm.MethodName)) ∈ lw_all := lw_g (lw_at lw_m6 16 rfl) rfl
theorem q1344 : (Jvm.Cond.selects "LinkTimes$Search" ({ cls := "LinkTimes$Search", name := "lays", desc := "(III)LLinkTimes$Search;" } : Jvm.MethodName) ({ cls := "LinkTimes$Search", name := "lays", desc := "(III)LLinkTimes$Search;" } : Jvm.MethodName)) ∈ lw_all := lw_g (lw_at lw_m6 17 rfl) rfl
theorem q1345 : (Jvm.Cond.code ({ cls := "LinkTimes$Search", name := "lays", desc := "(III)LLinkTimes$Search;" } : Jvm.MethodName) prog_11_method_2_code (6 : Nat) (Option.some (Jvm.ClassFile.FieldType.object "LinkTimes$Search"))) ∈ lw_all := lw_g (lw_at lw_m6 18 rfl) rfl
theorem q1346 : (Jvm.Cond.methodLink "LinkTimes$Search" (54 : Nat) ({ cls := "java/util/ArrayList", name := "size", desc := "()I" } : Jvm.MethodName)) ∈ lw_all := lw_g (lw_at lw_m6 19 rfl) rfl
theorem q1347 : (Jvm.Cond.methodLink "LinkTimes$Search" (60 : Nat) ({ cls := "java/util/ArrayList", name := "get", desc := "(I)Ljava/lang/Object;" } : Jvm.MethodName)) ∈ lw_all := lw_g (lw_at lw_m6 20 rfl) rfl
theorem q1348 : (Jvm.Cond.methodLink "LinkTimes$Search" (68 : Nat) ({ cls := "LinkTimes$Departure", name := "leaves", desc := "()I" } : Jvm.MethodName)) ∈ lw_all := lw_g (lw_at lw_m6 21 rfl) rfl
theorem q1349 : (Jvm.Cond.methodLink "LinkTimes$Search" (70 : Nat) ({ cls := "LinkTimes$Search", name := "puts", desc := "(LLinkTimes$Departure;I)V" } : Jvm.MethodName)) ∈ lw_all := lw_g (lw_at lw_m6 22 rfl) rfl
theorem q1350 : (Jvm.Cond.privateMethod ({ cls := "LinkTimes$Search", name := "puts", desc := "(LLinkTimes$Departure;I)V" } : Jvm.MethodName)) ∈ lw_tbl := lw_at lw_m6 23 rfl
theorem q1351 : (Jvm.Cond.instanceMethod ({ cls := "LinkTimes$Search", name := "puts", desc := "(LLinkTimes$Departure;I)V" } : Jvm.MethodName)) ∈ lw_all := lw_g (lw_at lw_m6 24 rfl) rfl
theorem q1352 : (Jvm.Cond.code ({ cls := "LinkTimes$Search", name := "puts", desc := "(LLinkTimes$Departure;I)V" } : Jvm.MethodName) prog_11_method_5_code (4 : Nat) (Option.none : Option Jvm.ClassFile.FieldType)) ∈ lw_all := lw_g (lw_at lw_m6 25 rfl) rfl
theorem q1354 : (Jvm.Cond.instanceMethod ({ cls := "LinkTimes$Search", name := "arrives", desc := "(III)I" } : Jvm.MethodName)) ∈ lw_all := lw_g (lw_at lw_m6 27 rfl) rfl
theorem q1355 : (Jvm.Cond.selects "LinkTimes$Search" ({ cls := "LinkTimes$Search", name := "arrives", desc := "(III)I" } : Jvm.MethodName) ({ cls := "LinkTimes$Search", name := "arrives", desc := "(III)I" } : Jvm.MethodName)) ∈ lw_all := lw_g (lw_at lw_m6 28 rfl) rfl
theorem q1356 : (Jvm.Cond.code ({ cls := "LinkTimes$Search", name := "arrives", desc := "(III)I" } : Jvm.MethodName) prog_11_method_10_code (4 : Nat) (Option.some Jvm.ClassFile.FieldType.int)) ∈ lw_all := lw_g (lw_at lw_m6 29 rfl) rfl
theorem q1357 : (Jvm.Cond.methodLink "LinkTimes$Search" (118 : Nat) ({ cls := "LinkTimes$Search", name := "arrivesBy", desc := "(IIII)I" } : Jvm.MethodName)) ∈ lw_all := lw_g (lw_at lw_m6 30 rfl) rfl
theorem q1358 : (Jvm.Cond.instanceMethod ({ cls := "LinkTimes$Search", name := "arrivesBy", desc := "(IIII)I" } : Jvm.MethodName)) ∈ lw_all := lw_g (lw_at lw_m6 31 rfl) rfl
theorem q1359 : (Jvm.Cond.selects "LinkTimes$Search" ({ cls := "LinkTimes$Search", name := "arrivesBy", desc := "(IIII)I" } : Jvm.MethodName) ({ cls := "LinkTimes$Search", name := "arrivesBy", desc := "(IIII)I" } : Jvm.MethodName)) ∈ lw_all := lw_g (lw_at lw_m6 32 rfl) rfl
theorem q1360 : (Jvm.Cond.code ({ cls := "LinkTimes$Search", name := "arrivesBy", desc := "(IIII)I" } : Jvm.MethodName) prog_11_method_9_code (7 : Nat) (Option.some Jvm.ClassFile.FieldType.int)) ∈ lw_all := lw_g (lw_at lw_m6 33 rfl) rfl
theorem q1361 : (Jvm.Cond.methodLink "LinkTimes$Search" (109 : Nat) ({ cls := "LinkTimes$Search", name := "laysForwards", desc := "(II)V" } : Jvm.MethodName)) ∈ lw_all := lw_g (lw_at lw_m6 34 rfl) rfl
theorem q1362 : (Jvm.Cond.privateMethod ({ cls := "LinkTimes$Search", name := "laysForwards", desc := "(II)V" } : Jvm.MethodName)) ∈ lw_tbl := lw_at lw_m6 35 rfl
theorem q1363 : (Jvm.Cond.instanceMethod ({ cls := "LinkTimes$Search", name := "laysForwards", desc := "(II)V" } : Jvm.MethodName)) ∈ lw_all := lw_g (lw_at lw_m6 36 rfl) rfl
theorem q1364 : (Jvm.Cond.code ({ cls := "LinkTimes$Search", name := "laysForwards", desc := "(II)V" } : Jvm.MethodName) prog_11_method_8_code (5 : Nat) (Option.none : Option Jvm.ClassFile.FieldType)) ∈ lw_all := lw_g (lw_at lw_m6 37 rfl) rfl
theorem q1365 : (Jvm.Cond.constant "LinkTimes$Search" (104 : Nat) (99999 : Int32)) ∈ lw_all := lw_g (lw_at lw_m6 38 rfl) rfl
theorem q1366 : (Jvm.Cond.methodLink "LinkTimes$Search" (94 : Nat) ({ cls := "LinkTimes$Search", name := "changed", desc := "(II)I" } : Jvm.MethodName)) ∈ lw_all := lw_g (lw_at lw_m6 39 rfl) rfl
theorem q1367 : (Jvm.Cond.privateMethod ({ cls := "LinkTimes$Search", name := "changed", desc := "(II)I" } : Jvm.MethodName)) ∈ lw_tbl := lw_at lw_m6 40 rfl
theorem q1368 : (Jvm.Cond.instanceMethod ({ cls := "LinkTimes$Search", name := "changed", desc := "(II)I" } : Jvm.MethodName)) ∈ lw_all := lw_g (lw_at lw_m6 41 rfl) rfl
theorem q1369 : (Jvm.Cond.code ({ cls := "LinkTimes$Search", name := "changed", desc := "(II)I" } : Jvm.MethodName) prog_11_method_6_code (3 : Nat) (Option.some Jvm.ClassFile.FieldType.int)) ∈ lw_all := lw_g (lw_at lw_m6 42 rfl) rfl
theorem q1370 : (Jvm.Cond.methodLink "LinkTimes$Search" (105 : Nat) ({ cls := "LinkTimes$Search", name := "goesOn", desc := "(II)Z" } : Jvm.MethodName)) ∈ lw_all := lw_g (lw_at lw_m6 43 rfl) rfl
theorem q1371 : (Jvm.Cond.privateMethod ({ cls := "LinkTimes$Search", name := "goesOn", desc := "(II)Z" } : Jvm.MethodName)) ∈ lw_tbl := lw_at lw_m6 44 rfl
theorem q1372 : (Jvm.Cond.instanceMethod ({ cls := "LinkTimes$Search", name := "goesOn", desc := "(II)Z" } : Jvm.MethodName)) ∈ lw_all := lw_g (lw_at lw_m6 45 rfl) rfl
theorem q1373 : (Jvm.Cond.code ({ cls := "LinkTimes$Search", name := "goesOn", desc := "(II)Z" } : Jvm.MethodName) prog_11_method_7_code (5 : Nat) (Option.some Jvm.ClassFile.FieldType.boolean)) ∈ lw_all := lw_g (lw_at lw_m6 46 rfl) rfl
theorem q1374 : (Jvm.Cond.classLink "LinkTimes$Search" (92 : Nat) "LinkTimes$Spot") ∈ lw_all := lw_g (lw_at lw_m6 47 rfl) rfl
theorem q1375 : (Jvm.Cond.methodLink "LinkTimes$Search" (113 : Nat) ({ cls := "java/lang/Math", name := "min", desc := "(II)I" } : Jvm.MethodName)) ∈ lw_all := lw_g (lw_at lw_m6 48 rfl) rfl
theorem q1381 : (Jvm.Cond.instanceMethod ({ cls := "LinkTimes$Search", name := "best", desc := "(III)I" } : Jvm.MethodName)) ∈ lw_all := lw_g (lw_at lw_m6 54 rfl) rfl
theorem q1382 : (Jvm.Cond.selects "LinkTimes$Search" ({ cls := "LinkTimes$Search", name := "best", desc := "(III)I" } : Jvm.MethodName) ({ cls := "LinkTimes$Search", name := "best", desc := "(III)I" } : Jvm.MethodName)) ∈ lw_all := lw_g (lw_at lw_m6 55 rfl) rfl
theorem q1383 : (Jvm.Cond.code ({ cls := "LinkTimes$Search", name := "best", desc := "(III)I" } : Jvm.MethodName) prog_11_method_14_code (5 : Nat) (Option.some Jvm.ClassFile.FieldType.int)) ∈ lw_all := lw_g (lw_at lw_m6 56 rfl) rfl
theorem q1384 : (Jvm.Cond.methodLink "LinkTimes$Search" (130 : Nat) ({ cls := "LinkTimes$Search", name := "arrives", desc := "(III)I" } : Jvm.MethodName)) ∈ lw_all := lw_g (lw_at lw_m6 57 rfl) rfl
theorem q1385 : (Jvm.Cond.methodLink "LinkTimes$Search" (133 : Nat) ({ cls := "LinkTimes$Search", name := "bestBy", desc := "(IIII)I" } : Jvm.MethodName)) ∈ lw_all := lw_g (lw_at lw_m6 58 rfl) rfl
theorem q1386 : (Jvm.Cond.instanceMethod ({ cls := "LinkTimes$Search", name := "bestBy", desc := "(IIII)I" } : Jvm.MethodName)) ∈ lw_all := lw_g (lw_at lw_m6 59 rfl) rfl
theorem q1387 : (Jvm.Cond.selects "LinkTimes$Search" ({ cls := "LinkTimes$Search", name := "bestBy", desc := "(IIII)I" } : Jvm.MethodName) ({ cls := "LinkTimes$Search", name := "bestBy", desc := "(IIII)I" } : Jvm.MethodName)) ∈ lw_all := lw_g (lw_at lw_m6 60 rfl) rfl
theorem q1388 : (Jvm.Cond.code ({ cls := "LinkTimes$Search", name := "bestBy", desc := "(IIII)I" } : Jvm.MethodName) prog_11_method_15_code (7 : Nat) (Option.some Jvm.ClassFile.FieldType.int)) ∈ lw_all := lw_g (lw_at lw_m6 61 rfl) rfl
theorem q1389 : (Jvm.Cond.methodLink "LinkTimes$Search" (136 : Nat) ({ cls := "LinkTimes$Search", name := "laysBackwards", desc := "(II)V" } : Jvm.MethodName)) ∈ lw_all := lw_g (lw_at lw_m6 62 rfl) rfl
theorem q1390 : (Jvm.Cond.privateMethod ({ cls := "LinkTimes$Search", name := "laysBackwards", desc := "(II)V" } : Jvm.MethodName)) ∈ lw_tbl := lw_at lw_m6 63 rfl
theorem q1391 : (Jvm.Cond.instanceMethod ({ cls := "LinkTimes$Search", name := "laysBackwards", desc := "(II)V" } : Jvm.MethodName)) ∈ lw_all := lw_g (lw_at lw_m6 64 rfl) rfl
theorem q1392 : (Jvm.Cond.code ({ cls := "LinkTimes$Search", name := "laysBackwards", desc := "(II)V" } : Jvm.MethodName) prog_11_method_11_code (6 : Nat) (Option.none : Option Jvm.ClassFile.FieldType)) ∈ lw_all := lw_g (lw_at lw_m6 65 rfl) rfl
theorem q1393 : (Jvm.Cond.methodLink "LinkTimes$Search" (122 : Nat) ({ cls := "LinkTimes$Search", name := "isBetter", desc := "(II)Z" } : Jvm.MethodName)) ∈ lw_all := lw_g (lw_at lw_m6 66 rfl) rfl
theorem q1394 : (Jvm.Cond.privateMethod ({ cls := "LinkTimes$Search", name := "isBetter", desc := "(II)Z" } : Jvm.MethodName)) ∈ lw_tbl := lw_at lw_m6 67 rfl
theorem q1395 : (Jvm.Cond.instanceMethod ({ cls := "LinkTimes$Search", name := "isBetter", desc := "(II)Z" } : Jvm.MethodName)) ∈ lw_all := lw_g (lw_at lw_m6 68 rfl) rfl
theorem q1396 : (Jvm.Cond.code ({ cls := "LinkTimes$Search", name := "isBetter", desc := "(II)Z" } : Jvm.MethodName) prog_11_method_13_code (4 : Nat) (Option.some Jvm.ClassFile.FieldType.boolean)) ∈ lw_all := lw_g (lw_at lw_m6 69 rfl) rfl
theorem q1397 : (Jvm.Cond.methodLink "LinkTimes$Search" (125 : Nat) ({ cls := "LinkTimes$Search", name := "puts", desc := "(II)V" } : Jvm.MethodName)) ∈ lw_all := lw_g (lw_at lw_m6 70 rfl) rfl
theorem q1398 : (Jvm.Cond.privateMethod ({ cls := "LinkTimes$Search", name := "puts", desc := "(II)V" } : Jvm.MethodName)) ∈ lw_tbl := lw_at lw_m6 71 rfl
theorem q1399 : (Jvm.Cond.instanceMethod ({ cls := "LinkTimes$Search", name := "puts", desc := "(II)V" } : Jvm.MethodName)) ∈ lw_all := lw_g (lw_at lw_m6 72 rfl) rfl
theorem q1400 : (Jvm.Cond.code ({ cls := "LinkTimes$Search", name := "puts", desc := "(II)V" } : Jvm.MethodName) prog_11_method_12_code (3 : Nat) (Option.none : Option Jvm.ClassFile.FieldType)) ∈ lw_all := lw_g (lw_at lw_m6 73 rfl) rfl
theorem q1401 : (Jvm.Cond.methodLink "LinkTimes$Search" (139 : Nat) ({ cls := "LinkTimes$Search", name := "isAhead", desc := "(II)Z" } : Jvm.MethodName)) ∈ lw_all := lw_g (lw_at lw_m6 74 rfl) rfl
theorem q1402 : (Jvm.Cond.privateMethod ({ cls := "LinkTimes$Search", name := "isAhead", desc := "(II)Z" } : Jvm.MethodName)) ∈ lw_tbl := lw_at lw_m6 75 rfl
theorem q1403 : (Jvm.Cond.instanceMethod ({ cls := "LinkTimes$Search", name := "isAhead", desc := "(II)Z" } : Jvm.MethodName)) ∈ lw_all := lw_g (lw_at lw_m6 76 rfl) rfl
theorem q1404 : (Jvm.Cond.code ({ cls := "LinkTimes$Search", name := "isAhead", desc := "(II)Z" } : Jvm.MethodName) prog_11_method_16_code (3 : Nat) (Option.some Jvm.ClassFile.FieldType.boolean)) ∈ lw_all := lw_g (lw_at lw_m6 77 rfl) rfl
theorem q1445 : (Jvm.Cond.instanceMethod ({ cls := "LinkTimes$Search", name := "latest", desc := "(III)I" } : Jvm.MethodName)) ∈ lw_all := lw_g (lw_at lw_m6 118 rfl) rfl
theorem q1446 : (Jvm.Cond.selects "LinkTimes$Search" ({ cls := "LinkTimes$Search", name := "latest", desc := "(III)I" } : Jvm.MethodName) ({ cls := "LinkTimes$Search", name := "latest", desc := "(III)I" } : Jvm.MethodName)) ∈ lw_all := lw_g (lw_at lw_m6 119 rfl) rfl
theorem q1447 : (Jvm.Cond.code ({ cls := "LinkTimes$Search", name := "latest", desc := "(III)I" } : Jvm.MethodName) prog_11_method_18_code (6 : Nat) (Option.some Jvm.ClassFile.FieldType.int)) ∈ lw_all := lw_g (lw_at lw_m6 120 rfl) rfl
theorem q1448 : (Jvm.Cond.methodLink "LinkTimes$Search" (142 : Nat) ({ cls := "LinkTimes$Search", name := "laysFirst", desc := "(I)V" } : Jvm.MethodName)) ∈ lw_all := lw_g (lw_at lw_m6 121 rfl) rfl
theorem q1449 : (Jvm.Cond.instanceMethod ({ cls := "LinkTimes$Search", name := "laysFirst", desc := "(I)V" } : Jvm.MethodName)) ∈ lw_all := lw_g (lw_at lw_m6 122 rfl) rfl
theorem q1450 : (Jvm.Cond.selects "LinkTimes$Search" ({ cls := "LinkTimes$Search", name := "laysFirst", desc := "(I)V" } : Jvm.MethodName) ({ cls := "LinkTimes$Search", name := "laysFirst", desc := "(I)V" } : Jvm.MethodName)) ∈ lw_all := lw_g (lw_at lw_m6 123 rfl) rfl
theorem q1451 : (Jvm.Cond.code ({ cls := "LinkTimes$Search", name := "laysFirst", desc := "(I)V" } : Jvm.MethodName) prog_11_method_17_code (4 : Nat) (Option.none : Option Jvm.ClassFile.FieldType)) ∈ lw_all := lw_g (lw_at lw_m6 124 rfl) rfl
theorem q1452 : (Jvm.Cond.methodLink "LinkTimes$Search" (146 : Nat) ({ cls := "java/lang/Math", name := "max", desc := "(II)I" } : Jvm.MethodName)) ∈ lw_all := lw_g (lw_at lw_m6 125 rfl) rfl
theorem q1514 : (Jvm.Cond.instanceMethod ({ cls := "LinkTimes$Search", name := "laysRest", desc := "([Z)LLinkTimes$Search;" } : Jvm.MethodName)) ∈ lw_all := lw_g (lw_at lw_m6 187 rfl) rfl
theorem q1515 : (Jvm.Cond.selects "LinkTimes$Search" ({ cls := "LinkTimes$Search", name := "laysRest", desc := "([Z)LLinkTimes$Search;" } : Jvm.MethodName) ({ cls := "LinkTimes$Search", name := "laysRest", desc := "([Z)LLinkTimes$Search;" } : Jvm.MethodName)) ∈ lw_all := lw_g (lw_at lw_m6 188 rfl) rfl
theorem q1516 : (Jvm.Cond.code ({ cls := "LinkTimes$Search", name := "laysRest", desc := "([Z)LLinkTimes$Search;" } : Jvm.MethodName) prog_11_method_3_code (3 : Nat) (Option.some (Jvm.ClassFile.FieldType.object "LinkTimes$Search"))) ∈ lw_all := lw_g (lw_at lw_m6 189 rfl) rfl
theorem q1580 : (Jvm.Cond.instanceMethod ({ cls := "LinkTimes$Search", name := "laysAll", desc := "(I)LLinkTimes$Search;" } : Jvm.MethodName)) ∈ lw_all := lw_g (lw_at lw_m7 13 rfl) rfl
theorem q1581 : (Jvm.Cond.selects "LinkTimes$Search" ({ cls := "LinkTimes$Search", name := "laysAll", desc := "(I)LLinkTimes$Search;" } : Jvm.MethodName) ({ cls := "LinkTimes$Search", name := "laysAll", desc := "(I)LLinkTimes$Search;" } : Jvm.MethodName)) ∈ lw_all := lw_g (lw_at lw_m7 14 rfl) rfl
theorem q1582 : (Jvm.Cond.code ({ cls := "LinkTimes$Search", name := "laysAll", desc := "(I)LLinkTimes$Search;" } : Jvm.MethodName) prog_11_method_4_code (3 : Nat) (Option.some (Jvm.ClassFile.FieldType.object "LinkTimes$Search"))) ∈ lw_all := lw_g (lw_at lw_m7 15 rfl) rfl
theorem q2394 : (Jvm.Cond.castable "LinkTimes$Search" "java/lang/Object") ∈ lw_tbl := lw_at lw_m10 107 rfl

/-! LinkTimes$Reader -/
set_option maxRecDepth 100000
abbrev cX5_init : ByteArray := prog_10_method_1_code
def yX5_init : MethodName := ⟨RX5, "<init>", "(LLinkTimes;I)V"⟩
def dkwX5_init_1 : List UInt8 := [181, 0, 22, 177]
abbrev dktX5_init_1 : List UInt8 := dkwX5_init_1 ++ []
def dkwX5_init_0 : List UInt8 := [42, 43, 181, 0, 3, 42, 183, 0, 9, 42, 187, 0, 15, 89, 183, 0, 17, 181, 0, 18, 42, 28]
abbrev dktX5_init_0 : List UInt8 := dkwX5_init_0 ++ dktX5_init_1
theorem dksX5_init_0 : cX5_init.data.toList.drop 0 = dktX5_init_0 := by decide +kernel
theorem dksX5_init_1 : cX5_init.data.toList.drop 22 = dktX5_init_1 := dk_seg dksX5_init_0 22 rfl rfl
theorem dX5_init_0 : decode cX5_init 0 = .ok (.aload_n 0, 1) := dk_42 (dk_at dksX5_init_0 0 rfl rfl)
theorem dX5_init_1 : decode cX5_init 1 = .ok (.aload_n 1, 1) := dk_43 (dk_at dksX5_init_0 1 rfl rfl)
theorem dX5_init_2 : decode cX5_init 2 = .ok (.putfield 3, 3) := dk_181 0 3 (dk_at dksX5_init_0 2 rfl rfl)
theorem dX5_init_5 : decode cX5_init 5 = .ok (.aload_n 0, 1) := dk_42 (dk_at dksX5_init_0 5 rfl rfl)
theorem dX5_init_6 : decode cX5_init 6 = .ok (.invokespecial 9, 3) := dk_183 0 9 (dk_at dksX5_init_0 6 rfl rfl)
theorem dX5_init_9 : decode cX5_init 9 = .ok (.aload_n 0, 1) := dk_42 (dk_at dksX5_init_0 9 rfl rfl)
theorem dX5_init_10 : decode cX5_init 10 = .ok (.new 15, 3) := dk_187 0 15 (dk_at dksX5_init_0 10 rfl rfl)
theorem dX5_init_13 : decode cX5_init 13 = .ok (.dup, 1) := dk_89 (dk_at dksX5_init_0 13 rfl rfl)
theorem dX5_init_14 : decode cX5_init 14 = .ok (.invokespecial 17, 3) := dk_183 0 17 (dk_at dksX5_init_0 14 rfl rfl)
theorem dX5_init_17 : decode cX5_init 17 = .ok (.putfield 18, 3) := dk_181 0 18 (dk_at dksX5_init_0 17 rfl rfl)
theorem dX5_init_20 : decode cX5_init 20 = .ok (.aload_n 0, 1) := dk_42 (dk_at dksX5_init_0 20 rfl rfl)
theorem dX5_init_21 : decode cX5_init 21 = .ok (.iload_n 2, 1) := dk_28 (dk_at dksX5_init_0 21 rfl rfl)
theorem dX5_init_22 : decode cX5_init 22 = .ok (.putfield 22, 3) := dk_181 0 22 (dk_at dksX5_init_1 0 rfl rfl)
theorem dX5_init_25 : decode cX5_init 25 = .ok (.return_, 1) := dk_177 (dk_at dksX5_init_1 3 rfl rfl)
abbrev cX5_read : ByteArray := prog_10_method_16_code
def yX5_read : MethodName := ⟨RX5, "read", "()LLinkTimes$Desk;"⟩
def dkwX5_read_3 : List UInt8 := [167, 0, 13, 76, 187, 0, 132, 89, 43, 183, 0, 134, 191, 42, 180, 0, 18, 176]
abbrev dktX5_read_3 : List UInt8 := dkwX5_read_3 ++ []
def dkwX5_read_2 : List UInt8 := [180, 0, 18, 180, 0, 122, 182, 0, 126, 154, 0, 7, 4, 167, 0, 4, 3, 16, 6, 182, 0, 87]
abbrev dktX5_read_2 : List UInt8 := dkwX5_read_2 ++ dktX5_read_3
def dkwX5_read_1 : List UInt8 := [167, 255, 240, 42, 42, 180, 0, 44, 4, 160, 0, 7, 4, 167, 0, 4, 3, 4, 182, 0, 87, 42, 42]
abbrev dktX5_read_1 : List UInt8 := dkwX5_read_1 ++ dktX5_read_2
def dkwX5_read_0 : List UInt8 := [42, 182, 0, 95, 42, 182, 0, 120, 42, 180, 0, 44, 7, 160, 0, 14, 42, 182, 0, 95, 42, 182, 0, 120]
abbrev dktX5_read_0 : List UInt8 := dkwX5_read_0 ++ dktX5_read_1
theorem dksX5_read_0 : cX5_read.data.toList.drop 0 = dktX5_read_0 := by decide +kernel
theorem dksX5_read_1 : cX5_read.data.toList.drop 24 = dktX5_read_1 := dk_seg dksX5_read_0 24 rfl rfl
theorem dksX5_read_2 : cX5_read.data.toList.drop 47 = dktX5_read_2 := dk_seg dksX5_read_1 23 rfl rfl
theorem dksX5_read_3 : cX5_read.data.toList.drop 69 = dktX5_read_3 := dk_seg dksX5_read_2 22 rfl rfl
theorem dX5_read_0 : decode cX5_read 0 = .ok (.aload_n 0, 1) := dk_42 (dk_at dksX5_read_0 0 rfl rfl)
theorem dX5_read_1 : decode cX5_read 1 = .ok (.invokevirtual 95, 3) := dk_182 0 95 (dk_at dksX5_read_0 1 rfl rfl)
theorem dX5_read_4 : decode cX5_read 4 = .ok (.aload_n 0, 1) := dk_42 (dk_at dksX5_read_0 4 rfl rfl)
theorem dX5_read_5 : decode cX5_read 5 = .ok (.invokevirtual 120, 3) := dk_182 0 120 (dk_at dksX5_read_0 5 rfl rfl)
theorem dX5_read_8 : decode cX5_read 8 = .ok (.aload_n 0, 1) := dk_42 (dk_at dksX5_read_0 8 rfl rfl)
theorem dX5_read_9 : decode cX5_read 9 = .ok (.getfield 44, 3) := dk_180 0 44 (dk_at dksX5_read_0 9 rfl rfl)
theorem dX5_read_12 : decode cX5_read 12 = .ok (.iconst 4, 1) := dk_7 (dk_at dksX5_read_0 12 rfl rfl)
theorem dX5_read_13 : decode cX5_read 13 = .ok (.if_icmp .ne 14, 3) := dk_160 0 14 (dk_at dksX5_read_0 13 rfl rfl)
theorem dX5_read_16 : decode cX5_read 16 = .ok (.aload_n 0, 1) := dk_42 (dk_at dksX5_read_0 16 rfl rfl)
theorem dX5_read_17 : decode cX5_read 17 = .ok (.invokevirtual 95, 3) := dk_182 0 95 (dk_at dksX5_read_0 17 rfl rfl)
theorem dX5_read_20 : decode cX5_read 20 = .ok (.aload_n 0, 1) := dk_42 (dk_at dksX5_read_0 20 rfl rfl)
theorem dX5_read_21 : decode cX5_read 21 = .ok (.invokevirtual 120, 3) := dk_182 0 120 (dk_at dksX5_read_0 21 rfl rfl)
theorem dX5_read_24 : decode cX5_read 24 = .ok (.goto (-16), 3) := dk_167 255 240 (dk_at dksX5_read_1 0 rfl rfl)
theorem dX5_read_27 : decode cX5_read 27 = .ok (.aload_n 0, 1) := dk_42 (dk_at dksX5_read_1 3 rfl rfl)
theorem dX5_read_28 : decode cX5_read 28 = .ok (.aload_n 0, 1) := dk_42 (dk_at dksX5_read_1 4 rfl rfl)
theorem dX5_read_29 : decode cX5_read 29 = .ok (.getfield 44, 3) := dk_180 0 44 (dk_at dksX5_read_1 5 rfl rfl)
theorem dX5_read_32 : decode cX5_read 32 = .ok (.iconst 1, 1) := dk_4 (dk_at dksX5_read_1 8 rfl rfl)
theorem dX5_read_33 : decode cX5_read 33 = .ok (.if_icmp .ne 7, 3) := dk_160 0 7 (dk_at dksX5_read_1 9 rfl rfl)
theorem dX5_read_36 : decode cX5_read 36 = .ok (.iconst 1, 1) := dk_4 (dk_at dksX5_read_1 12 rfl rfl)
theorem dX5_read_37 : decode cX5_read 37 = .ok (.goto 4, 3) := dk_167 0 4 (dk_at dksX5_read_1 13 rfl rfl)
theorem dX5_read_40 : decode cX5_read 40 = .ok (.iconst 0, 1) := dk_3 (dk_at dksX5_read_1 16 rfl rfl)
theorem dX5_read_41 : decode cX5_read 41 = .ok (.iconst 1, 1) := dk_4 (dk_at dksX5_read_1 17 rfl rfl)
theorem dX5_read_42 : decode cX5_read 42 = .ok (.invokevirtual 87, 3) := dk_182 0 87 (dk_at dksX5_read_1 18 rfl rfl)
theorem dX5_read_45 : decode cX5_read 45 = .ok (.aload_n 0, 1) := dk_42 (dk_at dksX5_read_1 21 rfl rfl)
theorem dX5_read_46 : decode cX5_read 46 = .ok (.aload_n 0, 1) := dk_42 (dk_at dksX5_read_1 22 rfl rfl)
theorem dX5_read_47 : decode cX5_read 47 = .ok (.getfield 18, 3) := dk_180 0 18 (dk_at dksX5_read_2 0 rfl rfl)
theorem dX5_read_50 : decode cX5_read 50 = .ok (.getfield 122, 3) := dk_180 0 122 (dk_at dksX5_read_2 3 rfl rfl)
theorem dX5_read_53 : decode cX5_read 53 = .ok (.invokevirtual 126, 3) := dk_182 0 126 (dk_at dksX5_read_2 6 rfl rfl)
theorem dX5_read_56 : decode cX5_read 56 = .ok (.ifCond .ne 7, 3) := dk_154 0 7 (dk_at dksX5_read_2 9 rfl rfl)
theorem dX5_read_59 : decode cX5_read 59 = .ok (.iconst 1, 1) := dk_4 (dk_at dksX5_read_2 12 rfl rfl)
theorem dX5_read_60 : decode cX5_read 60 = .ok (.goto 4, 3) := dk_167 0 4 (dk_at dksX5_read_2 13 rfl rfl)
theorem dX5_read_63 : decode cX5_read 63 = .ok (.iconst 0, 1) := dk_3 (dk_at dksX5_read_2 16 rfl rfl)
theorem dX5_read_64 : decode cX5_read 64 = .ok (.bipush 6, 2) := dk_16 6 (dk_at dksX5_read_2 17 rfl rfl)
theorem dX5_read_66 : decode cX5_read 66 = .ok (.invokevirtual 87, 3) := dk_182 0 87 (dk_at dksX5_read_2 19 rfl rfl)
theorem dX5_read_69 : decode cX5_read 69 = .ok (.goto 13, 3) := dk_167 0 13 (dk_at dksX5_read_3 0 rfl rfl)
theorem dX5_read_72 : decode cX5_read 72 = .ok (.astore_n 1, 1) := dk_76 (dk_at dksX5_read_3 3 rfl rfl)
theorem dX5_read_73 : decode cX5_read 73 = .ok (.new 132, 3) := dk_187 0 132 (dk_at dksX5_read_3 4 rfl rfl)
theorem dX5_read_76 : decode cX5_read 76 = .ok (.dup, 1) := dk_89 (dk_at dksX5_read_3 7 rfl rfl)
theorem dX5_read_77 : decode cX5_read 77 = .ok (.aload_n 1, 1) := dk_43 (dk_at dksX5_read_3 8 rfl rfl)
theorem dX5_read_78 : decode cX5_read 78 = .ok (.invokespecial 134, 3) := dk_183 0 134 (dk_at dksX5_read_3 9 rfl rfl)
theorem dX5_read_81 : decode cX5_read 81 = .ok (.athrow, 1) := dk_191 (dk_at dksX5_read_3 12 rfl rfl)
theorem dX5_read_82 : decode cX5_read 82 = .ok (.aload_n 0, 1) := dk_42 (dk_at dksX5_read_3 13 rfl rfl)
theorem dX5_read_83 : decode cX5_read 83 = .ok (.getfield 18, 3) := dk_180 0 18 (dk_at dksX5_read_3 14 rfl rfl)
theorem dX5_read_86 : decode cX5_read 86 = .ok (.areturn, 1) := dk_176 (dk_at dksX5_read_3 17 rfl rfl)
abbrev cX5_go : ByteArray := prog_10_method_5_code
def yX5_go : MethodName := ⟨RX5, "go", "()V"⟩
def dkwX5_go_5 : List UInt8 := [167, 0, 4, 3, 181, 0, 44, 42, 89, 180, 0, 38, 4, 96, 181, 0, 38, 177]
abbrev dktX5_go_5 : List UInt8 := dkwX5_go_5 ++ []
def dkwX5_go_4 : List UInt8 := [42, 182, 0, 57, 167, 0, 35, 42, 42, 42, 180, 0, 38, 182, 0, 30, 16, 59, 160, 0, 7, 7]
abbrev dktX5_go_4 : List UInt8 := dkwX5_go_4 ++ dktX5_go_5
def dkwX5_go_3 : List UInt8 := [182, 0, 47, 153, 0, 10, 42, 182, 0, 51, 167, 0, 53, 42, 42, 180, 0, 38, 182, 0, 54, 153, 0, 10]
abbrev dktX5_go_3 : List UInt8 := dkwX5_go_3 ++ dktX5_go_4
def dkwX5_go_2 : List UInt8 := [180, 0, 38, 42, 180, 0, 22, 161, 0, 11, 42, 4, 181, 0, 44, 167, 0, 71, 42, 42, 180, 0, 38]
abbrev dktX5_go_2 : List UInt8 := dkwX5_go_2 ++ dktX5_go_3
def dkwX5_go_1 : List UInt8 := [42, 89, 180, 0, 38, 4, 96, 181, 0, 38, 167, 255, 222, 42, 42, 180, 0, 38, 181, 0, 41, 42]
abbrev dktX5_go_1 : List UInt8 := dkwX5_go_1 ++ dktX5_go_2
def dkwX5_go_0 : List UInt8 := [42, 180, 0, 38, 42, 180, 0, 22, 162, 0, 29, 42, 42, 180, 0, 38, 182, 0, 30, 16, 32, 160, 0, 16]
abbrev dktX5_go_0 : List UInt8 := dkwX5_go_0 ++ dktX5_go_1
theorem dksX5_go_0 : cX5_go.data.toList.drop 0 = dktX5_go_0 := by decide +kernel
theorem dksX5_go_1 : cX5_go.data.toList.drop 24 = dktX5_go_1 := dk_seg dksX5_go_0 24 rfl rfl
theorem dksX5_go_2 : cX5_go.data.toList.drop 46 = dktX5_go_2 := dk_seg dksX5_go_1 22 rfl rfl
theorem dksX5_go_3 : cX5_go.data.toList.drop 69 = dktX5_go_3 := dk_seg dksX5_go_2 23 rfl rfl
theorem dksX5_go_4 : cX5_go.data.toList.drop 93 = dktX5_go_4 := dk_seg dksX5_go_3 24 rfl rfl
theorem dksX5_go_5 : cX5_go.data.toList.drop 115 = dktX5_go_5 := dk_seg dksX5_go_4 22 rfl rfl
theorem dX5_go_0 : decode cX5_go 0 = .ok (.aload_n 0, 1) := dk_42 (dk_at dksX5_go_0 0 rfl rfl)
theorem dX5_go_1 : decode cX5_go 1 = .ok (.getfield 38, 3) := dk_180 0 38 (dk_at dksX5_go_0 1 rfl rfl)
theorem dX5_go_4 : decode cX5_go 4 = .ok (.aload_n 0, 1) := dk_42 (dk_at dksX5_go_0 4 rfl rfl)
theorem dX5_go_5 : decode cX5_go 5 = .ok (.getfield 22, 3) := dk_180 0 22 (dk_at dksX5_go_0 5 rfl rfl)
theorem dX5_go_8 : decode cX5_go 8 = .ok (.if_icmp .ge 29, 3) := dk_162 0 29 (dk_at dksX5_go_0 8 rfl rfl)
theorem dX5_go_11 : decode cX5_go 11 = .ok (.aload_n 0, 1) := dk_42 (dk_at dksX5_go_0 11 rfl rfl)
theorem dX5_go_12 : decode cX5_go 12 = .ok (.aload_n 0, 1) := dk_42 (dk_at dksX5_go_0 12 rfl rfl)
theorem dX5_go_13 : decode cX5_go 13 = .ok (.getfield 38, 3) := dk_180 0 38 (dk_at dksX5_go_0 13 rfl rfl)
theorem dX5_go_16 : decode cX5_go 16 = .ok (.invokevirtual 30, 3) := dk_182 0 30 (dk_at dksX5_go_0 16 rfl rfl)
theorem dX5_go_19 : decode cX5_go 19 = .ok (.bipush 32, 2) := dk_16 32 (dk_at dksX5_go_0 19 rfl rfl)
theorem dX5_go_21 : decode cX5_go 21 = .ok (.if_icmp .ne 16, 3) := dk_160 0 16 (dk_at dksX5_go_0 21 rfl rfl)
theorem dX5_go_24 : decode cX5_go 24 = .ok (.aload_n 0, 1) := dk_42 (dk_at dksX5_go_1 0 rfl rfl)
theorem dX5_go_25 : decode cX5_go 25 = .ok (.dup, 1) := dk_89 (dk_at dksX5_go_1 1 rfl rfl)
theorem dX5_go_26 : decode cX5_go 26 = .ok (.getfield 38, 3) := dk_180 0 38 (dk_at dksX5_go_1 2 rfl rfl)
theorem dX5_go_29 : decode cX5_go 29 = .ok (.iconst 1, 1) := dk_4 (dk_at dksX5_go_1 5 rfl rfl)
theorem dX5_go_30 : decode cX5_go 30 = .ok (.iadd, 1) := dk_96 (dk_at dksX5_go_1 6 rfl rfl)
theorem dX5_go_31 : decode cX5_go 31 = .ok (.putfield 38, 3) := dk_181 0 38 (dk_at dksX5_go_1 7 rfl rfl)
theorem dX5_go_34 : decode cX5_go 34 = .ok (.goto (-34), 3) := dk_167 255 222 (dk_at dksX5_go_1 10 rfl rfl)
theorem dX5_go_37 : decode cX5_go 37 = .ok (.aload_n 0, 1) := dk_42 (dk_at dksX5_go_1 13 rfl rfl)
theorem dX5_go_38 : decode cX5_go 38 = .ok (.aload_n 0, 1) := dk_42 (dk_at dksX5_go_1 14 rfl rfl)
theorem dX5_go_39 : decode cX5_go 39 = .ok (.getfield 38, 3) := dk_180 0 38 (dk_at dksX5_go_1 15 rfl rfl)
theorem dX5_go_42 : decode cX5_go 42 = .ok (.putfield 41, 3) := dk_181 0 41 (dk_at dksX5_go_1 18 rfl rfl)
theorem dX5_go_45 : decode cX5_go 45 = .ok (.aload_n 0, 1) := dk_42 (dk_at dksX5_go_1 21 rfl rfl)
theorem dX5_go_46 : decode cX5_go 46 = .ok (.getfield 38, 3) := dk_180 0 38 (dk_at dksX5_go_2 0 rfl rfl)
theorem dX5_go_49 : decode cX5_go 49 = .ok (.aload_n 0, 1) := dk_42 (dk_at dksX5_go_2 3 rfl rfl)
theorem dX5_go_50 : decode cX5_go 50 = .ok (.getfield 22, 3) := dk_180 0 22 (dk_at dksX5_go_2 4 rfl rfl)
theorem dX5_go_53 : decode cX5_go 53 = .ok (.if_icmp .lt 11, 3) := dk_161 0 11 (dk_at dksX5_go_2 7 rfl rfl)
theorem dX5_go_56 : decode cX5_go 56 = .ok (.aload_n 0, 1) := dk_42 (dk_at dksX5_go_2 10 rfl rfl)
theorem dX5_go_57 : decode cX5_go 57 = .ok (.iconst 1, 1) := dk_4 (dk_at dksX5_go_2 11 rfl rfl)
theorem dX5_go_58 : decode cX5_go 58 = .ok (.putfield 44, 3) := dk_181 0 44 (dk_at dksX5_go_2 12 rfl rfl)
theorem dX5_go_61 : decode cX5_go 61 = .ok (.goto 71, 3) := dk_167 0 71 (dk_at dksX5_go_2 15 rfl rfl)
theorem dX5_go_64 : decode cX5_go 64 = .ok (.aload_n 0, 1) := dk_42 (dk_at dksX5_go_2 18 rfl rfl)
theorem dX5_go_65 : decode cX5_go 65 = .ok (.aload_n 0, 1) := dk_42 (dk_at dksX5_go_2 19 rfl rfl)
theorem dX5_go_66 : decode cX5_go 66 = .ok (.getfield 38, 3) := dk_180 0 38 (dk_at dksX5_go_2 20 rfl rfl)
theorem dX5_go_69 : decode cX5_go 69 = .ok (.invokevirtual 47, 3) := dk_182 0 47 (dk_at dksX5_go_3 0 rfl rfl)
theorem dX5_go_72 : decode cX5_go 72 = .ok (.ifCond .eq 10, 3) := dk_153 0 10 (dk_at dksX5_go_3 3 rfl rfl)
theorem dX5_go_75 : decode cX5_go 75 = .ok (.aload_n 0, 1) := dk_42 (dk_at dksX5_go_3 6 rfl rfl)
theorem dX5_go_76 : decode cX5_go 76 = .ok (.invokevirtual 51, 3) := dk_182 0 51 (dk_at dksX5_go_3 7 rfl rfl)
theorem dX5_go_79 : decode cX5_go 79 = .ok (.goto 53, 3) := dk_167 0 53 (dk_at dksX5_go_3 10 rfl rfl)
theorem dX5_go_82 : decode cX5_go 82 = .ok (.aload_n 0, 1) := dk_42 (dk_at dksX5_go_3 13 rfl rfl)
theorem dX5_go_83 : decode cX5_go 83 = .ok (.aload_n 0, 1) := dk_42 (dk_at dksX5_go_3 14 rfl rfl)
theorem dX5_go_84 : decode cX5_go 84 = .ok (.getfield 38, 3) := dk_180 0 38 (dk_at dksX5_go_3 15 rfl rfl)
theorem dX5_go_87 : decode cX5_go 87 = .ok (.invokevirtual 54, 3) := dk_182 0 54 (dk_at dksX5_go_3 18 rfl rfl)
theorem dX5_go_90 : decode cX5_go 90 = .ok (.ifCond .eq 10, 3) := dk_153 0 10 (dk_at dksX5_go_3 21 rfl rfl)
theorem dX5_go_93 : decode cX5_go 93 = .ok (.aload_n 0, 1) := dk_42 (dk_at dksX5_go_4 0 rfl rfl)
theorem dX5_go_94 : decode cX5_go 94 = .ok (.invokevirtual 57, 3) := dk_182 0 57 (dk_at dksX5_go_4 1 rfl rfl)
theorem dX5_go_97 : decode cX5_go 97 = .ok (.goto 35, 3) := dk_167 0 35 (dk_at dksX5_go_4 4 rfl rfl)
theorem dX5_go_100 : decode cX5_go 100 = .ok (.aload_n 0, 1) := dk_42 (dk_at dksX5_go_4 7 rfl rfl)
theorem dX5_go_101 : decode cX5_go 101 = .ok (.aload_n 0, 1) := dk_42 (dk_at dksX5_go_4 8 rfl rfl)
theorem dX5_go_102 : decode cX5_go 102 = .ok (.aload_n 0, 1) := dk_42 (dk_at dksX5_go_4 9 rfl rfl)
theorem dX5_go_103 : decode cX5_go 103 = .ok (.getfield 38, 3) := dk_180 0 38 (dk_at dksX5_go_4 10 rfl rfl)
theorem dX5_go_106 : decode cX5_go 106 = .ok (.invokevirtual 30, 3) := dk_182 0 30 (dk_at dksX5_go_4 13 rfl rfl)
theorem dX5_go_109 : decode cX5_go 109 = .ok (.bipush 59, 2) := dk_16 59 (dk_at dksX5_go_4 16 rfl rfl)
theorem dX5_go_111 : decode cX5_go 111 = .ok (.if_icmp .ne 7, 3) := dk_160 0 7 (dk_at dksX5_go_4 18 rfl rfl)
theorem dX5_go_114 : decode cX5_go 114 = .ok (.iconst 4, 1) := dk_7 (dk_at dksX5_go_4 21 rfl rfl)
theorem dX5_go_115 : decode cX5_go 115 = .ok (.goto 4, 3) := dk_167 0 4 (dk_at dksX5_go_5 0 rfl rfl)
theorem dX5_go_118 : decode cX5_go 118 = .ok (.iconst 0, 1) := dk_3 (dk_at dksX5_go_5 3 rfl rfl)
theorem dX5_go_119 : decode cX5_go 119 = .ok (.putfield 44, 3) := dk_181 0 44 (dk_at dksX5_go_5 4 rfl rfl)
theorem dX5_go_122 : decode cX5_go 122 = .ok (.aload_n 0, 1) := dk_42 (dk_at dksX5_go_5 7 rfl rfl)
theorem dX5_go_123 : decode cX5_go 123 = .ok (.dup, 1) := dk_89 (dk_at dksX5_go_5 8 rfl rfl)
theorem dX5_go_124 : decode cX5_go 124 = .ok (.getfield 38, 3) := dk_180 0 38 (dk_at dksX5_go_5 9 rfl rfl)
theorem dX5_go_127 : decode cX5_go 127 = .ok (.iconst 1, 1) := dk_4 (dk_at dksX5_go_5 12 rfl rfl)
theorem dX5_go_128 : decode cX5_go 128 = .ok (.iadd, 1) := dk_96 (dk_at dksX5_go_5 13 rfl rfl)
theorem dX5_go_129 : decode cX5_go 129 = .ok (.putfield 38, 3) := dk_181 0 38 (dk_at dksX5_go_5 14 rfl rfl)
theorem dX5_go_132 : decode cX5_go 132 = .ok (.return_, 1) := dk_177 (dk_at dksX5_go_5 17 rfl rfl)
abbrev cX5_byteAt : ByteArray := prog_10_method_2_code
def yX5_byteAt : MethodName := ⟨RX5, "byteAt", "(I)I"⟩
def dkwX5_byteAt_1 : List UInt8 := [3, 172]
abbrev dktX5_byteAt_1 : List UInt8 := dkwX5_byteAt_1 ++ []
def dkwX5_byteAt_0 : List UInt8 := [27, 42, 180, 0, 22, 162, 0, 19, 42, 180, 0, 3, 180, 0, 26, 27, 51, 17, 0, 255, 126, 167, 0, 4]
abbrev dktX5_byteAt_0 : List UInt8 := dkwX5_byteAt_0 ++ dktX5_byteAt_1
theorem dksX5_byteAt_0 : cX5_byteAt.data.toList.drop 0 = dktX5_byteAt_0 := by decide +kernel
theorem dksX5_byteAt_1 : cX5_byteAt.data.toList.drop 24 = dktX5_byteAt_1 := dk_seg dksX5_byteAt_0 24 rfl rfl
theorem dX5_byteAt_0 : decode cX5_byteAt 0 = .ok (.iload_n 1, 1) := dk_27 (dk_at dksX5_byteAt_0 0 rfl rfl)
theorem dX5_byteAt_1 : decode cX5_byteAt 1 = .ok (.aload_n 0, 1) := dk_42 (dk_at dksX5_byteAt_0 1 rfl rfl)
theorem dX5_byteAt_2 : decode cX5_byteAt 2 = .ok (.getfield 22, 3) := dk_180 0 22 (dk_at dksX5_byteAt_0 2 rfl rfl)
theorem dX5_byteAt_5 : decode cX5_byteAt 5 = .ok (.if_icmp .ge 19, 3) := dk_162 0 19 (dk_at dksX5_byteAt_0 5 rfl rfl)
theorem dX5_byteAt_8 : decode cX5_byteAt 8 = .ok (.aload_n 0, 1) := dk_42 (dk_at dksX5_byteAt_0 8 rfl rfl)
theorem dX5_byteAt_9 : decode cX5_byteAt 9 = .ok (.getfield 3, 3) := dk_180 0 3 (dk_at dksX5_byteAt_0 9 rfl rfl)
theorem dX5_byteAt_12 : decode cX5_byteAt 12 = .ok (.getfield 26, 3) := dk_180 0 26 (dk_at dksX5_byteAt_0 12 rfl rfl)
theorem dX5_byteAt_15 : decode cX5_byteAt 15 = .ok (.iload_n 1, 1) := dk_27 (dk_at dksX5_byteAt_0 15 rfl rfl)
theorem dX5_byteAt_16 : decode cX5_byteAt 16 = .ok (.baload, 1) := dk_51 (dk_at dksX5_byteAt_0 16 rfl rfl)
theorem dX5_byteAt_17 : decode cX5_byteAt 17 = .ok (.sipush 255, 3) := dk_17 0 255 (dk_at dksX5_byteAt_0 17 rfl rfl)
theorem dX5_byteAt_20 : decode cX5_byteAt 20 = .ok (.iand, 1) := dk_126 (dk_at dksX5_byteAt_0 20 rfl rfl)
theorem dX5_byteAt_21 : decode cX5_byteAt 21 = .ok (.goto 4, 3) := dk_167 0 4 (dk_at dksX5_byteAt_0 21 rfl rfl)
theorem dX5_byteAt_24 : decode cX5_byteAt 24 = .ok (.iconst 0, 1) := dk_3 (dk_at dksX5_byteAt_1 0 rfl rfl)
theorem dX5_byteAt_25 : decode cX5_byteAt 25 = .ok (.ireturn, 1) := dk_172 (dk_at dksX5_byteAt_1 1 rfl rfl)
abbrev cX5_isLetter : ByteArray := prog_10_method_3_code
def yX5_isLetter : MethodName := ⟨RX5, "isLetter", "(I)Z"⟩
def dkwX5_isLetter_0 : List UInt8 := [42, 27, 182, 0, 30, 16, 97, 16, 122, 184, 0, 34, 172]
abbrev dktX5_isLetter_0 : List UInt8 := dkwX5_isLetter_0 ++ []
theorem dksX5_isLetter_0 : cX5_isLetter.data.toList.drop 0 = dktX5_isLetter_0 := by decide +kernel
theorem dX5_isLetter_0 : decode cX5_isLetter 0 = .ok (.aload_n 0, 1) := dk_42 (dk_at dksX5_isLetter_0 0 rfl rfl)
theorem dX5_isLetter_1 : decode cX5_isLetter 1 = .ok (.iload_n 1, 1) := dk_27 (dk_at dksX5_isLetter_0 1 rfl rfl)
theorem dX5_isLetter_2 : decode cX5_isLetter 2 = .ok (.invokevirtual 30, 3) := dk_182 0 30 (dk_at dksX5_isLetter_0 2 rfl rfl)
theorem dX5_isLetter_5 : decode cX5_isLetter 5 = .ok (.bipush 97, 2) := dk_16 97 (dk_at dksX5_isLetter_0 5 rfl rfl)
theorem dX5_isLetter_7 : decode cX5_isLetter 7 = .ok (.bipush 122, 2) := dk_16 122 (dk_at dksX5_isLetter_0 7 rfl rfl)
theorem dX5_isLetter_9 : decode cX5_isLetter 9 = .ok (.invokestatic 34, 3) := dk_184 0 34 (dk_at dksX5_isLetter_0 9 rfl rfl)
theorem dX5_isLetter_12 : decode cX5_isLetter 12 = .ok (.ireturn, 1) := dk_172 (dk_at dksX5_isLetter_0 12 rfl rfl)
abbrev cX5_goWord : ByteArray := prog_10_method_6_code
def yX5_goWord : MethodName := ⟨RX5, "goWord", "()V"⟩
def dkwX5_goWord_3 : List UInt8 := [180, 0, 41, 100, 16, 6, 164, 0, 7, 3, 167, 0, 4, 5, 181, 0, 44, 177]
abbrev dktX5_goWord_3 : List UInt8 := dkwX5_goWord_3 ++ []
def dkwX5_goWord_2 : List UInt8 := [181, 0, 60, 42, 89, 180, 0, 38, 4, 96, 181, 0, 38, 167, 255, 200, 42, 42, 180, 0, 38, 42]
abbrev dktX5_goWord_2 : List UInt8 := dkwX5_goWord_2 ++ dktX5_goWord_3
def dkwX5_goWord_1 : List UInt8 := [100, 16, 6, 162, 0, 24, 42, 42, 180, 0, 60, 16, 8, 121, 42, 42, 180, 0, 38, 182, 0, 30, 133, 129]
abbrev dktX5_goWord_1 : List UInt8 := dkwX5_goWord_1 ++ dktX5_goWord_2
def dkwX5_goWord_0 : List UInt8 := [42, 9, 181, 0, 60, 42, 42, 180, 0, 38, 182, 0, 47, 153, 0, 51, 42, 180, 0, 38, 42, 180, 0, 41]
abbrev dktX5_goWord_0 : List UInt8 := dkwX5_goWord_0 ++ dktX5_goWord_1
theorem dksX5_goWord_0 : cX5_goWord.data.toList.drop 0 = dktX5_goWord_0 := by decide +kernel
theorem dksX5_goWord_1 : cX5_goWord.data.toList.drop 24 = dktX5_goWord_1 := dk_seg dksX5_goWord_0 24 rfl rfl
theorem dksX5_goWord_2 : cX5_goWord.data.toList.drop 48 = dktX5_goWord_2 := dk_seg dksX5_goWord_1 24 rfl rfl
theorem dksX5_goWord_3 : cX5_goWord.data.toList.drop 70 = dktX5_goWord_3 := dk_seg dksX5_goWord_2 22 rfl rfl
theorem dX5_goWord_0 : decode cX5_goWord 0 = .ok (.aload_n 0, 1) := dk_42 (dk_at dksX5_goWord_0 0 rfl rfl)
theorem dX5_goWord_1 : decode cX5_goWord 1 = .ok (.lconst 0, 1) := dk_9 (dk_at dksX5_goWord_0 1 rfl rfl)
theorem dX5_goWord_2 : decode cX5_goWord 2 = .ok (.putfield 60, 3) := dk_181 0 60 (dk_at dksX5_goWord_0 2 rfl rfl)
theorem dX5_goWord_5 : decode cX5_goWord 5 = .ok (.aload_n 0, 1) := dk_42 (dk_at dksX5_goWord_0 5 rfl rfl)
theorem dX5_goWord_6 : decode cX5_goWord 6 = .ok (.aload_n 0, 1) := dk_42 (dk_at dksX5_goWord_0 6 rfl rfl)
theorem dX5_goWord_7 : decode cX5_goWord 7 = .ok (.getfield 38, 3) := dk_180 0 38 (dk_at dksX5_goWord_0 7 rfl rfl)
theorem dX5_goWord_10 : decode cX5_goWord 10 = .ok (.invokevirtual 47, 3) := dk_182 0 47 (dk_at dksX5_goWord_0 10 rfl rfl)
theorem dX5_goWord_13 : decode cX5_goWord 13 = .ok (.ifCond .eq 51, 3) := dk_153 0 51 (dk_at dksX5_goWord_0 13 rfl rfl)
theorem dX5_goWord_16 : decode cX5_goWord 16 = .ok (.aload_n 0, 1) := dk_42 (dk_at dksX5_goWord_0 16 rfl rfl)
theorem dX5_goWord_17 : decode cX5_goWord 17 = .ok (.getfield 38, 3) := dk_180 0 38 (dk_at dksX5_goWord_0 17 rfl rfl)
theorem dX5_goWord_20 : decode cX5_goWord 20 = .ok (.aload_n 0, 1) := dk_42 (dk_at dksX5_goWord_0 20 rfl rfl)
theorem dX5_goWord_21 : decode cX5_goWord 21 = .ok (.getfield 41, 3) := dk_180 0 41 (dk_at dksX5_goWord_0 21 rfl rfl)
theorem dX5_goWord_24 : decode cX5_goWord 24 = .ok (.isub, 1) := dk_100 (dk_at dksX5_goWord_1 0 rfl rfl)
theorem dX5_goWord_25 : decode cX5_goWord 25 = .ok (.bipush 6, 2) := dk_16 6 (dk_at dksX5_goWord_1 1 rfl rfl)
theorem dX5_goWord_27 : decode cX5_goWord 27 = .ok (.if_icmp .ge 24, 3) := dk_162 0 24 (dk_at dksX5_goWord_1 3 rfl rfl)
theorem dX5_goWord_30 : decode cX5_goWord 30 = .ok (.aload_n 0, 1) := dk_42 (dk_at dksX5_goWord_1 6 rfl rfl)
theorem dX5_goWord_31 : decode cX5_goWord 31 = .ok (.aload_n 0, 1) := dk_42 (dk_at dksX5_goWord_1 7 rfl rfl)
theorem dX5_goWord_32 : decode cX5_goWord 32 = .ok (.getfield 60, 3) := dk_180 0 60 (dk_at dksX5_goWord_1 8 rfl rfl)
theorem dX5_goWord_35 : decode cX5_goWord 35 = .ok (.bipush 8, 2) := dk_16 8 (dk_at dksX5_goWord_1 11 rfl rfl)
theorem dX5_goWord_37 : decode cX5_goWord 37 = .ok (.lshl, 1) := dk_121 (dk_at dksX5_goWord_1 13 rfl rfl)
theorem dX5_goWord_38 : decode cX5_goWord 38 = .ok (.aload_n 0, 1) := dk_42 (dk_at dksX5_goWord_1 14 rfl rfl)
theorem dX5_goWord_39 : decode cX5_goWord 39 = .ok (.aload_n 0, 1) := dk_42 (dk_at dksX5_goWord_1 15 rfl rfl)
theorem dX5_goWord_40 : decode cX5_goWord 40 = .ok (.getfield 38, 3) := dk_180 0 38 (dk_at dksX5_goWord_1 16 rfl rfl)
theorem dX5_goWord_43 : decode cX5_goWord 43 = .ok (.invokevirtual 30, 3) := dk_182 0 30 (dk_at dksX5_goWord_1 19 rfl rfl)
theorem dX5_goWord_46 : decode cX5_goWord 46 = .ok (.i2l, 1) := dk_133 (dk_at dksX5_goWord_1 22 rfl rfl)
theorem dX5_goWord_47 : decode cX5_goWord 47 = .ok (.lor, 1) := dk_129 (dk_at dksX5_goWord_1 23 rfl rfl)
theorem dX5_goWord_48 : decode cX5_goWord 48 = .ok (.putfield 60, 3) := dk_181 0 60 (dk_at dksX5_goWord_2 0 rfl rfl)
theorem dX5_goWord_51 : decode cX5_goWord 51 = .ok (.aload_n 0, 1) := dk_42 (dk_at dksX5_goWord_2 3 rfl rfl)
theorem dX5_goWord_52 : decode cX5_goWord 52 = .ok (.dup, 1) := dk_89 (dk_at dksX5_goWord_2 4 rfl rfl)
theorem dX5_goWord_53 : decode cX5_goWord 53 = .ok (.getfield 38, 3) := dk_180 0 38 (dk_at dksX5_goWord_2 5 rfl rfl)
theorem dX5_goWord_56 : decode cX5_goWord 56 = .ok (.iconst 1, 1) := dk_4 (dk_at dksX5_goWord_2 8 rfl rfl)
theorem dX5_goWord_57 : decode cX5_goWord 57 = .ok (.iadd, 1) := dk_96 (dk_at dksX5_goWord_2 9 rfl rfl)
theorem dX5_goWord_58 : decode cX5_goWord 58 = .ok (.putfield 38, 3) := dk_181 0 38 (dk_at dksX5_goWord_2 10 rfl rfl)
theorem dX5_goWord_61 : decode cX5_goWord 61 = .ok (.goto (-56), 3) := dk_167 255 200 (dk_at dksX5_goWord_2 13 rfl rfl)
theorem dX5_goWord_64 : decode cX5_goWord 64 = .ok (.aload_n 0, 1) := dk_42 (dk_at dksX5_goWord_2 16 rfl rfl)
theorem dX5_goWord_65 : decode cX5_goWord 65 = .ok (.aload_n 0, 1) := dk_42 (dk_at dksX5_goWord_2 17 rfl rfl)
theorem dX5_goWord_66 : decode cX5_goWord 66 = .ok (.getfield 38, 3) := dk_180 0 38 (dk_at dksX5_goWord_2 18 rfl rfl)
theorem dX5_goWord_69 : decode cX5_goWord 69 = .ok (.aload_n 0, 1) := dk_42 (dk_at dksX5_goWord_2 21 rfl rfl)
theorem dX5_goWord_70 : decode cX5_goWord 70 = .ok (.getfield 41, 3) := dk_180 0 41 (dk_at dksX5_goWord_3 0 rfl rfl)
theorem dX5_goWord_73 : decode cX5_goWord 73 = .ok (.isub, 1) := dk_100 (dk_at dksX5_goWord_3 3 rfl rfl)
theorem dX5_goWord_74 : decode cX5_goWord 74 = .ok (.bipush 6, 2) := dk_16 6 (dk_at dksX5_goWord_3 4 rfl rfl)
theorem dX5_goWord_76 : decode cX5_goWord 76 = .ok (.if_icmp .le 7, 3) := dk_164 0 7 (dk_at dksX5_goWord_3 6 rfl rfl)
theorem dX5_goWord_79 : decode cX5_goWord 79 = .ok (.iconst 0, 1) := dk_3 (dk_at dksX5_goWord_3 9 rfl rfl)
theorem dX5_goWord_80 : decode cX5_goWord 80 = .ok (.goto 4, 3) := dk_167 0 4 (dk_at dksX5_goWord_3 10 rfl rfl)
theorem dX5_goWord_83 : decode cX5_goWord 83 = .ok (.iconst 2, 1) := dk_5 (dk_at dksX5_goWord_3 13 rfl rfl)
theorem dX5_goWord_84 : decode cX5_goWord 84 = .ok (.putfield 44, 3) := dk_181 0 44 (dk_at dksX5_goWord_3 14 rfl rfl)
theorem dX5_goWord_87 : decode cX5_goWord 87 = .ok (.return_, 1) := dk_177 (dk_at dksX5_goWord_3 17 rfl rfl)
abbrev cX5_isDigit : ByteArray := prog_10_method_4_code
def yX5_isDigit : MethodName := ⟨RX5, "isDigit", "(I)Z"⟩
def dkwX5_isDigit_0 : List UInt8 := [42, 27, 182, 0, 30, 16, 48, 16, 57, 184, 0, 34, 172]
abbrev dktX5_isDigit_0 : List UInt8 := dkwX5_isDigit_0 ++ []
theorem dksX5_isDigit_0 : cX5_isDigit.data.toList.drop 0 = dktX5_isDigit_0 := by decide +kernel
theorem dX5_isDigit_0 : decode cX5_isDigit 0 = .ok (.aload_n 0, 1) := dk_42 (dk_at dksX5_isDigit_0 0 rfl rfl)
theorem dX5_isDigit_1 : decode cX5_isDigit 1 = .ok (.iload_n 1, 1) := dk_27 (dk_at dksX5_isDigit_0 1 rfl rfl)
theorem dX5_isDigit_2 : decode cX5_isDigit 2 = .ok (.invokevirtual 30, 3) := dk_182 0 30 (dk_at dksX5_isDigit_0 2 rfl rfl)
theorem dX5_isDigit_5 : decode cX5_isDigit 5 = .ok (.bipush 48, 2) := dk_16 48 (dk_at dksX5_isDigit_0 5 rfl rfl)
theorem dX5_isDigit_7 : decode cX5_isDigit 7 = .ok (.bipush 57, 2) := dk_16 57 (dk_at dksX5_isDigit_0 7 rfl rfl)
theorem dX5_isDigit_9 : decode cX5_isDigit 9 = .ok (.invokestatic 34, 3) := dk_184 0 34 (dk_at dksX5_isDigit_0 9 rfl rfl)
theorem dX5_isDigit_12 : decode cX5_isDigit 12 = .ok (.ireturn, 1) := dk_172 (dk_at dksX5_isDigit_0 12 rfl rfl)
abbrev cX5_goWhole : ByteArray := prog_10_method_7_code
def yX5_goWhole : MethodName := ⟨RX5, "goWhole", "()V"⟩
def dkwX5_goWhole_3 : List UInt8 := [180, 0, 41, 100, 7, 164, 0, 7, 3, 167, 0, 4, 6, 181, 0, 44, 177]
abbrev dktX5_goWhole_3 : List UInt8 := dkwX5_goWhole_3 ++ []
def dkwX5_goWhole_2 : List UInt8 := [100, 181, 0, 64, 42, 89, 180, 0, 38, 4, 96, 181, 0, 38, 167, 255, 199, 42, 42, 180, 0, 38, 42]
abbrev dktX5_goWhole_2 : List UInt8 := dkwX5_goWhole_2 ++ dktX5_goWhole_3
def dkwX5_goWhole_1 : List UInt8 := [100, 7, 162, 0, 26, 42, 16, 10, 42, 180, 0, 64, 104, 42, 42, 180, 0, 38, 182, 0, 30, 96, 16, 48]
abbrev dktX5_goWhole_1 : List UInt8 := dkwX5_goWhole_1 ++ dktX5_goWhole_2
def dkwX5_goWhole_0 : List UInt8 := [42, 3, 181, 0, 64, 42, 42, 180, 0, 38, 182, 0, 54, 153, 0, 52, 42, 180, 0, 38, 42, 180, 0, 41]
abbrev dktX5_goWhole_0 : List UInt8 := dkwX5_goWhole_0 ++ dktX5_goWhole_1
theorem dksX5_goWhole_0 : cX5_goWhole.data.toList.drop 0 = dktX5_goWhole_0 := by decide +kernel
theorem dksX5_goWhole_1 : cX5_goWhole.data.toList.drop 24 = dktX5_goWhole_1 := dk_seg dksX5_goWhole_0 24 rfl rfl
theorem dksX5_goWhole_2 : cX5_goWhole.data.toList.drop 48 = dktX5_goWhole_2 := dk_seg dksX5_goWhole_1 24 rfl rfl
theorem dksX5_goWhole_3 : cX5_goWhole.data.toList.drop 71 = dktX5_goWhole_3 := dk_seg dksX5_goWhole_2 23 rfl rfl
theorem dX5_goWhole_0 : decode cX5_goWhole 0 = .ok (.aload_n 0, 1) := dk_42 (dk_at dksX5_goWhole_0 0 rfl rfl)
theorem dX5_goWhole_1 : decode cX5_goWhole 1 = .ok (.iconst 0, 1) := dk_3 (dk_at dksX5_goWhole_0 1 rfl rfl)
theorem dX5_goWhole_2 : decode cX5_goWhole 2 = .ok (.putfield 64, 3) := dk_181 0 64 (dk_at dksX5_goWhole_0 2 rfl rfl)
theorem dX5_goWhole_5 : decode cX5_goWhole 5 = .ok (.aload_n 0, 1) := dk_42 (dk_at dksX5_goWhole_0 5 rfl rfl)
theorem dX5_goWhole_6 : decode cX5_goWhole 6 = .ok (.aload_n 0, 1) := dk_42 (dk_at dksX5_goWhole_0 6 rfl rfl)
theorem dX5_goWhole_7 : decode cX5_goWhole 7 = .ok (.getfield 38, 3) := dk_180 0 38 (dk_at dksX5_goWhole_0 7 rfl rfl)
theorem dX5_goWhole_10 : decode cX5_goWhole 10 = .ok (.invokevirtual 54, 3) := dk_182 0 54 (dk_at dksX5_goWhole_0 10 rfl rfl)
theorem dX5_goWhole_13 : decode cX5_goWhole 13 = .ok (.ifCond .eq 52, 3) := dk_153 0 52 (dk_at dksX5_goWhole_0 13 rfl rfl)
theorem dX5_goWhole_16 : decode cX5_goWhole 16 = .ok (.aload_n 0, 1) := dk_42 (dk_at dksX5_goWhole_0 16 rfl rfl)
theorem dX5_goWhole_17 : decode cX5_goWhole 17 = .ok (.getfield 38, 3) := dk_180 0 38 (dk_at dksX5_goWhole_0 17 rfl rfl)
theorem dX5_goWhole_20 : decode cX5_goWhole 20 = .ok (.aload_n 0, 1) := dk_42 (dk_at dksX5_goWhole_0 20 rfl rfl)
theorem dX5_goWhole_21 : decode cX5_goWhole 21 = .ok (.getfield 41, 3) := dk_180 0 41 (dk_at dksX5_goWhole_0 21 rfl rfl)
theorem dX5_goWhole_24 : decode cX5_goWhole 24 = .ok (.isub, 1) := dk_100 (dk_at dksX5_goWhole_1 0 rfl rfl)
theorem dX5_goWhole_25 : decode cX5_goWhole 25 = .ok (.iconst 4, 1) := dk_7 (dk_at dksX5_goWhole_1 1 rfl rfl)
theorem dX5_goWhole_26 : decode cX5_goWhole 26 = .ok (.if_icmp .ge 26, 3) := dk_162 0 26 (dk_at dksX5_goWhole_1 2 rfl rfl)
theorem dX5_goWhole_29 : decode cX5_goWhole 29 = .ok (.aload_n 0, 1) := dk_42 (dk_at dksX5_goWhole_1 5 rfl rfl)
theorem dX5_goWhole_30 : decode cX5_goWhole 30 = .ok (.bipush 10, 2) := dk_16 10 (dk_at dksX5_goWhole_1 6 rfl rfl)
theorem dX5_goWhole_32 : decode cX5_goWhole 32 = .ok (.aload_n 0, 1) := dk_42 (dk_at dksX5_goWhole_1 8 rfl rfl)
theorem dX5_goWhole_33 : decode cX5_goWhole 33 = .ok (.getfield 64, 3) := dk_180 0 64 (dk_at dksX5_goWhole_1 9 rfl rfl)
theorem dX5_goWhole_36 : decode cX5_goWhole 36 = .ok (.imul, 1) := dk_104 (dk_at dksX5_goWhole_1 12 rfl rfl)
theorem dX5_goWhole_37 : decode cX5_goWhole 37 = .ok (.aload_n 0, 1) := dk_42 (dk_at dksX5_goWhole_1 13 rfl rfl)
theorem dX5_goWhole_38 : decode cX5_goWhole 38 = .ok (.aload_n 0, 1) := dk_42 (dk_at dksX5_goWhole_1 14 rfl rfl)
theorem dX5_goWhole_39 : decode cX5_goWhole 39 = .ok (.getfield 38, 3) := dk_180 0 38 (dk_at dksX5_goWhole_1 15 rfl rfl)
theorem dX5_goWhole_42 : decode cX5_goWhole 42 = .ok (.invokevirtual 30, 3) := dk_182 0 30 (dk_at dksX5_goWhole_1 18 rfl rfl)
theorem dX5_goWhole_45 : decode cX5_goWhole 45 = .ok (.iadd, 1) := dk_96 (dk_at dksX5_goWhole_1 21 rfl rfl)
theorem dX5_goWhole_46 : decode cX5_goWhole 46 = .ok (.bipush 48, 2) := dk_16 48 (dk_at dksX5_goWhole_1 22 rfl rfl)
theorem dX5_goWhole_48 : decode cX5_goWhole 48 = .ok (.isub, 1) := dk_100 (dk_at dksX5_goWhole_2 0 rfl rfl)
theorem dX5_goWhole_49 : decode cX5_goWhole 49 = .ok (.putfield 64, 3) := dk_181 0 64 (dk_at dksX5_goWhole_2 1 rfl rfl)
theorem dX5_goWhole_52 : decode cX5_goWhole 52 = .ok (.aload_n 0, 1) := dk_42 (dk_at dksX5_goWhole_2 4 rfl rfl)
theorem dX5_goWhole_53 : decode cX5_goWhole 53 = .ok (.dup, 1) := dk_89 (dk_at dksX5_goWhole_2 5 rfl rfl)
theorem dX5_goWhole_54 : decode cX5_goWhole 54 = .ok (.getfield 38, 3) := dk_180 0 38 (dk_at dksX5_goWhole_2 6 rfl rfl)
theorem dX5_goWhole_57 : decode cX5_goWhole 57 = .ok (.iconst 1, 1) := dk_4 (dk_at dksX5_goWhole_2 9 rfl rfl)
theorem dX5_goWhole_58 : decode cX5_goWhole 58 = .ok (.iadd, 1) := dk_96 (dk_at dksX5_goWhole_2 10 rfl rfl)
theorem dX5_goWhole_59 : decode cX5_goWhole 59 = .ok (.putfield 38, 3) := dk_181 0 38 (dk_at dksX5_goWhole_2 11 rfl rfl)
theorem dX5_goWhole_62 : decode cX5_goWhole 62 = .ok (.goto (-57), 3) := dk_167 255 199 (dk_at dksX5_goWhole_2 14 rfl rfl)
theorem dX5_goWhole_65 : decode cX5_goWhole 65 = .ok (.aload_n 0, 1) := dk_42 (dk_at dksX5_goWhole_2 17 rfl rfl)
theorem dX5_goWhole_66 : decode cX5_goWhole 66 = .ok (.aload_n 0, 1) := dk_42 (dk_at dksX5_goWhole_2 18 rfl rfl)
theorem dX5_goWhole_67 : decode cX5_goWhole 67 = .ok (.getfield 38, 3) := dk_180 0 38 (dk_at dksX5_goWhole_2 19 rfl rfl)
theorem dX5_goWhole_70 : decode cX5_goWhole 70 = .ok (.aload_n 0, 1) := dk_42 (dk_at dksX5_goWhole_2 22 rfl rfl)
theorem dX5_goWhole_71 : decode cX5_goWhole 71 = .ok (.getfield 41, 3) := dk_180 0 41 (dk_at dksX5_goWhole_3 0 rfl rfl)
theorem dX5_goWhole_74 : decode cX5_goWhole 74 = .ok (.isub, 1) := dk_100 (dk_at dksX5_goWhole_3 3 rfl rfl)
theorem dX5_goWhole_75 : decode cX5_goWhole 75 = .ok (.iconst 4, 1) := dk_7 (dk_at dksX5_goWhole_3 4 rfl rfl)
theorem dX5_goWhole_76 : decode cX5_goWhole 76 = .ok (.if_icmp .le 7, 3) := dk_164 0 7 (dk_at dksX5_goWhole_3 5 rfl rfl)
theorem dX5_goWhole_79 : decode cX5_goWhole 79 = .ok (.iconst 0, 1) := dk_3 (dk_at dksX5_goWhole_3 8 rfl rfl)
theorem dX5_goWhole_80 : decode cX5_goWhole 80 = .ok (.goto 4, 3) := dk_167 0 4 (dk_at dksX5_goWhole_3 9 rfl rfl)
theorem dX5_goWhole_83 : decode cX5_goWhole 83 = .ok (.iconst 3, 1) := dk_6 (dk_at dksX5_goWhole_3 12 rfl rfl)
theorem dX5_goWhole_84 : decode cX5_goWhole 84 = .ok (.putfield 44, 3) := dk_181 0 44 (dk_at dksX5_goWhole_3 13 rfl rfl)
theorem dX5_goWhole_87 : decode cX5_goWhole 87 = .ok (.return_, 1) := dk_177 (dk_at dksX5_goWhole_3 16 rfl rfl)
abbrev cX5_line : ByteArray := prog_10_method_17_code
def yX5_line : MethodName := ⟨RX5, "line", "()V"⟩
def dkwX5_line_3 : List UInt8 := [182, 0, 87, 167, 0, 13, 76, 187, 0, 132, 89, 43, 183, 0, 134, 191, 177]
abbrev dktX5_line_3 : List UInt8 := dkwX5_line_3 ++ []
def dkwX5_line_2 : List UInt8 := [167, 0, 25, 42, 18, 108, 182, 0, 91, 153, 0, 10, 42, 182, 0, 144, 167, 0, 9, 42, 3, 4]
abbrev dktX5_line_2 : List UInt8 := dkwX5_line_2 ++ dktX5_line_3
def dkwX5_line_1 : List UInt8 := [153, 0, 10, 42, 182, 0, 139, 167, 0, 41, 42, 18, 106, 182, 0, 91, 153, 0, 10, 42, 182, 0, 141]
abbrev dktX5_line_1 : List UInt8 := dkwX5_line_1 ++ dktX5_line_2
def dkwX5_line_0 : List UInt8 := [42, 18, 102, 182, 0, 91, 153, 0, 10, 42, 182, 0, 137, 167, 0, 57, 42, 18, 104, 182, 0, 91]
abbrev dktX5_line_0 : List UInt8 := dkwX5_line_0 ++ dktX5_line_1
theorem dksX5_line_0 : cX5_line.data.toList.drop 0 = dktX5_line_0 := by decide +kernel
theorem dksX5_line_1 : cX5_line.data.toList.drop 22 = dktX5_line_1 := dk_seg dksX5_line_0 22 rfl rfl
theorem dksX5_line_2 : cX5_line.data.toList.drop 45 = dktX5_line_2 := dk_seg dksX5_line_1 23 rfl rfl
theorem dksX5_line_3 : cX5_line.data.toList.drop 67 = dktX5_line_3 := dk_seg dksX5_line_2 22 rfl rfl
theorem dX5_line_0 : decode cX5_line 0 = .ok (.aload_n 0, 1) := dk_42 (dk_at dksX5_line_0 0 rfl rfl)
theorem dX5_line_1 : decode cX5_line 1 = .ok (.ldc 102, 2) := dk_18 102 (dk_at dksX5_line_0 1 rfl rfl)
theorem dX5_line_3 : decode cX5_line 3 = .ok (.invokevirtual 91, 3) := dk_182 0 91 (dk_at dksX5_line_0 3 rfl rfl)
theorem dX5_line_6 : decode cX5_line 6 = .ok (.ifCond .eq 10, 3) := dk_153 0 10 (dk_at dksX5_line_0 6 rfl rfl)
theorem dX5_line_9 : decode cX5_line 9 = .ok (.aload_n 0, 1) := dk_42 (dk_at dksX5_line_0 9 rfl rfl)
theorem dX5_line_10 : decode cX5_line 10 = .ok (.invokevirtual 137, 3) := dk_182 0 137 (dk_at dksX5_line_0 10 rfl rfl)
theorem dX5_line_13 : decode cX5_line 13 = .ok (.goto 57, 3) := dk_167 0 57 (dk_at dksX5_line_0 13 rfl rfl)
theorem dX5_line_16 : decode cX5_line 16 = .ok (.aload_n 0, 1) := dk_42 (dk_at dksX5_line_0 16 rfl rfl)
theorem dX5_line_17 : decode cX5_line 17 = .ok (.ldc 104, 2) := dk_18 104 (dk_at dksX5_line_0 17 rfl rfl)
theorem dX5_line_19 : decode cX5_line 19 = .ok (.invokevirtual 91, 3) := dk_182 0 91 (dk_at dksX5_line_0 19 rfl rfl)
theorem dX5_line_22 : decode cX5_line 22 = .ok (.ifCond .eq 10, 3) := dk_153 0 10 (dk_at dksX5_line_1 0 rfl rfl)
theorem dX5_line_25 : decode cX5_line 25 = .ok (.aload_n 0, 1) := dk_42 (dk_at dksX5_line_1 3 rfl rfl)
theorem dX5_line_26 : decode cX5_line 26 = .ok (.invokevirtual 139, 3) := dk_182 0 139 (dk_at dksX5_line_1 4 rfl rfl)
theorem dX5_line_29 : decode cX5_line 29 = .ok (.goto 41, 3) := dk_167 0 41 (dk_at dksX5_line_1 7 rfl rfl)
theorem dX5_line_32 : decode cX5_line 32 = .ok (.aload_n 0, 1) := dk_42 (dk_at dksX5_line_1 10 rfl rfl)
theorem dX5_line_33 : decode cX5_line 33 = .ok (.ldc 106, 2) := dk_18 106 (dk_at dksX5_line_1 11 rfl rfl)
theorem dX5_line_35 : decode cX5_line 35 = .ok (.invokevirtual 91, 3) := dk_182 0 91 (dk_at dksX5_line_1 13 rfl rfl)
theorem dX5_line_38 : decode cX5_line 38 = .ok (.ifCond .eq 10, 3) := dk_153 0 10 (dk_at dksX5_line_1 16 rfl rfl)
theorem dX5_line_41 : decode cX5_line 41 = .ok (.aload_n 0, 1) := dk_42 (dk_at dksX5_line_1 19 rfl rfl)
theorem dX5_line_42 : decode cX5_line 42 = .ok (.invokevirtual 141, 3) := dk_182 0 141 (dk_at dksX5_line_1 20 rfl rfl)
theorem dX5_line_45 : decode cX5_line 45 = .ok (.goto 25, 3) := dk_167 0 25 (dk_at dksX5_line_2 0 rfl rfl)
theorem dX5_line_48 : decode cX5_line 48 = .ok (.aload_n 0, 1) := dk_42 (dk_at dksX5_line_2 3 rfl rfl)
theorem dX5_line_49 : decode cX5_line 49 = .ok (.ldc 108, 2) := dk_18 108 (dk_at dksX5_line_2 4 rfl rfl)
theorem dX5_line_51 : decode cX5_line 51 = .ok (.invokevirtual 91, 3) := dk_182 0 91 (dk_at dksX5_line_2 6 rfl rfl)
theorem dX5_line_54 : decode cX5_line 54 = .ok (.ifCond .eq 10, 3) := dk_153 0 10 (dk_at dksX5_line_2 9 rfl rfl)
theorem dX5_line_57 : decode cX5_line 57 = .ok (.aload_n 0, 1) := dk_42 (dk_at dksX5_line_2 12 rfl rfl)
theorem dX5_line_58 : decode cX5_line 58 = .ok (.invokevirtual 144, 3) := dk_182 0 144 (dk_at dksX5_line_2 13 rfl rfl)
theorem dX5_line_61 : decode cX5_line 61 = .ok (.goto 9, 3) := dk_167 0 9 (dk_at dksX5_line_2 16 rfl rfl)
theorem dX5_line_64 : decode cX5_line 64 = .ok (.aload_n 0, 1) := dk_42 (dk_at dksX5_line_2 19 rfl rfl)
theorem dX5_line_65 : decode cX5_line 65 = .ok (.iconst 0, 1) := dk_3 (dk_at dksX5_line_2 20 rfl rfl)
theorem dX5_line_66 : decode cX5_line 66 = .ok (.iconst 1, 1) := dk_4 (dk_at dksX5_line_2 21 rfl rfl)
theorem dX5_line_67 : decode cX5_line 67 = .ok (.invokevirtual 87, 3) := dk_182 0 87 (dk_at dksX5_line_3 0 rfl rfl)
theorem dX5_line_70 : decode cX5_line 70 = .ok (.goto 13, 3) := dk_167 0 13 (dk_at dksX5_line_3 3 rfl rfl)
theorem dX5_line_73 : decode cX5_line 73 = .ok (.astore_n 1, 1) := dk_76 (dk_at dksX5_line_3 6 rfl rfl)
theorem dX5_line_74 : decode cX5_line 74 = .ok (.new 132, 3) := dk_187 0 132 (dk_at dksX5_line_3 7 rfl rfl)
theorem dX5_line_77 : decode cX5_line 77 = .ok (.dup, 1) := dk_89 (dk_at dksX5_line_3 10 rfl rfl)
theorem dX5_line_78 : decode cX5_line 78 = .ok (.aload_n 1, 1) := dk_43 (dk_at dksX5_line_3 11 rfl rfl)
theorem dX5_line_79 : decode cX5_line 79 = .ok (.invokespecial 134, 3) := dk_183 0 134 (dk_at dksX5_line_3 12 rfl rfl)
theorem dX5_line_82 : decode cX5_line 82 = .ok (.athrow, 1) := dk_191 (dk_at dksX5_line_3 15 rfl rfl)
theorem dX5_line_83 : decode cX5_line 83 = .ok (.return_, 1) := dk_177 (dk_at dksX5_line_3 16 rfl rfl)
abbrev cX5_is : ByteArray := prog_10_method_10_code
def yX5_is : MethodName := ⟨RX5, "is", "(Ljava/lang/String;)Z"⟩
def dkwX5_is_2 : List UInt8 := [148, 154, 0, 7, 4, 167, 0, 4, 3, 172]
abbrev dktX5_is_2 : List UInt8 := dkwX5_is_2 ++ []
def dkwX5_is_1 : List UInt8 := [32, 16, 8, 121, 43, 21, 4, 182, 0, 83, 133, 129, 65, 132, 4, 1, 167, 255, 231, 42, 180, 0, 60, 32]
abbrev dktX5_is_1 : List UInt8 := dkwX5_is_1 ++ dktX5_is_2
def dkwX5_is_0 : List UInt8 := [42, 180, 0, 44, 5, 159, 0, 5, 3, 172, 9, 65, 3, 54, 4, 21, 4, 43, 182, 0, 77, 162, 0, 22]
abbrev dktX5_is_0 : List UInt8 := dkwX5_is_0 ++ dktX5_is_1
theorem dksX5_is_0 : cX5_is.data.toList.drop 0 = dktX5_is_0 := by decide +kernel
theorem dksX5_is_1 : cX5_is.data.toList.drop 24 = dktX5_is_1 := dk_seg dksX5_is_0 24 rfl rfl
theorem dksX5_is_2 : cX5_is.data.toList.drop 48 = dktX5_is_2 := dk_seg dksX5_is_1 24 rfl rfl
theorem dX5_is_0 : decode cX5_is 0 = .ok (.aload_n 0, 1) := dk_42 (dk_at dksX5_is_0 0 rfl rfl)
theorem dX5_is_1 : decode cX5_is 1 = .ok (.getfield 44, 3) := dk_180 0 44 (dk_at dksX5_is_0 1 rfl rfl)
theorem dX5_is_4 : decode cX5_is 4 = .ok (.iconst 2, 1) := dk_5 (dk_at dksX5_is_0 4 rfl rfl)
theorem dX5_is_5 : decode cX5_is 5 = .ok (.if_icmp .eq 5, 3) := dk_159 0 5 (dk_at dksX5_is_0 5 rfl rfl)
theorem dX5_is_8 : decode cX5_is 8 = .ok (.iconst 0, 1) := dk_3 (dk_at dksX5_is_0 8 rfl rfl)
theorem dX5_is_9 : decode cX5_is 9 = .ok (.ireturn, 1) := dk_172 (dk_at dksX5_is_0 9 rfl rfl)
theorem dX5_is_10 : decode cX5_is 10 = .ok (.lconst 0, 1) := dk_9 (dk_at dksX5_is_0 10 rfl rfl)
theorem dX5_is_11 : decode cX5_is 11 = .ok (.lstore_n 2, 1) := dk_65 (dk_at dksX5_is_0 11 rfl rfl)
theorem dX5_is_12 : decode cX5_is 12 = .ok (.iconst 0, 1) := dk_3 (dk_at dksX5_is_0 12 rfl rfl)
theorem dX5_is_13 : decode cX5_is 13 = .ok (.istore 4, 2) := dk_54 4 (dk_at dksX5_is_0 13 rfl rfl)
theorem dX5_is_15 : decode cX5_is 15 = .ok (.iload 4, 2) := dk_21 4 (dk_at dksX5_is_0 15 rfl rfl)
theorem dX5_is_17 : decode cX5_is 17 = .ok (.aload_n 1, 1) := dk_43 (dk_at dksX5_is_0 17 rfl rfl)
theorem dX5_is_18 : decode cX5_is 18 = .ok (.invokevirtual 77, 3) := dk_182 0 77 (dk_at dksX5_is_0 18 rfl rfl)
theorem dX5_is_21 : decode cX5_is 21 = .ok (.if_icmp .ge 22, 3) := dk_162 0 22 (dk_at dksX5_is_0 21 rfl rfl)
theorem dX5_is_24 : decode cX5_is 24 = .ok (.lload_n 2, 1) := dk_32 (dk_at dksX5_is_1 0 rfl rfl)
theorem dX5_is_25 : decode cX5_is 25 = .ok (.bipush 8, 2) := dk_16 8 (dk_at dksX5_is_1 1 rfl rfl)
theorem dX5_is_27 : decode cX5_is 27 = .ok (.lshl, 1) := dk_121 (dk_at dksX5_is_1 3 rfl rfl)
theorem dX5_is_28 : decode cX5_is 28 = .ok (.aload_n 1, 1) := dk_43 (dk_at dksX5_is_1 4 rfl rfl)
theorem dX5_is_29 : decode cX5_is 29 = .ok (.iload 4, 2) := dk_21 4 (dk_at dksX5_is_1 5 rfl rfl)
theorem dX5_is_31 : decode cX5_is 31 = .ok (.invokevirtual 83, 3) := dk_182 0 83 (dk_at dksX5_is_1 7 rfl rfl)
theorem dX5_is_34 : decode cX5_is 34 = .ok (.i2l, 1) := dk_133 (dk_at dksX5_is_1 10 rfl rfl)
theorem dX5_is_35 : decode cX5_is 35 = .ok (.lor, 1) := dk_129 (dk_at dksX5_is_1 11 rfl rfl)
theorem dX5_is_36 : decode cX5_is 36 = .ok (.lstore_n 2, 1) := dk_65 (dk_at dksX5_is_1 12 rfl rfl)
theorem dX5_is_37 : decode cX5_is 37 = .ok (.iinc 4 1, 3) := dk_132 4 1 (dk_at dksX5_is_1 13 rfl rfl)
theorem dX5_is_40 : decode cX5_is 40 = .ok (.goto (-25), 3) := dk_167 255 231 (dk_at dksX5_is_1 16 rfl rfl)
theorem dX5_is_43 : decode cX5_is 43 = .ok (.aload_n 0, 1) := dk_42 (dk_at dksX5_is_1 19 rfl rfl)
theorem dX5_is_44 : decode cX5_is 44 = .ok (.getfield 60, 3) := dk_180 0 60 (dk_at dksX5_is_1 20 rfl rfl)
theorem dX5_is_47 : decode cX5_is 47 = .ok (.lload_n 2, 1) := dk_32 (dk_at dksX5_is_1 23 rfl rfl)
theorem dX5_is_48 : decode cX5_is 48 = .ok (.lcmp, 1) := dk_148 (dk_at dksX5_is_2 0 rfl rfl)
theorem dX5_is_49 : decode cX5_is 49 = .ok (.ifCond .ne 7, 3) := dk_154 0 7 (dk_at dksX5_is_2 1 rfl rfl)
theorem dX5_is_52 : decode cX5_is 52 = .ok (.iconst 1, 1) := dk_4 (dk_at dksX5_is_2 4 rfl rfl)
theorem dX5_is_53 : decode cX5_is 53 = .ok (.goto 4, 3) := dk_167 0 4 (dk_at dksX5_is_2 5 rfl rfl)
theorem dX5_is_56 : decode cX5_is 56 = .ok (.iconst 0, 1) := dk_3 (dk_at dksX5_is_2 8 rfl rfl)
theorem dX5_is_57 : decode cX5_is 57 = .ok (.ireturn, 1) := dk_172 (dk_at dksX5_is_2 9 rfl rfl)
abbrev cX5_desk : ByteArray := prog_10_method_18_code
def yX5_desk : MethodName := ⟨RX5, "desk", "()V"⟩
def dkwX5_desk_1 : List UInt8 := [42, 180, 0, 18, 42, 18, 149, 4, 17, 3, 231, 182, 0, 150, 181, 0, 146, 177]
abbrev dktX5_desk_1 : List UInt8 := dkwX5_desk_1 ++ []
def dkwX5_desk_0 : List UInt8 := [42, 42, 180, 0, 18, 180, 0, 146, 154, 0, 7, 4, 167, 0, 4, 3, 6, 182, 0, 87, 42, 182, 0, 95]
abbrev dktX5_desk_0 : List UInt8 := dkwX5_desk_0 ++ dktX5_desk_1
theorem dksX5_desk_0 : cX5_desk.data.toList.drop 0 = dktX5_desk_0 := by decide +kernel
theorem dksX5_desk_1 : cX5_desk.data.toList.drop 24 = dktX5_desk_1 := dk_seg dksX5_desk_0 24 rfl rfl
theorem dX5_desk_0 : decode cX5_desk 0 = .ok (.aload_n 0, 1) := dk_42 (dk_at dksX5_desk_0 0 rfl rfl)
theorem dX5_desk_1 : decode cX5_desk 1 = .ok (.aload_n 0, 1) := dk_42 (dk_at dksX5_desk_0 1 rfl rfl)
theorem dX5_desk_2 : decode cX5_desk 2 = .ok (.getfield 18, 3) := dk_180 0 18 (dk_at dksX5_desk_0 2 rfl rfl)
theorem dX5_desk_5 : decode cX5_desk 5 = .ok (.getfield 146, 3) := dk_180 0 146 (dk_at dksX5_desk_0 5 rfl rfl)
theorem dX5_desk_8 : decode cX5_desk 8 = .ok (.ifCond .ne 7, 3) := dk_154 0 7 (dk_at dksX5_desk_0 8 rfl rfl)
theorem dX5_desk_11 : decode cX5_desk 11 = .ok (.iconst 1, 1) := dk_4 (dk_at dksX5_desk_0 11 rfl rfl)
theorem dX5_desk_12 : decode cX5_desk 12 = .ok (.goto 4, 3) := dk_167 0 4 (dk_at dksX5_desk_0 12 rfl rfl)
theorem dX5_desk_15 : decode cX5_desk 15 = .ok (.iconst 0, 1) := dk_3 (dk_at dksX5_desk_0 15 rfl rfl)
theorem dX5_desk_16 : decode cX5_desk 16 = .ok (.iconst 3, 1) := dk_6 (dk_at dksX5_desk_0 16 rfl rfl)
theorem dX5_desk_17 : decode cX5_desk 17 = .ok (.invokevirtual 87, 3) := dk_182 0 87 (dk_at dksX5_desk_0 17 rfl rfl)
theorem dX5_desk_20 : decode cX5_desk 20 = .ok (.aload_n 0, 1) := dk_42 (dk_at dksX5_desk_0 20 rfl rfl)
theorem dX5_desk_21 : decode cX5_desk 21 = .ok (.invokevirtual 95, 3) := dk_182 0 95 (dk_at dksX5_desk_0 21 rfl rfl)
theorem dX5_desk_24 : decode cX5_desk 24 = .ok (.aload_n 0, 1) := dk_42 (dk_at dksX5_desk_1 0 rfl rfl)
theorem dX5_desk_25 : decode cX5_desk 25 = .ok (.getfield 18, 3) := dk_180 0 18 (dk_at dksX5_desk_1 1 rfl rfl)
theorem dX5_desk_28 : decode cX5_desk 28 = .ok (.aload_n 0, 1) := dk_42 (dk_at dksX5_desk_1 4 rfl rfl)
theorem dX5_desk_29 : decode cX5_desk 29 = .ok (.ldc 149, 2) := dk_18 149 (dk_at dksX5_desk_1 5 rfl rfl)
theorem dX5_desk_31 : decode cX5_desk 31 = .ok (.iconst 1, 1) := dk_4 (dk_at dksX5_desk_1 7 rfl rfl)
theorem dX5_desk_32 : decode cX5_desk 32 = .ok (.sipush 999, 3) := dk_17 3 231 (dk_at dksX5_desk_1 8 rfl rfl)
theorem dX5_desk_35 : decode cX5_desk 35 = .ok (.invokevirtual 150, 3) := dk_182 0 150 (dk_at dksX5_desk_1 11 rfl rfl)
theorem dX5_desk_38 : decode cX5_desk 38 = .ok (.putfield 146, 3) := dk_181 0 146 (dk_at dksX5_desk_1 14 rfl rfl)
theorem dX5_desk_41 : decode cX5_desk 41 = .ok (.return_, 1) := dk_177 (dk_at dksX5_desk_1 17 rfl rfl)
abbrev cX5_need : ByteArray := prog_10_method_8_code
def yX5_need : MethodName := ⟨RX5, "need", "(ZI)V"⟩
def dkwX5_need_0 : List UInt8 := [27, 154, 0, 16, 187, 0, 67, 89, 28, 42, 180, 0, 41, 183, 0, 69, 191, 177]
abbrev dktX5_need_0 : List UInt8 := dkwX5_need_0 ++ []
theorem dksX5_need_0 : cX5_need.data.toList.drop 0 = dktX5_need_0 := by decide +kernel
theorem dX5_need_0 : decode cX5_need 0 = .ok (.iload_n 1, 1) := dk_27 (dk_at dksX5_need_0 0 rfl rfl)
theorem dX5_need_1 : decode cX5_need 1 = .ok (.ifCond .ne 16, 3) := dk_154 0 16 (dk_at dksX5_need_0 1 rfl rfl)
theorem dX5_need_4 : decode cX5_need 4 = .ok (.new 67, 3) := dk_187 0 67 (dk_at dksX5_need_0 4 rfl rfl)
theorem dX5_need_7 : decode cX5_need 7 = .ok (.dup, 1) := dk_89 (dk_at dksX5_need_0 7 rfl rfl)
theorem dX5_need_8 : decode cX5_need 8 = .ok (.iload_n 2, 1) := dk_28 (dk_at dksX5_need_0 8 rfl rfl)
theorem dX5_need_9 : decode cX5_need 9 = .ok (.aload_n 0, 1) := dk_42 (dk_at dksX5_need_0 9 rfl rfl)
theorem dX5_need_10 : decode cX5_need 10 = .ok (.getfield 41, 3) := dk_180 0 41 (dk_at dksX5_need_0 10 rfl rfl)
theorem dX5_need_13 : decode cX5_need 13 = .ok (.invokespecial 69, 3) := dk_183 0 69 (dk_at dksX5_need_0 13 rfl rfl)
theorem dX5_need_16 : decode cX5_need 16 = .ok (.athrow, 1) := dk_191 (dk_at dksX5_need_0 16 rfl rfl)
theorem dX5_need_17 : decode cX5_need 17 = .ok (.return_, 1) := dk_177 (dk_at dksX5_need_0 17 rfl rfl)
abbrev cX5_part : ByteArray := prog_10_method_12_code
def yX5_part : MethodName := ⟨RX5, "part", "(Ljava/lang/String;II)I"⟩
def dkwX5_part_1 : List UInt8 := [182, 0, 95, 21, 4, 172]
abbrev dktX5_part_1 : List UInt8 := dkwX5_part_1 ++ []
def dkwX5_part_0 : List UInt8 := [42, 42, 43, 182, 0, 91, 4, 182, 0, 87, 42, 182, 0, 95, 42, 28, 29, 182, 0, 98, 54, 4, 42]
abbrev dktX5_part_0 : List UInt8 := dkwX5_part_0 ++ dktX5_part_1
theorem dksX5_part_0 : cX5_part.data.toList.drop 0 = dktX5_part_0 := by decide +kernel
theorem dksX5_part_1 : cX5_part.data.toList.drop 23 = dktX5_part_1 := dk_seg dksX5_part_0 23 rfl rfl
theorem dX5_part_0 : decode cX5_part 0 = .ok (.aload_n 0, 1) := dk_42 (dk_at dksX5_part_0 0 rfl rfl)
theorem dX5_part_1 : decode cX5_part 1 = .ok (.aload_n 0, 1) := dk_42 (dk_at dksX5_part_0 1 rfl rfl)
theorem dX5_part_2 : decode cX5_part 2 = .ok (.aload_n 1, 1) := dk_43 (dk_at dksX5_part_0 2 rfl rfl)
theorem dX5_part_3 : decode cX5_part 3 = .ok (.invokevirtual 91, 3) := dk_182 0 91 (dk_at dksX5_part_0 3 rfl rfl)
theorem dX5_part_6 : decode cX5_part 6 = .ok (.iconst 1, 1) := dk_4 (dk_at dksX5_part_0 6 rfl rfl)
theorem dX5_part_7 : decode cX5_part 7 = .ok (.invokevirtual 87, 3) := dk_182 0 87 (dk_at dksX5_part_0 7 rfl rfl)
theorem dX5_part_10 : decode cX5_part 10 = .ok (.aload_n 0, 1) := dk_42 (dk_at dksX5_part_0 10 rfl rfl)
theorem dX5_part_11 : decode cX5_part 11 = .ok (.invokevirtual 95, 3) := dk_182 0 95 (dk_at dksX5_part_0 11 rfl rfl)
theorem dX5_part_14 : decode cX5_part 14 = .ok (.aload_n 0, 1) := dk_42 (dk_at dksX5_part_0 14 rfl rfl)
theorem dX5_part_15 : decode cX5_part 15 = .ok (.iload_n 2, 1) := dk_28 (dk_at dksX5_part_0 15 rfl rfl)
theorem dX5_part_16 : decode cX5_part 16 = .ok (.iload_n 3, 1) := dk_29 (dk_at dksX5_part_0 16 rfl rfl)
theorem dX5_part_17 : decode cX5_part 17 = .ok (.invokevirtual 98, 3) := dk_182 0 98 (dk_at dksX5_part_0 17 rfl rfl)
theorem dX5_part_20 : decode cX5_part 20 = .ok (.istore 4, 2) := dk_54 4 (dk_at dksX5_part_0 20 rfl rfl)
theorem dX5_part_22 : decode cX5_part 22 = .ok (.aload_n 0, 1) := dk_42 (dk_at dksX5_part_0 22 rfl rfl)
theorem dX5_part_23 : decode cX5_part 23 = .ok (.invokevirtual 95, 3) := dk_182 0 95 (dk_at dksX5_part_1 0 rfl rfl)
theorem dX5_part_26 : decode cX5_part 26 = .ok (.iload 4, 2) := dk_21 4 (dk_at dksX5_part_1 3 rfl rfl)
theorem dX5_part_28 : decode cX5_part 28 = .ok (.ireturn, 1) := dk_172 (dk_at dksX5_part_1 5 rfl rfl)
abbrev cX5_at : ByteArray := prog_10_method_11_code
def yX5_at : MethodName := ⟨RX5, "at", "(II)I"⟩
def dkwX5_at_1 : List UInt8 := [28, 184, 0, 34, 7, 182, 0, 87, 42, 180, 0, 64, 172]
abbrev dktX5_at_1 : List UInt8 := dkwX5_at_1 ++ []
def dkwX5_at_0 : List UInt8 := [42, 42, 180, 0, 44, 6, 160, 0, 7, 4, 167, 0, 4, 3, 4, 182, 0, 87, 42, 42, 180, 0, 64, 27]
abbrev dktX5_at_0 : List UInt8 := dkwX5_at_0 ++ dktX5_at_1
theorem dksX5_at_0 : cX5_at.data.toList.drop 0 = dktX5_at_0 := by decide +kernel
theorem dksX5_at_1 : cX5_at.data.toList.drop 24 = dktX5_at_1 := dk_seg dksX5_at_0 24 rfl rfl
theorem dX5_at_0 : decode cX5_at 0 = .ok (.aload_n 0, 1) := dk_42 (dk_at dksX5_at_0 0 rfl rfl)
theorem dX5_at_1 : decode cX5_at 1 = .ok (.aload_n 0, 1) := dk_42 (dk_at dksX5_at_0 1 rfl rfl)
theorem dX5_at_2 : decode cX5_at 2 = .ok (.getfield 44, 3) := dk_180 0 44 (dk_at dksX5_at_0 2 rfl rfl)
theorem dX5_at_5 : decode cX5_at 5 = .ok (.iconst 3, 1) := dk_6 (dk_at dksX5_at_0 5 rfl rfl)
theorem dX5_at_6 : decode cX5_at 6 = .ok (.if_icmp .ne 7, 3) := dk_160 0 7 (dk_at dksX5_at_0 6 rfl rfl)
theorem dX5_at_9 : decode cX5_at 9 = .ok (.iconst 1, 1) := dk_4 (dk_at dksX5_at_0 9 rfl rfl)
theorem dX5_at_10 : decode cX5_at 10 = .ok (.goto 4, 3) := dk_167 0 4 (dk_at dksX5_at_0 10 rfl rfl)
theorem dX5_at_13 : decode cX5_at 13 = .ok (.iconst 0, 1) := dk_3 (dk_at dksX5_at_0 13 rfl rfl)
theorem dX5_at_14 : decode cX5_at 14 = .ok (.iconst 1, 1) := dk_4 (dk_at dksX5_at_0 14 rfl rfl)
theorem dX5_at_15 : decode cX5_at 15 = .ok (.invokevirtual 87, 3) := dk_182 0 87 (dk_at dksX5_at_0 15 rfl rfl)
theorem dX5_at_18 : decode cX5_at 18 = .ok (.aload_n 0, 1) := dk_42 (dk_at dksX5_at_0 18 rfl rfl)
theorem dX5_at_19 : decode cX5_at 19 = .ok (.aload_n 0, 1) := dk_42 (dk_at dksX5_at_0 19 rfl rfl)
theorem dX5_at_20 : decode cX5_at 20 = .ok (.getfield 64, 3) := dk_180 0 64 (dk_at dksX5_at_0 20 rfl rfl)
theorem dX5_at_23 : decode cX5_at 23 = .ok (.iload_n 1, 1) := dk_27 (dk_at dksX5_at_0 23 rfl rfl)
theorem dX5_at_24 : decode cX5_at 24 = .ok (.iload_n 2, 1) := dk_28 (dk_at dksX5_at_1 0 rfl rfl)
theorem dX5_at_25 : decode cX5_at 25 = .ok (.invokestatic 34, 3) := dk_184 0 34 (dk_at dksX5_at_1 1 rfl rfl)
theorem dX5_at_28 : decode cX5_at 28 = .ok (.iconst 4, 1) := dk_7 (dk_at dksX5_at_1 4 rfl rfl)
theorem dX5_at_29 : decode cX5_at 29 = .ok (.invokevirtual 87, 3) := dk_182 0 87 (dk_at dksX5_at_1 5 rfl rfl)
theorem dX5_at_32 : decode cX5_at 32 = .ok (.aload_n 0, 1) := dk_42 (dk_at dksX5_at_1 8 rfl rfl)
theorem dX5_at_33 : decode cX5_at 33 = .ok (.getfield 64, 3) := dk_180 0 64 (dk_at dksX5_at_1 9 rfl rfl)
theorem dX5_at_36 : decode cX5_at 36 = .ok (.ireturn, 1) := dk_172 (dk_at dksX5_at_1 12 rfl rfl)
abbrev cX5_spot : ByteArray := prog_10_method_20_code
def yX5_spot : MethodName := ⟨RX5, "spot", "()V"⟩
def dkwX5_spot_3 : List UInt8 := [182, 0, 176, 87, 177]
abbrev dktX5_spot_3 : List UInt8 := dkwX5_spot_3 ++ []
def dkwX5_spot_2 : List UInt8 := [182, 0, 91, 153, 0, 16, 42, 18, 171, 3, 17, 3, 231, 182, 0, 150, 167, 0, 5, 16, 254, 183, 0, 173]
abbrev dktX5_spot_2 : List UInt8 := dkwX5_spot_2 ++ dktX5_spot_3
def dkwX5_spot_1 : List UInt8 := [3, 16, 99, 182, 0, 150, 62, 42, 180, 0, 18, 180, 0, 122, 187, 0, 169, 89, 31, 29, 42, 18, 171]
abbrev dktX5_spot_1 : List UInt8 := dkwX5_spot_1 ++ dktX5_spot_2
def dkwX5_spot_0 : List UInt8 := [42, 42, 180, 0, 18, 180, 0, 122, 182, 0, 158, 16, 10, 182, 0, 160, 42, 182, 0, 163, 64, 42, 18, 167]
abbrev dktX5_spot_0 : List UInt8 := dkwX5_spot_0 ++ dktX5_spot_1
theorem dksX5_spot_0 : cX5_spot.data.toList.drop 0 = dktX5_spot_0 := by decide +kernel
theorem dksX5_spot_1 : cX5_spot.data.toList.drop 24 = dktX5_spot_1 := dk_seg dksX5_spot_0 24 rfl rfl
theorem dksX5_spot_2 : cX5_spot.data.toList.drop 47 = dktX5_spot_2 := dk_seg dksX5_spot_1 23 rfl rfl
theorem dksX5_spot_3 : cX5_spot.data.toList.drop 71 = dktX5_spot_3 := dk_seg dksX5_spot_2 24 rfl rfl
theorem dX5_spot_0 : decode cX5_spot 0 = .ok (.aload_n 0, 1) := dk_42 (dk_at dksX5_spot_0 0 rfl rfl)
theorem dX5_spot_1 : decode cX5_spot 1 = .ok (.aload_n 0, 1) := dk_42 (dk_at dksX5_spot_0 1 rfl rfl)
theorem dX5_spot_2 : decode cX5_spot 2 = .ok (.getfield 18, 3) := dk_180 0 18 (dk_at dksX5_spot_0 2 rfl rfl)
theorem dX5_spot_5 : decode cX5_spot 5 = .ok (.getfield 122, 3) := dk_180 0 122 (dk_at dksX5_spot_0 5 rfl rfl)
theorem dX5_spot_8 : decode cX5_spot 8 = .ok (.invokevirtual 158, 3) := dk_182 0 158 (dk_at dksX5_spot_0 8 rfl rfl)
theorem dX5_spot_11 : decode cX5_spot 11 = .ok (.bipush 10, 2) := dk_16 10 (dk_at dksX5_spot_0 11 rfl rfl)
theorem dX5_spot_13 : decode cX5_spot 13 = .ok (.invokevirtual 160, 3) := dk_182 0 160 (dk_at dksX5_spot_0 13 rfl rfl)
theorem dX5_spot_16 : decode cX5_spot 16 = .ok (.aload_n 0, 1) := dk_42 (dk_at dksX5_spot_0 16 rfl rfl)
theorem dX5_spot_17 : decode cX5_spot 17 = .ok (.invokevirtual 163, 3) := dk_182 0 163 (dk_at dksX5_spot_0 17 rfl rfl)
theorem dX5_spot_20 : decode cX5_spot 20 = .ok (.lstore_n 1, 1) := dk_64 (dk_at dksX5_spot_0 20 rfl rfl)
theorem dX5_spot_21 : decode cX5_spot 21 = .ok (.aload_n 0, 1) := dk_42 (dk_at dksX5_spot_0 21 rfl rfl)
theorem dX5_spot_22 : decode cX5_spot 22 = .ok (.ldc 167, 2) := dk_18 167 (dk_at dksX5_spot_0 22 rfl rfl)
theorem dX5_spot_24 : decode cX5_spot 24 = .ok (.iconst 0, 1) := dk_3 (dk_at dksX5_spot_1 0 rfl rfl)
theorem dX5_spot_25 : decode cX5_spot 25 = .ok (.bipush 99, 2) := dk_16 99 (dk_at dksX5_spot_1 1 rfl rfl)
theorem dX5_spot_27 : decode cX5_spot 27 = .ok (.invokevirtual 150, 3) := dk_182 0 150 (dk_at dksX5_spot_1 3 rfl rfl)
theorem dX5_spot_30 : decode cX5_spot 30 = .ok (.istore_n 3, 1) := dk_62 (dk_at dksX5_spot_1 6 rfl rfl)
theorem dX5_spot_31 : decode cX5_spot 31 = .ok (.aload_n 0, 1) := dk_42 (dk_at dksX5_spot_1 7 rfl rfl)
theorem dX5_spot_32 : decode cX5_spot 32 = .ok (.getfield 18, 3) := dk_180 0 18 (dk_at dksX5_spot_1 8 rfl rfl)
theorem dX5_spot_35 : decode cX5_spot 35 = .ok (.getfield 122, 3) := dk_180 0 122 (dk_at dksX5_spot_1 11 rfl rfl)
theorem dX5_spot_38 : decode cX5_spot 38 = .ok (.new 169, 3) := dk_187 0 169 (dk_at dksX5_spot_1 14 rfl rfl)
theorem dX5_spot_41 : decode cX5_spot 41 = .ok (.dup, 1) := dk_89 (dk_at dksX5_spot_1 17 rfl rfl)
theorem dX5_spot_42 : decode cX5_spot 42 = .ok (.lload_n 1, 1) := dk_31 (dk_at dksX5_spot_1 18 rfl rfl)
theorem dX5_spot_43 : decode cX5_spot 43 = .ok (.iload_n 3, 1) := dk_29 (dk_at dksX5_spot_1 19 rfl rfl)
theorem dX5_spot_44 : decode cX5_spot 44 = .ok (.aload_n 0, 1) := dk_42 (dk_at dksX5_spot_1 20 rfl rfl)
theorem dX5_spot_45 : decode cX5_spot 45 = .ok (.ldc 171, 2) := dk_18 171 (dk_at dksX5_spot_1 21 rfl rfl)
theorem dX5_spot_47 : decode cX5_spot 47 = .ok (.invokevirtual 91, 3) := dk_182 0 91 (dk_at dksX5_spot_2 0 rfl rfl)
theorem dX5_spot_50 : decode cX5_spot 50 = .ok (.ifCond .eq 16, 3) := dk_153 0 16 (dk_at dksX5_spot_2 3 rfl rfl)
theorem dX5_spot_53 : decode cX5_spot 53 = .ok (.aload_n 0, 1) := dk_42 (dk_at dksX5_spot_2 6 rfl rfl)
theorem dX5_spot_54 : decode cX5_spot 54 = .ok (.ldc 171, 2) := dk_18 171 (dk_at dksX5_spot_2 7 rfl rfl)
theorem dX5_spot_56 : decode cX5_spot 56 = .ok (.iconst 0, 1) := dk_3 (dk_at dksX5_spot_2 9 rfl rfl)
theorem dX5_spot_57 : decode cX5_spot 57 = .ok (.sipush 999, 3) := dk_17 3 231 (dk_at dksX5_spot_2 10 rfl rfl)
theorem dX5_spot_60 : decode cX5_spot 60 = .ok (.invokevirtual 150, 3) := dk_182 0 150 (dk_at dksX5_spot_2 13 rfl rfl)
theorem dX5_spot_63 : decode cX5_spot 63 = .ok (.goto 5, 3) := dk_167 0 5 (dk_at dksX5_spot_2 16 rfl rfl)
theorem dX5_spot_66 : decode cX5_spot 66 = .ok (.bipush (-2), 2) := dk_16 254 (dk_at dksX5_spot_2 19 rfl rfl)
theorem dX5_spot_68 : decode cX5_spot 68 = .ok (.invokespecial 173, 3) := dk_183 0 173 (dk_at dksX5_spot_2 21 rfl rfl)
theorem dX5_spot_71 : decode cX5_spot 71 = .ok (.invokevirtual 176, 3) := dk_182 0 176 (dk_at dksX5_spot_3 0 rfl rfl)
theorem dX5_spot_74 : decode cX5_spot 74 = .ok (.pop, 1) := dk_87 (dk_at dksX5_spot_3 3 rfl rfl)
theorem dX5_spot_75 : decode cX5_spot 75 = .ok (.return_, 1) := dk_177 (dk_at dksX5_spot_3 4 rfl rfl)
abbrev cX5_begins : ByteArray := prog_10_method_19_code
def yX5_begins : MethodName := ⟨RX5, "begins", "(II)V"⟩
def dkwX5_begins_1 : List UInt8 := [158, 0, 7, 4, 167, 0, 4, 3, 16, 6, 182, 0, 87, 42, 182, 0, 95, 177]
abbrev dktX5_begins_1 : List UInt8 := dkwX5_begins_1 ++ []
def dkwX5_begins_0 : List UInt8 := [42, 27, 28, 162, 0, 7, 4, 167, 0, 4, 3, 182, 0, 154, 42, 42, 180, 0, 18, 180, 0, 146]
abbrev dktX5_begins_0 : List UInt8 := dkwX5_begins_0 ++ dktX5_begins_1
theorem dksX5_begins_0 : cX5_begins.data.toList.drop 0 = dktX5_begins_0 := by decide +kernel
theorem dksX5_begins_1 : cX5_begins.data.toList.drop 22 = dktX5_begins_1 := dk_seg dksX5_begins_0 22 rfl rfl
theorem dX5_begins_0 : decode cX5_begins 0 = .ok (.aload_n 0, 1) := dk_42 (dk_at dksX5_begins_0 0 rfl rfl)
theorem dX5_begins_1 : decode cX5_begins 1 = .ok (.iload_n 1, 1) := dk_27 (dk_at dksX5_begins_0 1 rfl rfl)
theorem dX5_begins_2 : decode cX5_begins 2 = .ok (.iload_n 2, 1) := dk_28 (dk_at dksX5_begins_0 2 rfl rfl)
theorem dX5_begins_3 : decode cX5_begins 3 = .ok (.if_icmp .ge 7, 3) := dk_162 0 7 (dk_at dksX5_begins_0 3 rfl rfl)
theorem dX5_begins_6 : decode cX5_begins 6 = .ok (.iconst 1, 1) := dk_4 (dk_at dksX5_begins_0 6 rfl rfl)
theorem dX5_begins_7 : decode cX5_begins 7 = .ok (.goto 4, 3) := dk_167 0 4 (dk_at dksX5_begins_0 7 rfl rfl)
theorem dX5_begins_10 : decode cX5_begins 10 = .ok (.iconst 0, 1) := dk_3 (dk_at dksX5_begins_0 10 rfl rfl)
theorem dX5_begins_11 : decode cX5_begins 11 = .ok (.invokevirtual 154, 3) := dk_182 0 154 (dk_at dksX5_begins_0 11 rfl rfl)
theorem dX5_begins_14 : decode cX5_begins 14 = .ok (.aload_n 0, 1) := dk_42 (dk_at dksX5_begins_0 14 rfl rfl)
theorem dX5_begins_15 : decode cX5_begins 15 = .ok (.aload_n 0, 1) := dk_42 (dk_at dksX5_begins_0 15 rfl rfl)
theorem dX5_begins_16 : decode cX5_begins 16 = .ok (.getfield 18, 3) := dk_180 0 18 (dk_at dksX5_begins_0 16 rfl rfl)
theorem dX5_begins_19 : decode cX5_begins 19 = .ok (.getfield 146, 3) := dk_180 0 146 (dk_at dksX5_begins_0 19 rfl rfl)
theorem dX5_begins_22 : decode cX5_begins 22 = .ok (.ifCond .le 7, 3) := dk_158 0 7 (dk_at dksX5_begins_1 0 rfl rfl)
theorem dX5_begins_25 : decode cX5_begins 25 = .ok (.iconst 1, 1) := dk_4 (dk_at dksX5_begins_1 3 rfl rfl)
theorem dX5_begins_26 : decode cX5_begins 26 = .ok (.goto 4, 3) := dk_167 0 4 (dk_at dksX5_begins_1 4 rfl rfl)
theorem dX5_begins_29 : decode cX5_begins 29 = .ok (.iconst 0, 1) := dk_3 (dk_at dksX5_begins_1 7 rfl rfl)
theorem dX5_begins_30 : decode cX5_begins 30 = .ok (.bipush 6, 2) := dk_16 6 (dk_at dksX5_begins_1 8 rfl rfl)
theorem dX5_begins_32 : decode cX5_begins 32 = .ok (.invokevirtual 87, 3) := dk_182 0 87 (dk_at dksX5_begins_1 10 rfl rfl)
theorem dX5_begins_35 : decode cX5_begins 35 = .ok (.aload_n 0, 1) := dk_42 (dk_at dksX5_begins_1 13 rfl rfl)
theorem dX5_begins_36 : decode cX5_begins 36 = .ok (.invokevirtual 95, 3) := dk_182 0 95 (dk_at dksX5_begins_1 14 rfl rfl)
theorem dX5_begins_39 : decode cX5_begins 39 = .ok (.return_, 1) := dk_177 (dk_at dksX5_begins_1 17 rfl rfl)
abbrev cX5_needRoom : ByteArray := prog_10_method_9_code
def yX5_needRoom : MethodName := ⟨RX5, "needRoom", "(Z)V"⟩
def dkwX5_needRoom_0 : List UInt8 := [27, 154, 0, 15, 187, 0, 72, 89, 42, 180, 0, 41, 183, 0, 74, 191, 177]
abbrev dktX5_needRoom_0 : List UInt8 := dkwX5_needRoom_0 ++ []
theorem dksX5_needRoom_0 : cX5_needRoom.data.toList.drop 0 = dktX5_needRoom_0 := by decide +kernel
theorem dX5_needRoom_0 : decode cX5_needRoom 0 = .ok (.iload_n 1, 1) := dk_27 (dk_at dksX5_needRoom_0 0 rfl rfl)
theorem dX5_needRoom_1 : decode cX5_needRoom 1 = .ok (.ifCond .ne 15, 3) := dk_154 0 15 (dk_at dksX5_needRoom_0 1 rfl rfl)
theorem dX5_needRoom_4 : decode cX5_needRoom 4 = .ok (.new 72, 3) := dk_187 0 72 (dk_at dksX5_needRoom_0 4 rfl rfl)
theorem dX5_needRoom_7 : decode cX5_needRoom 7 = .ok (.dup, 1) := dk_89 (dk_at dksX5_needRoom_0 7 rfl rfl)
theorem dX5_needRoom_8 : decode cX5_needRoom 8 = .ok (.aload_n 0, 1) := dk_42 (dk_at dksX5_needRoom_0 8 rfl rfl)
theorem dX5_needRoom_9 : decode cX5_needRoom 9 = .ok (.getfield 41, 3) := dk_180 0 41 (dk_at dksX5_needRoom_0 9 rfl rfl)
theorem dX5_needRoom_12 : decode cX5_needRoom 12 = .ok (.invokespecial 74, 3) := dk_183 0 74 (dk_at dksX5_needRoom_0 12 rfl rfl)
theorem dX5_needRoom_15 : decode cX5_needRoom 15 = .ok (.athrow, 1) := dk_191 (dk_at dksX5_needRoom_0 15 rfl rfl)
theorem dX5_needRoom_16 : decode cX5_needRoom 16 = .ok (.return_, 1) := dk_177 (dk_at dksX5_needRoom_0 16 rfl rfl)
abbrev cX5_fresh : ByteArray := prog_10_method_14_code
def yX5_fresh : MethodName := ⟨RX5, "fresh", "()J"⟩
def dkwX5_fresh_2 : List UInt8 := [64, 42, 182, 0, 95, 31, 173]
abbrev dktX5_fresh_2 : List UInt8 := dkwX5_fresh_2 ++ []
def dkwX5_fresh_1 : List UInt8 := [42, 180, 0, 60, 182, 0, 117, 2, 160, 0, 7, 4, 167, 0, 4, 3, 6, 182, 0, 87, 42, 180, 0, 60]
abbrev dktX5_fresh_1 : List UInt8 := dkwX5_fresh_1 ++ dktX5_fresh_2
def dkwX5_fresh_0 : List UInt8 := [42, 182, 0, 110, 42, 42, 180, 0, 18, 42, 180, 0, 60, 182, 0, 113, 2, 160, 0, 22, 42, 180, 0, 18]
abbrev dktX5_fresh_0 : List UInt8 := dkwX5_fresh_0 ++ dktX5_fresh_1
theorem dksX5_fresh_0 : cX5_fresh.data.toList.drop 0 = dktX5_fresh_0 := by decide +kernel
theorem dksX5_fresh_1 : cX5_fresh.data.toList.drop 24 = dktX5_fresh_1 := dk_seg dksX5_fresh_0 24 rfl rfl
theorem dksX5_fresh_2 : cX5_fresh.data.toList.drop 48 = dktX5_fresh_2 := dk_seg dksX5_fresh_1 24 rfl rfl
theorem dX5_fresh_0 : decode cX5_fresh 0 = .ok (.aload_n 0, 1) := dk_42 (dk_at dksX5_fresh_0 0 rfl rfl)
theorem dX5_fresh_1 : decode cX5_fresh 1 = .ok (.invokevirtual 110, 3) := dk_182 0 110 (dk_at dksX5_fresh_0 1 rfl rfl)
theorem dX5_fresh_4 : decode cX5_fresh 4 = .ok (.aload_n 0, 1) := dk_42 (dk_at dksX5_fresh_0 4 rfl rfl)
theorem dX5_fresh_5 : decode cX5_fresh 5 = .ok (.aload_n 0, 1) := dk_42 (dk_at dksX5_fresh_0 5 rfl rfl)
theorem dX5_fresh_6 : decode cX5_fresh 6 = .ok (.getfield 18, 3) := dk_180 0 18 (dk_at dksX5_fresh_0 6 rfl rfl)
theorem dX5_fresh_9 : decode cX5_fresh 9 = .ok (.aload_n 0, 1) := dk_42 (dk_at dksX5_fresh_0 9 rfl rfl)
theorem dX5_fresh_10 : decode cX5_fresh 10 = .ok (.getfield 60, 3) := dk_180 0 60 (dk_at dksX5_fresh_0 10 rfl rfl)
theorem dX5_fresh_13 : decode cX5_fresh 13 = .ok (.invokevirtual 113, 3) := dk_182 0 113 (dk_at dksX5_fresh_0 13 rfl rfl)
theorem dX5_fresh_16 : decode cX5_fresh 16 = .ok (.iconst (-1), 1) := dk_2 (dk_at dksX5_fresh_0 16 rfl rfl)
theorem dX5_fresh_17 : decode cX5_fresh 17 = .ok (.if_icmp .ne 22, 3) := dk_160 0 22 (dk_at dksX5_fresh_0 17 rfl rfl)
theorem dX5_fresh_20 : decode cX5_fresh 20 = .ok (.aload_n 0, 1) := dk_42 (dk_at dksX5_fresh_0 20 rfl rfl)
theorem dX5_fresh_21 : decode cX5_fresh 21 = .ok (.getfield 18, 3) := dk_180 0 18 (dk_at dksX5_fresh_0 21 rfl rfl)
theorem dX5_fresh_24 : decode cX5_fresh 24 = .ok (.aload_n 0, 1) := dk_42 (dk_at dksX5_fresh_1 0 rfl rfl)
theorem dX5_fresh_25 : decode cX5_fresh 25 = .ok (.getfield 60, 3) := dk_180 0 60 (dk_at dksX5_fresh_1 1 rfl rfl)
theorem dX5_fresh_28 : decode cX5_fresh 28 = .ok (.invokevirtual 117, 3) := dk_182 0 117 (dk_at dksX5_fresh_1 4 rfl rfl)
theorem dX5_fresh_31 : decode cX5_fresh 31 = .ok (.iconst (-1), 1) := dk_2 (dk_at dksX5_fresh_1 7 rfl rfl)
theorem dX5_fresh_32 : decode cX5_fresh 32 = .ok (.if_icmp .ne 7, 3) := dk_160 0 7 (dk_at dksX5_fresh_1 8 rfl rfl)
theorem dX5_fresh_35 : decode cX5_fresh 35 = .ok (.iconst 1, 1) := dk_4 (dk_at dksX5_fresh_1 11 rfl rfl)
theorem dX5_fresh_36 : decode cX5_fresh 36 = .ok (.goto 4, 3) := dk_167 0 4 (dk_at dksX5_fresh_1 12 rfl rfl)
theorem dX5_fresh_39 : decode cX5_fresh 39 = .ok (.iconst 0, 1) := dk_3 (dk_at dksX5_fresh_1 15 rfl rfl)
theorem dX5_fresh_40 : decode cX5_fresh 40 = .ok (.iconst 3, 1) := dk_6 (dk_at dksX5_fresh_1 16 rfl rfl)
theorem dX5_fresh_41 : decode cX5_fresh 41 = .ok (.invokevirtual 87, 3) := dk_182 0 87 (dk_at dksX5_fresh_1 17 rfl rfl)
theorem dX5_fresh_44 : decode cX5_fresh 44 = .ok (.aload_n 0, 1) := dk_42 (dk_at dksX5_fresh_1 20 rfl rfl)
theorem dX5_fresh_45 : decode cX5_fresh 45 = .ok (.getfield 60, 3) := dk_180 0 60 (dk_at dksX5_fresh_1 21 rfl rfl)
theorem dX5_fresh_48 : decode cX5_fresh 48 = .ok (.lstore_n 1, 1) := dk_64 (dk_at dksX5_fresh_2 0 rfl rfl)
theorem dX5_fresh_49 : decode cX5_fresh 49 = .ok (.aload_n 0, 1) := dk_42 (dk_at dksX5_fresh_2 1 rfl rfl)
theorem dX5_fresh_50 : decode cX5_fresh 50 = .ok (.invokevirtual 95, 3) := dk_182 0 95 (dk_at dksX5_fresh_2 2 rfl rfl)
theorem dX5_fresh_53 : decode cX5_fresh 53 = .ok (.lload_n 1, 1) := dk_31 (dk_at dksX5_fresh_2 5 rfl rfl)
theorem dX5_fresh_54 : decode cX5_fresh 54 = .ok (.lreturn, 1) := dk_173 (dk_at dksX5_fresh_2 6 rfl rfl)
abbrev cX5_needName : ByteArray := prog_10_method_13_code
def yX5_needName : MethodName := ⟨RX5, "needName", "()V"⟩
def dkwX5_needName_2 : List UInt8 := [167, 0, 4, 3, 4, 182, 0, 87, 177]
abbrev dktX5_needName_2 : List UInt8 := dkwX5_needName_2 ++ []
def dkwX5_needName_1 : List UInt8 := [154, 0, 25, 42, 18, 106, 182, 0, 91, 154, 0, 16, 42, 18, 108, 182, 0, 91, 154, 0, 7, 4]
abbrev dktX5_needName_1 : List UInt8 := dkwX5_needName_1 ++ dktX5_needName_2
def dkwX5_needName_0 : List UInt8 := [42, 42, 180, 0, 44, 5, 160, 0, 43, 42, 18, 102, 182, 0, 91, 154, 0, 34, 42, 18, 104, 182, 0, 91]
abbrev dktX5_needName_0 : List UInt8 := dkwX5_needName_0 ++ dktX5_needName_1
theorem dksX5_needName_0 : cX5_needName.data.toList.drop 0 = dktX5_needName_0 := by decide +kernel
theorem dksX5_needName_1 : cX5_needName.data.toList.drop 24 = dktX5_needName_1 := dk_seg dksX5_needName_0 24 rfl rfl
theorem dksX5_needName_2 : cX5_needName.data.toList.drop 46 = dktX5_needName_2 := dk_seg dksX5_needName_1 22 rfl rfl
theorem dX5_needName_0 : decode cX5_needName 0 = .ok (.aload_n 0, 1) := dk_42 (dk_at dksX5_needName_0 0 rfl rfl)
theorem dX5_needName_1 : decode cX5_needName 1 = .ok (.aload_n 0, 1) := dk_42 (dk_at dksX5_needName_0 1 rfl rfl)
theorem dX5_needName_2 : decode cX5_needName 2 = .ok (.getfield 44, 3) := dk_180 0 44 (dk_at dksX5_needName_0 2 rfl rfl)
theorem dX5_needName_5 : decode cX5_needName 5 = .ok (.iconst 2, 1) := dk_5 (dk_at dksX5_needName_0 5 rfl rfl)
theorem dX5_needName_6 : decode cX5_needName 6 = .ok (.if_icmp .ne 43, 3) := dk_160 0 43 (dk_at dksX5_needName_0 6 rfl rfl)
theorem dX5_needName_9 : decode cX5_needName 9 = .ok (.aload_n 0, 1) := dk_42 (dk_at dksX5_needName_0 9 rfl rfl)
theorem dX5_needName_10 : decode cX5_needName 10 = .ok (.ldc 102, 2) := dk_18 102 (dk_at dksX5_needName_0 10 rfl rfl)
theorem dX5_needName_12 : decode cX5_needName 12 = .ok (.invokevirtual 91, 3) := dk_182 0 91 (dk_at dksX5_needName_0 12 rfl rfl)
theorem dX5_needName_15 : decode cX5_needName 15 = .ok (.ifCond .ne 34, 3) := dk_154 0 34 (dk_at dksX5_needName_0 15 rfl rfl)
theorem dX5_needName_18 : decode cX5_needName 18 = .ok (.aload_n 0, 1) := dk_42 (dk_at dksX5_needName_0 18 rfl rfl)
theorem dX5_needName_19 : decode cX5_needName 19 = .ok (.ldc 104, 2) := dk_18 104 (dk_at dksX5_needName_0 19 rfl rfl)
theorem dX5_needName_21 : decode cX5_needName 21 = .ok (.invokevirtual 91, 3) := dk_182 0 91 (dk_at dksX5_needName_0 21 rfl rfl)
theorem dX5_needName_24 : decode cX5_needName 24 = .ok (.ifCond .ne 25, 3) := dk_154 0 25 (dk_at dksX5_needName_1 0 rfl rfl)
theorem dX5_needName_27 : decode cX5_needName 27 = .ok (.aload_n 0, 1) := dk_42 (dk_at dksX5_needName_1 3 rfl rfl)
theorem dX5_needName_28 : decode cX5_needName 28 = .ok (.ldc 106, 2) := dk_18 106 (dk_at dksX5_needName_1 4 rfl rfl)
theorem dX5_needName_30 : decode cX5_needName 30 = .ok (.invokevirtual 91, 3) := dk_182 0 91 (dk_at dksX5_needName_1 6 rfl rfl)
theorem dX5_needName_33 : decode cX5_needName 33 = .ok (.ifCond .ne 16, 3) := dk_154 0 16 (dk_at dksX5_needName_1 9 rfl rfl)
theorem dX5_needName_36 : decode cX5_needName 36 = .ok (.aload_n 0, 1) := dk_42 (dk_at dksX5_needName_1 12 rfl rfl)
theorem dX5_needName_37 : decode cX5_needName 37 = .ok (.ldc 108, 2) := dk_18 108 (dk_at dksX5_needName_1 13 rfl rfl)
theorem dX5_needName_39 : decode cX5_needName 39 = .ok (.invokevirtual 91, 3) := dk_182 0 91 (dk_at dksX5_needName_1 15 rfl rfl)
theorem dX5_needName_42 : decode cX5_needName 42 = .ok (.ifCond .ne 7, 3) := dk_154 0 7 (dk_at dksX5_needName_1 18 rfl rfl)
theorem dX5_needName_45 : decode cX5_needName 45 = .ok (.iconst 1, 1) := dk_4 (dk_at dksX5_needName_1 21 rfl rfl)
theorem dX5_needName_46 : decode cX5_needName 46 = .ok (.goto 4, 3) := dk_167 0 4 (dk_at dksX5_needName_2 0 rfl rfl)
theorem dX5_needName_49 : decode cX5_needName 49 = .ok (.iconst 0, 1) := dk_3 (dk_at dksX5_needName_2 3 rfl rfl)
theorem dX5_needName_50 : decode cX5_needName 50 = .ok (.iconst 1, 1) := dk_4 (dk_at dksX5_needName_2 4 rfl rfl)
theorem dX5_needName_51 : decode cX5_needName 51 = .ok (.invokevirtual 87, 3) := dk_182 0 87 (dk_at dksX5_needName_2 5 rfl rfl)
theorem dX5_needName_54 : decode cX5_needName 54 = .ok (.return_, 1) := dk_177 (dk_at dksX5_needName_2 8 rfl rfl)
abbrev cX5_lineOf : ByteArray := prog_10_method_21_code
def yX5_lineOf : MethodName := ⟨RX5, "lineOf", "()V"⟩
def dkwX5_lineOf_1 : List UInt8 := [182, 0, 163, 184, 0, 183, 182, 0, 176, 87, 177]
abbrev dktX5_lineOf_1 : List UInt8 := dkwX5_lineOf_1 ++ []
def dkwX5_lineOf_0 : List UInt8 := [42, 42, 180, 0, 18, 180, 0, 180, 182, 0, 158, 16, 8, 182, 0, 160, 42, 180, 0, 18, 180, 0, 180, 42]
abbrev dktX5_lineOf_0 : List UInt8 := dkwX5_lineOf_0 ++ dktX5_lineOf_1
theorem dksX5_lineOf_0 : cX5_lineOf.data.toList.drop 0 = dktX5_lineOf_0 := by decide +kernel
theorem dksX5_lineOf_1 : cX5_lineOf.data.toList.drop 24 = dktX5_lineOf_1 := dk_seg dksX5_lineOf_0 24 rfl rfl
theorem dX5_lineOf_0 : decode cX5_lineOf 0 = .ok (.aload_n 0, 1) := dk_42 (dk_at dksX5_lineOf_0 0 rfl rfl)
theorem dX5_lineOf_1 : decode cX5_lineOf 1 = .ok (.aload_n 0, 1) := dk_42 (dk_at dksX5_lineOf_0 1 rfl rfl)
theorem dX5_lineOf_2 : decode cX5_lineOf 2 = .ok (.getfield 18, 3) := dk_180 0 18 (dk_at dksX5_lineOf_0 2 rfl rfl)
theorem dX5_lineOf_5 : decode cX5_lineOf 5 = .ok (.getfield 180, 3) := dk_180 0 180 (dk_at dksX5_lineOf_0 5 rfl rfl)
theorem dX5_lineOf_8 : decode cX5_lineOf 8 = .ok (.invokevirtual 158, 3) := dk_182 0 158 (dk_at dksX5_lineOf_0 8 rfl rfl)
theorem dX5_lineOf_11 : decode cX5_lineOf 11 = .ok (.bipush 8, 2) := dk_16 8 (dk_at dksX5_lineOf_0 11 rfl rfl)
theorem dX5_lineOf_13 : decode cX5_lineOf 13 = .ok (.invokevirtual 160, 3) := dk_182 0 160 (dk_at dksX5_lineOf_0 13 rfl rfl)
theorem dX5_lineOf_16 : decode cX5_lineOf 16 = .ok (.aload_n 0, 1) := dk_42 (dk_at dksX5_lineOf_0 16 rfl rfl)
theorem dX5_lineOf_17 : decode cX5_lineOf 17 = .ok (.getfield 18, 3) := dk_180 0 18 (dk_at dksX5_lineOf_0 17 rfl rfl)
theorem dX5_lineOf_20 : decode cX5_lineOf 20 = .ok (.getfield 180, 3) := dk_180 0 180 (dk_at dksX5_lineOf_0 20 rfl rfl)
theorem dX5_lineOf_23 : decode cX5_lineOf 23 = .ok (.aload_n 0, 1) := dk_42 (dk_at dksX5_lineOf_0 23 rfl rfl)
theorem dX5_lineOf_24 : decode cX5_lineOf 24 = .ok (.invokevirtual 163, 3) := dk_182 0 163 (dk_at dksX5_lineOf_1 0 rfl rfl)
theorem dX5_lineOf_27 : decode cX5_lineOf 27 = .ok (.invokestatic 183, 3) := dk_184 0 183 (dk_at dksX5_lineOf_1 3 rfl rfl)
theorem dX5_lineOf_30 : decode cX5_lineOf 30 = .ok (.invokevirtual 176, 3) := dk_182 0 176 (dk_at dksX5_lineOf_1 6 rfl rfl)
theorem dX5_lineOf_33 : decode cX5_lineOf 33 = .ok (.pop, 1) := dk_87 (dk_at dksX5_lineOf_1 9 rfl rfl)
theorem dX5_lineOf_34 : decode cX5_lineOf 34 = .ok (.return_, 1) := dk_177 (dk_at dksX5_lineOf_1 10 rfl rfl)
abbrev cX5_link : ByteArray := prog_10_method_22_code
def yX5_link : MethodName := ⟨RX5, "link", "()V"⟩
def dkwX5_link_11 : List UInt8 := [180, 0, 189, 4, 96, 181, 0, 189, 177]
abbrev dktX5_link_11 : List UInt8 := dkwX5_link_11 ++ []
def dkwX5_link_10 : List UInt8 := [183, 0, 207, 182, 0, 176, 87, 21, 8, 21, 6, 96, 54, 8, 167, 255, 200, 42, 180, 0, 18, 89]
abbrev dktX5_link_10 : List UInt8 := dkwX5_link_10 ++ dktX5_link_11
def dkwX5_link_9 : List UInt8 := [42, 180, 0, 18, 180, 0, 200, 182, 0, 158, 42, 180, 0, 18, 180, 0, 189, 27, 28, 29, 21, 8, 21, 7]
abbrev dktX5_link_9 : List UInt8 := dkwX5_link_9 ++ dktX5_link_10
def dkwX5_link_8 : List UInt8 := [54, 7, 21, 4, 54, 8, 21, 8, 21, 5, 163, 0, 55, 42, 180, 0, 18, 180, 0, 200, 187, 0, 205, 89]
abbrev dktX5_link_8 : List UInt8 := dkwX5_link_8 ++ dktX5_link_9
def dkwX5_link_7 : List UInt8 := [163, 0, 7, 4, 167, 0, 4, 3, 182, 0, 154, 42, 182, 0, 95, 42, 18, 203, 4, 16, 99, 182, 0, 150]
abbrev dktX5_link_7 : List UInt8 := dkwX5_link_7 ++ dktX5_link_8
def dkwX5_link_6 : List UInt8 := [42, 180, 0, 18, 180, 0, 200, 182, 0, 158, 21, 5, 21, 4, 100, 21, 6, 108, 96, 4, 96, 16, 120]
abbrev dktX5_link_6 : List UInt8 := dkwX5_link_6 ++ dktX5_link_7
def dkwX5_link_5 : List UInt8 := [18, 198, 182, 0, 91, 4, 182, 0, 87, 42, 182, 0, 95, 42, 4, 17, 3, 231, 182, 0, 98, 54, 6, 42]
abbrev dktX5_link_5 : List UInt8 := dkwX5_link_5 ++ dktX5_link_6
def dkwX5_link_4 : List UInt8 := [182, 0, 150, 54, 4, 42, 18, 196, 21, 4, 42, 180, 0, 18, 180, 0, 146, 182, 0, 150, 54, 5, 42, 42]
abbrev dktX5_link_4 : List UInt8 := dkwX5_link_4 ++ dktX5_link_5
def dkwX5_link_3 : List UInt8 := [167, 0, 4, 3, 6, 182, 0, 87, 42, 182, 0, 95, 42, 18, 195, 3, 42, 180, 0, 18, 180, 0, 146]
abbrev dktX5_link_3 : List UInt8 := dkwX5_link_3 ++ dktX5_link_4
def dkwX5_link_2 : List UInt8 := [182, 0, 95, 42, 182, 0, 192, 61, 42, 182, 0, 95, 42, 182, 0, 192, 62, 42, 28, 29, 159, 0, 7, 4]
abbrev dktX5_link_2 : List UInt8 := dkwX5_link_2 ++ dktX5_link_3
def dkwX5_link_1 : List UInt8 := [180, 0, 60, 182, 0, 117, 60, 42, 27, 2, 159, 0, 7, 4, 167, 0, 4, 3, 5, 182, 0, 87, 42]
abbrev dktX5_link_1 : List UInt8 := dkwX5_link_1 ++ dktX5_link_2
def dkwX5_link_0 : List UInt8 := [42, 42, 180, 0, 18, 180, 0, 189, 16, 12, 182, 0, 160, 42, 182, 0, 110, 42, 180, 0, 18, 42]
abbrev dktX5_link_0 : List UInt8 := dkwX5_link_0 ++ dktX5_link_1
theorem dksX5_link_0 : cX5_link.data.toList.drop 0 = dktX5_link_0 := by decide +kernel
theorem dksX5_link_1 : cX5_link.data.toList.drop 22 = dktX5_link_1 := dk_seg dksX5_link_0 22 rfl rfl
theorem dksX5_link_2 : cX5_link.data.toList.drop 45 = dktX5_link_2 := dk_seg dksX5_link_1 23 rfl rfl
theorem dksX5_link_3 : cX5_link.data.toList.drop 69 = dktX5_link_3 := dk_seg dksX5_link_2 24 rfl rfl
theorem dksX5_link_4 : cX5_link.data.toList.drop 92 = dktX5_link_4 := dk_seg dksX5_link_3 23 rfl rfl
theorem dksX5_link_5 : cX5_link.data.toList.drop 116 = dktX5_link_5 := dk_seg dksX5_link_4 24 rfl rfl
theorem dksX5_link_6 : cX5_link.data.toList.drop 140 = dktX5_link_6 := dk_seg dksX5_link_5 24 rfl rfl
theorem dksX5_link_7 : cX5_link.data.toList.drop 163 = dktX5_link_7 := dk_seg dksX5_link_6 23 rfl rfl
theorem dksX5_link_8 : cX5_link.data.toList.drop 187 = dktX5_link_8 := dk_seg dksX5_link_7 24 rfl rfl
theorem dksX5_link_9 : cX5_link.data.toList.drop 211 = dktX5_link_9 := dk_seg dksX5_link_8 24 rfl rfl
theorem dksX5_link_10 : cX5_link.data.toList.drop 235 = dktX5_link_10 := dk_seg dksX5_link_9 24 rfl rfl
theorem dksX5_link_11 : cX5_link.data.toList.drop 257 = dktX5_link_11 := dk_seg dksX5_link_10 22 rfl rfl
theorem dX5_link_0 : decode cX5_link 0 = .ok (.aload_n 0, 1) := dk_42 (dk_at dksX5_link_0 0 rfl rfl)
theorem dX5_link_1 : decode cX5_link 1 = .ok (.aload_n 0, 1) := dk_42 (dk_at dksX5_link_0 1 rfl rfl)
theorem dX5_link_2 : decode cX5_link 2 = .ok (.getfield 18, 3) := dk_180 0 18 (dk_at dksX5_link_0 2 rfl rfl)
theorem dX5_link_5 : decode cX5_link 5 = .ok (.getfield 189, 3) := dk_180 0 189 (dk_at dksX5_link_0 5 rfl rfl)
theorem dX5_link_8 : decode cX5_link 8 = .ok (.bipush 12, 2) := dk_16 12 (dk_at dksX5_link_0 8 rfl rfl)
theorem dX5_link_10 : decode cX5_link 10 = .ok (.invokevirtual 160, 3) := dk_182 0 160 (dk_at dksX5_link_0 10 rfl rfl)
theorem dX5_link_13 : decode cX5_link 13 = .ok (.aload_n 0, 1) := dk_42 (dk_at dksX5_link_0 13 rfl rfl)
theorem dX5_link_14 : decode cX5_link 14 = .ok (.invokevirtual 110, 3) := dk_182 0 110 (dk_at dksX5_link_0 14 rfl rfl)
theorem dX5_link_17 : decode cX5_link 17 = .ok (.aload_n 0, 1) := dk_42 (dk_at dksX5_link_0 17 rfl rfl)
theorem dX5_link_18 : decode cX5_link 18 = .ok (.getfield 18, 3) := dk_180 0 18 (dk_at dksX5_link_0 18 rfl rfl)
theorem dX5_link_21 : decode cX5_link 21 = .ok (.aload_n 0, 1) := dk_42 (dk_at dksX5_link_0 21 rfl rfl)
theorem dX5_link_22 : decode cX5_link 22 = .ok (.getfield 60, 3) := dk_180 0 60 (dk_at dksX5_link_1 0 rfl rfl)
theorem dX5_link_25 : decode cX5_link 25 = .ok (.invokevirtual 117, 3) := dk_182 0 117 (dk_at dksX5_link_1 3 rfl rfl)
theorem dX5_link_28 : decode cX5_link 28 = .ok (.istore_n 1, 1) := dk_60 (dk_at dksX5_link_1 6 rfl rfl)
theorem dX5_link_29 : decode cX5_link 29 = .ok (.aload_n 0, 1) := dk_42 (dk_at dksX5_link_1 7 rfl rfl)
theorem dX5_link_30 : decode cX5_link 30 = .ok (.iload_n 1, 1) := dk_27 (dk_at dksX5_link_1 8 rfl rfl)
theorem dX5_link_31 : decode cX5_link 31 = .ok (.iconst (-1), 1) := dk_2 (dk_at dksX5_link_1 9 rfl rfl)
theorem dX5_link_32 : decode cX5_link 32 = .ok (.if_icmp .eq 7, 3) := dk_159 0 7 (dk_at dksX5_link_1 10 rfl rfl)
theorem dX5_link_35 : decode cX5_link 35 = .ok (.iconst 1, 1) := dk_4 (dk_at dksX5_link_1 13 rfl rfl)
theorem dX5_link_36 : decode cX5_link 36 = .ok (.goto 4, 3) := dk_167 0 4 (dk_at dksX5_link_1 14 rfl rfl)
theorem dX5_link_39 : decode cX5_link 39 = .ok (.iconst 0, 1) := dk_3 (dk_at dksX5_link_1 17 rfl rfl)
theorem dX5_link_40 : decode cX5_link 40 = .ok (.iconst 2, 1) := dk_5 (dk_at dksX5_link_1 18 rfl rfl)
theorem dX5_link_41 : decode cX5_link 41 = .ok (.invokevirtual 87, 3) := dk_182 0 87 (dk_at dksX5_link_1 19 rfl rfl)
theorem dX5_link_44 : decode cX5_link 44 = .ok (.aload_n 0, 1) := dk_42 (dk_at dksX5_link_1 22 rfl rfl)
theorem dX5_link_45 : decode cX5_link 45 = .ok (.invokevirtual 95, 3) := dk_182 0 95 (dk_at dksX5_link_2 0 rfl rfl)
theorem dX5_link_48 : decode cX5_link 48 = .ok (.aload_n 0, 1) := dk_42 (dk_at dksX5_link_2 3 rfl rfl)
theorem dX5_link_49 : decode cX5_link 49 = .ok (.invokevirtual 192, 3) := dk_182 0 192 (dk_at dksX5_link_2 4 rfl rfl)
theorem dX5_link_52 : decode cX5_link 52 = .ok (.istore_n 2, 1) := dk_61 (dk_at dksX5_link_2 7 rfl rfl)
theorem dX5_link_53 : decode cX5_link 53 = .ok (.aload_n 0, 1) := dk_42 (dk_at dksX5_link_2 8 rfl rfl)
theorem dX5_link_54 : decode cX5_link 54 = .ok (.invokevirtual 95, 3) := dk_182 0 95 (dk_at dksX5_link_2 9 rfl rfl)
theorem dX5_link_57 : decode cX5_link 57 = .ok (.aload_n 0, 1) := dk_42 (dk_at dksX5_link_2 12 rfl rfl)
theorem dX5_link_58 : decode cX5_link 58 = .ok (.invokevirtual 192, 3) := dk_182 0 192 (dk_at dksX5_link_2 13 rfl rfl)
theorem dX5_link_61 : decode cX5_link 61 = .ok (.istore_n 3, 1) := dk_62 (dk_at dksX5_link_2 16 rfl rfl)
theorem dX5_link_62 : decode cX5_link 62 = .ok (.aload_n 0, 1) := dk_42 (dk_at dksX5_link_2 17 rfl rfl)
theorem dX5_link_63 : decode cX5_link 63 = .ok (.iload_n 2, 1) := dk_28 (dk_at dksX5_link_2 18 rfl rfl)
theorem dX5_link_64 : decode cX5_link 64 = .ok (.iload_n 3, 1) := dk_29 (dk_at dksX5_link_2 19 rfl rfl)
theorem dX5_link_65 : decode cX5_link 65 = .ok (.if_icmp .eq 7, 3) := dk_159 0 7 (dk_at dksX5_link_2 20 rfl rfl)
theorem dX5_link_68 : decode cX5_link 68 = .ok (.iconst 1, 1) := dk_4 (dk_at dksX5_link_2 23 rfl rfl)
theorem dX5_link_69 : decode cX5_link 69 = .ok (.goto 4, 3) := dk_167 0 4 (dk_at dksX5_link_3 0 rfl rfl)
theorem dX5_link_72 : decode cX5_link 72 = .ok (.iconst 0, 1) := dk_3 (dk_at dksX5_link_3 3 rfl rfl)
theorem dX5_link_73 : decode cX5_link 73 = .ok (.iconst 3, 1) := dk_6 (dk_at dksX5_link_3 4 rfl rfl)
theorem dX5_link_74 : decode cX5_link 74 = .ok (.invokevirtual 87, 3) := dk_182 0 87 (dk_at dksX5_link_3 5 rfl rfl)
theorem dX5_link_77 : decode cX5_link 77 = .ok (.aload_n 0, 1) := dk_42 (dk_at dksX5_link_3 8 rfl rfl)
theorem dX5_link_78 : decode cX5_link 78 = .ok (.invokevirtual 95, 3) := dk_182 0 95 (dk_at dksX5_link_3 9 rfl rfl)
theorem dX5_link_81 : decode cX5_link 81 = .ok (.aload_n 0, 1) := dk_42 (dk_at dksX5_link_3 12 rfl rfl)
theorem dX5_link_82 : decode cX5_link 82 = .ok (.ldc 195, 2) := dk_18 195 (dk_at dksX5_link_3 13 rfl rfl)
theorem dX5_link_84 : decode cX5_link 84 = .ok (.iconst 0, 1) := dk_3 (dk_at dksX5_link_3 15 rfl rfl)
theorem dX5_link_85 : decode cX5_link 85 = .ok (.aload_n 0, 1) := dk_42 (dk_at dksX5_link_3 16 rfl rfl)
theorem dX5_link_86 : decode cX5_link 86 = .ok (.getfield 18, 3) := dk_180 0 18 (dk_at dksX5_link_3 17 rfl rfl)
theorem dX5_link_89 : decode cX5_link 89 = .ok (.getfield 146, 3) := dk_180 0 146 (dk_at dksX5_link_3 20 rfl rfl)
theorem dX5_link_92 : decode cX5_link 92 = .ok (.invokevirtual 150, 3) := dk_182 0 150 (dk_at dksX5_link_4 0 rfl rfl)
theorem dX5_link_95 : decode cX5_link 95 = .ok (.istore 4, 2) := dk_54 4 (dk_at dksX5_link_4 3 rfl rfl)
theorem dX5_link_97 : decode cX5_link 97 = .ok (.aload_n 0, 1) := dk_42 (dk_at dksX5_link_4 5 rfl rfl)
theorem dX5_link_98 : decode cX5_link 98 = .ok (.ldc 196, 2) := dk_18 196 (dk_at dksX5_link_4 6 rfl rfl)
theorem dX5_link_100 : decode cX5_link 100 = .ok (.iload 4, 2) := dk_21 4 (dk_at dksX5_link_4 8 rfl rfl)
theorem dX5_link_102 : decode cX5_link 102 = .ok (.aload_n 0, 1) := dk_42 (dk_at dksX5_link_4 10 rfl rfl)
theorem dX5_link_103 : decode cX5_link 103 = .ok (.getfield 18, 3) := dk_180 0 18 (dk_at dksX5_link_4 11 rfl rfl)
theorem dX5_link_106 : decode cX5_link 106 = .ok (.getfield 146, 3) := dk_180 0 146 (dk_at dksX5_link_4 14 rfl rfl)
theorem dX5_link_109 : decode cX5_link 109 = .ok (.invokevirtual 150, 3) := dk_182 0 150 (dk_at dksX5_link_4 17 rfl rfl)
theorem dX5_link_112 : decode cX5_link 112 = .ok (.istore 5, 2) := dk_54 5 (dk_at dksX5_link_4 20 rfl rfl)
theorem dX5_link_114 : decode cX5_link 114 = .ok (.aload_n 0, 1) := dk_42 (dk_at dksX5_link_4 22 rfl rfl)
theorem dX5_link_115 : decode cX5_link 115 = .ok (.aload_n 0, 1) := dk_42 (dk_at dksX5_link_4 23 rfl rfl)
theorem dX5_link_116 : decode cX5_link 116 = .ok (.ldc 198, 2) := dk_18 198 (dk_at dksX5_link_5 0 rfl rfl)
theorem dX5_link_118 : decode cX5_link 118 = .ok (.invokevirtual 91, 3) := dk_182 0 91 (dk_at dksX5_link_5 2 rfl rfl)
theorem dX5_link_121 : decode cX5_link 121 = .ok (.iconst 1, 1) := dk_4 (dk_at dksX5_link_5 5 rfl rfl)
theorem dX5_link_122 : decode cX5_link 122 = .ok (.invokevirtual 87, 3) := dk_182 0 87 (dk_at dksX5_link_5 6 rfl rfl)
theorem dX5_link_125 : decode cX5_link 125 = .ok (.aload_n 0, 1) := dk_42 (dk_at dksX5_link_5 9 rfl rfl)
theorem dX5_link_126 : decode cX5_link 126 = .ok (.invokevirtual 95, 3) := dk_182 0 95 (dk_at dksX5_link_5 10 rfl rfl)
theorem dX5_link_129 : decode cX5_link 129 = .ok (.aload_n 0, 1) := dk_42 (dk_at dksX5_link_5 13 rfl rfl)
theorem dX5_link_130 : decode cX5_link 130 = .ok (.iconst 1, 1) := dk_4 (dk_at dksX5_link_5 14 rfl rfl)
theorem dX5_link_131 : decode cX5_link 131 = .ok (.sipush 999, 3) := dk_17 3 231 (dk_at dksX5_link_5 15 rfl rfl)
theorem dX5_link_134 : decode cX5_link 134 = .ok (.invokevirtual 98, 3) := dk_182 0 98 (dk_at dksX5_link_5 18 rfl rfl)
theorem dX5_link_137 : decode cX5_link 137 = .ok (.istore 6, 2) := dk_54 6 (dk_at dksX5_link_5 21 rfl rfl)
theorem dX5_link_139 : decode cX5_link 139 = .ok (.aload_n 0, 1) := dk_42 (dk_at dksX5_link_5 23 rfl rfl)
theorem dX5_link_140 : decode cX5_link 140 = .ok (.aload_n 0, 1) := dk_42 (dk_at dksX5_link_6 0 rfl rfl)
theorem dX5_link_141 : decode cX5_link 141 = .ok (.getfield 18, 3) := dk_180 0 18 (dk_at dksX5_link_6 1 rfl rfl)
theorem dX5_link_144 : decode cX5_link 144 = .ok (.getfield 200, 3) := dk_180 0 200 (dk_at dksX5_link_6 4 rfl rfl)
theorem dX5_link_147 : decode cX5_link 147 = .ok (.invokevirtual 158, 3) := dk_182 0 158 (dk_at dksX5_link_6 7 rfl rfl)
theorem dX5_link_150 : decode cX5_link 150 = .ok (.iload 5, 2) := dk_21 5 (dk_at dksX5_link_6 10 rfl rfl)
theorem dX5_link_152 : decode cX5_link 152 = .ok (.iload 4, 2) := dk_21 4 (dk_at dksX5_link_6 12 rfl rfl)
theorem dX5_link_154 : decode cX5_link 154 = .ok (.isub, 1) := dk_100 (dk_at dksX5_link_6 14 rfl rfl)
theorem dX5_link_155 : decode cX5_link 155 = .ok (.iload 6, 2) := dk_21 6 (dk_at dksX5_link_6 15 rfl rfl)
theorem dX5_link_157 : decode cX5_link 157 = .ok (.idiv, 1) := dk_108 (dk_at dksX5_link_6 17 rfl rfl)
theorem dX5_link_158 : decode cX5_link 158 = .ok (.iadd, 1) := dk_96 (dk_at dksX5_link_6 18 rfl rfl)
theorem dX5_link_159 : decode cX5_link 159 = .ok (.iconst 1, 1) := dk_4 (dk_at dksX5_link_6 19 rfl rfl)
theorem dX5_link_160 : decode cX5_link 160 = .ok (.iadd, 1) := dk_96 (dk_at dksX5_link_6 20 rfl rfl)
theorem dX5_link_161 : decode cX5_link 161 = .ok (.bipush 120, 2) := dk_16 120 (dk_at dksX5_link_6 21 rfl rfl)
theorem dX5_link_163 : decode cX5_link 163 = .ok (.if_icmp .gt 7, 3) := dk_163 0 7 (dk_at dksX5_link_7 0 rfl rfl)
theorem dX5_link_166 : decode cX5_link 166 = .ok (.iconst 1, 1) := dk_4 (dk_at dksX5_link_7 3 rfl rfl)
theorem dX5_link_167 : decode cX5_link 167 = .ok (.goto 4, 3) := dk_167 0 4 (dk_at dksX5_link_7 4 rfl rfl)
theorem dX5_link_170 : decode cX5_link 170 = .ok (.iconst 0, 1) := dk_3 (dk_at dksX5_link_7 7 rfl rfl)
theorem dX5_link_171 : decode cX5_link 171 = .ok (.invokevirtual 154, 3) := dk_182 0 154 (dk_at dksX5_link_7 8 rfl rfl)
theorem dX5_link_174 : decode cX5_link 174 = .ok (.aload_n 0, 1) := dk_42 (dk_at dksX5_link_7 11 rfl rfl)
theorem dX5_link_175 : decode cX5_link 175 = .ok (.invokevirtual 95, 3) := dk_182 0 95 (dk_at dksX5_link_7 12 rfl rfl)
theorem dX5_link_178 : decode cX5_link 178 = .ok (.aload_n 0, 1) := dk_42 (dk_at dksX5_link_7 15 rfl rfl)
theorem dX5_link_179 : decode cX5_link 179 = .ok (.ldc 203, 2) := dk_18 203 (dk_at dksX5_link_7 16 rfl rfl)
theorem dX5_link_181 : decode cX5_link 181 = .ok (.iconst 1, 1) := dk_4 (dk_at dksX5_link_7 18 rfl rfl)
theorem dX5_link_182 : decode cX5_link 182 = .ok (.bipush 99, 2) := dk_16 99 (dk_at dksX5_link_7 19 rfl rfl)
theorem dX5_link_184 : decode cX5_link 184 = .ok (.invokevirtual 150, 3) := dk_182 0 150 (dk_at dksX5_link_7 21 rfl rfl)
theorem dX5_link_187 : decode cX5_link 187 = .ok (.istore 7, 2) := dk_54 7 (dk_at dksX5_link_8 0 rfl rfl)
theorem dX5_link_189 : decode cX5_link 189 = .ok (.iload 4, 2) := dk_21 4 (dk_at dksX5_link_8 2 rfl rfl)
theorem dX5_link_191 : decode cX5_link 191 = .ok (.istore 8, 2) := dk_54 8 (dk_at dksX5_link_8 4 rfl rfl)
theorem dX5_link_193 : decode cX5_link 193 = .ok (.iload 8, 2) := dk_21 8 (dk_at dksX5_link_8 6 rfl rfl)
theorem dX5_link_195 : decode cX5_link 195 = .ok (.iload 5, 2) := dk_21 5 (dk_at dksX5_link_8 8 rfl rfl)
theorem dX5_link_197 : decode cX5_link 197 = .ok (.if_icmp .gt 55, 3) := dk_163 0 55 (dk_at dksX5_link_8 10 rfl rfl)
theorem dX5_link_200 : decode cX5_link 200 = .ok (.aload_n 0, 1) := dk_42 (dk_at dksX5_link_8 13 rfl rfl)
theorem dX5_link_201 : decode cX5_link 201 = .ok (.getfield 18, 3) := dk_180 0 18 (dk_at dksX5_link_8 14 rfl rfl)
theorem dX5_link_204 : decode cX5_link 204 = .ok (.getfield 200, 3) := dk_180 0 200 (dk_at dksX5_link_8 17 rfl rfl)
theorem dX5_link_207 : decode cX5_link 207 = .ok (.new 205, 3) := dk_187 0 205 (dk_at dksX5_link_8 20 rfl rfl)
theorem dX5_link_210 : decode cX5_link 210 = .ok (.dup, 1) := dk_89 (dk_at dksX5_link_8 23 rfl rfl)
theorem dX5_link_211 : decode cX5_link 211 = .ok (.aload_n 0, 1) := dk_42 (dk_at dksX5_link_9 0 rfl rfl)
theorem dX5_link_212 : decode cX5_link 212 = .ok (.getfield 18, 3) := dk_180 0 18 (dk_at dksX5_link_9 1 rfl rfl)
theorem dX5_link_215 : decode cX5_link 215 = .ok (.getfield 200, 3) := dk_180 0 200 (dk_at dksX5_link_9 4 rfl rfl)
theorem dX5_link_218 : decode cX5_link 218 = .ok (.invokevirtual 158, 3) := dk_182 0 158 (dk_at dksX5_link_9 7 rfl rfl)
theorem dX5_link_221 : decode cX5_link 221 = .ok (.aload_n 0, 1) := dk_42 (dk_at dksX5_link_9 10 rfl rfl)
theorem dX5_link_222 : decode cX5_link 222 = .ok (.getfield 18, 3) := dk_180 0 18 (dk_at dksX5_link_9 11 rfl rfl)
theorem dX5_link_225 : decode cX5_link 225 = .ok (.getfield 189, 3) := dk_180 0 189 (dk_at dksX5_link_9 14 rfl rfl)
theorem dX5_link_228 : decode cX5_link 228 = .ok (.iload_n 1, 1) := dk_27 (dk_at dksX5_link_9 17 rfl rfl)
theorem dX5_link_229 : decode cX5_link 229 = .ok (.iload_n 2, 1) := dk_28 (dk_at dksX5_link_9 18 rfl rfl)
theorem dX5_link_230 : decode cX5_link 230 = .ok (.iload_n 3, 1) := dk_29 (dk_at dksX5_link_9 19 rfl rfl)
theorem dX5_link_231 : decode cX5_link 231 = .ok (.iload 8, 2) := dk_21 8 (dk_at dksX5_link_9 20 rfl rfl)
theorem dX5_link_233 : decode cX5_link 233 = .ok (.iload 7, 2) := dk_21 7 (dk_at dksX5_link_9 22 rfl rfl)
theorem dX5_link_235 : decode cX5_link 235 = .ok (.invokespecial 207, 3) := dk_183 0 207 (dk_at dksX5_link_10 0 rfl rfl)
theorem dX5_link_238 : decode cX5_link 238 = .ok (.invokevirtual 176, 3) := dk_182 0 176 (dk_at dksX5_link_10 3 rfl rfl)
theorem dX5_link_241 : decode cX5_link 241 = .ok (.pop, 1) := dk_87 (dk_at dksX5_link_10 6 rfl rfl)
theorem dX5_link_242 : decode cX5_link 242 = .ok (.iload 8, 2) := dk_21 8 (dk_at dksX5_link_10 7 rfl rfl)
theorem dX5_link_244 : decode cX5_link 244 = .ok (.iload 6, 2) := dk_21 6 (dk_at dksX5_link_10 9 rfl rfl)
theorem dX5_link_246 : decode cX5_link 246 = .ok (.iadd, 1) := dk_96 (dk_at dksX5_link_10 11 rfl rfl)
theorem dX5_link_247 : decode cX5_link 247 = .ok (.istore 8, 2) := dk_54 8 (dk_at dksX5_link_10 12 rfl rfl)
theorem dX5_link_249 : decode cX5_link 249 = .ok (.goto (-56), 3) := dk_167 255 200 (dk_at dksX5_link_10 14 rfl rfl)
theorem dX5_link_252 : decode cX5_link 252 = .ok (.aload_n 0, 1) := dk_42 (dk_at dksX5_link_10 17 rfl rfl)
theorem dX5_link_253 : decode cX5_link 253 = .ok (.getfield 18, 3) := dk_180 0 18 (dk_at dksX5_link_10 18 rfl rfl)
theorem dX5_link_256 : decode cX5_link 256 = .ok (.dup, 1) := dk_89 (dk_at dksX5_link_10 21 rfl rfl)
theorem dX5_link_257 : decode cX5_link 257 = .ok (.getfield 189, 3) := dk_180 0 189 (dk_at dksX5_link_11 0 rfl rfl)
theorem dX5_link_260 : decode cX5_link 260 = .ok (.iconst 1, 1) := dk_4 (dk_at dksX5_link_11 3 rfl rfl)
theorem dX5_link_261 : decode cX5_link 261 = .ok (.iadd, 1) := dk_96 (dk_at dksX5_link_11 4 rfl rfl)
theorem dX5_link_262 : decode cX5_link 262 = .ok (.putfield 189, 3) := dk_181 0 189 (dk_at dksX5_link_11 5 rfl rfl)
theorem dX5_link_265 : decode cX5_link 265 = .ok (.return_, 1) := dk_177 (dk_at dksX5_link_11 8 rfl rfl)
abbrev cX5_spotHere : ByteArray := prog_10_method_15_code
def yX5_spotHere : MethodName := ⟨RX5, "spotHere", "()I"⟩
def dkwX5_spotHere_1 : List UInt8 := [167, 0, 4, 3, 5, 182, 0, 87, 27, 172]
abbrev dktX5_spotHere_1 : List UInt8 := dkwX5_spotHere_1 ++ []
def dkwX5_spotHere_0 : List UInt8 := [42, 182, 0, 110, 42, 180, 0, 18, 42, 180, 0, 60, 182, 0, 113, 60, 42, 27, 2, 159, 0, 7, 4]
abbrev dktX5_spotHere_0 : List UInt8 := dkwX5_spotHere_0 ++ dktX5_spotHere_1
theorem dksX5_spotHere_0 : cX5_spotHere.data.toList.drop 0 = dktX5_spotHere_0 := by decide +kernel
theorem dksX5_spotHere_1 : cX5_spotHere.data.toList.drop 23 = dktX5_spotHere_1 := dk_seg dksX5_spotHere_0 23 rfl rfl
theorem dX5_spotHere_0 : decode cX5_spotHere 0 = .ok (.aload_n 0, 1) := dk_42 (dk_at dksX5_spotHere_0 0 rfl rfl)
theorem dX5_spotHere_1 : decode cX5_spotHere 1 = .ok (.invokevirtual 110, 3) := dk_182 0 110 (dk_at dksX5_spotHere_0 1 rfl rfl)
theorem dX5_spotHere_4 : decode cX5_spotHere 4 = .ok (.aload_n 0, 1) := dk_42 (dk_at dksX5_spotHere_0 4 rfl rfl)
theorem dX5_spotHere_5 : decode cX5_spotHere 5 = .ok (.getfield 18, 3) := dk_180 0 18 (dk_at dksX5_spotHere_0 5 rfl rfl)
theorem dX5_spotHere_8 : decode cX5_spotHere 8 = .ok (.aload_n 0, 1) := dk_42 (dk_at dksX5_spotHere_0 8 rfl rfl)
theorem dX5_spotHere_9 : decode cX5_spotHere 9 = .ok (.getfield 60, 3) := dk_180 0 60 (dk_at dksX5_spotHere_0 9 rfl rfl)
theorem dX5_spotHere_12 : decode cX5_spotHere 12 = .ok (.invokevirtual 113, 3) := dk_182 0 113 (dk_at dksX5_spotHere_0 12 rfl rfl)
theorem dX5_spotHere_15 : decode cX5_spotHere 15 = .ok (.istore_n 1, 1) := dk_60 (dk_at dksX5_spotHere_0 15 rfl rfl)
theorem dX5_spotHere_16 : decode cX5_spotHere 16 = .ok (.aload_n 0, 1) := dk_42 (dk_at dksX5_spotHere_0 16 rfl rfl)
theorem dX5_spotHere_17 : decode cX5_spotHere 17 = .ok (.iload_n 1, 1) := dk_27 (dk_at dksX5_spotHere_0 17 rfl rfl)
theorem dX5_spotHere_18 : decode cX5_spotHere 18 = .ok (.iconst (-1), 1) := dk_2 (dk_at dksX5_spotHere_0 18 rfl rfl)
theorem dX5_spotHere_19 : decode cX5_spotHere 19 = .ok (.if_icmp .eq 7, 3) := dk_159 0 7 (dk_at dksX5_spotHere_0 19 rfl rfl)
theorem dX5_spotHere_22 : decode cX5_spotHere 22 = .ok (.iconst 1, 1) := dk_4 (dk_at dksX5_spotHere_0 22 rfl rfl)
theorem dX5_spotHere_23 : decode cX5_spotHere 23 = .ok (.goto 4, 3) := dk_167 0 4 (dk_at dksX5_spotHere_1 0 rfl rfl)
theorem dX5_spotHere_26 : decode cX5_spotHere 26 = .ok (.iconst 0, 1) := dk_3 (dk_at dksX5_spotHere_1 3 rfl rfl)
theorem dX5_spotHere_27 : decode cX5_spotHere 27 = .ok (.iconst 2, 1) := dk_5 (dk_at dksX5_spotHere_1 4 rfl rfl)
theorem dX5_spotHere_28 : decode cX5_spotHere 28 = .ok (.invokevirtual 87, 3) := dk_182 0 87 (dk_at dksX5_spotHere_1 5 rfl rfl)
theorem dX5_spotHere_31 : decode cX5_spotHere 31 = .ok (.iload_n 1, 1) := dk_27 (dk_at dksX5_spotHere_1 8 rfl rfl)
theorem dX5_spotHere_32 : decode cX5_spotHere 32 = .ok (.ireturn, 1) := dk_172 (dk_at dksX5_spotHere_1 9 rfl rfl)
theorem q138 : (Jvm.Cond.initialized "LinkTimes$Reader") ∈ lw_all := lw_g (lw_at lw_m1 11 rfl) rfl
theorem q303 : (Jvm.Cond.fieldLinkNest "LinkTimes$Reader" (26 : Nat) "LinkTimes" "tape" "[B" "LinkTimes") ∈ lw_tbl := lw_at lw_m1 176 rfl
theorem q383 : (Jvm.Cond.instantiable "LinkTimes$Reader" (8 : Nat)) ∈ lw_all := lw_g (lw_at lw_m2 16 rfl) rfl
theorem q385 : (Jvm.Cond.instanceMethod ({ cls := "LinkTimes$Reader", name := "<init>", desc := "(LLinkTimes;I)V" } : Jvm.MethodName)) ∈ lw_all := lw_g (lw_at lw_m2 18 rfl) rfl
theorem q386 : (Jvm.Cond.code ({ cls := "LinkTimes$Reader", name := "<init>", desc := "(LLinkTimes;I)V" } : Jvm.MethodName) prog_10_method_1_code (3 : Nat) (Option.none : Option Jvm.ClassFile.FieldType)) ∈ lw_all := lw_g (lw_at lw_m2 19 rfl) rfl
theorem q387 : (Jvm.Cond.methodLink "LinkTimes$Reader" (9 : Nat) ({ cls := "java/lang/Object", name := "<init>", desc := "()V" } : Jvm.MethodName)) ∈ lw_all := lw_g (lw_at lw_m2 20 rfl) rfl
theorem q388 : (Jvm.Cond.classLink "LinkTimes$Reader" (15 : Nat) "LinkTimes$Desk") ∈ lw_all := lw_g (lw_at lw_m2 21 rfl) rfl
theorem q390 : (Jvm.Cond.methodLinkNest "LinkTimes$Reader" (17 : Nat) ({ cls := "LinkTimes$Desk", name := "<init>", desc := "()V" } : Jvm.MethodName) "LinkTimes") ∈ lw_tbl := lw_at lw_m2 23 rfl
theorem q418 : (Jvm.Cond.fieldLinkNest "LinkTimes$Reader" (146 : Nat) "LinkTimes$Desk" "span" "I" "LinkTimes") ∈ lw_tbl := lw_at lw_m2 51 rfl
theorem q420 : (Jvm.Cond.fieldLinkNest "LinkTimes$Reader" (189 : Nat) "LinkTimes$Desk" "links" "I" "LinkTimes") ∈ lw_tbl := lw_at lw_m2 53 rfl
theorem q424 : (Jvm.Cond.fieldLinkNest "LinkTimes$Reader" (122 : Nat) "LinkTimes$Desk" "spots" "Ljava/util/ArrayList;" "LinkTimes") ∈ lw_tbl := lw_at lw_m2 57 rfl
theorem q427 : (Jvm.Cond.fieldLinkNest "LinkTimes$Reader" (180 : Nat) "LinkTimes$Desk" "lines" "Ljava/util/ArrayList;" "LinkTimes") ∈ lw_tbl := lw_at lw_m2 60 rfl
theorem q431 : (Jvm.Cond.fieldLinkNest "LinkTimes$Reader" (200 : Nat) "LinkTimes$Desk" "departures" "Ljava/util/ArrayList;" "LinkTimes") ∈ lw_tbl := lw_at lw_m2 64 rfl
theorem q443 : (Jvm.Cond.fieldLink "LinkTimes$Reader" (22 : Nat) "LinkTimes$Reader" "size" "I") ∈ lw_all := lw_g (lw_at lw_m2 76 rfl) rfl
theorem q444 : (Jvm.Cond.fieldLink "LinkTimes$Reader" (18 : Nat) "LinkTimes$Reader" "d" "LLinkTimes$Desk;") ∈ lw_all := lw_g (lw_at lw_m2 77 rfl) rfl
theorem q445 : (Jvm.Cond.fieldLink "LinkTimes$Reader" (38 : Nat) "LinkTimes$Reader" "to" "I") ∈ lw_all := lw_g (lw_at lw_m2 78 rfl) rfl
theorem q446 : (Jvm.Cond.fieldLink "LinkTimes$Reader" (41 : Nat) "LinkTimes$Reader" "from" "I") ∈ lw_all := lw_g (lw_at lw_m2 79 rfl) rfl
theorem q447 : (Jvm.Cond.fieldLink "LinkTimes$Reader" (44 : Nat) "LinkTimes$Reader" "sort" "I") ∈ lw_all := lw_g (lw_at lw_m2 80 rfl) rfl
theorem q448 : (Jvm.Cond.fieldLink "LinkTimes$Reader" (64 : Nat) "LinkTimes$Reader" "value" "I") ∈ lw_all := lw_g (lw_at lw_m2 81 rfl) rfl
theorem q449 : (Jvm.Cond.fieldLink "LinkTimes$Reader" (60 : Nat) "LinkTimes$Reader" "word" "J") ∈ lw_all := lw_g (lw_at lw_m2 82 rfl) rfl
theorem q450 : (Jvm.Cond.fieldLink "LinkTimes$Reader" (3 : Nat) "LinkTimes$Reader" "this$0" "LLinkTimes;") ∈ lw_all := lw_g (lw_at lw_m2 83 rfl) rfl
theorem q451 : (Jvm.Cond.laysFinal "LinkTimes$Reader" "LinkTimes$Reader" "size" "I") ∈ lw_all := lw_g (lw_at lw_m2 84 rfl) rfl
theorem q452 : (Jvm.Cond.soleField "LinkTimes$Reader" "size") ∈ lw_all := lw_g (lw_at lw_m2 85 rfl) rfl
theorem q453 : (Jvm.Cond.laysFinal "LinkTimes$Reader" "LinkTimes$Reader" "d" "LLinkTimes$Desk;") ∈ lw_all := lw_g (lw_at lw_m2 86 rfl) rfl
theorem q454 : (Jvm.Cond.soleField "LinkTimes$Reader" "d") ∈ lw_all := lw_g (lw_at lw_m2 87 rfl) rfl
theorem q455 : (Jvm.Cond.lays "LinkTimes$Reader" "LinkTimes$Reader" "to" "I") ∈ lw_all := lw_g (lw_at lw_m2 88 rfl) rfl
theorem q456 : (Jvm.Cond.soleField "LinkTimes$Reader" "to") ∈ lw_all := lw_g (lw_at lw_m2 89 rfl) rfl
theorem q457 : (Jvm.Cond.lays "LinkTimes$Reader" "LinkTimes$Reader" "from" "I") ∈ lw_all := lw_g (lw_at lw_m2 90 rfl) rfl
theorem q458 : (Jvm.Cond.soleField "LinkTimes$Reader" "from") ∈ lw_all := lw_g (lw_at lw_m2 91 rfl) rfl
theorem q459 : (Jvm.Cond.lays "LinkTimes$Reader" "LinkTimes$Reader" "sort" "I") ∈ lw_all := lw_g (lw_at lw_m2 92 rfl) rfl
theorem q460 : (Jvm.Cond.soleField "LinkTimes$Reader" "sort") ∈ lw_all := lw_g (lw_at lw_m2 93 rfl) rfl
theorem q461 : (Jvm.Cond.lays "LinkTimes$Reader" "LinkTimes$Reader" "value" "I") ∈ lw_all := lw_g (lw_at lw_m2 94 rfl) rfl
theorem q462 : (Jvm.Cond.soleField "LinkTimes$Reader" "value") ∈ lw_all := lw_g (lw_at lw_m2 95 rfl) rfl
theorem q463 : (Jvm.Cond.lays "LinkTimes$Reader" "LinkTimes$Reader" "word" "J") ∈ lw_all := lw_g (lw_at lw_m2 96 rfl) rfl
theorem q464 : (Jvm.Cond.soleField "LinkTimes$Reader" "word") ∈ lw_all := lw_g (lw_at lw_m2 97 rfl) rfl
theorem q465 : (Jvm.Cond.laysFinal "LinkTimes$Reader" "LinkTimes$Reader" "this$0" "LLinkTimes;") ∈ lw_all := lw_g (lw_at lw_m2 98 rfl) rfl
theorem q466 : (Jvm.Cond.soleField "LinkTimes$Reader" "this$0") ∈ lw_all := lw_g (lw_at lw_m2 99 rfl) rfl
theorem q467 : (Jvm.Cond.superclass "LinkTimes$Reader" "java/lang/Object") ∈ lw_all := lw_g (lw_at lw_m2 100 rfl) rfl
theorem q469 : (Jvm.Cond.instanceMethod ({ cls := "LinkTimes$Reader", name := "read", desc := "()LLinkTimes$Desk;" } : Jvm.MethodName)) ∈ lw_all := lw_g (lw_at lw_m2 102 rfl) rfl
theorem q470 : (Jvm.Cond.selects "LinkTimes$Reader" ({ cls := "LinkTimes$Reader", name := "read", desc := "()LLinkTimes$Desk;" } : Jvm.MethodName) ({ cls := "LinkTimes$Reader", name := "read", desc := "()LLinkTimes$Desk;" } : Jvm.MethodName)) ∈ lw_all := lw_g (lw_at lw_m2 103 rfl) rfl
theorem q471 : (Jvm.Cond.codeWith ({ cls := "LinkTimes$Reader", name := "read", desc := "()LLinkTimes$Desk;" } : Jvm.MethodName) prog_10_method_16_code (2 : Nat) (Option.some (Jvm.ClassFile.FieldType.object "LinkTimes$Desk")) [((27 : Nat), (69 : Nat), (72 : Nat), (67 : Nat))]) ∈ lw_all := lw_g (lw_at lw_m2 104 rfl) rfl
theorem q472 : (Jvm.Cond.classLink "LinkTimes$Reader" (67 : Nat) "LinkTimes$Flaw") ∈ lw_all := lw_g (lw_at lw_m2 105 rfl) rfl
theorem q473 : (Jvm.Cond.methodLink "LinkTimes$Reader" (95 : Nat) ({ cls := "LinkTimes$Reader", name := "go", desc := "()V" } : Jvm.MethodName)) ∈ lw_all := lw_g (lw_at lw_m2 106 rfl) rfl
theorem q474 : (Jvm.Cond.privateMethod ({ cls := "LinkTimes$Reader", name := "go", desc := "()V" } : Jvm.MethodName)) ∈ lw_tbl := lw_at lw_m2 107 rfl
theorem q475 : (Jvm.Cond.instanceMethod ({ cls := "LinkTimes$Reader", name := "go", desc := "()V" } : Jvm.MethodName)) ∈ lw_all := lw_g (lw_at lw_m2 108 rfl) rfl
theorem q476 : (Jvm.Cond.code ({ cls := "LinkTimes$Reader", name := "go", desc := "()V" } : Jvm.MethodName) prog_10_method_5_code (1 : Nat) (Option.none : Option Jvm.ClassFile.FieldType)) ∈ lw_all := lw_g (lw_at lw_m2 109 rfl) rfl
theorem q477 : (Jvm.Cond.methodLink "LinkTimes$Reader" (30 : Nat) ({ cls := "LinkTimes$Reader", name := "byteAt", desc := "(I)I" } : Jvm.MethodName)) ∈ lw_all := lw_g (lw_at lw_m2 110 rfl) rfl
theorem q478 : (Jvm.Cond.privateMethod ({ cls := "LinkTimes$Reader", name := "byteAt", desc := "(I)I" } : Jvm.MethodName)) ∈ lw_tbl := lw_at lw_m2 111 rfl
theorem q479 : (Jvm.Cond.instanceMethod ({ cls := "LinkTimes$Reader", name := "byteAt", desc := "(I)I" } : Jvm.MethodName)) ∈ lw_all := lw_g (lw_at lw_m2 112 rfl) rfl
theorem q480 : (Jvm.Cond.code ({ cls := "LinkTimes$Reader", name := "byteAt", desc := "(I)I" } : Jvm.MethodName) prog_10_method_2_code (2 : Nat) (Option.some Jvm.ClassFile.FieldType.int)) ∈ lw_all := lw_g (lw_at lw_m2 113 rfl) rfl
theorem q481 : (Jvm.Cond.methodLink "LinkTimes$Reader" (47 : Nat) ({ cls := "LinkTimes$Reader", name := "isLetter", desc := "(I)Z" } : Jvm.MethodName)) ∈ lw_all := lw_g (lw_at lw_m2 114 rfl) rfl
theorem q482 : (Jvm.Cond.privateMethod ({ cls := "LinkTimes$Reader", name := "isLetter", desc := "(I)Z" } : Jvm.MethodName)) ∈ lw_tbl := lw_at lw_m2 115 rfl
theorem q483 : (Jvm.Cond.instanceMethod ({ cls := "LinkTimes$Reader", name := "isLetter", desc := "(I)Z" } : Jvm.MethodName)) ∈ lw_all := lw_g (lw_at lw_m2 116 rfl) rfl
theorem q484 : (Jvm.Cond.code ({ cls := "LinkTimes$Reader", name := "isLetter", desc := "(I)Z" } : Jvm.MethodName) prog_10_method_3_code (2 : Nat) (Option.some Jvm.ClassFile.FieldType.boolean)) ∈ lw_all := lw_g (lw_at lw_m2 117 rfl) rfl
theorem q485 : (Jvm.Cond.methodLinkNest "LinkTimes$Reader" (34 : Nat) ({ cls := "LinkTimes", name := "isIn", desc := "(III)Z" } : Jvm.MethodName) "LinkTimes") ∈ lw_tbl := lw_at lw_m2 118 rfl
theorem q486 : (Jvm.Cond.methodLink "LinkTimes$Reader" (51 : Nat) ({ cls := "LinkTimes$Reader", name := "goWord", desc := "()V" } : Jvm.MethodName)) ∈ lw_all := lw_g (lw_at lw_m2 119 rfl) rfl
theorem q487 : (Jvm.Cond.privateMethod ({ cls := "LinkTimes$Reader", name := "goWord", desc := "()V" } : Jvm.MethodName)) ∈ lw_tbl := lw_at lw_m2 120 rfl
theorem q488 : (Jvm.Cond.instanceMethod ({ cls := "LinkTimes$Reader", name := "goWord", desc := "()V" } : Jvm.MethodName)) ∈ lw_all := lw_g (lw_at lw_m2 121 rfl) rfl
theorem q489 : (Jvm.Cond.code ({ cls := "LinkTimes$Reader", name := "goWord", desc := "()V" } : Jvm.MethodName) prog_10_method_6_code (1 : Nat) (Option.none : Option Jvm.ClassFile.FieldType)) ∈ lw_all := lw_g (lw_at lw_m2 122 rfl) rfl
theorem q490 : (Jvm.Cond.methodLink "LinkTimes$Reader" (54 : Nat) ({ cls := "LinkTimes$Reader", name := "isDigit", desc := "(I)Z" } : Jvm.MethodName)) ∈ lw_all := lw_g (lw_at lw_m2 123 rfl) rfl
theorem q491 : (Jvm.Cond.privateMethod ({ cls := "LinkTimes$Reader", name := "isDigit", desc := "(I)Z" } : Jvm.MethodName)) ∈ lw_tbl := lw_at lw_m2 124 rfl
theorem q492 : (Jvm.Cond.instanceMethod ({ cls := "LinkTimes$Reader", name := "isDigit", desc := "(I)Z" } : Jvm.MethodName)) ∈ lw_all := lw_g (lw_at lw_m2 125 rfl) rfl
theorem q493 : (Jvm.Cond.code ({ cls := "LinkTimes$Reader", name := "isDigit", desc := "(I)Z" } : Jvm.MethodName) prog_10_method_4_code (2 : Nat) (Option.some Jvm.ClassFile.FieldType.boolean)) ∈ lw_all := lw_g (lw_at lw_m2 126 rfl) rfl
theorem q494 : (Jvm.Cond.methodLink "LinkTimes$Reader" (57 : Nat) ({ cls := "LinkTimes$Reader", name := "goWhole", desc := "()V" } : Jvm.MethodName)) ∈ lw_all := lw_g (lw_at lw_m2 127 rfl) rfl
theorem q495 : (Jvm.Cond.privateMethod ({ cls := "LinkTimes$Reader", name := "goWhole", desc := "()V" } : Jvm.MethodName)) ∈ lw_tbl := lw_at lw_m2 128 rfl
theorem q496 : (Jvm.Cond.instanceMethod ({ cls := "LinkTimes$Reader", name := "goWhole", desc := "()V" } : Jvm.MethodName)) ∈ lw_all := lw_g (lw_at lw_m2 129 rfl) rfl
theorem q497 : (Jvm.Cond.code ({ cls := "LinkTimes$Reader", name := "goWhole", desc := "()V" } : Jvm.MethodName) prog_10_method_7_code (1 : Nat) (Option.none : Option Jvm.ClassFile.FieldType)) ∈ lw_all := lw_g (lw_at lw_m2 130 rfl) rfl
theorem q498 : (Jvm.Cond.methodLink "LinkTimes$Reader" (120 : Nat) ({ cls := "LinkTimes$Reader", name := "line", desc := "()V" } : Jvm.MethodName)) ∈ lw_all := lw_g (lw_at lw_m2 131 rfl) rfl
theorem q499 : (Jvm.Cond.privateMethod ({ cls := "LinkTimes$Reader", name := "line", desc := "()V" } : Jvm.MethodName)) ∈ lw_tbl := lw_at lw_m2 132 rfl
theorem q500 : (Jvm.Cond.instanceMethod ({ cls := "LinkTimes$Reader", name := "line", desc := "()V" } : Jvm.MethodName)) ∈ lw_all := lw_g (lw_at lw_m2 133 rfl) rfl
theorem q501 : (Jvm.Cond.codeWith ({ cls := "LinkTimes$Reader", name := "line", desc := "()V" } : Jvm.MethodName) prog_10_method_17_code (2 : Nat) (Option.none : Option Jvm.ClassFile.FieldType) [((0 : Nat), (70 : Nat), (73 : Nat), (67 : Nat)), ((0 : Nat), (70 : Nat), (73 : Nat), (72 : Nat))]) ∈ lw_all := lw_g (lw_at lw_m2 134 rfl) rfl
theorem q502 : (Jvm.Cond.classLink "LinkTimes$Reader" (72 : Nat) "LinkTimes$Full") ∈ lw_all := lw_g (lw_at lw_m2 135 rfl) rfl
theorem q503 : (Jvm.Cond.stringRef "LinkTimes$Reader" (102 : Nat) "desk") ∈ lw_tbl := lw_at lw_m2 136 rfl
theorem q504 : (Jvm.Cond.methodLink "LinkTimes$Reader" (91 : Nat) ({ cls := "LinkTimes$Reader", name := "is", desc := "(Ljava/lang/String;)Z" } : Jvm.MethodName)) ∈ lw_all := lw_g (lw_at lw_m2 137 rfl) rfl
theorem q505 : (Jvm.Cond.privateMethod ({ cls := "LinkTimes$Reader", name := "is", desc := "(Ljava/lang/String;)Z" } : Jvm.MethodName)) ∈ lw_tbl := lw_at lw_m2 138 rfl
theorem q506 : (Jvm.Cond.instanceMethod ({ cls := "LinkTimes$Reader", name := "is", desc := "(Ljava/lang/String;)Z" } : Jvm.MethodName)) ∈ lw_all := lw_g (lw_at lw_m2 139 rfl) rfl
theorem q507 : (Jvm.Cond.code ({ cls := "LinkTimes$Reader", name := "is", desc := "(Ljava/lang/String;)Z" } : Jvm.MethodName) prog_10_method_10_code (5 : Nat) (Option.some Jvm.ClassFile.FieldType.boolean)) ∈ lw_all := lw_g (lw_at lw_m2 140 rfl) rfl
theorem q508 : (Jvm.Cond.methodLink "LinkTimes$Reader" (77 : Nat) ({ cls := "java/lang/String", name := "length", desc := "()I" } : Jvm.MethodName)) ∈ lw_all := lw_g (lw_at lw_m2 141 rfl) rfl
theorem q518 : (Jvm.Cond.methodLink "LinkTimes$Reader" (83 : Nat) ({ cls := "java/lang/String", name := "charAt", desc := "(I)C" } : Jvm.MethodName)) ∈ lw_all := lw_g (lw_at lw_m2 151 rfl) rfl
theorem q556 : (Jvm.Cond.methodLink "LinkTimes$Reader" (137 : Nat) ({ cls := "LinkTimes$Reader", name := "desk", desc := "()V" } : Jvm.MethodName)) ∈ lw_all := lw_g (lw_at lw_m2 189 rfl) rfl
theorem q557 : (Jvm.Cond.privateMethod ({ cls := "LinkTimes$Reader", name := "desk", desc := "()V" } : Jvm.MethodName)) ∈ lw_tbl := lw_at lw_m2 190 rfl
theorem q558 : (Jvm.Cond.instanceMethod ({ cls := "LinkTimes$Reader", name := "desk", desc := "()V" } : Jvm.MethodName)) ∈ lw_all := lw_g (lw_at lw_m2 191 rfl) rfl
theorem q559 : (Jvm.Cond.code ({ cls := "LinkTimes$Reader", name := "desk", desc := "()V" } : Jvm.MethodName) prog_10_method_18_code (1 : Nat) (Option.none : Option Jvm.ClassFile.FieldType)) ∈ lw_all := lw_g (lw_at lw_m2 192 rfl) rfl
theorem q560 : (Jvm.Cond.methodLink "LinkTimes$Reader" (87 : Nat) ({ cls := "LinkTimes$Reader", name := "need", desc := "(ZI)V" } : Jvm.MethodName)) ∈ lw_all := lw_g (lw_at lw_m2 193 rfl) rfl
theorem q561 : (Jvm.Cond.privateMethod ({ cls := "LinkTimes$Reader", name := "need", desc := "(ZI)V" } : Jvm.MethodName)) ∈ lw_tbl := lw_at lw_m2 194 rfl
theorem q562 : (Jvm.Cond.instanceMethod ({ cls := "LinkTimes$Reader", name := "need", desc := "(ZI)V" } : Jvm.MethodName)) ∈ lw_all := lw_g (lw_at lw_m2 195 rfl) rfl
theorem q563 : (Jvm.Cond.code ({ cls := "LinkTimes$Reader", name := "need", desc := "(ZI)V" } : Jvm.MethodName) prog_10_method_8_code (3 : Nat) (Option.none : Option Jvm.ClassFile.FieldType)) ∈ lw_all := lw_g (lw_at lw_m2 196 rfl) rfl
theorem q604 : (Jvm.Cond.methodLink "LinkTimes$Reader" (69 : Nat) ({ cls := "LinkTimes$Flaw", name := "<init>", desc := "(II)V" } : Jvm.MethodName)) ∈ lw_all := lw_g (lw_at lw_m2 237 rfl) rfl
theorem q637 : (Jvm.Cond.stringRef "LinkTimes$Reader" (149 : Nat) "span") ∈ lw_tbl := lw_at lw_m3 30 rfl
theorem q638 : (Jvm.Cond.methodLink "LinkTimes$Reader" (150 : Nat) ({ cls := "LinkTimes$Reader", name := "part", desc := "(Ljava/lang/String;II)I" } : Jvm.MethodName)) ∈ lw_all := lw_g (lw_at lw_m3 31 rfl) rfl
theorem q639 : (Jvm.Cond.privateMethod ({ cls := "LinkTimes$Reader", name := "part", desc := "(Ljava/lang/String;II)I" } : Jvm.MethodName)) ∈ lw_tbl := lw_at lw_m3 32 rfl
theorem q640 : (Jvm.Cond.instanceMethod ({ cls := "LinkTimes$Reader", name := "part", desc := "(Ljava/lang/String;II)I" } : Jvm.MethodName)) ∈ lw_all := lw_g (lw_at lw_m3 33 rfl) rfl
theorem q641 : (Jvm.Cond.code ({ cls := "LinkTimes$Reader", name := "part", desc := "(Ljava/lang/String;II)I" } : Jvm.MethodName) prog_10_method_12_code (5 : Nat) (Option.some Jvm.ClassFile.FieldType.int)) ∈ lw_all := lw_g (lw_at lw_m3 34 rfl) rfl
theorem q642 : (Jvm.Cond.methodLink "LinkTimes$Reader" (98 : Nat) ({ cls := "LinkTimes$Reader", name := "at", desc := "(II)I" } : Jvm.MethodName)) ∈ lw_all := lw_g (lw_at lw_m3 35 rfl) rfl
theorem q643 : (Jvm.Cond.privateMethod ({ cls := "LinkTimes$Reader", name := "at", desc := "(II)I" } : Jvm.MethodName)) ∈ lw_tbl := lw_at lw_m3 36 rfl
theorem q644 : (Jvm.Cond.instanceMethod ({ cls := "LinkTimes$Reader", name := "at", desc := "(II)I" } : Jvm.MethodName)) ∈ lw_all := lw_g (lw_at lw_m3 37 rfl) rfl
theorem q645 : (Jvm.Cond.code ({ cls := "LinkTimes$Reader", name := "at", desc := "(II)I" } : Jvm.MethodName) prog_10_method_11_code (3 : Nat) (Option.some Jvm.ClassFile.FieldType.int)) ∈ lw_all := lw_g (lw_at lw_m3 38 rfl) rfl
theorem q646 : (Jvm.Cond.stringRef "LinkTimes$Reader" (104 : Nat) "spot") ∈ lw_tbl := lw_at lw_m3 39 rfl
theorem q647 : (Jvm.Cond.methodLink "LinkTimes$Reader" (139 : Nat) ({ cls := "LinkTimes$Reader", name := "spot", desc := "()V" } : Jvm.MethodName)) ∈ lw_all := lw_g (lw_at lw_m3 40 rfl) rfl
theorem q648 : (Jvm.Cond.privateMethod ({ cls := "LinkTimes$Reader", name := "spot", desc := "()V" } : Jvm.MethodName)) ∈ lw_tbl := lw_at lw_m3 41 rfl
theorem q649 : (Jvm.Cond.instanceMethod ({ cls := "LinkTimes$Reader", name := "spot", desc := "()V" } : Jvm.MethodName)) ∈ lw_all := lw_g (lw_at lw_m3 42 rfl) rfl
theorem q650 : (Jvm.Cond.code ({ cls := "LinkTimes$Reader", name := "spot", desc := "()V" } : Jvm.MethodName) prog_10_method_20_code (4 : Nat) (Option.none : Option Jvm.ClassFile.FieldType)) ∈ lw_all := lw_g (lw_at lw_m3 43 rfl) rfl
theorem q651 : (Jvm.Cond.methodLink "LinkTimes$Reader" (158 : Nat) ({ cls := "java/util/ArrayList", name := "size", desc := "()I" } : Jvm.MethodName)) ∈ lw_all := lw_g (lw_at lw_m3 44 rfl) rfl
theorem q655 : (Jvm.Cond.methodLink "LinkTimes$Reader" (160 : Nat) ({ cls := "LinkTimes$Reader", name := "begins", desc := "(II)V" } : Jvm.MethodName)) ∈ lw_all := lw_g (lw_at lw_m3 48 rfl) rfl
theorem q656 : (Jvm.Cond.privateMethod ({ cls := "LinkTimes$Reader", name := "begins", desc := "(II)V" } : Jvm.MethodName)) ∈ lw_tbl := lw_at lw_m3 49 rfl
theorem q657 : (Jvm.Cond.instanceMethod ({ cls := "LinkTimes$Reader", name := "begins", desc := "(II)V" } : Jvm.MethodName)) ∈ lw_all := lw_g (lw_at lw_m3 50 rfl) rfl
theorem q658 : (Jvm.Cond.code ({ cls := "LinkTimes$Reader", name := "begins", desc := "(II)V" } : Jvm.MethodName) prog_10_method_19_code (3 : Nat) (Option.none : Option Jvm.ClassFile.FieldType)) ∈ lw_all := lw_g (lw_at lw_m3 51 rfl) rfl
theorem q659 : (Jvm.Cond.methodLink "LinkTimes$Reader" (154 : Nat) ({ cls := "LinkTimes$Reader", name := "needRoom", desc := "(Z)V" } : Jvm.MethodName)) ∈ lw_all := lw_g (lw_at lw_m3 52 rfl) rfl
theorem q660 : (Jvm.Cond.privateMethod ({ cls := "LinkTimes$Reader", name := "needRoom", desc := "(Z)V" } : Jvm.MethodName)) ∈ lw_tbl := lw_at lw_m3 53 rfl
theorem q661 : (Jvm.Cond.instanceMethod ({ cls := "LinkTimes$Reader", name := "needRoom", desc := "(Z)V" } : Jvm.MethodName)) ∈ lw_all := lw_g (lw_at lw_m3 54 rfl) rfl
theorem q662 : (Jvm.Cond.code ({ cls := "LinkTimes$Reader", name := "needRoom", desc := "(Z)V" } : Jvm.MethodName) prog_10_method_9_code (2 : Nat) (Option.none : Option Jvm.ClassFile.FieldType)) ∈ lw_all := lw_g (lw_at lw_m3 55 rfl) rfl
theorem q671 : (Jvm.Cond.methodLink "LinkTimes$Reader" (74 : Nat) ({ cls := "LinkTimes$Full", name := "<init>", desc := "(I)V" } : Jvm.MethodName)) ∈ lw_all := lw_g (lw_at lw_m3 64 rfl) rfl
theorem q679 : (Jvm.Cond.methodLink "LinkTimes$Reader" (163 : Nat) ({ cls := "LinkTimes$Reader", name := "fresh", desc := "()J" } : Jvm.MethodName)) ∈ lw_all := lw_g (lw_at lw_m3 72 rfl) rfl
theorem q680 : (Jvm.Cond.privateMethod ({ cls := "LinkTimes$Reader", name := "fresh", desc := "()J" } : Jvm.MethodName)) ∈ lw_tbl := lw_at lw_m3 73 rfl
theorem q681 : (Jvm.Cond.instanceMethod ({ cls := "LinkTimes$Reader", name := "fresh", desc := "()J" } : Jvm.MethodName)) ∈ lw_all := lw_g (lw_at lw_m3 74 rfl) rfl
theorem q682 : (Jvm.Cond.code ({ cls := "LinkTimes$Reader", name := "fresh", desc := "()J" } : Jvm.MethodName) prog_10_method_14_code (3 : Nat) (Option.some Jvm.ClassFile.FieldType.long)) ∈ lw_all := lw_g (lw_at lw_m3 75 rfl) rfl
theorem q683 : (Jvm.Cond.methodLink "LinkTimes$Reader" (110 : Nat) ({ cls := "LinkTimes$Reader", name := "needName", desc := "()V" } : Jvm.MethodName)) ∈ lw_all := lw_g (lw_at lw_m3 76 rfl) rfl
theorem q684 : (Jvm.Cond.privateMethod ({ cls := "LinkTimes$Reader", name := "needName", desc := "()V" } : Jvm.MethodName)) ∈ lw_tbl := lw_at lw_m3 77 rfl
theorem q685 : (Jvm.Cond.instanceMethod ({ cls := "LinkTimes$Reader", name := "needName", desc := "()V" } : Jvm.MethodName)) ∈ lw_all := lw_g (lw_at lw_m3 78 rfl) rfl
theorem q686 : (Jvm.Cond.code ({ cls := "LinkTimes$Reader", name := "needName", desc := "()V" } : Jvm.MethodName) prog_10_method_13_code (1 : Nat) (Option.none : Option Jvm.ClassFile.FieldType)) ∈ lw_all := lw_g (lw_at lw_m3 79 rfl) rfl
theorem q687 : (Jvm.Cond.stringRef "LinkTimes$Reader" (106 : Nat) "line") ∈ lw_tbl := lw_at lw_m3 80 rfl
theorem q688 : (Jvm.Cond.stringRef "LinkTimes$Reader" (108 : Nat) "link") ∈ lw_tbl := lw_at lw_m3 81 rfl
theorem q689 : (Jvm.Cond.methodLink "LinkTimes$Reader" (113 : Nat) ({ cls := "LinkTimes$Desk", name := "findSpot", desc := "(J)I" } : Jvm.MethodName)) ∈ lw_all := lw_g (lw_at lw_m3 82 rfl) rfl
theorem q707 : (Jvm.Cond.methodLink "LinkTimes$Reader" (117 : Nat) ({ cls := "LinkTimes$Desk", name := "findLine", desc := "(J)I" } : Jvm.MethodName)) ∈ lw_all := lw_g (lw_at lw_m3 100 rfl) rfl
theorem q716 : (Jvm.Cond.stringRef "LinkTimes$Reader" (167 : Nat) "change") ∈ lw_tbl := lw_at lw_m3 109 rfl
theorem q717 : (Jvm.Cond.classLink "LinkTimes$Reader" (169 : Nat) "LinkTimes$Spot") ∈ lw_all := lw_g (lw_at lw_m3 110 rfl) rfl
theorem q719 : (Jvm.Cond.stringRef "LinkTimes$Reader" (171 : Nat) "wait") ∈ lw_tbl := lw_at lw_m3 112 rfl
theorem q720 : (Jvm.Cond.methodLink "LinkTimes$Reader" (173 : Nat) ({ cls := "LinkTimes$Spot", name := "<init>", desc := "(JII)V" } : Jvm.MethodName)) ∈ lw_all := lw_g (lw_at lw_m3 113 rfl) rfl
theorem q739 : (Jvm.Cond.methodLink "LinkTimes$Reader" (176 : Nat) ({ cls := "java/util/ArrayList", name := "add", desc := "(Ljava/lang/Object;)Z" } : Jvm.MethodName)) ∈ lw_all := lw_g (lw_at lw_m3 132 rfl) rfl
theorem q780 : (Jvm.Cond.selects "LinkTimes$Reader" ({ cls := "java/lang/Object", name := "getClass", desc := "()Ljava/lang/Class;" } : Jvm.MethodName) ({ cls := "java/lang/Object", name := "getClass", desc := "()Ljava/lang/Class;" } : Jvm.MethodName)) ∈ lw_all := lw_g (lw_at lw_m3 173 rfl) rfl
theorem q806 : (Jvm.Cond.methodLink "LinkTimes$Reader" (141 : Nat) ({ cls := "LinkTimes$Reader", name := "lineOf", desc := "()V" } : Jvm.MethodName)) ∈ lw_all := lw_g (lw_at lw_m3 199 rfl) rfl
theorem q807 : (Jvm.Cond.privateMethod ({ cls := "LinkTimes$Reader", name := "lineOf", desc := "()V" } : Jvm.MethodName)) ∈ lw_tbl := lw_at lw_m3 200 rfl
theorem q808 : (Jvm.Cond.instanceMethod ({ cls := "LinkTimes$Reader", name := "lineOf", desc := "()V" } : Jvm.MethodName)) ∈ lw_all := lw_g (lw_at lw_m3 201 rfl) rfl
theorem q809 : (Jvm.Cond.code ({ cls := "LinkTimes$Reader", name := "lineOf", desc := "()V" } : Jvm.MethodName) prog_10_method_21_code (1 : Nat) (Option.none : Option Jvm.ClassFile.FieldType)) ∈ lw_all := lw_g (lw_at lw_m3 202 rfl) rfl
theorem q810 : (Jvm.Cond.methodLink "LinkTimes$Reader" (183 : Nat) ({ cls := "java/lang/Long", name := "valueOf", desc := "(J)Ljava/lang/Long;" } : Jvm.MethodName)) ∈ lw_all := lw_g (lw_at lw_m3 203 rfl) rfl
theorem q830 : (Jvm.Cond.methodLink "LinkTimes$Reader" (144 : Nat) ({ cls := "LinkTimes$Reader", name := "link", desc := "()V" } : Jvm.MethodName)) ∈ lw_all := lw_g (lw_at lw_m3 223 rfl) rfl
theorem q831 : (Jvm.Cond.privateMethod ({ cls := "LinkTimes$Reader", name := "link", desc := "()V" } : Jvm.MethodName)) ∈ lw_tbl := lw_at lw_m3 224 rfl
theorem q832 : (Jvm.Cond.instanceMethod ({ cls := "LinkTimes$Reader", name := "link", desc := "()V" } : Jvm.MethodName)) ∈ lw_all := lw_g (lw_at lw_m3 225 rfl) rfl
theorem q833 : (Jvm.Cond.code ({ cls := "LinkTimes$Reader", name := "link", desc := "()V" } : Jvm.MethodName) prog_10_method_22_code (9 : Nat) (Option.none : Option Jvm.ClassFile.FieldType)) ∈ lw_all := lw_g (lw_at lw_m3 226 rfl) rfl
theorem q834 : (Jvm.Cond.methodLink "LinkTimes$Reader" (192 : Nat) ({ cls := "LinkTimes$Reader", name := "spotHere", desc := "()I" } : Jvm.MethodName)) ∈ lw_all := lw_g (lw_at lw_m3 227 rfl) rfl
theorem q835 : (Jvm.Cond.privateMethod ({ cls := "LinkTimes$Reader", name := "spotHere", desc := "()I" } : Jvm.MethodName)) ∈ lw_tbl := lw_at lw_m3 228 rfl
theorem q836 : (Jvm.Cond.instanceMethod ({ cls := "LinkTimes$Reader", name := "spotHere", desc := "()I" } : Jvm.MethodName)) ∈ lw_all := lw_g (lw_at lw_m3 229 rfl) rfl
theorem q837 : (Jvm.Cond.code ({ cls := "LinkTimes$Reader", name := "spotHere", desc := "()I" } : Jvm.MethodName) prog_10_method_15_code (2 : Nat) (Option.some Jvm.ClassFile.FieldType.int)) ∈ lw_all := lw_g (lw_at lw_m3 230 rfl) rfl
theorem q838 : (Jvm.Cond.stringRef "LinkTimes$Reader" (195 : Nat) "from") ∈ lw_tbl := lw_at lw_m3 231 rfl
theorem q839 : (Jvm.Cond.stringRef "LinkTimes$Reader" (196 : Nat) "till") ∈ lw_tbl := lw_at lw_m3 232 rfl
theorem q840 : (Jvm.Cond.stringRef "LinkTimes$Reader" (198 : Nat) "every") ∈ lw_tbl := lw_at lw_m3 233 rfl
theorem q841 : (Jvm.Cond.stringRef "LinkTimes$Reader" (203 : Nat) "takes") ∈ lw_tbl := lw_at lw_m3 234 rfl
theorem q842 : (Jvm.Cond.classLink "LinkTimes$Reader" (205 : Nat) "LinkTimes$Departure") ∈ lw_all := lw_g (lw_at lw_m3 235 rfl) rfl
theorem q844 : (Jvm.Cond.methodLink "LinkTimes$Reader" (207 : Nat) ({ cls := "LinkTimes$Departure", name := "<init>", desc := "(IIIIIII)V" } : Jvm.MethodName)) ∈ lw_all := lw_g (lw_at lw_m3 237 rfl) rfl
theorem q891 : (Jvm.Cond.classLink "LinkTimes$Reader" (132 : Nat) "LinkTimes$BadLine") ∈ lw_all := lw_g (lw_at lw_m4 44 rfl) rfl
theorem q900 : (Jvm.Cond.methodLink "LinkTimes$Reader" (134 : Nat) ({ cls := "LinkTimes$BadLine", name := "<init>", desc := "(LLinkTimes$Trouble;)V" } : Jvm.MethodName)) ∈ lw_all := lw_g (lw_at lw_m4 53 rfl) rfl
theorem q906 : (Jvm.Cond.methodLink "LinkTimes$Reader" (126 : Nat) ({ cls := "java/util/ArrayList", name := "isEmpty", desc := "()Z" } : Jvm.MethodName)) ∈ lw_all := lw_g (lw_at lw_m4 59 rfl) rfl
theorem q2396 : (Jvm.Cond.castable "LinkTimes$Reader" "java/lang/Object") ∈ lw_tbl := lw_at lw_m10 109 rfl

