/-! java/util/AbstractCollection -/
set_option maxRecDepth 100000
def RJ0 : String := "java/util/AbstractCollection"
abbrev cJ0_init : ByteArray := prog_36_method_1_code
def yJ0_init : MethodName := ⟨RJ0, "<init>", "()V"⟩
theorem dJ0_init_0 : decode cJ0_init 0 = .ok (.aload_n 0, 1) := by decide +kernel
theorem dJ0_init_1 : decode cJ0_init 1 = .ok (.invokespecial 1, 3) := by decide +kernel
theorem dJ0_init_4 : decode cJ0_init 4 = .ok (.return_, 1) := by decide +kernel
theorem q129 : (Jvm.Cond.initialized "java/util/AbstractCollection") ∈ lw_all := lw_g (lw_at lw_m1 2 rfl) rfl
theorem q231 : (Jvm.Cond.instanceMethod ({ cls := "java/util/AbstractCollection", name := "<init>", desc := "()V" } : Jvm.MethodName)) ∈ lw_all := lw_g (lw_at lw_m1 104 rfl) rfl
theorem q232 : (Jvm.Cond.code ({ cls := "java/util/AbstractCollection", name := "<init>", desc := "()V" } : Jvm.MethodName) prog_36_method_1_code (1 : Nat) (Option.none : Option Jvm.ClassFile.FieldType)) ∈ lw_all := lw_g (lw_at lw_m1 105 rfl) rfl
theorem q233 : (Jvm.Cond.methodLink "java/util/AbstractCollection" (1 : Nat) ({ cls := "java/lang/Object", name := "<init>", desc := "()V" } : Jvm.MethodName)) ∈ lw_all := lw_g (lw_at lw_m1 106 rfl) rfl

/-! java/util/AbstractSet -/
set_option maxRecDepth 100000
def RJ1 : String := "java/util/AbstractSet"
abbrev cJ1_init : ByteArray := prog_39_method_1_code
def yJ1_init : MethodName := ⟨RJ1, "<init>", "()V"⟩
theorem dJ1_init_0 : decode cJ1_init 0 = .ok (.aload_n 0, 1) := by decide +kernel
theorem dJ1_init_1 : decode cJ1_init 1 = .ok (.invokespecial 1, 3) := by decide +kernel
theorem dJ1_init_4 : decode cJ1_init 4 = .ok (.return_, 1) := by decide +kernel
theorem q130 : (Jvm.Cond.initialized "java/util/AbstractSet") ∈ lw_all := lw_g (lw_at lw_m1 3 rfl) rfl
theorem q228 : (Jvm.Cond.instanceMethod ({ cls := "java/util/AbstractSet", name := "<init>", desc := "()V" } : Jvm.MethodName)) ∈ lw_all := lw_g (lw_at lw_m1 101 rfl) rfl
theorem q229 : (Jvm.Cond.code ({ cls := "java/util/AbstractSet", name := "<init>", desc := "()V" } : Jvm.MethodName) prog_39_method_1_code (1 : Nat) (Option.none : Option Jvm.ClassFile.FieldType)) ∈ lw_all := lw_g (lw_at lw_m1 102 rfl) rfl
theorem q230 : (Jvm.Cond.methodLink "java/util/AbstractSet" (1 : Nat) ({ cls := "java/util/AbstractCollection", name := "<init>", desc := "()V" } : Jvm.MethodName)) ∈ lw_all := lw_g (lw_at lw_m1 103 rfl) rfl

/-! java/util/AbstractMap -/
set_option maxRecDepth 100000
def RJ3 : String := "java/util/AbstractMap"
abbrev cJ3_init : ByteArray := prog_38_method_1_code
def yJ3_init : MethodName := ⟨RJ3, "<init>", "()V"⟩
theorem dJ3_init_0 : decode cJ3_init 0 = .ok (.aload_n 0, 1) := by decide +kernel
theorem dJ3_init_1 : decode cJ3_init 1 = .ok (.invokespecial 1, 3) := by decide +kernel
theorem dJ3_init_4 : decode cJ3_init 4 = .ok (.return_, 1) := by decide +kernel
theorem q133 : (Jvm.Cond.initialized "java/util/AbstractMap") ∈ lw_all := lw_g (lw_at lw_m1 6 rfl) rfl
theorem q198 : (Jvm.Cond.instanceMethod ({ cls := "java/util/AbstractMap", name := "<init>", desc := "()V" } : Jvm.MethodName)) ∈ lw_all := lw_g (lw_at lw_m1 71 rfl) rfl
theorem q199 : (Jvm.Cond.code ({ cls := "java/util/AbstractMap", name := "<init>", desc := "()V" } : Jvm.MethodName) prog_38_method_1_code (1 : Nat) (Option.none : Option Jvm.ClassFile.FieldType)) ∈ lw_all := lw_g (lw_at lw_m1 72 rfl) rfl
theorem q200 : (Jvm.Cond.methodLink "java/util/AbstractMap" (1 : Nat) ({ cls := "java/lang/Object", name := "<init>", desc := "()V" } : Jvm.MethodName)) ∈ lw_all := lw_g (lw_at lw_m1 73 rfl) rfl
theorem q220 : (Jvm.Cond.soleField "java/util/AbstractMap" "keySet") ∈ lw_all := lw_g (lw_at lw_m1 93 rfl) rfl
theorem q222 : (Jvm.Cond.soleField "java/util/AbstractMap" "values") ∈ lw_all := lw_g (lw_at lw_m1 95 rfl) rfl

/-! java/util/AbstractList -/
set_option maxRecDepth 100000
def RJ6 : String := "java/util/AbstractList"
abbrev cJ6_init : ByteArray := prog_37_method_1_code
def yJ6_init : MethodName := ⟨RJ6, "<init>", "()V"⟩
def dkwJ6_init_0 : List UInt8 := [42, 183, 0, 1, 42, 3, 181, 0, 7, 177]
abbrev dktJ6_init_0 : List UInt8 := dkwJ6_init_0 ++ []
theorem dksJ6_init_0 : cJ6_init.data.toList.drop 0 = dktJ6_init_0 := by decide +kernel
theorem dJ6_init_0 : decode cJ6_init 0 = .ok (.aload_n 0, 1) := dk_42 (dk_at dksJ6_init_0 0 rfl rfl)
theorem dJ6_init_1 : decode cJ6_init 1 = .ok (.invokespecial 1, 3) := dk_183 0 1 (dk_at dksJ6_init_0 1 rfl rfl)
theorem dJ6_init_4 : decode cJ6_init 4 = .ok (.aload_n 0, 1) := dk_42 (dk_at dksJ6_init_0 4 rfl rfl)
theorem dJ6_init_5 : decode cJ6_init 5 = .ok (.iconst 0, 1) := dk_3 (dk_at dksJ6_init_0 5 rfl rfl)
theorem dJ6_init_6 : decode cJ6_init 6 = .ok (.putfield 7, 3) := dk_181 0 7 (dk_at dksJ6_init_0 6 rfl rfl)
theorem dJ6_init_9 : decode cJ6_init 9 = .ok (.return_, 1) := dk_177 (dk_at dksJ6_init_0 9 rfl rfl)
theorem q140 : (Jvm.Cond.initialized "java/util/AbstractList") ∈ lw_all := lw_g (lw_at lw_m1 13 rfl) rfl
theorem q400 : (Jvm.Cond.instanceMethod ({ cls := "java/util/AbstractList", name := "<init>", desc := "()V" } : Jvm.MethodName)) ∈ lw_all := lw_g (lw_at lw_m2 33 rfl) rfl
theorem q401 : (Jvm.Cond.code ({ cls := "java/util/AbstractList", name := "<init>", desc := "()V" } : Jvm.MethodName) prog_37_method_1_code (1 : Nat) (Option.none : Option Jvm.ClassFile.FieldType)) ∈ lw_all := lw_g (lw_at lw_m2 34 rfl) rfl
theorem q402 : (Jvm.Cond.methodLink "java/util/AbstractList" (1 : Nat) ({ cls := "java/util/AbstractCollection", name := "<init>", desc := "()V" } : Jvm.MethodName)) ∈ lw_all := lw_g (lw_at lw_m2 35 rfl) rfl
theorem q407 : (Jvm.Cond.fieldLink "java/util/AbstractList" (7 : Nat) "java/util/AbstractList" "modCount" "I") ∈ lw_all := lw_g (lw_at lw_m2 40 rfl) rfl
theorem q415 : (Jvm.Cond.soleField "java/util/AbstractList" "modCount") ∈ lw_all := lw_g (lw_at lw_m2 48 rfl) rfl

/-! jdk/internal/util/Preconditions -/
set_option maxRecDepth 100000
def RJ10 : String := "jdk/internal/util/Preconditions"
abbrev cJ10_checkIndex : ByteArray := prog_67_method_11_code
def yJ10_checkIndex : MethodName := ⟨RJ10, "checkIndex", "(IILjava/util/function/BiFunction;)I"⟩
def dkwJ10_checkIndex_0 : List UInt8 := [26, 155, 0, 8, 26, 27, 161, 0, 10, 44, 26, 27, 184, 0, 95, 191, 26, 172]
abbrev dktJ10_checkIndex_0 : List UInt8 := dkwJ10_checkIndex_0 ++ []
theorem dksJ10_checkIndex_0 : cJ10_checkIndex.data.toList.drop 0 = dktJ10_checkIndex_0 := by decide +kernel
theorem dJ10_checkIndex_0 : decode cJ10_checkIndex 0 = .ok (.iload_n 0, 1) := dk_26 (dk_at dksJ10_checkIndex_0 0 rfl rfl)
theorem dJ10_checkIndex_1 : decode cJ10_checkIndex 1 = .ok (.ifCond .lt 8, 3) := dk_155 0 8 (dk_at dksJ10_checkIndex_0 1 rfl rfl)
theorem dJ10_checkIndex_4 : decode cJ10_checkIndex 4 = .ok (.iload_n 0, 1) := dk_26 (dk_at dksJ10_checkIndex_0 4 rfl rfl)
theorem dJ10_checkIndex_5 : decode cJ10_checkIndex 5 = .ok (.iload_n 1, 1) := dk_27 (dk_at dksJ10_checkIndex_0 5 rfl rfl)
theorem dJ10_checkIndex_6 : decode cJ10_checkIndex 6 = .ok (.if_icmp .lt 10, 3) := dk_161 0 10 (dk_at dksJ10_checkIndex_0 6 rfl rfl)
theorem dJ10_checkIndex_9 : decode cJ10_checkIndex 9 = .ok (.aload_n 2, 1) := dk_44 (dk_at dksJ10_checkIndex_0 9 rfl rfl)
theorem dJ10_checkIndex_10 : decode cJ10_checkIndex 10 = .ok (.iload_n 0, 1) := dk_26 (dk_at dksJ10_checkIndex_0 10 rfl rfl)
theorem dJ10_checkIndex_11 : decode cJ10_checkIndex 11 = .ok (.iload_n 1, 1) := dk_27 (dk_at dksJ10_checkIndex_0 11 rfl rfl)
theorem dJ10_checkIndex_12 : decode cJ10_checkIndex 12 = .ok (.invokestatic 95, 3) := dk_184 0 95 (dk_at dksJ10_checkIndex_0 12 rfl rfl)
theorem dJ10_checkIndex_15 : decode cJ10_checkIndex 15 = .ok (.athrow, 1) := dk_191 (dk_at dksJ10_checkIndex_0 15 rfl rfl)
theorem dJ10_checkIndex_16 : decode cJ10_checkIndex 16 = .ok (.iload_n 0, 1) := dk_26 (dk_at dksJ10_checkIndex_0 16 rfl rfl)
theorem dJ10_checkIndex_17 : decode cJ10_checkIndex 17 = .ok (.ireturn, 1) := dk_172 (dk_at dksJ10_checkIndex_0 17 rfl rfl)
theorem q144 : (Jvm.Cond.initialized "jdk/internal/util/Preconditions") ∈ lw_all := lw_g (lw_at lw_m1 17 rfl) rfl
theorem q533 : (Jvm.Cond.laysStatic "jdk/internal/util/Preconditions" "SIOOBE_FORMATTER" "Ljava/util/function/BiFunction;") ∈ lw_tbl := lw_at lw_m2 166 rfl
theorem q535 : (Jvm.Cond.static ({ cls := "jdk/internal/util/Preconditions", name := "checkIndex", desc := "(IILjava/util/function/BiFunction;)I" } : Jvm.MethodName)) ∈ lw_all := lw_g (lw_at lw_m2 168 rfl) rfl
theorem q536 : (Jvm.Cond.code ({ cls := "jdk/internal/util/Preconditions", name := "checkIndex", desc := "(IILjava/util/function/BiFunction;)I" } : Jvm.MethodName) prog_67_method_11_code (3 : Nat) (Option.some Jvm.ClassFile.FieldType.int)) ∈ lw_all := lw_g (lw_at lw_m2 169 rfl) rfl

/-! java/lang/Throwable -/
set_option maxRecDepth 100000
abbrev cJ12_init : ByteArray := prog_33_method_1_code
def yJ12_init : MethodName := ⟨RJ12, "<init>", "()V"⟩
def dkwJ12_init_1 : List UInt8 := [182, 0, 27, 87, 177]
abbrev dktJ12_init_1 : List UInt8 := dkwJ12_init_1 ++ []
def dkwJ12_init_0 : List UInt8 := [42, 183, 0, 1, 42, 42, 181, 0, 7, 42, 178, 0, 13, 181, 0, 17, 42, 178, 0, 20, 181, 0, 24, 42]
abbrev dktJ12_init_0 : List UInt8 := dkwJ12_init_0 ++ dktJ12_init_1
theorem dksJ12_init_0 : cJ12_init.data.toList.drop 0 = dktJ12_init_0 := by decide +kernel
theorem dksJ12_init_1 : cJ12_init.data.toList.drop 24 = dktJ12_init_1 := dk_seg dksJ12_init_0 24 rfl rfl
theorem dJ12_init_0 : decode cJ12_init 0 = .ok (.aload_n 0, 1) := dk_42 (dk_at dksJ12_init_0 0 rfl rfl)
theorem dJ12_init_1 : decode cJ12_init 1 = .ok (.invokespecial 1, 3) := dk_183 0 1 (dk_at dksJ12_init_0 1 rfl rfl)
theorem dJ12_init_4 : decode cJ12_init 4 = .ok (.aload_n 0, 1) := dk_42 (dk_at dksJ12_init_0 4 rfl rfl)
theorem dJ12_init_5 : decode cJ12_init 5 = .ok (.aload_n 0, 1) := dk_42 (dk_at dksJ12_init_0 5 rfl rfl)
theorem dJ12_init_6 : decode cJ12_init 6 = .ok (.putfield 7, 3) := dk_181 0 7 (dk_at dksJ12_init_0 6 rfl rfl)
theorem dJ12_init_9 : decode cJ12_init 9 = .ok (.aload_n 0, 1) := dk_42 (dk_at dksJ12_init_0 9 rfl rfl)
theorem dJ12_init_10 : decode cJ12_init 10 = .ok (.getstatic 13, 3) := dk_178 0 13 (dk_at dksJ12_init_0 10 rfl rfl)
theorem dJ12_init_13 : decode cJ12_init 13 = .ok (.putfield 17, 3) := dk_181 0 17 (dk_at dksJ12_init_0 13 rfl rfl)
theorem dJ12_init_16 : decode cJ12_init 16 = .ok (.aload_n 0, 1) := dk_42 (dk_at dksJ12_init_0 16 rfl rfl)
theorem dJ12_init_17 : decode cJ12_init 17 = .ok (.getstatic 20, 3) := dk_178 0 20 (dk_at dksJ12_init_0 17 rfl rfl)
theorem dJ12_init_20 : decode cJ12_init 20 = .ok (.putfield 24, 3) := dk_181 0 24 (dk_at dksJ12_init_0 20 rfl rfl)
theorem dJ12_init_23 : decode cJ12_init 23 = .ok (.aload_n 0, 1) := dk_42 (dk_at dksJ12_init_0 23 rfl rfl)
theorem dJ12_init_24 : decode cJ12_init 24 = .ok (.invokevirtual 27, 3) := dk_182 0 27 (dk_at dksJ12_init_1 0 rfl rfl)
theorem dJ12_init_27 : decode cJ12_init 27 = .ok (.pop, 1) := dk_87 (dk_at dksJ12_init_1 3 rfl rfl)
theorem dJ12_init_28 : decode cJ12_init 28 = .ok (.return_, 1) := dk_177 (dk_at dksJ12_init_1 4 rfl rfl)
abbrev cJ12_init_2 : ByteArray := prog_33_method_5_code
def yJ12_init_2 : MethodName := ⟨RJ12, "<init>", "(Ljava/lang/String;Ljava/lang/Throwable;ZZ)V"⟩
def dkwJ12_init_2_2 : List UInt8 := [44, 181, 0, 7, 29, 154, 0, 8, 42, 1, 181, 0, 24, 177]
abbrev dktJ12_init_2_2 : List UInt8 := dkwJ12_init_2_2 ++ []
def dkwJ12_init_2_1 : List UInt8 := [21, 4, 153, 0, 11, 42, 182, 0, 27, 87, 167, 0, 8, 42, 1, 181, 0, 17, 42, 43, 181, 0, 31, 42]
abbrev dktJ12_init_2_1 : List UInt8 := dkwJ12_init_2_1 ++ dktJ12_init_2_2
def dkwJ12_init_2_0 : List UInt8 := [42, 183, 0, 1, 42, 42, 181, 0, 7, 42, 178, 0, 13, 181, 0, 17, 42, 178, 0, 20, 181, 0, 24]
abbrev dktJ12_init_2_0 : List UInt8 := dkwJ12_init_2_0 ++ dktJ12_init_2_1
theorem dksJ12_init_2_0 : cJ12_init_2.data.toList.drop 0 = dktJ12_init_2_0 := by decide +kernel
theorem dksJ12_init_2_1 : cJ12_init_2.data.toList.drop 23 = dktJ12_init_2_1 := dk_seg dksJ12_init_2_0 23 rfl rfl
theorem dksJ12_init_2_2 : cJ12_init_2.data.toList.drop 47 = dktJ12_init_2_2 := dk_seg dksJ12_init_2_1 24 rfl rfl
theorem dJ12_init_2_0 : decode cJ12_init_2 0 = .ok (.aload_n 0, 1) := dk_42 (dk_at dksJ12_init_2_0 0 rfl rfl)
theorem dJ12_init_2_1 : decode cJ12_init_2 1 = .ok (.invokespecial 1, 3) := dk_183 0 1 (dk_at dksJ12_init_2_0 1 rfl rfl)
theorem dJ12_init_2_4 : decode cJ12_init_2 4 = .ok (.aload_n 0, 1) := dk_42 (dk_at dksJ12_init_2_0 4 rfl rfl)
theorem dJ12_init_2_5 : decode cJ12_init_2 5 = .ok (.aload_n 0, 1) := dk_42 (dk_at dksJ12_init_2_0 5 rfl rfl)
theorem dJ12_init_2_6 : decode cJ12_init_2 6 = .ok (.putfield 7, 3) := dk_181 0 7 (dk_at dksJ12_init_2_0 6 rfl rfl)
theorem dJ12_init_2_9 : decode cJ12_init_2 9 = .ok (.aload_n 0, 1) := dk_42 (dk_at dksJ12_init_2_0 9 rfl rfl)
theorem dJ12_init_2_10 : decode cJ12_init_2 10 = .ok (.getstatic 13, 3) := dk_178 0 13 (dk_at dksJ12_init_2_0 10 rfl rfl)
theorem dJ12_init_2_13 : decode cJ12_init_2 13 = .ok (.putfield 17, 3) := dk_181 0 17 (dk_at dksJ12_init_2_0 13 rfl rfl)
theorem dJ12_init_2_16 : decode cJ12_init_2 16 = .ok (.aload_n 0, 1) := dk_42 (dk_at dksJ12_init_2_0 16 rfl rfl)
theorem dJ12_init_2_17 : decode cJ12_init_2 17 = .ok (.getstatic 20, 3) := dk_178 0 20 (dk_at dksJ12_init_2_0 17 rfl rfl)
theorem dJ12_init_2_20 : decode cJ12_init_2 20 = .ok (.putfield 24, 3) := dk_181 0 24 (dk_at dksJ12_init_2_0 20 rfl rfl)
theorem dJ12_init_2_23 : decode cJ12_init_2 23 = .ok (.iload 4, 2) := dk_21 4 (dk_at dksJ12_init_2_1 0 rfl rfl)
theorem dJ12_init_2_25 : decode cJ12_init_2 25 = .ok (.ifCond .eq 11, 3) := dk_153 0 11 (dk_at dksJ12_init_2_1 2 rfl rfl)
theorem dJ12_init_2_28 : decode cJ12_init_2 28 = .ok (.aload_n 0, 1) := dk_42 (dk_at dksJ12_init_2_1 5 rfl rfl)
theorem dJ12_init_2_29 : decode cJ12_init_2 29 = .ok (.invokevirtual 27, 3) := dk_182 0 27 (dk_at dksJ12_init_2_1 6 rfl rfl)
theorem dJ12_init_2_32 : decode cJ12_init_2 32 = .ok (.pop, 1) := dk_87 (dk_at dksJ12_init_2_1 9 rfl rfl)
theorem dJ12_init_2_33 : decode cJ12_init_2 33 = .ok (.goto 8, 3) := dk_167 0 8 (dk_at dksJ12_init_2_1 10 rfl rfl)
theorem dJ12_init_2_36 : decode cJ12_init_2 36 = .ok (.aload_n 0, 1) := dk_42 (dk_at dksJ12_init_2_1 13 rfl rfl)
theorem dJ12_init_2_37 : decode cJ12_init_2 37 = .ok (.aconst_null, 1) := dk_1 (dk_at dksJ12_init_2_1 14 rfl rfl)
theorem dJ12_init_2_38 : decode cJ12_init_2 38 = .ok (.putfield 17, 3) := dk_181 0 17 (dk_at dksJ12_init_2_1 15 rfl rfl)
theorem dJ12_init_2_41 : decode cJ12_init_2 41 = .ok (.aload_n 0, 1) := dk_42 (dk_at dksJ12_init_2_1 18 rfl rfl)
theorem dJ12_init_2_42 : decode cJ12_init_2 42 = .ok (.aload_n 1, 1) := dk_43 (dk_at dksJ12_init_2_1 19 rfl rfl)
theorem dJ12_init_2_43 : decode cJ12_init_2 43 = .ok (.putfield 31, 3) := dk_181 0 31 (dk_at dksJ12_init_2_1 20 rfl rfl)
theorem dJ12_init_2_46 : decode cJ12_init_2 46 = .ok (.aload_n 0, 1) := dk_42 (dk_at dksJ12_init_2_1 23 rfl rfl)
theorem dJ12_init_2_47 : decode cJ12_init_2 47 = .ok (.aload_n 2, 1) := dk_44 (dk_at dksJ12_init_2_2 0 rfl rfl)
theorem dJ12_init_2_48 : decode cJ12_init_2 48 = .ok (.putfield 7, 3) := dk_181 0 7 (dk_at dksJ12_init_2_2 1 rfl rfl)
theorem dJ12_init_2_51 : decode cJ12_init_2 51 = .ok (.iload_n 3, 1) := dk_29 (dk_at dksJ12_init_2_2 4 rfl rfl)
theorem dJ12_init_2_52 : decode cJ12_init_2 52 = .ok (.ifCond .ne 8, 3) := dk_154 0 8 (dk_at dksJ12_init_2_2 5 rfl rfl)
theorem dJ12_init_2_55 : decode cJ12_init_2 55 = .ok (.aload_n 0, 1) := dk_42 (dk_at dksJ12_init_2_2 8 rfl rfl)
theorem dJ12_init_2_56 : decode cJ12_init_2 56 = .ok (.aconst_null, 1) := dk_1 (dk_at dksJ12_init_2_2 9 rfl rfl)
theorem dJ12_init_2_57 : decode cJ12_init_2 57 = .ok (.putfield 24, 3) := dk_181 0 24 (dk_at dksJ12_init_2_2 10 rfl rfl)
theorem dJ12_init_2_60 : decode cJ12_init_2 60 = .ok (.return_, 1) := dk_177 (dk_at dksJ12_init_2_2 13 rfl rfl)
theorem q146 : (Jvm.Cond.initialized "java/lang/Throwable") ∈ lw_all := lw_g (lw_at lw_m1 19 rfl) rfl
theorem q568 : (Jvm.Cond.declares ({ cls := "java/lang/Throwable", name := "<init>", desc := "()V" } : Jvm.MethodName)) ∈ lw_tbl := lw_at lw_m2 201 rfl
theorem q569 : (Jvm.Cond.declares ({ cls := "java/lang/Throwable", name := "<init>", desc := "(Ljava/lang/String;)V" } : Jvm.MethodName)) ∈ lw_tbl := lw_at lw_m2 202 rfl
theorem q573 : (Jvm.Cond.lays "java/lang/Throwable" "java/lang/Throwable" "cause" "Ljava/lang/Throwable;") ∈ lw_all := lw_g (lw_at lw_m2 206 rfl) rfl
theorem q575 : (Jvm.Cond.lays "java/lang/Throwable" "java/lang/Throwable" "stackTrace" "[Ljava/lang/StackTraceElement;") ∈ lw_all := lw_g (lw_at lw_m2 208 rfl) rfl
theorem q577 : (Jvm.Cond.lays "java/lang/Throwable" "java/lang/Throwable" "suppressedExceptions" "Ljava/util/List;") ∈ lw_all := lw_g (lw_at lw_m2 210 rfl) rfl
theorem q579 : (Jvm.Cond.lays "java/lang/Throwable" "java/lang/Throwable" "detailMessage" "Ljava/lang/String;") ∈ lw_all := lw_g (lw_at lw_m2 212 rfl) rfl
theorem q581 : (Jvm.Cond.lays "java/lang/Throwable" "java/lang/Throwable" "backtrace" "Ljava/lang/Object;") ∈ lw_all := lw_g (lw_at lw_m2 214 rfl) rfl
theorem q582 : (Jvm.Cond.fieldLink "java/lang/Throwable" (198 : Nat) "java/lang/Throwable" "backtrace" "Ljava/lang/Object;") ∈ lw_all := lw_g (lw_at lw_m2 215 rfl) rfl
theorem q583 : (Jvm.Cond.superclass "java/lang/Throwable" "java/lang/Object") ∈ lw_all := lw_g (lw_at lw_m2 216 rfl) rfl
theorem q584 : (Jvm.Cond.instanceMethod ({ cls := "java/lang/Throwable", name := "<init>", desc := "()V" } : Jvm.MethodName)) ∈ lw_all := lw_g (lw_at lw_m2 217 rfl) rfl
theorem q585 : (Jvm.Cond.code ({ cls := "java/lang/Throwable", name := "<init>", desc := "()V" } : Jvm.MethodName) prog_33_method_1_code (1 : Nat) (Option.none : Option Jvm.ClassFile.FieldType)) ∈ lw_all := lw_g (lw_at lw_m2 218 rfl) rfl
theorem q586 : (Jvm.Cond.methodLink "java/lang/Throwable" (1 : Nat) ({ cls := "java/lang/Object", name := "<init>", desc := "()V" } : Jvm.MethodName)) ∈ lw_all := lw_g (lw_at lw_m2 219 rfl) rfl
theorem q587 : (Jvm.Cond.fieldLink "java/lang/Throwable" (13 : Nat) "java/lang/Throwable" "UNASSIGNED_STACK" "[Ljava/lang/StackTraceElement;") ∈ lw_all := lw_g (lw_at lw_m2 220 rfl) rfl
theorem q588 : (Jvm.Cond.laysStatic "java/lang/Throwable" "UNASSIGNED_STACK" "[Ljava/lang/StackTraceElement;") ∈ lw_tbl := lw_at lw_m2 221 rfl
theorem q589 : (Jvm.Cond.fieldLink "java/lang/Throwable" (20 : Nat) "java/lang/Throwable" "SUPPRESSED_SENTINEL" "Ljava/util/List;") ∈ lw_all := lw_g (lw_at lw_m2 222 rfl) rfl
theorem q590 : (Jvm.Cond.laysStatic "java/lang/Throwable" "SUPPRESSED_SENTINEL" "Ljava/util/List;") ∈ lw_tbl := lw_at lw_m2 223 rfl
theorem q591 : (Jvm.Cond.methodLink "java/lang/Throwable" (27 : Nat) ({ cls := "java/lang/Throwable", name := "fillInStackTrace", desc := "()Ljava/lang/Throwable;" } : Jvm.MethodName)) ∈ lw_all := lw_g (lw_at lw_m2 224 rfl) rfl
theorem q592 : (Jvm.Cond.instanceMethod ({ cls := "java/lang/Throwable", name := "fillInStackTrace", desc := "()Ljava/lang/Throwable;" } : Jvm.MethodName)) ∈ lw_all := lw_g (lw_at lw_m2 225 rfl) rfl
theorem q593 : (Jvm.Cond.sameMethod "java/lang/Throwable" "java/lang/Throwable" "fillInStackTrace" "()Ljava/lang/Throwable;") ∈ lw_all := lw_g (lw_at lw_m2 226 rfl) rfl
theorem q598 : (Jvm.Cond.codeSync ({ cls := "java/lang/Throwable", name := "fillInStackTrace", desc := "()Ljava/lang/Throwable;" } : Jvm.MethodName) prog_33_method_18_code (1 : Nat) (Option.some (Jvm.ClassFile.FieldType.object "java/lang/Throwable"))) ∈ lw_all := lw_g (lw_at lw_m2 231 rfl) rfl
theorem q599 : (Jvm.Cond.methodLink "java/lang/Throwable" (202 : Nat) ({ cls := "java/lang/Throwable", name := "fillInStackTrace", desc := "(I)Ljava/lang/Throwable;" } : Jvm.MethodName)) ∈ lw_all := lw_g (lw_at lw_m2 232 rfl) rfl
theorem q600 : (Jvm.Cond.privateMethod ({ cls := "java/lang/Throwable", name := "fillInStackTrace", desc := "(I)Ljava/lang/Throwable;" } : Jvm.MethodName)) ∈ lw_tbl := lw_at lw_m2 233 rfl
theorem q601 : (Jvm.Cond.instanceMethod ({ cls := "java/lang/Throwable", name := "fillInStackTrace", desc := "(I)Ljava/lang/Throwable;" } : Jvm.MethodName)) ∈ lw_all := lw_g (lw_at lw_m2 234 rfl) rfl
theorem q602 : (Jvm.Cond.instantiable "java/lang/Throwable" (6 : Nat)) ∈ lw_all := lw_g (lw_at lw_m2 235 rfl) rfl
theorem q603 : (Jvm.Cond.native ({ cls := "java/lang/Throwable", name := "fillInStackTrace", desc := "(I)Ljava/lang/Throwable;" } : Jvm.MethodName)) ∈ lw_all := lw_g (lw_at lw_m2 236 rfl) rfl
theorem q614 : (Jvm.Cond.instanceMethod ({ cls := "java/lang/Throwable", name := "<init>", desc := "(Ljava/lang/String;Ljava/lang/Throwable;ZZ)V" } : Jvm.MethodName)) ∈ lw_all := lw_g (lw_at lw_m3 7 rfl) rfl
theorem q615 : (Jvm.Cond.code ({ cls := "java/lang/Throwable", name := "<init>", desc := "(Ljava/lang/String;Ljava/lang/Throwable;ZZ)V" } : Jvm.MethodName) prog_33_method_5_code (5 : Nat) (Option.none : Option Jvm.ClassFile.FieldType)) ∈ lw_all := lw_g (lw_at lw_m3 8 rfl) rfl
theorem q620 : (Jvm.Cond.fieldLink "java/lang/Throwable" (198 : Nat) "java/lang/Throwable" "backtrace" "Ljava/lang/Object;") ∈ lw_all := lw_g (lw_at lw_m3 13 rfl) rfl
theorem q621 : (Jvm.Cond.fieldLink "java/lang/Throwable" (31 : Nat) "java/lang/Throwable" "detailMessage" "Ljava/lang/String;") ∈ lw_all := lw_g (lw_at lw_m3 14 rfl) rfl
theorem q622 : (Jvm.Cond.fieldLink "java/lang/Throwable" (7 : Nat) "java/lang/Throwable" "cause" "Ljava/lang/Throwable;") ∈ lw_all := lw_g (lw_at lw_m3 15 rfl) rfl
theorem q623 : (Jvm.Cond.fieldLink "java/lang/Throwable" (17 : Nat) "java/lang/Throwable" "stackTrace" "[Ljava/lang/StackTraceElement;") ∈ lw_all := lw_g (lw_at lw_m3 16 rfl) rfl
theorem q624 : (Jvm.Cond.fieldLink "java/lang/Throwable" (24 : Nat) "java/lang/Throwable" "suppressedExceptions" "Ljava/util/List;") ∈ lw_all := lw_g (lw_at lw_m3 17 rfl) rfl
theorem q629 : (Jvm.Cond.soleField "java/lang/Throwable" "backtrace") ∈ lw_all := lw_g (lw_at lw_m3 22 rfl) rfl
theorem q630 : (Jvm.Cond.soleField "java/lang/Throwable" "detailMessage") ∈ lw_all := lw_g (lw_at lw_m3 23 rfl) rfl
theorem q631 : (Jvm.Cond.soleField "java/lang/Throwable" "cause") ∈ lw_all := lw_g (lw_at lw_m3 24 rfl) rfl
theorem q632 : (Jvm.Cond.soleField "java/lang/Throwable" "stackTrace") ∈ lw_all := lw_g (lw_at lw_m3 25 rfl) rfl
theorem q634 : (Jvm.Cond.soleField "java/lang/Throwable" "depth") ∈ lw_all := lw_g (lw_at lw_m3 27 rfl) rfl
theorem q635 : (Jvm.Cond.soleField "java/lang/Throwable" "suppressedExceptions") ∈ lw_all := lw_g (lw_at lw_m3 28 rfl) rfl
theorem q912 : (Jvm.Cond.declares ({ cls := "java/lang/Throwable", name := "getCause", desc := "()Ljava/lang/Throwable;" } : Jvm.MethodName)) ∈ lw_tbl := lw_at lw_m4 65 rfl
theorem q914 : (Jvm.Cond.instanceMethod ({ cls := "java/lang/Throwable", name := "getCause", desc := "()Ljava/lang/Throwable;" } : Jvm.MethodName)) ∈ lw_all := lw_g (lw_at lw_m4 67 rfl) rfl
theorem q915 : (Jvm.Cond.codeSync ({ cls := "java/lang/Throwable", name := "getCause", desc := "()Ljava/lang/Throwable;" } : Jvm.MethodName) prog_33_method_8_code (1 : Nat) (Option.some (Jvm.ClassFile.FieldType.object "java/lang/Throwable"))) ∈ lw_all := lw_g (lw_at lw_m4 68 rfl) rfl
theorem q2379 : (Jvm.Cond.sameMethod "java/lang/Throwable" "java/lang/Throwable" "fillInStackTrace" "(I)Ljava/lang/Throwable;") ∈ lw_all := lw_g (lw_at lw_m10 92 rfl) rfl
theorem q2380 : (Jvm.Cond.sameMethod "java/lang/Throwable" "java/lang/Throwable" "getCause" "()Ljava/lang/Throwable;") ∈ lw_all := lw_g (lw_at lw_m10 93 rfl) rfl
theorem q2409 : (Jvm.Cond.castable "java/lang/Throwable" "java/lang/Object") ∈ lw_tbl := lw_at lw_m10 122 rfl

/-! java/lang/Exception -/
set_option maxRecDepth 100000
def RJ13 : String := "java/lang/Exception"
abbrev cJ13_init : ByteArray := prog_20_method_5_code
def yJ13_init : MethodName := ⟨RJ13, "<init>", "(Ljava/lang/String;Ljava/lang/Throwable;ZZ)V"⟩
def dkwJ13_init_0 : List UInt8 := [42, 43, 44, 29, 21, 4, 183, 0, 16, 177]
abbrev dktJ13_init_0 : List UInt8 := dkwJ13_init_0 ++ []
theorem dksJ13_init_0 : cJ13_init.data.toList.drop 0 = dktJ13_init_0 := by decide +kernel
theorem dJ13_init_0 : decode cJ13_init 0 = .ok (.aload_n 0, 1) := dk_42 (dk_at dksJ13_init_0 0 rfl rfl)
theorem dJ13_init_1 : decode cJ13_init 1 = .ok (.aload_n 1, 1) := dk_43 (dk_at dksJ13_init_0 1 rfl rfl)
theorem dJ13_init_2 : decode cJ13_init 2 = .ok (.aload_n 2, 1) := dk_44 (dk_at dksJ13_init_0 2 rfl rfl)
theorem dJ13_init_3 : decode cJ13_init 3 = .ok (.iload_n 3, 1) := dk_29 (dk_at dksJ13_init_0 3 rfl rfl)
theorem dJ13_init_4 : decode cJ13_init 4 = .ok (.iload 4, 2) := dk_21 4 (dk_at dksJ13_init_0 4 rfl rfl)
theorem dJ13_init_6 : decode cJ13_init 6 = .ok (.invokespecial 16, 3) := dk_183 0 16 (dk_at dksJ13_init_0 6 rfl rfl)
theorem dJ13_init_9 : decode cJ13_init 9 = .ok (.return_, 1) := dk_177 (dk_at dksJ13_init_0 9 rfl rfl)
abbrev cJ13_init_2 : ByteArray := prog_20_method_1_code
def yJ13_init_2 : MethodName := ⟨RJ13, "<init>", "()V"⟩
theorem dJ13_init_2_0 : decode cJ13_init_2 0 = .ok (.aload_n 0, 1) := by decide +kernel
theorem dJ13_init_2_1 : decode cJ13_init_2 1 = .ok (.invokespecial 1, 3) := by decide +kernel
theorem dJ13_init_2_4 : decode cJ13_init_2 4 = .ok (.return_, 1) := by decide +kernel
theorem q147 : (Jvm.Cond.initialized "java/lang/Exception") ∈ lw_all := lw_g (lw_at lw_m1 20 rfl) rfl
theorem q566 : (Jvm.Cond.declares ({ cls := "java/lang/Exception", name := "<init>", desc := "()V" } : Jvm.MethodName)) ∈ lw_tbl := lw_at lw_m2 199 rfl
theorem q567 : (Jvm.Cond.declares ({ cls := "java/lang/Exception", name := "<init>", desc := "(Ljava/lang/String;)V" } : Jvm.MethodName)) ∈ lw_tbl := lw_at lw_m2 200 rfl
theorem q611 : (Jvm.Cond.instanceMethod ({ cls := "java/lang/Exception", name := "<init>", desc := "(Ljava/lang/String;Ljava/lang/Throwable;ZZ)V" } : Jvm.MethodName)) ∈ lw_all := lw_g (lw_at lw_m3 4 rfl) rfl
theorem q612 : (Jvm.Cond.code ({ cls := "java/lang/Exception", name := "<init>", desc := "(Ljava/lang/String;Ljava/lang/Throwable;ZZ)V" } : Jvm.MethodName) prog_20_method_5_code (5 : Nat) (Option.none : Option Jvm.ClassFile.FieldType)) ∈ lw_all := lw_g (lw_at lw_m3 5 rfl) rfl
theorem q613 : (Jvm.Cond.methodLink "java/lang/Exception" (16 : Nat) ({ cls := "java/lang/Throwable", name := "<init>", desc := "(Ljava/lang/String;Ljava/lang/Throwable;ZZ)V" } : Jvm.MethodName)) ∈ lw_all := lw_g (lw_at lw_m3 6 rfl) rfl
theorem q1305 : (Jvm.Cond.instanceMethod ({ cls := "java/lang/Exception", name := "<init>", desc := "()V" } : Jvm.MethodName)) ∈ lw_all := lw_g (lw_at lw_m5 218 rfl) rfl
theorem q1306 : (Jvm.Cond.code ({ cls := "java/lang/Exception", name := "<init>", desc := "()V" } : Jvm.MethodName) prog_20_method_1_code (1 : Nat) (Option.none : Option Jvm.ClassFile.FieldType)) ∈ lw_all := lw_g (lw_at lw_m5 219 rfl) rfl
theorem q1307 : (Jvm.Cond.methodLink "java/lang/Exception" (1 : Nat) ({ cls := "java/lang/Throwable", name := "<init>", desc := "()V" } : Jvm.MethodName)) ∈ lw_all := lw_g (lw_at lw_m5 220 rfl) rfl

/-! java/util/Objects -/
set_option maxRecDepth 100000
def RJ14 : String := "java/util/Objects"
abbrev cJ14_checkIndex : ByteArray := prog_52_method_17_code
def yJ14_checkIndex : MethodName := ⟨RJ14, "checkIndex", "(II)I"⟩
def dkwJ14_checkIndex_0 : List UInt8 := [26, 27, 1, 184, 0, 105, 172]
abbrev dktJ14_checkIndex_0 : List UInt8 := dkwJ14_checkIndex_0 ++ []
theorem dksJ14_checkIndex_0 : cJ14_checkIndex.data.toList.drop 0 = dktJ14_checkIndex_0 := by decide +kernel
theorem dJ14_checkIndex_0 : decode cJ14_checkIndex 0 = .ok (.iload_n 0, 1) := dk_26 (dk_at dksJ14_checkIndex_0 0 rfl rfl)
theorem dJ14_checkIndex_1 : decode cJ14_checkIndex 1 = .ok (.iload_n 1, 1) := dk_27 (dk_at dksJ14_checkIndex_0 1 rfl rfl)
theorem dJ14_checkIndex_2 : decode cJ14_checkIndex 2 = .ok (.aconst_null, 1) := dk_1 (dk_at dksJ14_checkIndex_0 2 rfl rfl)
theorem dJ14_checkIndex_3 : decode cJ14_checkIndex 3 = .ok (.invokestatic 105, 3) := dk_184 0 105 (dk_at dksJ14_checkIndex_0 3 rfl rfl)
theorem dJ14_checkIndex_6 : decode cJ14_checkIndex 6 = .ok (.ireturn, 1) := dk_172 (dk_at dksJ14_checkIndex_0 6 rfl rfl)
abbrev cJ14_requireNonNull : ByteArray := prog_52_method_10_code
def yJ14_requireNonNull : MethodName := ⟨RJ14, "requireNonNull", "(Ljava/lang/Object;)Ljava/lang/Object;"⟩
def dkwJ14_requireNonNull_0 : List UInt8 := [42, 199, 0, 11, 187, 0, 84, 89, 183, 0, 86, 191, 42, 176]
abbrev dktJ14_requireNonNull_0 : List UInt8 := dkwJ14_requireNonNull_0 ++ []
theorem dksJ14_requireNonNull_0 : cJ14_requireNonNull.data.toList.drop 0 = dktJ14_requireNonNull_0 := by decide +kernel
theorem dJ14_requireNonNull_0 : decode cJ14_requireNonNull 0 = .ok (.aload_n 0, 1) := dk_42 (dk_at dksJ14_requireNonNull_0 0 rfl rfl)
theorem dJ14_requireNonNull_1 : decode cJ14_requireNonNull 1 = .ok (.ifnonnull 11, 3) := dk_199 0 11 (dk_at dksJ14_requireNonNull_0 1 rfl rfl)
theorem dJ14_requireNonNull_4 : decode cJ14_requireNonNull 4 = .ok (.new 84, 3) := dk_187 0 84 (dk_at dksJ14_requireNonNull_0 4 rfl rfl)
theorem dJ14_requireNonNull_7 : decode cJ14_requireNonNull 7 = .ok (.dup, 1) := dk_89 (dk_at dksJ14_requireNonNull_0 7 rfl rfl)
theorem dJ14_requireNonNull_8 : decode cJ14_requireNonNull 8 = .ok (.invokespecial 86, 3) := dk_183 0 86 (dk_at dksJ14_requireNonNull_0 8 rfl rfl)
theorem dJ14_requireNonNull_11 : decode cJ14_requireNonNull 11 = .ok (.athrow, 1) := dk_191 (dk_at dksJ14_requireNonNull_0 11 rfl rfl)
theorem dJ14_requireNonNull_12 : decode cJ14_requireNonNull 12 = .ok (.aload_n 0, 1) := dk_42 (dk_at dksJ14_requireNonNull_0 12 rfl rfl)
theorem dJ14_requireNonNull_13 : decode cJ14_requireNonNull 13 = .ok (.areturn, 1) := dk_176 (dk_at dksJ14_requireNonNull_0 13 rfl rfl)
theorem q151 : (Jvm.Cond.initialized "java/util/Objects") ∈ lw_all := lw_g (lw_at lw_m1 24 rfl) rfl
theorem q699 : (Jvm.Cond.static ({ cls := "java/util/Objects", name := "checkIndex", desc := "(II)I" } : Jvm.MethodName)) ∈ lw_all := lw_g (lw_at lw_m3 92 rfl) rfl
theorem q700 : (Jvm.Cond.code ({ cls := "java/util/Objects", name := "checkIndex", desc := "(II)I" } : Jvm.MethodName) prog_52_method_17_code (2 : Nat) (Option.some Jvm.ClassFile.FieldType.int)) ∈ lw_all := lw_g (lw_at lw_m3 93 rfl) rfl
theorem q701 : (Jvm.Cond.methodLink "java/util/Objects" (105 : Nat) ({ cls := "jdk/internal/util/Preconditions", name := "checkIndex", desc := "(IILjava/util/function/BiFunction;)I" } : Jvm.MethodName)) ∈ lw_all := lw_g (lw_at lw_m3 94 rfl) rfl
theorem q1178 : (Jvm.Cond.static ({ cls := "java/util/Objects", name := "requireNonNull", desc := "(Ljava/lang/Object;)Ljava/lang/Object;" } : Jvm.MethodName)) ∈ lw_all := lw_g (lw_at lw_m5 91 rfl) rfl
theorem q1179 : (Jvm.Cond.code ({ cls := "java/util/Objects", name := "requireNonNull", desc := "(Ljava/lang/Object;)Ljava/lang/Object;" } : Jvm.MethodName) prog_52_method_10_code (1 : Nat) (Option.some (Jvm.ClassFile.FieldType.object "java/lang/Object"))) ∈ lw_all := lw_g (lw_at lw_m5 92 rfl) rfl

/-! java/lang/Math -/
set_option maxRecDepth 100000
def RJ16 : String := "java/lang/Math"
abbrev cJ16_max : ByteArray := prog_25_method_65_code
def yJ16_max : MethodName := ⟨RJ16, "max", "(II)I"⟩
def dkwJ16_max_0 : List UInt8 := [26, 27, 161, 0, 7, 26, 167, 0, 4, 27, 172]
abbrev dktJ16_max_0 : List UInt8 := dkwJ16_max_0 ++ []
theorem dksJ16_max_0 : cJ16_max.data.toList.drop 0 = dktJ16_max_0 := by decide +kernel
theorem dJ16_max_0 : decode cJ16_max 0 = .ok (.iload_n 0, 1) := dk_26 (dk_at dksJ16_max_0 0 rfl rfl)
theorem dJ16_max_1 : decode cJ16_max 1 = .ok (.iload_n 1, 1) := dk_27 (dk_at dksJ16_max_0 1 rfl rfl)
theorem dJ16_max_2 : decode cJ16_max 2 = .ok (.if_icmp .lt 7, 3) := dk_161 0 7 (dk_at dksJ16_max_0 2 rfl rfl)
theorem dJ16_max_5 : decode cJ16_max 5 = .ok (.iload_n 0, 1) := dk_26 (dk_at dksJ16_max_0 5 rfl rfl)
theorem dJ16_max_6 : decode cJ16_max 6 = .ok (.goto 4, 3) := dk_167 0 4 (dk_at dksJ16_max_0 6 rfl rfl)
theorem dJ16_max_9 : decode cJ16_max 9 = .ok (.iload_n 1, 1) := dk_27 (dk_at dksJ16_max_0 9 rfl rfl)
theorem dJ16_max_10 : decode cJ16_max 10 = .ok (.ireturn, 1) := dk_172 (dk_at dksJ16_max_0 10 rfl rfl)
abbrev cJ16_min : ByteArray := prog_25_method_69_code
def yJ16_min : MethodName := ⟨RJ16, "min", "(II)I"⟩
def dkwJ16_min_0 : List UInt8 := [26, 27, 163, 0, 7, 26, 167, 0, 4, 27, 172]
abbrev dktJ16_min_0 : List UInt8 := dkwJ16_min_0 ++ []
theorem dksJ16_min_0 : cJ16_min.data.toList.drop 0 = dktJ16_min_0 := by decide +kernel
theorem dJ16_min_0 : decode cJ16_min 0 = .ok (.iload_n 0, 1) := dk_26 (dk_at dksJ16_min_0 0 rfl rfl)
theorem dJ16_min_1 : decode cJ16_min 1 = .ok (.iload_n 1, 1) := dk_27 (dk_at dksJ16_min_0 1 rfl rfl)
theorem dJ16_min_2 : decode cJ16_min 2 = .ok (.if_icmp .gt 7, 3) := dk_163 0 7 (dk_at dksJ16_min_0 2 rfl rfl)
theorem dJ16_min_5 : decode cJ16_min 5 = .ok (.iload_n 0, 1) := dk_26 (dk_at dksJ16_min_0 5 rfl rfl)
theorem dJ16_min_6 : decode cJ16_min 6 = .ok (.goto 4, 3) := dk_167 0 4 (dk_at dksJ16_min_0 6 rfl rfl)
theorem dJ16_min_9 : decode cJ16_min 9 = .ok (.iload_n 1, 1) := dk_27 (dk_at dksJ16_min_0 9 rfl rfl)
theorem dJ16_min_10 : decode cJ16_min 10 = .ok (.ireturn, 1) := dk_172 (dk_at dksJ16_min_0 10 rfl rfl)
theorem q154 : (Jvm.Cond.initialized "java/lang/Math") ∈ lw_all := lw_g (lw_at lw_m1 27 rfl) rfl
theorem q759 : (Jvm.Cond.static ({ cls := "java/lang/Math", name := "max", desc := "(II)I" } : Jvm.MethodName)) ∈ lw_all := lw_g (lw_at lw_m3 152 rfl) rfl
theorem q760 : (Jvm.Cond.code ({ cls := "java/lang/Math", name := "max", desc := "(II)I" } : Jvm.MethodName) prog_25_method_65_code (2 : Nat) (Option.some Jvm.ClassFile.FieldType.int)) ∈ lw_all := lw_g (lw_at lw_m3 153 rfl) rfl
theorem q799 : (Jvm.Cond.static ({ cls := "java/lang/Math", name := "min", desc := "(II)I" } : Jvm.MethodName)) ∈ lw_all := lw_g (lw_at lw_m3 192 rfl) rfl
theorem q800 : (Jvm.Cond.code ({ cls := "java/lang/Math", name := "min", desc := "(II)I" } : Jvm.MethodName) prog_25_method_69_code (2 : Nat) (Option.some Jvm.ClassFile.FieldType.int)) ∈ lw_all := lw_g (lw_at lw_m3 193 rfl) rfl

/-! java/util/Arrays -/
set_option maxRecDepth 100000
def RJ17 : String := "java/util/Arrays"
abbrev cJ17_copyOf : ByteArray := prog_42_method_119_code
def yJ17_copyOf : MethodName := ⟨RJ17, "copyOf", "([Ljava/lang/Object;I)[Ljava/lang/Object;"⟩
def dkwJ17_copyOf_0 : List UInt8 := [42, 27, 42, 182, 0, 86, 184, 1, 44, 176]
abbrev dktJ17_copyOf_0 : List UInt8 := dkwJ17_copyOf_0 ++ []
theorem dksJ17_copyOf_0 : cJ17_copyOf.data.toList.drop 0 = dktJ17_copyOf_0 := by decide +kernel
theorem dJ17_copyOf_0 : decode cJ17_copyOf 0 = .ok (.aload_n 0, 1) := dk_42 (dk_at dksJ17_copyOf_0 0 rfl rfl)
theorem dJ17_copyOf_1 : decode cJ17_copyOf 1 = .ok (.iload_n 1, 1) := dk_27 (dk_at dksJ17_copyOf_0 1 rfl rfl)
theorem dJ17_copyOf_2 : decode cJ17_copyOf 2 = .ok (.aload_n 0, 1) := dk_42 (dk_at dksJ17_copyOf_0 2 rfl rfl)
theorem dJ17_copyOf_3 : decode cJ17_copyOf 3 = .ok (.invokevirtual 86, 3) := dk_182 0 86 (dk_at dksJ17_copyOf_0 3 rfl rfl)
theorem dJ17_copyOf_6 : decode cJ17_copyOf 6 = .ok (.invokestatic 300, 3) := dk_184 1 44 (dk_at dksJ17_copyOf_0 6 rfl rfl)
theorem dJ17_copyOf_9 : decode cJ17_copyOf 9 = .ok (.areturn, 1) := dk_176 (dk_at dksJ17_copyOf_0 9 rfl rfl)
abbrev cJ17_copyOf_2 : ByteArray := prog_42_method_120_code
def yJ17_copyOf_2 : MethodName := ⟨RJ17, "copyOf", "([Ljava/lang/Object;ILjava/lang/Class;)[Ljava/lang/Object;"⟩
def dkwJ17_copyOf_2_1 : List UInt8 := [78, 42, 3, 45, 3, 42, 190, 27, 184, 1, 48, 184, 0, 150, 45, 176]
abbrev dktJ17_copyOf_2_1 : List UInt8 := dkwJ17_copyOf_2_1 ++ []
def dkwJ17_copyOf_2_0 : List UInt8 := [44, 18, 110, 166, 0, 10, 27, 189, 0, 2, 167, 0, 14, 44, 182, 0, 90, 27, 184, 0, 95, 192, 0, 110]
abbrev dktJ17_copyOf_2_0 : List UInt8 := dkwJ17_copyOf_2_0 ++ dktJ17_copyOf_2_1
theorem dksJ17_copyOf_2_0 : cJ17_copyOf_2.data.toList.drop 0 = dktJ17_copyOf_2_0 := by decide +kernel
theorem dksJ17_copyOf_2_1 : cJ17_copyOf_2.data.toList.drop 24 = dktJ17_copyOf_2_1 := dk_seg dksJ17_copyOf_2_0 24 rfl rfl
theorem dJ17_copyOf_2_0 : decode cJ17_copyOf_2 0 = .ok (.aload_n 2, 1) := dk_44 (dk_at dksJ17_copyOf_2_0 0 rfl rfl)
theorem dJ17_copyOf_2_1 : decode cJ17_copyOf_2 1 = .ok (.ldc 110, 2) := dk_18 110 (dk_at dksJ17_copyOf_2_0 1 rfl rfl)
theorem dJ17_copyOf_2_3 : decode cJ17_copyOf_2 3 = .ok (.if_acmp .ne 10, 3) := dk_166 0 10 (dk_at dksJ17_copyOf_2_0 3 rfl rfl)
theorem dJ17_copyOf_2_6 : decode cJ17_copyOf_2 6 = .ok (.iload_n 1, 1) := dk_27 (dk_at dksJ17_copyOf_2_0 6 rfl rfl)
theorem dJ17_copyOf_2_7 : decode cJ17_copyOf_2 7 = .ok (.anewarray 2, 3) := dk_189 0 2 (dk_at dksJ17_copyOf_2_0 7 rfl rfl)
theorem dJ17_copyOf_2_10 : decode cJ17_copyOf_2 10 = .ok (.goto 14, 3) := dk_167 0 14 (dk_at dksJ17_copyOf_2_0 10 rfl rfl)
theorem dJ17_copyOf_2_13 : decode cJ17_copyOf_2 13 = .ok (.aload_n 2, 1) := dk_44 (dk_at dksJ17_copyOf_2_0 13 rfl rfl)
theorem dJ17_copyOf_2_14 : decode cJ17_copyOf_2 14 = .ok (.invokevirtual 90, 3) := dk_182 0 90 (dk_at dksJ17_copyOf_2_0 14 rfl rfl)
theorem dJ17_copyOf_2_17 : decode cJ17_copyOf_2 17 = .ok (.iload_n 1, 1) := dk_27 (dk_at dksJ17_copyOf_2_0 17 rfl rfl)
theorem dJ17_copyOf_2_18 : decode cJ17_copyOf_2 18 = .ok (.invokestatic 95, 3) := dk_184 0 95 (dk_at dksJ17_copyOf_2_0 18 rfl rfl)
theorem dJ17_copyOf_2_21 : decode cJ17_copyOf_2 21 = .ok (.checkcast 110, 3) := dk_192 0 110 (dk_at dksJ17_copyOf_2_0 21 rfl rfl)
theorem dJ17_copyOf_2_24 : decode cJ17_copyOf_2 24 = .ok (.astore_n 3, 1) := dk_78 (dk_at dksJ17_copyOf_2_1 0 rfl rfl)
theorem dJ17_copyOf_2_25 : decode cJ17_copyOf_2 25 = .ok (.aload_n 0, 1) := dk_42 (dk_at dksJ17_copyOf_2_1 1 rfl rfl)
theorem dJ17_copyOf_2_26 : decode cJ17_copyOf_2 26 = .ok (.iconst 0, 1) := dk_3 (dk_at dksJ17_copyOf_2_1 2 rfl rfl)
theorem dJ17_copyOf_2_27 : decode cJ17_copyOf_2 27 = .ok (.aload_n 3, 1) := dk_45 (dk_at dksJ17_copyOf_2_1 3 rfl rfl)
theorem dJ17_copyOf_2_28 : decode cJ17_copyOf_2 28 = .ok (.iconst 0, 1) := dk_3 (dk_at dksJ17_copyOf_2_1 4 rfl rfl)
theorem dJ17_copyOf_2_29 : decode cJ17_copyOf_2 29 = .ok (.aload_n 0, 1) := dk_42 (dk_at dksJ17_copyOf_2_1 5 rfl rfl)
theorem dJ17_copyOf_2_30 : decode cJ17_copyOf_2 30 = .ok (.arraylength, 1) := dk_190 (dk_at dksJ17_copyOf_2_1 6 rfl rfl)
theorem dJ17_copyOf_2_31 : decode cJ17_copyOf_2 31 = .ok (.iload_n 1, 1) := dk_27 (dk_at dksJ17_copyOf_2_1 7 rfl rfl)
theorem dJ17_copyOf_2_32 : decode cJ17_copyOf_2 32 = .ok (.invokestatic 304, 3) := dk_184 1 48 (dk_at dksJ17_copyOf_2_1 8 rfl rfl)
theorem dJ17_copyOf_2_35 : decode cJ17_copyOf_2 35 = .ok (.invokestatic 150, 3) := dk_184 0 150 (dk_at dksJ17_copyOf_2_1 11 rfl rfl)
theorem dJ17_copyOf_2_38 : decode cJ17_copyOf_2 38 = .ok (.aload_n 3, 1) := dk_45 (dk_at dksJ17_copyOf_2_1 14 rfl rfl)
theorem dJ17_copyOf_2_39 : decode cJ17_copyOf_2 39 = .ok (.areturn, 1) := dk_176 (dk_at dksJ17_copyOf_2_1 15 rfl rfl)
theorem q155 : (Jvm.Cond.initialized "java/util/Arrays") ∈ lw_all := lw_g (lw_at lw_m1 28 rfl) rfl
theorem q766 : (Jvm.Cond.static ({ cls := "java/util/Arrays", name := "copyOf", desc := "([Ljava/lang/Object;I)[Ljava/lang/Object;" } : Jvm.MethodName)) ∈ lw_all := lw_g (lw_at lw_m3 159 rfl) rfl
theorem q767 : (Jvm.Cond.code ({ cls := "java/util/Arrays", name := "copyOf", desc := "([Ljava/lang/Object;I)[Ljava/lang/Object;" } : Jvm.MethodName) prog_42_method_119_code (2 : Nat) (Option.some (Jvm.ClassFile.FieldType.array (Jvm.ClassFile.FieldType.object "java/lang/Object")))) ∈ lw_all := lw_g (lw_at lw_m3 160 rfl) rfl
theorem q768 : (Jvm.Cond.methodLink "java/util/Arrays" (86 : Nat) ({ cls := "java/lang/Object", name := "getClass", desc := "()Ljava/lang/Class;" } : Jvm.MethodName)) ∈ lw_all := lw_g (lw_at lw_m3 161 rfl) rfl
theorem q793 : (Jvm.Cond.methodLink "java/util/Arrays" (300 : Nat) ({ cls := "java/util/Arrays", name := "copyOf", desc := "([Ljava/lang/Object;ILjava/lang/Class;)[Ljava/lang/Object;" } : Jvm.MethodName)) ∈ lw_all := lw_g (lw_at lw_m3 186 rfl) rfl
theorem q794 : (Jvm.Cond.static ({ cls := "java/util/Arrays", name := "copyOf", desc := "([Ljava/lang/Object;ILjava/lang/Class;)[Ljava/lang/Object;" } : Jvm.MethodName)) ∈ lw_all := lw_g (lw_at lw_m3 187 rfl) rfl
theorem q795 : (Jvm.Cond.code ({ cls := "java/util/Arrays", name := "copyOf", desc := "([Ljava/lang/Object;ILjava/lang/Class;)[Ljava/lang/Object;" } : Jvm.MethodName) prog_42_method_120_code (4 : Nat) (Option.some (Jvm.ClassFile.FieldType.array (Jvm.ClassFile.FieldType.object "java/lang/Object")))) ∈ lw_all := lw_g (lw_at lw_m3 188 rfl) rfl
theorem q796 : (Jvm.Cond.classLink "java/util/Arrays" (110 : Nat) "[Ljava/lang/Object;") ∈ lw_all := lw_g (lw_at lw_m3 189 rfl) rfl
theorem q797 : (Jvm.Cond.classLink "java/util/Arrays" (2 : Nat) "java/lang/Object") ∈ lw_all := lw_g (lw_at lw_m3 190 rfl) rfl
theorem q798 : (Jvm.Cond.methodLink "java/util/Arrays" (304 : Nat) ({ cls := "java/lang/Math", name := "min", desc := "(II)I" } : Jvm.MethodName)) ∈ lw_all := lw_g (lw_at lw_m3 191 rfl) rfl
theorem q801 : (Jvm.Cond.methodLink "java/util/Arrays" (150 : Nat) ({ cls := "java/lang/System", name := "arraycopy", desc := "(Ljava/lang/Object;ILjava/lang/Object;II)V" } : Jvm.MethodName)) ∈ lw_all := lw_g (lw_at lw_m3 194 rfl) rfl

/-! java/lang/Number -/
set_option maxRecDepth 100000
def RJ18 : String := "java/lang/Number"
abbrev cJ18_init : ByteArray := prog_26_method_1_code
def yJ18_init : MethodName := ⟨RJ18, "<init>", "()V"⟩
theorem dJ18_init_0 : decode cJ18_init 0 = .ok (.aload_n 0, 1) := by decide +kernel
theorem dJ18_init_1 : decode cJ18_init 1 = .ok (.invokespecial 1, 3) := by decide +kernel
theorem dJ18_init_4 : decode cJ18_init 4 = .ok (.return_, 1) := by decide +kernel
theorem q157 : (Jvm.Cond.initialized "java/lang/Number") ∈ lw_all := lw_g (lw_at lw_m1 30 rfl) rfl
theorem q823 : (Jvm.Cond.instanceMethod ({ cls := "java/lang/Number", name := "<init>", desc := "()V" } : Jvm.MethodName)) ∈ lw_all := lw_g (lw_at lw_m3 216 rfl) rfl
theorem q824 : (Jvm.Cond.code ({ cls := "java/lang/Number", name := "<init>", desc := "()V" } : Jvm.MethodName) prog_26_method_1_code (1 : Nat) (Option.none : Option Jvm.ClassFile.FieldType)) ∈ lw_all := lw_g (lw_at lw_m3 217 rfl) rfl
theorem q825 : (Jvm.Cond.methodLink "java/lang/Number" (1 : Nat) ({ cls := "java/lang/Object", name := "<init>", desc := "()V" } : Jvm.MethodName)) ∈ lw_all := lw_g (lw_at lw_m3 218 rfl) rfl

/-! java/lang/Long -/
set_option maxRecDepth 100000
abbrev cJ19_longValue : ByteArray := prog_23_method_31_code
def yJ19_longValue : MethodName := ⟨RJ19, "longValue", "()J"⟩
theorem dJ19_longValue_0 : decode cJ19_longValue 0 = .ok (.aload_n 0, 1) := by decide +kernel
theorem dJ19_longValue_1 : decode cJ19_longValue 1 = .ok (.getfield 273, 3) := by decide +kernel
theorem dJ19_longValue_4 : decode cJ19_longValue 4 = .ok (.lreturn, 1) := by decide +kernel
abbrev cJ19_valueOf : ByteArray := prog_23_method_24_code
def yJ19_valueOf : MethodName := ⟨RJ19, "valueOf", "(J)Ljava/lang/Long;"⟩
def dkwJ19_valueOf_1 : List UInt8 := [136, 17, 0, 128, 96, 50, 176, 187, 0, 1, 89, 30, 183, 0, 240, 176]
abbrev dktJ19_valueOf_1 : List UInt8 := dkwJ19_valueOf_1 ++ []
def dkwJ19_valueOf_0 : List UInt8 := [17, 0, 128, 61, 30, 20, 0, 230, 148, 155, 0, 22, 30, 20, 0, 232, 148, 157, 0, 14, 178, 0, 234, 30]
abbrev dktJ19_valueOf_0 : List UInt8 := dkwJ19_valueOf_0 ++ dktJ19_valueOf_1
theorem dksJ19_valueOf_0 : cJ19_valueOf.data.toList.drop 0 = dktJ19_valueOf_0 := by decide +kernel
theorem dksJ19_valueOf_1 : cJ19_valueOf.data.toList.drop 24 = dktJ19_valueOf_1 := dk_seg dksJ19_valueOf_0 24 rfl rfl
theorem dJ19_valueOf_0 : decode cJ19_valueOf 0 = .ok (.sipush 128, 3) := dk_17 0 128 (dk_at dksJ19_valueOf_0 0 rfl rfl)
theorem dJ19_valueOf_3 : decode cJ19_valueOf 3 = .ok (.istore_n 2, 1) := dk_61 (dk_at dksJ19_valueOf_0 3 rfl rfl)
theorem dJ19_valueOf_4 : decode cJ19_valueOf 4 = .ok (.lload_n 0, 1) := dk_30 (dk_at dksJ19_valueOf_0 4 rfl rfl)
theorem dJ19_valueOf_5 : decode cJ19_valueOf 5 = .ok (.ldc2_w 230, 3) := dk_20 0 230 (dk_at dksJ19_valueOf_0 5 rfl rfl)
theorem dJ19_valueOf_8 : decode cJ19_valueOf 8 = .ok (.lcmp, 1) := dk_148 (dk_at dksJ19_valueOf_0 8 rfl rfl)
theorem dJ19_valueOf_9 : decode cJ19_valueOf 9 = .ok (.ifCond .lt 22, 3) := dk_155 0 22 (dk_at dksJ19_valueOf_0 9 rfl rfl)
theorem dJ19_valueOf_12 : decode cJ19_valueOf 12 = .ok (.lload_n 0, 1) := dk_30 (dk_at dksJ19_valueOf_0 12 rfl rfl)
theorem dJ19_valueOf_13 : decode cJ19_valueOf 13 = .ok (.ldc2_w 232, 3) := dk_20 0 232 (dk_at dksJ19_valueOf_0 13 rfl rfl)
theorem dJ19_valueOf_16 : decode cJ19_valueOf 16 = .ok (.lcmp, 1) := dk_148 (dk_at dksJ19_valueOf_0 16 rfl rfl)
theorem dJ19_valueOf_17 : decode cJ19_valueOf 17 = .ok (.ifCond .gt 14, 3) := dk_157 0 14 (dk_at dksJ19_valueOf_0 17 rfl rfl)
theorem dJ19_valueOf_20 : decode cJ19_valueOf 20 = .ok (.getstatic 234, 3) := dk_178 0 234 (dk_at dksJ19_valueOf_0 20 rfl rfl)
theorem dJ19_valueOf_23 : decode cJ19_valueOf 23 = .ok (.lload_n 0, 1) := dk_30 (dk_at dksJ19_valueOf_0 23 rfl rfl)
theorem dJ19_valueOf_24 : decode cJ19_valueOf 24 = .ok (.l2i, 1) := dk_136 (dk_at dksJ19_valueOf_1 0 rfl rfl)
theorem dJ19_valueOf_25 : decode cJ19_valueOf 25 = .ok (.sipush 128, 3) := dk_17 0 128 (dk_at dksJ19_valueOf_1 1 rfl rfl)
theorem dJ19_valueOf_28 : decode cJ19_valueOf 28 = .ok (.iadd, 1) := dk_96 (dk_at dksJ19_valueOf_1 4 rfl rfl)
theorem dJ19_valueOf_29 : decode cJ19_valueOf 29 = .ok (.aaload, 1) := dk_50 (dk_at dksJ19_valueOf_1 5 rfl rfl)
theorem dJ19_valueOf_30 : decode cJ19_valueOf 30 = .ok (.areturn, 1) := dk_176 (dk_at dksJ19_valueOf_1 6 rfl rfl)
theorem dJ19_valueOf_31 : decode cJ19_valueOf 31 = .ok (.new 1, 3) := dk_187 0 1 (dk_at dksJ19_valueOf_1 7 rfl rfl)
theorem dJ19_valueOf_34 : decode cJ19_valueOf 34 = .ok (.dup, 1) := dk_89 (dk_at dksJ19_valueOf_1 10 rfl rfl)
theorem dJ19_valueOf_35 : decode cJ19_valueOf 35 = .ok (.lload_n 0, 1) := dk_30 (dk_at dksJ19_valueOf_1 11 rfl rfl)
theorem dJ19_valueOf_36 : decode cJ19_valueOf 36 = .ok (.invokespecial 240, 3) := dk_183 0 240 (dk_at dksJ19_valueOf_1 12 rfl rfl)
theorem dJ19_valueOf_39 : decode cJ19_valueOf 39 = .ok (.areturn, 1) := dk_176 (dk_at dksJ19_valueOf_1 15 rfl rfl)
abbrev cJ19_init : ByteArray := prog_23_method_26_code
def yJ19_init : MethodName := ⟨RJ19, "<init>", "(J)V"⟩
def dkwJ19_init_0 : List UInt8 := [42, 183, 1, 14, 42, 31, 181, 1, 17, 177]
abbrev dktJ19_init_0 : List UInt8 := dkwJ19_init_0 ++ []
theorem dksJ19_init_0 : cJ19_init.data.toList.drop 0 = dktJ19_init_0 := by decide +kernel
theorem dJ19_init_0 : decode cJ19_init 0 = .ok (.aload_n 0, 1) := dk_42 (dk_at dksJ19_init_0 0 rfl rfl)
theorem dJ19_init_1 : decode cJ19_init 1 = .ok (.invokespecial 270, 3) := dk_183 1 14 (dk_at dksJ19_init_0 1 rfl rfl)
theorem dJ19_init_4 : decode cJ19_init 4 = .ok (.aload_n 0, 1) := dk_42 (dk_at dksJ19_init_0 4 rfl rfl)
theorem dJ19_init_5 : decode cJ19_init 5 = .ok (.lload_n 1, 1) := dk_31 (dk_at dksJ19_init_0 5 rfl rfl)
theorem dJ19_init_6 : decode cJ19_init 6 = .ok (.putfield 273, 3) := dk_181 1 17 (dk_at dksJ19_init_0 6 rfl rfl)
theorem dJ19_init_9 : decode cJ19_init 9 = .ok (.return_, 1) := dk_177 (dk_at dksJ19_init_0 9 rfl rfl)
abbrev cJ19_compareTo : ByteArray := prog_23_method_64_code
def yJ19_compareTo : MethodName := ⟨RJ19, "compareTo", "(Ljava/lang/Object;)I"⟩
def dkwJ19_compareTo_0 : List UInt8 := [42, 43, 192, 0, 1, 182, 1, 87, 172]
abbrev dktJ19_compareTo_0 : List UInt8 := dkwJ19_compareTo_0 ++ []
theorem dksJ19_compareTo_0 : cJ19_compareTo.data.toList.drop 0 = dktJ19_compareTo_0 := by decide +kernel
theorem dJ19_compareTo_0 : decode cJ19_compareTo 0 = .ok (.aload_n 0, 1) := dk_42 (dk_at dksJ19_compareTo_0 0 rfl rfl)
theorem dJ19_compareTo_1 : decode cJ19_compareTo 1 = .ok (.aload_n 1, 1) := dk_43 (dk_at dksJ19_compareTo_0 1 rfl rfl)
theorem dJ19_compareTo_2 : decode cJ19_compareTo 2 = .ok (.checkcast 1, 3) := dk_192 0 1 (dk_at dksJ19_compareTo_0 2 rfl rfl)
theorem dJ19_compareTo_5 : decode cJ19_compareTo 5 = .ok (.invokevirtual 343, 3) := dk_182 1 87 (dk_at dksJ19_compareTo_0 5 rfl rfl)
theorem dJ19_compareTo_8 : decode cJ19_compareTo 8 = .ok (.ireturn, 1) := dk_172 (dk_at dksJ19_compareTo_0 8 rfl rfl)
abbrev cJ19_compareTo_2 : ByteArray := prog_23_method_41_code
def yJ19_compareTo_2 : MethodName := ⟨RJ19, "compareTo", "(Ljava/lang/Long;)I"⟩
def dkwJ19_compareTo_2_0 : List UInt8 := [42, 180, 1, 17, 43, 180, 1, 17, 184, 1, 46, 172]
abbrev dktJ19_compareTo_2_0 : List UInt8 := dkwJ19_compareTo_2_0 ++ []
theorem dksJ19_compareTo_2_0 : cJ19_compareTo_2.data.toList.drop 0 = dktJ19_compareTo_2_0 := by decide +kernel
theorem dJ19_compareTo_2_0 : decode cJ19_compareTo_2 0 = .ok (.aload_n 0, 1) := dk_42 (dk_at dksJ19_compareTo_2_0 0 rfl rfl)
theorem dJ19_compareTo_2_1 : decode cJ19_compareTo_2 1 = .ok (.getfield 273, 3) := dk_180 1 17 (dk_at dksJ19_compareTo_2_0 1 rfl rfl)
theorem dJ19_compareTo_2_4 : decode cJ19_compareTo_2 4 = .ok (.aload_n 1, 1) := dk_43 (dk_at dksJ19_compareTo_2_0 4 rfl rfl)
theorem dJ19_compareTo_2_5 : decode cJ19_compareTo_2 5 = .ok (.getfield 273, 3) := dk_180 1 17 (dk_at dksJ19_compareTo_2_0 5 rfl rfl)
theorem dJ19_compareTo_2_8 : decode cJ19_compareTo_2 8 = .ok (.invokestatic 302, 3) := dk_184 1 46 (dk_at dksJ19_compareTo_2_0 8 rfl rfl)
theorem dJ19_compareTo_2_11 : decode cJ19_compareTo_2 11 = .ok (.ireturn, 1) := dk_172 (dk_at dksJ19_compareTo_2_0 11 rfl rfl)
abbrev cJ19_compare : ByteArray := prog_23_method_42_code
def yJ19_compare : MethodName := ⟨RJ19, "compare", "(JJ)I"⟩
def dkwJ19_compare_0 : List UInt8 := [30, 32, 148, 156, 0, 7, 2, 167, 0, 14, 30, 32, 148, 154, 0, 7, 3, 167, 0, 4, 4, 172]
abbrev dktJ19_compare_0 : List UInt8 := dkwJ19_compare_0 ++ []
theorem dksJ19_compare_0 : cJ19_compare.data.toList.drop 0 = dktJ19_compare_0 := by decide +kernel
theorem dJ19_compare_0 : decode cJ19_compare 0 = .ok (.lload_n 0, 1) := dk_30 (dk_at dksJ19_compare_0 0 rfl rfl)
theorem dJ19_compare_1 : decode cJ19_compare 1 = .ok (.lload_n 2, 1) := dk_32 (dk_at dksJ19_compare_0 1 rfl rfl)
theorem dJ19_compare_2 : decode cJ19_compare 2 = .ok (.lcmp, 1) := dk_148 (dk_at dksJ19_compare_0 2 rfl rfl)
theorem dJ19_compare_3 : decode cJ19_compare 3 = .ok (.ifCond .ge 7, 3) := dk_156 0 7 (dk_at dksJ19_compare_0 3 rfl rfl)
theorem dJ19_compare_6 : decode cJ19_compare 6 = .ok (.iconst (-1), 1) := dk_2 (dk_at dksJ19_compare_0 6 rfl rfl)
theorem dJ19_compare_7 : decode cJ19_compare 7 = .ok (.goto 14, 3) := dk_167 0 14 (dk_at dksJ19_compare_0 7 rfl rfl)
theorem dJ19_compare_10 : decode cJ19_compare 10 = .ok (.lload_n 0, 1) := dk_30 (dk_at dksJ19_compare_0 10 rfl rfl)
theorem dJ19_compare_11 : decode cJ19_compare 11 = .ok (.lload_n 2, 1) := dk_32 (dk_at dksJ19_compare_0 11 rfl rfl)
theorem dJ19_compare_12 : decode cJ19_compare 12 = .ok (.lcmp, 1) := dk_148 (dk_at dksJ19_compare_0 12 rfl rfl)
theorem dJ19_compare_13 : decode cJ19_compare 13 = .ok (.ifCond .ne 7, 3) := dk_154 0 7 (dk_at dksJ19_compare_0 13 rfl rfl)
theorem dJ19_compare_16 : decode cJ19_compare 16 = .ok (.iconst 0, 1) := dk_3 (dk_at dksJ19_compare_0 16 rfl rfl)
theorem dJ19_compare_17 : decode cJ19_compare 17 = .ok (.goto 4, 3) := dk_167 0 4 (dk_at dksJ19_compare_0 17 rfl rfl)
theorem dJ19_compare_20 : decode cJ19_compare 20 = .ok (.iconst 1, 1) := dk_4 (dk_at dksJ19_compare_0 20 rfl rfl)
theorem dJ19_compare_21 : decode cJ19_compare 21 = .ok (.ireturn, 1) := dk_172 (dk_at dksJ19_compare_0 21 rfl rfl)
abbrev cJ19_numberOfLeadingZeros : ByteArray := prog_23_method_48_code
def yJ19_numberOfLeadingZeros : MethodName := ⟨RJ19, "numberOfLeadingZeros", "(J)I"⟩
def dkwJ19_numberOfLeadingZeros_1 : List UInt8 := [184, 1, 52, 172]
abbrev dktJ19_numberOfLeadingZeros_1 : List UInt8 := dkwJ19_numberOfLeadingZeros_1 ++ []
def dkwJ19_numberOfLeadingZeros_0 : List UInt8 := [30, 16, 32, 125, 136, 61, 28, 154, 0, 14, 16, 32, 30, 136, 184, 1, 52, 96, 167, 0, 7, 28]
abbrev dktJ19_numberOfLeadingZeros_0 : List UInt8 := dkwJ19_numberOfLeadingZeros_0 ++ dktJ19_numberOfLeadingZeros_1
theorem dksJ19_numberOfLeadingZeros_0 : cJ19_numberOfLeadingZeros.data.toList.drop 0 = dktJ19_numberOfLeadingZeros_0 := by decide +kernel
theorem dksJ19_numberOfLeadingZeros_1 : cJ19_numberOfLeadingZeros.data.toList.drop 22 = dktJ19_numberOfLeadingZeros_1 := dk_seg dksJ19_numberOfLeadingZeros_0 22 rfl rfl
theorem dJ19_numberOfLeadingZeros_0 : decode cJ19_numberOfLeadingZeros 0 = .ok (.lload_n 0, 1) := dk_30 (dk_at dksJ19_numberOfLeadingZeros_0 0 rfl rfl)
theorem dJ19_numberOfLeadingZeros_1 : decode cJ19_numberOfLeadingZeros 1 = .ok (.bipush 32, 2) := dk_16 32 (dk_at dksJ19_numberOfLeadingZeros_0 1 rfl rfl)
theorem dJ19_numberOfLeadingZeros_3 : decode cJ19_numberOfLeadingZeros 3 = .ok (.lushr, 1) := dk_125 (dk_at dksJ19_numberOfLeadingZeros_0 3 rfl rfl)
theorem dJ19_numberOfLeadingZeros_4 : decode cJ19_numberOfLeadingZeros 4 = .ok (.l2i, 1) := dk_136 (dk_at dksJ19_numberOfLeadingZeros_0 4 rfl rfl)
theorem dJ19_numberOfLeadingZeros_5 : decode cJ19_numberOfLeadingZeros 5 = .ok (.istore_n 2, 1) := dk_61 (dk_at dksJ19_numberOfLeadingZeros_0 5 rfl rfl)
theorem dJ19_numberOfLeadingZeros_6 : decode cJ19_numberOfLeadingZeros 6 = .ok (.iload_n 2, 1) := dk_28 (dk_at dksJ19_numberOfLeadingZeros_0 6 rfl rfl)
theorem dJ19_numberOfLeadingZeros_7 : decode cJ19_numberOfLeadingZeros 7 = .ok (.ifCond .ne 14, 3) := dk_154 0 14 (dk_at dksJ19_numberOfLeadingZeros_0 7 rfl rfl)
theorem dJ19_numberOfLeadingZeros_10 : decode cJ19_numberOfLeadingZeros 10 = .ok (.bipush 32, 2) := dk_16 32 (dk_at dksJ19_numberOfLeadingZeros_0 10 rfl rfl)
theorem dJ19_numberOfLeadingZeros_12 : decode cJ19_numberOfLeadingZeros 12 = .ok (.lload_n 0, 1) := dk_30 (dk_at dksJ19_numberOfLeadingZeros_0 12 rfl rfl)
theorem dJ19_numberOfLeadingZeros_13 : decode cJ19_numberOfLeadingZeros 13 = .ok (.l2i, 1) := dk_136 (dk_at dksJ19_numberOfLeadingZeros_0 13 rfl rfl)
theorem dJ19_numberOfLeadingZeros_14 : decode cJ19_numberOfLeadingZeros 14 = .ok (.invokestatic 308, 3) := dk_184 1 52 (dk_at dksJ19_numberOfLeadingZeros_0 14 rfl rfl)
theorem dJ19_numberOfLeadingZeros_17 : decode cJ19_numberOfLeadingZeros 17 = .ok (.iadd, 1) := dk_96 (dk_at dksJ19_numberOfLeadingZeros_0 17 rfl rfl)
theorem dJ19_numberOfLeadingZeros_18 : decode cJ19_numberOfLeadingZeros 18 = .ok (.goto 7, 3) := dk_167 0 7 (dk_at dksJ19_numberOfLeadingZeros_0 18 rfl rfl)
theorem dJ19_numberOfLeadingZeros_21 : decode cJ19_numberOfLeadingZeros 21 = .ok (.iload_n 2, 1) := dk_28 (dk_at dksJ19_numberOfLeadingZeros_0 21 rfl rfl)
theorem dJ19_numberOfLeadingZeros_22 : decode cJ19_numberOfLeadingZeros 22 = .ok (.invokestatic 308, 3) := dk_184 1 52 (dk_at dksJ19_numberOfLeadingZeros_1 0 rfl rfl)
theorem dJ19_numberOfLeadingZeros_25 : decode cJ19_numberOfLeadingZeros 25 = .ok (.ireturn, 1) := dk_172 (dk_at dksJ19_numberOfLeadingZeros_1 3 rfl rfl)
abbrev cJ19_numberOfTrailingZeros : ByteArray := prog_23_method_49_code
def yJ19_numberOfTrailingZeros : MethodName := ⟨RJ19, "numberOfTrailingZeros", "(J)I"⟩
def dkwJ19_numberOfTrailingZeros_1 : List UInt8 := [184, 1, 55, 172]
abbrev dktJ19_numberOfTrailingZeros_1 : List UInt8 := dkwJ19_numberOfTrailingZeros_1 ++ []
def dkwJ19_numberOfTrailingZeros_0 : List UInt8 := [30, 136, 61, 28, 154, 0, 17, 16, 32, 30, 16, 32, 125, 136, 184, 1, 55, 96, 167, 0, 7, 28]
abbrev dktJ19_numberOfTrailingZeros_0 : List UInt8 := dkwJ19_numberOfTrailingZeros_0 ++ dktJ19_numberOfTrailingZeros_1
theorem dksJ19_numberOfTrailingZeros_0 : cJ19_numberOfTrailingZeros.data.toList.drop 0 = dktJ19_numberOfTrailingZeros_0 := by decide +kernel
theorem dksJ19_numberOfTrailingZeros_1 : cJ19_numberOfTrailingZeros.data.toList.drop 22 = dktJ19_numberOfTrailingZeros_1 := dk_seg dksJ19_numberOfTrailingZeros_0 22 rfl rfl
theorem dJ19_numberOfTrailingZeros_0 : decode cJ19_numberOfTrailingZeros 0 = .ok (.lload_n 0, 1) := dk_30 (dk_at dksJ19_numberOfTrailingZeros_0 0 rfl rfl)
theorem dJ19_numberOfTrailingZeros_1 : decode cJ19_numberOfTrailingZeros 1 = .ok (.l2i, 1) := dk_136 (dk_at dksJ19_numberOfTrailingZeros_0 1 rfl rfl)
theorem dJ19_numberOfTrailingZeros_2 : decode cJ19_numberOfTrailingZeros 2 = .ok (.istore_n 2, 1) := dk_61 (dk_at dksJ19_numberOfTrailingZeros_0 2 rfl rfl)
theorem dJ19_numberOfTrailingZeros_3 : decode cJ19_numberOfTrailingZeros 3 = .ok (.iload_n 2, 1) := dk_28 (dk_at dksJ19_numberOfTrailingZeros_0 3 rfl rfl)
theorem dJ19_numberOfTrailingZeros_4 : decode cJ19_numberOfTrailingZeros 4 = .ok (.ifCond .ne 17, 3) := dk_154 0 17 (dk_at dksJ19_numberOfTrailingZeros_0 4 rfl rfl)
theorem dJ19_numberOfTrailingZeros_7 : decode cJ19_numberOfTrailingZeros 7 = .ok (.bipush 32, 2) := dk_16 32 (dk_at dksJ19_numberOfTrailingZeros_0 7 rfl rfl)
theorem dJ19_numberOfTrailingZeros_9 : decode cJ19_numberOfTrailingZeros 9 = .ok (.lload_n 0, 1) := dk_30 (dk_at dksJ19_numberOfTrailingZeros_0 9 rfl rfl)
theorem dJ19_numberOfTrailingZeros_10 : decode cJ19_numberOfTrailingZeros 10 = .ok (.bipush 32, 2) := dk_16 32 (dk_at dksJ19_numberOfTrailingZeros_0 10 rfl rfl)
theorem dJ19_numberOfTrailingZeros_12 : decode cJ19_numberOfTrailingZeros 12 = .ok (.lushr, 1) := dk_125 (dk_at dksJ19_numberOfTrailingZeros_0 12 rfl rfl)
theorem dJ19_numberOfTrailingZeros_13 : decode cJ19_numberOfTrailingZeros 13 = .ok (.l2i, 1) := dk_136 (dk_at dksJ19_numberOfTrailingZeros_0 13 rfl rfl)
theorem dJ19_numberOfTrailingZeros_14 : decode cJ19_numberOfTrailingZeros 14 = .ok (.invokestatic 311, 3) := dk_184 1 55 (dk_at dksJ19_numberOfTrailingZeros_0 14 rfl rfl)
theorem dJ19_numberOfTrailingZeros_17 : decode cJ19_numberOfTrailingZeros 17 = .ok (.iadd, 1) := dk_96 (dk_at dksJ19_numberOfTrailingZeros_0 17 rfl rfl)
theorem dJ19_numberOfTrailingZeros_18 : decode cJ19_numberOfTrailingZeros 18 = .ok (.goto 7, 3) := dk_167 0 7 (dk_at dksJ19_numberOfTrailingZeros_0 18 rfl rfl)
theorem dJ19_numberOfTrailingZeros_21 : decode cJ19_numberOfTrailingZeros 21 = .ok (.iload_n 2, 1) := dk_28 (dk_at dksJ19_numberOfTrailingZeros_0 21 rfl rfl)
theorem dJ19_numberOfTrailingZeros_22 : decode cJ19_numberOfTrailingZeros 22 = .ok (.invokestatic 311, 3) := dk_184 1 55 (dk_at dksJ19_numberOfTrailingZeros_1 0 rfl rfl)
theorem dJ19_numberOfTrailingZeros_25 : decode cJ19_numberOfTrailingZeros 25 = .ok (.ireturn, 1) := dk_172 (dk_at dksJ19_numberOfTrailingZeros_1 3 rfl rfl)
theorem q158 : (Jvm.Cond.initialized "java/lang/Long") ∈ lw_all := lw_g (lw_at lw_m1 31 rfl) rfl
theorem q713 : (Jvm.Cond.instanceMethod ({ cls := "java/lang/Long", name := "longValue", desc := "()J" } : Jvm.MethodName)) ∈ lw_all := lw_g (lw_at lw_m3 106 rfl) rfl
theorem q714 : (Jvm.Cond.selects "java/lang/Long" ({ cls := "java/lang/Long", name := "longValue", desc := "()J" } : Jvm.MethodName) ({ cls := "java/lang/Long", name := "longValue", desc := "()J" } : Jvm.MethodName)) ∈ lw_all := lw_g (lw_at lw_m3 107 rfl) rfl
theorem q715 : (Jvm.Cond.code ({ cls := "java/lang/Long", name := "longValue", desc := "()J" } : Jvm.MethodName) prog_23_method_31_code (1 : Nat) (Option.some Jvm.ClassFile.FieldType.long)) ∈ lw_all := lw_g (lw_at lw_m3 108 rfl) rfl
theorem q784 : (Jvm.Cond.selects "java/lang/Long" ({ cls := "java/lang/Object", name := "getClass", desc := "()Ljava/lang/Class;" } : Jvm.MethodName) ({ cls := "java/lang/Object", name := "getClass", desc := "()Ljava/lang/Class;" } : Jvm.MethodName)) ∈ lw_all := lw_g (lw_at lw_m3 177 rfl) rfl
theorem q811 : (Jvm.Cond.static ({ cls := "java/lang/Long", name := "valueOf", desc := "(J)Ljava/lang/Long;" } : Jvm.MethodName)) ∈ lw_all := lw_g (lw_at lw_m3 204 rfl) rfl
theorem q812 : (Jvm.Cond.code ({ cls := "java/lang/Long", name := "valueOf", desc := "(J)Ljava/lang/Long;" } : Jvm.MethodName) prog_23_method_24_code (3 : Nat) (Option.some (Jvm.ClassFile.FieldType.object "java/lang/Long"))) ∈ lw_all := lw_g (lw_at lw_m3 205 rfl) rfl
theorem q813 : (Jvm.Cond.constantLong "java/lang/Long" (230 : Nat) (-128 : Int64)) ∈ lw_all := lw_g (lw_at lw_m3 206 rfl) rfl
theorem q814 : (Jvm.Cond.constantLong "java/lang/Long" (232 : Nat) (127 : Int64)) ∈ lw_all := lw_g (lw_at lw_m3 207 rfl) rfl
theorem q815 : (Jvm.Cond.fieldLink "java/lang/Long" (234 : Nat) "java/lang/Long$LongCache" "cache" "[Ljava/lang/Long;") ∈ lw_all := lw_g (lw_at lw_m3 208 rfl) rfl
theorem q817 : (Jvm.Cond.classLink "java/lang/Long" (1 : Nat) "java/lang/Long") ∈ lw_all := lw_g (lw_at lw_m3 210 rfl) rfl
theorem q818 : (Jvm.Cond.instantiable "java/lang/Long" (1 : Nat)) ∈ lw_all := lw_g (lw_at lw_m3 211 rfl) rfl
theorem q819 : (Jvm.Cond.methodLink "java/lang/Long" (240 : Nat) ({ cls := "java/lang/Long", name := "<init>", desc := "(J)V" } : Jvm.MethodName)) ∈ lw_all := lw_g (lw_at lw_m3 212 rfl) rfl
theorem q820 : (Jvm.Cond.instanceMethod ({ cls := "java/lang/Long", name := "<init>", desc := "(J)V" } : Jvm.MethodName)) ∈ lw_all := lw_g (lw_at lw_m3 213 rfl) rfl
theorem q821 : (Jvm.Cond.code ({ cls := "java/lang/Long", name := "<init>", desc := "(J)V" } : Jvm.MethodName) prog_23_method_26_code (3 : Nat) (Option.none : Option Jvm.ClassFile.FieldType)) ∈ lw_all := lw_g (lw_at lw_m3 214 rfl) rfl
theorem q822 : (Jvm.Cond.methodLink "java/lang/Long" (270 : Nat) ({ cls := "java/lang/Number", name := "<init>", desc := "()V" } : Jvm.MethodName)) ∈ lw_all := lw_g (lw_at lw_m3 215 rfl) rfl
theorem q826 : (Jvm.Cond.fieldLink "java/lang/Long" (273 : Nat) "java/lang/Long" "value" "J") ∈ lw_all := lw_g (lw_at lw_m3 219 rfl) rfl
theorem q827 : (Jvm.Cond.laysFinal "java/lang/Long" "java/lang/Long" "value" "J") ∈ lw_all := lw_g (lw_at lw_m3 220 rfl) rfl
theorem q828 : (Jvm.Cond.soleField "java/lang/Long" "value") ∈ lw_all := lw_g (lw_at lw_m3 221 rfl) rfl
theorem q829 : (Jvm.Cond.superclass "java/lang/Long" "java/lang/Number") ∈ lw_all := lw_g (lw_at lw_m3 222 rfl) rfl
theorem q969 : (Jvm.Cond.castable "java/lang/Long" "java/lang/Comparable") ∈ lw_tbl := lw_at lw_m4 122 rfl
theorem q970 : (Jvm.Cond.selects "java/lang/Long" ({ cls := "java/lang/Comparable", name := "compareTo", desc := "(Ljava/lang/Object;)I" } : Jvm.MethodName) ({ cls := "java/lang/Long", name := "compareTo", desc := "(Ljava/lang/Object;)I" } : Jvm.MethodName)) ∈ lw_all := lw_g (lw_at lw_m4 123 rfl) rfl
theorem q971 : (Jvm.Cond.unhidden "java/lang/Long" "compareTo" "(Ljava/lang/Object;)I") ∈ lw_tbl := lw_at lw_m4 124 rfl
theorem q972 : (Jvm.Cond.instanceMethod ({ cls := "java/lang/Long", name := "compareTo", desc := "(Ljava/lang/Object;)I" } : Jvm.MethodName)) ∈ lw_all := lw_g (lw_at lw_m4 125 rfl) rfl
theorem q973 : (Jvm.Cond.publicMethod ({ cls := "java/lang/Long", name := "compareTo", desc := "(Ljava/lang/Object;)I" } : Jvm.MethodName)) ∈ lw_tbl := lw_at lw_m4 126 rfl
theorem q974 : (Jvm.Cond.code ({ cls := "java/lang/Long", name := "compareTo", desc := "(Ljava/lang/Object;)I" } : Jvm.MethodName) prog_23_method_64_code (2 : Nat) (Option.some Jvm.ClassFile.FieldType.int)) ∈ lw_all := lw_g (lw_at lw_m4 127 rfl) rfl
theorem q975 : (Jvm.Cond.methodLink "java/lang/Long" (343 : Nat) ({ cls := "java/lang/Long", name := "compareTo", desc := "(Ljava/lang/Long;)I" } : Jvm.MethodName)) ∈ lw_all := lw_g (lw_at lw_m4 128 rfl) rfl
theorem q976 : (Jvm.Cond.instanceMethod ({ cls := "java/lang/Long", name := "compareTo", desc := "(Ljava/lang/Long;)I" } : Jvm.MethodName)) ∈ lw_all := lw_g (lw_at lw_m4 129 rfl) rfl
theorem q977 : (Jvm.Cond.selects "java/lang/Long" ({ cls := "java/lang/Long", name := "compareTo", desc := "(Ljava/lang/Long;)I" } : Jvm.MethodName) ({ cls := "java/lang/Long", name := "compareTo", desc := "(Ljava/lang/Long;)I" } : Jvm.MethodName)) ∈ lw_all := lw_g (lw_at lw_m4 130 rfl) rfl
theorem q978 : (Jvm.Cond.code ({ cls := "java/lang/Long", name := "compareTo", desc := "(Ljava/lang/Long;)I" } : Jvm.MethodName) prog_23_method_41_code (2 : Nat) (Option.some Jvm.ClassFile.FieldType.int)) ∈ lw_all := lw_g (lw_at lw_m4 131 rfl) rfl
theorem q979 : (Jvm.Cond.methodLink "java/lang/Long" (302 : Nat) ({ cls := "java/lang/Long", name := "compare", desc := "(JJ)I" } : Jvm.MethodName)) ∈ lw_all := lw_g (lw_at lw_m4 132 rfl) rfl
theorem q980 : (Jvm.Cond.static ({ cls := "java/lang/Long", name := "compare", desc := "(JJ)I" } : Jvm.MethodName)) ∈ lw_all := lw_g (lw_at lw_m4 133 rfl) rfl
theorem q981 : (Jvm.Cond.code ({ cls := "java/lang/Long", name := "compare", desc := "(JJ)I" } : Jvm.MethodName) prog_23_method_42_code (4 : Nat) (Option.some Jvm.ClassFile.FieldType.int)) ∈ lw_all := lw_g (lw_at lw_m4 134 rfl) rfl
theorem q1069 : (Jvm.Cond.static ({ cls := "java/lang/Long", name := "numberOfLeadingZeros", desc := "(J)I" } : Jvm.MethodName)) ∈ lw_all := lw_g (lw_at lw_m4 222 rfl) rfl
theorem q1070 : (Jvm.Cond.code ({ cls := "java/lang/Long", name := "numberOfLeadingZeros", desc := "(J)I" } : Jvm.MethodName) prog_23_method_48_code (3 : Nat) (Option.some Jvm.ClassFile.FieldType.int)) ∈ lw_all := lw_g (lw_at lw_m4 223 rfl) rfl
theorem q1071 : (Jvm.Cond.methodLink "java/lang/Long" (308 : Nat) ({ cls := "java/lang/Integer", name := "numberOfLeadingZeros", desc := "(I)I" } : Jvm.MethodName)) ∈ lw_all := lw_g (lw_at lw_m4 224 rfl) rfl
theorem q1078 : (Jvm.Cond.static ({ cls := "java/lang/Long", name := "numberOfTrailingZeros", desc := "(J)I" } : Jvm.MethodName)) ∈ lw_all := lw_g (lw_at lw_m4 231 rfl) rfl
theorem q1079 : (Jvm.Cond.code ({ cls := "java/lang/Long", name := "numberOfTrailingZeros", desc := "(J)I" } : Jvm.MethodName) prog_23_method_49_code (3 : Nat) (Option.some Jvm.ClassFile.FieldType.int)) ∈ lw_all := lw_g (lw_at lw_m4 232 rfl) rfl
theorem q1080 : (Jvm.Cond.methodLink "java/lang/Long" (311 : Nat) ({ cls := "java/lang/Integer", name := "numberOfTrailingZeros", desc := "(I)I" } : Jvm.MethodName)) ∈ lw_all := lw_g (lw_at lw_m4 233 rfl) rfl
theorem q2402 : (Jvm.Cond.castable "java/lang/Long" "java/lang/Object") ∈ lw_tbl := lw_at lw_m10 115 rfl

/-! java/util/TreeMap$Entry -/
set_option maxRecDepth 100000
abbrev cJ22_init : ByteArray := prog_62_method_1_code
def yJ22_init : MethodName := ⟨RJ22, "<init>", "(Ljava/lang/Object;Ljava/lang/Object;Ljava/util/TreeMap$Entry;)V"⟩
def dkwJ22_init_1 : List UInt8 := [177]
abbrev dktJ22_init_1 : List UInt8 := dkwJ22_init_1 ++ []
def dkwJ22_init_0 : List UInt8 := [42, 183, 0, 3, 42, 4, 181, 0, 9, 42, 43, 181, 0, 15, 42, 44, 181, 0, 19, 42, 45, 181, 0, 22]
abbrev dktJ22_init_0 : List UInt8 := dkwJ22_init_0 ++ dktJ22_init_1
theorem dksJ22_init_0 : cJ22_init.data.toList.drop 0 = dktJ22_init_0 := by decide +kernel
theorem dksJ22_init_1 : cJ22_init.data.toList.drop 24 = dktJ22_init_1 := dk_seg dksJ22_init_0 24 rfl rfl
theorem dJ22_init_0 : decode cJ22_init 0 = .ok (.aload_n 0, 1) := dk_42 (dk_at dksJ22_init_0 0 rfl rfl)
theorem dJ22_init_1 : decode cJ22_init 1 = .ok (.invokespecial 3, 3) := dk_183 0 3 (dk_at dksJ22_init_0 1 rfl rfl)
theorem dJ22_init_4 : decode cJ22_init 4 = .ok (.aload_n 0, 1) := dk_42 (dk_at dksJ22_init_0 4 rfl rfl)
theorem dJ22_init_5 : decode cJ22_init 5 = .ok (.iconst 1, 1) := dk_4 (dk_at dksJ22_init_0 5 rfl rfl)
theorem dJ22_init_6 : decode cJ22_init 6 = .ok (.putfield 9, 3) := dk_181 0 9 (dk_at dksJ22_init_0 6 rfl rfl)
theorem dJ22_init_9 : decode cJ22_init 9 = .ok (.aload_n 0, 1) := dk_42 (dk_at dksJ22_init_0 9 rfl rfl)
theorem dJ22_init_10 : decode cJ22_init 10 = .ok (.aload_n 1, 1) := dk_43 (dk_at dksJ22_init_0 10 rfl rfl)
theorem dJ22_init_11 : decode cJ22_init 11 = .ok (.putfield 15, 3) := dk_181 0 15 (dk_at dksJ22_init_0 11 rfl rfl)
theorem dJ22_init_14 : decode cJ22_init 14 = .ok (.aload_n 0, 1) := dk_42 (dk_at dksJ22_init_0 14 rfl rfl)
theorem dJ22_init_15 : decode cJ22_init 15 = .ok (.aload_n 2, 1) := dk_44 (dk_at dksJ22_init_0 15 rfl rfl)
theorem dJ22_init_16 : decode cJ22_init 16 = .ok (.putfield 19, 3) := dk_181 0 19 (dk_at dksJ22_init_0 16 rfl rfl)
theorem dJ22_init_19 : decode cJ22_init 19 = .ok (.aload_n 0, 1) := dk_42 (dk_at dksJ22_init_0 19 rfl rfl)
theorem dJ22_init_20 : decode cJ22_init 20 = .ok (.aload_n 3, 1) := dk_45 (dk_at dksJ22_init_0 20 rfl rfl)
theorem dJ22_init_21 : decode cJ22_init 21 = .ok (.putfield 22, 3) := dk_181 0 22 (dk_at dksJ22_init_0 21 rfl rfl)
theorem dJ22_init_24 : decode cJ22_init 24 = .ok (.return_, 1) := dk_177 (dk_at dksJ22_init_1 0 rfl rfl)
theorem q165 : (Jvm.Cond.initialized "java/util/TreeMap$Entry") ∈ lw_all := lw_g (lw_at lw_m1 38 rfl) rfl
theorem q789 : (Jvm.Cond.selects "java/util/TreeMap$Entry" ({ cls := "java/lang/Object", name := "getClass", desc := "()Ljava/lang/Class;" } : Jvm.MethodName) ({ cls := "java/lang/Object", name := "getClass", desc := "()Ljava/lang/Class;" } : Jvm.MethodName)) ∈ lw_all := lw_g (lw_at lw_m3 182 rfl) rfl
theorem q1149 : (Jvm.Cond.instantiable "java/util/TreeMap$Entry" (6 : Nat)) ∈ lw_all := lw_g (lw_at lw_m5 62 rfl) rfl
theorem q1151 : (Jvm.Cond.instanceMethod ({ cls := "java/util/TreeMap$Entry", name := "<init>", desc := "(Ljava/lang/Object;Ljava/lang/Object;Ljava/util/TreeMap$Entry;)V" } : Jvm.MethodName)) ∈ lw_all := lw_g (lw_at lw_m5 64 rfl) rfl
theorem q1152 : (Jvm.Cond.code ({ cls := "java/util/TreeMap$Entry", name := "<init>", desc := "(Ljava/lang/Object;Ljava/lang/Object;Ljava/util/TreeMap$Entry;)V" } : Jvm.MethodName) prog_62_method_1_code (4 : Nat) (Option.none : Option Jvm.ClassFile.FieldType)) ∈ lw_all := lw_g (lw_at lw_m5 65 rfl) rfl
theorem q1153 : (Jvm.Cond.methodLink "java/util/TreeMap$Entry" (3 : Nat) ({ cls := "java/lang/Object", name := "<init>", desc := "()V" } : Jvm.MethodName)) ∈ lw_all := lw_g (lw_at lw_m5 66 rfl) rfl
theorem q1154 : (Jvm.Cond.fieldLink "java/util/TreeMap$Entry" (15 : Nat) "java/util/TreeMap$Entry" "key" "Ljava/lang/Object;") ∈ lw_all := lw_g (lw_at lw_m5 67 rfl) rfl
theorem q1156 : (Jvm.Cond.fieldLink "java/util/TreeMap$Entry" (19 : Nat) "java/util/TreeMap$Entry" "value" "Ljava/lang/Object;") ∈ lw_all := lw_g (lw_at lw_m5 69 rfl) rfl
theorem q1160 : (Jvm.Cond.fieldLink "java/util/TreeMap$Entry" (22 : Nat) "java/util/TreeMap$Entry" "parent" "Ljava/util/TreeMap$Entry;") ∈ lw_all := lw_g (lw_at lw_m5 73 rfl) rfl
theorem q1162 : (Jvm.Cond.fieldLink "java/util/TreeMap$Entry" (9 : Nat) "java/util/TreeMap$Entry" "color" "Z") ∈ lw_all := lw_g (lw_at lw_m5 75 rfl) rfl
theorem q1164 : (Jvm.Cond.lays "java/util/TreeMap$Entry" "java/util/TreeMap$Entry" "key" "Ljava/lang/Object;") ∈ lw_all := lw_g (lw_at lw_m5 77 rfl) rfl
theorem q1165 : (Jvm.Cond.soleField "java/util/TreeMap$Entry" "key") ∈ lw_all := lw_g (lw_at lw_m5 78 rfl) rfl
theorem q1166 : (Jvm.Cond.lays "java/util/TreeMap$Entry" "java/util/TreeMap$Entry" "value" "Ljava/lang/Object;") ∈ lw_all := lw_g (lw_at lw_m5 79 rfl) rfl
theorem q1167 : (Jvm.Cond.soleField "java/util/TreeMap$Entry" "value") ∈ lw_all := lw_g (lw_at lw_m5 80 rfl) rfl
theorem q1168 : (Jvm.Cond.lays "java/util/TreeMap$Entry" "java/util/TreeMap$Entry" "left" "Ljava/util/TreeMap$Entry;") ∈ lw_all := lw_g (lw_at lw_m5 81 rfl) rfl
theorem q1169 : (Jvm.Cond.soleField "java/util/TreeMap$Entry" "left") ∈ lw_all := lw_g (lw_at lw_m5 82 rfl) rfl
theorem q1170 : (Jvm.Cond.lays "java/util/TreeMap$Entry" "java/util/TreeMap$Entry" "right" "Ljava/util/TreeMap$Entry;") ∈ lw_all := lw_g (lw_at lw_m5 83 rfl) rfl
theorem q1171 : (Jvm.Cond.soleField "java/util/TreeMap$Entry" "right") ∈ lw_all := lw_g (lw_at lw_m5 84 rfl) rfl
theorem q1172 : (Jvm.Cond.lays "java/util/TreeMap$Entry" "java/util/TreeMap$Entry" "parent" "Ljava/util/TreeMap$Entry;") ∈ lw_all := lw_g (lw_at lw_m5 85 rfl) rfl
theorem q1173 : (Jvm.Cond.soleField "java/util/TreeMap$Entry" "parent") ∈ lw_all := lw_g (lw_at lw_m5 86 rfl) rfl
theorem q1174 : (Jvm.Cond.lays "java/util/TreeMap$Entry" "java/util/TreeMap$Entry" "color" "Z") ∈ lw_all := lw_g (lw_at lw_m5 87 rfl) rfl
theorem q1175 : (Jvm.Cond.soleField "java/util/TreeMap$Entry" "color") ∈ lw_all := lw_g (lw_at lw_m5 88 rfl) rfl
theorem q1176 : (Jvm.Cond.superclass "java/util/TreeMap$Entry" "java/lang/Object") ∈ lw_all := lw_g (lw_at lw_m5 89 rfl) rfl
theorem q2405 : (Jvm.Cond.castable "java/util/TreeMap$Entry" "java/lang/Object") ∈ lw_tbl := lw_at lw_m10 118 rfl

/-! java/lang/RuntimeException -/
set_option maxRecDepth 100000
def RJ23 : String := "java/lang/RuntimeException"
abbrev cJ23_init : ByteArray := prog_28_method_1_code
def yJ23_init : MethodName := ⟨RJ23, "<init>", "()V"⟩
theorem dJ23_init_0 : decode cJ23_init 0 = .ok (.aload_n 0, 1) := by decide +kernel
theorem dJ23_init_1 : decode cJ23_init 1 = .ok (.invokespecial 1, 3) := by decide +kernel
theorem dJ23_init_4 : decode cJ23_init 4 = .ok (.return_, 1) := by decide +kernel
theorem q166 : (Jvm.Cond.initialized "java/lang/RuntimeException") ∈ lw_all := lw_g (lw_at lw_m1 39 rfl) rfl
theorem q1290 : (Jvm.Cond.declares ({ cls := "java/lang/RuntimeException", name := "<init>", desc := "()V" } : Jvm.MethodName)) ∈ lw_tbl := lw_at lw_m5 203 rfl
theorem q1291 : (Jvm.Cond.declares ({ cls := "java/lang/RuntimeException", name := "<init>", desc := "(Ljava/lang/String;)V" } : Jvm.MethodName)) ∈ lw_tbl := lw_at lw_m5 204 rfl
theorem q1302 : (Jvm.Cond.instanceMethod ({ cls := "java/lang/RuntimeException", name := "<init>", desc := "()V" } : Jvm.MethodName)) ∈ lw_all := lw_g (lw_at lw_m5 215 rfl) rfl
theorem q1303 : (Jvm.Cond.code ({ cls := "java/lang/RuntimeException", name := "<init>", desc := "()V" } : Jvm.MethodName) prog_28_method_1_code (1 : Nat) (Option.none : Option Jvm.ClassFile.FieldType)) ∈ lw_all := lw_g (lw_at lw_m5 216 rfl) rfl
theorem q1304 : (Jvm.Cond.methodLink "java/lang/RuntimeException" (1 : Nat) ({ cls := "java/lang/Exception", name := "<init>", desc := "()V" } : Jvm.MethodName)) ∈ lw_all := lw_g (lw_at lw_m5 217 rfl) rfl

/-! java/util/NoSuchElementException -/
set_option maxRecDepth 100000
abbrev cJ24_init : ByteArray := prog_51_method_1_code
def yJ24_init : MethodName := ⟨RJ24, "<init>", "()V"⟩
theorem dJ24_init_0 : decode cJ24_init 0 = .ok (.aload_n 0, 1) := by decide +kernel
theorem dJ24_init_1 : decode cJ24_init 1 = .ok (.invokespecial 1, 3) := by decide +kernel
theorem dJ24_init_4 : decode cJ24_init 4 = .ok (.return_, 1) := by decide +kernel
theorem q167 : (Jvm.Cond.initialized "java/util/NoSuchElementException") ∈ lw_all := lw_g (lw_at lw_m1 40 rfl) rfl
theorem q597 : (Jvm.Cond.selects "java/util/NoSuchElementException" ({ cls := "java/lang/Throwable", name := "fillInStackTrace", desc := "()Ljava/lang/Throwable;" } : Jvm.MethodName) ({ cls := "java/lang/Throwable", name := "fillInStackTrace", desc := "()Ljava/lang/Throwable;" } : Jvm.MethodName)) ∈ lw_all := lw_g (lw_at lw_m2 230 rfl) rfl
theorem q787 : (Jvm.Cond.selects "java/util/NoSuchElementException" ({ cls := "java/lang/Object", name := "getClass", desc := "()Ljava/lang/Class;" } : Jvm.MethodName) ({ cls := "java/lang/Object", name := "getClass", desc := "()Ljava/lang/Class;" } : Jvm.MethodName)) ∈ lw_all := lw_g (lw_at lw_m3 180 rfl) rfl
theorem q1288 : (Jvm.Cond.instantiable "java/util/NoSuchElementException" (6 : Nat)) ∈ lw_all := lw_g (lw_at lw_m5 201 rfl) rfl
theorem q1289 : (Jvm.Cond.castable "java/util/NoSuchElementException" "java/util/NoSuchElementException") ∈ lw_tbl := lw_at lw_m5 202 rfl
theorem q1292 : (Jvm.Cond.selects "java/util/NoSuchElementException" ({ cls := "java/lang/Throwable", name := "fillInStackTrace", desc := "(I)Ljava/lang/Throwable;" } : Jvm.MethodName) ({ cls := "java/lang/Throwable", name := "fillInStackTrace", desc := "(I)Ljava/lang/Throwable;" } : Jvm.MethodName)) ∈ lw_all := lw_g (lw_at lw_m5 205 rfl) rfl
theorem q1293 : (Jvm.Cond.lays "java/util/NoSuchElementException" "java/lang/Throwable" "cause" "Ljava/lang/Throwable;") ∈ lw_all := lw_g (lw_at lw_m5 206 rfl) rfl
theorem q1294 : (Jvm.Cond.lays "java/util/NoSuchElementException" "java/lang/Throwable" "stackTrace" "[Ljava/lang/StackTraceElement;") ∈ lw_all := lw_g (lw_at lw_m5 207 rfl) rfl
theorem q1295 : (Jvm.Cond.lays "java/util/NoSuchElementException" "java/lang/Throwable" "suppressedExceptions" "Ljava/util/List;") ∈ lw_all := lw_g (lw_at lw_m5 208 rfl) rfl
theorem q1296 : (Jvm.Cond.lays "java/util/NoSuchElementException" "java/lang/Throwable" "detailMessage" "Ljava/lang/String;") ∈ lw_all := lw_g (lw_at lw_m5 209 rfl) rfl
theorem q1297 : (Jvm.Cond.lays "java/util/NoSuchElementException" "java/lang/Throwable" "backtrace" "Ljava/lang/Object;") ∈ lw_all := lw_g (lw_at lw_m5 210 rfl) rfl
theorem q1299 : (Jvm.Cond.instanceMethod ({ cls := "java/util/NoSuchElementException", name := "<init>", desc := "()V" } : Jvm.MethodName)) ∈ lw_all := lw_g (lw_at lw_m5 212 rfl) rfl
theorem q1300 : (Jvm.Cond.code ({ cls := "java/util/NoSuchElementException", name := "<init>", desc := "()V" } : Jvm.MethodName) prog_51_method_1_code (1 : Nat) (Option.none : Option Jvm.ClassFile.FieldType)) ∈ lw_all := lw_g (lw_at lw_m5 213 rfl) rfl
theorem q1301 : (Jvm.Cond.methodLink "java/util/NoSuchElementException" (1 : Nat) ({ cls := "java/lang/RuntimeException", name := "<init>", desc := "()V" } : Jvm.MethodName)) ∈ lw_all := lw_g (lw_at lw_m5 214 rfl) rfl
theorem q1308 : (Jvm.Cond.lays "java/util/NoSuchElementException" "java/lang/Throwable" "depth" "I") ∈ lw_all := lw_g (lw_at lw_m5 221 rfl) rfl
theorem q1309 : (Jvm.Cond.superclass "java/util/NoSuchElementException" "java/lang/RuntimeException") ∈ lw_all := lw_g (lw_at lw_m5 222 rfl) rfl
theorem q2385 : (Jvm.Cond.selects "java/util/NoSuchElementException" ({ cls := "java/lang/Throwable", name := "getCause", desc := "()Ljava/lang/Throwable;" } : Jvm.MethodName) ({ cls := "java/lang/Throwable", name := "getCause", desc := "()Ljava/lang/Throwable;" } : Jvm.MethodName)) ∈ lw_all := lw_g (lw_at lw_m10 98 rfl) rfl
theorem q2406 : (Jvm.Cond.castable "java/util/NoSuchElementException" "java/lang/Object") ∈ lw_tbl := lw_at lw_m10 119 rfl

/-! java/lang/Record -/
set_option maxRecDepth 100000
def RJ25 : String := "java/lang/Record"
abbrev cJ25_init : ByteArray := prog_27_method_1_code
def yJ25_init : MethodName := ⟨RJ25, "<init>", "()V"⟩
theorem dJ25_init_0 : decode cJ25_init 0 = .ok (.aload_n 0, 1) := by decide +kernel
theorem dJ25_init_1 : decode cJ25_init 1 = .ok (.invokespecial 1, 3) := by decide +kernel
theorem dJ25_init_4 : decode cJ25_init 4 = .ok (.return_, 1) := by decide +kernel
theorem q169 : (Jvm.Cond.initialized "java/lang/Record") ∈ lw_all := lw_g (lw_at lw_m1 42 rfl) rfl
theorem q1643 : (Jvm.Cond.instanceMethod ({ cls := "java/lang/Record", name := "<init>", desc := "()V" } : Jvm.MethodName)) ∈ lw_all := lw_g (lw_at lw_m7 76 rfl) rfl
theorem q1644 : (Jvm.Cond.code ({ cls := "java/lang/Record", name := "<init>", desc := "()V" } : Jvm.MethodName) prog_27_method_1_code (1 : Nat) (Option.none : Option Jvm.ClassFile.FieldType)) ∈ lw_all := lw_g (lw_at lw_m7 77 rfl) rfl
theorem q1645 : (Jvm.Cond.methodLink "java/lang/Record" (1 : Nat) ({ cls := "java/lang/Object", name := "<init>", desc := "()V" } : Jvm.MethodName)) ∈ lw_all := lw_g (lw_at lw_m7 78 rfl) rfl

/-! java/lang/Object -/
set_option maxRecDepth 100000
def RJ26 : String := "java/lang/Object"
abbrev cJ26_init : ByteArray := object_method_1_code
def yJ26_init : MethodName := ⟨RJ26, "<init>", "()V"⟩
theorem dJ26_init_0 : decode cJ26_init 0 = .ok (.return_, 1) := by decide +kernel
theorem q177 : (Jvm.Cond.instanceMethod ({ cls := "java/lang/Object", name := "<init>", desc := "()V" } : Jvm.MethodName)) ∈ lw_all := lw_g (lw_at lw_m1 50 rfl) rfl
theorem q178 : (Jvm.Cond.code ({ cls := "java/lang/Object", name := "<init>", desc := "()V" } : Jvm.MethodName) object_method_1_code (1 : Nat) (Option.none : Option Jvm.ClassFile.FieldType)) ∈ lw_all := lw_g (lw_at lw_m1 51 rfl) rfl
theorem q769 : (Jvm.Cond.instanceMethod ({ cls := "java/lang/Object", name := "getClass", desc := "()Ljava/lang/Class;" } : Jvm.MethodName)) ∈ lw_all := lw_g (lw_at lw_m3 162 rfl) rfl
theorem q770 : (Jvm.Cond.sameMethod "java/lang/Object" "java/lang/Object" "getClass" "()Ljava/lang/Class;") ∈ lw_all := lw_g (lw_at lw_m3 163 rfl) rfl
theorem q792 : (Jvm.Cond.native ({ cls := "java/lang/Object", name := "getClass", desc := "()Ljava/lang/Class;" } : Jvm.MethodName)) ∈ lw_all := lw_g (lw_at lw_m3 185 rfl) rfl
theorem q2413 : (Jvm.Cond.declares ({ cls := "java/lang/Object", name := "getClass", desc := "()Ljava/lang/Class;" } : Jvm.MethodName)) ∈ lw_tbl := lw_at lw_m10 126 rfl

/-! java/util/TreeSet -/
set_option maxRecDepth 100000
abbrev cJ2_init : ByteArray := prog_63_method_3_code
def yJ2_init : MethodName := ⟨RJ2, "<init>", "(Ljava/util/Comparator;)V"⟩
def dkwJ2_init_0 : List UInt8 := [42, 187, 0, 13, 89, 43, 183, 0, 19, 183, 0, 16, 177]
abbrev dktJ2_init_0 : List UInt8 := dkwJ2_init_0 ++ []
theorem dksJ2_init_0 : cJ2_init.data.toList.drop 0 = dktJ2_init_0 := by decide +kernel
theorem dJ2_init_0 : decode cJ2_init 0 = .ok (.aload_n 0, 1) := dk_42 (dk_at dksJ2_init_0 0 rfl rfl)
theorem dJ2_init_1 : decode cJ2_init 1 = .ok (.new 13, 3) := dk_187 0 13 (dk_at dksJ2_init_0 1 rfl rfl)
theorem dJ2_init_4 : decode cJ2_init 4 = .ok (.dup, 1) := dk_89 (dk_at dksJ2_init_0 4 rfl rfl)
theorem dJ2_init_5 : decode cJ2_init 5 = .ok (.aload_n 1, 1) := dk_43 (dk_at dksJ2_init_0 5 rfl rfl)
theorem dJ2_init_6 : decode cJ2_init 6 = .ok (.invokespecial 19, 3) := dk_183 0 19 (dk_at dksJ2_init_0 6 rfl rfl)
theorem dJ2_init_9 : decode cJ2_init 9 = .ok (.invokespecial 16, 3) := dk_183 0 16 (dk_at dksJ2_init_0 9 rfl rfl)
theorem dJ2_init_12 : decode cJ2_init 12 = .ok (.return_, 1) := dk_177 (dk_at dksJ2_init_0 12 rfl rfl)
abbrev cJ2_init_2 : ByteArray := prog_63_method_1_code
def yJ2_init_2 : MethodName := ⟨RJ2, "<init>", "(Ljava/util/NavigableMap;)V"⟩
def dkwJ2_init_2_0 : List UInt8 := [42, 183, 0, 1, 42, 43, 181, 0, 7, 177]
abbrev dktJ2_init_2_0 : List UInt8 := dkwJ2_init_2_0 ++ []
theorem dksJ2_init_2_0 : cJ2_init_2.data.toList.drop 0 = dktJ2_init_2_0 := by decide +kernel
theorem dJ2_init_2_0 : decode cJ2_init_2 0 = .ok (.aload_n 0, 1) := dk_42 (dk_at dksJ2_init_2_0 0 rfl rfl)
theorem dJ2_init_2_1 : decode cJ2_init_2 1 = .ok (.invokespecial 1, 3) := dk_183 0 1 (dk_at dksJ2_init_2_0 1 rfl rfl)
theorem dJ2_init_2_4 : decode cJ2_init_2 4 = .ok (.aload_n 0, 1) := dk_42 (dk_at dksJ2_init_2_0 4 rfl rfl)
theorem dJ2_init_2_5 : decode cJ2_init_2 5 = .ok (.aload_n 1, 1) := dk_43 (dk_at dksJ2_init_2_0 5 rfl rfl)
theorem dJ2_init_2_6 : decode cJ2_init_2 6 = .ok (.putfield 7, 3) := dk_181 0 7 (dk_at dksJ2_init_2_0 6 rfl rfl)
theorem dJ2_init_2_9 : decode cJ2_init_2 9 = .ok (.return_, 1) := dk_177 (dk_at dksJ2_init_2_0 9 rfl rfl)
abbrev cJ2_clear : ByteArray := prog_63_method_14_code
def yJ2_clear : MethodName := ⟨RJ2, "clear", "()V"⟩
def dkwJ2_clear_0 : List UInt8 := [42, 180, 0, 7, 185, 0, 77, 1, 0, 177]
abbrev dktJ2_clear_0 : List UInt8 := dkwJ2_clear_0 ++ []
theorem dksJ2_clear_0 : cJ2_clear.data.toList.drop 0 = dktJ2_clear_0 := by decide +kernel
theorem dJ2_clear_0 : decode cJ2_clear 0 = .ok (.aload_n 0, 1) := dk_42 (dk_at dksJ2_clear_0 0 rfl rfl)
theorem dJ2_clear_1 : decode cJ2_clear 1 = .ok (.getfield 7, 3) := dk_180 0 7 (dk_at dksJ2_clear_0 1 rfl rfl)
theorem dJ2_clear_4 : decode cJ2_clear 4 = .ok (.invokeinterface 77 1, 5) := by decide +kernel
theorem dJ2_clear_9 : decode cJ2_clear 9 = .ok (.return_, 1) := dk_177 (dk_at dksJ2_clear_0 9 rfl rfl)
abbrev cJ2_add : ByteArray := prog_63_method_12_code
def yJ2_add : MethodName := ⟨RJ2, "add", "(Ljava/lang/Object;)Z"⟩
def dkwJ2_add_0 : List UInt8 := [42, 180, 0, 7, 43, 178, 0, 65, 185, 0, 69, 3, 0, 199, 0, 7, 4, 167, 0, 4, 3, 172]
abbrev dktJ2_add_0 : List UInt8 := dkwJ2_add_0 ++ []
theorem dksJ2_add_0 : cJ2_add.data.toList.drop 0 = dktJ2_add_0 := by decide +kernel
theorem dJ2_add_0 : decode cJ2_add 0 = .ok (.aload_n 0, 1) := dk_42 (dk_at dksJ2_add_0 0 rfl rfl)
theorem dJ2_add_1 : decode cJ2_add 1 = .ok (.getfield 7, 3) := dk_180 0 7 (dk_at dksJ2_add_0 1 rfl rfl)
theorem dJ2_add_4 : decode cJ2_add 4 = .ok (.aload_n 1, 1) := dk_43 (dk_at dksJ2_add_0 4 rfl rfl)
theorem dJ2_add_5 : decode cJ2_add 5 = .ok (.getstatic 65, 3) := dk_178 0 65 (dk_at dksJ2_add_0 5 rfl rfl)
theorem dJ2_add_8 : decode cJ2_add 8 = .ok (.invokeinterface 69 3, 5) := by decide +kernel
theorem dJ2_add_13 : decode cJ2_add 13 = .ok (.ifnonnull 7, 3) := dk_199 0 7 (dk_at dksJ2_add_0 13 rfl rfl)
theorem dJ2_add_16 : decode cJ2_add 16 = .ok (.iconst 1, 1) := dk_4 (dk_at dksJ2_add_0 16 rfl rfl)
theorem dJ2_add_17 : decode cJ2_add 17 = .ok (.goto 4, 3) := dk_167 0 4 (dk_at dksJ2_add_0 17 rfl rfl)
theorem dJ2_add_20 : decode cJ2_add 20 = .ok (.iconst 0, 1) := dk_3 (dk_at dksJ2_add_0 20 rfl rfl)
theorem dJ2_add_21 : decode cJ2_add 21 = .ok (.ireturn, 1) := dk_172 (dk_at dksJ2_add_0 21 rfl rfl)
abbrev cJ2_size : ByteArray := prog_63_method_9_code
def yJ2_size : MethodName := ⟨RJ2, "size", "()I"⟩
def dkwJ2_size_0 : List UInt8 := [42, 180, 0, 7, 185, 0, 53, 1, 0, 172]
abbrev dktJ2_size_0 : List UInt8 := dkwJ2_size_0 ++ []
theorem dksJ2_size_0 : cJ2_size.data.toList.drop 0 = dktJ2_size_0 := by decide +kernel
theorem dJ2_size_0 : decode cJ2_size 0 = .ok (.aload_n 0, 1) := dk_42 (dk_at dksJ2_size_0 0 rfl rfl)
theorem dJ2_size_1 : decode cJ2_size 1 = .ok (.getfield 7, 3) := dk_180 0 7 (dk_at dksJ2_size_0 1 rfl rfl)
theorem dJ2_size_4 : decode cJ2_size 4 = .ok (.invokeinterface 53 1, 5) := by decide +kernel
theorem dJ2_size_9 : decode cJ2_size 9 = .ok (.ireturn, 1) := dk_172 (dk_at dksJ2_size_0 9 rfl rfl)
abbrev cJ2_first : ByteArray := prog_63_method_23_code
def yJ2_first : MethodName := ⟨RJ2, "first", "()Ljava/lang/Object;"⟩
def dkwJ2_first_0 : List UInt8 := [42, 180, 0, 7, 185, 0, 118, 1, 0, 176]
abbrev dktJ2_first_0 : List UInt8 := dkwJ2_first_0 ++ []
theorem dksJ2_first_0 : cJ2_first.data.toList.drop 0 = dktJ2_first_0 := by decide +kernel
theorem dJ2_first_0 : decode cJ2_first 0 = .ok (.aload_n 0, 1) := dk_42 (dk_at dksJ2_first_0 0 rfl rfl)
theorem dJ2_first_1 : decode cJ2_first 1 = .ok (.getfield 7, 3) := dk_180 0 7 (dk_at dksJ2_first_0 1 rfl rfl)
theorem dJ2_first_4 : decode cJ2_first 4 = .ok (.invokeinterface 118 1, 5) := by decide +kernel
theorem dJ2_first_9 : decode cJ2_first 9 = .ok (.areturn, 1) := dk_176 (dk_at dksJ2_first_0 9 rfl rfl)
abbrev cJ2_higher : ByteArray := prog_63_method_28_code
def yJ2_higher : MethodName := ⟨RJ2, "higher", "(Ljava/lang/Object;)Ljava/lang/Object;"⟩
def dkwJ2_higher_0 : List UInt8 := [42, 180, 0, 7, 43, 185, 0, 134, 2, 0, 176]
abbrev dktJ2_higher_0 : List UInt8 := dkwJ2_higher_0 ++ []
theorem dksJ2_higher_0 : cJ2_higher.data.toList.drop 0 = dktJ2_higher_0 := by decide +kernel
theorem dJ2_higher_0 : decode cJ2_higher 0 = .ok (.aload_n 0, 1) := dk_42 (dk_at dksJ2_higher_0 0 rfl rfl)
theorem dJ2_higher_1 : decode cJ2_higher 1 = .ok (.getfield 7, 3) := dk_180 0 7 (dk_at dksJ2_higher_0 1 rfl rfl)
theorem dJ2_higher_4 : decode cJ2_higher 4 = .ok (.aload_n 1, 1) := dk_43 (dk_at dksJ2_higher_0 4 rfl rfl)
theorem dJ2_higher_5 : decode cJ2_higher 5 = .ok (.invokeinterface 134 2, 5) := by decide +kernel
theorem dJ2_higher_10 : decode cJ2_higher 10 = .ok (.areturn, 1) := dk_176 (dk_at dksJ2_higher_0 10 rfl rfl)
abbrev cJ2_remove : ByteArray := prog_63_method_13_code
def yJ2_remove : MethodName := ⟨RJ2, "remove", "(Ljava/lang/Object;)Z"⟩
def dkwJ2_remove_0 : List UInt8 := [42, 180, 0, 7, 43, 185, 0, 73, 2, 0, 178, 0, 65, 166, 0, 7, 4, 167, 0, 4, 3, 172]
abbrev dktJ2_remove_0 : List UInt8 := dkwJ2_remove_0 ++ []
theorem dksJ2_remove_0 : cJ2_remove.data.toList.drop 0 = dktJ2_remove_0 := by decide +kernel
theorem dJ2_remove_0 : decode cJ2_remove 0 = .ok (.aload_n 0, 1) := dk_42 (dk_at dksJ2_remove_0 0 rfl rfl)
theorem dJ2_remove_1 : decode cJ2_remove 1 = .ok (.getfield 7, 3) := dk_180 0 7 (dk_at dksJ2_remove_0 1 rfl rfl)
theorem dJ2_remove_4 : decode cJ2_remove 4 = .ok (.aload_n 1, 1) := dk_43 (dk_at dksJ2_remove_0 4 rfl rfl)
theorem dJ2_remove_5 : decode cJ2_remove 5 = .ok (.invokeinterface 73 2, 5) := by decide +kernel
theorem dJ2_remove_10 : decode cJ2_remove 10 = .ok (.getstatic 65, 3) := dk_178 0 65 (dk_at dksJ2_remove_0 10 rfl rfl)
theorem dJ2_remove_13 : decode cJ2_remove 13 = .ok (.if_acmp .ne 7, 3) := dk_166 0 7 (dk_at dksJ2_remove_0 13 rfl rfl)
theorem dJ2_remove_16 : decode cJ2_remove 16 = .ok (.iconst 1, 1) := dk_4 (dk_at dksJ2_remove_0 16 rfl rfl)
theorem dJ2_remove_17 : decode cJ2_remove 17 = .ok (.goto 4, 3) := dk_167 0 4 (dk_at dksJ2_remove_0 17 rfl rfl)
theorem dJ2_remove_20 : decode cJ2_remove 20 = .ok (.iconst 0, 1) := dk_3 (dk_at dksJ2_remove_0 20 rfl rfl)
theorem dJ2_remove_21 : decode cJ2_remove 21 = .ok (.ireturn, 1) := dk_172 (dk_at dksJ2_remove_0 21 rfl rfl)
theorem q131 : (Jvm.Cond.initialized "java/util/TreeSet") ∈ lw_all := lw_g (lw_at lw_m1 4 rfl) rfl
theorem q180 : (Jvm.Cond.instantiable "java/util/TreeSet" (1 : Nat)) ∈ lw_all := lw_g (lw_at lw_m1 53 rfl) rfl
theorem q190 : (Jvm.Cond.instanceMethod ({ cls := "java/util/TreeSet", name := "<init>", desc := "(Ljava/util/Comparator;)V" } : Jvm.MethodName)) ∈ lw_all := lw_g (lw_at lw_m1 63 rfl) rfl
theorem q191 : (Jvm.Cond.code ({ cls := "java/util/TreeSet", name := "<init>", desc := "(Ljava/util/Comparator;)V" } : Jvm.MethodName) prog_63_method_3_code (2 : Nat) (Option.none : Option Jvm.ClassFile.FieldType)) ∈ lw_all := lw_g (lw_at lw_m1 64 rfl) rfl
theorem q192 : (Jvm.Cond.classLink "java/util/TreeSet" (13 : Nat) "java/util/TreeMap") ∈ lw_all := lw_g (lw_at lw_m1 65 rfl) rfl
theorem q194 : (Jvm.Cond.methodLink "java/util/TreeSet" (19 : Nat) ({ cls := "java/util/TreeMap", name := "<init>", desc := "(Ljava/util/Comparator;)V" } : Jvm.MethodName)) ∈ lw_all := lw_g (lw_at lw_m1 67 rfl) rfl
theorem q224 : (Jvm.Cond.methodLink "java/util/TreeSet" (16 : Nat) ({ cls := "java/util/TreeSet", name := "<init>", desc := "(Ljava/util/NavigableMap;)V" } : Jvm.MethodName)) ∈ lw_all := lw_g (lw_at lw_m1 97 rfl) rfl
theorem q225 : (Jvm.Cond.instanceMethod ({ cls := "java/util/TreeSet", name := "<init>", desc := "(Ljava/util/NavigableMap;)V" } : Jvm.MethodName)) ∈ lw_all := lw_g (lw_at lw_m1 98 rfl) rfl
theorem q226 : (Jvm.Cond.code ({ cls := "java/util/TreeSet", name := "<init>", desc := "(Ljava/util/NavigableMap;)V" } : Jvm.MethodName) prog_63_method_1_code (2 : Nat) (Option.none : Option Jvm.ClassFile.FieldType)) ∈ lw_all := lw_g (lw_at lw_m1 99 rfl) rfl
theorem q227 : (Jvm.Cond.methodLink "java/util/TreeSet" (1 : Nat) ({ cls := "java/util/AbstractSet", name := "<init>", desc := "()V" } : Jvm.MethodName)) ∈ lw_all := lw_g (lw_at lw_m1 100 rfl) rfl
theorem q234 : (Jvm.Cond.fieldLink "java/util/TreeSet" (7 : Nat) "java/util/TreeSet" "m" "Ljava/util/NavigableMap;") ∈ lw_all := lw_g (lw_at lw_m1 107 rfl) rfl
theorem q235 : (Jvm.Cond.lays "java/util/TreeSet" "java/util/TreeSet" "m" "Ljava/util/NavigableMap;") ∈ lw_all := lw_g (lw_at lw_m1 108 rfl) rfl
theorem q236 : (Jvm.Cond.soleField "java/util/TreeSet" "m") ∈ lw_all := lw_g (lw_at lw_m1 109 rfl) rfl
theorem q237 : (Jvm.Cond.superclass "java/util/TreeSet" "java/util/AbstractSet") ∈ lw_all := lw_g (lw_at lw_m1 110 rfl) rfl
theorem q790 : (Jvm.Cond.selects "java/util/TreeSet" ({ cls := "java/lang/Object", name := "getClass", desc := "()Ljava/lang/Class;" } : Jvm.MethodName) ({ cls := "java/lang/Object", name := "getClass", desc := "()Ljava/lang/Class;" } : Jvm.MethodName)) ∈ lw_all := lw_g (lw_at lw_m3 183 rfl) rfl
theorem q925 : (Jvm.Cond.instanceMethod ({ cls := "java/util/TreeSet", name := "clear", desc := "()V" } : Jvm.MethodName)) ∈ lw_all := lw_g (lw_at lw_m4 78 rfl) rfl
theorem q926 : (Jvm.Cond.selects "java/util/TreeSet" ({ cls := "java/util/TreeSet", name := "clear", desc := "()V" } : Jvm.MethodName) ({ cls := "java/util/TreeSet", name := "clear", desc := "()V" } : Jvm.MethodName)) ∈ lw_all := lw_g (lw_at lw_m4 79 rfl) rfl
theorem q927 : (Jvm.Cond.code ({ cls := "java/util/TreeSet", name := "clear", desc := "()V" } : Jvm.MethodName) prog_63_method_14_code (1 : Nat) (Option.none : Option Jvm.ClassFile.FieldType)) ∈ lw_all := lw_g (lw_at lw_m4 80 rfl) rfl
theorem q928 : (Jvm.Cond.interfaceEntry "java/util/TreeSet" (77 : Nat)) ∈ lw_tbl := lw_at lw_m4 81 rfl
theorem q940 : (Jvm.Cond.instanceMethod ({ cls := "java/util/TreeSet", name := "add", desc := "(Ljava/lang/Object;)Z" } : Jvm.MethodName)) ∈ lw_all := lw_g (lw_at lw_m4 93 rfl) rfl
theorem q941 : (Jvm.Cond.selects "java/util/TreeSet" ({ cls := "java/util/TreeSet", name := "add", desc := "(Ljava/lang/Object;)Z" } : Jvm.MethodName) ({ cls := "java/util/TreeSet", name := "add", desc := "(Ljava/lang/Object;)Z" } : Jvm.MethodName)) ∈ lw_all := lw_g (lw_at lw_m4 94 rfl) rfl
theorem q942 : (Jvm.Cond.code ({ cls := "java/util/TreeSet", name := "add", desc := "(Ljava/lang/Object;)Z" } : Jvm.MethodName) prog_63_method_12_code (2 : Nat) (Option.some Jvm.ClassFile.FieldType.boolean)) ∈ lw_all := lw_g (lw_at lw_m4 95 rfl) rfl
theorem q943 : (Jvm.Cond.fieldLink "java/util/TreeSet" (65 : Nat) "java/util/TreeSet" "PRESENT" "Ljava/lang/Object;") ∈ lw_all := lw_g (lw_at lw_m4 96 rfl) rfl
theorem q944 : (Jvm.Cond.laysStatic "java/util/TreeSet" "PRESENT" "Ljava/lang/Object;") ∈ lw_tbl := lw_at lw_m4 97 rfl
theorem q945 : (Jvm.Cond.interfaceEntry "java/util/TreeSet" (69 : Nat)) ∈ lw_tbl := lw_at lw_m4 98 rfl
theorem q1228 : (Jvm.Cond.instanceMethod ({ cls := "java/util/TreeSet", name := "size", desc := "()I" } : Jvm.MethodName)) ∈ lw_all := lw_g (lw_at lw_m5 141 rfl) rfl
theorem q1229 : (Jvm.Cond.selects "java/util/TreeSet" ({ cls := "java/util/TreeSet", name := "size", desc := "()I" } : Jvm.MethodName) ({ cls := "java/util/TreeSet", name := "size", desc := "()I" } : Jvm.MethodName)) ∈ lw_all := lw_g (lw_at lw_m5 142 rfl) rfl
theorem q1230 : (Jvm.Cond.code ({ cls := "java/util/TreeSet", name := "size", desc := "()I" } : Jvm.MethodName) prog_63_method_9_code (1 : Nat) (Option.some Jvm.ClassFile.FieldType.int)) ∈ lw_all := lw_g (lw_at lw_m5 143 rfl) rfl
theorem q1231 : (Jvm.Cond.interfaceEntry "java/util/TreeSet" (53 : Nat)) ∈ lw_tbl := lw_at lw_m5 144 rfl
theorem q1270 : (Jvm.Cond.instanceMethod ({ cls := "java/util/TreeSet", name := "first", desc := "()Ljava/lang/Object;" } : Jvm.MethodName)) ∈ lw_all := lw_g (lw_at lw_m5 183 rfl) rfl
theorem q1271 : (Jvm.Cond.selects "java/util/TreeSet" ({ cls := "java/util/TreeSet", name := "first", desc := "()Ljava/lang/Object;" } : Jvm.MethodName) ({ cls := "java/util/TreeSet", name := "first", desc := "()Ljava/lang/Object;" } : Jvm.MethodName)) ∈ lw_all := lw_g (lw_at lw_m5 184 rfl) rfl
theorem q1272 : (Jvm.Cond.code ({ cls := "java/util/TreeSet", name := "first", desc := "()Ljava/lang/Object;" } : Jvm.MethodName) prog_63_method_23_code (1 : Nat) (Option.some (Jvm.ClassFile.FieldType.object "java/lang/Object"))) ∈ lw_all := lw_g (lw_at lw_m5 185 rfl) rfl
theorem q1273 : (Jvm.Cond.interfaceEntry "java/util/TreeSet" (118 : Nat)) ∈ lw_tbl := lw_at lw_m5 186 rfl
theorem q1311 : (Jvm.Cond.instanceMethod ({ cls := "java/util/TreeSet", name := "higher", desc := "(Ljava/lang/Object;)Ljava/lang/Object;" } : Jvm.MethodName)) ∈ lw_all := lw_g (lw_at lw_m5 224 rfl) rfl
theorem q1312 : (Jvm.Cond.selects "java/util/TreeSet" ({ cls := "java/util/TreeSet", name := "higher", desc := "(Ljava/lang/Object;)Ljava/lang/Object;" } : Jvm.MethodName) ({ cls := "java/util/TreeSet", name := "higher", desc := "(Ljava/lang/Object;)Ljava/lang/Object;" } : Jvm.MethodName)) ∈ lw_all := lw_g (lw_at lw_m5 225 rfl) rfl
theorem q1313 : (Jvm.Cond.code ({ cls := "java/util/TreeSet", name := "higher", desc := "(Ljava/lang/Object;)Ljava/lang/Object;" } : Jvm.MethodName) prog_63_method_28_code (2 : Nat) (Option.some (Jvm.ClassFile.FieldType.object "java/lang/Object"))) ∈ lw_all := lw_g (lw_at lw_m5 226 rfl) rfl
theorem q1314 : (Jvm.Cond.interfaceEntry "java/util/TreeSet" (134 : Nat)) ∈ lw_tbl := lw_at lw_m5 227 rfl
theorem q1315 : (Jvm.Cond.methodLink "java/util/TreeSet" (134 : Nat) ({ cls := "java/util/NavigableMap", name := "higherKey", desc := "(Ljava/lang/Object;)Ljava/lang/Object;" } : Jvm.MethodName)) ∈ lw_all := lw_g (lw_at lw_m5 228 rfl) rfl
theorem q1676 : (Jvm.Cond.instanceMethod ({ cls := "java/util/TreeSet", name := "remove", desc := "(Ljava/lang/Object;)Z" } : Jvm.MethodName)) ∈ lw_all := lw_g (lw_at lw_m7 109 rfl) rfl
theorem q1677 : (Jvm.Cond.selects "java/util/TreeSet" ({ cls := "java/util/TreeSet", name := "remove", desc := "(Ljava/lang/Object;)Z" } : Jvm.MethodName) ({ cls := "java/util/TreeSet", name := "remove", desc := "(Ljava/lang/Object;)Z" } : Jvm.MethodName)) ∈ lw_all := lw_g (lw_at lw_m7 110 rfl) rfl
theorem q1678 : (Jvm.Cond.code ({ cls := "java/util/TreeSet", name := "remove", desc := "(Ljava/lang/Object;)Z" } : Jvm.MethodName) prog_63_method_13_code (2 : Nat) (Option.some Jvm.ClassFile.FieldType.boolean)) ∈ lw_all := lw_g (lw_at lw_m7 111 rfl) rfl
theorem q1679 : (Jvm.Cond.interfaceEntry "java/util/TreeSet" (73 : Nat)) ∈ lw_tbl := lw_at lw_m7 112 rfl
theorem q2390 : (Jvm.Cond.castable "java/util/TreeSet" "java/lang/Object") ∈ lw_tbl := lw_at lw_m10 103 rfl

/-! java/util/ArrayDeque -/
set_option maxRecDepth 100000
abbrev cJ5_init : ByteArray := prog_40_method_4_code
def yJ5_init : MethodName := ⟨RJ5, "<init>", "(I)V"⟩
def dkwJ5_init_1 : List UInt8 := [167, 0, 6, 27, 4, 96, 189, 0, 47, 181, 0, 3, 177]
abbrev dktJ5_init_1 : List UInt8 := dkwJ5_init_1 ++ []
def dkwJ5_init_0 : List UInt8 := [42, 183, 0, 42, 42, 27, 4, 162, 0, 7, 4, 167, 0, 17, 27, 18, 41, 160, 0, 8, 18, 41]
abbrev dktJ5_init_0 : List UInt8 := dkwJ5_init_0 ++ dktJ5_init_1
theorem dksJ5_init_0 : cJ5_init.data.toList.drop 0 = dktJ5_init_0 := by decide +kernel
theorem dksJ5_init_1 : cJ5_init.data.toList.drop 22 = dktJ5_init_1 := dk_seg dksJ5_init_0 22 rfl rfl
theorem dJ5_init_0 : decode cJ5_init 0 = .ok (.aload_n 0, 1) := dk_42 (dk_at dksJ5_init_0 0 rfl rfl)
theorem dJ5_init_1 : decode cJ5_init 1 = .ok (.invokespecial 42, 3) := dk_183 0 42 (dk_at dksJ5_init_0 1 rfl rfl)
theorem dJ5_init_4 : decode cJ5_init 4 = .ok (.aload_n 0, 1) := dk_42 (dk_at dksJ5_init_0 4 rfl rfl)
theorem dJ5_init_5 : decode cJ5_init 5 = .ok (.iload_n 1, 1) := dk_27 (dk_at dksJ5_init_0 5 rfl rfl)
theorem dJ5_init_6 : decode cJ5_init 6 = .ok (.iconst 1, 1) := dk_4 (dk_at dksJ5_init_0 6 rfl rfl)
theorem dJ5_init_7 : decode cJ5_init 7 = .ok (.if_icmp .ge 7, 3) := dk_162 0 7 (dk_at dksJ5_init_0 7 rfl rfl)
theorem dJ5_init_10 : decode cJ5_init 10 = .ok (.iconst 1, 1) := dk_4 (dk_at dksJ5_init_0 10 rfl rfl)
theorem dJ5_init_11 : decode cJ5_init 11 = .ok (.goto 17, 3) := dk_167 0 17 (dk_at dksJ5_init_0 11 rfl rfl)
theorem dJ5_init_14 : decode cJ5_init 14 = .ok (.iload_n 1, 1) := dk_27 (dk_at dksJ5_init_0 14 rfl rfl)
theorem dJ5_init_15 : decode cJ5_init 15 = .ok (.ldc 41, 2) := dk_18 41 (dk_at dksJ5_init_0 15 rfl rfl)
theorem dJ5_init_17 : decode cJ5_init 17 = .ok (.if_icmp .ne 8, 3) := dk_160 0 8 (dk_at dksJ5_init_0 17 rfl rfl)
theorem dJ5_init_20 : decode cJ5_init 20 = .ok (.ldc 41, 2) := dk_18 41 (dk_at dksJ5_init_0 20 rfl rfl)
theorem dJ5_init_22 : decode cJ5_init 22 = .ok (.goto 6, 3) := dk_167 0 6 (dk_at dksJ5_init_1 0 rfl rfl)
theorem dJ5_init_25 : decode cJ5_init 25 = .ok (.iload_n 1, 1) := dk_27 (dk_at dksJ5_init_1 3 rfl rfl)
theorem dJ5_init_26 : decode cJ5_init 26 = .ok (.iconst 1, 1) := dk_4 (dk_at dksJ5_init_1 4 rfl rfl)
theorem dJ5_init_27 : decode cJ5_init 27 = .ok (.iadd, 1) := dk_96 (dk_at dksJ5_init_1 5 rfl rfl)
theorem dJ5_init_28 : decode cJ5_init 28 = .ok (.anewarray 47, 3) := dk_189 0 47 (dk_at dksJ5_init_1 6 rfl rfl)
theorem dJ5_init_31 : decode cJ5_init 31 = .ok (.putfield 3, 3) := dk_181 0 3 (dk_at dksJ5_init_1 9 rfl rfl)
theorem dJ5_init_34 : decode cJ5_init 34 = .ok (.return_, 1) := dk_177 (dk_at dksJ5_init_1 12 rfl rfl)
abbrev cJ5_clear : ByteArray := prog_40_method_53_code
def yJ5_clear : MethodName := ⟨RJ5, "clear", "()V"⟩
def dkwJ5_clear_1 : List UInt8 := [181, 0, 24, 177]
abbrev dktJ5_clear_1 : List UInt8 := dkwJ5_clear_1 ++ []
def dkwJ5_clear_0 : List UInt8 := [42, 180, 0, 3, 42, 180, 0, 24, 42, 180, 0, 20, 184, 0, 181, 42, 42, 3, 90, 181, 0, 20]
abbrev dktJ5_clear_0 : List UInt8 := dkwJ5_clear_0 ++ dktJ5_clear_1
theorem dksJ5_clear_0 : cJ5_clear.data.toList.drop 0 = dktJ5_clear_0 := by decide +kernel
theorem dksJ5_clear_1 : cJ5_clear.data.toList.drop 22 = dktJ5_clear_1 := dk_seg dksJ5_clear_0 22 rfl rfl
theorem dJ5_clear_0 : decode cJ5_clear 0 = .ok (.aload_n 0, 1) := dk_42 (dk_at dksJ5_clear_0 0 rfl rfl)
theorem dJ5_clear_1 : decode cJ5_clear 1 = .ok (.getfield 3, 3) := dk_180 0 3 (dk_at dksJ5_clear_0 1 rfl rfl)
theorem dJ5_clear_4 : decode cJ5_clear 4 = .ok (.aload_n 0, 1) := dk_42 (dk_at dksJ5_clear_0 4 rfl rfl)
theorem dJ5_clear_5 : decode cJ5_clear 5 = .ok (.getfield 24, 3) := dk_180 0 24 (dk_at dksJ5_clear_0 5 rfl rfl)
theorem dJ5_clear_8 : decode cJ5_clear 8 = .ok (.aload_n 0, 1) := dk_42 (dk_at dksJ5_clear_0 8 rfl rfl)
theorem dJ5_clear_9 : decode cJ5_clear 9 = .ok (.getfield 20, 3) := dk_180 0 20 (dk_at dksJ5_clear_0 9 rfl rfl)
theorem dJ5_clear_12 : decode cJ5_clear 12 = .ok (.invokestatic 181, 3) := dk_184 0 181 (dk_at dksJ5_clear_0 12 rfl rfl)
theorem dJ5_clear_15 : decode cJ5_clear 15 = .ok (.aload_n 0, 1) := dk_42 (dk_at dksJ5_clear_0 15 rfl rfl)
theorem dJ5_clear_16 : decode cJ5_clear 16 = .ok (.aload_n 0, 1) := dk_42 (dk_at dksJ5_clear_0 16 rfl rfl)
theorem dJ5_clear_17 : decode cJ5_clear 17 = .ok (.iconst 0, 1) := dk_3 (dk_at dksJ5_clear_0 17 rfl rfl)
theorem dJ5_clear_18 : decode cJ5_clear 18 = .ok (.dup_x1, 1) := dk_90 (dk_at dksJ5_clear_0 18 rfl rfl)
theorem dJ5_clear_19 : decode cJ5_clear 19 = .ok (.putfield 20, 3) := dk_181 0 20 (dk_at dksJ5_clear_0 19 rfl rfl)
theorem dJ5_clear_22 : decode cJ5_clear 22 = .ok (.putfield 24, 3) := dk_181 0 24 (dk_at dksJ5_clear_1 0 rfl rfl)
theorem dJ5_clear_25 : decode cJ5_clear 25 = .ok (.return_, 1) := dk_177 (dk_at dksJ5_clear_1 3 rfl rfl)
abbrev cJ5_circularClear : ByteArray := prog_40_method_54_code
def yJ5_circularClear : MethodName := ⟨RJ5, "circularClear", "([Ljava/lang/Object;II)V"⟩
def dkwJ5_circularClear_1 : List UInt8 := [167, 255, 244, 29, 28, 160, 0, 6, 167, 0, 10, 3, 60, 28, 62, 167, 255, 229, 177]
abbrev dktJ5_circularClear_1 : List UInt8 := dkwJ5_circularClear_1 ++ []
def dkwJ5_circularClear_0 : List UInt8 := [27, 28, 163, 0, 7, 28, 167, 0, 5, 42, 190, 62, 27, 29, 162, 0, 13, 42, 27, 1, 83, 132, 1, 1]
abbrev dktJ5_circularClear_0 : List UInt8 := dkwJ5_circularClear_0 ++ dktJ5_circularClear_1
theorem dksJ5_circularClear_0 : cJ5_circularClear.data.toList.drop 0 = dktJ5_circularClear_0 := by decide +kernel
theorem dksJ5_circularClear_1 : cJ5_circularClear.data.toList.drop 24 = dktJ5_circularClear_1 := dk_seg dksJ5_circularClear_0 24 rfl rfl
theorem dJ5_circularClear_0 : decode cJ5_circularClear 0 = .ok (.iload_n 1, 1) := dk_27 (dk_at dksJ5_circularClear_0 0 rfl rfl)
theorem dJ5_circularClear_1 : decode cJ5_circularClear 1 = .ok (.iload_n 2, 1) := dk_28 (dk_at dksJ5_circularClear_0 1 rfl rfl)
theorem dJ5_circularClear_2 : decode cJ5_circularClear 2 = .ok (.if_icmp .gt 7, 3) := dk_163 0 7 (dk_at dksJ5_circularClear_0 2 rfl rfl)
theorem dJ5_circularClear_5 : decode cJ5_circularClear 5 = .ok (.iload_n 2, 1) := dk_28 (dk_at dksJ5_circularClear_0 5 rfl rfl)
theorem dJ5_circularClear_6 : decode cJ5_circularClear 6 = .ok (.goto 5, 3) := dk_167 0 5 (dk_at dksJ5_circularClear_0 6 rfl rfl)
theorem dJ5_circularClear_9 : decode cJ5_circularClear 9 = .ok (.aload_n 0, 1) := dk_42 (dk_at dksJ5_circularClear_0 9 rfl rfl)
theorem dJ5_circularClear_10 : decode cJ5_circularClear 10 = .ok (.arraylength, 1) := dk_190 (dk_at dksJ5_circularClear_0 10 rfl rfl)
theorem dJ5_circularClear_11 : decode cJ5_circularClear 11 = .ok (.istore_n 3, 1) := dk_62 (dk_at dksJ5_circularClear_0 11 rfl rfl)
theorem dJ5_circularClear_12 : decode cJ5_circularClear 12 = .ok (.iload_n 1, 1) := dk_27 (dk_at dksJ5_circularClear_0 12 rfl rfl)
theorem dJ5_circularClear_13 : decode cJ5_circularClear 13 = .ok (.iload_n 3, 1) := dk_29 (dk_at dksJ5_circularClear_0 13 rfl rfl)
theorem dJ5_circularClear_14 : decode cJ5_circularClear 14 = .ok (.if_icmp .ge 13, 3) := dk_162 0 13 (dk_at dksJ5_circularClear_0 14 rfl rfl)
theorem dJ5_circularClear_17 : decode cJ5_circularClear 17 = .ok (.aload_n 0, 1) := dk_42 (dk_at dksJ5_circularClear_0 17 rfl rfl)
theorem dJ5_circularClear_18 : decode cJ5_circularClear 18 = .ok (.iload_n 1, 1) := dk_27 (dk_at dksJ5_circularClear_0 18 rfl rfl)
theorem dJ5_circularClear_19 : decode cJ5_circularClear 19 = .ok (.aconst_null, 1) := dk_1 (dk_at dksJ5_circularClear_0 19 rfl rfl)
theorem dJ5_circularClear_20 : decode cJ5_circularClear 20 = .ok (.aastore, 1) := dk_83 (dk_at dksJ5_circularClear_0 20 rfl rfl)
theorem dJ5_circularClear_21 : decode cJ5_circularClear 21 = .ok (.iinc 1 1, 3) := dk_132 1 1 (dk_at dksJ5_circularClear_0 21 rfl rfl)
theorem dJ5_circularClear_24 : decode cJ5_circularClear 24 = .ok (.goto (-12), 3) := dk_167 255 244 (dk_at dksJ5_circularClear_1 0 rfl rfl)
theorem dJ5_circularClear_27 : decode cJ5_circularClear 27 = .ok (.iload_n 3, 1) := dk_29 (dk_at dksJ5_circularClear_1 3 rfl rfl)
theorem dJ5_circularClear_28 : decode cJ5_circularClear 28 = .ok (.iload_n 2, 1) := dk_28 (dk_at dksJ5_circularClear_1 4 rfl rfl)
theorem dJ5_circularClear_29 : decode cJ5_circularClear 29 = .ok (.if_icmp .ne 6, 3) := dk_160 0 6 (dk_at dksJ5_circularClear_1 5 rfl rfl)
theorem dJ5_circularClear_32 : decode cJ5_circularClear 32 = .ok (.goto 10, 3) := dk_167 0 10 (dk_at dksJ5_circularClear_1 8 rfl rfl)
theorem dJ5_circularClear_35 : decode cJ5_circularClear 35 = .ok (.iconst 0, 1) := dk_3 (dk_at dksJ5_circularClear_1 11 rfl rfl)
theorem dJ5_circularClear_36 : decode cJ5_circularClear 36 = .ok (.istore_n 1, 1) := dk_60 (dk_at dksJ5_circularClear_1 12 rfl rfl)
theorem dJ5_circularClear_37 : decode cJ5_circularClear 37 = .ok (.iload_n 2, 1) := dk_28 (dk_at dksJ5_circularClear_1 13 rfl rfl)
theorem dJ5_circularClear_38 : decode cJ5_circularClear 38 = .ok (.istore_n 3, 1) := dk_62 (dk_at dksJ5_circularClear_1 14 rfl rfl)
theorem dJ5_circularClear_39 : decode cJ5_circularClear 39 = .ok (.goto (-27), 3) := dk_167 255 229 (dk_at dksJ5_circularClear_1 15 rfl rfl)
theorem dJ5_circularClear_42 : decode cJ5_circularClear 42 = .ok (.return_, 1) := dk_177 (dk_at dksJ5_circularClear_1 18 rfl rfl)
abbrev cJ5_size : ByteArray := prog_40_method_37_code
def yJ5_size : MethodName := ⟨RJ5, "size", "()I"⟩
def dkwJ5_size_0 : List UInt8 := [42, 180, 0, 20, 42, 180, 0, 24, 42, 180, 0, 3, 190, 184, 0, 127, 172]
abbrev dktJ5_size_0 : List UInt8 := dkwJ5_size_0 ++ []
theorem dksJ5_size_0 : cJ5_size.data.toList.drop 0 = dktJ5_size_0 := by decide +kernel
theorem dJ5_size_0 : decode cJ5_size 0 = .ok (.aload_n 0, 1) := dk_42 (dk_at dksJ5_size_0 0 rfl rfl)
theorem dJ5_size_1 : decode cJ5_size 1 = .ok (.getfield 20, 3) := dk_180 0 20 (dk_at dksJ5_size_0 1 rfl rfl)
theorem dJ5_size_4 : decode cJ5_size 4 = .ok (.aload_n 0, 1) := dk_42 (dk_at dksJ5_size_0 4 rfl rfl)
theorem dJ5_size_5 : decode cJ5_size 5 = .ok (.getfield 24, 3) := dk_180 0 24 (dk_at dksJ5_size_0 5 rfl rfl)
theorem dJ5_size_8 : decode cJ5_size 8 = .ok (.aload_n 0, 1) := dk_42 (dk_at dksJ5_size_0 8 rfl rfl)
theorem dJ5_size_9 : decode cJ5_size 9 = .ok (.getfield 3, 3) := dk_180 0 3 (dk_at dksJ5_size_0 9 rfl rfl)
theorem dJ5_size_12 : decode cJ5_size 12 = .ok (.arraylength, 1) := dk_190 (dk_at dksJ5_size_0 12 rfl rfl)
theorem dJ5_size_13 : decode cJ5_size 13 = .ok (.invokestatic 127, 3) := dk_184 0 127 (dk_at dksJ5_size_0 13 rfl rfl)
theorem dJ5_size_16 : decode cJ5_size 16 = .ok (.ireturn, 1) := dk_172 (dk_at dksJ5_size_0 16 rfl rfl)
abbrev cJ5_sub : ByteArray := prog_40_method_9_code
def yJ5_sub : MethodName := ⟨RJ5, "sub", "(III)I"⟩
def dkwJ5_sub_0 : List UInt8 := [26, 27, 100, 89, 59, 156, 0, 7, 26, 28, 96, 59, 26, 172]
abbrev dktJ5_sub_0 : List UInt8 := dkwJ5_sub_0 ++ []
theorem dksJ5_sub_0 : cJ5_sub.data.toList.drop 0 = dktJ5_sub_0 := by decide +kernel
theorem dJ5_sub_0 : decode cJ5_sub 0 = .ok (.iload_n 0, 1) := dk_26 (dk_at dksJ5_sub_0 0 rfl rfl)
theorem dJ5_sub_1 : decode cJ5_sub 1 = .ok (.iload_n 1, 1) := dk_27 (dk_at dksJ5_sub_0 1 rfl rfl)
theorem dJ5_sub_2 : decode cJ5_sub 2 = .ok (.isub, 1) := dk_100 (dk_at dksJ5_sub_0 2 rfl rfl)
theorem dJ5_sub_3 : decode cJ5_sub 3 = .ok (.dup, 1) := dk_89 (dk_at dksJ5_sub_0 3 rfl rfl)
theorem dJ5_sub_4 : decode cJ5_sub 4 = .ok (.istore_n 0, 1) := dk_59 (dk_at dksJ5_sub_0 4 rfl rfl)
theorem dJ5_sub_5 : decode cJ5_sub 5 = .ok (.ifCond .ge 7, 3) := dk_156 0 7 (dk_at dksJ5_sub_0 5 rfl rfl)
theorem dJ5_sub_8 : decode cJ5_sub 8 = .ok (.iload_n 0, 1) := dk_26 (dk_at dksJ5_sub_0 8 rfl rfl)
theorem dJ5_sub_9 : decode cJ5_sub 9 = .ok (.iload_n 2, 1) := dk_28 (dk_at dksJ5_sub_0 9 rfl rfl)
theorem dJ5_sub_10 : decode cJ5_sub 10 = .ok (.iadd, 1) := dk_96 (dk_at dksJ5_sub_0 10 rfl rfl)
theorem dJ5_sub_11 : decode cJ5_sub 11 = .ok (.istore_n 0, 1) := dk_59 (dk_at dksJ5_sub_0 11 rfl rfl)
theorem dJ5_sub_12 : decode cJ5_sub 12 = .ok (.iload_n 0, 1) := dk_26 (dk_at dksJ5_sub_0 12 rfl rfl)
theorem dJ5_sub_13 : decode cJ5_sub 13 = .ok (.ireturn, 1) := dk_172 (dk_at dksJ5_sub_0 13 rfl rfl)
abbrev cJ5_removeFirst : ByteArray := prog_40_method_18_code
def yJ5_removeFirst : MethodName := ⟨RJ5, "removeFirst", "()Ljava/lang/Object;"⟩
def dkwJ5_removeFirst_0 : List UInt8 := [42, 182, 0, 93, 76, 43, 199, 0, 11, 187, 0, 97, 89, 183, 0, 99, 191, 43, 176]
abbrev dktJ5_removeFirst_0 : List UInt8 := dkwJ5_removeFirst_0 ++ []
theorem dksJ5_removeFirst_0 : cJ5_removeFirst.data.toList.drop 0 = dktJ5_removeFirst_0 := by decide +kernel
theorem dJ5_removeFirst_0 : decode cJ5_removeFirst 0 = .ok (.aload_n 0, 1) := dk_42 (dk_at dksJ5_removeFirst_0 0 rfl rfl)
theorem dJ5_removeFirst_1 : decode cJ5_removeFirst 1 = .ok (.invokevirtual 93, 3) := dk_182 0 93 (dk_at dksJ5_removeFirst_0 1 rfl rfl)
theorem dJ5_removeFirst_4 : decode cJ5_removeFirst 4 = .ok (.astore_n 1, 1) := dk_76 (dk_at dksJ5_removeFirst_0 4 rfl rfl)
theorem dJ5_removeFirst_5 : decode cJ5_removeFirst 5 = .ok (.aload_n 1, 1) := dk_43 (dk_at dksJ5_removeFirst_0 5 rfl rfl)
theorem dJ5_removeFirst_6 : decode cJ5_removeFirst 6 = .ok (.ifnonnull 11, 3) := dk_199 0 11 (dk_at dksJ5_removeFirst_0 6 rfl rfl)
theorem dJ5_removeFirst_9 : decode cJ5_removeFirst 9 = .ok (.new 97, 3) := dk_187 0 97 (dk_at dksJ5_removeFirst_0 9 rfl rfl)
theorem dJ5_removeFirst_12 : decode cJ5_removeFirst 12 = .ok (.dup, 1) := dk_89 (dk_at dksJ5_removeFirst_0 12 rfl rfl)
theorem dJ5_removeFirst_13 : decode cJ5_removeFirst 13 = .ok (.invokespecial 99, 3) := dk_183 0 99 (dk_at dksJ5_removeFirst_0 13 rfl rfl)
theorem dJ5_removeFirst_16 : decode cJ5_removeFirst 16 = .ok (.athrow, 1) := dk_191 (dk_at dksJ5_removeFirst_0 16 rfl rfl)
theorem dJ5_removeFirst_17 : decode cJ5_removeFirst 17 = .ok (.aload_n 1, 1) := dk_43 (dk_at dksJ5_removeFirst_0 17 rfl rfl)
theorem dJ5_removeFirst_18 : decode cJ5_removeFirst 18 = .ok (.areturn, 1) := dk_176 (dk_at dksJ5_removeFirst_0 18 rfl rfl)
abbrev cJ5_pollFirst : ByteArray := prog_40_method_20_code
def yJ5_pollFirst : MethodName := ⟨RJ5, "pollFirst", "()Ljava/lang/Object;"⟩
def dkwJ5_pollFirst_1 : List UInt8 := [42, 28, 43, 190, 184, 0, 74, 181, 0, 24, 45, 176]
abbrev dktJ5_pollFirst_1 : List UInt8 := dkwJ5_pollFirst_1 ++ []
def dkwJ5_pollFirst_0 : List UInt8 := [42, 180, 0, 3, 89, 76, 42, 180, 0, 24, 89, 61, 184, 0, 103, 78, 45, 198, 0, 17, 43, 28, 1, 83]
abbrev dktJ5_pollFirst_0 : List UInt8 := dkwJ5_pollFirst_0 ++ dktJ5_pollFirst_1
theorem dksJ5_pollFirst_0 : cJ5_pollFirst.data.toList.drop 0 = dktJ5_pollFirst_0 := by decide +kernel
theorem dksJ5_pollFirst_1 : cJ5_pollFirst.data.toList.drop 24 = dktJ5_pollFirst_1 := dk_seg dksJ5_pollFirst_0 24 rfl rfl
theorem dJ5_pollFirst_0 : decode cJ5_pollFirst 0 = .ok (.aload_n 0, 1) := dk_42 (dk_at dksJ5_pollFirst_0 0 rfl rfl)
theorem dJ5_pollFirst_1 : decode cJ5_pollFirst 1 = .ok (.getfield 3, 3) := dk_180 0 3 (dk_at dksJ5_pollFirst_0 1 rfl rfl)
theorem dJ5_pollFirst_4 : decode cJ5_pollFirst 4 = .ok (.dup, 1) := dk_89 (dk_at dksJ5_pollFirst_0 4 rfl rfl)
theorem dJ5_pollFirst_5 : decode cJ5_pollFirst 5 = .ok (.astore_n 1, 1) := dk_76 (dk_at dksJ5_pollFirst_0 5 rfl rfl)
theorem dJ5_pollFirst_6 : decode cJ5_pollFirst 6 = .ok (.aload_n 0, 1) := dk_42 (dk_at dksJ5_pollFirst_0 6 rfl rfl)
theorem dJ5_pollFirst_7 : decode cJ5_pollFirst 7 = .ok (.getfield 24, 3) := dk_180 0 24 (dk_at dksJ5_pollFirst_0 7 rfl rfl)
theorem dJ5_pollFirst_10 : decode cJ5_pollFirst 10 = .ok (.dup, 1) := dk_89 (dk_at dksJ5_pollFirst_0 10 rfl rfl)
theorem dJ5_pollFirst_11 : decode cJ5_pollFirst 11 = .ok (.istore_n 2, 1) := dk_61 (dk_at dksJ5_pollFirst_0 11 rfl rfl)
theorem dJ5_pollFirst_12 : decode cJ5_pollFirst 12 = .ok (.invokestatic 103, 3) := dk_184 0 103 (dk_at dksJ5_pollFirst_0 12 rfl rfl)
theorem dJ5_pollFirst_15 : decode cJ5_pollFirst 15 = .ok (.astore_n 3, 1) := dk_78 (dk_at dksJ5_pollFirst_0 15 rfl rfl)
theorem dJ5_pollFirst_16 : decode cJ5_pollFirst 16 = .ok (.aload_n 3, 1) := dk_45 (dk_at dksJ5_pollFirst_0 16 rfl rfl)
theorem dJ5_pollFirst_17 : decode cJ5_pollFirst 17 = .ok (.ifnull 17, 3) := dk_198 0 17 (dk_at dksJ5_pollFirst_0 17 rfl rfl)
theorem dJ5_pollFirst_20 : decode cJ5_pollFirst 20 = .ok (.aload_n 1, 1) := dk_43 (dk_at dksJ5_pollFirst_0 20 rfl rfl)
theorem dJ5_pollFirst_21 : decode cJ5_pollFirst 21 = .ok (.iload_n 2, 1) := dk_28 (dk_at dksJ5_pollFirst_0 21 rfl rfl)
theorem dJ5_pollFirst_22 : decode cJ5_pollFirst 22 = .ok (.aconst_null, 1) := dk_1 (dk_at dksJ5_pollFirst_0 22 rfl rfl)
theorem dJ5_pollFirst_23 : decode cJ5_pollFirst 23 = .ok (.aastore, 1) := dk_83 (dk_at dksJ5_pollFirst_0 23 rfl rfl)
theorem dJ5_pollFirst_24 : decode cJ5_pollFirst 24 = .ok (.aload_n 0, 1) := dk_42 (dk_at dksJ5_pollFirst_1 0 rfl rfl)
theorem dJ5_pollFirst_25 : decode cJ5_pollFirst 25 = .ok (.iload_n 2, 1) := dk_28 (dk_at dksJ5_pollFirst_1 1 rfl rfl)
theorem dJ5_pollFirst_26 : decode cJ5_pollFirst 26 = .ok (.aload_n 1, 1) := dk_43 (dk_at dksJ5_pollFirst_1 2 rfl rfl)
theorem dJ5_pollFirst_27 : decode cJ5_pollFirst 27 = .ok (.arraylength, 1) := dk_190 (dk_at dksJ5_pollFirst_1 3 rfl rfl)
theorem dJ5_pollFirst_28 : decode cJ5_pollFirst 28 = .ok (.invokestatic 74, 3) := dk_184 0 74 (dk_at dksJ5_pollFirst_1 4 rfl rfl)
theorem dJ5_pollFirst_31 : decode cJ5_pollFirst 31 = .ok (.putfield 24, 3) := dk_181 0 24 (dk_at dksJ5_pollFirst_1 7 rfl rfl)
theorem dJ5_pollFirst_34 : decode cJ5_pollFirst 34 = .ok (.aload_n 3, 1) := dk_45 (dk_at dksJ5_pollFirst_1 10 rfl rfl)
theorem dJ5_pollFirst_35 : decode cJ5_pollFirst 35 = .ok (.areturn, 1) := dk_176 (dk_at dksJ5_pollFirst_1 11 rfl rfl)
abbrev cJ5_elementAt : ByteArray := prog_40_method_10_code
def yJ5_elementAt : MethodName := ⟨RJ5, "elementAt", "([Ljava/lang/Object;I)Ljava/lang/Object;"⟩
def dkwJ5_elementAt_0 : List UInt8 := [42, 27, 50, 176]
abbrev dktJ5_elementAt_0 : List UInt8 := dkwJ5_elementAt_0 ++ []
theorem dksJ5_elementAt_0 : cJ5_elementAt.data.toList.drop 0 = dktJ5_elementAt_0 := by decide +kernel
theorem dJ5_elementAt_0 : decode cJ5_elementAt 0 = .ok (.aload_n 0, 1) := dk_42 (dk_at dksJ5_elementAt_0 0 rfl rfl)
theorem dJ5_elementAt_1 : decode cJ5_elementAt 1 = .ok (.iload_n 1, 1) := dk_27 (dk_at dksJ5_elementAt_0 1 rfl rfl)
theorem dJ5_elementAt_2 : decode cJ5_elementAt 2 = .ok (.aaload, 1) := dk_50 (dk_at dksJ5_elementAt_0 2 rfl rfl)
theorem dJ5_elementAt_3 : decode cJ5_elementAt 3 = .ok (.areturn, 1) := dk_176 (dk_at dksJ5_elementAt_0 3 rfl rfl)
abbrev cJ5_inc : ByteArray := prog_40_method_6_code
def yJ5_inc : MethodName := ⟨RJ5, "inc", "(II)I"⟩
def dkwJ5_inc_0 : List UInt8 := [132, 0, 1, 26, 27, 161, 0, 5, 3, 59, 26, 172]
abbrev dktJ5_inc_0 : List UInt8 := dkwJ5_inc_0 ++ []
theorem dksJ5_inc_0 : cJ5_inc.data.toList.drop 0 = dktJ5_inc_0 := by decide +kernel
theorem dJ5_inc_0 : decode cJ5_inc 0 = .ok (.iinc 0 1, 3) := dk_132 0 1 (dk_at dksJ5_inc_0 0 rfl rfl)
theorem dJ5_inc_3 : decode cJ5_inc 3 = .ok (.iload_n 0, 1) := dk_26 (dk_at dksJ5_inc_0 3 rfl rfl)
theorem dJ5_inc_4 : decode cJ5_inc 4 = .ok (.iload_n 1, 1) := dk_27 (dk_at dksJ5_inc_0 4 rfl rfl)
theorem dJ5_inc_5 : decode cJ5_inc 5 = .ok (.if_icmp .lt 5, 3) := dk_161 0 5 (dk_at dksJ5_inc_0 5 rfl rfl)
theorem dJ5_inc_8 : decode cJ5_inc 8 = .ok (.iconst 0, 1) := dk_3 (dk_at dksJ5_inc_0 8 rfl rfl)
theorem dJ5_inc_9 : decode cJ5_inc 9 = .ok (.istore_n 0, 1) := dk_59 (dk_at dksJ5_inc_0 9 rfl rfl)
theorem dJ5_inc_10 : decode cJ5_inc 10 = .ok (.iload_n 0, 1) := dk_26 (dk_at dksJ5_inc_0 10 rfl rfl)
theorem dJ5_inc_11 : decode cJ5_inc 11 = .ok (.ireturn, 1) := dk_172 (dk_at dksJ5_inc_0 11 rfl rfl)
abbrev cJ5_addLast : ByteArray := prog_40_method_13_code
def yJ5_addLast : MethodName := ⟨RJ5, "addLast", "(Ljava/lang/Object;)V"⟩
def dkwJ5_addLast_2 : List UInt8 := [182, 0, 71, 177]
abbrev dktJ5_addLast_2 : List UInt8 := dkwJ5_addLast_2 ++ []
def dkwJ5_addLast_1 : List UInt8 := [42, 180, 0, 24, 42, 42, 180, 0, 20, 44, 190, 184, 0, 74, 90, 181, 0, 20, 160, 0, 8, 42, 4]
abbrev dktJ5_addLast_1 : List UInt8 := dkwJ5_addLast_1 ++ dktJ5_addLast_2
def dkwJ5_addLast_0 : List UInt8 := [43, 199, 0, 11, 187, 0, 65, 89, 183, 0, 67, 191, 42, 180, 0, 3, 77, 44, 42, 180, 0, 20, 43, 83]
abbrev dktJ5_addLast_0 : List UInt8 := dkwJ5_addLast_0 ++ dktJ5_addLast_1
theorem dksJ5_addLast_0 : cJ5_addLast.data.toList.drop 0 = dktJ5_addLast_0 := by decide +kernel
theorem dksJ5_addLast_1 : cJ5_addLast.data.toList.drop 24 = dktJ5_addLast_1 := dk_seg dksJ5_addLast_0 24 rfl rfl
theorem dksJ5_addLast_2 : cJ5_addLast.data.toList.drop 47 = dktJ5_addLast_2 := dk_seg dksJ5_addLast_1 23 rfl rfl
theorem dJ5_addLast_0 : decode cJ5_addLast 0 = .ok (.aload_n 1, 1) := dk_43 (dk_at dksJ5_addLast_0 0 rfl rfl)
theorem dJ5_addLast_1 : decode cJ5_addLast 1 = .ok (.ifnonnull 11, 3) := dk_199 0 11 (dk_at dksJ5_addLast_0 1 rfl rfl)
theorem dJ5_addLast_4 : decode cJ5_addLast 4 = .ok (.new 65, 3) := dk_187 0 65 (dk_at dksJ5_addLast_0 4 rfl rfl)
theorem dJ5_addLast_7 : decode cJ5_addLast 7 = .ok (.dup, 1) := dk_89 (dk_at dksJ5_addLast_0 7 rfl rfl)
theorem dJ5_addLast_8 : decode cJ5_addLast 8 = .ok (.invokespecial 67, 3) := dk_183 0 67 (dk_at dksJ5_addLast_0 8 rfl rfl)
theorem dJ5_addLast_11 : decode cJ5_addLast 11 = .ok (.athrow, 1) := dk_191 (dk_at dksJ5_addLast_0 11 rfl rfl)
theorem dJ5_addLast_12 : decode cJ5_addLast 12 = .ok (.aload_n 0, 1) := dk_42 (dk_at dksJ5_addLast_0 12 rfl rfl)
theorem dJ5_addLast_13 : decode cJ5_addLast 13 = .ok (.getfield 3, 3) := dk_180 0 3 (dk_at dksJ5_addLast_0 13 rfl rfl)
theorem dJ5_addLast_16 : decode cJ5_addLast 16 = .ok (.astore_n 2, 1) := dk_77 (dk_at dksJ5_addLast_0 16 rfl rfl)
theorem dJ5_addLast_17 : decode cJ5_addLast 17 = .ok (.aload_n 2, 1) := dk_44 (dk_at dksJ5_addLast_0 17 rfl rfl)
theorem dJ5_addLast_18 : decode cJ5_addLast 18 = .ok (.aload_n 0, 1) := dk_42 (dk_at dksJ5_addLast_0 18 rfl rfl)
theorem dJ5_addLast_19 : decode cJ5_addLast 19 = .ok (.getfield 20, 3) := dk_180 0 20 (dk_at dksJ5_addLast_0 19 rfl rfl)
theorem dJ5_addLast_22 : decode cJ5_addLast 22 = .ok (.aload_n 1, 1) := dk_43 (dk_at dksJ5_addLast_0 22 rfl rfl)
theorem dJ5_addLast_23 : decode cJ5_addLast 23 = .ok (.aastore, 1) := dk_83 (dk_at dksJ5_addLast_0 23 rfl rfl)
theorem dJ5_addLast_24 : decode cJ5_addLast 24 = .ok (.aload_n 0, 1) := dk_42 (dk_at dksJ5_addLast_1 0 rfl rfl)
theorem dJ5_addLast_25 : decode cJ5_addLast 25 = .ok (.getfield 24, 3) := dk_180 0 24 (dk_at dksJ5_addLast_1 1 rfl rfl)
theorem dJ5_addLast_28 : decode cJ5_addLast 28 = .ok (.aload_n 0, 1) := dk_42 (dk_at dksJ5_addLast_1 4 rfl rfl)
theorem dJ5_addLast_29 : decode cJ5_addLast 29 = .ok (.aload_n 0, 1) := dk_42 (dk_at dksJ5_addLast_1 5 rfl rfl)
theorem dJ5_addLast_30 : decode cJ5_addLast 30 = .ok (.getfield 20, 3) := dk_180 0 20 (dk_at dksJ5_addLast_1 6 rfl rfl)
theorem dJ5_addLast_33 : decode cJ5_addLast 33 = .ok (.aload_n 2, 1) := dk_44 (dk_at dksJ5_addLast_1 9 rfl rfl)
theorem dJ5_addLast_34 : decode cJ5_addLast 34 = .ok (.arraylength, 1) := dk_190 (dk_at dksJ5_addLast_1 10 rfl rfl)
theorem dJ5_addLast_35 : decode cJ5_addLast 35 = .ok (.invokestatic 74, 3) := dk_184 0 74 (dk_at dksJ5_addLast_1 11 rfl rfl)
theorem dJ5_addLast_38 : decode cJ5_addLast 38 = .ok (.dup_x1, 1) := dk_90 (dk_at dksJ5_addLast_1 14 rfl rfl)
theorem dJ5_addLast_39 : decode cJ5_addLast 39 = .ok (.putfield 20, 3) := dk_181 0 20 (dk_at dksJ5_addLast_1 15 rfl rfl)
theorem dJ5_addLast_42 : decode cJ5_addLast 42 = .ok (.if_icmp .ne 8, 3) := dk_160 0 8 (dk_at dksJ5_addLast_1 18 rfl rfl)
theorem dJ5_addLast_45 : decode cJ5_addLast 45 = .ok (.aload_n 0, 1) := dk_42 (dk_at dksJ5_addLast_1 21 rfl rfl)
theorem dJ5_addLast_46 : decode cJ5_addLast 46 = .ok (.iconst 1, 1) := dk_4 (dk_at dksJ5_addLast_1 22 rfl rfl)
theorem dJ5_addLast_47 : decode cJ5_addLast 47 = .ok (.invokevirtual 71, 3) := dk_182 0 71 (dk_at dksJ5_addLast_2 0 rfl rfl)
theorem dJ5_addLast_50 : decode cJ5_addLast 50 = .ok (.return_, 1) := dk_177 (dk_at dksJ5_addLast_2 3 rfl rfl)
abbrev cJ5_grow : ByteArray := prog_40_method_1_code
def yJ5_grow : MethodName := ⟨RJ5, "grow", "(I)V"⟩
def dkwJ5_grow_7 : List UInt8 := [177]
abbrev dktJ5_grow_7 : List UInt8 := dkwJ5_grow_7 ++ []
def dkwJ5_grow_6 : List UInt8 := [181, 0, 24, 54, 8, 21, 7, 21, 8, 162, 0, 15, 25, 5, 21, 7, 1, 83, 132, 7, 1, 167, 255, 240]
abbrev dktJ5_grow_6 : List UInt8 := dkwJ5_grow_6 ++ dktJ5_grow_7
def dkwJ5_grow_5 : List UInt8 := [42, 180, 0, 24, 100, 184, 0, 27, 42, 180, 0, 24, 54, 7, 42, 89, 180, 0, 24, 21, 6, 96, 90]
abbrev dktJ5_grow_5 : List UInt8 := dkwJ5_grow_5 ++ dktJ5_grow_6
def dkwJ5_grow_4 : List UInt8 := [198, 0, 71, 29, 28, 100, 54, 6, 25, 5, 42, 180, 0, 24, 25, 5, 42, 180, 0, 24, 21, 6, 96, 28]
abbrev dktJ5_grow_4 : List UInt8 := dkwJ5_grow_4 ++ dktJ5_grow_5
def dkwJ5_grow_3 : List UInt8 := [180, 0, 24, 161, 0, 24, 42, 180, 0, 20, 42, 180, 0, 24, 160, 0, 81, 25, 5, 42, 180, 0, 24, 50]
abbrev dktJ5_grow_3 : List UInt8 := dkwJ5_grow_3 ++ dktJ5_grow_4
def dkwJ5_grow_2 : List UInt8 := [182, 0, 10, 62, 42, 42, 180, 0, 3, 29, 184, 0, 14, 90, 181, 0, 3, 58, 5, 42, 180, 0, 20, 42]
abbrev dktJ5_grow_2 : List UInt8 := dkwJ5_grow_2 ++ dktJ5_grow_3
def dkwJ5_grow_1 : List UInt8 := [21, 4, 27, 161, 0, 15, 28, 21, 4, 96, 89, 62, 18, 9, 100, 158, 0, 11, 42, 27, 21, 4]
abbrev dktJ5_grow_1 : List UInt8 := dkwJ5_grow_1 ++ dktJ5_grow_2
def dkwJ5_grow_0 : List UInt8 := [42, 180, 0, 3, 190, 61, 28, 16, 64, 162, 0, 9, 28, 5, 96, 167, 0, 6, 28, 4, 122, 54, 4]
abbrev dktJ5_grow_0 : List UInt8 := dkwJ5_grow_0 ++ dktJ5_grow_1
theorem dksJ5_grow_0 : cJ5_grow.data.toList.drop 0 = dktJ5_grow_0 := by decide +kernel
theorem dksJ5_grow_1 : cJ5_grow.data.toList.drop 23 = dktJ5_grow_1 := dk_seg dksJ5_grow_0 23 rfl rfl
theorem dksJ5_grow_2 : cJ5_grow.data.toList.drop 45 = dktJ5_grow_2 := dk_seg dksJ5_grow_1 22 rfl rfl
theorem dksJ5_grow_3 : cJ5_grow.data.toList.drop 69 = dktJ5_grow_3 := dk_seg dksJ5_grow_2 24 rfl rfl
theorem dksJ5_grow_4 : cJ5_grow.data.toList.drop 93 = dktJ5_grow_4 := dk_seg dksJ5_grow_3 24 rfl rfl
theorem dksJ5_grow_5 : cJ5_grow.data.toList.drop 117 = dktJ5_grow_5 := dk_seg dksJ5_grow_4 24 rfl rfl
theorem dksJ5_grow_6 : cJ5_grow.data.toList.drop 140 = dktJ5_grow_6 := dk_seg dksJ5_grow_5 23 rfl rfl
theorem dksJ5_grow_7 : cJ5_grow.data.toList.drop 164 = dktJ5_grow_7 := dk_seg dksJ5_grow_6 24 rfl rfl
theorem dJ5_grow_0 : decode cJ5_grow 0 = .ok (.aload_n 0, 1) := dk_42 (dk_at dksJ5_grow_0 0 rfl rfl)
theorem dJ5_grow_1 : decode cJ5_grow 1 = .ok (.getfield 3, 3) := dk_180 0 3 (dk_at dksJ5_grow_0 1 rfl rfl)
theorem dJ5_grow_4 : decode cJ5_grow 4 = .ok (.arraylength, 1) := dk_190 (dk_at dksJ5_grow_0 4 rfl rfl)
theorem dJ5_grow_5 : decode cJ5_grow 5 = .ok (.istore_n 2, 1) := dk_61 (dk_at dksJ5_grow_0 5 rfl rfl)
theorem dJ5_grow_6 : decode cJ5_grow 6 = .ok (.iload_n 2, 1) := dk_28 (dk_at dksJ5_grow_0 6 rfl rfl)
theorem dJ5_grow_7 : decode cJ5_grow 7 = .ok (.bipush 64, 2) := dk_16 64 (dk_at dksJ5_grow_0 7 rfl rfl)
theorem dJ5_grow_9 : decode cJ5_grow 9 = .ok (.if_icmp .ge 9, 3) := dk_162 0 9 (dk_at dksJ5_grow_0 9 rfl rfl)
theorem dJ5_grow_12 : decode cJ5_grow 12 = .ok (.iload_n 2, 1) := dk_28 (dk_at dksJ5_grow_0 12 rfl rfl)
theorem dJ5_grow_13 : decode cJ5_grow 13 = .ok (.iconst 2, 1) := dk_5 (dk_at dksJ5_grow_0 13 rfl rfl)
theorem dJ5_grow_14 : decode cJ5_grow 14 = .ok (.iadd, 1) := dk_96 (dk_at dksJ5_grow_0 14 rfl rfl)
theorem dJ5_grow_15 : decode cJ5_grow 15 = .ok (.goto 6, 3) := dk_167 0 6 (dk_at dksJ5_grow_0 15 rfl rfl)
theorem dJ5_grow_18 : decode cJ5_grow 18 = .ok (.iload_n 2, 1) := dk_28 (dk_at dksJ5_grow_0 18 rfl rfl)
theorem dJ5_grow_19 : decode cJ5_grow 19 = .ok (.iconst 1, 1) := dk_4 (dk_at dksJ5_grow_0 19 rfl rfl)
theorem dJ5_grow_20 : decode cJ5_grow 20 = .ok (.ishr, 1) := dk_122 (dk_at dksJ5_grow_0 20 rfl rfl)
theorem dJ5_grow_21 : decode cJ5_grow 21 = .ok (.istore 4, 2) := dk_54 4 (dk_at dksJ5_grow_0 21 rfl rfl)
theorem dJ5_grow_23 : decode cJ5_grow 23 = .ok (.iload 4, 2) := dk_21 4 (dk_at dksJ5_grow_1 0 rfl rfl)
theorem dJ5_grow_25 : decode cJ5_grow 25 = .ok (.iload_n 1, 1) := dk_27 (dk_at dksJ5_grow_1 2 rfl rfl)
theorem dJ5_grow_26 : decode cJ5_grow 26 = .ok (.if_icmp .lt 15, 3) := dk_161 0 15 (dk_at dksJ5_grow_1 3 rfl rfl)
theorem dJ5_grow_29 : decode cJ5_grow 29 = .ok (.iload_n 2, 1) := dk_28 (dk_at dksJ5_grow_1 6 rfl rfl)
theorem dJ5_grow_30 : decode cJ5_grow 30 = .ok (.iload 4, 2) := dk_21 4 (dk_at dksJ5_grow_1 7 rfl rfl)
theorem dJ5_grow_32 : decode cJ5_grow 32 = .ok (.iadd, 1) := dk_96 (dk_at dksJ5_grow_1 9 rfl rfl)
theorem dJ5_grow_33 : decode cJ5_grow 33 = .ok (.dup, 1) := dk_89 (dk_at dksJ5_grow_1 10 rfl rfl)
theorem dJ5_grow_34 : decode cJ5_grow 34 = .ok (.istore_n 3, 1) := dk_62 (dk_at dksJ5_grow_1 11 rfl rfl)
theorem dJ5_grow_35 : decode cJ5_grow 35 = .ok (.ldc 9, 2) := dk_18 9 (dk_at dksJ5_grow_1 12 rfl rfl)
theorem dJ5_grow_37 : decode cJ5_grow 37 = .ok (.isub, 1) := dk_100 (dk_at dksJ5_grow_1 14 rfl rfl)
theorem dJ5_grow_38 : decode cJ5_grow 38 = .ok (.ifCond .le 11, 3) := dk_158 0 11 (dk_at dksJ5_grow_1 15 rfl rfl)
theorem dJ5_grow_41 : decode cJ5_grow 41 = .ok (.aload_n 0, 1) := dk_42 (dk_at dksJ5_grow_1 18 rfl rfl)
theorem dJ5_grow_42 : decode cJ5_grow 42 = .ok (.iload_n 1, 1) := dk_27 (dk_at dksJ5_grow_1 19 rfl rfl)
theorem dJ5_grow_43 : decode cJ5_grow 43 = .ok (.iload 4, 2) := dk_21 4 (dk_at dksJ5_grow_1 20 rfl rfl)
theorem dJ5_grow_45 : decode cJ5_grow 45 = .ok (.invokevirtual 10, 3) := dk_182 0 10 (dk_at dksJ5_grow_2 0 rfl rfl)
theorem dJ5_grow_48 : decode cJ5_grow 48 = .ok (.istore_n 3, 1) := dk_62 (dk_at dksJ5_grow_2 3 rfl rfl)
theorem dJ5_grow_49 : decode cJ5_grow 49 = .ok (.aload_n 0, 1) := dk_42 (dk_at dksJ5_grow_2 4 rfl rfl)
theorem dJ5_grow_50 : decode cJ5_grow 50 = .ok (.aload_n 0, 1) := dk_42 (dk_at dksJ5_grow_2 5 rfl rfl)
theorem dJ5_grow_51 : decode cJ5_grow 51 = .ok (.getfield 3, 3) := dk_180 0 3 (dk_at dksJ5_grow_2 6 rfl rfl)
theorem dJ5_grow_54 : decode cJ5_grow 54 = .ok (.iload_n 3, 1) := dk_29 (dk_at dksJ5_grow_2 9 rfl rfl)
theorem dJ5_grow_55 : decode cJ5_grow 55 = .ok (.invokestatic 14, 3) := dk_184 0 14 (dk_at dksJ5_grow_2 10 rfl rfl)
theorem dJ5_grow_58 : decode cJ5_grow 58 = .ok (.dup_x1, 1) := dk_90 (dk_at dksJ5_grow_2 13 rfl rfl)
theorem dJ5_grow_59 : decode cJ5_grow 59 = .ok (.putfield 3, 3) := dk_181 0 3 (dk_at dksJ5_grow_2 14 rfl rfl)
theorem dJ5_grow_62 : decode cJ5_grow 62 = .ok (.astore 5, 2) := dk_58 5 (dk_at dksJ5_grow_2 17 rfl rfl)
theorem dJ5_grow_64 : decode cJ5_grow 64 = .ok (.aload_n 0, 1) := dk_42 (dk_at dksJ5_grow_2 19 rfl rfl)
theorem dJ5_grow_65 : decode cJ5_grow 65 = .ok (.getfield 20, 3) := dk_180 0 20 (dk_at dksJ5_grow_2 20 rfl rfl)
theorem dJ5_grow_68 : decode cJ5_grow 68 = .ok (.aload_n 0, 1) := dk_42 (dk_at dksJ5_grow_2 23 rfl rfl)
theorem dJ5_grow_69 : decode cJ5_grow 69 = .ok (.getfield 24, 3) := dk_180 0 24 (dk_at dksJ5_grow_3 0 rfl rfl)
theorem dJ5_grow_72 : decode cJ5_grow 72 = .ok (.if_icmp .lt 24, 3) := dk_161 0 24 (dk_at dksJ5_grow_3 3 rfl rfl)
theorem dJ5_grow_75 : decode cJ5_grow 75 = .ok (.aload_n 0, 1) := dk_42 (dk_at dksJ5_grow_3 6 rfl rfl)
theorem dJ5_grow_76 : decode cJ5_grow 76 = .ok (.getfield 20, 3) := dk_180 0 20 (dk_at dksJ5_grow_3 7 rfl rfl)
theorem dJ5_grow_79 : decode cJ5_grow 79 = .ok (.aload_n 0, 1) := dk_42 (dk_at dksJ5_grow_3 10 rfl rfl)
theorem dJ5_grow_80 : decode cJ5_grow 80 = .ok (.getfield 24, 3) := dk_180 0 24 (dk_at dksJ5_grow_3 11 rfl rfl)
theorem dJ5_grow_83 : decode cJ5_grow 83 = .ok (.if_icmp .ne 81, 3) := dk_160 0 81 (dk_at dksJ5_grow_3 14 rfl rfl)
theorem dJ5_grow_86 : decode cJ5_grow 86 = .ok (.aload 5, 2) := dk_25 5 (dk_at dksJ5_grow_3 17 rfl rfl)
theorem dJ5_grow_88 : decode cJ5_grow 88 = .ok (.aload_n 0, 1) := dk_42 (dk_at dksJ5_grow_3 19 rfl rfl)
theorem dJ5_grow_89 : decode cJ5_grow 89 = .ok (.getfield 24, 3) := dk_180 0 24 (dk_at dksJ5_grow_3 20 rfl rfl)
theorem dJ5_grow_92 : decode cJ5_grow 92 = .ok (.aaload, 1) := dk_50 (dk_at dksJ5_grow_3 23 rfl rfl)
theorem dJ5_grow_93 : decode cJ5_grow 93 = .ok (.ifnull 71, 3) := dk_198 0 71 (dk_at dksJ5_grow_4 0 rfl rfl)
theorem dJ5_grow_96 : decode cJ5_grow 96 = .ok (.iload_n 3, 1) := dk_29 (dk_at dksJ5_grow_4 3 rfl rfl)
theorem dJ5_grow_97 : decode cJ5_grow 97 = .ok (.iload_n 2, 1) := dk_28 (dk_at dksJ5_grow_4 4 rfl rfl)
theorem dJ5_grow_98 : decode cJ5_grow 98 = .ok (.isub, 1) := dk_100 (dk_at dksJ5_grow_4 5 rfl rfl)
theorem dJ5_grow_99 : decode cJ5_grow 99 = .ok (.istore 6, 2) := dk_54 6 (dk_at dksJ5_grow_4 6 rfl rfl)
theorem dJ5_grow_101 : decode cJ5_grow 101 = .ok (.aload 5, 2) := dk_25 5 (dk_at dksJ5_grow_4 8 rfl rfl)
theorem dJ5_grow_103 : decode cJ5_grow 103 = .ok (.aload_n 0, 1) := dk_42 (dk_at dksJ5_grow_4 10 rfl rfl)
theorem dJ5_grow_104 : decode cJ5_grow 104 = .ok (.getfield 24, 3) := dk_180 0 24 (dk_at dksJ5_grow_4 11 rfl rfl)
theorem dJ5_grow_107 : decode cJ5_grow 107 = .ok (.aload 5, 2) := dk_25 5 (dk_at dksJ5_grow_4 14 rfl rfl)
theorem dJ5_grow_109 : decode cJ5_grow 109 = .ok (.aload_n 0, 1) := dk_42 (dk_at dksJ5_grow_4 16 rfl rfl)
theorem dJ5_grow_110 : decode cJ5_grow 110 = .ok (.getfield 24, 3) := dk_180 0 24 (dk_at dksJ5_grow_4 17 rfl rfl)
theorem dJ5_grow_113 : decode cJ5_grow 113 = .ok (.iload 6, 2) := dk_21 6 (dk_at dksJ5_grow_4 20 rfl rfl)
theorem dJ5_grow_115 : decode cJ5_grow 115 = .ok (.iadd, 1) := dk_96 (dk_at dksJ5_grow_4 22 rfl rfl)
theorem dJ5_grow_116 : decode cJ5_grow 116 = .ok (.iload_n 2, 1) := dk_28 (dk_at dksJ5_grow_4 23 rfl rfl)
theorem dJ5_grow_117 : decode cJ5_grow 117 = .ok (.aload_n 0, 1) := dk_42 (dk_at dksJ5_grow_5 0 rfl rfl)
theorem dJ5_grow_118 : decode cJ5_grow 118 = .ok (.getfield 24, 3) := dk_180 0 24 (dk_at dksJ5_grow_5 1 rfl rfl)
theorem dJ5_grow_121 : decode cJ5_grow 121 = .ok (.isub, 1) := dk_100 (dk_at dksJ5_grow_5 4 rfl rfl)
theorem dJ5_grow_122 : decode cJ5_grow 122 = .ok (.invokestatic 27, 3) := dk_184 0 27 (dk_at dksJ5_grow_5 5 rfl rfl)
theorem dJ5_grow_125 : decode cJ5_grow 125 = .ok (.aload_n 0, 1) := dk_42 (dk_at dksJ5_grow_5 8 rfl rfl)
theorem dJ5_grow_126 : decode cJ5_grow 126 = .ok (.getfield 24, 3) := dk_180 0 24 (dk_at dksJ5_grow_5 9 rfl rfl)
theorem dJ5_grow_129 : decode cJ5_grow 129 = .ok (.istore 7, 2) := dk_54 7 (dk_at dksJ5_grow_5 12 rfl rfl)
theorem dJ5_grow_131 : decode cJ5_grow 131 = .ok (.aload_n 0, 1) := dk_42 (dk_at dksJ5_grow_5 14 rfl rfl)
theorem dJ5_grow_132 : decode cJ5_grow 132 = .ok (.dup, 1) := dk_89 (dk_at dksJ5_grow_5 15 rfl rfl)
theorem dJ5_grow_133 : decode cJ5_grow 133 = .ok (.getfield 24, 3) := dk_180 0 24 (dk_at dksJ5_grow_5 16 rfl rfl)
theorem dJ5_grow_136 : decode cJ5_grow 136 = .ok (.iload 6, 2) := dk_21 6 (dk_at dksJ5_grow_5 19 rfl rfl)
theorem dJ5_grow_138 : decode cJ5_grow 138 = .ok (.iadd, 1) := dk_96 (dk_at dksJ5_grow_5 21 rfl rfl)
theorem dJ5_grow_139 : decode cJ5_grow 139 = .ok (.dup_x1, 1) := dk_90 (dk_at dksJ5_grow_5 22 rfl rfl)
theorem dJ5_grow_140 : decode cJ5_grow 140 = .ok (.putfield 24, 3) := dk_181 0 24 (dk_at dksJ5_grow_6 0 rfl rfl)
theorem dJ5_grow_143 : decode cJ5_grow 143 = .ok (.istore 8, 2) := dk_54 8 (dk_at dksJ5_grow_6 3 rfl rfl)
theorem dJ5_grow_145 : decode cJ5_grow 145 = .ok (.iload 7, 2) := dk_21 7 (dk_at dksJ5_grow_6 5 rfl rfl)
theorem dJ5_grow_147 : decode cJ5_grow 147 = .ok (.iload 8, 2) := dk_21 8 (dk_at dksJ5_grow_6 7 rfl rfl)
theorem dJ5_grow_149 : decode cJ5_grow 149 = .ok (.if_icmp .ge 15, 3) := dk_162 0 15 (dk_at dksJ5_grow_6 9 rfl rfl)
theorem dJ5_grow_152 : decode cJ5_grow 152 = .ok (.aload 5, 2) := dk_25 5 (dk_at dksJ5_grow_6 12 rfl rfl)
theorem dJ5_grow_154 : decode cJ5_grow 154 = .ok (.iload 7, 2) := dk_21 7 (dk_at dksJ5_grow_6 14 rfl rfl)
theorem dJ5_grow_156 : decode cJ5_grow 156 = .ok (.aconst_null, 1) := dk_1 (dk_at dksJ5_grow_6 16 rfl rfl)
theorem dJ5_grow_157 : decode cJ5_grow 157 = .ok (.aastore, 1) := dk_83 (dk_at dksJ5_grow_6 17 rfl rfl)
theorem dJ5_grow_158 : decode cJ5_grow 158 = .ok (.iinc 7 1, 3) := dk_132 7 1 (dk_at dksJ5_grow_6 18 rfl rfl)
theorem dJ5_grow_161 : decode cJ5_grow 161 = .ok (.goto (-16), 3) := dk_167 255 240 (dk_at dksJ5_grow_6 21 rfl rfl)
theorem dJ5_grow_164 : decode cJ5_grow 164 = .ok (.return_, 1) := dk_177 (dk_at dksJ5_grow_7 0 rfl rfl)
abbrev cJ5_newCapacity : ByteArray := prog_40_method_2_code
def yJ5_newCapacity : MethodName := ⟨RJ5, "newCapacity", "(II)I"⟩
def dkwJ5_newCapacity_2 : List UInt8 := [18, 9, 100, 156, 0, 9, 29, 28, 96, 167, 0, 5, 18, 9, 172]
abbrev dktJ5_newCapacity_2 : List UInt8 := dkwJ5_newCapacity_2 ++ []
def dkwJ5_newCapacity_1 : List UInt8 := [187, 0, 33, 89, 18, 35, 183, 0, 37, 191, 18, 41, 172, 27, 28, 164, 0, 6, 21, 4, 172, 29, 28, 96]
abbrev dktJ5_newCapacity_1 : List UInt8 := dkwJ5_newCapacity_1 ++ dktJ5_newCapacity_2
def dkwJ5_newCapacity_0 : List UInt8 := [42, 180, 0, 3, 190, 62, 29, 27, 96, 89, 54, 4, 18, 9, 100, 158, 0, 21, 21, 4, 156, 0, 13]
abbrev dktJ5_newCapacity_0 : List UInt8 := dkwJ5_newCapacity_0 ++ dktJ5_newCapacity_1
theorem dksJ5_newCapacity_0 : cJ5_newCapacity.data.toList.drop 0 = dktJ5_newCapacity_0 := by decide +kernel
theorem dksJ5_newCapacity_1 : cJ5_newCapacity.data.toList.drop 23 = dktJ5_newCapacity_1 := dk_seg dksJ5_newCapacity_0 23 rfl rfl
theorem dksJ5_newCapacity_2 : cJ5_newCapacity.data.toList.drop 47 = dktJ5_newCapacity_2 := dk_seg dksJ5_newCapacity_1 24 rfl rfl
theorem dJ5_newCapacity_0 : decode cJ5_newCapacity 0 = .ok (.aload_n 0, 1) := dk_42 (dk_at dksJ5_newCapacity_0 0 rfl rfl)
theorem dJ5_newCapacity_1 : decode cJ5_newCapacity 1 = .ok (.getfield 3, 3) := dk_180 0 3 (dk_at dksJ5_newCapacity_0 1 rfl rfl)
theorem dJ5_newCapacity_4 : decode cJ5_newCapacity 4 = .ok (.arraylength, 1) := dk_190 (dk_at dksJ5_newCapacity_0 4 rfl rfl)
theorem dJ5_newCapacity_5 : decode cJ5_newCapacity 5 = .ok (.istore_n 3, 1) := dk_62 (dk_at dksJ5_newCapacity_0 5 rfl rfl)
theorem dJ5_newCapacity_6 : decode cJ5_newCapacity 6 = .ok (.iload_n 3, 1) := dk_29 (dk_at dksJ5_newCapacity_0 6 rfl rfl)
theorem dJ5_newCapacity_7 : decode cJ5_newCapacity 7 = .ok (.iload_n 1, 1) := dk_27 (dk_at dksJ5_newCapacity_0 7 rfl rfl)
theorem dJ5_newCapacity_8 : decode cJ5_newCapacity 8 = .ok (.iadd, 1) := dk_96 (dk_at dksJ5_newCapacity_0 8 rfl rfl)
theorem dJ5_newCapacity_9 : decode cJ5_newCapacity 9 = .ok (.dup, 1) := dk_89 (dk_at dksJ5_newCapacity_0 9 rfl rfl)
theorem dJ5_newCapacity_10 : decode cJ5_newCapacity 10 = .ok (.istore 4, 2) := dk_54 4 (dk_at dksJ5_newCapacity_0 10 rfl rfl)
theorem dJ5_newCapacity_12 : decode cJ5_newCapacity 12 = .ok (.ldc 9, 2) := dk_18 9 (dk_at dksJ5_newCapacity_0 12 rfl rfl)
theorem dJ5_newCapacity_14 : decode cJ5_newCapacity 14 = .ok (.isub, 1) := dk_100 (dk_at dksJ5_newCapacity_0 14 rfl rfl)
theorem dJ5_newCapacity_15 : decode cJ5_newCapacity 15 = .ok (.ifCond .le 21, 3) := dk_158 0 21 (dk_at dksJ5_newCapacity_0 15 rfl rfl)
theorem dJ5_newCapacity_18 : decode cJ5_newCapacity 18 = .ok (.iload 4, 2) := dk_21 4 (dk_at dksJ5_newCapacity_0 18 rfl rfl)
theorem dJ5_newCapacity_20 : decode cJ5_newCapacity 20 = .ok (.ifCond .ge 13, 3) := dk_156 0 13 (dk_at dksJ5_newCapacity_0 20 rfl rfl)
theorem dJ5_newCapacity_23 : decode cJ5_newCapacity 23 = .ok (.new 33, 3) := dk_187 0 33 (dk_at dksJ5_newCapacity_1 0 rfl rfl)
theorem dJ5_newCapacity_26 : decode cJ5_newCapacity 26 = .ok (.dup, 1) := dk_89 (dk_at dksJ5_newCapacity_1 3 rfl rfl)
theorem dJ5_newCapacity_27 : decode cJ5_newCapacity 27 = .ok (.ldc 35, 2) := dk_18 35 (dk_at dksJ5_newCapacity_1 4 rfl rfl)
theorem dJ5_newCapacity_29 : decode cJ5_newCapacity 29 = .ok (.invokespecial 37, 3) := dk_183 0 37 (dk_at dksJ5_newCapacity_1 6 rfl rfl)
theorem dJ5_newCapacity_32 : decode cJ5_newCapacity 32 = .ok (.athrow, 1) := dk_191 (dk_at dksJ5_newCapacity_1 9 rfl rfl)
theorem dJ5_newCapacity_33 : decode cJ5_newCapacity 33 = .ok (.ldc 41, 2) := dk_18 41 (dk_at dksJ5_newCapacity_1 10 rfl rfl)
theorem dJ5_newCapacity_35 : decode cJ5_newCapacity 35 = .ok (.ireturn, 1) := dk_172 (dk_at dksJ5_newCapacity_1 12 rfl rfl)
theorem dJ5_newCapacity_36 : decode cJ5_newCapacity 36 = .ok (.iload_n 1, 1) := dk_27 (dk_at dksJ5_newCapacity_1 13 rfl rfl)
theorem dJ5_newCapacity_37 : decode cJ5_newCapacity 37 = .ok (.iload_n 2, 1) := dk_28 (dk_at dksJ5_newCapacity_1 14 rfl rfl)
theorem dJ5_newCapacity_38 : decode cJ5_newCapacity 38 = .ok (.if_icmp .le 6, 3) := dk_164 0 6 (dk_at dksJ5_newCapacity_1 15 rfl rfl)
theorem dJ5_newCapacity_41 : decode cJ5_newCapacity 41 = .ok (.iload 4, 2) := dk_21 4 (dk_at dksJ5_newCapacity_1 18 rfl rfl)
theorem dJ5_newCapacity_43 : decode cJ5_newCapacity 43 = .ok (.ireturn, 1) := dk_172 (dk_at dksJ5_newCapacity_1 20 rfl rfl)
theorem dJ5_newCapacity_44 : decode cJ5_newCapacity 44 = .ok (.iload_n 3, 1) := dk_29 (dk_at dksJ5_newCapacity_1 21 rfl rfl)
theorem dJ5_newCapacity_45 : decode cJ5_newCapacity 45 = .ok (.iload_n 2, 1) := dk_28 (dk_at dksJ5_newCapacity_1 22 rfl rfl)
theorem dJ5_newCapacity_46 : decode cJ5_newCapacity 46 = .ok (.iadd, 1) := dk_96 (dk_at dksJ5_newCapacity_1 23 rfl rfl)
theorem dJ5_newCapacity_47 : decode cJ5_newCapacity 47 = .ok (.ldc 9, 2) := dk_18 9 (dk_at dksJ5_newCapacity_2 0 rfl rfl)
theorem dJ5_newCapacity_49 : decode cJ5_newCapacity 49 = .ok (.isub, 1) := dk_100 (dk_at dksJ5_newCapacity_2 2 rfl rfl)
theorem dJ5_newCapacity_50 : decode cJ5_newCapacity 50 = .ok (.ifCond .ge 9, 3) := dk_156 0 9 (dk_at dksJ5_newCapacity_2 3 rfl rfl)
theorem dJ5_newCapacity_53 : decode cJ5_newCapacity 53 = .ok (.iload_n 3, 1) := dk_29 (dk_at dksJ5_newCapacity_2 6 rfl rfl)
theorem dJ5_newCapacity_54 : decode cJ5_newCapacity 54 = .ok (.iload_n 2, 1) := dk_28 (dk_at dksJ5_newCapacity_2 7 rfl rfl)
theorem dJ5_newCapacity_55 : decode cJ5_newCapacity 55 = .ok (.iadd, 1) := dk_96 (dk_at dksJ5_newCapacity_2 8 rfl rfl)
theorem dJ5_newCapacity_56 : decode cJ5_newCapacity 56 = .ok (.goto 5, 3) := dk_167 0 5 (dk_at dksJ5_newCapacity_2 9 rfl rfl)
theorem dJ5_newCapacity_59 : decode cJ5_newCapacity 59 = .ok (.ldc 9, 2) := dk_18 9 (dk_at dksJ5_newCapacity_2 12 rfl rfl)
theorem dJ5_newCapacity_61 : decode cJ5_newCapacity 61 = .ok (.ireturn, 1) := dk_172 (dk_at dksJ5_newCapacity_2 14 rfl rfl)
abbrev cJ5_isEmpty : ByteArray := prog_40_method_38_code
def yJ5_isEmpty : MethodName := ⟨RJ5, "isEmpty", "()Z"⟩
def dkwJ5_isEmpty_0 : List UInt8 := [42, 180, 0, 24, 42, 180, 0, 20, 160, 0, 7, 4, 167, 0, 4, 3, 172]
abbrev dktJ5_isEmpty_0 : List UInt8 := dkwJ5_isEmpty_0 ++ []
theorem dksJ5_isEmpty_0 : cJ5_isEmpty.data.toList.drop 0 = dktJ5_isEmpty_0 := by decide +kernel
theorem dJ5_isEmpty_0 : decode cJ5_isEmpty 0 = .ok (.aload_n 0, 1) := dk_42 (dk_at dksJ5_isEmpty_0 0 rfl rfl)
theorem dJ5_isEmpty_1 : decode cJ5_isEmpty 1 = .ok (.getfield 24, 3) := dk_180 0 24 (dk_at dksJ5_isEmpty_0 1 rfl rfl)
theorem dJ5_isEmpty_4 : decode cJ5_isEmpty 4 = .ok (.aload_n 0, 1) := dk_42 (dk_at dksJ5_isEmpty_0 4 rfl rfl)
theorem dJ5_isEmpty_5 : decode cJ5_isEmpty 5 = .ok (.getfield 20, 3) := dk_180 0 20 (dk_at dksJ5_isEmpty_0 5 rfl rfl)
theorem dJ5_isEmpty_8 : decode cJ5_isEmpty 8 = .ok (.if_icmp .ne 7, 3) := dk_160 0 7 (dk_at dksJ5_isEmpty_0 8 rfl rfl)
theorem dJ5_isEmpty_11 : decode cJ5_isEmpty 11 = .ok (.iconst 1, 1) := dk_4 (dk_at dksJ5_isEmpty_0 11 rfl rfl)
theorem dJ5_isEmpty_12 : decode cJ5_isEmpty 12 = .ok (.goto 4, 3) := dk_167 0 4 (dk_at dksJ5_isEmpty_0 12 rfl rfl)
theorem dJ5_isEmpty_15 : decode cJ5_isEmpty 15 = .ok (.iconst 0, 1) := dk_3 (dk_at dksJ5_isEmpty_0 15 rfl rfl)
theorem dJ5_isEmpty_16 : decode cJ5_isEmpty 16 = .ok (.ireturn, 1) := dk_172 (dk_at dksJ5_isEmpty_0 16 rfl rfl)
abbrev cJ5_removeLast : ByteArray := prog_40_method_19_code
def yJ5_removeLast : MethodName := ⟨RJ5, "removeLast", "()Ljava/lang/Object;"⟩
def dkwJ5_removeLast_0 : List UInt8 := [42, 182, 0, 100, 76, 43, 199, 0, 11, 187, 0, 97, 89, 183, 0, 99, 191, 43, 176]
abbrev dktJ5_removeLast_0 : List UInt8 := dkwJ5_removeLast_0 ++ []
theorem dksJ5_removeLast_0 : cJ5_removeLast.data.toList.drop 0 = dktJ5_removeLast_0 := by decide +kernel
theorem dJ5_removeLast_0 : decode cJ5_removeLast 0 = .ok (.aload_n 0, 1) := dk_42 (dk_at dksJ5_removeLast_0 0 rfl rfl)
theorem dJ5_removeLast_1 : decode cJ5_removeLast 1 = .ok (.invokevirtual 100, 3) := dk_182 0 100 (dk_at dksJ5_removeLast_0 1 rfl rfl)
theorem dJ5_removeLast_4 : decode cJ5_removeLast 4 = .ok (.astore_n 1, 1) := dk_76 (dk_at dksJ5_removeLast_0 4 rfl rfl)
theorem dJ5_removeLast_5 : decode cJ5_removeLast 5 = .ok (.aload_n 1, 1) := dk_43 (dk_at dksJ5_removeLast_0 5 rfl rfl)
theorem dJ5_removeLast_6 : decode cJ5_removeLast 6 = .ok (.ifnonnull 11, 3) := dk_199 0 11 (dk_at dksJ5_removeLast_0 6 rfl rfl)
theorem dJ5_removeLast_9 : decode cJ5_removeLast 9 = .ok (.new 97, 3) := dk_187 0 97 (dk_at dksJ5_removeLast_0 9 rfl rfl)
theorem dJ5_removeLast_12 : decode cJ5_removeLast 12 = .ok (.dup, 1) := dk_89 (dk_at dksJ5_removeLast_0 12 rfl rfl)
theorem dJ5_removeLast_13 : decode cJ5_removeLast 13 = .ok (.invokespecial 99, 3) := dk_183 0 99 (dk_at dksJ5_removeLast_0 13 rfl rfl)
theorem dJ5_removeLast_16 : decode cJ5_removeLast 16 = .ok (.athrow, 1) := dk_191 (dk_at dksJ5_removeLast_0 16 rfl rfl)
theorem dJ5_removeLast_17 : decode cJ5_removeLast 17 = .ok (.aload_n 1, 1) := dk_43 (dk_at dksJ5_removeLast_0 17 rfl rfl)
theorem dJ5_removeLast_18 : decode cJ5_removeLast 18 = .ok (.areturn, 1) := dk_176 (dk_at dksJ5_removeLast_0 18 rfl rfl)
abbrev cJ5_pollLast : ByteArray := prog_40_method_21_code
def yJ5_pollLast : MethodName := ⟨RJ5, "pollLast", "()Ljava/lang/Object;"⟩
def dkwJ5_pollLast_1 : List UInt8 := [198, 0, 12, 43, 42, 28, 90, 181, 0, 20, 1, 83, 45, 176]
abbrev dktJ5_pollLast_1 : List UInt8 := dkwJ5_pollLast_1 ++ []
def dkwJ5_pollLast_0 : List UInt8 := [42, 180, 0, 3, 89, 76, 42, 180, 0, 20, 43, 190, 184, 0, 68, 89, 61, 184, 0, 103, 78, 45]
abbrev dktJ5_pollLast_0 : List UInt8 := dkwJ5_pollLast_0 ++ dktJ5_pollLast_1
theorem dksJ5_pollLast_0 : cJ5_pollLast.data.toList.drop 0 = dktJ5_pollLast_0 := by decide +kernel
theorem dksJ5_pollLast_1 : cJ5_pollLast.data.toList.drop 22 = dktJ5_pollLast_1 := dk_seg dksJ5_pollLast_0 22 rfl rfl
theorem dJ5_pollLast_0 : decode cJ5_pollLast 0 = .ok (.aload_n 0, 1) := dk_42 (dk_at dksJ5_pollLast_0 0 rfl rfl)
theorem dJ5_pollLast_1 : decode cJ5_pollLast 1 = .ok (.getfield 3, 3) := dk_180 0 3 (dk_at dksJ5_pollLast_0 1 rfl rfl)
theorem dJ5_pollLast_4 : decode cJ5_pollLast 4 = .ok (.dup, 1) := dk_89 (dk_at dksJ5_pollLast_0 4 rfl rfl)
theorem dJ5_pollLast_5 : decode cJ5_pollLast 5 = .ok (.astore_n 1, 1) := dk_76 (dk_at dksJ5_pollLast_0 5 rfl rfl)
theorem dJ5_pollLast_6 : decode cJ5_pollLast 6 = .ok (.aload_n 0, 1) := dk_42 (dk_at dksJ5_pollLast_0 6 rfl rfl)
theorem dJ5_pollLast_7 : decode cJ5_pollLast 7 = .ok (.getfield 20, 3) := dk_180 0 20 (dk_at dksJ5_pollLast_0 7 rfl rfl)
theorem dJ5_pollLast_10 : decode cJ5_pollLast 10 = .ok (.aload_n 1, 1) := dk_43 (dk_at dksJ5_pollLast_0 10 rfl rfl)
theorem dJ5_pollLast_11 : decode cJ5_pollLast 11 = .ok (.arraylength, 1) := dk_190 (dk_at dksJ5_pollLast_0 11 rfl rfl)
theorem dJ5_pollLast_12 : decode cJ5_pollLast 12 = .ok (.invokestatic 68, 3) := dk_184 0 68 (dk_at dksJ5_pollLast_0 12 rfl rfl)
theorem dJ5_pollLast_15 : decode cJ5_pollLast 15 = .ok (.dup, 1) := dk_89 (dk_at dksJ5_pollLast_0 15 rfl rfl)
theorem dJ5_pollLast_16 : decode cJ5_pollLast 16 = .ok (.istore_n 2, 1) := dk_61 (dk_at dksJ5_pollLast_0 16 rfl rfl)
theorem dJ5_pollLast_17 : decode cJ5_pollLast 17 = .ok (.invokestatic 103, 3) := dk_184 0 103 (dk_at dksJ5_pollLast_0 17 rfl rfl)
theorem dJ5_pollLast_20 : decode cJ5_pollLast 20 = .ok (.astore_n 3, 1) := dk_78 (dk_at dksJ5_pollLast_0 20 rfl rfl)
theorem dJ5_pollLast_21 : decode cJ5_pollLast 21 = .ok (.aload_n 3, 1) := dk_45 (dk_at dksJ5_pollLast_0 21 rfl rfl)
theorem dJ5_pollLast_22 : decode cJ5_pollLast 22 = .ok (.ifnull 12, 3) := dk_198 0 12 (dk_at dksJ5_pollLast_1 0 rfl rfl)
theorem dJ5_pollLast_25 : decode cJ5_pollLast 25 = .ok (.aload_n 1, 1) := dk_43 (dk_at dksJ5_pollLast_1 3 rfl rfl)
theorem dJ5_pollLast_26 : decode cJ5_pollLast 26 = .ok (.aload_n 0, 1) := dk_42 (dk_at dksJ5_pollLast_1 4 rfl rfl)
theorem dJ5_pollLast_27 : decode cJ5_pollLast 27 = .ok (.iload_n 2, 1) := dk_28 (dk_at dksJ5_pollLast_1 5 rfl rfl)
theorem dJ5_pollLast_28 : decode cJ5_pollLast 28 = .ok (.dup_x1, 1) := dk_90 (dk_at dksJ5_pollLast_1 6 rfl rfl)
theorem dJ5_pollLast_29 : decode cJ5_pollLast 29 = .ok (.putfield 20, 3) := dk_181 0 20 (dk_at dksJ5_pollLast_1 7 rfl rfl)
theorem dJ5_pollLast_32 : decode cJ5_pollLast 32 = .ok (.aconst_null, 1) := dk_1 (dk_at dksJ5_pollLast_1 10 rfl rfl)
theorem dJ5_pollLast_33 : decode cJ5_pollLast 33 = .ok (.aastore, 1) := dk_83 (dk_at dksJ5_pollLast_1 11 rfl rfl)
theorem dJ5_pollLast_34 : decode cJ5_pollLast 34 = .ok (.aload_n 3, 1) := dk_45 (dk_at dksJ5_pollLast_1 12 rfl rfl)
theorem dJ5_pollLast_35 : decode cJ5_pollLast 35 = .ok (.areturn, 1) := dk_176 (dk_at dksJ5_pollLast_1 13 rfl rfl)
abbrev cJ5_dec : ByteArray := prog_40_method_7_code
def yJ5_dec : MethodName := ⟨RJ5, "dec", "(II)I"⟩
def dkwJ5_dec_0 : List UInt8 := [132, 0, 255, 26, 156, 0, 7, 27, 4, 100, 59, 26, 172]
abbrev dktJ5_dec_0 : List UInt8 := dkwJ5_dec_0 ++ []
theorem dksJ5_dec_0 : cJ5_dec.data.toList.drop 0 = dktJ5_dec_0 := by decide +kernel
theorem dJ5_dec_0 : decode cJ5_dec 0 = .ok (.iinc 0 (-1), 3) := dk_132 0 255 (dk_at dksJ5_dec_0 0 rfl rfl)
theorem dJ5_dec_3 : decode cJ5_dec 3 = .ok (.iload_n 0, 1) := dk_26 (dk_at dksJ5_dec_0 3 rfl rfl)
theorem dJ5_dec_4 : decode cJ5_dec 4 = .ok (.ifCond .ge 7, 3) := dk_156 0 7 (dk_at dksJ5_dec_0 4 rfl rfl)
theorem dJ5_dec_7 : decode cJ5_dec 7 = .ok (.iload_n 1, 1) := dk_27 (dk_at dksJ5_dec_0 7 rfl rfl)
theorem dJ5_dec_8 : decode cJ5_dec 8 = .ok (.iconst 1, 1) := dk_4 (dk_at dksJ5_dec_0 8 rfl rfl)
theorem dJ5_dec_9 : decode cJ5_dec 9 = .ok (.isub, 1) := dk_100 (dk_at dksJ5_dec_0 9 rfl rfl)
theorem dJ5_dec_10 : decode cJ5_dec 10 = .ok (.istore_n 0, 1) := dk_59 (dk_at dksJ5_dec_0 10 rfl rfl)
theorem dJ5_dec_11 : decode cJ5_dec 11 = .ok (.iload_n 0, 1) := dk_26 (dk_at dksJ5_dec_0 11 rfl rfl)
theorem dJ5_dec_12 : decode cJ5_dec 12 = .ok (.ireturn, 1) := dk_172 (dk_at dksJ5_dec_0 12 rfl rfl)
theorem q135 : (Jvm.Cond.initialized "java/util/ArrayDeque") ∈ lw_all := lw_g (lw_at lw_m1 8 rfl) rfl
theorem q239 : (Jvm.Cond.instantiable "java/util/ArrayDeque" (3 : Nat)) ∈ lw_all := lw_g (lw_at lw_m1 112 rfl) rfl
theorem q241 : (Jvm.Cond.instanceMethod ({ cls := "java/util/ArrayDeque", name := "<init>", desc := "(I)V" } : Jvm.MethodName)) ∈ lw_all := lw_g (lw_at lw_m1 114 rfl) rfl
theorem q242 : (Jvm.Cond.code ({ cls := "java/util/ArrayDeque", name := "<init>", desc := "(I)V" } : Jvm.MethodName) prog_40_method_4_code (2 : Nat) (Option.none : Option Jvm.ClassFile.FieldType)) ∈ lw_all := lw_g (lw_at lw_m1 115 rfl) rfl
theorem q243 : (Jvm.Cond.methodLink "java/util/ArrayDeque" (42 : Nat) ({ cls := "java/util/AbstractCollection", name := "<init>", desc := "()V" } : Jvm.MethodName)) ∈ lw_all := lw_g (lw_at lw_m1 116 rfl) rfl
theorem q244 : (Jvm.Cond.constant "java/util/ArrayDeque" (41 : Nat) (2147483647 : Int32)) ∈ lw_all := lw_g (lw_at lw_m1 117 rfl) rfl
theorem q245 : (Jvm.Cond.classLink "java/util/ArrayDeque" (47 : Nat) "java/lang/Object") ∈ lw_all := lw_g (lw_at lw_m1 118 rfl) rfl
theorem q247 : (Jvm.Cond.fieldLink "java/util/ArrayDeque" (3 : Nat) "java/util/ArrayDeque" "elements" "[Ljava/lang/Object;") ∈ lw_all := lw_g (lw_at lw_m1 120 rfl) rfl
theorem q248 : (Jvm.Cond.fieldLink "java/util/ArrayDeque" (24 : Nat) "java/util/ArrayDeque" "head" "I") ∈ lw_all := lw_g (lw_at lw_m1 121 rfl) rfl
theorem q249 : (Jvm.Cond.fieldLink "java/util/ArrayDeque" (20 : Nat) "java/util/ArrayDeque" "tail" "I") ∈ lw_all := lw_g (lw_at lw_m1 122 rfl) rfl
theorem q250 : (Jvm.Cond.lays "java/util/ArrayDeque" "java/util/ArrayDeque" "elements" "[Ljava/lang/Object;") ∈ lw_all := lw_g (lw_at lw_m1 123 rfl) rfl
theorem q251 : (Jvm.Cond.soleField "java/util/ArrayDeque" "elements") ∈ lw_all := lw_g (lw_at lw_m1 124 rfl) rfl
theorem q252 : (Jvm.Cond.lays "java/util/ArrayDeque" "java/util/ArrayDeque" "head" "I") ∈ lw_all := lw_g (lw_at lw_m1 125 rfl) rfl
theorem q253 : (Jvm.Cond.soleField "java/util/ArrayDeque" "head") ∈ lw_all := lw_g (lw_at lw_m1 126 rfl) rfl
theorem q254 : (Jvm.Cond.lays "java/util/ArrayDeque" "java/util/ArrayDeque" "tail" "I") ∈ lw_all := lw_g (lw_at lw_m1 127 rfl) rfl
theorem q255 : (Jvm.Cond.soleField "java/util/ArrayDeque" "tail") ∈ lw_all := lw_g (lw_at lw_m1 128 rfl) rfl
theorem q256 : (Jvm.Cond.superclass "java/util/ArrayDeque" "java/util/AbstractCollection") ∈ lw_all := lw_g (lw_at lw_m1 129 rfl) rfl
theorem q785 : (Jvm.Cond.selects "java/util/ArrayDeque" ({ cls := "java/lang/Object", name := "getClass", desc := "()Ljava/lang/Class;" } : Jvm.MethodName) ({ cls := "java/lang/Object", name := "getClass", desc := "()Ljava/lang/Class;" } : Jvm.MethodName)) ∈ lw_all := lw_g (lw_at lw_m3 178 rfl) rfl
theorem q918 : (Jvm.Cond.instanceMethod ({ cls := "java/util/ArrayDeque", name := "clear", desc := "()V" } : Jvm.MethodName)) ∈ lw_all := lw_g (lw_at lw_m4 71 rfl) rfl
theorem q919 : (Jvm.Cond.selects "java/util/ArrayDeque" ({ cls := "java/util/ArrayDeque", name := "clear", desc := "()V" } : Jvm.MethodName) ({ cls := "java/util/ArrayDeque", name := "clear", desc := "()V" } : Jvm.MethodName)) ∈ lw_all := lw_g (lw_at lw_m4 72 rfl) rfl
theorem q920 : (Jvm.Cond.code ({ cls := "java/util/ArrayDeque", name := "clear", desc := "()V" } : Jvm.MethodName) prog_40_method_53_code (1 : Nat) (Option.none : Option Jvm.ClassFile.FieldType)) ∈ lw_all := lw_g (lw_at lw_m4 73 rfl) rfl
theorem q921 : (Jvm.Cond.methodLink "java/util/ArrayDeque" (181 : Nat) ({ cls := "java/util/ArrayDeque", name := "circularClear", desc := "([Ljava/lang/Object;II)V" } : Jvm.MethodName)) ∈ lw_all := lw_g (lw_at lw_m4 74 rfl) rfl
theorem q922 : (Jvm.Cond.static ({ cls := "java/util/ArrayDeque", name := "circularClear", desc := "([Ljava/lang/Object;II)V" } : Jvm.MethodName)) ∈ lw_all := lw_g (lw_at lw_m4 75 rfl) rfl
theorem q923 : (Jvm.Cond.code ({ cls := "java/util/ArrayDeque", name := "circularClear", desc := "([Ljava/lang/Object;II)V" } : Jvm.MethodName) prog_40_method_54_code (4 : Nat) (Option.none : Option Jvm.ClassFile.FieldType)) ∈ lw_all := lw_g (lw_at lw_m4 76 rfl) rfl
theorem q1615 : (Jvm.Cond.instanceMethod ({ cls := "java/util/ArrayDeque", name := "size", desc := "()I" } : Jvm.MethodName)) ∈ lw_all := lw_g (lw_at lw_m7 48 rfl) rfl
theorem q1616 : (Jvm.Cond.selects "java/util/ArrayDeque" ({ cls := "java/util/ArrayDeque", name := "size", desc := "()I" } : Jvm.MethodName) ({ cls := "java/util/ArrayDeque", name := "size", desc := "()I" } : Jvm.MethodName)) ∈ lw_all := lw_g (lw_at lw_m7 49 rfl) rfl
theorem q1617 : (Jvm.Cond.code ({ cls := "java/util/ArrayDeque", name := "size", desc := "()I" } : Jvm.MethodName) prog_40_method_37_code (1 : Nat) (Option.some Jvm.ClassFile.FieldType.int)) ∈ lw_all := lw_g (lw_at lw_m7 50 rfl) rfl
theorem q1618 : (Jvm.Cond.methodLink "java/util/ArrayDeque" (127 : Nat) ({ cls := "java/util/ArrayDeque", name := "sub", desc := "(III)I" } : Jvm.MethodName)) ∈ lw_all := lw_g (lw_at lw_m7 51 rfl) rfl
theorem q1619 : (Jvm.Cond.static ({ cls := "java/util/ArrayDeque", name := "sub", desc := "(III)I" } : Jvm.MethodName)) ∈ lw_all := lw_g (lw_at lw_m7 52 rfl) rfl
theorem q1620 : (Jvm.Cond.code ({ cls := "java/util/ArrayDeque", name := "sub", desc := "(III)I" } : Jvm.MethodName) prog_40_method_9_code (3 : Nat) (Option.some Jvm.ClassFile.FieldType.int)) ∈ lw_all := lw_g (lw_at lw_m7 53 rfl) rfl
theorem q1622 : (Jvm.Cond.instanceMethod ({ cls := "java/util/ArrayDeque", name := "removeFirst", desc := "()Ljava/lang/Object;" } : Jvm.MethodName)) ∈ lw_all := lw_g (lw_at lw_m7 55 rfl) rfl
theorem q1623 : (Jvm.Cond.selects "java/util/ArrayDeque" ({ cls := "java/util/ArrayDeque", name := "removeFirst", desc := "()Ljava/lang/Object;" } : Jvm.MethodName) ({ cls := "java/util/ArrayDeque", name := "removeFirst", desc := "()Ljava/lang/Object;" } : Jvm.MethodName)) ∈ lw_all := lw_g (lw_at lw_m7 56 rfl) rfl
theorem q1624 : (Jvm.Cond.code ({ cls := "java/util/ArrayDeque", name := "removeFirst", desc := "()Ljava/lang/Object;" } : Jvm.MethodName) prog_40_method_18_code (2 : Nat) (Option.some (Jvm.ClassFile.FieldType.object "java/lang/Object"))) ∈ lw_all := lw_g (lw_at lw_m7 57 rfl) rfl
theorem q1625 : (Jvm.Cond.methodLink "java/util/ArrayDeque" (93 : Nat) ({ cls := "java/util/ArrayDeque", name := "pollFirst", desc := "()Ljava/lang/Object;" } : Jvm.MethodName)) ∈ lw_all := lw_g (lw_at lw_m7 58 rfl) rfl
theorem q1626 : (Jvm.Cond.instanceMethod ({ cls := "java/util/ArrayDeque", name := "pollFirst", desc := "()Ljava/lang/Object;" } : Jvm.MethodName)) ∈ lw_all := lw_g (lw_at lw_m7 59 rfl) rfl
theorem q1627 : (Jvm.Cond.selects "java/util/ArrayDeque" ({ cls := "java/util/ArrayDeque", name := "pollFirst", desc := "()Ljava/lang/Object;" } : Jvm.MethodName) ({ cls := "java/util/ArrayDeque", name := "pollFirst", desc := "()Ljava/lang/Object;" } : Jvm.MethodName)) ∈ lw_all := lw_g (lw_at lw_m7 60 rfl) rfl
theorem q1628 : (Jvm.Cond.code ({ cls := "java/util/ArrayDeque", name := "pollFirst", desc := "()Ljava/lang/Object;" } : Jvm.MethodName) prog_40_method_20_code (4 : Nat) (Option.some (Jvm.ClassFile.FieldType.object "java/lang/Object"))) ∈ lw_all := lw_g (lw_at lw_m7 61 rfl) rfl
theorem q1629 : (Jvm.Cond.methodLink "java/util/ArrayDeque" (103 : Nat) ({ cls := "java/util/ArrayDeque", name := "elementAt", desc := "([Ljava/lang/Object;I)Ljava/lang/Object;" } : Jvm.MethodName)) ∈ lw_all := lw_g (lw_at lw_m7 62 rfl) rfl
theorem q1630 : (Jvm.Cond.static ({ cls := "java/util/ArrayDeque", name := "elementAt", desc := "([Ljava/lang/Object;I)Ljava/lang/Object;" } : Jvm.MethodName)) ∈ lw_all := lw_g (lw_at lw_m7 63 rfl) rfl
theorem q1631 : (Jvm.Cond.code ({ cls := "java/util/ArrayDeque", name := "elementAt", desc := "([Ljava/lang/Object;I)Ljava/lang/Object;" } : Jvm.MethodName) prog_40_method_10_code (2 : Nat) (Option.some (Jvm.ClassFile.FieldType.object "java/lang/Object"))) ∈ lw_all := lw_g (lw_at lw_m7 64 rfl) rfl
theorem q1632 : (Jvm.Cond.methodLink "java/util/ArrayDeque" (74 : Nat) ({ cls := "java/util/ArrayDeque", name := "inc", desc := "(II)I" } : Jvm.MethodName)) ∈ lw_all := lw_g (lw_at lw_m7 65 rfl) rfl
theorem q1633 : (Jvm.Cond.static ({ cls := "java/util/ArrayDeque", name := "inc", desc := "(II)I" } : Jvm.MethodName)) ∈ lw_all := lw_g (lw_at lw_m7 66 rfl) rfl
theorem q1634 : (Jvm.Cond.code ({ cls := "java/util/ArrayDeque", name := "inc", desc := "(II)I" } : Jvm.MethodName) prog_40_method_6_code (2 : Nat) (Option.some Jvm.ClassFile.FieldType.int)) ∈ lw_all := lw_g (lw_at lw_m7 67 rfl) rfl
theorem q1635 : (Jvm.Cond.classLink "java/util/ArrayDeque" (97 : Nat) "java/util/NoSuchElementException") ∈ lw_all := lw_g (lw_at lw_m7 68 rfl) rfl
theorem q1636 : (Jvm.Cond.methodLink "java/util/ArrayDeque" (99 : Nat) ({ cls := "java/util/NoSuchElementException", name := "<init>", desc := "()V" } : Jvm.MethodName)) ∈ lw_all := lw_g (lw_at lw_m7 69 rfl) rfl
theorem q1657 : (Jvm.Cond.instanceMethod ({ cls := "java/util/ArrayDeque", name := "addLast", desc := "(Ljava/lang/Object;)V" } : Jvm.MethodName)) ∈ lw_all := lw_g (lw_at lw_m7 90 rfl) rfl
theorem q1658 : (Jvm.Cond.selects "java/util/ArrayDeque" ({ cls := "java/util/ArrayDeque", name := "addLast", desc := "(Ljava/lang/Object;)V" } : Jvm.MethodName) ({ cls := "java/util/ArrayDeque", name := "addLast", desc := "(Ljava/lang/Object;)V" } : Jvm.MethodName)) ∈ lw_all := lw_g (lw_at lw_m7 91 rfl) rfl
theorem q1659 : (Jvm.Cond.code ({ cls := "java/util/ArrayDeque", name := "addLast", desc := "(Ljava/lang/Object;)V" } : Jvm.MethodName) prog_40_method_13_code (3 : Nat) (Option.none : Option Jvm.ClassFile.FieldType)) ∈ lw_all := lw_g (lw_at lw_m7 92 rfl) rfl
theorem q1660 : (Jvm.Cond.methodLink "java/util/ArrayDeque" (71 : Nat) ({ cls := "java/util/ArrayDeque", name := "grow", desc := "(I)V" } : Jvm.MethodName)) ∈ lw_all := lw_g (lw_at lw_m7 93 rfl) rfl
theorem q1661 : (Jvm.Cond.privateMethod ({ cls := "java/util/ArrayDeque", name := "grow", desc := "(I)V" } : Jvm.MethodName)) ∈ lw_tbl := lw_at lw_m7 94 rfl
theorem q1662 : (Jvm.Cond.instanceMethod ({ cls := "java/util/ArrayDeque", name := "grow", desc := "(I)V" } : Jvm.MethodName)) ∈ lw_all := lw_g (lw_at lw_m7 95 rfl) rfl
theorem q1663 : (Jvm.Cond.code ({ cls := "java/util/ArrayDeque", name := "grow", desc := "(I)V" } : Jvm.MethodName) prog_40_method_1_code (9 : Nat) (Option.none : Option Jvm.ClassFile.FieldType)) ∈ lw_all := lw_g (lw_at lw_m7 96 rfl) rfl
theorem q1664 : (Jvm.Cond.constant "java/util/ArrayDeque" (9 : Nat) (2147483639 : Int32)) ∈ lw_all := lw_g (lw_at lw_m7 97 rfl) rfl
theorem q1665 : (Jvm.Cond.methodLink "java/util/ArrayDeque" (10 : Nat) ({ cls := "java/util/ArrayDeque", name := "newCapacity", desc := "(II)I" } : Jvm.MethodName)) ∈ lw_all := lw_g (lw_at lw_m7 98 rfl) rfl
theorem q1666 : (Jvm.Cond.privateMethod ({ cls := "java/util/ArrayDeque", name := "newCapacity", desc := "(II)I" } : Jvm.MethodName)) ∈ lw_tbl := lw_at lw_m7 99 rfl
theorem q1667 : (Jvm.Cond.instanceMethod ({ cls := "java/util/ArrayDeque", name := "newCapacity", desc := "(II)I" } : Jvm.MethodName)) ∈ lw_all := lw_g (lw_at lw_m7 100 rfl) rfl
theorem q1668 : (Jvm.Cond.code ({ cls := "java/util/ArrayDeque", name := "newCapacity", desc := "(II)I" } : Jvm.MethodName) prog_40_method_2_code (5 : Nat) (Option.some Jvm.ClassFile.FieldType.int)) ∈ lw_all := lw_g (lw_at lw_m7 101 rfl) rfl
theorem q1669 : (Jvm.Cond.methodLink "java/util/ArrayDeque" (14 : Nat) ({ cls := "java/util/Arrays", name := "copyOf", desc := "([Ljava/lang/Object;I)[Ljava/lang/Object;" } : Jvm.MethodName)) ∈ lw_all := lw_g (lw_at lw_m7 102 rfl) rfl
theorem q1670 : (Jvm.Cond.methodLink "java/util/ArrayDeque" (27 : Nat) ({ cls := "java/lang/System", name := "arraycopy", desc := "(Ljava/lang/Object;ILjava/lang/Object;II)V" } : Jvm.MethodName)) ∈ lw_all := lw_g (lw_at lw_m7 103 rfl) rfl
theorem q1736 : (Jvm.Cond.instanceMethod ({ cls := "java/util/ArrayDeque", name := "isEmpty", desc := "()Z" } : Jvm.MethodName)) ∈ lw_all := lw_g (lw_at lw_m7 169 rfl) rfl
theorem q1737 : (Jvm.Cond.selects "java/util/ArrayDeque" ({ cls := "java/util/ArrayDeque", name := "isEmpty", desc := "()Z" } : Jvm.MethodName) ({ cls := "java/util/ArrayDeque", name := "isEmpty", desc := "()Z" } : Jvm.MethodName)) ∈ lw_all := lw_g (lw_at lw_m7 170 rfl) rfl
theorem q1738 : (Jvm.Cond.code ({ cls := "java/util/ArrayDeque", name := "isEmpty", desc := "()Z" } : Jvm.MethodName) prog_40_method_38_code (1 : Nat) (Option.some Jvm.ClassFile.FieldType.boolean)) ∈ lw_all := lw_g (lw_at lw_m7 171 rfl) rfl
theorem q1740 : (Jvm.Cond.instanceMethod ({ cls := "java/util/ArrayDeque", name := "removeLast", desc := "()Ljava/lang/Object;" } : Jvm.MethodName)) ∈ lw_all := lw_g (lw_at lw_m7 173 rfl) rfl
theorem q1741 : (Jvm.Cond.selects "java/util/ArrayDeque" ({ cls := "java/util/ArrayDeque", name := "removeLast", desc := "()Ljava/lang/Object;" } : Jvm.MethodName) ({ cls := "java/util/ArrayDeque", name := "removeLast", desc := "()Ljava/lang/Object;" } : Jvm.MethodName)) ∈ lw_all := lw_g (lw_at lw_m7 174 rfl) rfl
theorem q1742 : (Jvm.Cond.code ({ cls := "java/util/ArrayDeque", name := "removeLast", desc := "()Ljava/lang/Object;" } : Jvm.MethodName) prog_40_method_19_code (2 : Nat) (Option.some (Jvm.ClassFile.FieldType.object "java/lang/Object"))) ∈ lw_all := lw_g (lw_at lw_m7 175 rfl) rfl
theorem q1743 : (Jvm.Cond.methodLink "java/util/ArrayDeque" (100 : Nat) ({ cls := "java/util/ArrayDeque", name := "pollLast", desc := "()Ljava/lang/Object;" } : Jvm.MethodName)) ∈ lw_all := lw_g (lw_at lw_m7 176 rfl) rfl
theorem q1744 : (Jvm.Cond.instanceMethod ({ cls := "java/util/ArrayDeque", name := "pollLast", desc := "()Ljava/lang/Object;" } : Jvm.MethodName)) ∈ lw_all := lw_g (lw_at lw_m7 177 rfl) rfl
theorem q1745 : (Jvm.Cond.selects "java/util/ArrayDeque" ({ cls := "java/util/ArrayDeque", name := "pollLast", desc := "()Ljava/lang/Object;" } : Jvm.MethodName) ({ cls := "java/util/ArrayDeque", name := "pollLast", desc := "()Ljava/lang/Object;" } : Jvm.MethodName)) ∈ lw_all := lw_g (lw_at lw_m7 178 rfl) rfl
theorem q1746 : (Jvm.Cond.code ({ cls := "java/util/ArrayDeque", name := "pollLast", desc := "()Ljava/lang/Object;" } : Jvm.MethodName) prog_40_method_21_code (4 : Nat) (Option.some (Jvm.ClassFile.FieldType.object "java/lang/Object"))) ∈ lw_all := lw_g (lw_at lw_m7 179 rfl) rfl
theorem q1747 : (Jvm.Cond.methodLink "java/util/ArrayDeque" (68 : Nat) ({ cls := "java/util/ArrayDeque", name := "dec", desc := "(II)I" } : Jvm.MethodName)) ∈ lw_all := lw_g (lw_at lw_m7 180 rfl) rfl
theorem q1748 : (Jvm.Cond.static ({ cls := "java/util/ArrayDeque", name := "dec", desc := "(II)I" } : Jvm.MethodName)) ∈ lw_all := lw_g (lw_at lw_m7 181 rfl) rfl
theorem q1749 : (Jvm.Cond.code ({ cls := "java/util/ArrayDeque", name := "dec", desc := "(II)I" } : Jvm.MethodName) prog_40_method_7_code (2 : Nat) (Option.some Jvm.ClassFile.FieldType.int)) ∈ lw_all := lw_g (lw_at lw_m7 182 rfl) rfl
theorem q2393 : (Jvm.Cond.castable "java/util/ArrayDeque" "java/lang/Object") ∈ lw_tbl := lw_at lw_m10 106 rfl

/-! java/util/ArrayList -/
set_option maxRecDepth 100000
abbrev cJ7_init : ByteArray := prog_41_method_2_code
def yJ7_init : MethodName := ⟨RJ7, "<init>", "()V"⟩
def dkwJ7_init_0 : List UInt8 := [42, 183, 0, 1, 42, 178, 0, 39, 181, 0, 9, 177]
abbrev dktJ7_init_0 : List UInt8 := dkwJ7_init_0 ++ []
theorem dksJ7_init_0 : cJ7_init.data.toList.drop 0 = dktJ7_init_0 := by decide +kernel
theorem dJ7_init_0 : decode cJ7_init 0 = .ok (.aload_n 0, 1) := dk_42 (dk_at dksJ7_init_0 0 rfl rfl)
theorem dJ7_init_1 : decode cJ7_init 1 = .ok (.invokespecial 1, 3) := dk_183 0 1 (dk_at dksJ7_init_0 1 rfl rfl)
theorem dJ7_init_4 : decode cJ7_init 4 = .ok (.aload_n 0, 1) := dk_42 (dk_at dksJ7_init_0 4 rfl rfl)
theorem dJ7_init_5 : decode cJ7_init 5 = .ok (.getstatic 39, 3) := dk_178 0 39 (dk_at dksJ7_init_0 5 rfl rfl)
theorem dJ7_init_8 : decode cJ7_init 8 = .ok (.putfield 9, 3) := dk_181 0 9 (dk_at dksJ7_init_0 8 rfl rfl)
theorem dJ7_init_11 : decode cJ7_init 11 = .ok (.return_, 1) := dk_177 (dk_at dksJ7_init_0 11 rfl rfl)
abbrev cJ7_size : ByteArray := prog_41_method_8_code
def yJ7_size : MethodName := ⟨RJ7, "size", "()I"⟩
theorem dJ7_size_0 : decode cJ7_size 0 = .ok (.aload_n 0, 1) := by decide +kernel
theorem dJ7_size_1 : decode cJ7_size 1 = .ok (.getfield 48, 3) := by decide +kernel
theorem dJ7_size_4 : decode cJ7_size 4 = .ok (.ireturn, 1) := by decide +kernel
abbrev cJ7_get : ByteArray := prog_41_method_20_code
def yJ7_get : MethodName := ⟨RJ7, "get", "(I)Ljava/lang/Object;"⟩
def dkwJ7_get_0 : List UInt8 := [27, 42, 180, 0, 48, 184, 0, 118, 87, 42, 27, 182, 0, 123, 176]
abbrev dktJ7_get_0 : List UInt8 := dkwJ7_get_0 ++ []
theorem dksJ7_get_0 : cJ7_get.data.toList.drop 0 = dktJ7_get_0 := by decide +kernel
theorem dJ7_get_0 : decode cJ7_get 0 = .ok (.iload_n 1, 1) := dk_27 (dk_at dksJ7_get_0 0 rfl rfl)
theorem dJ7_get_1 : decode cJ7_get 1 = .ok (.aload_n 0, 1) := dk_42 (dk_at dksJ7_get_0 1 rfl rfl)
theorem dJ7_get_2 : decode cJ7_get 2 = .ok (.getfield 48, 3) := dk_180 0 48 (dk_at dksJ7_get_0 2 rfl rfl)
theorem dJ7_get_5 : decode cJ7_get 5 = .ok (.invokestatic 118, 3) := dk_184 0 118 (dk_at dksJ7_get_0 5 rfl rfl)
theorem dJ7_get_8 : decode cJ7_get 8 = .ok (.pop, 1) := dk_87 (dk_at dksJ7_get_0 8 rfl rfl)
theorem dJ7_get_9 : decode cJ7_get 9 = .ok (.aload_n 0, 1) := dk_42 (dk_at dksJ7_get_0 9 rfl rfl)
theorem dJ7_get_10 : decode cJ7_get 10 = .ok (.iload_n 1, 1) := dk_27 (dk_at dksJ7_get_0 10 rfl rfl)
theorem dJ7_get_11 : decode cJ7_get 11 = .ok (.invokevirtual 123, 3) := dk_182 0 123 (dk_at dksJ7_get_0 11 rfl rfl)
theorem dJ7_get_14 : decode cJ7_get 14 = .ok (.areturn, 1) := dk_176 (dk_at dksJ7_get_0 14 rfl rfl)
abbrev cJ7_elementData : ByteArray := prog_41_method_18_code
def yJ7_elementData : MethodName := ⟨RJ7, "elementData", "(I)Ljava/lang/Object;"⟩
def dkwJ7_elementData_0 : List UInt8 := [42, 180, 0, 9, 27, 50, 176]
abbrev dktJ7_elementData_0 : List UInt8 := dkwJ7_elementData_0 ++ []
theorem dksJ7_elementData_0 : cJ7_elementData.data.toList.drop 0 = dktJ7_elementData_0 := by decide +kernel
theorem dJ7_elementData_0 : decode cJ7_elementData 0 = .ok (.aload_n 0, 1) := dk_42 (dk_at dksJ7_elementData_0 0 rfl rfl)
theorem dJ7_elementData_1 : decode cJ7_elementData 1 = .ok (.getfield 9, 3) := dk_180 0 9 (dk_at dksJ7_elementData_0 1 rfl rfl)
theorem dJ7_elementData_4 : decode cJ7_elementData 4 = .ok (.iload_n 1, 1) := dk_27 (dk_at dksJ7_elementData_0 4 rfl rfl)
theorem dJ7_elementData_5 : decode cJ7_elementData 5 = .ok (.aaload, 1) := dk_50 (dk_at dksJ7_elementData_0 5 rfl rfl)
theorem dJ7_elementData_6 : decode cJ7_elementData 6 = .ok (.areturn, 1) := dk_176 (dk_at dksJ7_elementData_0 6 rfl rfl)
abbrev cJ7_add : ByteArray := prog_41_method_25_code
def yJ7_add : MethodName := ⟨RJ7, "add", "(Ljava/lang/Object;)Z"⟩
def dkwJ7_add_1 : List UInt8 := [172]
abbrev dktJ7_add_1 : List UInt8 := dkwJ7_add_1 ++ []
def dkwJ7_add_0 : List UInt8 := [42, 89, 180, 0, 63, 4, 96, 181, 0, 63, 42, 43, 42, 180, 0, 9, 42, 180, 0, 48, 182, 0, 131, 4]
abbrev dktJ7_add_0 : List UInt8 := dkwJ7_add_0 ++ dktJ7_add_1
theorem dksJ7_add_0 : cJ7_add.data.toList.drop 0 = dktJ7_add_0 := by decide +kernel
theorem dksJ7_add_1 : cJ7_add.data.toList.drop 24 = dktJ7_add_1 := dk_seg dksJ7_add_0 24 rfl rfl
theorem dJ7_add_0 : decode cJ7_add 0 = .ok (.aload_n 0, 1) := dk_42 (dk_at dksJ7_add_0 0 rfl rfl)
theorem dJ7_add_1 : decode cJ7_add 1 = .ok (.dup, 1) := dk_89 (dk_at dksJ7_add_0 1 rfl rfl)
theorem dJ7_add_2 : decode cJ7_add 2 = .ok (.getfield 63, 3) := dk_180 0 63 (dk_at dksJ7_add_0 2 rfl rfl)
theorem dJ7_add_5 : decode cJ7_add 5 = .ok (.iconst 1, 1) := dk_4 (dk_at dksJ7_add_0 5 rfl rfl)
theorem dJ7_add_6 : decode cJ7_add 6 = .ok (.iadd, 1) := dk_96 (dk_at dksJ7_add_0 6 rfl rfl)
theorem dJ7_add_7 : decode cJ7_add 7 = .ok (.putfield 63, 3) := dk_181 0 63 (dk_at dksJ7_add_0 7 rfl rfl)
theorem dJ7_add_10 : decode cJ7_add 10 = .ok (.aload_n 0, 1) := dk_42 (dk_at dksJ7_add_0 10 rfl rfl)
theorem dJ7_add_11 : decode cJ7_add 11 = .ok (.aload_n 1, 1) := dk_43 (dk_at dksJ7_add_0 11 rfl rfl)
theorem dJ7_add_12 : decode cJ7_add 12 = .ok (.aload_n 0, 1) := dk_42 (dk_at dksJ7_add_0 12 rfl rfl)
theorem dJ7_add_13 : decode cJ7_add 13 = .ok (.getfield 9, 3) := dk_180 0 9 (dk_at dksJ7_add_0 13 rfl rfl)
theorem dJ7_add_16 : decode cJ7_add 16 = .ok (.aload_n 0, 1) := dk_42 (dk_at dksJ7_add_0 16 rfl rfl)
theorem dJ7_add_17 : decode cJ7_add 17 = .ok (.getfield 48, 3) := dk_180 0 48 (dk_at dksJ7_add_0 17 rfl rfl)
theorem dJ7_add_20 : decode cJ7_add 20 = .ok (.invokevirtual 131, 3) := dk_182 0 131 (dk_at dksJ7_add_0 20 rfl rfl)
theorem dJ7_add_23 : decode cJ7_add 23 = .ok (.iconst 1, 1) := dk_4 (dk_at dksJ7_add_0 23 rfl rfl)
theorem dJ7_add_24 : decode cJ7_add 24 = .ok (.ireturn, 1) := dk_172 (dk_at dksJ7_add_1 0 rfl rfl)
abbrev cJ7_add_2 : ByteArray := prog_41_method_24_code
def yJ7_add_2 : MethodName := ⟨RJ7, "add", "(Ljava/lang/Object;[Ljava/lang/Object;I)V"⟩
def dkwJ7_add_2_0 : List UInt8 := [29, 44, 190, 160, 0, 8, 42, 182, 0, 129, 77, 44, 29, 43, 83, 42, 29, 4, 96, 181, 0, 48, 177]
abbrev dktJ7_add_2_0 : List UInt8 := dkwJ7_add_2_0 ++ []
theorem dksJ7_add_2_0 : cJ7_add_2.data.toList.drop 0 = dktJ7_add_2_0 := by decide +kernel
theorem dJ7_add_2_0 : decode cJ7_add_2 0 = .ok (.iload_n 3, 1) := dk_29 (dk_at dksJ7_add_2_0 0 rfl rfl)
theorem dJ7_add_2_1 : decode cJ7_add_2 1 = .ok (.aload_n 2, 1) := dk_44 (dk_at dksJ7_add_2_0 1 rfl rfl)
theorem dJ7_add_2_2 : decode cJ7_add_2 2 = .ok (.arraylength, 1) := dk_190 (dk_at dksJ7_add_2_0 2 rfl rfl)
theorem dJ7_add_2_3 : decode cJ7_add_2 3 = .ok (.if_icmp .ne 8, 3) := dk_160 0 8 (dk_at dksJ7_add_2_0 3 rfl rfl)
theorem dJ7_add_2_6 : decode cJ7_add_2 6 = .ok (.aload_n 0, 1) := dk_42 (dk_at dksJ7_add_2_0 6 rfl rfl)
theorem dJ7_add_2_7 : decode cJ7_add_2 7 = .ok (.invokevirtual 129, 3) := dk_182 0 129 (dk_at dksJ7_add_2_0 7 rfl rfl)
theorem dJ7_add_2_10 : decode cJ7_add_2 10 = .ok (.astore_n 2, 1) := dk_77 (dk_at dksJ7_add_2_0 10 rfl rfl)
theorem dJ7_add_2_11 : decode cJ7_add_2 11 = .ok (.aload_n 2, 1) := dk_44 (dk_at dksJ7_add_2_0 11 rfl rfl)
theorem dJ7_add_2_12 : decode cJ7_add_2 12 = .ok (.iload_n 3, 1) := dk_29 (dk_at dksJ7_add_2_0 12 rfl rfl)
theorem dJ7_add_2_13 : decode cJ7_add_2 13 = .ok (.aload_n 1, 1) := dk_43 (dk_at dksJ7_add_2_0 13 rfl rfl)
theorem dJ7_add_2_14 : decode cJ7_add_2 14 = .ok (.aastore, 1) := dk_83 (dk_at dksJ7_add_2_0 14 rfl rfl)
theorem dJ7_add_2_15 : decode cJ7_add_2 15 = .ok (.aload_n 0, 1) := dk_42 (dk_at dksJ7_add_2_0 15 rfl rfl)
theorem dJ7_add_2_16 : decode cJ7_add_2 16 = .ok (.iload_n 3, 1) := dk_29 (dk_at dksJ7_add_2_0 16 rfl rfl)
theorem dJ7_add_2_17 : decode cJ7_add_2 17 = .ok (.iconst 1, 1) := dk_4 (dk_at dksJ7_add_2_0 17 rfl rfl)
theorem dJ7_add_2_18 : decode cJ7_add_2 18 = .ok (.iadd, 1) := dk_96 (dk_at dksJ7_add_2_0 18 rfl rfl)
theorem dJ7_add_2_19 : decode cJ7_add_2 19 = .ok (.putfield 48, 3) := dk_181 0 48 (dk_at dksJ7_add_2_0 19 rfl rfl)
theorem dJ7_add_2_22 : decode cJ7_add_2 22 = .ok (.return_, 1) := dk_177 (dk_at dksJ7_add_2_0 22 rfl rfl)
abbrev cJ7_grow : ByteArray := prog_41_method_7_code
def yJ7_grow : MethodName := ⟨RJ7, "grow", "()[Ljava/lang/Object;"⟩
def dkwJ7_grow_0 : List UInt8 := [42, 42, 180, 0, 48, 4, 96, 182, 0, 69, 176]
abbrev dktJ7_grow_0 : List UInt8 := dkwJ7_grow_0 ++ []
theorem dksJ7_grow_0 : cJ7_grow.data.toList.drop 0 = dktJ7_grow_0 := by decide +kernel
theorem dJ7_grow_0 : decode cJ7_grow 0 = .ok (.aload_n 0, 1) := dk_42 (dk_at dksJ7_grow_0 0 rfl rfl)
theorem dJ7_grow_1 : decode cJ7_grow 1 = .ok (.aload_n 0, 1) := dk_42 (dk_at dksJ7_grow_0 1 rfl rfl)
theorem dJ7_grow_2 : decode cJ7_grow 2 = .ok (.getfield 48, 3) := dk_180 0 48 (dk_at dksJ7_grow_0 2 rfl rfl)
theorem dJ7_grow_5 : decode cJ7_grow 5 = .ok (.iconst 1, 1) := dk_4 (dk_at dksJ7_grow_0 5 rfl rfl)
theorem dJ7_grow_6 : decode cJ7_grow 6 = .ok (.iadd, 1) := dk_96 (dk_at dksJ7_grow_0 6 rfl rfl)
theorem dJ7_grow_7 : decode cJ7_grow 7 = .ok (.invokevirtual 69, 3) := dk_182 0 69 (dk_at dksJ7_grow_0 7 rfl rfl)
theorem dJ7_grow_10 : decode cJ7_grow 10 = .ok (.areturn, 1) := dk_176 (dk_at dksJ7_grow_0 10 rfl rfl)
abbrev cJ7_grow_2 : ByteArray := prog_41_method_6_code
def yJ7_grow_2 : MethodName := ⟨RJ7, "grow", "(I)[Ljava/lang/Object;"⟩
def dkwJ7_grow_2_2 : List UInt8 := [27, 184, 0, 79, 189, 0, 7, 90, 181, 0, 9, 176]
abbrev dktJ7_grow_2_2 : List UInt8 := dkwJ7_grow_2_2 ++ []
def dkwJ7_grow_2_1 : List UInt8 := [28, 4, 122, 184, 0, 73, 62, 42, 42, 180, 0, 9, 29, 184, 0, 66, 90, 181, 0, 9, 176, 42, 16, 10]
abbrev dktJ7_grow_2_1 : List UInt8 := dkwJ7_grow_2_1 ++ dktJ7_grow_2_2
def dkwJ7_grow_2_0 : List UInt8 := [42, 180, 0, 9, 190, 61, 28, 157, 0, 13, 42, 180, 0, 9, 178, 0, 39, 165, 0, 28, 28, 27, 28, 100]
abbrev dktJ7_grow_2_0 : List UInt8 := dkwJ7_grow_2_0 ++ dktJ7_grow_2_1
theorem dksJ7_grow_2_0 : cJ7_grow_2.data.toList.drop 0 = dktJ7_grow_2_0 := by decide +kernel
theorem dksJ7_grow_2_1 : cJ7_grow_2.data.toList.drop 24 = dktJ7_grow_2_1 := dk_seg dksJ7_grow_2_0 24 rfl rfl
theorem dksJ7_grow_2_2 : cJ7_grow_2.data.toList.drop 48 = dktJ7_grow_2_2 := dk_seg dksJ7_grow_2_1 24 rfl rfl
theorem dJ7_grow_2_0 : decode cJ7_grow_2 0 = .ok (.aload_n 0, 1) := dk_42 (dk_at dksJ7_grow_2_0 0 rfl rfl)
theorem dJ7_grow_2_1 : decode cJ7_grow_2 1 = .ok (.getfield 9, 3) := dk_180 0 9 (dk_at dksJ7_grow_2_0 1 rfl rfl)
theorem dJ7_grow_2_4 : decode cJ7_grow_2 4 = .ok (.arraylength, 1) := dk_190 (dk_at dksJ7_grow_2_0 4 rfl rfl)
theorem dJ7_grow_2_5 : decode cJ7_grow_2 5 = .ok (.istore_n 2, 1) := dk_61 (dk_at dksJ7_grow_2_0 5 rfl rfl)
theorem dJ7_grow_2_6 : decode cJ7_grow_2 6 = .ok (.iload_n 2, 1) := dk_28 (dk_at dksJ7_grow_2_0 6 rfl rfl)
theorem dJ7_grow_2_7 : decode cJ7_grow_2 7 = .ok (.ifCond .gt 13, 3) := dk_157 0 13 (dk_at dksJ7_grow_2_0 7 rfl rfl)
theorem dJ7_grow_2_10 : decode cJ7_grow_2 10 = .ok (.aload_n 0, 1) := dk_42 (dk_at dksJ7_grow_2_0 10 rfl rfl)
theorem dJ7_grow_2_11 : decode cJ7_grow_2 11 = .ok (.getfield 9, 3) := dk_180 0 9 (dk_at dksJ7_grow_2_0 11 rfl rfl)
theorem dJ7_grow_2_14 : decode cJ7_grow_2 14 = .ok (.getstatic 39, 3) := dk_178 0 39 (dk_at dksJ7_grow_2_0 14 rfl rfl)
theorem dJ7_grow_2_17 : decode cJ7_grow_2 17 = .ok (.if_acmp .eq 28, 3) := dk_165 0 28 (dk_at dksJ7_grow_2_0 17 rfl rfl)
theorem dJ7_grow_2_20 : decode cJ7_grow_2 20 = .ok (.iload_n 2, 1) := dk_28 (dk_at dksJ7_grow_2_0 20 rfl rfl)
theorem dJ7_grow_2_21 : decode cJ7_grow_2 21 = .ok (.iload_n 1, 1) := dk_27 (dk_at dksJ7_grow_2_0 21 rfl rfl)
theorem dJ7_grow_2_22 : decode cJ7_grow_2 22 = .ok (.iload_n 2, 1) := dk_28 (dk_at dksJ7_grow_2_0 22 rfl rfl)
theorem dJ7_grow_2_23 : decode cJ7_grow_2 23 = .ok (.isub, 1) := dk_100 (dk_at dksJ7_grow_2_0 23 rfl rfl)
theorem dJ7_grow_2_24 : decode cJ7_grow_2 24 = .ok (.iload_n 2, 1) := dk_28 (dk_at dksJ7_grow_2_1 0 rfl rfl)
theorem dJ7_grow_2_25 : decode cJ7_grow_2 25 = .ok (.iconst 1, 1) := dk_4 (dk_at dksJ7_grow_2_1 1 rfl rfl)
theorem dJ7_grow_2_26 : decode cJ7_grow_2 26 = .ok (.ishr, 1) := dk_122 (dk_at dksJ7_grow_2_1 2 rfl rfl)
theorem dJ7_grow_2_27 : decode cJ7_grow_2 27 = .ok (.invokestatic 73, 3) := dk_184 0 73 (dk_at dksJ7_grow_2_1 3 rfl rfl)
theorem dJ7_grow_2_30 : decode cJ7_grow_2 30 = .ok (.istore_n 3, 1) := dk_62 (dk_at dksJ7_grow_2_1 6 rfl rfl)
theorem dJ7_grow_2_31 : decode cJ7_grow_2 31 = .ok (.aload_n 0, 1) := dk_42 (dk_at dksJ7_grow_2_1 7 rfl rfl)
theorem dJ7_grow_2_32 : decode cJ7_grow_2 32 = .ok (.aload_n 0, 1) := dk_42 (dk_at dksJ7_grow_2_1 8 rfl rfl)
theorem dJ7_grow_2_33 : decode cJ7_grow_2 33 = .ok (.getfield 9, 3) := dk_180 0 9 (dk_at dksJ7_grow_2_1 9 rfl rfl)
theorem dJ7_grow_2_36 : decode cJ7_grow_2 36 = .ok (.iload_n 3, 1) := dk_29 (dk_at dksJ7_grow_2_1 12 rfl rfl)
theorem dJ7_grow_2_37 : decode cJ7_grow_2 37 = .ok (.invokestatic 66, 3) := dk_184 0 66 (dk_at dksJ7_grow_2_1 13 rfl rfl)
theorem dJ7_grow_2_40 : decode cJ7_grow_2 40 = .ok (.dup_x1, 1) := dk_90 (dk_at dksJ7_grow_2_1 16 rfl rfl)
theorem dJ7_grow_2_41 : decode cJ7_grow_2 41 = .ok (.putfield 9, 3) := dk_181 0 9 (dk_at dksJ7_grow_2_1 17 rfl rfl)
theorem dJ7_grow_2_44 : decode cJ7_grow_2 44 = .ok (.areturn, 1) := dk_176 (dk_at dksJ7_grow_2_1 20 rfl rfl)
theorem dJ7_grow_2_45 : decode cJ7_grow_2 45 = .ok (.aload_n 0, 1) := dk_42 (dk_at dksJ7_grow_2_1 21 rfl rfl)
theorem dJ7_grow_2_46 : decode cJ7_grow_2 46 = .ok (.bipush 10, 2) := dk_16 10 (dk_at dksJ7_grow_2_1 22 rfl rfl)
theorem dJ7_grow_2_48 : decode cJ7_grow_2 48 = .ok (.iload_n 1, 1) := dk_27 (dk_at dksJ7_grow_2_2 0 rfl rfl)
theorem dJ7_grow_2_49 : decode cJ7_grow_2 49 = .ok (.invokestatic 79, 3) := dk_184 0 79 (dk_at dksJ7_grow_2_2 1 rfl rfl)
theorem dJ7_grow_2_52 : decode cJ7_grow_2 52 = .ok (.anewarray 7, 3) := dk_189 0 7 (dk_at dksJ7_grow_2_2 4 rfl rfl)
theorem dJ7_grow_2_55 : decode cJ7_grow_2 55 = .ok (.dup_x1, 1) := dk_90 (dk_at dksJ7_grow_2_2 7 rfl rfl)
theorem dJ7_grow_2_56 : decode cJ7_grow_2 56 = .ok (.putfield 9, 3) := dk_181 0 9 (dk_at dksJ7_grow_2_2 8 rfl rfl)
theorem dJ7_grow_2_59 : decode cJ7_grow_2 59 = .ok (.areturn, 1) := dk_176 (dk_at dksJ7_grow_2_2 11 rfl rfl)
abbrev cJ7_isEmpty : ByteArray := prog_41_method_9_code
def yJ7_isEmpty : MethodName := ⟨RJ7, "isEmpty", "()Z"⟩
def dkwJ7_isEmpty_0 : List UInt8 := [42, 180, 0, 48, 154, 0, 7, 4, 167, 0, 4, 3, 172]
abbrev dktJ7_isEmpty_0 : List UInt8 := dkwJ7_isEmpty_0 ++ []
theorem dksJ7_isEmpty_0 : cJ7_isEmpty.data.toList.drop 0 = dktJ7_isEmpty_0 := by decide +kernel
theorem dJ7_isEmpty_0 : decode cJ7_isEmpty 0 = .ok (.aload_n 0, 1) := dk_42 (dk_at dksJ7_isEmpty_0 0 rfl rfl)
theorem dJ7_isEmpty_1 : decode cJ7_isEmpty 1 = .ok (.getfield 48, 3) := dk_180 0 48 (dk_at dksJ7_isEmpty_0 1 rfl rfl)
theorem dJ7_isEmpty_4 : decode cJ7_isEmpty 4 = .ok (.ifCond .ne 7, 3) := dk_154 0 7 (dk_at dksJ7_isEmpty_0 4 rfl rfl)
theorem dJ7_isEmpty_7 : decode cJ7_isEmpty 7 = .ok (.iconst 1, 1) := dk_4 (dk_at dksJ7_isEmpty_0 7 rfl rfl)
theorem dJ7_isEmpty_8 : decode cJ7_isEmpty 8 = .ok (.goto 4, 3) := dk_167 0 4 (dk_at dksJ7_isEmpty_0 8 rfl rfl)
theorem dJ7_isEmpty_11 : decode cJ7_isEmpty 11 = .ok (.iconst 0, 1) := dk_3 (dk_at dksJ7_isEmpty_0 11 rfl rfl)
theorem dJ7_isEmpty_12 : decode cJ7_isEmpty 12 = .ok (.ireturn, 1) := dk_172 (dk_at dksJ7_isEmpty_0 12 rfl rfl)
abbrev cJ7_remove : ByteArray := prog_41_method_29_code
def yJ7_remove : MethodName := ⟨RJ7, "remove", "(I)Ljava/lang/Object;"⟩
def dkwJ7_remove_1 : List UInt8 := [45, 176]
abbrev dktJ7_remove_1 : List UInt8 := dkwJ7_remove_1 ++ []
def dkwJ7_remove_0 : List UInt8 := [27, 42, 180, 0, 48, 184, 0, 118, 87, 42, 180, 0, 9, 77, 44, 27, 50, 78, 42, 44, 27, 182, 0, 144]
abbrev dktJ7_remove_0 : List UInt8 := dkwJ7_remove_0 ++ dktJ7_remove_1
theorem dksJ7_remove_0 : cJ7_remove.data.toList.drop 0 = dktJ7_remove_0 := by decide +kernel
theorem dksJ7_remove_1 : cJ7_remove.data.toList.drop 24 = dktJ7_remove_1 := dk_seg dksJ7_remove_0 24 rfl rfl
theorem dJ7_remove_0 : decode cJ7_remove 0 = .ok (.iload_n 1, 1) := dk_27 (dk_at dksJ7_remove_0 0 rfl rfl)
theorem dJ7_remove_1 : decode cJ7_remove 1 = .ok (.aload_n 0, 1) := dk_42 (dk_at dksJ7_remove_0 1 rfl rfl)
theorem dJ7_remove_2 : decode cJ7_remove 2 = .ok (.getfield 48, 3) := dk_180 0 48 (dk_at dksJ7_remove_0 2 rfl rfl)
theorem dJ7_remove_5 : decode cJ7_remove 5 = .ok (.invokestatic 118, 3) := dk_184 0 118 (dk_at dksJ7_remove_0 5 rfl rfl)
theorem dJ7_remove_8 : decode cJ7_remove 8 = .ok (.pop, 1) := dk_87 (dk_at dksJ7_remove_0 8 rfl rfl)
theorem dJ7_remove_9 : decode cJ7_remove 9 = .ok (.aload_n 0, 1) := dk_42 (dk_at dksJ7_remove_0 9 rfl rfl)
theorem dJ7_remove_10 : decode cJ7_remove 10 = .ok (.getfield 9, 3) := dk_180 0 9 (dk_at dksJ7_remove_0 10 rfl rfl)
theorem dJ7_remove_13 : decode cJ7_remove 13 = .ok (.astore_n 2, 1) := dk_77 (dk_at dksJ7_remove_0 13 rfl rfl)
theorem dJ7_remove_14 : decode cJ7_remove 14 = .ok (.aload_n 2, 1) := dk_44 (dk_at dksJ7_remove_0 14 rfl rfl)
theorem dJ7_remove_15 : decode cJ7_remove 15 = .ok (.iload_n 1, 1) := dk_27 (dk_at dksJ7_remove_0 15 rfl rfl)
theorem dJ7_remove_16 : decode cJ7_remove 16 = .ok (.aaload, 1) := dk_50 (dk_at dksJ7_remove_0 16 rfl rfl)
theorem dJ7_remove_17 : decode cJ7_remove 17 = .ok (.astore_n 3, 1) := dk_78 (dk_at dksJ7_remove_0 17 rfl rfl)
theorem dJ7_remove_18 : decode cJ7_remove 18 = .ok (.aload_n 0, 1) := dk_42 (dk_at dksJ7_remove_0 18 rfl rfl)
theorem dJ7_remove_19 : decode cJ7_remove 19 = .ok (.aload_n 2, 1) := dk_44 (dk_at dksJ7_remove_0 19 rfl rfl)
theorem dJ7_remove_20 : decode cJ7_remove 20 = .ok (.iload_n 1, 1) := dk_27 (dk_at dksJ7_remove_0 20 rfl rfl)
theorem dJ7_remove_21 : decode cJ7_remove 21 = .ok (.invokevirtual 144, 3) := dk_182 0 144 (dk_at dksJ7_remove_0 21 rfl rfl)
theorem dJ7_remove_24 : decode cJ7_remove 24 = .ok (.aload_n 3, 1) := dk_45 (dk_at dksJ7_remove_1 0 rfl rfl)
theorem dJ7_remove_25 : decode cJ7_remove 25 = .ok (.areturn, 1) := dk_176 (dk_at dksJ7_remove_1 1 rfl rfl)
abbrev cJ7_fastRemove : ByteArray := prog_41_method_39_code
def yJ7_fastRemove : MethodName := ⟨RJ7, "fastRemove", "([Ljava/lang/Object;I)V"⟩
def dkwJ7_fastRemove_1 : List UInt8 := [4, 96, 43, 28, 29, 28, 100, 184, 0, 112, 43, 42, 29, 90, 181, 0, 48, 1, 83, 177]
abbrev dktJ7_fastRemove_1 : List UInt8 := dkwJ7_fastRemove_1 ++ []
def dkwJ7_fastRemove_0 : List UInt8 := [42, 89, 180, 0, 63, 4, 96, 181, 0, 63, 42, 180, 0, 48, 4, 100, 89, 62, 28, 164, 0, 15, 43, 28]
abbrev dktJ7_fastRemove_0 : List UInt8 := dkwJ7_fastRemove_0 ++ dktJ7_fastRemove_1
theorem dksJ7_fastRemove_0 : cJ7_fastRemove.data.toList.drop 0 = dktJ7_fastRemove_0 := by decide +kernel
theorem dksJ7_fastRemove_1 : cJ7_fastRemove.data.toList.drop 24 = dktJ7_fastRemove_1 := dk_seg dksJ7_fastRemove_0 24 rfl rfl
theorem dJ7_fastRemove_0 : decode cJ7_fastRemove 0 = .ok (.aload_n 0, 1) := dk_42 (dk_at dksJ7_fastRemove_0 0 rfl rfl)
theorem dJ7_fastRemove_1 : decode cJ7_fastRemove 1 = .ok (.dup, 1) := dk_89 (dk_at dksJ7_fastRemove_0 1 rfl rfl)
theorem dJ7_fastRemove_2 : decode cJ7_fastRemove 2 = .ok (.getfield 63, 3) := dk_180 0 63 (dk_at dksJ7_fastRemove_0 2 rfl rfl)
theorem dJ7_fastRemove_5 : decode cJ7_fastRemove 5 = .ok (.iconst 1, 1) := dk_4 (dk_at dksJ7_fastRemove_0 5 rfl rfl)
theorem dJ7_fastRemove_6 : decode cJ7_fastRemove 6 = .ok (.iadd, 1) := dk_96 (dk_at dksJ7_fastRemove_0 6 rfl rfl)
theorem dJ7_fastRemove_7 : decode cJ7_fastRemove 7 = .ok (.putfield 63, 3) := dk_181 0 63 (dk_at dksJ7_fastRemove_0 7 rfl rfl)
theorem dJ7_fastRemove_10 : decode cJ7_fastRemove 10 = .ok (.aload_n 0, 1) := dk_42 (dk_at dksJ7_fastRemove_0 10 rfl rfl)
theorem dJ7_fastRemove_11 : decode cJ7_fastRemove 11 = .ok (.getfield 48, 3) := dk_180 0 48 (dk_at dksJ7_fastRemove_0 11 rfl rfl)
theorem dJ7_fastRemove_14 : decode cJ7_fastRemove 14 = .ok (.iconst 1, 1) := dk_4 (dk_at dksJ7_fastRemove_0 14 rfl rfl)
theorem dJ7_fastRemove_15 : decode cJ7_fastRemove 15 = .ok (.isub, 1) := dk_100 (dk_at dksJ7_fastRemove_0 15 rfl rfl)
theorem dJ7_fastRemove_16 : decode cJ7_fastRemove 16 = .ok (.dup, 1) := dk_89 (dk_at dksJ7_fastRemove_0 16 rfl rfl)
theorem dJ7_fastRemove_17 : decode cJ7_fastRemove 17 = .ok (.istore_n 3, 1) := dk_62 (dk_at dksJ7_fastRemove_0 17 rfl rfl)
theorem dJ7_fastRemove_18 : decode cJ7_fastRemove 18 = .ok (.iload_n 2, 1) := dk_28 (dk_at dksJ7_fastRemove_0 18 rfl rfl)
theorem dJ7_fastRemove_19 : decode cJ7_fastRemove 19 = .ok (.if_icmp .le 15, 3) := dk_164 0 15 (dk_at dksJ7_fastRemove_0 19 rfl rfl)
theorem dJ7_fastRemove_22 : decode cJ7_fastRemove 22 = .ok (.aload_n 1, 1) := dk_43 (dk_at dksJ7_fastRemove_0 22 rfl rfl)
theorem dJ7_fastRemove_23 : decode cJ7_fastRemove 23 = .ok (.iload_n 2, 1) := dk_28 (dk_at dksJ7_fastRemove_0 23 rfl rfl)
theorem dJ7_fastRemove_24 : decode cJ7_fastRemove 24 = .ok (.iconst 1, 1) := dk_4 (dk_at dksJ7_fastRemove_1 0 rfl rfl)
theorem dJ7_fastRemove_25 : decode cJ7_fastRemove 25 = .ok (.iadd, 1) := dk_96 (dk_at dksJ7_fastRemove_1 1 rfl rfl)
theorem dJ7_fastRemove_26 : decode cJ7_fastRemove 26 = .ok (.aload_n 1, 1) := dk_43 (dk_at dksJ7_fastRemove_1 2 rfl rfl)
theorem dJ7_fastRemove_27 : decode cJ7_fastRemove 27 = .ok (.iload_n 2, 1) := dk_28 (dk_at dksJ7_fastRemove_1 3 rfl rfl)
theorem dJ7_fastRemove_28 : decode cJ7_fastRemove 28 = .ok (.iload_n 3, 1) := dk_29 (dk_at dksJ7_fastRemove_1 4 rfl rfl)
theorem dJ7_fastRemove_29 : decode cJ7_fastRemove 29 = .ok (.iload_n 2, 1) := dk_28 (dk_at dksJ7_fastRemove_1 5 rfl rfl)
theorem dJ7_fastRemove_30 : decode cJ7_fastRemove 30 = .ok (.isub, 1) := dk_100 (dk_at dksJ7_fastRemove_1 6 rfl rfl)
theorem dJ7_fastRemove_31 : decode cJ7_fastRemove 31 = .ok (.invokestatic 112, 3) := dk_184 0 112 (dk_at dksJ7_fastRemove_1 7 rfl rfl)
theorem dJ7_fastRemove_34 : decode cJ7_fastRemove 34 = .ok (.aload_n 1, 1) := dk_43 (dk_at dksJ7_fastRemove_1 10 rfl rfl)
theorem dJ7_fastRemove_35 : decode cJ7_fastRemove 35 = .ok (.aload_n 0, 1) := dk_42 (dk_at dksJ7_fastRemove_1 11 rfl rfl)
theorem dJ7_fastRemove_36 : decode cJ7_fastRemove 36 = .ok (.iload_n 3, 1) := dk_29 (dk_at dksJ7_fastRemove_1 12 rfl rfl)
theorem dJ7_fastRemove_37 : decode cJ7_fastRemove 37 = .ok (.dup_x1, 1) := dk_90 (dk_at dksJ7_fastRemove_1 13 rfl rfl)
theorem dJ7_fastRemove_38 : decode cJ7_fastRemove 38 = .ok (.putfield 48, 3) := dk_181 0 48 (dk_at dksJ7_fastRemove_1 14 rfl rfl)
theorem dJ7_fastRemove_41 : decode cJ7_fastRemove 41 = .ok (.aconst_null, 1) := dk_1 (dk_at dksJ7_fastRemove_1 17 rfl rfl)
theorem dJ7_fastRemove_42 : decode cJ7_fastRemove 42 = .ok (.aastore, 1) := dk_83 (dk_at dksJ7_fastRemove_1 18 rfl rfl)
theorem dJ7_fastRemove_43 : decode cJ7_fastRemove 43 = .ok (.return_, 1) := dk_177 (dk_at dksJ7_fastRemove_1 19 rfl rfl)
theorem q141 : (Jvm.Cond.initialized "java/util/ArrayList") ∈ lw_all := lw_g (lw_at lw_m1 14 rfl) rfl
theorem q395 : (Jvm.Cond.instantiable "java/util/ArrayList" (3 : Nat)) ∈ lw_all := lw_g (lw_at lw_m2 28 rfl) rfl
theorem q397 : (Jvm.Cond.instanceMethod ({ cls := "java/util/ArrayList", name := "<init>", desc := "()V" } : Jvm.MethodName)) ∈ lw_all := lw_g (lw_at lw_m2 30 rfl) rfl
theorem q398 : (Jvm.Cond.code ({ cls := "java/util/ArrayList", name := "<init>", desc := "()V" } : Jvm.MethodName) prog_41_method_2_code (1 : Nat) (Option.none : Option Jvm.ClassFile.FieldType)) ∈ lw_all := lw_g (lw_at lw_m2 31 rfl) rfl
theorem q399 : (Jvm.Cond.methodLink "java/util/ArrayList" (1 : Nat) ({ cls := "java/util/AbstractList", name := "<init>", desc := "()V" } : Jvm.MethodName)) ∈ lw_all := lw_g (lw_at lw_m2 32 rfl) rfl
theorem q403 : (Jvm.Cond.fieldLink "java/util/ArrayList" (39 : Nat) "java/util/ArrayList" "DEFAULTCAPACITY_EMPTY_ELEMENTDATA" "[Ljava/lang/Object;") ∈ lw_all := lw_g (lw_at lw_m2 36 rfl) rfl
theorem q404 : (Jvm.Cond.laysStatic "java/util/ArrayList" "DEFAULTCAPACITY_EMPTY_ELEMENTDATA" "[Ljava/lang/Object;") ∈ lw_tbl := lw_at lw_m2 37 rfl
theorem q405 : (Jvm.Cond.fieldLink "java/util/ArrayList" (9 : Nat) "java/util/ArrayList" "elementData" "[Ljava/lang/Object;") ∈ lw_all := lw_g (lw_at lw_m2 38 rfl) rfl
theorem q406 : (Jvm.Cond.fieldLink "java/util/ArrayList" (48 : Nat) "java/util/ArrayList" "size" "I") ∈ lw_all := lw_g (lw_at lw_m2 39 rfl) rfl
theorem q408 : (Jvm.Cond.fieldLink "java/util/ArrayList" (63 : Nat) "java/util/ArrayList" "modCount" "I") ∈ lw_all := lw_g (lw_at lw_m2 41 rfl) rfl
theorem q409 : (Jvm.Cond.sameField "java/util/ArrayList" "java/util/AbstractList" "modCount" "I") ∈ lw_all := lw_g (lw_at lw_m2 42 rfl) rfl
theorem q410 : (Jvm.Cond.lays "java/util/ArrayList" "java/util/ArrayList" "elementData" "[Ljava/lang/Object;") ∈ lw_all := lw_g (lw_at lw_m2 43 rfl) rfl
theorem q411 : (Jvm.Cond.soleField "java/util/ArrayList" "elementData") ∈ lw_all := lw_g (lw_at lw_m2 44 rfl) rfl
theorem q412 : (Jvm.Cond.lays "java/util/ArrayList" "java/util/ArrayList" "size" "I") ∈ lw_all := lw_g (lw_at lw_m2 45 rfl) rfl
theorem q413 : (Jvm.Cond.soleField "java/util/ArrayList" "size") ∈ lw_all := lw_g (lw_at lw_m2 46 rfl) rfl
theorem q414 : (Jvm.Cond.lays "java/util/ArrayList" "java/util/AbstractList" "modCount" "I") ∈ lw_all := lw_g (lw_at lw_m2 47 rfl) rfl
theorem q416 : (Jvm.Cond.superclass "java/util/ArrayList" "java/util/AbstractList") ∈ lw_all := lw_g (lw_at lw_m2 49 rfl) rfl
theorem q652 : (Jvm.Cond.instanceMethod ({ cls := "java/util/ArrayList", name := "size", desc := "()I" } : Jvm.MethodName)) ∈ lw_all := lw_g (lw_at lw_m3 45 rfl) rfl
theorem q653 : (Jvm.Cond.selects "java/util/ArrayList" ({ cls := "java/util/ArrayList", name := "size", desc := "()I" } : Jvm.MethodName) ({ cls := "java/util/ArrayList", name := "size", desc := "()I" } : Jvm.MethodName)) ∈ lw_all := lw_g (lw_at lw_m3 46 rfl) rfl
theorem q654 : (Jvm.Cond.code ({ cls := "java/util/ArrayList", name := "size", desc := "()I" } : Jvm.MethodName) prog_41_method_8_code (1 : Nat) (Option.some Jvm.ClassFile.FieldType.int)) ∈ lw_all := lw_g (lw_at lw_m3 47 rfl) rfl
theorem q695 : (Jvm.Cond.instanceMethod ({ cls := "java/util/ArrayList", name := "get", desc := "(I)Ljava/lang/Object;" } : Jvm.MethodName)) ∈ lw_all := lw_g (lw_at lw_m3 88 rfl) rfl
theorem q696 : (Jvm.Cond.selects "java/util/ArrayList" ({ cls := "java/util/ArrayList", name := "get", desc := "(I)Ljava/lang/Object;" } : Jvm.MethodName) ({ cls := "java/util/ArrayList", name := "get", desc := "(I)Ljava/lang/Object;" } : Jvm.MethodName)) ∈ lw_all := lw_g (lw_at lw_m3 89 rfl) rfl
theorem q697 : (Jvm.Cond.code ({ cls := "java/util/ArrayList", name := "get", desc := "(I)Ljava/lang/Object;" } : Jvm.MethodName) prog_41_method_20_code (2 : Nat) (Option.some (Jvm.ClassFile.FieldType.object "java/lang/Object"))) ∈ lw_all := lw_g (lw_at lw_m3 90 rfl) rfl
theorem q698 : (Jvm.Cond.methodLink "java/util/ArrayList" (118 : Nat) ({ cls := "java/util/Objects", name := "checkIndex", desc := "(II)I" } : Jvm.MethodName)) ∈ lw_all := lw_g (lw_at lw_m3 91 rfl) rfl
theorem q702 : (Jvm.Cond.methodLink "java/util/ArrayList" (123 : Nat) ({ cls := "java/util/ArrayList", name := "elementData", desc := "(I)Ljava/lang/Object;" } : Jvm.MethodName)) ∈ lw_all := lw_g (lw_at lw_m3 95 rfl) rfl
theorem q703 : (Jvm.Cond.instanceMethod ({ cls := "java/util/ArrayList", name := "elementData", desc := "(I)Ljava/lang/Object;" } : Jvm.MethodName)) ∈ lw_all := lw_g (lw_at lw_m3 96 rfl) rfl
theorem q704 : (Jvm.Cond.selects "java/util/ArrayList" ({ cls := "java/util/ArrayList", name := "elementData", desc := "(I)Ljava/lang/Object;" } : Jvm.MethodName) ({ cls := "java/util/ArrayList", name := "elementData", desc := "(I)Ljava/lang/Object;" } : Jvm.MethodName)) ∈ lw_all := lw_g (lw_at lw_m3 97 rfl) rfl
theorem q705 : (Jvm.Cond.code ({ cls := "java/util/ArrayList", name := "elementData", desc := "(I)Ljava/lang/Object;" } : Jvm.MethodName) prog_41_method_18_code (2 : Nat) (Option.some (Jvm.ClassFile.FieldType.object "java/lang/Object"))) ∈ lw_all := lw_g (lw_at lw_m3 98 rfl) rfl
theorem q740 : (Jvm.Cond.instanceMethod ({ cls := "java/util/ArrayList", name := "add", desc := "(Ljava/lang/Object;)Z" } : Jvm.MethodName)) ∈ lw_all := lw_g (lw_at lw_m3 133 rfl) rfl
theorem q741 : (Jvm.Cond.selects "java/util/ArrayList" ({ cls := "java/util/ArrayList", name := "add", desc := "(Ljava/lang/Object;)Z" } : Jvm.MethodName) ({ cls := "java/util/ArrayList", name := "add", desc := "(Ljava/lang/Object;)Z" } : Jvm.MethodName)) ∈ lw_all := lw_g (lw_at lw_m3 134 rfl) rfl
theorem q742 : (Jvm.Cond.code ({ cls := "java/util/ArrayList", name := "add", desc := "(Ljava/lang/Object;)Z" } : Jvm.MethodName) prog_41_method_25_code (2 : Nat) (Option.some Jvm.ClassFile.FieldType.boolean)) ∈ lw_all := lw_g (lw_at lw_m3 135 rfl) rfl
theorem q743 : (Jvm.Cond.methodLink "java/util/ArrayList" (131 : Nat) ({ cls := "java/util/ArrayList", name := "add", desc := "(Ljava/lang/Object;[Ljava/lang/Object;I)V" } : Jvm.MethodName)) ∈ lw_all := lw_g (lw_at lw_m3 136 rfl) rfl
theorem q744 : (Jvm.Cond.privateMethod ({ cls := "java/util/ArrayList", name := "add", desc := "(Ljava/lang/Object;[Ljava/lang/Object;I)V" } : Jvm.MethodName)) ∈ lw_tbl := lw_at lw_m3 137 rfl
theorem q745 : (Jvm.Cond.instanceMethod ({ cls := "java/util/ArrayList", name := "add", desc := "(Ljava/lang/Object;[Ljava/lang/Object;I)V" } : Jvm.MethodName)) ∈ lw_all := lw_g (lw_at lw_m3 138 rfl) rfl
theorem q746 : (Jvm.Cond.code ({ cls := "java/util/ArrayList", name := "add", desc := "(Ljava/lang/Object;[Ljava/lang/Object;I)V" } : Jvm.MethodName) prog_41_method_24_code (4 : Nat) (Option.none : Option Jvm.ClassFile.FieldType)) ∈ lw_all := lw_g (lw_at lw_m3 139 rfl) rfl
theorem q747 : (Jvm.Cond.methodLink "java/util/ArrayList" (129 : Nat) ({ cls := "java/util/ArrayList", name := "grow", desc := "()[Ljava/lang/Object;" } : Jvm.MethodName)) ∈ lw_all := lw_g (lw_at lw_m3 140 rfl) rfl
theorem q748 : (Jvm.Cond.privateMethod ({ cls := "java/util/ArrayList", name := "grow", desc := "()[Ljava/lang/Object;" } : Jvm.MethodName)) ∈ lw_tbl := lw_at lw_m3 141 rfl
theorem q749 : (Jvm.Cond.instanceMethod ({ cls := "java/util/ArrayList", name := "grow", desc := "()[Ljava/lang/Object;" } : Jvm.MethodName)) ∈ lw_all := lw_g (lw_at lw_m3 142 rfl) rfl
theorem q750 : (Jvm.Cond.code ({ cls := "java/util/ArrayList", name := "grow", desc := "()[Ljava/lang/Object;" } : Jvm.MethodName) prog_41_method_7_code (1 : Nat) (Option.some (Jvm.ClassFile.FieldType.array (Jvm.ClassFile.FieldType.object "java/lang/Object")))) ∈ lw_all := lw_g (lw_at lw_m3 143 rfl) rfl
theorem q751 : (Jvm.Cond.methodLink "java/util/ArrayList" (69 : Nat) ({ cls := "java/util/ArrayList", name := "grow", desc := "(I)[Ljava/lang/Object;" } : Jvm.MethodName)) ∈ lw_all := lw_g (lw_at lw_m3 144 rfl) rfl
theorem q752 : (Jvm.Cond.privateMethod ({ cls := "java/util/ArrayList", name := "grow", desc := "(I)[Ljava/lang/Object;" } : Jvm.MethodName)) ∈ lw_tbl := lw_at lw_m3 145 rfl
theorem q753 : (Jvm.Cond.instanceMethod ({ cls := "java/util/ArrayList", name := "grow", desc := "(I)[Ljava/lang/Object;" } : Jvm.MethodName)) ∈ lw_all := lw_g (lw_at lw_m3 146 rfl) rfl
theorem q754 : (Jvm.Cond.code ({ cls := "java/util/ArrayList", name := "grow", desc := "(I)[Ljava/lang/Object;" } : Jvm.MethodName) prog_41_method_6_code (4 : Nat) (Option.some (Jvm.ClassFile.FieldType.array (Jvm.ClassFile.FieldType.object "java/lang/Object")))) ∈ lw_all := lw_g (lw_at lw_m3 147 rfl) rfl
theorem q755 : (Jvm.Cond.methodLink "java/util/ArrayList" (73 : Nat) ({ cls := "jdk/internal/util/ArraysSupport", name := "newLength", desc := "(III)I" } : Jvm.MethodName)) ∈ lw_all := lw_g (lw_at lw_m3 148 rfl) rfl
theorem q765 : (Jvm.Cond.methodLink "java/util/ArrayList" (66 : Nat) ({ cls := "java/util/Arrays", name := "copyOf", desc := "([Ljava/lang/Object;I)[Ljava/lang/Object;" } : Jvm.MethodName)) ∈ lw_all := lw_g (lw_at lw_m3 158 rfl) rfl
theorem q786 : (Jvm.Cond.selects "java/util/ArrayList" ({ cls := "java/lang/Object", name := "getClass", desc := "()Ljava/lang/Class;" } : Jvm.MethodName) ({ cls := "java/lang/Object", name := "getClass", desc := "()Ljava/lang/Class;" } : Jvm.MethodName)) ∈ lw_all := lw_g (lw_at lw_m3 179 rfl) rfl
theorem q804 : (Jvm.Cond.methodLink "java/util/ArrayList" (79 : Nat) ({ cls := "java/lang/Math", name := "max", desc := "(II)I" } : Jvm.MethodName)) ∈ lw_all := lw_g (lw_at lw_m3 197 rfl) rfl
theorem q805 : (Jvm.Cond.classLink "java/util/ArrayList" (7 : Nat) "java/lang/Object") ∈ lw_all := lw_g (lw_at lw_m3 198 rfl) rfl
theorem q907 : (Jvm.Cond.instanceMethod ({ cls := "java/util/ArrayList", name := "isEmpty", desc := "()Z" } : Jvm.MethodName)) ∈ lw_all := lw_g (lw_at lw_m4 60 rfl) rfl
theorem q908 : (Jvm.Cond.selects "java/util/ArrayList" ({ cls := "java/util/ArrayList", name := "isEmpty", desc := "()Z" } : Jvm.MethodName) ({ cls := "java/util/ArrayList", name := "isEmpty", desc := "()Z" } : Jvm.MethodName)) ∈ lw_all := lw_g (lw_at lw_m4 61 rfl) rfl
theorem q909 : (Jvm.Cond.code ({ cls := "java/util/ArrayList", name := "isEmpty", desc := "()Z" } : Jvm.MethodName) prog_41_method_9_code (1 : Nat) (Option.some Jvm.ClassFile.FieldType.boolean)) ∈ lw_all := lw_g (lw_at lw_m4 62 rfl) rfl
theorem q1763 : (Jvm.Cond.instanceMethod ({ cls := "java/util/ArrayList", name := "remove", desc := "(I)Ljava/lang/Object;" } : Jvm.MethodName)) ∈ lw_all := lw_g (lw_at lw_m7 196 rfl) rfl
theorem q1764 : (Jvm.Cond.selects "java/util/ArrayList" ({ cls := "java/util/ArrayList", name := "remove", desc := "(I)Ljava/lang/Object;" } : Jvm.MethodName) ({ cls := "java/util/ArrayList", name := "remove", desc := "(I)Ljava/lang/Object;" } : Jvm.MethodName)) ∈ lw_all := lw_g (lw_at lw_m7 197 rfl) rfl
theorem q1765 : (Jvm.Cond.code ({ cls := "java/util/ArrayList", name := "remove", desc := "(I)Ljava/lang/Object;" } : Jvm.MethodName) prog_41_method_29_code (4 : Nat) (Option.some (Jvm.ClassFile.FieldType.object "java/lang/Object"))) ∈ lw_all := lw_g (lw_at lw_m7 198 rfl) rfl
theorem q1766 : (Jvm.Cond.methodLink "java/util/ArrayList" (144 : Nat) ({ cls := "java/util/ArrayList", name := "fastRemove", desc := "([Ljava/lang/Object;I)V" } : Jvm.MethodName)) ∈ lw_all := lw_g (lw_at lw_m7 199 rfl) rfl
theorem q1767 : (Jvm.Cond.privateMethod ({ cls := "java/util/ArrayList", name := "fastRemove", desc := "([Ljava/lang/Object;I)V" } : Jvm.MethodName)) ∈ lw_tbl := lw_at lw_m7 200 rfl
theorem q1768 : (Jvm.Cond.instanceMethod ({ cls := "java/util/ArrayList", name := "fastRemove", desc := "([Ljava/lang/Object;I)V" } : Jvm.MethodName)) ∈ lw_all := lw_g (lw_at lw_m7 201 rfl) rfl
theorem q1769 : (Jvm.Cond.code ({ cls := "java/util/ArrayList", name := "fastRemove", desc := "([Ljava/lang/Object;I)V" } : Jvm.MethodName) prog_41_method_39_code (4 : Nat) (Option.none : Option Jvm.ClassFile.FieldType)) ∈ lw_all := lw_g (lw_at lw_m7 202 rfl) rfl
theorem q1770 : (Jvm.Cond.methodLink "java/util/ArrayList" (112 : Nat) ({ cls := "java/lang/System", name := "arraycopy", desc := "(Ljava/lang/Object;ILjava/lang/Object;II)V" } : Jvm.MethodName)) ∈ lw_all := lw_g (lw_at lw_m7 203 rfl) rfl
theorem q2398 : (Jvm.Cond.castable "java/util/ArrayList" "java/lang/Object") ∈ lw_tbl := lw_at lw_m10 111 rfl

/-! java/lang/String -/
set_option maxRecDepth 100000
def RJ8 : String := "java/lang/String"
abbrev cJ8_length : ByteArray := prog_29_method_54_code
def yJ8_length : MethodName := ⟨RJ8, "length", "()I"⟩
def dkwJ8_length_0 : List UInt8 := [42, 180, 0, 9, 190, 42, 182, 1, 79, 122, 172]
abbrev dktJ8_length_0 : List UInt8 := dkwJ8_length_0 ++ []
theorem dksJ8_length_0 : cJ8_length.data.toList.drop 0 = dktJ8_length_0 := by decide +kernel
theorem dJ8_length_0 : decode cJ8_length 0 = .ok (.aload_n 0, 1) := dk_42 (dk_at dksJ8_length_0 0 rfl rfl)
theorem dJ8_length_1 : decode cJ8_length 1 = .ok (.getfield 9, 3) := dk_180 0 9 (dk_at dksJ8_length_0 1 rfl rfl)
theorem dJ8_length_4 : decode cJ8_length 4 = .ok (.arraylength, 1) := dk_190 (dk_at dksJ8_length_0 4 rfl rfl)
theorem dJ8_length_5 : decode cJ8_length 5 = .ok (.aload_n 0, 1) := dk_42 (dk_at dksJ8_length_0 5 rfl rfl)
theorem dJ8_length_6 : decode cJ8_length 6 = .ok (.invokevirtual 335, 3) := dk_182 1 79 (dk_at dksJ8_length_0 6 rfl rfl)
theorem dJ8_length_9 : decode cJ8_length 9 = .ok (.ishr, 1) := dk_122 (dk_at dksJ8_length_0 9 rfl rfl)
theorem dJ8_length_10 : decode cJ8_length 10 = .ok (.ireturn, 1) := dk_172 (dk_at dksJ8_length_0 10 rfl rfl)
abbrev cJ8_coder : ByteArray := prog_29_method_152_code
def yJ8_coder : MethodName := ⟨RJ8, "coder", "()B"⟩
def dkwJ8_coder_0 : List UInt8 := [178, 0, 38, 153, 0, 10, 42, 180, 0, 15, 167, 0, 4, 4, 172]
abbrev dktJ8_coder_0 : List UInt8 := dkwJ8_coder_0 ++ []
theorem dksJ8_coder_0 : cJ8_coder.data.toList.drop 0 = dktJ8_coder_0 := by decide +kernel
theorem dJ8_coder_0 : decode cJ8_coder 0 = .ok (.getstatic 38, 3) := dk_178 0 38 (dk_at dksJ8_coder_0 0 rfl rfl)
theorem dJ8_coder_3 : decode cJ8_coder 3 = .ok (.ifCond .eq 10, 3) := dk_153 0 10 (dk_at dksJ8_coder_0 3 rfl rfl)
theorem dJ8_coder_6 : decode cJ8_coder 6 = .ok (.aload_n 0, 1) := dk_42 (dk_at dksJ8_coder_0 6 rfl rfl)
theorem dJ8_coder_7 : decode cJ8_coder 7 = .ok (.getfield 15, 3) := dk_180 0 15 (dk_at dksJ8_coder_0 7 rfl rfl)
theorem dJ8_coder_10 : decode cJ8_coder 10 = .ok (.goto 4, 3) := dk_167 0 4 (dk_at dksJ8_coder_0 10 rfl rfl)
theorem dJ8_coder_13 : decode cJ8_coder 13 = .ok (.iconst 1, 1) := dk_4 (dk_at dksJ8_coder_0 13 rfl rfl)
theorem dJ8_coder_14 : decode cJ8_coder 14 = .ok (.ireturn, 1) := dk_172 (dk_at dksJ8_coder_0 14 rfl rfl)
abbrev cJ8_charAt : ByteArray := prog_29_method_56_code
def yJ8_charAt : MethodName := ⟨RJ8, "charAt", "(I)C"⟩
def dkwJ8_charAt_1 : List UInt8 := [172]
abbrev dktJ8_charAt_1 : List UInt8 := dkwJ8_charAt_1 ++ []
def dkwJ8_charAt_0 : List UInt8 := [42, 182, 1, 236, 153, 0, 12, 42, 180, 0, 9, 27, 184, 1, 239, 172, 42, 180, 0, 9, 27, 184, 1, 242]
abbrev dktJ8_charAt_0 : List UInt8 := dkwJ8_charAt_0 ++ dktJ8_charAt_1
theorem dksJ8_charAt_0 : cJ8_charAt.data.toList.drop 0 = dktJ8_charAt_0 := by decide +kernel
theorem dksJ8_charAt_1 : cJ8_charAt.data.toList.drop 24 = dktJ8_charAt_1 := dk_seg dksJ8_charAt_0 24 rfl rfl
theorem dJ8_charAt_0 : decode cJ8_charAt 0 = .ok (.aload_n 0, 1) := dk_42 (dk_at dksJ8_charAt_0 0 rfl rfl)
theorem dJ8_charAt_1 : decode cJ8_charAt 1 = .ok (.invokevirtual 492, 3) := dk_182 1 236 (dk_at dksJ8_charAt_0 1 rfl rfl)
theorem dJ8_charAt_4 : decode cJ8_charAt 4 = .ok (.ifCond .eq 12, 3) := dk_153 0 12 (dk_at dksJ8_charAt_0 4 rfl rfl)
theorem dJ8_charAt_7 : decode cJ8_charAt 7 = .ok (.aload_n 0, 1) := dk_42 (dk_at dksJ8_charAt_0 7 rfl rfl)
theorem dJ8_charAt_8 : decode cJ8_charAt 8 = .ok (.getfield 9, 3) := dk_180 0 9 (dk_at dksJ8_charAt_0 8 rfl rfl)
theorem dJ8_charAt_11 : decode cJ8_charAt 11 = .ok (.iload_n 1, 1) := dk_27 (dk_at dksJ8_charAt_0 11 rfl rfl)
theorem dJ8_charAt_12 : decode cJ8_charAt 12 = .ok (.invokestatic 495, 3) := dk_184 1 239 (dk_at dksJ8_charAt_0 12 rfl rfl)
theorem dJ8_charAt_15 : decode cJ8_charAt 15 = .ok (.ireturn, 1) := dk_172 (dk_at dksJ8_charAt_0 15 rfl rfl)
theorem dJ8_charAt_16 : decode cJ8_charAt 16 = .ok (.aload_n 0, 1) := dk_42 (dk_at dksJ8_charAt_0 16 rfl rfl)
theorem dJ8_charAt_17 : decode cJ8_charAt 17 = .ok (.getfield 9, 3) := dk_180 0 9 (dk_at dksJ8_charAt_0 17 rfl rfl)
theorem dJ8_charAt_20 : decode cJ8_charAt 20 = .ok (.iload_n 1, 1) := dk_27 (dk_at dksJ8_charAt_0 20 rfl rfl)
theorem dJ8_charAt_21 : decode cJ8_charAt 21 = .ok (.invokestatic 498, 3) := dk_184 1 242 (dk_at dksJ8_charAt_0 21 rfl rfl)
theorem dJ8_charAt_24 : decode cJ8_charAt 24 = .ok (.ireturn, 1) := dk_172 (dk_at dksJ8_charAt_1 0 rfl rfl)
abbrev cJ8_isLatin1 : ByteArray := prog_29_method_154_code
def yJ8_isLatin1 : MethodName := ⟨RJ8, "isLatin1", "()Z"⟩
def dkwJ8_isLatin1_0 : List UInt8 := [178, 0, 38, 153, 0, 14, 42, 180, 0, 15, 154, 0, 7, 4, 167, 0, 4, 3, 172]
abbrev dktJ8_isLatin1_0 : List UInt8 := dkwJ8_isLatin1_0 ++ []
theorem dksJ8_isLatin1_0 : cJ8_isLatin1.data.toList.drop 0 = dktJ8_isLatin1_0 := by decide +kernel
theorem dJ8_isLatin1_0 : decode cJ8_isLatin1 0 = .ok (.getstatic 38, 3) := dk_178 0 38 (dk_at dksJ8_isLatin1_0 0 rfl rfl)
theorem dJ8_isLatin1_3 : decode cJ8_isLatin1 3 = .ok (.ifCond .eq 14, 3) := dk_153 0 14 (dk_at dksJ8_isLatin1_0 3 rfl rfl)
theorem dJ8_isLatin1_6 : decode cJ8_isLatin1 6 = .ok (.aload_n 0, 1) := dk_42 (dk_at dksJ8_isLatin1_0 6 rfl rfl)
theorem dJ8_isLatin1_7 : decode cJ8_isLatin1 7 = .ok (.getfield 15, 3) := dk_180 0 15 (dk_at dksJ8_isLatin1_0 7 rfl rfl)
theorem dJ8_isLatin1_10 : decode cJ8_isLatin1 10 = .ok (.ifCond .ne 7, 3) := dk_154 0 7 (dk_at dksJ8_isLatin1_0 10 rfl rfl)
theorem dJ8_isLatin1_13 : decode cJ8_isLatin1 13 = .ok (.iconst 1, 1) := dk_4 (dk_at dksJ8_isLatin1_0 13 rfl rfl)
theorem dJ8_isLatin1_14 : decode cJ8_isLatin1 14 = .ok (.goto 4, 3) := dk_167 0 4 (dk_at dksJ8_isLatin1_0 14 rfl rfl)
theorem dJ8_isLatin1_17 : decode cJ8_isLatin1 17 = .ok (.iconst 0, 1) := dk_3 (dk_at dksJ8_isLatin1_0 17 rfl rfl)
theorem dJ8_isLatin1_18 : decode cJ8_isLatin1 18 = .ok (.ireturn, 1) := dk_172 (dk_at dksJ8_isLatin1_0 18 rfl rfl)
abbrev cJ8_checkIndex : ByteArray := prog_29_method_155_code
def yJ8_checkIndex : MethodName := ⟨RJ8, "checkIndex", "(II)V"⟩
def dkwJ8_checkIndex_0 : List UInt8 := [26, 27, 178, 4, 29, 184, 4, 35, 87, 177]
abbrev dktJ8_checkIndex_0 : List UInt8 := dkwJ8_checkIndex_0 ++ []
theorem dksJ8_checkIndex_0 : cJ8_checkIndex.data.toList.drop 0 = dktJ8_checkIndex_0 := by decide +kernel
theorem dJ8_checkIndex_0 : decode cJ8_checkIndex 0 = .ok (.iload_n 0, 1) := dk_26 (dk_at dksJ8_checkIndex_0 0 rfl rfl)
theorem dJ8_checkIndex_1 : decode cJ8_checkIndex 1 = .ok (.iload_n 1, 1) := dk_27 (dk_at dksJ8_checkIndex_0 1 rfl rfl)
theorem dJ8_checkIndex_2 : decode cJ8_checkIndex 2 = .ok (.getstatic 1053, 3) := dk_178 4 29 (dk_at dksJ8_checkIndex_0 2 rfl rfl)
theorem dJ8_checkIndex_5 : decode cJ8_checkIndex 5 = .ok (.invokestatic 1059, 3) := dk_184 4 35 (dk_at dksJ8_checkIndex_0 5 rfl rfl)
theorem dJ8_checkIndex_8 : decode cJ8_checkIndex 8 = .ok (.pop, 1) := dk_87 (dk_at dksJ8_checkIndex_0 8 rfl rfl)
theorem dJ8_checkIndex_9 : decode cJ8_checkIndex 9 = .ok (.return_, 1) := dk_177 (dk_at dksJ8_checkIndex_0 9 rfl rfl)
abbrev cJ8_compareTo : ByteArray := prog_29_method_162_code
def yJ8_compareTo : MethodName := ⟨RJ8, "compareTo", "(Ljava/lang/Object;)I"⟩
def dkwJ8_compareTo_0 : List UInt8 := [42, 43, 192, 0, 10, 182, 4, 60, 172]
abbrev dktJ8_compareTo_0 : List UInt8 := dkwJ8_compareTo_0 ++ []
theorem dksJ8_compareTo_0 : cJ8_compareTo.data.toList.drop 0 = dktJ8_compareTo_0 := by decide +kernel
theorem dJ8_compareTo_0 : decode cJ8_compareTo 0 = .ok (.aload_n 0, 1) := dk_42 (dk_at dksJ8_compareTo_0 0 rfl rfl)
theorem dJ8_compareTo_1 : decode cJ8_compareTo 1 = .ok (.aload_n 1, 1) := dk_43 (dk_at dksJ8_compareTo_0 1 rfl rfl)
theorem dJ8_compareTo_2 : decode cJ8_compareTo 2 = .ok (.checkcast 10, 3) := dk_192 0 10 (dk_at dksJ8_compareTo_0 2 rfl rfl)
theorem dJ8_compareTo_5 : decode cJ8_compareTo 5 = .ok (.invokevirtual 1084, 3) := dk_182 4 60 (dk_at dksJ8_compareTo_0 5 rfl rfl)
theorem dJ8_compareTo_8 : decode cJ8_compareTo 8 = .ok (.ireturn, 1) := dk_172 (dk_at dksJ8_compareTo_0 8 rfl rfl)
abbrev cJ8_compareTo_2 : ByteArray := prog_29_method_71_code
def yJ8_compareTo_2 : MethodName := ⟨RJ8, "compareTo", "(Ljava/lang/String;)I"⟩
def dkwJ8_compareTo_2_2 : List UInt8 := [154, 0, 11, 44, 45, 184, 2, 79, 167, 0, 8, 44, 45, 184, 2, 82, 172]
abbrev dktJ8_compareTo_2_2 : List UInt8 := dkwJ8_compareTo_2_2 ++ []
def dkwJ8_compareTo_2_1 : List UInt8 := [160, 0, 22, 21, 4, 154, 0, 11, 44, 45, 184, 2, 74, 167, 0, 8, 44, 45, 184, 2, 78, 172, 21, 4]
abbrev dktJ8_compareTo_2_1 : List UInt8 := dkwJ8_compareTo_2_1 ++ dktJ8_compareTo_2_2
def dkwJ8_compareTo_2_0 : List UInt8 := [42, 180, 0, 9, 77, 43, 180, 0, 9, 78, 42, 182, 1, 79, 54, 4, 21, 4, 43, 182, 1, 79]
abbrev dktJ8_compareTo_2_0 : List UInt8 := dkwJ8_compareTo_2_0 ++ dktJ8_compareTo_2_1
theorem dksJ8_compareTo_2_0 : cJ8_compareTo_2.data.toList.drop 0 = dktJ8_compareTo_2_0 := by decide +kernel
theorem dksJ8_compareTo_2_1 : cJ8_compareTo_2.data.toList.drop 22 = dktJ8_compareTo_2_1 := dk_seg dksJ8_compareTo_2_0 22 rfl rfl
theorem dksJ8_compareTo_2_2 : cJ8_compareTo_2.data.toList.drop 46 = dktJ8_compareTo_2_2 := dk_seg dksJ8_compareTo_2_1 24 rfl rfl
theorem dJ8_compareTo_2_0 : decode cJ8_compareTo_2 0 = .ok (.aload_n 0, 1) := dk_42 (dk_at dksJ8_compareTo_2_0 0 rfl rfl)
theorem dJ8_compareTo_2_1 : decode cJ8_compareTo_2 1 = .ok (.getfield 9, 3) := dk_180 0 9 (dk_at dksJ8_compareTo_2_0 1 rfl rfl)
theorem dJ8_compareTo_2_4 : decode cJ8_compareTo_2 4 = .ok (.astore_n 2, 1) := dk_77 (dk_at dksJ8_compareTo_2_0 4 rfl rfl)
theorem dJ8_compareTo_2_5 : decode cJ8_compareTo_2 5 = .ok (.aload_n 1, 1) := dk_43 (dk_at dksJ8_compareTo_2_0 5 rfl rfl)
theorem dJ8_compareTo_2_6 : decode cJ8_compareTo_2 6 = .ok (.getfield 9, 3) := dk_180 0 9 (dk_at dksJ8_compareTo_2_0 6 rfl rfl)
theorem dJ8_compareTo_2_9 : decode cJ8_compareTo_2 9 = .ok (.astore_n 3, 1) := dk_78 (dk_at dksJ8_compareTo_2_0 9 rfl rfl)
theorem dJ8_compareTo_2_10 : decode cJ8_compareTo_2 10 = .ok (.aload_n 0, 1) := dk_42 (dk_at dksJ8_compareTo_2_0 10 rfl rfl)
theorem dJ8_compareTo_2_11 : decode cJ8_compareTo_2 11 = .ok (.invokevirtual 335, 3) := dk_182 1 79 (dk_at dksJ8_compareTo_2_0 11 rfl rfl)
theorem dJ8_compareTo_2_14 : decode cJ8_compareTo_2 14 = .ok (.istore 4, 2) := dk_54 4 (dk_at dksJ8_compareTo_2_0 14 rfl rfl)
theorem dJ8_compareTo_2_16 : decode cJ8_compareTo_2 16 = .ok (.iload 4, 2) := dk_21 4 (dk_at dksJ8_compareTo_2_0 16 rfl rfl)
theorem dJ8_compareTo_2_18 : decode cJ8_compareTo_2 18 = .ok (.aload_n 1, 1) := dk_43 (dk_at dksJ8_compareTo_2_0 18 rfl rfl)
theorem dJ8_compareTo_2_19 : decode cJ8_compareTo_2 19 = .ok (.invokevirtual 335, 3) := dk_182 1 79 (dk_at dksJ8_compareTo_2_0 19 rfl rfl)
theorem dJ8_compareTo_2_22 : decode cJ8_compareTo_2 22 = .ok (.if_icmp .ne 22, 3) := dk_160 0 22 (dk_at dksJ8_compareTo_2_1 0 rfl rfl)
theorem dJ8_compareTo_2_25 : decode cJ8_compareTo_2 25 = .ok (.iload 4, 2) := dk_21 4 (dk_at dksJ8_compareTo_2_1 3 rfl rfl)
theorem dJ8_compareTo_2_27 : decode cJ8_compareTo_2 27 = .ok (.ifCond .ne 11, 3) := dk_154 0 11 (dk_at dksJ8_compareTo_2_1 5 rfl rfl)
theorem dJ8_compareTo_2_30 : decode cJ8_compareTo_2 30 = .ok (.aload_n 2, 1) := dk_44 (dk_at dksJ8_compareTo_2_1 8 rfl rfl)
theorem dJ8_compareTo_2_31 : decode cJ8_compareTo_2 31 = .ok (.aload_n 3, 1) := dk_45 (dk_at dksJ8_compareTo_2_1 9 rfl rfl)
theorem dJ8_compareTo_2_32 : decode cJ8_compareTo_2 32 = .ok (.invokestatic 586, 3) := dk_184 2 74 (dk_at dksJ8_compareTo_2_1 10 rfl rfl)
theorem dJ8_compareTo_2_35 : decode cJ8_compareTo_2 35 = .ok (.goto 8, 3) := dk_167 0 8 (dk_at dksJ8_compareTo_2_1 13 rfl rfl)
theorem dJ8_compareTo_2_38 : decode cJ8_compareTo_2 38 = .ok (.aload_n 2, 1) := dk_44 (dk_at dksJ8_compareTo_2_1 16 rfl rfl)
theorem dJ8_compareTo_2_39 : decode cJ8_compareTo_2 39 = .ok (.aload_n 3, 1) := dk_45 (dk_at dksJ8_compareTo_2_1 17 rfl rfl)
theorem dJ8_compareTo_2_40 : decode cJ8_compareTo_2 40 = .ok (.invokestatic 590, 3) := dk_184 2 78 (dk_at dksJ8_compareTo_2_1 18 rfl rfl)
theorem dJ8_compareTo_2_43 : decode cJ8_compareTo_2 43 = .ok (.ireturn, 1) := dk_172 (dk_at dksJ8_compareTo_2_1 21 rfl rfl)
theorem dJ8_compareTo_2_44 : decode cJ8_compareTo_2 44 = .ok (.iload 4, 2) := dk_21 4 (dk_at dksJ8_compareTo_2_1 22 rfl rfl)
theorem dJ8_compareTo_2_46 : decode cJ8_compareTo_2 46 = .ok (.ifCond .ne 11, 3) := dk_154 0 11 (dk_at dksJ8_compareTo_2_2 0 rfl rfl)
theorem dJ8_compareTo_2_49 : decode cJ8_compareTo_2 49 = .ok (.aload_n 2, 1) := dk_44 (dk_at dksJ8_compareTo_2_2 3 rfl rfl)
theorem dJ8_compareTo_2_50 : decode cJ8_compareTo_2 50 = .ok (.aload_n 3, 1) := dk_45 (dk_at dksJ8_compareTo_2_2 4 rfl rfl)
theorem dJ8_compareTo_2_51 : decode cJ8_compareTo_2 51 = .ok (.invokestatic 591, 3) := dk_184 2 79 (dk_at dksJ8_compareTo_2_2 5 rfl rfl)
theorem dJ8_compareTo_2_54 : decode cJ8_compareTo_2 54 = .ok (.goto 8, 3) := dk_167 0 8 (dk_at dksJ8_compareTo_2_2 8 rfl rfl)
theorem dJ8_compareTo_2_57 : decode cJ8_compareTo_2 57 = .ok (.aload_n 2, 1) := dk_44 (dk_at dksJ8_compareTo_2_2 11 rfl rfl)
theorem dJ8_compareTo_2_58 : decode cJ8_compareTo_2 58 = .ok (.aload_n 3, 1) := dk_45 (dk_at dksJ8_compareTo_2_2 12 rfl rfl)
theorem dJ8_compareTo_2_59 : decode cJ8_compareTo_2 59 = .ok (.invokestatic 594, 3) := dk_184 2 82 (dk_at dksJ8_compareTo_2_2 13 rfl rfl)
theorem dJ8_compareTo_2_62 : decode cJ8_compareTo_2 62 = .ok (.ireturn, 1) := dk_172 (dk_at dksJ8_compareTo_2_2 16 rfl rfl)
theorem q142 : (Jvm.Cond.initialized "java/lang/String") ∈ lw_all := lw_g (lw_at lw_m1 15 rfl) rfl
theorem q509 : (Jvm.Cond.instanceMethod ({ cls := "java/lang/String", name := "length", desc := "()I" } : Jvm.MethodName)) ∈ lw_all := lw_g (lw_at lw_m2 142 rfl) rfl
theorem q510 : (Jvm.Cond.selects "java/lang/String" ({ cls := "java/lang/String", name := "length", desc := "()I" } : Jvm.MethodName) ({ cls := "java/lang/String", name := "length", desc := "()I" } : Jvm.MethodName)) ∈ lw_all := lw_g (lw_at lw_m2 143 rfl) rfl
theorem q511 : (Jvm.Cond.code ({ cls := "java/lang/String", name := "length", desc := "()I" } : Jvm.MethodName) prog_29_method_54_code (1 : Nat) (Option.some Jvm.ClassFile.FieldType.int)) ∈ lw_all := lw_g (lw_at lw_m2 144 rfl) rfl
theorem q512 : (Jvm.Cond.methodLink "java/lang/String" (335 : Nat) ({ cls := "java/lang/String", name := "coder", desc := "()B" } : Jvm.MethodName)) ∈ lw_all := lw_g (lw_at lw_m2 145 rfl) rfl
theorem q513 : (Jvm.Cond.instanceMethod ({ cls := "java/lang/String", name := "coder", desc := "()B" } : Jvm.MethodName)) ∈ lw_all := lw_g (lw_at lw_m2 146 rfl) rfl
theorem q514 : (Jvm.Cond.selects "java/lang/String" ({ cls := "java/lang/String", name := "coder", desc := "()B" } : Jvm.MethodName) ({ cls := "java/lang/String", name := "coder", desc := "()B" } : Jvm.MethodName)) ∈ lw_all := lw_g (lw_at lw_m2 147 rfl) rfl
theorem q515 : (Jvm.Cond.code ({ cls := "java/lang/String", name := "coder", desc := "()B" } : Jvm.MethodName) prog_29_method_152_code (1 : Nat) (Option.some Jvm.ClassFile.FieldType.byte)) ∈ lw_all := lw_g (lw_at lw_m2 148 rfl) rfl
theorem q516 : (Jvm.Cond.fieldLink "java/lang/String" (38 : Nat) "java/lang/String" "COMPACT_STRINGS" "Z") ∈ lw_all := lw_g (lw_at lw_m2 149 rfl) rfl
theorem q517 : (Jvm.Cond.laysStatic "java/lang/String" "COMPACT_STRINGS" "Z") ∈ lw_tbl := lw_at lw_m2 150 rfl
theorem q519 : (Jvm.Cond.instanceMethod ({ cls := "java/lang/String", name := "charAt", desc := "(I)C" } : Jvm.MethodName)) ∈ lw_all := lw_g (lw_at lw_m2 152 rfl) rfl
theorem q520 : (Jvm.Cond.selects "java/lang/String" ({ cls := "java/lang/String", name := "charAt", desc := "(I)C" } : Jvm.MethodName) ({ cls := "java/lang/String", name := "charAt", desc := "(I)C" } : Jvm.MethodName)) ∈ lw_all := lw_g (lw_at lw_m2 153 rfl) rfl
theorem q521 : (Jvm.Cond.code ({ cls := "java/lang/String", name := "charAt", desc := "(I)C" } : Jvm.MethodName) prog_29_method_56_code (2 : Nat) (Option.some Jvm.ClassFile.FieldType.char)) ∈ lw_all := lw_g (lw_at lw_m2 154 rfl) rfl
theorem q522 : (Jvm.Cond.methodLink "java/lang/String" (492 : Nat) ({ cls := "java/lang/String", name := "isLatin1", desc := "()Z" } : Jvm.MethodName)) ∈ lw_all := lw_g (lw_at lw_m2 155 rfl) rfl
theorem q523 : (Jvm.Cond.instanceMethod ({ cls := "java/lang/String", name := "isLatin1", desc := "()Z" } : Jvm.MethodName)) ∈ lw_all := lw_g (lw_at lw_m2 156 rfl) rfl
theorem q524 : (Jvm.Cond.selects "java/lang/String" ({ cls := "java/lang/String", name := "isLatin1", desc := "()Z" } : Jvm.MethodName) ({ cls := "java/lang/String", name := "isLatin1", desc := "()Z" } : Jvm.MethodName)) ∈ lw_all := lw_g (lw_at lw_m2 157 rfl) rfl
theorem q525 : (Jvm.Cond.code ({ cls := "java/lang/String", name := "isLatin1", desc := "()Z" } : Jvm.MethodName) prog_29_method_154_code (1 : Nat) (Option.some Jvm.ClassFile.FieldType.boolean)) ∈ lw_all := lw_g (lw_at lw_m2 158 rfl) rfl
theorem q526 : (Jvm.Cond.methodLink "java/lang/String" (495 : Nat) ({ cls := "java/lang/StringLatin1", name := "charAt", desc := "([BI)C" } : Jvm.MethodName)) ∈ lw_all := lw_g (lw_at lw_m2 159 rfl) rfl
theorem q530 : (Jvm.Cond.static ({ cls := "java/lang/String", name := "checkIndex", desc := "(II)V" } : Jvm.MethodName)) ∈ lw_all := lw_g (lw_at lw_m2 163 rfl) rfl
theorem q531 : (Jvm.Cond.code ({ cls := "java/lang/String", name := "checkIndex", desc := "(II)V" } : Jvm.MethodName) prog_29_method_155_code (2 : Nat) (Option.none : Option Jvm.ClassFile.FieldType)) ∈ lw_all := lw_g (lw_at lw_m2 164 rfl) rfl
theorem q532 : (Jvm.Cond.fieldLink "java/lang/String" (1053 : Nat) "jdk/internal/util/Preconditions" "SIOOBE_FORMATTER" "Ljava/util/function/BiFunction;") ∈ lw_all := lw_g (lw_at lw_m2 165 rfl) rfl
theorem q534 : (Jvm.Cond.methodLink "java/lang/String" (1059 : Nat) ({ cls := "jdk/internal/util/Preconditions", name := "checkIndex", desc := "(IILjava/util/function/BiFunction;)I" } : Jvm.MethodName)) ∈ lw_all := lw_g (lw_at lw_m2 167 rfl) rfl
theorem q537 : (Jvm.Cond.methodLink "java/lang/String" (498 : Nat) ({ cls := "java/lang/StringUTF16", name := "charAt", desc := "([BI)C" } : Jvm.MethodName)) ∈ lw_all := lw_g (lw_at lw_m2 170 rfl) rfl
theorem q982 : (Jvm.Cond.castable "java/lang/String" "java/lang/Comparable") ∈ lw_tbl := lw_at lw_m4 135 rfl
theorem q983 : (Jvm.Cond.selects "java/lang/String" ({ cls := "java/lang/Comparable", name := "compareTo", desc := "(Ljava/lang/Object;)I" } : Jvm.MethodName) ({ cls := "java/lang/String", name := "compareTo", desc := "(Ljava/lang/Object;)I" } : Jvm.MethodName)) ∈ lw_all := lw_g (lw_at lw_m4 136 rfl) rfl
theorem q984 : (Jvm.Cond.unhidden "java/lang/String" "compareTo" "(Ljava/lang/Object;)I") ∈ lw_tbl := lw_at lw_m4 137 rfl
theorem q985 : (Jvm.Cond.instanceMethod ({ cls := "java/lang/String", name := "compareTo", desc := "(Ljava/lang/Object;)I" } : Jvm.MethodName)) ∈ lw_all := lw_g (lw_at lw_m4 138 rfl) rfl
theorem q986 : (Jvm.Cond.publicMethod ({ cls := "java/lang/String", name := "compareTo", desc := "(Ljava/lang/Object;)I" } : Jvm.MethodName)) ∈ lw_tbl := lw_at lw_m4 139 rfl
theorem q987 : (Jvm.Cond.code ({ cls := "java/lang/String", name := "compareTo", desc := "(Ljava/lang/Object;)I" } : Jvm.MethodName) prog_29_method_162_code (2 : Nat) (Option.some Jvm.ClassFile.FieldType.int)) ∈ lw_all := lw_g (lw_at lw_m4 140 rfl) rfl
theorem q988 : (Jvm.Cond.classLink "java/lang/String" (10 : Nat) "java/lang/String") ∈ lw_all := lw_g (lw_at lw_m4 141 rfl) rfl
theorem q989 : (Jvm.Cond.methodLink "java/lang/String" (1084 : Nat) ({ cls := "java/lang/String", name := "compareTo", desc := "(Ljava/lang/String;)I" } : Jvm.MethodName)) ∈ lw_all := lw_g (lw_at lw_m4 142 rfl) rfl
theorem q990 : (Jvm.Cond.instanceMethod ({ cls := "java/lang/String", name := "compareTo", desc := "(Ljava/lang/String;)I" } : Jvm.MethodName)) ∈ lw_all := lw_g (lw_at lw_m4 143 rfl) rfl
theorem q991 : (Jvm.Cond.selects "java/lang/String" ({ cls := "java/lang/String", name := "compareTo", desc := "(Ljava/lang/String;)I" } : Jvm.MethodName) ({ cls := "java/lang/String", name := "compareTo", desc := "(Ljava/lang/String;)I" } : Jvm.MethodName)) ∈ lw_all := lw_g (lw_at lw_m4 144 rfl) rfl
theorem q992 : (Jvm.Cond.code ({ cls := "java/lang/String", name := "compareTo", desc := "(Ljava/lang/String;)I" } : Jvm.MethodName) prog_29_method_71_code (5 : Nat) (Option.some Jvm.ClassFile.FieldType.int)) ∈ lw_all := lw_g (lw_at lw_m4 145 rfl) rfl
theorem q993 : (Jvm.Cond.methodLink "java/lang/String" (586 : Nat) ({ cls := "java/lang/StringLatin1", name := "compareTo", desc := "([B[B)I" } : Jvm.MethodName)) ∈ lw_all := lw_g (lw_at lw_m4 146 rfl) rfl
theorem q1107 : (Jvm.Cond.methodLink "java/lang/String" (590 : Nat) ({ cls := "java/lang/StringUTF16", name := "compareTo", desc := "([B[B)I" } : Jvm.MethodName)) ∈ lw_all := lw_g (lw_at lw_m5 20 rfl) rfl
theorem q1114 : (Jvm.Cond.methodLink "java/lang/String" (591 : Nat) ({ cls := "java/lang/StringLatin1", name := "compareToUTF16", desc := "([B[B)I" } : Jvm.MethodName)) ∈ lw_all := lw_g (lw_at lw_m5 27 rfl) rfl
theorem q1125 : (Jvm.Cond.methodLink "java/lang/String" (594 : Nat) ({ cls := "java/lang/StringUTF16", name := "compareToLatin1", desc := "([B[B)I" } : Jvm.MethodName)) ∈ lw_all := lw_g (lw_at lw_m5 38 rfl) rfl
theorem q2410 : (Jvm.Cond.castable "java/lang/String" "java/lang/Object") ∈ lw_tbl := lw_at lw_m10 123 rfl
theorem q2420 : (Jvm.Cond.fieldLink "java/lang/String" (9 : Nat) "java/lang/String" "value" "[B") ∈ lw_all := lw_g (lw_at lw_m10 133 rfl) rfl
theorem q2421 : (Jvm.Cond.fieldLink "java/lang/String" (15 : Nat) "java/lang/String" "coder" "B") ∈ lw_all := lw_g (lw_at lw_m10 134 rfl) rfl

/-! java/lang/StringLatin1 -/
set_option maxRecDepth 100000
def RJ9 : String := "java/lang/StringLatin1"
abbrev cJ9_charAt : ByteArray := prog_30_method_2_code
def yJ9_charAt : MethodName := ⟨RJ9, "charAt", "([BI)C"⟩
def dkwJ9_charAt_0 : List UInt8 := [27, 42, 190, 184, 0, 9, 42, 27, 51, 17, 0, 255, 126, 146, 172]
abbrev dktJ9_charAt_0 : List UInt8 := dkwJ9_charAt_0 ++ []
theorem dksJ9_charAt_0 : cJ9_charAt.data.toList.drop 0 = dktJ9_charAt_0 := by decide +kernel
theorem dJ9_charAt_0 : decode cJ9_charAt 0 = .ok (.iload_n 1, 1) := dk_27 (dk_at dksJ9_charAt_0 0 rfl rfl)
theorem dJ9_charAt_1 : decode cJ9_charAt 1 = .ok (.aload_n 0, 1) := dk_42 (dk_at dksJ9_charAt_0 1 rfl rfl)
theorem dJ9_charAt_2 : decode cJ9_charAt 2 = .ok (.arraylength, 1) := dk_190 (dk_at dksJ9_charAt_0 2 rfl rfl)
theorem dJ9_charAt_3 : decode cJ9_charAt 3 = .ok (.invokestatic 9, 3) := dk_184 0 9 (dk_at dksJ9_charAt_0 3 rfl rfl)
theorem dJ9_charAt_6 : decode cJ9_charAt 6 = .ok (.aload_n 0, 1) := dk_42 (dk_at dksJ9_charAt_0 6 rfl rfl)
theorem dJ9_charAt_7 : decode cJ9_charAt 7 = .ok (.iload_n 1, 1) := dk_27 (dk_at dksJ9_charAt_0 7 rfl rfl)
theorem dJ9_charAt_8 : decode cJ9_charAt 8 = .ok (.baload, 1) := dk_51 (dk_at dksJ9_charAt_0 8 rfl rfl)
theorem dJ9_charAt_9 : decode cJ9_charAt 9 = .ok (.sipush 255, 3) := dk_17 0 255 (dk_at dksJ9_charAt_0 9 rfl rfl)
theorem dJ9_charAt_12 : decode cJ9_charAt 12 = .ok (.iand, 1) := dk_126 (dk_at dksJ9_charAt_0 12 rfl rfl)
theorem dJ9_charAt_13 : decode cJ9_charAt 13 = .ok (.i2c, 1) := dk_146 (dk_at dksJ9_charAt_0 13 rfl rfl)
theorem dJ9_charAt_14 : decode cJ9_charAt 14 = .ok (.ireturn, 1) := dk_172 (dk_at dksJ9_charAt_0 14 rfl rfl)
abbrev cJ9_compareTo : ByteArray := prog_30_method_14_code
def yJ9_compareTo : MethodName := ⟨RJ9, "compareTo", "([B[B)I"⟩
def dkwJ9_compareTo_0 : List UInt8 := [42, 190, 61, 43, 190, 62, 42, 43, 28, 29, 184, 0, 34, 172]
abbrev dktJ9_compareTo_0 : List UInt8 := dkwJ9_compareTo_0 ++ []
theorem dksJ9_compareTo_0 : cJ9_compareTo.data.toList.drop 0 = dktJ9_compareTo_0 := by decide +kernel
theorem dJ9_compareTo_0 : decode cJ9_compareTo 0 = .ok (.aload_n 0, 1) := dk_42 (dk_at dksJ9_compareTo_0 0 rfl rfl)
theorem dJ9_compareTo_1 : decode cJ9_compareTo 1 = .ok (.arraylength, 1) := dk_190 (dk_at dksJ9_compareTo_0 1 rfl rfl)
theorem dJ9_compareTo_2 : decode cJ9_compareTo 2 = .ok (.istore_n 2, 1) := dk_61 (dk_at dksJ9_compareTo_0 2 rfl rfl)
theorem dJ9_compareTo_3 : decode cJ9_compareTo 3 = .ok (.aload_n 1, 1) := dk_43 (dk_at dksJ9_compareTo_0 3 rfl rfl)
theorem dJ9_compareTo_4 : decode cJ9_compareTo 4 = .ok (.arraylength, 1) := dk_190 (dk_at dksJ9_compareTo_0 4 rfl rfl)
theorem dJ9_compareTo_5 : decode cJ9_compareTo 5 = .ok (.istore_n 3, 1) := dk_62 (dk_at dksJ9_compareTo_0 5 rfl rfl)
theorem dJ9_compareTo_6 : decode cJ9_compareTo 6 = .ok (.aload_n 0, 1) := dk_42 (dk_at dksJ9_compareTo_0 6 rfl rfl)
theorem dJ9_compareTo_7 : decode cJ9_compareTo 7 = .ok (.aload_n 1, 1) := dk_43 (dk_at dksJ9_compareTo_0 7 rfl rfl)
theorem dJ9_compareTo_8 : decode cJ9_compareTo 8 = .ok (.iload_n 2, 1) := dk_28 (dk_at dksJ9_compareTo_0 8 rfl rfl)
theorem dJ9_compareTo_9 : decode cJ9_compareTo 9 = .ok (.iload_n 3, 1) := dk_29 (dk_at dksJ9_compareTo_0 9 rfl rfl)
theorem dJ9_compareTo_10 : decode cJ9_compareTo 10 = .ok (.invokestatic 34, 3) := dk_184 0 34 (dk_at dksJ9_compareTo_0 10 rfl rfl)
theorem dJ9_compareTo_13 : decode cJ9_compareTo 13 = .ok (.ireturn, 1) := dk_172 (dk_at dksJ9_compareTo_0 13 rfl rfl)
abbrev cJ9_compareTo_2 : ByteArray := prog_30_method_15_code
def yJ9_compareTo_2 : MethodName := ⟨RJ9, "compareTo", "([B[BII)I"⟩
def dkwJ9_compareTo_2_1 : List UInt8 := [167, 0, 16, 42, 21, 5, 184, 0, 50, 43, 21, 5, 184, 0, 50, 100, 172]
abbrev dktJ9_compareTo_2_1 : List UInt8 := dkwJ9_compareTo_2_1 ++ []
def dkwJ9_compareTo_2_0 : List UInt8 := [28, 29, 184, 0, 38, 54, 4, 42, 43, 21, 4, 184, 0, 44, 54, 5, 21, 5, 156, 0, 9, 28, 29, 100]
abbrev dktJ9_compareTo_2_0 : List UInt8 := dkwJ9_compareTo_2_0 ++ dktJ9_compareTo_2_1
theorem dksJ9_compareTo_2_0 : cJ9_compareTo_2.data.toList.drop 0 = dktJ9_compareTo_2_0 := by decide +kernel
theorem dksJ9_compareTo_2_1 : cJ9_compareTo_2.data.toList.drop 24 = dktJ9_compareTo_2_1 := dk_seg dksJ9_compareTo_2_0 24 rfl rfl
theorem dJ9_compareTo_2_0 : decode cJ9_compareTo_2 0 = .ok (.iload_n 2, 1) := dk_28 (dk_at dksJ9_compareTo_2_0 0 rfl rfl)
theorem dJ9_compareTo_2_1 : decode cJ9_compareTo_2 1 = .ok (.iload_n 3, 1) := dk_29 (dk_at dksJ9_compareTo_2_0 1 rfl rfl)
theorem dJ9_compareTo_2_2 : decode cJ9_compareTo_2 2 = .ok (.invokestatic 38, 3) := dk_184 0 38 (dk_at dksJ9_compareTo_2_0 2 rfl rfl)
theorem dJ9_compareTo_2_5 : decode cJ9_compareTo_2 5 = .ok (.istore 4, 2) := dk_54 4 (dk_at dksJ9_compareTo_2_0 5 rfl rfl)
theorem dJ9_compareTo_2_7 : decode cJ9_compareTo_2 7 = .ok (.aload_n 0, 1) := dk_42 (dk_at dksJ9_compareTo_2_0 7 rfl rfl)
theorem dJ9_compareTo_2_8 : decode cJ9_compareTo_2 8 = .ok (.aload_n 1, 1) := dk_43 (dk_at dksJ9_compareTo_2_0 8 rfl rfl)
theorem dJ9_compareTo_2_9 : decode cJ9_compareTo_2 9 = .ok (.iload 4, 2) := dk_21 4 (dk_at dksJ9_compareTo_2_0 9 rfl rfl)
theorem dJ9_compareTo_2_11 : decode cJ9_compareTo_2 11 = .ok (.invokestatic 44, 3) := dk_184 0 44 (dk_at dksJ9_compareTo_2_0 11 rfl rfl)
theorem dJ9_compareTo_2_14 : decode cJ9_compareTo_2 14 = .ok (.istore 5, 2) := dk_54 5 (dk_at dksJ9_compareTo_2_0 14 rfl rfl)
theorem dJ9_compareTo_2_16 : decode cJ9_compareTo_2 16 = .ok (.iload 5, 2) := dk_21 5 (dk_at dksJ9_compareTo_2_0 16 rfl rfl)
theorem dJ9_compareTo_2_18 : decode cJ9_compareTo_2 18 = .ok (.ifCond .ge 9, 3) := dk_156 0 9 (dk_at dksJ9_compareTo_2_0 18 rfl rfl)
theorem dJ9_compareTo_2_21 : decode cJ9_compareTo_2 21 = .ok (.iload_n 2, 1) := dk_28 (dk_at dksJ9_compareTo_2_0 21 rfl rfl)
theorem dJ9_compareTo_2_22 : decode cJ9_compareTo_2 22 = .ok (.iload_n 3, 1) := dk_29 (dk_at dksJ9_compareTo_2_0 22 rfl rfl)
theorem dJ9_compareTo_2_23 : decode cJ9_compareTo_2 23 = .ok (.isub, 1) := dk_100 (dk_at dksJ9_compareTo_2_0 23 rfl rfl)
theorem dJ9_compareTo_2_24 : decode cJ9_compareTo_2 24 = .ok (.goto 16, 3) := dk_167 0 16 (dk_at dksJ9_compareTo_2_1 0 rfl rfl)
theorem dJ9_compareTo_2_27 : decode cJ9_compareTo_2 27 = .ok (.aload_n 0, 1) := dk_42 (dk_at dksJ9_compareTo_2_1 3 rfl rfl)
theorem dJ9_compareTo_2_28 : decode cJ9_compareTo_2 28 = .ok (.iload 5, 2) := dk_21 5 (dk_at dksJ9_compareTo_2_1 4 rfl rfl)
theorem dJ9_compareTo_2_30 : decode cJ9_compareTo_2 30 = .ok (.invokestatic 50, 3) := dk_184 0 50 (dk_at dksJ9_compareTo_2_1 6 rfl rfl)
theorem dJ9_compareTo_2_33 : decode cJ9_compareTo_2 33 = .ok (.aload_n 1, 1) := dk_43 (dk_at dksJ9_compareTo_2_1 9 rfl rfl)
theorem dJ9_compareTo_2_34 : decode cJ9_compareTo_2 34 = .ok (.iload 5, 2) := dk_21 5 (dk_at dksJ9_compareTo_2_1 10 rfl rfl)
theorem dJ9_compareTo_2_36 : decode cJ9_compareTo_2 36 = .ok (.invokestatic 50, 3) := dk_184 0 50 (dk_at dksJ9_compareTo_2_1 12 rfl rfl)
theorem dJ9_compareTo_2_39 : decode cJ9_compareTo_2 39 = .ok (.isub, 1) := dk_100 (dk_at dksJ9_compareTo_2_1 15 rfl rfl)
theorem dJ9_compareTo_2_40 : decode cJ9_compareTo_2 40 = .ok (.ireturn, 1) := dk_172 (dk_at dksJ9_compareTo_2_1 16 rfl rfl)
abbrev cJ9_getChar : ByteArray := prog_30_method_44_code
def yJ9_getChar : MethodName := ⟨RJ9, "getChar", "([BI)C"⟩
def dkwJ9_getChar_0 : List UInt8 := [42, 27, 51, 17, 0, 255, 126, 146, 172]
abbrev dktJ9_getChar_0 : List UInt8 := dkwJ9_getChar_0 ++ []
theorem dksJ9_getChar_0 : cJ9_getChar.data.toList.drop 0 = dktJ9_getChar_0 := by decide +kernel
theorem dJ9_getChar_0 : decode cJ9_getChar 0 = .ok (.aload_n 0, 1) := dk_42 (dk_at dksJ9_getChar_0 0 rfl rfl)
theorem dJ9_getChar_1 : decode cJ9_getChar 1 = .ok (.iload_n 1, 1) := dk_27 (dk_at dksJ9_getChar_0 1 rfl rfl)
theorem dJ9_getChar_2 : decode cJ9_getChar 2 = .ok (.baload, 1) := dk_51 (dk_at dksJ9_getChar_0 2 rfl rfl)
theorem dJ9_getChar_3 : decode cJ9_getChar 3 = .ok (.sipush 255, 3) := dk_17 0 255 (dk_at dksJ9_getChar_0 3 rfl rfl)
theorem dJ9_getChar_6 : decode cJ9_getChar 6 = .ok (.iand, 1) := dk_126 (dk_at dksJ9_getChar_0 6 rfl rfl)
theorem dJ9_getChar_7 : decode cJ9_getChar 7 = .ok (.i2c, 1) := dk_146 (dk_at dksJ9_getChar_0 7 rfl rfl)
theorem dJ9_getChar_8 : decode cJ9_getChar 8 = .ok (.ireturn, 1) := dk_172 (dk_at dksJ9_getChar_0 8 rfl rfl)
abbrev cJ9_compareToUTF16 : ByteArray := prog_30_method_16_code
def yJ9_compareToUTF16 : MethodName := ⟨RJ9, "compareToUTF16", "([B[B)I"⟩
def dkwJ9_compareToUTF16_0 : List UInt8 := [42, 184, 0, 54, 61, 43, 184, 0, 58, 62, 42, 43, 28, 29, 184, 0, 59, 172]
abbrev dktJ9_compareToUTF16_0 : List UInt8 := dkwJ9_compareToUTF16_0 ++ []
theorem dksJ9_compareToUTF16_0 : cJ9_compareToUTF16.data.toList.drop 0 = dktJ9_compareToUTF16_0 := by decide +kernel
theorem dJ9_compareToUTF16_0 : decode cJ9_compareToUTF16 0 = .ok (.aload_n 0, 1) := dk_42 (dk_at dksJ9_compareToUTF16_0 0 rfl rfl)
theorem dJ9_compareToUTF16_1 : decode cJ9_compareToUTF16 1 = .ok (.invokestatic 54, 3) := dk_184 0 54 (dk_at dksJ9_compareToUTF16_0 1 rfl rfl)
theorem dJ9_compareToUTF16_4 : decode cJ9_compareToUTF16 4 = .ok (.istore_n 2, 1) := dk_61 (dk_at dksJ9_compareToUTF16_0 4 rfl rfl)
theorem dJ9_compareToUTF16_5 : decode cJ9_compareToUTF16 5 = .ok (.aload_n 1, 1) := dk_43 (dk_at dksJ9_compareToUTF16_0 5 rfl rfl)
theorem dJ9_compareToUTF16_6 : decode cJ9_compareToUTF16 6 = .ok (.invokestatic 58, 3) := dk_184 0 58 (dk_at dksJ9_compareToUTF16_0 6 rfl rfl)
theorem dJ9_compareToUTF16_9 : decode cJ9_compareToUTF16 9 = .ok (.istore_n 3, 1) := dk_62 (dk_at dksJ9_compareToUTF16_0 9 rfl rfl)
theorem dJ9_compareToUTF16_10 : decode cJ9_compareToUTF16 10 = .ok (.aload_n 0, 1) := dk_42 (dk_at dksJ9_compareToUTF16_0 10 rfl rfl)
theorem dJ9_compareToUTF16_11 : decode cJ9_compareToUTF16 11 = .ok (.aload_n 1, 1) := dk_43 (dk_at dksJ9_compareToUTF16_0 11 rfl rfl)
theorem dJ9_compareToUTF16_12 : decode cJ9_compareToUTF16 12 = .ok (.iload_n 2, 1) := dk_28 (dk_at dksJ9_compareToUTF16_0 12 rfl rfl)
theorem dJ9_compareToUTF16_13 : decode cJ9_compareToUTF16 13 = .ok (.iload_n 3, 1) := dk_29 (dk_at dksJ9_compareToUTF16_0 13 rfl rfl)
theorem dJ9_compareToUTF16_14 : decode cJ9_compareToUTF16 14 = .ok (.invokestatic 59, 3) := dk_184 0 59 (dk_at dksJ9_compareToUTF16_0 14 rfl rfl)
theorem dJ9_compareToUTF16_17 : decode cJ9_compareToUTF16 17 = .ok (.ireturn, 1) := dk_172 (dk_at dksJ9_compareToUTF16_0 17 rfl rfl)
abbrev cJ9_length : ByteArray := prog_30_method_5_code
def yJ9_length : MethodName := ⟨RJ9, "length", "([B)I"⟩
theorem dJ9_length_0 : decode cJ9_length 0 = .ok (.aload_n 0, 1) := by decide +kernel
theorem dJ9_length_1 : decode cJ9_length 1 = .ok (.arraylength, 1) := by decide +kernel
theorem dJ9_length_2 : decode cJ9_length 2 = .ok (.ireturn, 1) := by decide +kernel
abbrev cJ9_compareToUTF16Values : ByteArray := prog_30_method_18_code
def yJ9_compareToUTF16Values : MethodName := ⟨RJ9, "compareToUTF16Values", "([B[BII)I"⟩
def dkwJ9_compareToUTF16Values_2 : List UInt8 := [132, 5, 1, 167, 255, 217, 28, 29, 100, 172]
abbrev dktJ9_compareToUTF16Values_2 : List UInt8 := dkwJ9_compareToUTF16Values_2 ++ []
def dkwJ9_compareToUTF16Values_1 : List UInt8 := [54, 6, 43, 21, 5, 184, 0, 65, 54, 7, 21, 6, 21, 7, 159, 0, 9, 21, 6, 21, 7, 100, 172]
abbrev dktJ9_compareToUTF16Values_1 : List UInt8 := dkwJ9_compareToUTF16Values_1 ++ dktJ9_compareToUTF16Values_2
def dkwJ9_compareToUTF16Values_0 : List UInt8 := [28, 29, 184, 0, 38, 54, 4, 3, 54, 5, 21, 5, 21, 4, 162, 0, 38, 42, 21, 5, 184, 0, 50]
abbrev dktJ9_compareToUTF16Values_0 : List UInt8 := dkwJ9_compareToUTF16Values_0 ++ dktJ9_compareToUTF16Values_1
theorem dksJ9_compareToUTF16Values_0 : cJ9_compareToUTF16Values.data.toList.drop 0 = dktJ9_compareToUTF16Values_0 := by decide +kernel
theorem dksJ9_compareToUTF16Values_1 : cJ9_compareToUTF16Values.data.toList.drop 23 = dktJ9_compareToUTF16Values_1 := dk_seg dksJ9_compareToUTF16Values_0 23 rfl rfl
theorem dksJ9_compareToUTF16Values_2 : cJ9_compareToUTF16Values.data.toList.drop 46 = dktJ9_compareToUTF16Values_2 := dk_seg dksJ9_compareToUTF16Values_1 23 rfl rfl
theorem dJ9_compareToUTF16Values_0 : decode cJ9_compareToUTF16Values 0 = .ok (.iload_n 2, 1) := dk_28 (dk_at dksJ9_compareToUTF16Values_0 0 rfl rfl)
theorem dJ9_compareToUTF16Values_1 : decode cJ9_compareToUTF16Values 1 = .ok (.iload_n 3, 1) := dk_29 (dk_at dksJ9_compareToUTF16Values_0 1 rfl rfl)
theorem dJ9_compareToUTF16Values_2 : decode cJ9_compareToUTF16Values 2 = .ok (.invokestatic 38, 3) := dk_184 0 38 (dk_at dksJ9_compareToUTF16Values_0 2 rfl rfl)
theorem dJ9_compareToUTF16Values_5 : decode cJ9_compareToUTF16Values 5 = .ok (.istore 4, 2) := dk_54 4 (dk_at dksJ9_compareToUTF16Values_0 5 rfl rfl)
theorem dJ9_compareToUTF16Values_7 : decode cJ9_compareToUTF16Values 7 = .ok (.iconst 0, 1) := dk_3 (dk_at dksJ9_compareToUTF16Values_0 7 rfl rfl)
theorem dJ9_compareToUTF16Values_8 : decode cJ9_compareToUTF16Values 8 = .ok (.istore 5, 2) := dk_54 5 (dk_at dksJ9_compareToUTF16Values_0 8 rfl rfl)
theorem dJ9_compareToUTF16Values_10 : decode cJ9_compareToUTF16Values 10 = .ok (.iload 5, 2) := dk_21 5 (dk_at dksJ9_compareToUTF16Values_0 10 rfl rfl)
theorem dJ9_compareToUTF16Values_12 : decode cJ9_compareToUTF16Values 12 = .ok (.iload 4, 2) := dk_21 4 (dk_at dksJ9_compareToUTF16Values_0 12 rfl rfl)
theorem dJ9_compareToUTF16Values_14 : decode cJ9_compareToUTF16Values 14 = .ok (.if_icmp .ge 38, 3) := dk_162 0 38 (dk_at dksJ9_compareToUTF16Values_0 14 rfl rfl)
theorem dJ9_compareToUTF16Values_17 : decode cJ9_compareToUTF16Values 17 = .ok (.aload_n 0, 1) := dk_42 (dk_at dksJ9_compareToUTF16Values_0 17 rfl rfl)
theorem dJ9_compareToUTF16Values_18 : decode cJ9_compareToUTF16Values 18 = .ok (.iload 5, 2) := dk_21 5 (dk_at dksJ9_compareToUTF16Values_0 18 rfl rfl)
theorem dJ9_compareToUTF16Values_20 : decode cJ9_compareToUTF16Values 20 = .ok (.invokestatic 50, 3) := dk_184 0 50 (dk_at dksJ9_compareToUTF16Values_0 20 rfl rfl)
theorem dJ9_compareToUTF16Values_23 : decode cJ9_compareToUTF16Values 23 = .ok (.istore 6, 2) := dk_54 6 (dk_at dksJ9_compareToUTF16Values_1 0 rfl rfl)
theorem dJ9_compareToUTF16Values_25 : decode cJ9_compareToUTF16Values 25 = .ok (.aload_n 1, 1) := dk_43 (dk_at dksJ9_compareToUTF16Values_1 2 rfl rfl)
theorem dJ9_compareToUTF16Values_26 : decode cJ9_compareToUTF16Values 26 = .ok (.iload 5, 2) := dk_21 5 (dk_at dksJ9_compareToUTF16Values_1 3 rfl rfl)
theorem dJ9_compareToUTF16Values_28 : decode cJ9_compareToUTF16Values 28 = .ok (.invokestatic 65, 3) := dk_184 0 65 (dk_at dksJ9_compareToUTF16Values_1 5 rfl rfl)
theorem dJ9_compareToUTF16Values_31 : decode cJ9_compareToUTF16Values 31 = .ok (.istore 7, 2) := dk_54 7 (dk_at dksJ9_compareToUTF16Values_1 8 rfl rfl)
theorem dJ9_compareToUTF16Values_33 : decode cJ9_compareToUTF16Values 33 = .ok (.iload 6, 2) := dk_21 6 (dk_at dksJ9_compareToUTF16Values_1 10 rfl rfl)
theorem dJ9_compareToUTF16Values_35 : decode cJ9_compareToUTF16Values 35 = .ok (.iload 7, 2) := dk_21 7 (dk_at dksJ9_compareToUTF16Values_1 12 rfl rfl)
theorem dJ9_compareToUTF16Values_37 : decode cJ9_compareToUTF16Values 37 = .ok (.if_icmp .eq 9, 3) := dk_159 0 9 (dk_at dksJ9_compareToUTF16Values_1 14 rfl rfl)
theorem dJ9_compareToUTF16Values_40 : decode cJ9_compareToUTF16Values 40 = .ok (.iload 6, 2) := dk_21 6 (dk_at dksJ9_compareToUTF16Values_1 17 rfl rfl)
theorem dJ9_compareToUTF16Values_42 : decode cJ9_compareToUTF16Values 42 = .ok (.iload 7, 2) := dk_21 7 (dk_at dksJ9_compareToUTF16Values_1 19 rfl rfl)
theorem dJ9_compareToUTF16Values_44 : decode cJ9_compareToUTF16Values 44 = .ok (.isub, 1) := dk_100 (dk_at dksJ9_compareToUTF16Values_1 21 rfl rfl)
theorem dJ9_compareToUTF16Values_45 : decode cJ9_compareToUTF16Values 45 = .ok (.ireturn, 1) := dk_172 (dk_at dksJ9_compareToUTF16Values_1 22 rfl rfl)
theorem dJ9_compareToUTF16Values_46 : decode cJ9_compareToUTF16Values 46 = .ok (.iinc 5 1, 3) := dk_132 5 1 (dk_at dksJ9_compareToUTF16Values_2 0 rfl rfl)
theorem dJ9_compareToUTF16Values_49 : decode cJ9_compareToUTF16Values 49 = .ok (.goto (-39), 3) := dk_167 255 217 (dk_at dksJ9_compareToUTF16Values_2 3 rfl rfl)
theorem dJ9_compareToUTF16Values_52 : decode cJ9_compareToUTF16Values 52 = .ok (.iload_n 2, 1) := dk_28 (dk_at dksJ9_compareToUTF16Values_2 6 rfl rfl)
theorem dJ9_compareToUTF16Values_53 : decode cJ9_compareToUTF16Values 53 = .ok (.iload_n 3, 1) := dk_29 (dk_at dksJ9_compareToUTF16Values_2 7 rfl rfl)
theorem dJ9_compareToUTF16Values_54 : decode cJ9_compareToUTF16Values 54 = .ok (.isub, 1) := dk_100 (dk_at dksJ9_compareToUTF16Values_2 8 rfl rfl)
theorem dJ9_compareToUTF16Values_55 : decode cJ9_compareToUTF16Values 55 = .ok (.ireturn, 1) := dk_172 (dk_at dksJ9_compareToUTF16Values_2 9 rfl rfl)
theorem q143 : (Jvm.Cond.initialized "java/lang/StringLatin1") ∈ lw_all := lw_g (lw_at lw_m1 16 rfl) rfl
theorem q527 : (Jvm.Cond.static ({ cls := "java/lang/StringLatin1", name := "charAt", desc := "([BI)C" } : Jvm.MethodName)) ∈ lw_all := lw_g (lw_at lw_m2 160 rfl) rfl
theorem q528 : (Jvm.Cond.code ({ cls := "java/lang/StringLatin1", name := "charAt", desc := "([BI)C" } : Jvm.MethodName) prog_30_method_2_code (2 : Nat) (Option.some Jvm.ClassFile.FieldType.char)) ∈ lw_all := lw_g (lw_at lw_m2 161 rfl) rfl
theorem q529 : (Jvm.Cond.methodLink "java/lang/StringLatin1" (9 : Nat) ({ cls := "java/lang/String", name := "checkIndex", desc := "(II)V" } : Jvm.MethodName)) ∈ lw_all := lw_g (lw_at lw_m2 162 rfl) rfl
theorem q994 : (Jvm.Cond.static ({ cls := "java/lang/StringLatin1", name := "compareTo", desc := "([B[B)I" } : Jvm.MethodName)) ∈ lw_all := lw_g (lw_at lw_m4 147 rfl) rfl
theorem q995 : (Jvm.Cond.code ({ cls := "java/lang/StringLatin1", name := "compareTo", desc := "([B[B)I" } : Jvm.MethodName) prog_30_method_14_code (4 : Nat) (Option.some Jvm.ClassFile.FieldType.int)) ∈ lw_all := lw_g (lw_at lw_m4 148 rfl) rfl
theorem q996 : (Jvm.Cond.methodLink "java/lang/StringLatin1" (34 : Nat) ({ cls := "java/lang/StringLatin1", name := "compareTo", desc := "([B[BII)I" } : Jvm.MethodName)) ∈ lw_all := lw_g (lw_at lw_m4 149 rfl) rfl
theorem q997 : (Jvm.Cond.static ({ cls := "java/lang/StringLatin1", name := "compareTo", desc := "([B[BII)I" } : Jvm.MethodName)) ∈ lw_all := lw_g (lw_at lw_m4 150 rfl) rfl
theorem q998 : (Jvm.Cond.code ({ cls := "java/lang/StringLatin1", name := "compareTo", desc := "([B[BII)I" } : Jvm.MethodName) prog_30_method_15_code (6 : Nat) (Option.some Jvm.ClassFile.FieldType.int)) ∈ lw_all := lw_g (lw_at lw_m4 151 rfl) rfl
theorem q999 : (Jvm.Cond.methodLink "java/lang/StringLatin1" (38 : Nat) ({ cls := "java/lang/Math", name := "min", desc := "(II)I" } : Jvm.MethodName)) ∈ lw_all := lw_g (lw_at lw_m4 152 rfl) rfl
theorem q1000 : (Jvm.Cond.methodLink "java/lang/StringLatin1" (44 : Nat) ({ cls := "jdk/internal/util/ArraysSupport", name := "mismatch", desc := "([B[BI)I" } : Jvm.MethodName)) ∈ lw_all := lw_g (lw_at lw_m4 153 rfl) rfl
theorem q1104 : (Jvm.Cond.methodLink "java/lang/StringLatin1" (50 : Nat) ({ cls := "java/lang/StringLatin1", name := "getChar", desc := "([BI)C" } : Jvm.MethodName)) ∈ lw_all := lw_g (lw_at lw_m5 17 rfl) rfl
theorem q1105 : (Jvm.Cond.static ({ cls := "java/lang/StringLatin1", name := "getChar", desc := "([BI)C" } : Jvm.MethodName)) ∈ lw_all := lw_g (lw_at lw_m5 18 rfl) rfl
theorem q1106 : (Jvm.Cond.code ({ cls := "java/lang/StringLatin1", name := "getChar", desc := "([BI)C" } : Jvm.MethodName) prog_30_method_44_code (2 : Nat) (Option.some Jvm.ClassFile.FieldType.char)) ∈ lw_all := lw_g (lw_at lw_m5 19 rfl) rfl
theorem q1115 : (Jvm.Cond.static ({ cls := "java/lang/StringLatin1", name := "compareToUTF16", desc := "([B[B)I" } : Jvm.MethodName)) ∈ lw_all := lw_g (lw_at lw_m5 28 rfl) rfl
theorem q1116 : (Jvm.Cond.code ({ cls := "java/lang/StringLatin1", name := "compareToUTF16", desc := "([B[B)I" } : Jvm.MethodName) prog_30_method_16_code (4 : Nat) (Option.some Jvm.ClassFile.FieldType.int)) ∈ lw_all := lw_g (lw_at lw_m5 29 rfl) rfl
theorem q1117 : (Jvm.Cond.methodLink "java/lang/StringLatin1" (54 : Nat) ({ cls := "java/lang/StringLatin1", name := "length", desc := "([B)I" } : Jvm.MethodName)) ∈ lw_all := lw_g (lw_at lw_m5 30 rfl) rfl
theorem q1118 : (Jvm.Cond.static ({ cls := "java/lang/StringLatin1", name := "length", desc := "([B)I" } : Jvm.MethodName)) ∈ lw_all := lw_g (lw_at lw_m5 31 rfl) rfl
theorem q1119 : (Jvm.Cond.code ({ cls := "java/lang/StringLatin1", name := "length", desc := "([B)I" } : Jvm.MethodName) prog_30_method_5_code (1 : Nat) (Option.some Jvm.ClassFile.FieldType.int)) ∈ lw_all := lw_g (lw_at lw_m5 32 rfl) rfl
theorem q1120 : (Jvm.Cond.methodLink "java/lang/StringLatin1" (58 : Nat) ({ cls := "java/lang/StringUTF16", name := "length", desc := "([B)I" } : Jvm.MethodName)) ∈ lw_all := lw_g (lw_at lw_m5 33 rfl) rfl
theorem q1121 : (Jvm.Cond.methodLink "java/lang/StringLatin1" (59 : Nat) ({ cls := "java/lang/StringLatin1", name := "compareToUTF16Values", desc := "([B[BII)I" } : Jvm.MethodName)) ∈ lw_all := lw_g (lw_at lw_m5 34 rfl) rfl
theorem q1122 : (Jvm.Cond.static ({ cls := "java/lang/StringLatin1", name := "compareToUTF16Values", desc := "([B[BII)I" } : Jvm.MethodName)) ∈ lw_all := lw_g (lw_at lw_m5 35 rfl) rfl
theorem q1123 : (Jvm.Cond.code ({ cls := "java/lang/StringLatin1", name := "compareToUTF16Values", desc := "([B[BII)I" } : Jvm.MethodName) prog_30_method_18_code (8 : Nat) (Option.some Jvm.ClassFile.FieldType.int)) ∈ lw_all := lw_g (lw_at lw_m5 36 rfl) rfl
theorem q1124 : (Jvm.Cond.methodLink "java/lang/StringLatin1" (65 : Nat) ({ cls := "java/lang/StringUTF16", name := "getChar", desc := "([BI)C" } : Jvm.MethodName)) ∈ lw_all := lw_g (lw_at lw_m5 37 rfl) rfl

/-! jdk/internal/util/ArraysSupport -/
set_option maxRecDepth 100000
def RJ15 : String := "jdk/internal/util/ArraysSupport"
abbrev cJ15_newLength : ByteArray := prog_66_method_27_code
def yJ15_newLength : MethodName := ⟨RJ15, "newLength", "(III)I"⟩
def dkwJ15_newLength_1 : List UInt8 := [184, 0, 201, 172]
abbrev dktJ15_newLength_1 : List UInt8 := dkwJ15_newLength_1 ++ []
def dkwJ15_newLength_0 : List UInt8 := [26, 27, 28, 184, 0, 194, 96, 62, 3, 29, 162, 0, 11, 29, 18, 200, 163, 0, 5, 29, 172, 26, 27]
abbrev dktJ15_newLength_0 : List UInt8 := dkwJ15_newLength_0 ++ dktJ15_newLength_1
theorem dksJ15_newLength_0 : cJ15_newLength.data.toList.drop 0 = dktJ15_newLength_0 := by decide +kernel
theorem dksJ15_newLength_1 : cJ15_newLength.data.toList.drop 23 = dktJ15_newLength_1 := dk_seg dksJ15_newLength_0 23 rfl rfl
theorem dJ15_newLength_0 : decode cJ15_newLength 0 = .ok (.iload_n 0, 1) := dk_26 (dk_at dksJ15_newLength_0 0 rfl rfl)
theorem dJ15_newLength_1 : decode cJ15_newLength 1 = .ok (.iload_n 1, 1) := dk_27 (dk_at dksJ15_newLength_0 1 rfl rfl)
theorem dJ15_newLength_2 : decode cJ15_newLength 2 = .ok (.iload_n 2, 1) := dk_28 (dk_at dksJ15_newLength_0 2 rfl rfl)
theorem dJ15_newLength_3 : decode cJ15_newLength 3 = .ok (.invokestatic 194, 3) := dk_184 0 194 (dk_at dksJ15_newLength_0 3 rfl rfl)
theorem dJ15_newLength_6 : decode cJ15_newLength 6 = .ok (.iadd, 1) := dk_96 (dk_at dksJ15_newLength_0 6 rfl rfl)
theorem dJ15_newLength_7 : decode cJ15_newLength 7 = .ok (.istore_n 3, 1) := dk_62 (dk_at dksJ15_newLength_0 7 rfl rfl)
theorem dJ15_newLength_8 : decode cJ15_newLength 8 = .ok (.iconst 0, 1) := dk_3 (dk_at dksJ15_newLength_0 8 rfl rfl)
theorem dJ15_newLength_9 : decode cJ15_newLength 9 = .ok (.iload_n 3, 1) := dk_29 (dk_at dksJ15_newLength_0 9 rfl rfl)
theorem dJ15_newLength_10 : decode cJ15_newLength 10 = .ok (.if_icmp .ge 11, 3) := dk_162 0 11 (dk_at dksJ15_newLength_0 10 rfl rfl)
theorem dJ15_newLength_13 : decode cJ15_newLength 13 = .ok (.iload_n 3, 1) := dk_29 (dk_at dksJ15_newLength_0 13 rfl rfl)
theorem dJ15_newLength_14 : decode cJ15_newLength 14 = .ok (.ldc 200, 2) := dk_18 200 (dk_at dksJ15_newLength_0 14 rfl rfl)
theorem dJ15_newLength_16 : decode cJ15_newLength 16 = .ok (.if_icmp .gt 5, 3) := dk_163 0 5 (dk_at dksJ15_newLength_0 16 rfl rfl)
theorem dJ15_newLength_19 : decode cJ15_newLength 19 = .ok (.iload_n 3, 1) := dk_29 (dk_at dksJ15_newLength_0 19 rfl rfl)
theorem dJ15_newLength_20 : decode cJ15_newLength 20 = .ok (.ireturn, 1) := dk_172 (dk_at dksJ15_newLength_0 20 rfl rfl)
theorem dJ15_newLength_21 : decode cJ15_newLength 21 = .ok (.iload_n 0, 1) := dk_26 (dk_at dksJ15_newLength_0 21 rfl rfl)
theorem dJ15_newLength_22 : decode cJ15_newLength 22 = .ok (.iload_n 1, 1) := dk_27 (dk_at dksJ15_newLength_0 22 rfl rfl)
theorem dJ15_newLength_23 : decode cJ15_newLength 23 = .ok (.invokestatic 201, 3) := dk_184 0 201 (dk_at dksJ15_newLength_1 0 rfl rfl)
theorem dJ15_newLength_26 : decode cJ15_newLength 26 = .ok (.ireturn, 1) := dk_172 (dk_at dksJ15_newLength_1 3 rfl rfl)
abbrev cJ15_hugeLength : ByteArray := prog_66_method_28_code
def yJ15_hugeLength : MethodName := ⟨RJ15, "hugeLength", "(II)I"⟩
def dkwJ15_hugeLength_2 : List UInt8 := [191, 28, 18, 200, 163, 0, 6, 18, 200, 172, 28, 172]
abbrev dktJ15_hugeLength_2 : List UInt8 := dkwJ15_hugeLength_2 ++ []
def dkwJ15_hugeLength_1 : List UInt8 := [26, 182, 0, 98, 18, 208, 182, 0, 94, 27, 182, 0, 98, 18, 210, 182, 0, 94, 182, 0, 101, 183, 0, 212]
abbrev dktJ15_hugeLength_1 : List UInt8 := dkwJ15_hugeLength_1 ++ dktJ15_hugeLength_2
def dkwJ15_hugeLength_0 : List UInt8 := [26, 27, 96, 61, 28, 156, 0, 44, 187, 0, 204, 89, 187, 0, 89, 89, 183, 0, 91, 18, 206, 182, 0, 94]
abbrev dktJ15_hugeLength_0 : List UInt8 := dkwJ15_hugeLength_0 ++ dktJ15_hugeLength_1
theorem dksJ15_hugeLength_0 : cJ15_hugeLength.data.toList.drop 0 = dktJ15_hugeLength_0 := by decide +kernel
theorem dksJ15_hugeLength_1 : cJ15_hugeLength.data.toList.drop 24 = dktJ15_hugeLength_1 := dk_seg dksJ15_hugeLength_0 24 rfl rfl
theorem dksJ15_hugeLength_2 : cJ15_hugeLength.data.toList.drop 48 = dktJ15_hugeLength_2 := dk_seg dksJ15_hugeLength_1 24 rfl rfl
theorem dJ15_hugeLength_0 : decode cJ15_hugeLength 0 = .ok (.iload_n 0, 1) := dk_26 (dk_at dksJ15_hugeLength_0 0 rfl rfl)
theorem dJ15_hugeLength_1 : decode cJ15_hugeLength 1 = .ok (.iload_n 1, 1) := dk_27 (dk_at dksJ15_hugeLength_0 1 rfl rfl)
theorem dJ15_hugeLength_2 : decode cJ15_hugeLength 2 = .ok (.iadd, 1) := dk_96 (dk_at dksJ15_hugeLength_0 2 rfl rfl)
theorem dJ15_hugeLength_3 : decode cJ15_hugeLength 3 = .ok (.istore_n 2, 1) := dk_61 (dk_at dksJ15_hugeLength_0 3 rfl rfl)
theorem dJ15_hugeLength_4 : decode cJ15_hugeLength 4 = .ok (.iload_n 2, 1) := dk_28 (dk_at dksJ15_hugeLength_0 4 rfl rfl)
theorem dJ15_hugeLength_5 : decode cJ15_hugeLength 5 = .ok (.ifCond .ge 44, 3) := dk_156 0 44 (dk_at dksJ15_hugeLength_0 5 rfl rfl)
theorem dJ15_hugeLength_8 : decode cJ15_hugeLength 8 = .ok (.new 204, 3) := dk_187 0 204 (dk_at dksJ15_hugeLength_0 8 rfl rfl)
theorem dJ15_hugeLength_11 : decode cJ15_hugeLength 11 = .ok (.dup, 1) := dk_89 (dk_at dksJ15_hugeLength_0 11 rfl rfl)
theorem dJ15_hugeLength_12 : decode cJ15_hugeLength 12 = .ok (.new 89, 3) := dk_187 0 89 (dk_at dksJ15_hugeLength_0 12 rfl rfl)
theorem dJ15_hugeLength_15 : decode cJ15_hugeLength 15 = .ok (.dup, 1) := dk_89 (dk_at dksJ15_hugeLength_0 15 rfl rfl)
theorem dJ15_hugeLength_16 : decode cJ15_hugeLength 16 = .ok (.invokespecial 91, 3) := dk_183 0 91 (dk_at dksJ15_hugeLength_0 16 rfl rfl)
theorem dJ15_hugeLength_19 : decode cJ15_hugeLength 19 = .ok (.ldc 206, 2) := dk_18 206 (dk_at dksJ15_hugeLength_0 19 rfl rfl)
theorem dJ15_hugeLength_21 : decode cJ15_hugeLength 21 = .ok (.invokevirtual 94, 3) := dk_182 0 94 (dk_at dksJ15_hugeLength_0 21 rfl rfl)
theorem dJ15_hugeLength_24 : decode cJ15_hugeLength 24 = .ok (.iload_n 0, 1) := dk_26 (dk_at dksJ15_hugeLength_1 0 rfl rfl)
theorem dJ15_hugeLength_25 : decode cJ15_hugeLength 25 = .ok (.invokevirtual 98, 3) := dk_182 0 98 (dk_at dksJ15_hugeLength_1 1 rfl rfl)
theorem dJ15_hugeLength_28 : decode cJ15_hugeLength 28 = .ok (.ldc 208, 2) := dk_18 208 (dk_at dksJ15_hugeLength_1 4 rfl rfl)
theorem dJ15_hugeLength_30 : decode cJ15_hugeLength 30 = .ok (.invokevirtual 94, 3) := dk_182 0 94 (dk_at dksJ15_hugeLength_1 6 rfl rfl)
theorem dJ15_hugeLength_33 : decode cJ15_hugeLength 33 = .ok (.iload_n 1, 1) := dk_27 (dk_at dksJ15_hugeLength_1 9 rfl rfl)
theorem dJ15_hugeLength_34 : decode cJ15_hugeLength 34 = .ok (.invokevirtual 98, 3) := dk_182 0 98 (dk_at dksJ15_hugeLength_1 10 rfl rfl)
theorem dJ15_hugeLength_37 : decode cJ15_hugeLength 37 = .ok (.ldc 210, 2) := dk_18 210 (dk_at dksJ15_hugeLength_1 13 rfl rfl)
theorem dJ15_hugeLength_39 : decode cJ15_hugeLength 39 = .ok (.invokevirtual 94, 3) := dk_182 0 94 (dk_at dksJ15_hugeLength_1 15 rfl rfl)
theorem dJ15_hugeLength_42 : decode cJ15_hugeLength 42 = .ok (.invokevirtual 101, 3) := dk_182 0 101 (dk_at dksJ15_hugeLength_1 18 rfl rfl)
theorem dJ15_hugeLength_45 : decode cJ15_hugeLength 45 = .ok (.invokespecial 212, 3) := dk_183 0 212 (dk_at dksJ15_hugeLength_1 21 rfl rfl)
theorem dJ15_hugeLength_48 : decode cJ15_hugeLength 48 = .ok (.athrow, 1) := dk_191 (dk_at dksJ15_hugeLength_2 0 rfl rfl)
theorem dJ15_hugeLength_49 : decode cJ15_hugeLength 49 = .ok (.iload_n 2, 1) := dk_28 (dk_at dksJ15_hugeLength_2 1 rfl rfl)
theorem dJ15_hugeLength_50 : decode cJ15_hugeLength 50 = .ok (.ldc 200, 2) := dk_18 200 (dk_at dksJ15_hugeLength_2 2 rfl rfl)
theorem dJ15_hugeLength_52 : decode cJ15_hugeLength 52 = .ok (.if_icmp .gt 6, 3) := dk_163 0 6 (dk_at dksJ15_hugeLength_2 4 rfl rfl)
theorem dJ15_hugeLength_55 : decode cJ15_hugeLength 55 = .ok (.ldc 200, 2) := dk_18 200 (dk_at dksJ15_hugeLength_2 7 rfl rfl)
theorem dJ15_hugeLength_57 : decode cJ15_hugeLength 57 = .ok (.ireturn, 1) := dk_172 (dk_at dksJ15_hugeLength_2 9 rfl rfl)
theorem dJ15_hugeLength_58 : decode cJ15_hugeLength 58 = .ok (.iload_n 2, 1) := dk_28 (dk_at dksJ15_hugeLength_2 10 rfl rfl)
theorem dJ15_hugeLength_59 : decode cJ15_hugeLength 59 = .ok (.ireturn, 1) := dk_172 (dk_at dksJ15_hugeLength_2 11 rfl rfl)
abbrev cJ15_mismatch : ByteArray := prog_66_method_13_code
def yJ15_mismatch : MethodName := ⟨RJ15, "mismatch", "([B[BI)I"⟩
def dkwJ15_mismatch_3 : List UInt8 := [172]
abbrev dktJ15_mismatch_3 : List UInt8 := dkwJ15_mismatch_3 ++ []
def dkwJ15_mismatch_2 : List UInt8 := [62, 29, 28, 162, 0, 20, 42, 29, 51, 43, 29, 51, 159, 0, 5, 29, 172, 132, 3, 1, 167, 255, 237, 2]
abbrev dktJ15_mismatch_2 : List UInt8 := dkwJ15_mismatch_2 ++ dktJ15_mismatch_3
def dkwJ15_mismatch_1 : List UInt8 := [43, 178, 0, 126, 133, 28, 178, 0, 129, 184, 0, 122, 62, 29, 155, 0, 5, 29, 172, 28, 29, 2, 130, 100]
abbrev dktJ15_mismatch_1 : List UInt8 := dkwJ15_mismatch_1 ++ dktJ15_mismatch_2
def dkwJ15_mismatch_0 : List UInt8 := [3, 62, 28, 16, 7, 164, 0, 44, 42, 3, 51, 43, 3, 51, 159, 0, 5, 3, 172, 42, 178, 0, 126, 133]
abbrev dktJ15_mismatch_0 : List UInt8 := dkwJ15_mismatch_0 ++ dktJ15_mismatch_1
theorem dksJ15_mismatch_0 : cJ15_mismatch.data.toList.drop 0 = dktJ15_mismatch_0 := by decide +kernel
theorem dksJ15_mismatch_1 : cJ15_mismatch.data.toList.drop 24 = dktJ15_mismatch_1 := dk_seg dksJ15_mismatch_0 24 rfl rfl
theorem dksJ15_mismatch_2 : cJ15_mismatch.data.toList.drop 48 = dktJ15_mismatch_2 := dk_seg dksJ15_mismatch_1 24 rfl rfl
theorem dksJ15_mismatch_3 : cJ15_mismatch.data.toList.drop 72 = dktJ15_mismatch_3 := dk_seg dksJ15_mismatch_2 24 rfl rfl
theorem dJ15_mismatch_0 : decode cJ15_mismatch 0 = .ok (.iconst 0, 1) := dk_3 (dk_at dksJ15_mismatch_0 0 rfl rfl)
theorem dJ15_mismatch_1 : decode cJ15_mismatch 1 = .ok (.istore_n 3, 1) := dk_62 (dk_at dksJ15_mismatch_0 1 rfl rfl)
theorem dJ15_mismatch_2 : decode cJ15_mismatch 2 = .ok (.iload_n 2, 1) := dk_28 (dk_at dksJ15_mismatch_0 2 rfl rfl)
theorem dJ15_mismatch_3 : decode cJ15_mismatch 3 = .ok (.bipush 7, 2) := dk_16 7 (dk_at dksJ15_mismatch_0 3 rfl rfl)
theorem dJ15_mismatch_5 : decode cJ15_mismatch 5 = .ok (.if_icmp .le 44, 3) := dk_164 0 44 (dk_at dksJ15_mismatch_0 5 rfl rfl)
theorem dJ15_mismatch_8 : decode cJ15_mismatch 8 = .ok (.aload_n 0, 1) := dk_42 (dk_at dksJ15_mismatch_0 8 rfl rfl)
theorem dJ15_mismatch_9 : decode cJ15_mismatch 9 = .ok (.iconst 0, 1) := dk_3 (dk_at dksJ15_mismatch_0 9 rfl rfl)
theorem dJ15_mismatch_10 : decode cJ15_mismatch 10 = .ok (.baload, 1) := dk_51 (dk_at dksJ15_mismatch_0 10 rfl rfl)
theorem dJ15_mismatch_11 : decode cJ15_mismatch 11 = .ok (.aload_n 1, 1) := dk_43 (dk_at dksJ15_mismatch_0 11 rfl rfl)
theorem dJ15_mismatch_12 : decode cJ15_mismatch 12 = .ok (.iconst 0, 1) := dk_3 (dk_at dksJ15_mismatch_0 12 rfl rfl)
theorem dJ15_mismatch_13 : decode cJ15_mismatch 13 = .ok (.baload, 1) := dk_51 (dk_at dksJ15_mismatch_0 13 rfl rfl)
theorem dJ15_mismatch_14 : decode cJ15_mismatch 14 = .ok (.if_icmp .eq 5, 3) := dk_159 0 5 (dk_at dksJ15_mismatch_0 14 rfl rfl)
theorem dJ15_mismatch_17 : decode cJ15_mismatch 17 = .ok (.iconst 0, 1) := dk_3 (dk_at dksJ15_mismatch_0 17 rfl rfl)
theorem dJ15_mismatch_18 : decode cJ15_mismatch 18 = .ok (.ireturn, 1) := dk_172 (dk_at dksJ15_mismatch_0 18 rfl rfl)
theorem dJ15_mismatch_19 : decode cJ15_mismatch 19 = .ok (.aload_n 0, 1) := dk_42 (dk_at dksJ15_mismatch_0 19 rfl rfl)
theorem dJ15_mismatch_20 : decode cJ15_mismatch 20 = .ok (.getstatic 126, 3) := dk_178 0 126 (dk_at dksJ15_mismatch_0 20 rfl rfl)
theorem dJ15_mismatch_23 : decode cJ15_mismatch 23 = .ok (.i2l, 1) := dk_133 (dk_at dksJ15_mismatch_0 23 rfl rfl)
theorem dJ15_mismatch_24 : decode cJ15_mismatch 24 = .ok (.aload_n 1, 1) := dk_43 (dk_at dksJ15_mismatch_1 0 rfl rfl)
theorem dJ15_mismatch_25 : decode cJ15_mismatch 25 = .ok (.getstatic 126, 3) := dk_178 0 126 (dk_at dksJ15_mismatch_1 1 rfl rfl)
theorem dJ15_mismatch_28 : decode cJ15_mismatch 28 = .ok (.i2l, 1) := dk_133 (dk_at dksJ15_mismatch_1 4 rfl rfl)
theorem dJ15_mismatch_29 : decode cJ15_mismatch 29 = .ok (.iload_n 2, 1) := dk_28 (dk_at dksJ15_mismatch_1 5 rfl rfl)
theorem dJ15_mismatch_30 : decode cJ15_mismatch 30 = .ok (.getstatic 129, 3) := dk_178 0 129 (dk_at dksJ15_mismatch_1 6 rfl rfl)
theorem dJ15_mismatch_33 : decode cJ15_mismatch 33 = .ok (.invokestatic 122, 3) := dk_184 0 122 (dk_at dksJ15_mismatch_1 9 rfl rfl)
theorem dJ15_mismatch_36 : decode cJ15_mismatch 36 = .ok (.istore_n 3, 1) := dk_62 (dk_at dksJ15_mismatch_1 12 rfl rfl)
theorem dJ15_mismatch_37 : decode cJ15_mismatch 37 = .ok (.iload_n 3, 1) := dk_29 (dk_at dksJ15_mismatch_1 13 rfl rfl)
theorem dJ15_mismatch_38 : decode cJ15_mismatch 38 = .ok (.ifCond .lt 5, 3) := dk_155 0 5 (dk_at dksJ15_mismatch_1 14 rfl rfl)
theorem dJ15_mismatch_41 : decode cJ15_mismatch 41 = .ok (.iload_n 3, 1) := dk_29 (dk_at dksJ15_mismatch_1 17 rfl rfl)
theorem dJ15_mismatch_42 : decode cJ15_mismatch 42 = .ok (.ireturn, 1) := dk_172 (dk_at dksJ15_mismatch_1 18 rfl rfl)
theorem dJ15_mismatch_43 : decode cJ15_mismatch 43 = .ok (.iload_n 2, 1) := dk_28 (dk_at dksJ15_mismatch_1 19 rfl rfl)
theorem dJ15_mismatch_44 : decode cJ15_mismatch 44 = .ok (.iload_n 3, 1) := dk_29 (dk_at dksJ15_mismatch_1 20 rfl rfl)
theorem dJ15_mismatch_45 : decode cJ15_mismatch 45 = .ok (.iconst (-1), 1) := dk_2 (dk_at dksJ15_mismatch_1 21 rfl rfl)
theorem dJ15_mismatch_46 : decode cJ15_mismatch 46 = .ok (.ixor, 1) := dk_130 (dk_at dksJ15_mismatch_1 22 rfl rfl)
theorem dJ15_mismatch_47 : decode cJ15_mismatch 47 = .ok (.isub, 1) := dk_100 (dk_at dksJ15_mismatch_1 23 rfl rfl)
theorem dJ15_mismatch_48 : decode cJ15_mismatch 48 = .ok (.istore_n 3, 1) := dk_62 (dk_at dksJ15_mismatch_2 0 rfl rfl)
theorem dJ15_mismatch_49 : decode cJ15_mismatch 49 = .ok (.iload_n 3, 1) := dk_29 (dk_at dksJ15_mismatch_2 1 rfl rfl)
theorem dJ15_mismatch_50 : decode cJ15_mismatch 50 = .ok (.iload_n 2, 1) := dk_28 (dk_at dksJ15_mismatch_2 2 rfl rfl)
theorem dJ15_mismatch_51 : decode cJ15_mismatch 51 = .ok (.if_icmp .ge 20, 3) := dk_162 0 20 (dk_at dksJ15_mismatch_2 3 rfl rfl)
theorem dJ15_mismatch_54 : decode cJ15_mismatch 54 = .ok (.aload_n 0, 1) := dk_42 (dk_at dksJ15_mismatch_2 6 rfl rfl)
theorem dJ15_mismatch_55 : decode cJ15_mismatch 55 = .ok (.iload_n 3, 1) := dk_29 (dk_at dksJ15_mismatch_2 7 rfl rfl)
theorem dJ15_mismatch_56 : decode cJ15_mismatch 56 = .ok (.baload, 1) := dk_51 (dk_at dksJ15_mismatch_2 8 rfl rfl)
theorem dJ15_mismatch_57 : decode cJ15_mismatch 57 = .ok (.aload_n 1, 1) := dk_43 (dk_at dksJ15_mismatch_2 9 rfl rfl)
theorem dJ15_mismatch_58 : decode cJ15_mismatch 58 = .ok (.iload_n 3, 1) := dk_29 (dk_at dksJ15_mismatch_2 10 rfl rfl)
theorem dJ15_mismatch_59 : decode cJ15_mismatch 59 = .ok (.baload, 1) := dk_51 (dk_at dksJ15_mismatch_2 11 rfl rfl)
theorem dJ15_mismatch_60 : decode cJ15_mismatch 60 = .ok (.if_icmp .eq 5, 3) := dk_159 0 5 (dk_at dksJ15_mismatch_2 12 rfl rfl)
theorem dJ15_mismatch_63 : decode cJ15_mismatch 63 = .ok (.iload_n 3, 1) := dk_29 (dk_at dksJ15_mismatch_2 15 rfl rfl)
theorem dJ15_mismatch_64 : decode cJ15_mismatch 64 = .ok (.ireturn, 1) := dk_172 (dk_at dksJ15_mismatch_2 16 rfl rfl)
theorem dJ15_mismatch_65 : decode cJ15_mismatch 65 = .ok (.iinc 3 1, 3) := dk_132 3 1 (dk_at dksJ15_mismatch_2 17 rfl rfl)
theorem dJ15_mismatch_68 : decode cJ15_mismatch 68 = .ok (.goto (-19), 3) := dk_167 255 237 (dk_at dksJ15_mismatch_2 20 rfl rfl)
theorem dJ15_mismatch_71 : decode cJ15_mismatch 71 = .ok (.iconst (-1), 1) := dk_2 (dk_at dksJ15_mismatch_2 23 rfl rfl)
theorem dJ15_mismatch_72 : decode cJ15_mismatch 72 = .ok (.ireturn, 1) := dk_172 (dk_at dksJ15_mismatch_3 0 rfl rfl)
abbrev cJ15_vectorizedMismatch : ByteArray := prog_66_method_3_code
def yJ15_vectorizedMismatch : MethodName := ⟨RJ15, "vectorizedMismatch", "(Ljava/lang/Object;JLjava/lang/Object;JII)I"⟩
def dkwJ15_vectorizedMismatch_11 : List UInt8 := [54, 10, 21, 10, 2, 130, 172, 21, 10, 2, 130, 172]
abbrev dktJ15_vectorizedMismatch_11 : List UInt8 := dkwJ15_vectorizedMismatch_11 ++ []
def dkwJ15_vectorizedMismatch_10 : List UInt8 := [178, 0, 46, 21, 7, 96, 122, 54, 17, 21, 9, 21, 8, 120, 21, 17, 96, 172, 21, 10, 21, 11, 100]
abbrev dktJ15_vectorizedMismatch_10 : List UInt8 := dkwJ15_vectorizedMismatch_10 ++ dktJ15_vectorizedMismatch_11
def dkwJ15_vectorizedMismatch_9 : List UInt8 := [153, 0, 18, 21, 16, 184, 0, 58, 178, 0, 46, 21, 7, 96, 122, 167, 0, 15, 21, 16, 184, 0, 11]
abbrev dktJ15_vectorizedMismatch_9 : List UInt8 := dkwJ15_vectorizedMismatch_9 ++ dktJ15_vectorizedMismatch_10
def dkwJ15_vectorizedMismatch_8 : List UInt8 := [182, 0, 54, 54, 15, 21, 14, 21, 15, 159, 0, 54, 21, 14, 21, 15, 130, 54, 16, 178, 0, 36]
abbrev dktJ15_vectorizedMismatch_8 : List UInt8 := dkwJ15_vectorizedMismatch_8 ++ dktJ15_vectorizedMismatch_9
def dkwJ15_vectorizedMismatch_7 : List UInt8 := [55, 12, 178, 0, 26, 42, 31, 22, 12, 97, 182, 0, 54, 54, 14, 178, 0, 26, 45, 22, 4, 22, 12, 97]
abbrev dktJ15_vectorizedMismatch_7 : List UInt8 := dkwJ15_vectorizedMismatch_7 ++ dktJ15_vectorizedMismatch_8
def dkwJ15_vectorizedMismatch_6 : List UInt8 := [4, 178, 0, 51, 21, 7, 100, 120, 54, 11, 21, 10, 21, 11, 161, 0, 104, 21, 9, 133, 178, 0, 20, 121]
abbrev dktJ15_vectorizedMismatch_6 : List UInt8 := dkwJ15_vectorizedMismatch_6 ++ dktJ15_vectorizedMismatch_7
def dkwJ15_vectorizedMismatch_5 : List UInt8 := [132, 9, 1, 167, 255, 148, 21, 6, 21, 9, 21, 8, 120, 100, 54, 10, 21, 7, 178, 0, 51, 162, 0, 126]
abbrev dktJ15_vectorizedMismatch_5 : List UInt8 := dkwJ15_vectorizedMismatch_5 ++ dktJ15_vectorizedMismatch_6
def dkwJ15_vectorizedMismatch_4 : List UInt8 := [22, 16, 184, 0, 49, 178, 0, 46, 21, 7, 96, 122, 54, 18, 21, 9, 21, 8, 120, 21, 18, 96, 172]
abbrev dktJ15_vectorizedMismatch_4 : List UInt8 := dkwJ15_vectorizedMismatch_4 ++ dktJ15_vectorizedMismatch_5
def dkwJ15_vectorizedMismatch_3 : List UInt8 := [55, 16, 178, 0, 36, 153, 0, 18, 22, 16, 184, 0, 40, 178, 0, 46, 21, 7, 96, 122, 167, 0, 15]
abbrev dktJ15_vectorizedMismatch_3 : List UInt8 := dkwJ15_vectorizedMismatch_3 ++ dktJ15_vectorizedMismatch_4
def dkwJ15_vectorizedMismatch_2 : List UInt8 := [22, 4, 22, 10, 97, 182, 0, 30, 55, 14, 22, 12, 22, 14, 148, 153, 0, 54, 22, 12, 22, 14, 131]
abbrev dktJ15_vectorizedMismatch_2 : List UInt8 := dkwJ15_vectorizedMismatch_2 ++ dktJ15_vectorizedMismatch_3
def dkwJ15_vectorizedMismatch_1 : List UInt8 := [178, 0, 20, 121, 55, 10, 178, 0, 26, 42, 31, 22, 10, 97, 182, 0, 30, 55, 12, 178, 0, 26, 45]
abbrev dktJ15_vectorizedMismatch_1 : List UInt8 := dkwJ15_vectorizedMismatch_1 ++ dktJ15_vectorizedMismatch_2
def dkwJ15_vectorizedMismatch_0 : List UInt8 := [178, 0, 20, 21, 7, 100, 54, 8, 3, 54, 9, 21, 9, 21, 6, 21, 8, 122, 162, 0, 104, 21, 9, 133]
abbrev dktJ15_vectorizedMismatch_0 : List UInt8 := dkwJ15_vectorizedMismatch_0 ++ dktJ15_vectorizedMismatch_1
theorem dksJ15_vectorizedMismatch_0 : cJ15_vectorizedMismatch.data.toList.drop 0 = dktJ15_vectorizedMismatch_0 := by decide +kernel
theorem dksJ15_vectorizedMismatch_1 : cJ15_vectorizedMismatch.data.toList.drop 24 = dktJ15_vectorizedMismatch_1 := dk_seg dksJ15_vectorizedMismatch_0 24 rfl rfl
theorem dksJ15_vectorizedMismatch_2 : cJ15_vectorizedMismatch.data.toList.drop 47 = dktJ15_vectorizedMismatch_2 := dk_seg dksJ15_vectorizedMismatch_1 23 rfl rfl
theorem dksJ15_vectorizedMismatch_3 : cJ15_vectorizedMismatch.data.toList.drop 70 = dktJ15_vectorizedMismatch_3 := dk_seg dksJ15_vectorizedMismatch_2 23 rfl rfl
theorem dksJ15_vectorizedMismatch_4 : cJ15_vectorizedMismatch.data.toList.drop 93 = dktJ15_vectorizedMismatch_4 := dk_seg dksJ15_vectorizedMismatch_3 23 rfl rfl
theorem dksJ15_vectorizedMismatch_5 : cJ15_vectorizedMismatch.data.toList.drop 116 = dktJ15_vectorizedMismatch_5 := dk_seg dksJ15_vectorizedMismatch_4 23 rfl rfl
theorem dksJ15_vectorizedMismatch_6 : cJ15_vectorizedMismatch.data.toList.drop 140 = dktJ15_vectorizedMismatch_6 := dk_seg dksJ15_vectorizedMismatch_5 24 rfl rfl
theorem dksJ15_vectorizedMismatch_7 : cJ15_vectorizedMismatch.data.toList.drop 164 = dktJ15_vectorizedMismatch_7 := dk_seg dksJ15_vectorizedMismatch_6 24 rfl rfl
theorem dksJ15_vectorizedMismatch_8 : cJ15_vectorizedMismatch.data.toList.drop 188 = dktJ15_vectorizedMismatch_8 := dk_seg dksJ15_vectorizedMismatch_7 24 rfl rfl
theorem dksJ15_vectorizedMismatch_9 : cJ15_vectorizedMismatch.data.toList.drop 210 = dktJ15_vectorizedMismatch_9 := dk_seg dksJ15_vectorizedMismatch_8 22 rfl rfl
theorem dksJ15_vectorizedMismatch_10 : cJ15_vectorizedMismatch.data.toList.drop 233 = dktJ15_vectorizedMismatch_10 := dk_seg dksJ15_vectorizedMismatch_9 23 rfl rfl
theorem dksJ15_vectorizedMismatch_11 : cJ15_vectorizedMismatch.data.toList.drop 256 = dktJ15_vectorizedMismatch_11 := dk_seg dksJ15_vectorizedMismatch_10 23 rfl rfl
theorem dJ15_vectorizedMismatch_0 : decode cJ15_vectorizedMismatch 0 = .ok (.getstatic 20, 3) := dk_178 0 20 (dk_at dksJ15_vectorizedMismatch_0 0 rfl rfl)
theorem dJ15_vectorizedMismatch_3 : decode cJ15_vectorizedMismatch 3 = .ok (.iload 7, 2) := dk_21 7 (dk_at dksJ15_vectorizedMismatch_0 3 rfl rfl)
theorem dJ15_vectorizedMismatch_5 : decode cJ15_vectorizedMismatch 5 = .ok (.isub, 1) := dk_100 (dk_at dksJ15_vectorizedMismatch_0 5 rfl rfl)
theorem dJ15_vectorizedMismatch_6 : decode cJ15_vectorizedMismatch 6 = .ok (.istore 8, 2) := dk_54 8 (dk_at dksJ15_vectorizedMismatch_0 6 rfl rfl)
theorem dJ15_vectorizedMismatch_8 : decode cJ15_vectorizedMismatch 8 = .ok (.iconst 0, 1) := dk_3 (dk_at dksJ15_vectorizedMismatch_0 8 rfl rfl)
theorem dJ15_vectorizedMismatch_9 : decode cJ15_vectorizedMismatch 9 = .ok (.istore 9, 2) := dk_54 9 (dk_at dksJ15_vectorizedMismatch_0 9 rfl rfl)
theorem dJ15_vectorizedMismatch_11 : decode cJ15_vectorizedMismatch 11 = .ok (.iload 9, 2) := dk_21 9 (dk_at dksJ15_vectorizedMismatch_0 11 rfl rfl)
theorem dJ15_vectorizedMismatch_13 : decode cJ15_vectorizedMismatch 13 = .ok (.iload 6, 2) := dk_21 6 (dk_at dksJ15_vectorizedMismatch_0 13 rfl rfl)
theorem dJ15_vectorizedMismatch_15 : decode cJ15_vectorizedMismatch 15 = .ok (.iload 8, 2) := dk_21 8 (dk_at dksJ15_vectorizedMismatch_0 15 rfl rfl)
theorem dJ15_vectorizedMismatch_17 : decode cJ15_vectorizedMismatch 17 = .ok (.ishr, 1) := dk_122 (dk_at dksJ15_vectorizedMismatch_0 17 rfl rfl)
theorem dJ15_vectorizedMismatch_18 : decode cJ15_vectorizedMismatch 18 = .ok (.if_icmp .ge 104, 3) := dk_162 0 104 (dk_at dksJ15_vectorizedMismatch_0 18 rfl rfl)
theorem dJ15_vectorizedMismatch_21 : decode cJ15_vectorizedMismatch 21 = .ok (.iload 9, 2) := dk_21 9 (dk_at dksJ15_vectorizedMismatch_0 21 rfl rfl)
theorem dJ15_vectorizedMismatch_23 : decode cJ15_vectorizedMismatch 23 = .ok (.i2l, 1) := dk_133 (dk_at dksJ15_vectorizedMismatch_0 23 rfl rfl)
theorem dJ15_vectorizedMismatch_24 : decode cJ15_vectorizedMismatch 24 = .ok (.getstatic 20, 3) := dk_178 0 20 (dk_at dksJ15_vectorizedMismatch_1 0 rfl rfl)
theorem dJ15_vectorizedMismatch_27 : decode cJ15_vectorizedMismatch 27 = .ok (.lshl, 1) := dk_121 (dk_at dksJ15_vectorizedMismatch_1 3 rfl rfl)
theorem dJ15_vectorizedMismatch_28 : decode cJ15_vectorizedMismatch 28 = .ok (.lstore 10, 2) := dk_55 10 (dk_at dksJ15_vectorizedMismatch_1 4 rfl rfl)
theorem dJ15_vectorizedMismatch_30 : decode cJ15_vectorizedMismatch 30 = .ok (.getstatic 26, 3) := dk_178 0 26 (dk_at dksJ15_vectorizedMismatch_1 6 rfl rfl)
theorem dJ15_vectorizedMismatch_33 : decode cJ15_vectorizedMismatch 33 = .ok (.aload_n 0, 1) := dk_42 (dk_at dksJ15_vectorizedMismatch_1 9 rfl rfl)
theorem dJ15_vectorizedMismatch_34 : decode cJ15_vectorizedMismatch 34 = .ok (.lload_n 1, 1) := dk_31 (dk_at dksJ15_vectorizedMismatch_1 10 rfl rfl)
theorem dJ15_vectorizedMismatch_35 : decode cJ15_vectorizedMismatch 35 = .ok (.lload 10, 2) := dk_22 10 (dk_at dksJ15_vectorizedMismatch_1 11 rfl rfl)
theorem dJ15_vectorizedMismatch_37 : decode cJ15_vectorizedMismatch 37 = .ok (.ladd, 1) := dk_97 (dk_at dksJ15_vectorizedMismatch_1 13 rfl rfl)
theorem dJ15_vectorizedMismatch_38 : decode cJ15_vectorizedMismatch 38 = .ok (.invokevirtual 30, 3) := dk_182 0 30 (dk_at dksJ15_vectorizedMismatch_1 14 rfl rfl)
theorem dJ15_vectorizedMismatch_41 : decode cJ15_vectorizedMismatch 41 = .ok (.lstore 12, 2) := dk_55 12 (dk_at dksJ15_vectorizedMismatch_1 17 rfl rfl)
theorem dJ15_vectorizedMismatch_43 : decode cJ15_vectorizedMismatch 43 = .ok (.getstatic 26, 3) := dk_178 0 26 (dk_at dksJ15_vectorizedMismatch_1 19 rfl rfl)
theorem dJ15_vectorizedMismatch_46 : decode cJ15_vectorizedMismatch 46 = .ok (.aload_n 3, 1) := dk_45 (dk_at dksJ15_vectorizedMismatch_1 22 rfl rfl)
theorem dJ15_vectorizedMismatch_47 : decode cJ15_vectorizedMismatch 47 = .ok (.lload 4, 2) := dk_22 4 (dk_at dksJ15_vectorizedMismatch_2 0 rfl rfl)
theorem dJ15_vectorizedMismatch_49 : decode cJ15_vectorizedMismatch 49 = .ok (.lload 10, 2) := dk_22 10 (dk_at dksJ15_vectorizedMismatch_2 2 rfl rfl)
theorem dJ15_vectorizedMismatch_51 : decode cJ15_vectorizedMismatch 51 = .ok (.ladd, 1) := dk_97 (dk_at dksJ15_vectorizedMismatch_2 4 rfl rfl)
theorem dJ15_vectorizedMismatch_52 : decode cJ15_vectorizedMismatch 52 = .ok (.invokevirtual 30, 3) := dk_182 0 30 (dk_at dksJ15_vectorizedMismatch_2 5 rfl rfl)
theorem dJ15_vectorizedMismatch_55 : decode cJ15_vectorizedMismatch 55 = .ok (.lstore 14, 2) := dk_55 14 (dk_at dksJ15_vectorizedMismatch_2 8 rfl rfl)
theorem dJ15_vectorizedMismatch_57 : decode cJ15_vectorizedMismatch 57 = .ok (.lload 12, 2) := dk_22 12 (dk_at dksJ15_vectorizedMismatch_2 10 rfl rfl)
theorem dJ15_vectorizedMismatch_59 : decode cJ15_vectorizedMismatch 59 = .ok (.lload 14, 2) := dk_22 14 (dk_at dksJ15_vectorizedMismatch_2 12 rfl rfl)
theorem dJ15_vectorizedMismatch_61 : decode cJ15_vectorizedMismatch 61 = .ok (.lcmp, 1) := dk_148 (dk_at dksJ15_vectorizedMismatch_2 14 rfl rfl)
theorem dJ15_vectorizedMismatch_62 : decode cJ15_vectorizedMismatch 62 = .ok (.ifCond .eq 54, 3) := dk_153 0 54 (dk_at dksJ15_vectorizedMismatch_2 15 rfl rfl)
theorem dJ15_vectorizedMismatch_65 : decode cJ15_vectorizedMismatch 65 = .ok (.lload 12, 2) := dk_22 12 (dk_at dksJ15_vectorizedMismatch_2 18 rfl rfl)
theorem dJ15_vectorizedMismatch_67 : decode cJ15_vectorizedMismatch 67 = .ok (.lload 14, 2) := dk_22 14 (dk_at dksJ15_vectorizedMismatch_2 20 rfl rfl)
theorem dJ15_vectorizedMismatch_69 : decode cJ15_vectorizedMismatch 69 = .ok (.lxor, 1) := dk_131 (dk_at dksJ15_vectorizedMismatch_2 22 rfl rfl)
theorem dJ15_vectorizedMismatch_70 : decode cJ15_vectorizedMismatch 70 = .ok (.lstore 16, 2) := dk_55 16 (dk_at dksJ15_vectorizedMismatch_3 0 rfl rfl)
theorem dJ15_vectorizedMismatch_72 : decode cJ15_vectorizedMismatch 72 = .ok (.getstatic 36, 3) := dk_178 0 36 (dk_at dksJ15_vectorizedMismatch_3 2 rfl rfl)
theorem dJ15_vectorizedMismatch_75 : decode cJ15_vectorizedMismatch 75 = .ok (.ifCond .eq 18, 3) := dk_153 0 18 (dk_at dksJ15_vectorizedMismatch_3 5 rfl rfl)
theorem dJ15_vectorizedMismatch_78 : decode cJ15_vectorizedMismatch 78 = .ok (.lload 16, 2) := dk_22 16 (dk_at dksJ15_vectorizedMismatch_3 8 rfl rfl)
theorem dJ15_vectorizedMismatch_80 : decode cJ15_vectorizedMismatch 80 = .ok (.invokestatic 40, 3) := dk_184 0 40 (dk_at dksJ15_vectorizedMismatch_3 10 rfl rfl)
theorem dJ15_vectorizedMismatch_83 : decode cJ15_vectorizedMismatch 83 = .ok (.getstatic 46, 3) := dk_178 0 46 (dk_at dksJ15_vectorizedMismatch_3 13 rfl rfl)
theorem dJ15_vectorizedMismatch_86 : decode cJ15_vectorizedMismatch 86 = .ok (.iload 7, 2) := dk_21 7 (dk_at dksJ15_vectorizedMismatch_3 16 rfl rfl)
theorem dJ15_vectorizedMismatch_88 : decode cJ15_vectorizedMismatch 88 = .ok (.iadd, 1) := dk_96 (dk_at dksJ15_vectorizedMismatch_3 18 rfl rfl)
theorem dJ15_vectorizedMismatch_89 : decode cJ15_vectorizedMismatch 89 = .ok (.ishr, 1) := dk_122 (dk_at dksJ15_vectorizedMismatch_3 19 rfl rfl)
theorem dJ15_vectorizedMismatch_90 : decode cJ15_vectorizedMismatch 90 = .ok (.goto 15, 3) := dk_167 0 15 (dk_at dksJ15_vectorizedMismatch_3 20 rfl rfl)
theorem dJ15_vectorizedMismatch_93 : decode cJ15_vectorizedMismatch 93 = .ok (.lload 16, 2) := dk_22 16 (dk_at dksJ15_vectorizedMismatch_4 0 rfl rfl)
theorem dJ15_vectorizedMismatch_95 : decode cJ15_vectorizedMismatch 95 = .ok (.invokestatic 49, 3) := dk_184 0 49 (dk_at dksJ15_vectorizedMismatch_4 2 rfl rfl)
theorem dJ15_vectorizedMismatch_98 : decode cJ15_vectorizedMismatch 98 = .ok (.getstatic 46, 3) := dk_178 0 46 (dk_at dksJ15_vectorizedMismatch_4 5 rfl rfl)
theorem dJ15_vectorizedMismatch_101 : decode cJ15_vectorizedMismatch 101 = .ok (.iload 7, 2) := dk_21 7 (dk_at dksJ15_vectorizedMismatch_4 8 rfl rfl)
theorem dJ15_vectorizedMismatch_103 : decode cJ15_vectorizedMismatch 103 = .ok (.iadd, 1) := dk_96 (dk_at dksJ15_vectorizedMismatch_4 10 rfl rfl)
theorem dJ15_vectorizedMismatch_104 : decode cJ15_vectorizedMismatch 104 = .ok (.ishr, 1) := dk_122 (dk_at dksJ15_vectorizedMismatch_4 11 rfl rfl)
theorem dJ15_vectorizedMismatch_105 : decode cJ15_vectorizedMismatch 105 = .ok (.istore 18, 2) := dk_54 18 (dk_at dksJ15_vectorizedMismatch_4 12 rfl rfl)
theorem dJ15_vectorizedMismatch_107 : decode cJ15_vectorizedMismatch 107 = .ok (.iload 9, 2) := dk_21 9 (dk_at dksJ15_vectorizedMismatch_4 14 rfl rfl)
theorem dJ15_vectorizedMismatch_109 : decode cJ15_vectorizedMismatch 109 = .ok (.iload 8, 2) := dk_21 8 (dk_at dksJ15_vectorizedMismatch_4 16 rfl rfl)
theorem dJ15_vectorizedMismatch_111 : decode cJ15_vectorizedMismatch 111 = .ok (.ishl, 1) := dk_120 (dk_at dksJ15_vectorizedMismatch_4 18 rfl rfl)
theorem dJ15_vectorizedMismatch_112 : decode cJ15_vectorizedMismatch 112 = .ok (.iload 18, 2) := dk_21 18 (dk_at dksJ15_vectorizedMismatch_4 19 rfl rfl)
theorem dJ15_vectorizedMismatch_114 : decode cJ15_vectorizedMismatch 114 = .ok (.iadd, 1) := dk_96 (dk_at dksJ15_vectorizedMismatch_4 21 rfl rfl)
theorem dJ15_vectorizedMismatch_115 : decode cJ15_vectorizedMismatch 115 = .ok (.ireturn, 1) := dk_172 (dk_at dksJ15_vectorizedMismatch_4 22 rfl rfl)
theorem dJ15_vectorizedMismatch_116 : decode cJ15_vectorizedMismatch 116 = .ok (.iinc 9 1, 3) := dk_132 9 1 (dk_at dksJ15_vectorizedMismatch_5 0 rfl rfl)
theorem dJ15_vectorizedMismatch_119 : decode cJ15_vectorizedMismatch 119 = .ok (.goto (-108), 3) := dk_167 255 148 (dk_at dksJ15_vectorizedMismatch_5 3 rfl rfl)
theorem dJ15_vectorizedMismatch_122 : decode cJ15_vectorizedMismatch 122 = .ok (.iload 6, 2) := dk_21 6 (dk_at dksJ15_vectorizedMismatch_5 6 rfl rfl)
theorem dJ15_vectorizedMismatch_124 : decode cJ15_vectorizedMismatch 124 = .ok (.iload 9, 2) := dk_21 9 (dk_at dksJ15_vectorizedMismatch_5 8 rfl rfl)
theorem dJ15_vectorizedMismatch_126 : decode cJ15_vectorizedMismatch 126 = .ok (.iload 8, 2) := dk_21 8 (dk_at dksJ15_vectorizedMismatch_5 10 rfl rfl)
theorem dJ15_vectorizedMismatch_128 : decode cJ15_vectorizedMismatch 128 = .ok (.ishl, 1) := dk_120 (dk_at dksJ15_vectorizedMismatch_5 12 rfl rfl)
theorem dJ15_vectorizedMismatch_129 : decode cJ15_vectorizedMismatch 129 = .ok (.isub, 1) := dk_100 (dk_at dksJ15_vectorizedMismatch_5 13 rfl rfl)
theorem dJ15_vectorizedMismatch_130 : decode cJ15_vectorizedMismatch 130 = .ok (.istore 10, 2) := dk_54 10 (dk_at dksJ15_vectorizedMismatch_5 14 rfl rfl)
theorem dJ15_vectorizedMismatch_132 : decode cJ15_vectorizedMismatch 132 = .ok (.iload 7, 2) := dk_21 7 (dk_at dksJ15_vectorizedMismatch_5 16 rfl rfl)
theorem dJ15_vectorizedMismatch_134 : decode cJ15_vectorizedMismatch 134 = .ok (.getstatic 51, 3) := dk_178 0 51 (dk_at dksJ15_vectorizedMismatch_5 18 rfl rfl)
theorem dJ15_vectorizedMismatch_137 : decode cJ15_vectorizedMismatch 137 = .ok (.if_icmp .ge 126, 3) := dk_162 0 126 (dk_at dksJ15_vectorizedMismatch_5 21 rfl rfl)
theorem dJ15_vectorizedMismatch_140 : decode cJ15_vectorizedMismatch 140 = .ok (.iconst 1, 1) := dk_4 (dk_at dksJ15_vectorizedMismatch_6 0 rfl rfl)
theorem dJ15_vectorizedMismatch_141 : decode cJ15_vectorizedMismatch 141 = .ok (.getstatic 51, 3) := dk_178 0 51 (dk_at dksJ15_vectorizedMismatch_6 1 rfl rfl)
theorem dJ15_vectorizedMismatch_144 : decode cJ15_vectorizedMismatch 144 = .ok (.iload 7, 2) := dk_21 7 (dk_at dksJ15_vectorizedMismatch_6 4 rfl rfl)
theorem dJ15_vectorizedMismatch_146 : decode cJ15_vectorizedMismatch 146 = .ok (.isub, 1) := dk_100 (dk_at dksJ15_vectorizedMismatch_6 6 rfl rfl)
theorem dJ15_vectorizedMismatch_147 : decode cJ15_vectorizedMismatch 147 = .ok (.ishl, 1) := dk_120 (dk_at dksJ15_vectorizedMismatch_6 7 rfl rfl)
theorem dJ15_vectorizedMismatch_148 : decode cJ15_vectorizedMismatch 148 = .ok (.istore 11, 2) := dk_54 11 (dk_at dksJ15_vectorizedMismatch_6 8 rfl rfl)
theorem dJ15_vectorizedMismatch_150 : decode cJ15_vectorizedMismatch 150 = .ok (.iload 10, 2) := dk_21 10 (dk_at dksJ15_vectorizedMismatch_6 10 rfl rfl)
theorem dJ15_vectorizedMismatch_152 : decode cJ15_vectorizedMismatch 152 = .ok (.iload 11, 2) := dk_21 11 (dk_at dksJ15_vectorizedMismatch_6 12 rfl rfl)
theorem dJ15_vectorizedMismatch_154 : decode cJ15_vectorizedMismatch 154 = .ok (.if_icmp .lt 104, 3) := dk_161 0 104 (dk_at dksJ15_vectorizedMismatch_6 14 rfl rfl)
theorem dJ15_vectorizedMismatch_157 : decode cJ15_vectorizedMismatch 157 = .ok (.iload 9, 2) := dk_21 9 (dk_at dksJ15_vectorizedMismatch_6 17 rfl rfl)
theorem dJ15_vectorizedMismatch_159 : decode cJ15_vectorizedMismatch 159 = .ok (.i2l, 1) := dk_133 (dk_at dksJ15_vectorizedMismatch_6 19 rfl rfl)
theorem dJ15_vectorizedMismatch_160 : decode cJ15_vectorizedMismatch 160 = .ok (.getstatic 20, 3) := dk_178 0 20 (dk_at dksJ15_vectorizedMismatch_6 20 rfl rfl)
theorem dJ15_vectorizedMismatch_163 : decode cJ15_vectorizedMismatch 163 = .ok (.lshl, 1) := dk_121 (dk_at dksJ15_vectorizedMismatch_6 23 rfl rfl)
theorem dJ15_vectorizedMismatch_164 : decode cJ15_vectorizedMismatch 164 = .ok (.lstore 12, 2) := dk_55 12 (dk_at dksJ15_vectorizedMismatch_7 0 rfl rfl)
theorem dJ15_vectorizedMismatch_166 : decode cJ15_vectorizedMismatch 166 = .ok (.getstatic 26, 3) := dk_178 0 26 (dk_at dksJ15_vectorizedMismatch_7 2 rfl rfl)
theorem dJ15_vectorizedMismatch_169 : decode cJ15_vectorizedMismatch 169 = .ok (.aload_n 0, 1) := dk_42 (dk_at dksJ15_vectorizedMismatch_7 5 rfl rfl)
theorem dJ15_vectorizedMismatch_170 : decode cJ15_vectorizedMismatch 170 = .ok (.lload_n 1, 1) := dk_31 (dk_at dksJ15_vectorizedMismatch_7 6 rfl rfl)
theorem dJ15_vectorizedMismatch_171 : decode cJ15_vectorizedMismatch 171 = .ok (.lload 12, 2) := dk_22 12 (dk_at dksJ15_vectorizedMismatch_7 7 rfl rfl)
theorem dJ15_vectorizedMismatch_173 : decode cJ15_vectorizedMismatch 173 = .ok (.ladd, 1) := dk_97 (dk_at dksJ15_vectorizedMismatch_7 9 rfl rfl)
theorem dJ15_vectorizedMismatch_174 : decode cJ15_vectorizedMismatch 174 = .ok (.invokevirtual 54, 3) := dk_182 0 54 (dk_at dksJ15_vectorizedMismatch_7 10 rfl rfl)
theorem dJ15_vectorizedMismatch_177 : decode cJ15_vectorizedMismatch 177 = .ok (.istore 14, 2) := dk_54 14 (dk_at dksJ15_vectorizedMismatch_7 13 rfl rfl)
theorem dJ15_vectorizedMismatch_179 : decode cJ15_vectorizedMismatch 179 = .ok (.getstatic 26, 3) := dk_178 0 26 (dk_at dksJ15_vectorizedMismatch_7 15 rfl rfl)
theorem dJ15_vectorizedMismatch_182 : decode cJ15_vectorizedMismatch 182 = .ok (.aload_n 3, 1) := dk_45 (dk_at dksJ15_vectorizedMismatch_7 18 rfl rfl)
theorem dJ15_vectorizedMismatch_183 : decode cJ15_vectorizedMismatch 183 = .ok (.lload 4, 2) := dk_22 4 (dk_at dksJ15_vectorizedMismatch_7 19 rfl rfl)
theorem dJ15_vectorizedMismatch_185 : decode cJ15_vectorizedMismatch 185 = .ok (.lload 12, 2) := dk_22 12 (dk_at dksJ15_vectorizedMismatch_7 21 rfl rfl)
theorem dJ15_vectorizedMismatch_187 : decode cJ15_vectorizedMismatch 187 = .ok (.ladd, 1) := dk_97 (dk_at dksJ15_vectorizedMismatch_7 23 rfl rfl)
theorem dJ15_vectorizedMismatch_188 : decode cJ15_vectorizedMismatch 188 = .ok (.invokevirtual 54, 3) := dk_182 0 54 (dk_at dksJ15_vectorizedMismatch_8 0 rfl rfl)
theorem dJ15_vectorizedMismatch_191 : decode cJ15_vectorizedMismatch 191 = .ok (.istore 15, 2) := dk_54 15 (dk_at dksJ15_vectorizedMismatch_8 3 rfl rfl)
theorem dJ15_vectorizedMismatch_193 : decode cJ15_vectorizedMismatch 193 = .ok (.iload 14, 2) := dk_21 14 (dk_at dksJ15_vectorizedMismatch_8 5 rfl rfl)
theorem dJ15_vectorizedMismatch_195 : decode cJ15_vectorizedMismatch 195 = .ok (.iload 15, 2) := dk_21 15 (dk_at dksJ15_vectorizedMismatch_8 7 rfl rfl)
theorem dJ15_vectorizedMismatch_197 : decode cJ15_vectorizedMismatch 197 = .ok (.if_icmp .eq 54, 3) := dk_159 0 54 (dk_at dksJ15_vectorizedMismatch_8 9 rfl rfl)
theorem dJ15_vectorizedMismatch_200 : decode cJ15_vectorizedMismatch 200 = .ok (.iload 14, 2) := dk_21 14 (dk_at dksJ15_vectorizedMismatch_8 12 rfl rfl)
theorem dJ15_vectorizedMismatch_202 : decode cJ15_vectorizedMismatch 202 = .ok (.iload 15, 2) := dk_21 15 (dk_at dksJ15_vectorizedMismatch_8 14 rfl rfl)
theorem dJ15_vectorizedMismatch_204 : decode cJ15_vectorizedMismatch 204 = .ok (.ixor, 1) := dk_130 (dk_at dksJ15_vectorizedMismatch_8 16 rfl rfl)
theorem dJ15_vectorizedMismatch_205 : decode cJ15_vectorizedMismatch 205 = .ok (.istore 16, 2) := dk_54 16 (dk_at dksJ15_vectorizedMismatch_8 17 rfl rfl)
theorem dJ15_vectorizedMismatch_207 : decode cJ15_vectorizedMismatch 207 = .ok (.getstatic 36, 3) := dk_178 0 36 (dk_at dksJ15_vectorizedMismatch_8 19 rfl rfl)
theorem dJ15_vectorizedMismatch_210 : decode cJ15_vectorizedMismatch 210 = .ok (.ifCond .eq 18, 3) := dk_153 0 18 (dk_at dksJ15_vectorizedMismatch_9 0 rfl rfl)
theorem dJ15_vectorizedMismatch_213 : decode cJ15_vectorizedMismatch 213 = .ok (.iload 16, 2) := dk_21 16 (dk_at dksJ15_vectorizedMismatch_9 3 rfl rfl)
theorem dJ15_vectorizedMismatch_215 : decode cJ15_vectorizedMismatch 215 = .ok (.invokestatic 58, 3) := dk_184 0 58 (dk_at dksJ15_vectorizedMismatch_9 5 rfl rfl)
theorem dJ15_vectorizedMismatch_218 : decode cJ15_vectorizedMismatch 218 = .ok (.getstatic 46, 3) := dk_178 0 46 (dk_at dksJ15_vectorizedMismatch_9 8 rfl rfl)
theorem dJ15_vectorizedMismatch_221 : decode cJ15_vectorizedMismatch 221 = .ok (.iload 7, 2) := dk_21 7 (dk_at dksJ15_vectorizedMismatch_9 11 rfl rfl)
theorem dJ15_vectorizedMismatch_223 : decode cJ15_vectorizedMismatch 223 = .ok (.iadd, 1) := dk_96 (dk_at dksJ15_vectorizedMismatch_9 13 rfl rfl)
theorem dJ15_vectorizedMismatch_224 : decode cJ15_vectorizedMismatch 224 = .ok (.ishr, 1) := dk_122 (dk_at dksJ15_vectorizedMismatch_9 14 rfl rfl)
theorem dJ15_vectorizedMismatch_225 : decode cJ15_vectorizedMismatch 225 = .ok (.goto 15, 3) := dk_167 0 15 (dk_at dksJ15_vectorizedMismatch_9 15 rfl rfl)
theorem dJ15_vectorizedMismatch_228 : decode cJ15_vectorizedMismatch 228 = .ok (.iload 16, 2) := dk_21 16 (dk_at dksJ15_vectorizedMismatch_9 18 rfl rfl)
theorem dJ15_vectorizedMismatch_230 : decode cJ15_vectorizedMismatch 230 = .ok (.invokestatic 11, 3) := dk_184 0 11 (dk_at dksJ15_vectorizedMismatch_9 20 rfl rfl)
theorem dJ15_vectorizedMismatch_233 : decode cJ15_vectorizedMismatch 233 = .ok (.getstatic 46, 3) := dk_178 0 46 (dk_at dksJ15_vectorizedMismatch_10 0 rfl rfl)
theorem dJ15_vectorizedMismatch_236 : decode cJ15_vectorizedMismatch 236 = .ok (.iload 7, 2) := dk_21 7 (dk_at dksJ15_vectorizedMismatch_10 3 rfl rfl)
theorem dJ15_vectorizedMismatch_238 : decode cJ15_vectorizedMismatch 238 = .ok (.iadd, 1) := dk_96 (dk_at dksJ15_vectorizedMismatch_10 5 rfl rfl)
theorem dJ15_vectorizedMismatch_239 : decode cJ15_vectorizedMismatch 239 = .ok (.ishr, 1) := dk_122 (dk_at dksJ15_vectorizedMismatch_10 6 rfl rfl)
theorem dJ15_vectorizedMismatch_240 : decode cJ15_vectorizedMismatch 240 = .ok (.istore 17, 2) := dk_54 17 (dk_at dksJ15_vectorizedMismatch_10 7 rfl rfl)
theorem dJ15_vectorizedMismatch_242 : decode cJ15_vectorizedMismatch 242 = .ok (.iload 9, 2) := dk_21 9 (dk_at dksJ15_vectorizedMismatch_10 9 rfl rfl)
theorem dJ15_vectorizedMismatch_244 : decode cJ15_vectorizedMismatch 244 = .ok (.iload 8, 2) := dk_21 8 (dk_at dksJ15_vectorizedMismatch_10 11 rfl rfl)
theorem dJ15_vectorizedMismatch_246 : decode cJ15_vectorizedMismatch 246 = .ok (.ishl, 1) := dk_120 (dk_at dksJ15_vectorizedMismatch_10 13 rfl rfl)
theorem dJ15_vectorizedMismatch_247 : decode cJ15_vectorizedMismatch 247 = .ok (.iload 17, 2) := dk_21 17 (dk_at dksJ15_vectorizedMismatch_10 14 rfl rfl)
theorem dJ15_vectorizedMismatch_249 : decode cJ15_vectorizedMismatch 249 = .ok (.iadd, 1) := dk_96 (dk_at dksJ15_vectorizedMismatch_10 16 rfl rfl)
theorem dJ15_vectorizedMismatch_250 : decode cJ15_vectorizedMismatch 250 = .ok (.ireturn, 1) := dk_172 (dk_at dksJ15_vectorizedMismatch_10 17 rfl rfl)
theorem dJ15_vectorizedMismatch_251 : decode cJ15_vectorizedMismatch 251 = .ok (.iload 10, 2) := dk_21 10 (dk_at dksJ15_vectorizedMismatch_10 18 rfl rfl)
theorem dJ15_vectorizedMismatch_253 : decode cJ15_vectorizedMismatch 253 = .ok (.iload 11, 2) := dk_21 11 (dk_at dksJ15_vectorizedMismatch_10 20 rfl rfl)
theorem dJ15_vectorizedMismatch_255 : decode cJ15_vectorizedMismatch 255 = .ok (.isub, 1) := dk_100 (dk_at dksJ15_vectorizedMismatch_10 22 rfl rfl)
theorem dJ15_vectorizedMismatch_256 : decode cJ15_vectorizedMismatch 256 = .ok (.istore 10, 2) := dk_54 10 (dk_at dksJ15_vectorizedMismatch_11 0 rfl rfl)
theorem dJ15_vectorizedMismatch_258 : decode cJ15_vectorizedMismatch 258 = .ok (.iload 10, 2) := dk_21 10 (dk_at dksJ15_vectorizedMismatch_11 2 rfl rfl)
theorem dJ15_vectorizedMismatch_260 : decode cJ15_vectorizedMismatch 260 = .ok (.iconst (-1), 1) := dk_2 (dk_at dksJ15_vectorizedMismatch_11 4 rfl rfl)
theorem dJ15_vectorizedMismatch_261 : decode cJ15_vectorizedMismatch 261 = .ok (.ixor, 1) := dk_130 (dk_at dksJ15_vectorizedMismatch_11 5 rfl rfl)
theorem dJ15_vectorizedMismatch_262 : decode cJ15_vectorizedMismatch 262 = .ok (.ireturn, 1) := dk_172 (dk_at dksJ15_vectorizedMismatch_11 6 rfl rfl)
theorem dJ15_vectorizedMismatch_263 : decode cJ15_vectorizedMismatch 263 = .ok (.iload 10, 2) := dk_21 10 (dk_at dksJ15_vectorizedMismatch_11 7 rfl rfl)
theorem dJ15_vectorizedMismatch_265 : decode cJ15_vectorizedMismatch 265 = .ok (.iconst (-1), 1) := dk_2 (dk_at dksJ15_vectorizedMismatch_11 9 rfl rfl)
theorem dJ15_vectorizedMismatch_266 : decode cJ15_vectorizedMismatch 266 = .ok (.ixor, 1) := dk_130 (dk_at dksJ15_vectorizedMismatch_11 10 rfl rfl)
theorem dJ15_vectorizedMismatch_267 : decode cJ15_vectorizedMismatch 267 = .ok (.ireturn, 1) := dk_172 (dk_at dksJ15_vectorizedMismatch_11 11 rfl rfl)
theorem q153 : (Jvm.Cond.initialized "jdk/internal/util/ArraysSupport") ∈ lw_all := lw_g (lw_at lw_m1 26 rfl) rfl
theorem q756 : (Jvm.Cond.static ({ cls := "jdk/internal/util/ArraysSupport", name := "newLength", desc := "(III)I" } : Jvm.MethodName)) ∈ lw_all := lw_g (lw_at lw_m3 149 rfl) rfl
theorem q757 : (Jvm.Cond.code ({ cls := "jdk/internal/util/ArraysSupport", name := "newLength", desc := "(III)I" } : Jvm.MethodName) prog_66_method_27_code (4 : Nat) (Option.some Jvm.ClassFile.FieldType.int)) ∈ lw_all := lw_g (lw_at lw_m3 150 rfl) rfl
theorem q758 : (Jvm.Cond.methodLink "jdk/internal/util/ArraysSupport" (194 : Nat) ({ cls := "java/lang/Math", name := "max", desc := "(II)I" } : Jvm.MethodName)) ∈ lw_all := lw_g (lw_at lw_m3 151 rfl) rfl
theorem q761 : (Jvm.Cond.constant "jdk/internal/util/ArraysSupport" (200 : Nat) (2147483639 : Int32)) ∈ lw_all := lw_g (lw_at lw_m3 154 rfl) rfl
theorem q762 : (Jvm.Cond.methodLink "jdk/internal/util/ArraysSupport" (201 : Nat) ({ cls := "jdk/internal/util/ArraysSupport", name := "hugeLength", desc := "(II)I" } : Jvm.MethodName)) ∈ lw_all := lw_g (lw_at lw_m3 155 rfl) rfl
theorem q763 : (Jvm.Cond.static ({ cls := "jdk/internal/util/ArraysSupport", name := "hugeLength", desc := "(II)I" } : Jvm.MethodName)) ∈ lw_all := lw_g (lw_at lw_m3 156 rfl) rfl
theorem q764 : (Jvm.Cond.code ({ cls := "jdk/internal/util/ArraysSupport", name := "hugeLength", desc := "(II)I" } : Jvm.MethodName) prog_66_method_28_code (3 : Nat) (Option.some Jvm.ClassFile.FieldType.int)) ∈ lw_all := lw_g (lw_at lw_m3 157 rfl) rfl
theorem q1001 : (Jvm.Cond.static ({ cls := "jdk/internal/util/ArraysSupport", name := "mismatch", desc := "([B[BI)I" } : Jvm.MethodName)) ∈ lw_all := lw_g (lw_at lw_m4 154 rfl) rfl
theorem q1002 : (Jvm.Cond.code ({ cls := "jdk/internal/util/ArraysSupport", name := "mismatch", desc := "([B[BI)I" } : Jvm.MethodName) prog_66_method_13_code (4 : Nat) (Option.some Jvm.ClassFile.FieldType.int)) ∈ lw_all := lw_g (lw_at lw_m4 155 rfl) rfl
theorem q1003 : (Jvm.Cond.fieldLink "jdk/internal/util/ArraysSupport" (126 : Nat) "jdk/internal/misc/Unsafe" "ARRAY_BYTE_BASE_OFFSET" "I") ∈ lw_all := lw_g (lw_at lw_m4 156 rfl) rfl
theorem q1005 : (Jvm.Cond.fieldLink "jdk/internal/util/ArraysSupport" (129 : Nat) "jdk/internal/util/ArraysSupport" "LOG2_ARRAY_BYTE_INDEX_SCALE" "I") ∈ lw_all := lw_g (lw_at lw_m4 158 rfl) rfl
theorem q1006 : (Jvm.Cond.laysStatic "jdk/internal/util/ArraysSupport" "LOG2_ARRAY_BYTE_INDEX_SCALE" "I") ∈ lw_tbl := lw_at lw_m4 159 rfl
theorem q1007 : (Jvm.Cond.methodLink "jdk/internal/util/ArraysSupport" (122 : Nat) ({ cls := "jdk/internal/util/ArraysSupport", name := "vectorizedMismatch", desc := "(Ljava/lang/Object;JLjava/lang/Object;JII)I" } : Jvm.MethodName)) ∈ lw_all := lw_g (lw_at lw_m4 160 rfl) rfl
theorem q1008 : (Jvm.Cond.static ({ cls := "jdk/internal/util/ArraysSupport", name := "vectorizedMismatch", desc := "(Ljava/lang/Object;JLjava/lang/Object;JII)I" } : Jvm.MethodName)) ∈ lw_all := lw_g (lw_at lw_m4 161 rfl) rfl
theorem q1009 : (Jvm.Cond.code ({ cls := "jdk/internal/util/ArraysSupport", name := "vectorizedMismatch", desc := "(Ljava/lang/Object;JLjava/lang/Object;JII)I" } : Jvm.MethodName) prog_66_method_3_code (19 : Nat) (Option.some Jvm.ClassFile.FieldType.int)) ∈ lw_all := lw_g (lw_at lw_m4 162 rfl) rfl
theorem q1010 : (Jvm.Cond.fieldLink "jdk/internal/util/ArraysSupport" (20 : Nat) "jdk/internal/util/ArraysSupport" "LOG2_ARRAY_LONG_INDEX_SCALE" "I") ∈ lw_all := lw_g (lw_at lw_m4 163 rfl) rfl
theorem q1011 : (Jvm.Cond.laysStatic "jdk/internal/util/ArraysSupport" "LOG2_ARRAY_LONG_INDEX_SCALE" "I") ∈ lw_tbl := lw_at lw_m4 164 rfl
theorem q1012 : (Jvm.Cond.fieldLink "jdk/internal/util/ArraysSupport" (26 : Nat) "jdk/internal/util/ArraysSupport" "U" "Ljdk/internal/misc/Unsafe;") ∈ lw_all := lw_g (lw_at lw_m4 165 rfl) rfl
theorem q1013 : (Jvm.Cond.laysStatic "jdk/internal/util/ArraysSupport" "U" "Ljdk/internal/misc/Unsafe;") ∈ lw_tbl := lw_at lw_m4 166 rfl
theorem q1014 : (Jvm.Cond.methodLink "jdk/internal/util/ArraysSupport" (30 : Nat) ({ cls := "jdk/internal/misc/Unsafe", name := "getLongUnaligned", desc := "(Ljava/lang/Object;J)J" } : Jvm.MethodName)) ∈ lw_all := lw_g (lw_at lw_m4 167 rfl) rfl
theorem q1066 : (Jvm.Cond.fieldLink "jdk/internal/util/ArraysSupport" (36 : Nat) "jdk/internal/util/ArraysSupport" "BIG_ENDIAN" "Z") ∈ lw_all := lw_g (lw_at lw_m4 219 rfl) rfl
theorem q1067 : (Jvm.Cond.laysStatic "jdk/internal/util/ArraysSupport" "BIG_ENDIAN" "Z") ∈ lw_tbl := lw_at lw_m4 220 rfl
theorem q1068 : (Jvm.Cond.methodLink "jdk/internal/util/ArraysSupport" (40 : Nat) ({ cls := "java/lang/Long", name := "numberOfLeadingZeros", desc := "(J)I" } : Jvm.MethodName)) ∈ lw_all := lw_g (lw_at lw_m4 221 rfl) rfl
theorem q1075 : (Jvm.Cond.fieldLink "jdk/internal/util/ArraysSupport" (46 : Nat) "jdk/internal/util/ArraysSupport" "LOG2_BYTE_BIT_SIZE" "I") ∈ lw_all := lw_g (lw_at lw_m4 228 rfl) rfl
theorem q1076 : (Jvm.Cond.laysStatic "jdk/internal/util/ArraysSupport" "LOG2_BYTE_BIT_SIZE" "I") ∈ lw_tbl := lw_at lw_m4 229 rfl
theorem q1077 : (Jvm.Cond.methodLink "jdk/internal/util/ArraysSupport" (49 : Nat) ({ cls := "java/lang/Long", name := "numberOfTrailingZeros", desc := "(J)I" } : Jvm.MethodName)) ∈ lw_all := lw_g (lw_at lw_m4 230 rfl) rfl
theorem q1083 : (Jvm.Cond.fieldLink "jdk/internal/util/ArraysSupport" (51 : Nat) "jdk/internal/util/ArraysSupport" "LOG2_ARRAY_INT_INDEX_SCALE" "I") ∈ lw_all := lw_g (lw_at lw_m4 236 rfl) rfl
theorem q1084 : (Jvm.Cond.laysStatic "jdk/internal/util/ArraysSupport" "LOG2_ARRAY_INT_INDEX_SCALE" "I") ∈ lw_tbl := lw_at lw_m4 237 rfl
theorem q1085 : (Jvm.Cond.methodLink "jdk/internal/util/ArraysSupport" (54 : Nat) ({ cls := "jdk/internal/misc/Unsafe", name := "getIntUnaligned", desc := "(Ljava/lang/Object;J)I" } : Jvm.MethodName)) ∈ lw_all := lw_g (lw_at lw_m4 238 rfl) rfl
theorem q1102 : (Jvm.Cond.methodLink "jdk/internal/util/ArraysSupport" (58 : Nat) ({ cls := "java/lang/Integer", name := "numberOfLeadingZeros", desc := "(I)I" } : Jvm.MethodName)) ∈ lw_all := lw_g (lw_at lw_m5 15 rfl) rfl
theorem q1103 : (Jvm.Cond.methodLink "jdk/internal/util/ArraysSupport" (11 : Nat) ({ cls := "java/lang/Integer", name := "numberOfTrailingZeros", desc := "(I)I" } : Jvm.MethodName)) ∈ lw_all := lw_g (lw_at lw_m5 16 rfl) rfl

theorem q2414 : (Jvm.Cond.castable "[B" "java/lang/Object") ∈ lw_tbl := lw_at lw_m10 127 rfl
set_option maxRecDepth 100000

theorem q2417 : (Jvm.Cond.castable "[I" "java/lang/Object") ∈ lw_tbl := lw_at lw_m10 130 rfl
set_option maxRecDepth 100000

theorem q2419 : (Jvm.Cond.castable "[J" "java/lang/Object") ∈ lw_tbl := lw_at lw_m10 132 rfl
set_option maxRecDepth 100000

theorem q2416 : (Jvm.Cond.castable "[LLinkTimes$Departure;" "java/lang/Object") ∈ lw_tbl := lw_at lw_m10 129 rfl
set_option maxRecDepth 100000

theorem q2411 : (Jvm.Cond.sameMethod "[Ljava/lang/Object;" "java/lang/Object" "getClass" "()Ljava/lang/Class;") ∈ lw_all := lw_g (lw_at lw_m10 124 rfl) rfl
set_option maxRecDepth 100000
theorem q2412 : (Jvm.Cond.selects "[Ljava/lang/Object;" ({ cls := "java/lang/Object", name := "getClass", desc := "()Ljava/lang/Class;" } : Jvm.MethodName) ({ cls := "java/lang/Object", name := "getClass", desc := "()Ljava/lang/Class;" } : Jvm.MethodName)) ∈ lw_all := lw_g (lw_at lw_m10 125 rfl) rfl
theorem q2415 : (Jvm.Cond.castable "[Ljava/lang/Object;" "java/lang/Object") ∈ lw_tbl := lw_at lw_m10 128 rfl

theorem q2418 : (Jvm.Cond.castable "[Z" "java/lang/Object") ∈ lw_tbl := lw_at lw_m10 131 rfl
set_option maxRecDepth 100000

theorem q967 : (Jvm.Cond.interfaceMethod "java/lang/Comparable" "java/lang/Comparable" "compareTo" "(Ljava/lang/Object;)I") ∈ lw_tbl := lw_at lw_m4 120 rfl
set_option maxRecDepth 100000
theorem q968 : (Jvm.Cond.declares ({ cls := "java/lang/Comparable", name := "compareTo", desc := "(Ljava/lang/Object;)I" } : Jvm.MethodName)) ∈ lw_tbl := lw_at lw_m4 121 rfl

theorem q159 : (Jvm.Cond.initialized "java/lang/Long$LongCache") ∈ lw_all := lw_g (lw_at lw_m1 32 rfl) rfl
set_option maxRecDepth 100000
theorem q816 : (Jvm.Cond.laysStatic "java/lang/Long$LongCache" "cache" "[Ljava/lang/Long;") ∈ lw_tbl := lw_at lw_m3 209 rfl

theorem q156 : (Jvm.Cond.initialized "java/lang/System") ∈ lw_all := lw_g (lw_at lw_m1 29 rfl) rfl
set_option maxRecDepth 100000
theorem q802 : (Jvm.Cond.static ({ cls := "java/lang/System", name := "arraycopy", desc := "(Ljava/lang/Object;ILjava/lang/Object;II)V" } : Jvm.MethodName)) ∈ lw_all := lw_g (lw_at lw_m3 195 rfl) rfl
theorem q803 : (Jvm.Cond.native ({ cls := "java/lang/System", name := "arraycopy", desc := "(Ljava/lang/Object;ILjava/lang/Object;II)V" } : Jvm.MethodName)) ∈ lw_all := lw_g (lw_at lw_m3 196 rfl) rfl

theorem q1131 : (Jvm.Cond.interfaceMethod "java/util/Comparator" "java/util/Comparator" "compare" "(Ljava/lang/Object;Ljava/lang/Object;)I") ∈ lw_tbl := lw_at lw_m5 44 rfl
set_option maxRecDepth 100000
theorem q1132 : (Jvm.Cond.declares ({ cls := "java/util/Comparator", name := "compare", desc := "(Ljava/lang/Object;Ljava/lang/Object;)I" } : Jvm.MethodName)) ∈ lw_tbl := lw_at lw_m5 45 rfl

theorem q929 : (Jvm.Cond.declares ({ cls := "java/util/Map", name := "clear", desc := "()V" } : Jvm.MethodName)) ∈ lw_tbl := lw_at lw_m4 82 rfl
set_option maxRecDepth 100000
theorem q946 : (Jvm.Cond.declares ({ cls := "java/util/Map", name := "put", desc := "(Ljava/lang/Object;Ljava/lang/Object;)Ljava/lang/Object;" } : Jvm.MethodName)) ∈ lw_tbl := lw_at lw_m4 99 rfl
theorem q1232 : (Jvm.Cond.declares ({ cls := "java/util/Map", name := "size", desc := "()I" } : Jvm.MethodName)) ∈ lw_tbl := lw_at lw_m5 145 rfl
theorem q1680 : (Jvm.Cond.declares ({ cls := "java/util/Map", name := "remove", desc := "(Ljava/lang/Object;)Ljava/lang/Object;" } : Jvm.MethodName)) ∈ lw_tbl := lw_at lw_m7 113 rfl

theorem q1316 : (Jvm.Cond.interfaceMethod "java/util/NavigableMap" "java/util/NavigableMap" "higherKey" "(Ljava/lang/Object;)Ljava/lang/Object;") ∈ lw_tbl := lw_at lw_m5 229 rfl
set_option maxRecDepth 100000
theorem q1317 : (Jvm.Cond.declares ({ cls := "java/util/NavigableMap", name := "higherKey", desc := "(Ljava/lang/Object;)Ljava/lang/Object;" } : Jvm.MethodName)) ∈ lw_tbl := lw_at lw_m5 230 rfl

theorem q1274 : (Jvm.Cond.declares ({ cls := "java/util/SortedMap", name := "firstKey", desc := "()Ljava/lang/Object;" } : Jvm.MethodName)) ∈ lw_tbl := lw_at lw_m5 187 rfl
set_option maxRecDepth 100000

theorem q163 : (Jvm.Cond.initialized "jdk/internal/misc/UnsafeConstants") ∈ lw_all := lw_g (lw_at lw_m1 36 rfl) rfl
set_option maxRecDepth 100000
theorem q1040 : (Jvm.Cond.laysStatic "jdk/internal/misc/UnsafeConstants" "BIG_ENDIAN" "Z") ∈ lw_tbl := lw_at lw_m4 193 rfl

theorem q188 : (Jvm.Cond.arrayClass Jvm.ClassFile.FieldType.byte) ∈ lw_all := lw_g (lw_at lw_m1 61 rfl) rfl
set_option maxRecDepth 100000
theorem q246 : (Jvm.Cond.arrayOver (Jvm.ClassFile.FieldType.object "java/lang/Object")) ∈ lw_tbl := lw_at lw_m1 119 rfl
theorem q264 : (Jvm.Cond.arrayOver (Jvm.ClassFile.FieldType.object "LinkTimes$Departure")) ∈ lw_tbl := lw_at lw_m1 137 rfl
theorem q300 : (Jvm.Cond.arrayClass Jvm.ClassFile.FieldType.int) ∈ lw_all := lw_g (lw_at lw_m1 173 rfl) rfl
theorem q361 : (Jvm.Cond.arrayClass Jvm.ClassFile.FieldType.boolean) ∈ lw_all := lw_g (lw_at lw_m1 234 rfl) rfl
theorem q1926 : (Jvm.Cond.arrayClass Jvm.ClassFile.FieldType.long) ∈ lw_all := lw_g (lw_at lw_m8 119 rfl) rfl

