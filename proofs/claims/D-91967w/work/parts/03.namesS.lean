/-! java/util/AbstractCollection -/
set_option maxRecDepth 100000
def RJ0 : String := "java/util/AbstractCollection"
abbrev cJ0_init : ByteArray := prog_31_method_1_code
def yJ0_init : MethodName := ⟨RJ0, "<init>", "()V"⟩
theorem dJ0_init_0 : decode cJ0_init 0 = .ok (.aload_n 0, 1) := by decide +kernel
theorem dJ0_init_1 : decode cJ0_init 1 = .ok (.invokespecial 1, 3) := by decide +kernel
theorem dJ0_init_4 : decode cJ0_init 4 = .ok (.return_, 1) := by decide +kernel
theorem q123 : (Jvm.Cond.initialized "java/util/AbstractCollection") ∈ lw_all := lw_g (lw_at lw_m1 5 rfl) rfl
theorem q380 : (Jvm.Cond.instanceMethod ({ cls := "java/util/AbstractCollection", name := "<init>", desc := "()V" } : Jvm.MethodName)) ∈ lw_all := lw_g (lw_at lw_m2 22 rfl) rfl
theorem q381 : (Jvm.Cond.code ({ cls := "java/util/AbstractCollection", name := "<init>", desc := "()V" } : Jvm.MethodName) prog_31_method_1_code (1 : Nat) (Option.none : Option Jvm.ClassFile.FieldType)) ∈ lw_all := lw_g (lw_at lw_m2 23 rfl) rfl
theorem q382 : (Jvm.Cond.methodLink "java/util/AbstractCollection" (1 : Nat) ({ cls := "java/lang/Object", name := "<init>", desc := "()V" } : Jvm.MethodName)) ∈ lw_all := lw_g (lw_at lw_m2 24 rfl) rfl

/-! java/util/AbstractList -/
set_option maxRecDepth 100000
def RJ1 : String := "java/util/AbstractList"
abbrev cJ1_init : ByteArray := prog_32_method_1_code
def yJ1_init : MethodName := ⟨RJ1, "<init>", "()V"⟩
def dkwJ1_init_0 : List UInt8 := [42, 183, 0, 1, 42, 3, 181, 0, 7, 177]
abbrev dktJ1_init_0 : List UInt8 := dkwJ1_init_0 ++ []
theorem dksJ1_init_0 : cJ1_init.data.toList.drop 0 = dktJ1_init_0 := by decide +kernel
theorem dJ1_init_0 : decode cJ1_init 0 = .ok (.aload_n 0, 1) := dk_42 (dk_at dksJ1_init_0 0 rfl rfl)
theorem dJ1_init_1 : decode cJ1_init 1 = .ok (.invokespecial 1, 3) := dk_183 0 1 (dk_at dksJ1_init_0 1 rfl rfl)
theorem dJ1_init_4 : decode cJ1_init 4 = .ok (.aload_n 0, 1) := dk_42 (dk_at dksJ1_init_0 4 rfl rfl)
theorem dJ1_init_5 : decode cJ1_init 5 = .ok (.iconst 0, 1) := dk_3 (dk_at dksJ1_init_0 5 rfl rfl)
theorem dJ1_init_6 : decode cJ1_init 6 = .ok (.putfield 7, 3) := dk_181 0 7 (dk_at dksJ1_init_0 6 rfl rfl)
theorem dJ1_init_9 : decode cJ1_init 9 = .ok (.return_, 1) := dk_177 (dk_at dksJ1_init_0 9 rfl rfl)
theorem q124 : (Jvm.Cond.initialized "java/util/AbstractList") ∈ lw_all := lw_g (lw_at lw_m1 6 rfl) rfl
theorem q377 : (Jvm.Cond.instanceMethod ({ cls := "java/util/AbstractList", name := "<init>", desc := "()V" } : Jvm.MethodName)) ∈ lw_all := lw_g (lw_at lw_m2 19 rfl) rfl
theorem q378 : (Jvm.Cond.code ({ cls := "java/util/AbstractList", name := "<init>", desc := "()V" } : Jvm.MethodName) prog_32_method_1_code (1 : Nat) (Option.none : Option Jvm.ClassFile.FieldType)) ∈ lw_all := lw_g (lw_at lw_m2 20 rfl) rfl
theorem q379 : (Jvm.Cond.methodLink "java/util/AbstractList" (1 : Nat) ({ cls := "java/util/AbstractCollection", name := "<init>", desc := "()V" } : Jvm.MethodName)) ∈ lw_all := lw_g (lw_at lw_m2 21 rfl) rfl
theorem q387 : (Jvm.Cond.fieldLink "java/util/AbstractList" (7 : Nat) "java/util/AbstractList" "modCount" "I") ∈ lw_all := lw_g (lw_at lw_m2 29 rfl) rfl
theorem q395 : (Jvm.Cond.soleField "java/util/AbstractList" "modCount") ∈ lw_all := lw_g (lw_at lw_m2 37 rfl) rfl

/-! java/lang/Math -/
set_option maxRecDepth 100000
def RJ10 : String := "java/lang/Math"
abbrev cJ10_abs : ByteArray := prog_22_method_59_code
def yJ10_abs : MethodName := ⟨RJ10, "abs", "(I)I"⟩
def dkwJ10_abs_0 : List UInt8 := [26, 156, 0, 8, 26, 116, 167, 0, 4, 26, 172]
abbrev dktJ10_abs_0 : List UInt8 := dkwJ10_abs_0 ++ []
theorem dksJ10_abs_0 : cJ10_abs.data.toList.drop 0 = dktJ10_abs_0 := by decide +kernel
theorem dJ10_abs_0 : decode cJ10_abs 0 = .ok (.iload_n 0, 1) := dk_26 (dk_at dksJ10_abs_0 0 rfl rfl)
theorem dJ10_abs_1 : decode cJ10_abs 1 = .ok (.ifCond .ge 8, 3) := dk_156 0 8 (dk_at dksJ10_abs_0 1 rfl rfl)
theorem dJ10_abs_4 : decode cJ10_abs 4 = .ok (.iload_n 0, 1) := dk_26 (dk_at dksJ10_abs_0 4 rfl rfl)
theorem dJ10_abs_5 : decode cJ10_abs 5 = .ok (.ineg, 1) := dk_116 (dk_at dksJ10_abs_0 5 rfl rfl)
theorem dJ10_abs_6 : decode cJ10_abs 6 = .ok (.goto 4, 3) := dk_167 0 4 (dk_at dksJ10_abs_0 6 rfl rfl)
theorem dJ10_abs_9 : decode cJ10_abs 9 = .ok (.iload_n 0, 1) := dk_26 (dk_at dksJ10_abs_0 9 rfl rfl)
theorem dJ10_abs_10 : decode cJ10_abs 10 = .ok (.ireturn, 1) := dk_172 (dk_at dksJ10_abs_0 10 rfl rfl)
abbrev cJ10_min : ByteArray := prog_22_method_69_code
def yJ10_min : MethodName := ⟨RJ10, "min", "(II)I"⟩
def dkwJ10_min_0 : List UInt8 := [26, 27, 163, 0, 7, 26, 167, 0, 4, 27, 172]
abbrev dktJ10_min_0 : List UInt8 := dkwJ10_min_0 ++ []
theorem dksJ10_min_0 : cJ10_min.data.toList.drop 0 = dktJ10_min_0 := by decide +kernel
theorem dJ10_min_0 : decode cJ10_min 0 = .ok (.iload_n 0, 1) := dk_26 (dk_at dksJ10_min_0 0 rfl rfl)
theorem dJ10_min_1 : decode cJ10_min 1 = .ok (.iload_n 1, 1) := dk_27 (dk_at dksJ10_min_0 1 rfl rfl)
theorem dJ10_min_2 : decode cJ10_min 2 = .ok (.if_icmp .gt 7, 3) := dk_163 0 7 (dk_at dksJ10_min_0 2 rfl rfl)
theorem dJ10_min_5 : decode cJ10_min 5 = .ok (.iload_n 0, 1) := dk_26 (dk_at dksJ10_min_0 5 rfl rfl)
theorem dJ10_min_6 : decode cJ10_min 6 = .ok (.goto 4, 3) := dk_167 0 4 (dk_at dksJ10_min_0 6 rfl rfl)
theorem dJ10_min_9 : decode cJ10_min 9 = .ok (.iload_n 1, 1) := dk_27 (dk_at dksJ10_min_0 9 rfl rfl)
theorem dJ10_min_10 : decode cJ10_min 10 = .ok (.ireturn, 1) := dk_172 (dk_at dksJ10_min_0 10 rfl rfl)
abbrev cJ10_max : ByteArray := prog_22_method_65_code
def yJ10_max : MethodName := ⟨RJ10, "max", "(II)I"⟩
def dkwJ10_max_0 : List UInt8 := [26, 27, 161, 0, 7, 26, 167, 0, 4, 27, 172]
abbrev dktJ10_max_0 : List UInt8 := dkwJ10_max_0 ++ []
theorem dksJ10_max_0 : cJ10_max.data.toList.drop 0 = dktJ10_max_0 := by decide +kernel
theorem dJ10_max_0 : decode cJ10_max 0 = .ok (.iload_n 0, 1) := dk_26 (dk_at dksJ10_max_0 0 rfl rfl)
theorem dJ10_max_1 : decode cJ10_max 1 = .ok (.iload_n 1, 1) := dk_27 (dk_at dksJ10_max_0 1 rfl rfl)
theorem dJ10_max_2 : decode cJ10_max 2 = .ok (.if_icmp .lt 7, 3) := dk_161 0 7 (dk_at dksJ10_max_0 2 rfl rfl)
theorem dJ10_max_5 : decode cJ10_max 5 = .ok (.iload_n 0, 1) := dk_26 (dk_at dksJ10_max_0 5 rfl rfl)
theorem dJ10_max_6 : decode cJ10_max 6 = .ok (.goto 4, 3) := dk_167 0 4 (dk_at dksJ10_max_0 6 rfl rfl)
theorem dJ10_max_9 : decode cJ10_max 9 = .ok (.iload_n 1, 1) := dk_27 (dk_at dksJ10_max_0 9 rfl rfl)
theorem dJ10_max_10 : decode cJ10_max 10 = .ok (.ireturn, 1) := dk_172 (dk_at dksJ10_max_0 10 rfl rfl)
abbrev cJ10_max_2 : ByteArray := prog_22_method_66_code
def yJ10_max_2 : MethodName := ⟨RJ10, "max", "(JJ)J"⟩
def dkwJ10_max_2_0 : List UInt8 := [30, 32, 148, 155, 0, 7, 30, 167, 0, 4, 32, 173]
abbrev dktJ10_max_2_0 : List UInt8 := dkwJ10_max_2_0 ++ []
theorem dksJ10_max_2_0 : cJ10_max_2.data.toList.drop 0 = dktJ10_max_2_0 := by decide +kernel
theorem dJ10_max_2_0 : decode cJ10_max_2 0 = .ok (.lload_n 0, 1) := dk_30 (dk_at dksJ10_max_2_0 0 rfl rfl)
theorem dJ10_max_2_1 : decode cJ10_max_2 1 = .ok (.lload_n 2, 1) := dk_32 (dk_at dksJ10_max_2_0 1 rfl rfl)
theorem dJ10_max_2_2 : decode cJ10_max_2 2 = .ok (.lcmp, 1) := dk_148 (dk_at dksJ10_max_2_0 2 rfl rfl)
theorem dJ10_max_2_3 : decode cJ10_max_2 3 = .ok (.ifCond .lt 7, 3) := dk_155 0 7 (dk_at dksJ10_max_2_0 3 rfl rfl)
theorem dJ10_max_2_6 : decode cJ10_max_2 6 = .ok (.lload_n 0, 1) := dk_30 (dk_at dksJ10_max_2_0 6 rfl rfl)
theorem dJ10_max_2_7 : decode cJ10_max_2 7 = .ok (.goto 4, 3) := dk_167 0 4 (dk_at dksJ10_max_2_0 7 rfl rfl)
theorem dJ10_max_2_10 : decode cJ10_max_2 10 = .ok (.lload_n 2, 1) := dk_32 (dk_at dksJ10_max_2_0 10 rfl rfl)
theorem dJ10_max_2_11 : decode cJ10_max_2 11 = .ok (.lreturn, 1) := dk_173 (dk_at dksJ10_max_2_0 11 rfl rfl)
theorem q137 : (Jvm.Cond.initialized "java/lang/Math") ∈ lw_all := lw_g (lw_at lw_m1 19 rfl) rfl
theorem q249 : (Jvm.Cond.static ({ cls := "java/lang/Math", name := "abs", desc := "(I)I" } : Jvm.MethodName)) ∈ lw_all := lw_g (lw_at lw_m1 131 rfl) rfl
theorem q250 : (Jvm.Cond.code ({ cls := "java/lang/Math", name := "abs", desc := "(I)I" } : Jvm.MethodName) prog_22_method_59_code (1 : Nat) (Option.some Jvm.ClassFile.FieldType.int)) ∈ lw_all := lw_g (lw_at lw_m1 132 rfl) rfl
theorem q260 : (Jvm.Cond.static ({ cls := "java/lang/Math", name := "min", desc := "(II)I" } : Jvm.MethodName)) ∈ lw_all := lw_g (lw_at lw_m1 142 rfl) rfl
theorem q261 : (Jvm.Cond.code ({ cls := "java/lang/Math", name := "min", desc := "(II)I" } : Jvm.MethodName) prog_22_method_69_code (2 : Nat) (Option.some Jvm.ClassFile.FieldType.int)) ∈ lw_all := lw_g (lw_at lw_m1 143 rfl) rfl
theorem q734 : (Jvm.Cond.static ({ cls := "java/lang/Math", name := "max", desc := "(II)I" } : Jvm.MethodName)) ∈ lw_all := lw_g (lw_at lw_m3 136 rfl) rfl
theorem q735 : (Jvm.Cond.code ({ cls := "java/lang/Math", name := "max", desc := "(II)I" } : Jvm.MethodName) prog_22_method_65_code (2 : Nat) (Option.some Jvm.ClassFile.FieldType.int)) ∈ lw_all := lw_g (lw_at lw_m3 137 rfl) rfl
theorem q1178 : (Jvm.Cond.static ({ cls := "java/lang/Math", name := "max", desc := "(JJ)J" } : Jvm.MethodName)) ∈ lw_all := lw_g (lw_at lw_m5 100 rfl) rfl
theorem q1179 : (Jvm.Cond.code ({ cls := "java/lang/Math", name := "max", desc := "(JJ)J" } : Jvm.MethodName) prog_22_method_66_code (4 : Nat) (Option.some Jvm.ClassFile.FieldType.long)) ∈ lw_all := lw_g (lw_at lw_m5 101 rfl) rfl

/-! jdk/internal/util/ArraysSupport -/
set_option maxRecDepth 100000
def RJ11 : String := "jdk/internal/util/ArraysSupport"
abbrev cJ11_newLength : ByteArray := prog_40_method_27_code
def yJ11_newLength : MethodName := ⟨RJ11, "newLength", "(III)I"⟩
def dkwJ11_newLength_1 : List UInt8 := [184, 0, 201, 172]
abbrev dktJ11_newLength_1 : List UInt8 := dkwJ11_newLength_1 ++ []
def dkwJ11_newLength_0 : List UInt8 := [26, 27, 28, 184, 0, 194, 96, 62, 3, 29, 162, 0, 11, 29, 18, 200, 163, 0, 5, 29, 172, 26, 27]
abbrev dktJ11_newLength_0 : List UInt8 := dkwJ11_newLength_0 ++ dktJ11_newLength_1
theorem dksJ11_newLength_0 : cJ11_newLength.data.toList.drop 0 = dktJ11_newLength_0 := by decide +kernel
theorem dksJ11_newLength_1 : cJ11_newLength.data.toList.drop 23 = dktJ11_newLength_1 := dk_seg dksJ11_newLength_0 23 rfl rfl
theorem dJ11_newLength_0 : decode cJ11_newLength 0 = .ok (.iload_n 0, 1) := dk_26 (dk_at dksJ11_newLength_0 0 rfl rfl)
theorem dJ11_newLength_1 : decode cJ11_newLength 1 = .ok (.iload_n 1, 1) := dk_27 (dk_at dksJ11_newLength_0 1 rfl rfl)
theorem dJ11_newLength_2 : decode cJ11_newLength 2 = .ok (.iload_n 2, 1) := dk_28 (dk_at dksJ11_newLength_0 2 rfl rfl)
theorem dJ11_newLength_3 : decode cJ11_newLength 3 = .ok (.invokestatic 194, 3) := dk_184 0 194 (dk_at dksJ11_newLength_0 3 rfl rfl)
theorem dJ11_newLength_6 : decode cJ11_newLength 6 = .ok (.iadd, 1) := dk_96 (dk_at dksJ11_newLength_0 6 rfl rfl)
theorem dJ11_newLength_7 : decode cJ11_newLength 7 = .ok (.istore_n 3, 1) := dk_62 (dk_at dksJ11_newLength_0 7 rfl rfl)
theorem dJ11_newLength_8 : decode cJ11_newLength 8 = .ok (.iconst 0, 1) := dk_3 (dk_at dksJ11_newLength_0 8 rfl rfl)
theorem dJ11_newLength_9 : decode cJ11_newLength 9 = .ok (.iload_n 3, 1) := dk_29 (dk_at dksJ11_newLength_0 9 rfl rfl)
theorem dJ11_newLength_10 : decode cJ11_newLength 10 = .ok (.if_icmp .ge 11, 3) := dk_162 0 11 (dk_at dksJ11_newLength_0 10 rfl rfl)
theorem dJ11_newLength_13 : decode cJ11_newLength 13 = .ok (.iload_n 3, 1) := dk_29 (dk_at dksJ11_newLength_0 13 rfl rfl)
theorem dJ11_newLength_14 : decode cJ11_newLength 14 = .ok (.ldc 200, 2) := dk_18 200 (dk_at dksJ11_newLength_0 14 rfl rfl)
theorem dJ11_newLength_16 : decode cJ11_newLength 16 = .ok (.if_icmp .gt 5, 3) := dk_163 0 5 (dk_at dksJ11_newLength_0 16 rfl rfl)
theorem dJ11_newLength_19 : decode cJ11_newLength 19 = .ok (.iload_n 3, 1) := dk_29 (dk_at dksJ11_newLength_0 19 rfl rfl)
theorem dJ11_newLength_20 : decode cJ11_newLength 20 = .ok (.ireturn, 1) := dk_172 (dk_at dksJ11_newLength_0 20 rfl rfl)
theorem dJ11_newLength_21 : decode cJ11_newLength 21 = .ok (.iload_n 0, 1) := dk_26 (dk_at dksJ11_newLength_0 21 rfl rfl)
theorem dJ11_newLength_22 : decode cJ11_newLength 22 = .ok (.iload_n 1, 1) := dk_27 (dk_at dksJ11_newLength_0 22 rfl rfl)
theorem dJ11_newLength_23 : decode cJ11_newLength 23 = .ok (.invokestatic 201, 3) := dk_184 0 201 (dk_at dksJ11_newLength_1 0 rfl rfl)
theorem dJ11_newLength_26 : decode cJ11_newLength 26 = .ok (.ireturn, 1) := dk_172 (dk_at dksJ11_newLength_1 3 rfl rfl)
abbrev cJ11_hugeLength : ByteArray := prog_40_method_28_code
def yJ11_hugeLength : MethodName := ⟨RJ11, "hugeLength", "(II)I"⟩
def dkwJ11_hugeLength_2 : List UInt8 := [191, 28, 18, 200, 163, 0, 6, 18, 200, 172, 28, 172]
abbrev dktJ11_hugeLength_2 : List UInt8 := dkwJ11_hugeLength_2 ++ []
def dkwJ11_hugeLength_1 : List UInt8 := [26, 182, 0, 98, 18, 208, 182, 0, 94, 27, 182, 0, 98, 18, 210, 182, 0, 94, 182, 0, 101, 183, 0, 212]
abbrev dktJ11_hugeLength_1 : List UInt8 := dkwJ11_hugeLength_1 ++ dktJ11_hugeLength_2
def dkwJ11_hugeLength_0 : List UInt8 := [26, 27, 96, 61, 28, 156, 0, 44, 187, 0, 204, 89, 187, 0, 89, 89, 183, 0, 91, 18, 206, 182, 0, 94]
abbrev dktJ11_hugeLength_0 : List UInt8 := dkwJ11_hugeLength_0 ++ dktJ11_hugeLength_1
theorem dksJ11_hugeLength_0 : cJ11_hugeLength.data.toList.drop 0 = dktJ11_hugeLength_0 := by decide +kernel
theorem dksJ11_hugeLength_1 : cJ11_hugeLength.data.toList.drop 24 = dktJ11_hugeLength_1 := dk_seg dksJ11_hugeLength_0 24 rfl rfl
theorem dksJ11_hugeLength_2 : cJ11_hugeLength.data.toList.drop 48 = dktJ11_hugeLength_2 := dk_seg dksJ11_hugeLength_1 24 rfl rfl
theorem dJ11_hugeLength_0 : decode cJ11_hugeLength 0 = .ok (.iload_n 0, 1) := dk_26 (dk_at dksJ11_hugeLength_0 0 rfl rfl)
theorem dJ11_hugeLength_1 : decode cJ11_hugeLength 1 = .ok (.iload_n 1, 1) := dk_27 (dk_at dksJ11_hugeLength_0 1 rfl rfl)
theorem dJ11_hugeLength_2 : decode cJ11_hugeLength 2 = .ok (.iadd, 1) := dk_96 (dk_at dksJ11_hugeLength_0 2 rfl rfl)
theorem dJ11_hugeLength_3 : decode cJ11_hugeLength 3 = .ok (.istore_n 2, 1) := dk_61 (dk_at dksJ11_hugeLength_0 3 rfl rfl)
theorem dJ11_hugeLength_4 : decode cJ11_hugeLength 4 = .ok (.iload_n 2, 1) := dk_28 (dk_at dksJ11_hugeLength_0 4 rfl rfl)
theorem dJ11_hugeLength_5 : decode cJ11_hugeLength 5 = .ok (.ifCond .ge 44, 3) := dk_156 0 44 (dk_at dksJ11_hugeLength_0 5 rfl rfl)
theorem dJ11_hugeLength_8 : decode cJ11_hugeLength 8 = .ok (.new 204, 3) := dk_187 0 204 (dk_at dksJ11_hugeLength_0 8 rfl rfl)
theorem dJ11_hugeLength_11 : decode cJ11_hugeLength 11 = .ok (.dup, 1) := dk_89 (dk_at dksJ11_hugeLength_0 11 rfl rfl)
theorem dJ11_hugeLength_12 : decode cJ11_hugeLength 12 = .ok (.new 89, 3) := dk_187 0 89 (dk_at dksJ11_hugeLength_0 12 rfl rfl)
theorem dJ11_hugeLength_15 : decode cJ11_hugeLength 15 = .ok (.dup, 1) := dk_89 (dk_at dksJ11_hugeLength_0 15 rfl rfl)
theorem dJ11_hugeLength_16 : decode cJ11_hugeLength 16 = .ok (.invokespecial 91, 3) := dk_183 0 91 (dk_at dksJ11_hugeLength_0 16 rfl rfl)
theorem dJ11_hugeLength_19 : decode cJ11_hugeLength 19 = .ok (.ldc 206, 2) := dk_18 206 (dk_at dksJ11_hugeLength_0 19 rfl rfl)
theorem dJ11_hugeLength_21 : decode cJ11_hugeLength 21 = .ok (.invokevirtual 94, 3) := dk_182 0 94 (dk_at dksJ11_hugeLength_0 21 rfl rfl)
theorem dJ11_hugeLength_24 : decode cJ11_hugeLength 24 = .ok (.iload_n 0, 1) := dk_26 (dk_at dksJ11_hugeLength_1 0 rfl rfl)
theorem dJ11_hugeLength_25 : decode cJ11_hugeLength 25 = .ok (.invokevirtual 98, 3) := dk_182 0 98 (dk_at dksJ11_hugeLength_1 1 rfl rfl)
theorem dJ11_hugeLength_28 : decode cJ11_hugeLength 28 = .ok (.ldc 208, 2) := dk_18 208 (dk_at dksJ11_hugeLength_1 4 rfl rfl)
theorem dJ11_hugeLength_30 : decode cJ11_hugeLength 30 = .ok (.invokevirtual 94, 3) := dk_182 0 94 (dk_at dksJ11_hugeLength_1 6 rfl rfl)
theorem dJ11_hugeLength_33 : decode cJ11_hugeLength 33 = .ok (.iload_n 1, 1) := dk_27 (dk_at dksJ11_hugeLength_1 9 rfl rfl)
theorem dJ11_hugeLength_34 : decode cJ11_hugeLength 34 = .ok (.invokevirtual 98, 3) := dk_182 0 98 (dk_at dksJ11_hugeLength_1 10 rfl rfl)
theorem dJ11_hugeLength_37 : decode cJ11_hugeLength 37 = .ok (.ldc 210, 2) := dk_18 210 (dk_at dksJ11_hugeLength_1 13 rfl rfl)
theorem dJ11_hugeLength_39 : decode cJ11_hugeLength 39 = .ok (.invokevirtual 94, 3) := dk_182 0 94 (dk_at dksJ11_hugeLength_1 15 rfl rfl)
theorem dJ11_hugeLength_42 : decode cJ11_hugeLength 42 = .ok (.invokevirtual 101, 3) := dk_182 0 101 (dk_at dksJ11_hugeLength_1 18 rfl rfl)
theorem dJ11_hugeLength_45 : decode cJ11_hugeLength 45 = .ok (.invokespecial 212, 3) := dk_183 0 212 (dk_at dksJ11_hugeLength_1 21 rfl rfl)
theorem dJ11_hugeLength_48 : decode cJ11_hugeLength 48 = .ok (.athrow, 1) := dk_191 (dk_at dksJ11_hugeLength_2 0 rfl rfl)
theorem dJ11_hugeLength_49 : decode cJ11_hugeLength 49 = .ok (.iload_n 2, 1) := dk_28 (dk_at dksJ11_hugeLength_2 1 rfl rfl)
theorem dJ11_hugeLength_50 : decode cJ11_hugeLength 50 = .ok (.ldc 200, 2) := dk_18 200 (dk_at dksJ11_hugeLength_2 2 rfl rfl)
theorem dJ11_hugeLength_52 : decode cJ11_hugeLength 52 = .ok (.if_icmp .gt 6, 3) := dk_163 0 6 (dk_at dksJ11_hugeLength_2 4 rfl rfl)
theorem dJ11_hugeLength_55 : decode cJ11_hugeLength 55 = .ok (.ldc 200, 2) := dk_18 200 (dk_at dksJ11_hugeLength_2 7 rfl rfl)
theorem dJ11_hugeLength_57 : decode cJ11_hugeLength 57 = .ok (.ireturn, 1) := dk_172 (dk_at dksJ11_hugeLength_2 9 rfl rfl)
theorem dJ11_hugeLength_58 : decode cJ11_hugeLength 58 = .ok (.iload_n 2, 1) := dk_28 (dk_at dksJ11_hugeLength_2 10 rfl rfl)
theorem dJ11_hugeLength_59 : decode cJ11_hugeLength 59 = .ok (.ireturn, 1) := dk_172 (dk_at dksJ11_hugeLength_2 11 rfl rfl)
theorem q140 : (Jvm.Cond.initialized "jdk/internal/util/ArraysSupport") ∈ lw_all := lw_g (lw_at lw_m1 22 rfl) rfl
theorem q807 : (Jvm.Cond.static ({ cls := "jdk/internal/util/ArraysSupport", name := "newLength", desc := "(III)I" } : Jvm.MethodName)) ∈ lw_all := lw_g (lw_at lw_m3 209 rfl) rfl
theorem q808 : (Jvm.Cond.code ({ cls := "jdk/internal/util/ArraysSupport", name := "newLength", desc := "(III)I" } : Jvm.MethodName) prog_40_method_27_code (4 : Nat) (Option.some Jvm.ClassFile.FieldType.int)) ∈ lw_all := lw_g (lw_at lw_m3 210 rfl) rfl
theorem q809 : (Jvm.Cond.methodLink "jdk/internal/util/ArraysSupport" (194 : Nat) ({ cls := "java/lang/Math", name := "max", desc := "(II)I" } : Jvm.MethodName)) ∈ lw_all := lw_g (lw_at lw_m3 211 rfl) rfl
theorem q810 : (Jvm.Cond.constant "jdk/internal/util/ArraysSupport" (200 : Nat) (2147483639 : Int32)) ∈ lw_all := lw_g (lw_at lw_m3 212 rfl) rfl
theorem q811 : (Jvm.Cond.methodLink "jdk/internal/util/ArraysSupport" (201 : Nat) ({ cls := "jdk/internal/util/ArraysSupport", name := "hugeLength", desc := "(II)I" } : Jvm.MethodName)) ∈ lw_all := lw_g (lw_at lw_m3 213 rfl) rfl
theorem q812 : (Jvm.Cond.static ({ cls := "jdk/internal/util/ArraysSupport", name := "hugeLength", desc := "(II)I" } : Jvm.MethodName)) ∈ lw_all := lw_g (lw_at lw_m3 214 rfl) rfl
theorem q813 : (Jvm.Cond.code ({ cls := "jdk/internal/util/ArraysSupport", name := "hugeLength", desc := "(II)I" } : Jvm.MethodName) prog_40_method_28_code (3 : Nat) (Option.some Jvm.ClassFile.FieldType.int)) ∈ lw_all := lw_g (lw_at lw_m3 215 rfl) rfl

/-! java/util/Arrays -/
set_option maxRecDepth 100000
def RJ12 : String := "java/util/Arrays"
abbrev cJ12_copyOf : ByteArray := prog_34_method_119_code
def yJ12_copyOf : MethodName := ⟨RJ12, "copyOf", "([Ljava/lang/Object;I)[Ljava/lang/Object;"⟩
def dkwJ12_copyOf_0 : List UInt8 := [42, 27, 42, 182, 0, 86, 184, 1, 44, 176]
abbrev dktJ12_copyOf_0 : List UInt8 := dkwJ12_copyOf_0 ++ []
theorem dksJ12_copyOf_0 : cJ12_copyOf.data.toList.drop 0 = dktJ12_copyOf_0 := by decide +kernel
theorem dJ12_copyOf_0 : decode cJ12_copyOf 0 = .ok (.aload_n 0, 1) := dk_42 (dk_at dksJ12_copyOf_0 0 rfl rfl)
theorem dJ12_copyOf_1 : decode cJ12_copyOf 1 = .ok (.iload_n 1, 1) := dk_27 (dk_at dksJ12_copyOf_0 1 rfl rfl)
theorem dJ12_copyOf_2 : decode cJ12_copyOf 2 = .ok (.aload_n 0, 1) := dk_42 (dk_at dksJ12_copyOf_0 2 rfl rfl)
theorem dJ12_copyOf_3 : decode cJ12_copyOf 3 = .ok (.invokevirtual 86, 3) := dk_182 0 86 (dk_at dksJ12_copyOf_0 3 rfl rfl)
theorem dJ12_copyOf_6 : decode cJ12_copyOf 6 = .ok (.invokestatic 300, 3) := dk_184 1 44 (dk_at dksJ12_copyOf_0 6 rfl rfl)
theorem dJ12_copyOf_9 : decode cJ12_copyOf 9 = .ok (.areturn, 1) := dk_176 (dk_at dksJ12_copyOf_0 9 rfl rfl)
abbrev cJ12_copyOf_2 : ByteArray := prog_34_method_120_code
def yJ12_copyOf_2 : MethodName := ⟨RJ12, "copyOf", "([Ljava/lang/Object;ILjava/lang/Class;)[Ljava/lang/Object;"⟩
def dkwJ12_copyOf_2_1 : List UInt8 := [78, 42, 3, 45, 3, 42, 190, 27, 184, 1, 48, 184, 0, 150, 45, 176]
abbrev dktJ12_copyOf_2_1 : List UInt8 := dkwJ12_copyOf_2_1 ++ []
def dkwJ12_copyOf_2_0 : List UInt8 := [44, 18, 110, 166, 0, 10, 27, 189, 0, 2, 167, 0, 14, 44, 182, 0, 90, 27, 184, 0, 95, 192, 0, 110]
abbrev dktJ12_copyOf_2_0 : List UInt8 := dkwJ12_copyOf_2_0 ++ dktJ12_copyOf_2_1
theorem dksJ12_copyOf_2_0 : cJ12_copyOf_2.data.toList.drop 0 = dktJ12_copyOf_2_0 := by decide +kernel
theorem dksJ12_copyOf_2_1 : cJ12_copyOf_2.data.toList.drop 24 = dktJ12_copyOf_2_1 := dk_seg dksJ12_copyOf_2_0 24 rfl rfl
theorem dJ12_copyOf_2_0 : decode cJ12_copyOf_2 0 = .ok (.aload_n 2, 1) := dk_44 (dk_at dksJ12_copyOf_2_0 0 rfl rfl)
theorem dJ12_copyOf_2_1 : decode cJ12_copyOf_2 1 = .ok (.ldc 110, 2) := dk_18 110 (dk_at dksJ12_copyOf_2_0 1 rfl rfl)
theorem dJ12_copyOf_2_3 : decode cJ12_copyOf_2 3 = .ok (.if_acmp .ne 10, 3) := dk_166 0 10 (dk_at dksJ12_copyOf_2_0 3 rfl rfl)
theorem dJ12_copyOf_2_6 : decode cJ12_copyOf_2 6 = .ok (.iload_n 1, 1) := dk_27 (dk_at dksJ12_copyOf_2_0 6 rfl rfl)
theorem dJ12_copyOf_2_7 : decode cJ12_copyOf_2 7 = .ok (.anewarray 2, 3) := dk_189 0 2 (dk_at dksJ12_copyOf_2_0 7 rfl rfl)
theorem dJ12_copyOf_2_10 : decode cJ12_copyOf_2 10 = .ok (.goto 14, 3) := dk_167 0 14 (dk_at dksJ12_copyOf_2_0 10 rfl rfl)
theorem dJ12_copyOf_2_13 : decode cJ12_copyOf_2 13 = .ok (.aload_n 2, 1) := dk_44 (dk_at dksJ12_copyOf_2_0 13 rfl rfl)
theorem dJ12_copyOf_2_14 : decode cJ12_copyOf_2 14 = .ok (.invokevirtual 90, 3) := dk_182 0 90 (dk_at dksJ12_copyOf_2_0 14 rfl rfl)
theorem dJ12_copyOf_2_17 : decode cJ12_copyOf_2 17 = .ok (.iload_n 1, 1) := dk_27 (dk_at dksJ12_copyOf_2_0 17 rfl rfl)
theorem dJ12_copyOf_2_18 : decode cJ12_copyOf_2 18 = .ok (.invokestatic 95, 3) := dk_184 0 95 (dk_at dksJ12_copyOf_2_0 18 rfl rfl)
theorem dJ12_copyOf_2_21 : decode cJ12_copyOf_2 21 = .ok (.checkcast 110, 3) := dk_192 0 110 (dk_at dksJ12_copyOf_2_0 21 rfl rfl)
theorem dJ12_copyOf_2_24 : decode cJ12_copyOf_2 24 = .ok (.astore_n 3, 1) := dk_78 (dk_at dksJ12_copyOf_2_1 0 rfl rfl)
theorem dJ12_copyOf_2_25 : decode cJ12_copyOf_2 25 = .ok (.aload_n 0, 1) := dk_42 (dk_at dksJ12_copyOf_2_1 1 rfl rfl)
theorem dJ12_copyOf_2_26 : decode cJ12_copyOf_2 26 = .ok (.iconst 0, 1) := dk_3 (dk_at dksJ12_copyOf_2_1 2 rfl rfl)
theorem dJ12_copyOf_2_27 : decode cJ12_copyOf_2 27 = .ok (.aload_n 3, 1) := dk_45 (dk_at dksJ12_copyOf_2_1 3 rfl rfl)
theorem dJ12_copyOf_2_28 : decode cJ12_copyOf_2 28 = .ok (.iconst 0, 1) := dk_3 (dk_at dksJ12_copyOf_2_1 4 rfl rfl)
theorem dJ12_copyOf_2_29 : decode cJ12_copyOf_2 29 = .ok (.aload_n 0, 1) := dk_42 (dk_at dksJ12_copyOf_2_1 5 rfl rfl)
theorem dJ12_copyOf_2_30 : decode cJ12_copyOf_2 30 = .ok (.arraylength, 1) := dk_190 (dk_at dksJ12_copyOf_2_1 6 rfl rfl)
theorem dJ12_copyOf_2_31 : decode cJ12_copyOf_2 31 = .ok (.iload_n 1, 1) := dk_27 (dk_at dksJ12_copyOf_2_1 7 rfl rfl)
theorem dJ12_copyOf_2_32 : decode cJ12_copyOf_2 32 = .ok (.invokestatic 304, 3) := dk_184 1 48 (dk_at dksJ12_copyOf_2_1 8 rfl rfl)
theorem dJ12_copyOf_2_35 : decode cJ12_copyOf_2 35 = .ok (.invokestatic 150, 3) := dk_184 0 150 (dk_at dksJ12_copyOf_2_1 11 rfl rfl)
theorem dJ12_copyOf_2_38 : decode cJ12_copyOf_2 38 = .ok (.aload_n 3, 1) := dk_45 (dk_at dksJ12_copyOf_2_1 14 rfl rfl)
theorem dJ12_copyOf_2_39 : decode cJ12_copyOf_2 39 = .ok (.areturn, 1) := dk_176 (dk_at dksJ12_copyOf_2_1 15 rfl rfl)
theorem q141 : (Jvm.Cond.initialized "java/util/Arrays") ∈ lw_all := lw_g (lw_at lw_m1 23 rfl) rfl
theorem q815 : (Jvm.Cond.static ({ cls := "java/util/Arrays", name := "copyOf", desc := "([Ljava/lang/Object;I)[Ljava/lang/Object;" } : Jvm.MethodName)) ∈ lw_all := lw_g (lw_at lw_m3 217 rfl) rfl
theorem q816 : (Jvm.Cond.code ({ cls := "java/util/Arrays", name := "copyOf", desc := "([Ljava/lang/Object;I)[Ljava/lang/Object;" } : Jvm.MethodName) prog_34_method_119_code (2 : Nat) (Option.some (Jvm.ClassFile.FieldType.array (Jvm.ClassFile.FieldType.object "java/lang/Object")))) ∈ lw_all := lw_g (lw_at lw_m3 218 rfl) rfl
theorem q817 : (Jvm.Cond.methodLink "java/util/Arrays" (86 : Nat) ({ cls := "java/lang/Object", name := "getClass", desc := "()Ljava/lang/Class;" } : Jvm.MethodName)) ∈ lw_all := lw_g (lw_at lw_m3 219 rfl) rfl
theorem q834 : (Jvm.Cond.methodLink "java/util/Arrays" (300 : Nat) ({ cls := "java/util/Arrays", name := "copyOf", desc := "([Ljava/lang/Object;ILjava/lang/Class;)[Ljava/lang/Object;" } : Jvm.MethodName)) ∈ lw_all := lw_g (lw_at lw_m3 236 rfl) rfl
theorem q835 : (Jvm.Cond.static ({ cls := "java/util/Arrays", name := "copyOf", desc := "([Ljava/lang/Object;ILjava/lang/Class;)[Ljava/lang/Object;" } : Jvm.MethodName)) ∈ lw_all := lw_g (lw_at lw_m3 237 rfl) rfl
theorem q836 : (Jvm.Cond.code ({ cls := "java/util/Arrays", name := "copyOf", desc := "([Ljava/lang/Object;ILjava/lang/Class;)[Ljava/lang/Object;" } : Jvm.MethodName) prog_34_method_120_code (4 : Nat) (Option.some (Jvm.ClassFile.FieldType.array (Jvm.ClassFile.FieldType.object "java/lang/Object")))) ∈ lw_all := lw_g (lw_at lw_m3 238 rfl) rfl
theorem q837 : (Jvm.Cond.classLink "java/util/Arrays" (110 : Nat) "[Ljava/lang/Object;") ∈ lw_all := lw_g (lw_at lw_m3 239 rfl) rfl
theorem q839 : (Jvm.Cond.classLink "java/util/Arrays" (2 : Nat) "java/lang/Object") ∈ lw_all := lw_g (lw_at lw_m4 1 rfl) rfl
theorem q840 : (Jvm.Cond.methodLink "java/util/Arrays" (304 : Nat) ({ cls := "java/lang/Math", name := "min", desc := "(II)I" } : Jvm.MethodName)) ∈ lw_all := lw_g (lw_at lw_m4 2 rfl) rfl
theorem q841 : (Jvm.Cond.methodLink "java/util/Arrays" (150 : Nat) ({ cls := "java/lang/System", name := "arraycopy", desc := "(Ljava/lang/Object;ILjava/lang/Object;II)V" } : Jvm.MethodName)) ∈ lw_all := lw_g (lw_at lw_m4 3 rfl) rfl

/-! java/util/Objects -/
set_option maxRecDepth 100000
def RJ13 : String := "java/util/Objects"
abbrev cJ13_checkIndex : ByteArray := prog_37_method_17_code
def yJ13_checkIndex : MethodName := ⟨RJ13, "checkIndex", "(II)I"⟩
def dkwJ13_checkIndex_0 : List UInt8 := [26, 27, 1, 184, 0, 105, 172]
abbrev dktJ13_checkIndex_0 : List UInt8 := dkwJ13_checkIndex_0 ++ []
theorem dksJ13_checkIndex_0 : cJ13_checkIndex.data.toList.drop 0 = dktJ13_checkIndex_0 := by decide +kernel
theorem dJ13_checkIndex_0 : decode cJ13_checkIndex 0 = .ok (.iload_n 0, 1) := dk_26 (dk_at dksJ13_checkIndex_0 0 rfl rfl)
theorem dJ13_checkIndex_1 : decode cJ13_checkIndex 1 = .ok (.iload_n 1, 1) := dk_27 (dk_at dksJ13_checkIndex_0 1 rfl rfl)
theorem dJ13_checkIndex_2 : decode cJ13_checkIndex 2 = .ok (.aconst_null, 1) := dk_1 (dk_at dksJ13_checkIndex_0 2 rfl rfl)
theorem dJ13_checkIndex_3 : decode cJ13_checkIndex 3 = .ok (.invokestatic 105, 3) := dk_184 0 105 (dk_at dksJ13_checkIndex_0 3 rfl rfl)
theorem dJ13_checkIndex_6 : decode cJ13_checkIndex 6 = .ok (.ireturn, 1) := dk_172 (dk_at dksJ13_checkIndex_0 6 rfl rfl)
theorem q145 : (Jvm.Cond.initialized "java/util/Objects") ∈ lw_all := lw_g (lw_at lw_m1 27 rfl) rfl
theorem q906 : (Jvm.Cond.static ({ cls := "java/util/Objects", name := "checkIndex", desc := "(II)I" } : Jvm.MethodName)) ∈ lw_all := lw_g (lw_at lw_m4 68 rfl) rfl
theorem q907 : (Jvm.Cond.code ({ cls := "java/util/Objects", name := "checkIndex", desc := "(II)I" } : Jvm.MethodName) prog_37_method_17_code (2 : Nat) (Option.some Jvm.ClassFile.FieldType.int)) ∈ lw_all := lw_g (lw_at lw_m4 69 rfl) rfl
theorem q908 : (Jvm.Cond.methodLink "java/util/Objects" (105 : Nat) ({ cls := "jdk/internal/util/Preconditions", name := "checkIndex", desc := "(IILjava/util/function/BiFunction;)I" } : Jvm.MethodName)) ∈ lw_all := lw_g (lw_at lw_m4 70 rfl) rfl

/-! java/lang/Integer -/
set_option maxRecDepth 100000
def RJ14 : String := "java/lang/Integer"
abbrev cJ14_bitCount : ByteArray := prog_20_method_49_code
def yJ14_bitCount : MethodName := ⟨RJ14, "bitCount", "(I)I"⟩
def dkwJ14_bitCount_2 : List UInt8 := [26, 16, 63, 126, 172]
abbrev dktJ14_bitCount_2 : List UInt8 := dkwJ14_bitCount_2 ++ []
def dkwJ14_bitCount_1 : List UInt8 := [26, 26, 7, 124, 96, 19, 1, 11, 126, 59, 26, 26, 16, 8, 124, 96, 59, 26, 26, 16, 16, 124, 96, 59]
abbrev dktJ14_bitCount_1 : List UInt8 := dkwJ14_bitCount_1 ++ dktJ14_bitCount_2
def dkwJ14_bitCount_0 : List UInt8 := [26, 26, 4, 124, 19, 1, 9, 126, 100, 59, 26, 19, 1, 10, 126, 26, 5, 124, 19, 1, 10, 126, 96, 59]
abbrev dktJ14_bitCount_0 : List UInt8 := dkwJ14_bitCount_0 ++ dktJ14_bitCount_1
theorem dksJ14_bitCount_0 : cJ14_bitCount.data.toList.drop 0 = dktJ14_bitCount_0 := by decide +kernel
theorem dksJ14_bitCount_1 : cJ14_bitCount.data.toList.drop 24 = dktJ14_bitCount_1 := dk_seg dksJ14_bitCount_0 24 rfl rfl
theorem dksJ14_bitCount_2 : cJ14_bitCount.data.toList.drop 48 = dktJ14_bitCount_2 := dk_seg dksJ14_bitCount_1 24 rfl rfl
theorem dJ14_bitCount_0 : decode cJ14_bitCount 0 = .ok (.iload_n 0, 1) := dk_26 (dk_at dksJ14_bitCount_0 0 rfl rfl)
theorem dJ14_bitCount_1 : decode cJ14_bitCount 1 = .ok (.iload_n 0, 1) := dk_26 (dk_at dksJ14_bitCount_0 1 rfl rfl)
theorem dJ14_bitCount_2 : decode cJ14_bitCount 2 = .ok (.iconst 1, 1) := dk_4 (dk_at dksJ14_bitCount_0 2 rfl rfl)
theorem dJ14_bitCount_3 : decode cJ14_bitCount 3 = .ok (.iushr, 1) := dk_124 (dk_at dksJ14_bitCount_0 3 rfl rfl)
theorem dJ14_bitCount_4 : decode cJ14_bitCount 4 = .ok (.ldc_w 265, 3) := dk_19 1 9 (dk_at dksJ14_bitCount_0 4 rfl rfl)
theorem dJ14_bitCount_7 : decode cJ14_bitCount 7 = .ok (.iand, 1) := dk_126 (dk_at dksJ14_bitCount_0 7 rfl rfl)
theorem dJ14_bitCount_8 : decode cJ14_bitCount 8 = .ok (.isub, 1) := dk_100 (dk_at dksJ14_bitCount_0 8 rfl rfl)
theorem dJ14_bitCount_9 : decode cJ14_bitCount 9 = .ok (.istore_n 0, 1) := dk_59 (dk_at dksJ14_bitCount_0 9 rfl rfl)
theorem dJ14_bitCount_10 : decode cJ14_bitCount 10 = .ok (.iload_n 0, 1) := dk_26 (dk_at dksJ14_bitCount_0 10 rfl rfl)
theorem dJ14_bitCount_11 : decode cJ14_bitCount 11 = .ok (.ldc_w 266, 3) := dk_19 1 10 (dk_at dksJ14_bitCount_0 11 rfl rfl)
theorem dJ14_bitCount_14 : decode cJ14_bitCount 14 = .ok (.iand, 1) := dk_126 (dk_at dksJ14_bitCount_0 14 rfl rfl)
theorem dJ14_bitCount_15 : decode cJ14_bitCount 15 = .ok (.iload_n 0, 1) := dk_26 (dk_at dksJ14_bitCount_0 15 rfl rfl)
theorem dJ14_bitCount_16 : decode cJ14_bitCount 16 = .ok (.iconst 2, 1) := dk_5 (dk_at dksJ14_bitCount_0 16 rfl rfl)
theorem dJ14_bitCount_17 : decode cJ14_bitCount 17 = .ok (.iushr, 1) := dk_124 (dk_at dksJ14_bitCount_0 17 rfl rfl)
theorem dJ14_bitCount_18 : decode cJ14_bitCount 18 = .ok (.ldc_w 266, 3) := dk_19 1 10 (dk_at dksJ14_bitCount_0 18 rfl rfl)
theorem dJ14_bitCount_21 : decode cJ14_bitCount 21 = .ok (.iand, 1) := dk_126 (dk_at dksJ14_bitCount_0 21 rfl rfl)
theorem dJ14_bitCount_22 : decode cJ14_bitCount 22 = .ok (.iadd, 1) := dk_96 (dk_at dksJ14_bitCount_0 22 rfl rfl)
theorem dJ14_bitCount_23 : decode cJ14_bitCount 23 = .ok (.istore_n 0, 1) := dk_59 (dk_at dksJ14_bitCount_0 23 rfl rfl)
theorem dJ14_bitCount_24 : decode cJ14_bitCount 24 = .ok (.iload_n 0, 1) := dk_26 (dk_at dksJ14_bitCount_1 0 rfl rfl)
theorem dJ14_bitCount_25 : decode cJ14_bitCount 25 = .ok (.iload_n 0, 1) := dk_26 (dk_at dksJ14_bitCount_1 1 rfl rfl)
theorem dJ14_bitCount_26 : decode cJ14_bitCount 26 = .ok (.iconst 4, 1) := dk_7 (dk_at dksJ14_bitCount_1 2 rfl rfl)
theorem dJ14_bitCount_27 : decode cJ14_bitCount 27 = .ok (.iushr, 1) := dk_124 (dk_at dksJ14_bitCount_1 3 rfl rfl)
theorem dJ14_bitCount_28 : decode cJ14_bitCount 28 = .ok (.iadd, 1) := dk_96 (dk_at dksJ14_bitCount_1 4 rfl rfl)
theorem dJ14_bitCount_29 : decode cJ14_bitCount 29 = .ok (.ldc_w 267, 3) := dk_19 1 11 (dk_at dksJ14_bitCount_1 5 rfl rfl)
theorem dJ14_bitCount_32 : decode cJ14_bitCount 32 = .ok (.iand, 1) := dk_126 (dk_at dksJ14_bitCount_1 8 rfl rfl)
theorem dJ14_bitCount_33 : decode cJ14_bitCount 33 = .ok (.istore_n 0, 1) := dk_59 (dk_at dksJ14_bitCount_1 9 rfl rfl)
theorem dJ14_bitCount_34 : decode cJ14_bitCount 34 = .ok (.iload_n 0, 1) := dk_26 (dk_at dksJ14_bitCount_1 10 rfl rfl)
theorem dJ14_bitCount_35 : decode cJ14_bitCount 35 = .ok (.iload_n 0, 1) := dk_26 (dk_at dksJ14_bitCount_1 11 rfl rfl)
theorem dJ14_bitCount_36 : decode cJ14_bitCount 36 = .ok (.bipush 8, 2) := dk_16 8 (dk_at dksJ14_bitCount_1 12 rfl rfl)
theorem dJ14_bitCount_38 : decode cJ14_bitCount 38 = .ok (.iushr, 1) := dk_124 (dk_at dksJ14_bitCount_1 14 rfl rfl)
theorem dJ14_bitCount_39 : decode cJ14_bitCount 39 = .ok (.iadd, 1) := dk_96 (dk_at dksJ14_bitCount_1 15 rfl rfl)
theorem dJ14_bitCount_40 : decode cJ14_bitCount 40 = .ok (.istore_n 0, 1) := dk_59 (dk_at dksJ14_bitCount_1 16 rfl rfl)
theorem dJ14_bitCount_41 : decode cJ14_bitCount 41 = .ok (.iload_n 0, 1) := dk_26 (dk_at dksJ14_bitCount_1 17 rfl rfl)
theorem dJ14_bitCount_42 : decode cJ14_bitCount 42 = .ok (.iload_n 0, 1) := dk_26 (dk_at dksJ14_bitCount_1 18 rfl rfl)
theorem dJ14_bitCount_43 : decode cJ14_bitCount 43 = .ok (.bipush 16, 2) := dk_16 16 (dk_at dksJ14_bitCount_1 19 rfl rfl)
theorem dJ14_bitCount_45 : decode cJ14_bitCount 45 = .ok (.iushr, 1) := dk_124 (dk_at dksJ14_bitCount_1 21 rfl rfl)
theorem dJ14_bitCount_46 : decode cJ14_bitCount 46 = .ok (.iadd, 1) := dk_96 (dk_at dksJ14_bitCount_1 22 rfl rfl)
theorem dJ14_bitCount_47 : decode cJ14_bitCount 47 = .ok (.istore_n 0, 1) := dk_59 (dk_at dksJ14_bitCount_1 23 rfl rfl)
theorem dJ14_bitCount_48 : decode cJ14_bitCount 48 = .ok (.iload_n 0, 1) := dk_26 (dk_at dksJ14_bitCount_2 0 rfl rfl)
theorem dJ14_bitCount_49 : decode cJ14_bitCount 49 = .ok (.bipush 63, 2) := dk_16 63 (dk_at dksJ14_bitCount_2 1 rfl rfl)
theorem dJ14_bitCount_51 : decode cJ14_bitCount 51 = .ok (.iand, 1) := dk_126 (dk_at dksJ14_bitCount_2 3 rfl rfl)
theorem dJ14_bitCount_52 : decode cJ14_bitCount 52 = .ok (.ireturn, 1) := dk_172 (dk_at dksJ14_bitCount_2 4 rfl rfl)
theorem q147 : (Jvm.Cond.initialized "java/lang/Integer") ∈ lw_all := lw_g (lw_at lw_m1 29 rfl) rfl
theorem q1223 : (Jvm.Cond.static ({ cls := "java/lang/Integer", name := "bitCount", desc := "(I)I" } : Jvm.MethodName)) ∈ lw_all := lw_g (lw_at lw_m5 145 rfl) rfl
theorem q1224 : (Jvm.Cond.code ({ cls := "java/lang/Integer", name := "bitCount", desc := "(I)I" } : Jvm.MethodName) prog_20_method_49_code (1 : Nat) (Option.some Jvm.ClassFile.FieldType.int)) ∈ lw_all := lw_g (lw_at lw_m5 146 rfl) rfl
theorem q1225 : (Jvm.Cond.constant "java/lang/Integer" (265 : Nat) (1431655765 : Int32)) ∈ lw_all := lw_g (lw_at lw_m5 147 rfl) rfl
theorem q1226 : (Jvm.Cond.constant "java/lang/Integer" (266 : Nat) (858993459 : Int32)) ∈ lw_all := lw_g (lw_at lw_m5 148 rfl) rfl
theorem q1227 : (Jvm.Cond.constant "java/lang/Integer" (267 : Nat) (252645135 : Int32)) ∈ lw_all := lw_g (lw_at lw_m5 149 rfl) rfl

/-! java/lang/Object -/
set_option maxRecDepth 100000
def RJ15 : String := "java/lang/Object"
abbrev cJ15_init : ByteArray := object_method_1_code
def yJ15_init : MethodName := ⟨RJ15, "<init>", "()V"⟩
theorem dJ15_init_0 : decode cJ15_init 0 = .ok (.return_, 1) := by decide +kernel
theorem q275 : (Jvm.Cond.instanceMethod ({ cls := "java/lang/Object", name := "<init>", desc := "()V" } : Jvm.MethodName)) ∈ lw_all := lw_g (lw_at lw_m1 157 rfl) rfl
theorem q276 : (Jvm.Cond.code ({ cls := "java/lang/Object", name := "<init>", desc := "()V" } : Jvm.MethodName) object_method_1_code (1 : Nat) (Option.none : Option Jvm.ClassFile.FieldType)) ∈ lw_all := lw_g (lw_at lw_m1 158 rfl) rfl
theorem q818 : (Jvm.Cond.instanceMethod ({ cls := "java/lang/Object", name := "getClass", desc := "()Ljava/lang/Class;" } : Jvm.MethodName)) ∈ lw_all := lw_g (lw_at lw_m3 220 rfl) rfl
theorem q819 : (Jvm.Cond.sameMethod "java/lang/Object" "java/lang/Object" "getClass" "()Ljava/lang/Class;") ∈ lw_all := lw_g (lw_at lw_m3 221 rfl) rfl
theorem q833 : (Jvm.Cond.native ({ cls := "java/lang/Object", name := "getClass", desc := "()Ljava/lang/Class;" } : Jvm.MethodName)) ∈ lw_all := lw_g (lw_at lw_m3 235 rfl) rfl
theorem q1978 : (Jvm.Cond.declares ({ cls := "java/lang/Object", name := "getClass", desc := "()Ljava/lang/Class;" } : Jvm.MethodName)) ∈ lw_tbl := lw_at lw_m8 180 rfl

/-! java/util/ArrayList -/
set_option maxRecDepth 100000
def RJ2 : String := "java/util/ArrayList"
def TJ2 : u_T := fun k => match k with
  | 0 => ("java/util/AbstractList", "modCount", "I", false)
  | 1 => ("java/util/ArrayList", "elementData", "[Ljava/lang/Object;", false)
  | _ => ("java/util/ArrayList", "size", "I", false)
def tyJ2 : Nat → FieldType := fun k => match k with
  | 0 => .int
  | 1 => .array (.object "java/lang/Object")
  | _ => .int
abbrev wsJ20 : List Cond := u_ws RJ2 TJ2 3
theorem nmJ2 : ∀ a, a < 3 → ∀ b, b < 3 → a ≠ b → (TJ2 a).2.1 ≠ (TJ2 b).2.1 := by decide +kernel
theorem tyJ2_ok : ∀ k, k < 3 → parseFieldDescriptor (TJ2 k).2.2.1 = some (tyJ2 k) := by decide +kernel
abbrev cJ2_init : ByteArray := prog_33_method_2_code
def yJ2_init : MethodName := ⟨RJ2, "<init>", "()V"⟩
def dkwJ2_init_0 : List UInt8 := [42, 183, 0, 1, 42, 178, 0, 39, 181, 0, 9, 177]
abbrev dktJ2_init_0 : List UInt8 := dkwJ2_init_0 ++ []
theorem dksJ2_init_0 : cJ2_init.data.toList.drop 0 = dktJ2_init_0 := by decide +kernel
theorem dJ2_init_0 : decode cJ2_init 0 = .ok (.aload_n 0, 1) := dk_42 (dk_at dksJ2_init_0 0 rfl rfl)
theorem dJ2_init_1 : decode cJ2_init 1 = .ok (.invokespecial 1, 3) := dk_183 0 1 (dk_at dksJ2_init_0 1 rfl rfl)
theorem dJ2_init_4 : decode cJ2_init 4 = .ok (.aload_n 0, 1) := dk_42 (dk_at dksJ2_init_0 4 rfl rfl)
theorem dJ2_init_5 : decode cJ2_init 5 = .ok (.getstatic 39, 3) := dk_178 0 39 (dk_at dksJ2_init_0 5 rfl rfl)
theorem dJ2_init_8 : decode cJ2_init 8 = .ok (.putfield 9, 3) := dk_181 0 9 (dk_at dksJ2_init_0 8 rfl rfl)
theorem dJ2_init_11 : decode cJ2_init 11 = .ok (.return_, 1) := dk_177 (dk_at dksJ2_init_0 11 rfl rfl)
abbrev cJ2_size : ByteArray := prog_33_method_8_code
def yJ2_size : MethodName := ⟨RJ2, "size", "()I"⟩
theorem dJ2_size_0 : decode cJ2_size 0 = .ok (.aload_n 0, 1) := by decide +kernel
theorem dJ2_size_1 : decode cJ2_size 1 = .ok (.getfield 48, 3) := by decide +kernel
theorem dJ2_size_4 : decode cJ2_size 4 = .ok (.ireturn, 1) := by decide +kernel
abbrev cJ2_add : ByteArray := prog_33_method_25_code
def yJ2_add : MethodName := ⟨RJ2, "add", "(Ljava/lang/Object;)Z"⟩
def dkwJ2_add_1 : List UInt8 := [172]
abbrev dktJ2_add_1 : List UInt8 := dkwJ2_add_1 ++ []
def dkwJ2_add_0 : List UInt8 := [42, 89, 180, 0, 63, 4, 96, 181, 0, 63, 42, 43, 42, 180, 0, 9, 42, 180, 0, 48, 182, 0, 131, 4]
abbrev dktJ2_add_0 : List UInt8 := dkwJ2_add_0 ++ dktJ2_add_1
theorem dksJ2_add_0 : cJ2_add.data.toList.drop 0 = dktJ2_add_0 := by decide +kernel
theorem dksJ2_add_1 : cJ2_add.data.toList.drop 24 = dktJ2_add_1 := dk_seg dksJ2_add_0 24 rfl rfl
theorem dJ2_add_0 : decode cJ2_add 0 = .ok (.aload_n 0, 1) := dk_42 (dk_at dksJ2_add_0 0 rfl rfl)
theorem dJ2_add_1 : decode cJ2_add 1 = .ok (.dup, 1) := dk_89 (dk_at dksJ2_add_0 1 rfl rfl)
theorem dJ2_add_2 : decode cJ2_add 2 = .ok (.getfield 63, 3) := dk_180 0 63 (dk_at dksJ2_add_0 2 rfl rfl)
theorem dJ2_add_5 : decode cJ2_add 5 = .ok (.iconst 1, 1) := dk_4 (dk_at dksJ2_add_0 5 rfl rfl)
theorem dJ2_add_6 : decode cJ2_add 6 = .ok (.iadd, 1) := dk_96 (dk_at dksJ2_add_0 6 rfl rfl)
theorem dJ2_add_7 : decode cJ2_add 7 = .ok (.putfield 63, 3) := dk_181 0 63 (dk_at dksJ2_add_0 7 rfl rfl)
theorem dJ2_add_10 : decode cJ2_add 10 = .ok (.aload_n 0, 1) := dk_42 (dk_at dksJ2_add_0 10 rfl rfl)
theorem dJ2_add_11 : decode cJ2_add 11 = .ok (.aload_n 1, 1) := dk_43 (dk_at dksJ2_add_0 11 rfl rfl)
theorem dJ2_add_12 : decode cJ2_add 12 = .ok (.aload_n 0, 1) := dk_42 (dk_at dksJ2_add_0 12 rfl rfl)
theorem dJ2_add_13 : decode cJ2_add 13 = .ok (.getfield 9, 3) := dk_180 0 9 (dk_at dksJ2_add_0 13 rfl rfl)
theorem dJ2_add_16 : decode cJ2_add 16 = .ok (.aload_n 0, 1) := dk_42 (dk_at dksJ2_add_0 16 rfl rfl)
theorem dJ2_add_17 : decode cJ2_add 17 = .ok (.getfield 48, 3) := dk_180 0 48 (dk_at dksJ2_add_0 17 rfl rfl)
theorem dJ2_add_20 : decode cJ2_add 20 = .ok (.invokevirtual 131, 3) := dk_182 0 131 (dk_at dksJ2_add_0 20 rfl rfl)
theorem dJ2_add_23 : decode cJ2_add 23 = .ok (.iconst 1, 1) := dk_4 (dk_at dksJ2_add_0 23 rfl rfl)
theorem dJ2_add_24 : decode cJ2_add 24 = .ok (.ireturn, 1) := dk_172 (dk_at dksJ2_add_1 0 rfl rfl)
abbrev cJ2_add_2 : ByteArray := prog_33_method_24_code
def yJ2_add_2 : MethodName := ⟨RJ2, "add", "(Ljava/lang/Object;[Ljava/lang/Object;I)V"⟩
def dkwJ2_add_2_0 : List UInt8 := [29, 44, 190, 160, 0, 8, 42, 182, 0, 129, 77, 44, 29, 43, 83, 42, 29, 4, 96, 181, 0, 48, 177]
abbrev dktJ2_add_2_0 : List UInt8 := dkwJ2_add_2_0 ++ []
theorem dksJ2_add_2_0 : cJ2_add_2.data.toList.drop 0 = dktJ2_add_2_0 := by decide +kernel
theorem dJ2_add_2_0 : decode cJ2_add_2 0 = .ok (.iload_n 3, 1) := dk_29 (dk_at dksJ2_add_2_0 0 rfl rfl)
theorem dJ2_add_2_1 : decode cJ2_add_2 1 = .ok (.aload_n 2, 1) := dk_44 (dk_at dksJ2_add_2_0 1 rfl rfl)
theorem dJ2_add_2_2 : decode cJ2_add_2 2 = .ok (.arraylength, 1) := dk_190 (dk_at dksJ2_add_2_0 2 rfl rfl)
theorem dJ2_add_2_3 : decode cJ2_add_2 3 = .ok (.if_icmp .ne 8, 3) := dk_160 0 8 (dk_at dksJ2_add_2_0 3 rfl rfl)
theorem dJ2_add_2_6 : decode cJ2_add_2 6 = .ok (.aload_n 0, 1) := dk_42 (dk_at dksJ2_add_2_0 6 rfl rfl)
theorem dJ2_add_2_7 : decode cJ2_add_2 7 = .ok (.invokevirtual 129, 3) := dk_182 0 129 (dk_at dksJ2_add_2_0 7 rfl rfl)
theorem dJ2_add_2_10 : decode cJ2_add_2 10 = .ok (.astore_n 2, 1) := dk_77 (dk_at dksJ2_add_2_0 10 rfl rfl)
theorem dJ2_add_2_11 : decode cJ2_add_2 11 = .ok (.aload_n 2, 1) := dk_44 (dk_at dksJ2_add_2_0 11 rfl rfl)
theorem dJ2_add_2_12 : decode cJ2_add_2 12 = .ok (.iload_n 3, 1) := dk_29 (dk_at dksJ2_add_2_0 12 rfl rfl)
theorem dJ2_add_2_13 : decode cJ2_add_2 13 = .ok (.aload_n 1, 1) := dk_43 (dk_at dksJ2_add_2_0 13 rfl rfl)
theorem dJ2_add_2_14 : decode cJ2_add_2 14 = .ok (.aastore, 1) := dk_83 (dk_at dksJ2_add_2_0 14 rfl rfl)
theorem dJ2_add_2_15 : decode cJ2_add_2 15 = .ok (.aload_n 0, 1) := dk_42 (dk_at dksJ2_add_2_0 15 rfl rfl)
theorem dJ2_add_2_16 : decode cJ2_add_2 16 = .ok (.iload_n 3, 1) := dk_29 (dk_at dksJ2_add_2_0 16 rfl rfl)
theorem dJ2_add_2_17 : decode cJ2_add_2 17 = .ok (.iconst 1, 1) := dk_4 (dk_at dksJ2_add_2_0 17 rfl rfl)
theorem dJ2_add_2_18 : decode cJ2_add_2 18 = .ok (.iadd, 1) := dk_96 (dk_at dksJ2_add_2_0 18 rfl rfl)
theorem dJ2_add_2_19 : decode cJ2_add_2 19 = .ok (.putfield 48, 3) := dk_181 0 48 (dk_at dksJ2_add_2_0 19 rfl rfl)
theorem dJ2_add_2_22 : decode cJ2_add_2 22 = .ok (.return_, 1) := dk_177 (dk_at dksJ2_add_2_0 22 rfl rfl)
abbrev cJ2_grow : ByteArray := prog_33_method_7_code
def yJ2_grow : MethodName := ⟨RJ2, "grow", "()[Ljava/lang/Object;"⟩
def dkwJ2_grow_0 : List UInt8 := [42, 42, 180, 0, 48, 4, 96, 182, 0, 69, 176]
abbrev dktJ2_grow_0 : List UInt8 := dkwJ2_grow_0 ++ []
theorem dksJ2_grow_0 : cJ2_grow.data.toList.drop 0 = dktJ2_grow_0 := by decide +kernel
theorem dJ2_grow_0 : decode cJ2_grow 0 = .ok (.aload_n 0, 1) := dk_42 (dk_at dksJ2_grow_0 0 rfl rfl)
theorem dJ2_grow_1 : decode cJ2_grow 1 = .ok (.aload_n 0, 1) := dk_42 (dk_at dksJ2_grow_0 1 rfl rfl)
theorem dJ2_grow_2 : decode cJ2_grow 2 = .ok (.getfield 48, 3) := dk_180 0 48 (dk_at dksJ2_grow_0 2 rfl rfl)
theorem dJ2_grow_5 : decode cJ2_grow 5 = .ok (.iconst 1, 1) := dk_4 (dk_at dksJ2_grow_0 5 rfl rfl)
theorem dJ2_grow_6 : decode cJ2_grow 6 = .ok (.iadd, 1) := dk_96 (dk_at dksJ2_grow_0 6 rfl rfl)
theorem dJ2_grow_7 : decode cJ2_grow 7 = .ok (.invokevirtual 69, 3) := dk_182 0 69 (dk_at dksJ2_grow_0 7 rfl rfl)
theorem dJ2_grow_10 : decode cJ2_grow 10 = .ok (.areturn, 1) := dk_176 (dk_at dksJ2_grow_0 10 rfl rfl)
abbrev cJ2_grow_2 : ByteArray := prog_33_method_6_code
def yJ2_grow_2 : MethodName := ⟨RJ2, "grow", "(I)[Ljava/lang/Object;"⟩
def dkwJ2_grow_2_2 : List UInt8 := [27, 184, 0, 79, 189, 0, 7, 90, 181, 0, 9, 176]
abbrev dktJ2_grow_2_2 : List UInt8 := dkwJ2_grow_2_2 ++ []
def dkwJ2_grow_2_1 : List UInt8 := [28, 4, 122, 184, 0, 73, 62, 42, 42, 180, 0, 9, 29, 184, 0, 66, 90, 181, 0, 9, 176, 42, 16, 10]
abbrev dktJ2_grow_2_1 : List UInt8 := dkwJ2_grow_2_1 ++ dktJ2_grow_2_2
def dkwJ2_grow_2_0 : List UInt8 := [42, 180, 0, 9, 190, 61, 28, 157, 0, 13, 42, 180, 0, 9, 178, 0, 39, 165, 0, 28, 28, 27, 28, 100]
abbrev dktJ2_grow_2_0 : List UInt8 := dkwJ2_grow_2_0 ++ dktJ2_grow_2_1
theorem dksJ2_grow_2_0 : cJ2_grow_2.data.toList.drop 0 = dktJ2_grow_2_0 := by decide +kernel
theorem dksJ2_grow_2_1 : cJ2_grow_2.data.toList.drop 24 = dktJ2_grow_2_1 := dk_seg dksJ2_grow_2_0 24 rfl rfl
theorem dksJ2_grow_2_2 : cJ2_grow_2.data.toList.drop 48 = dktJ2_grow_2_2 := dk_seg dksJ2_grow_2_1 24 rfl rfl
theorem dJ2_grow_2_0 : decode cJ2_grow_2 0 = .ok (.aload_n 0, 1) := dk_42 (dk_at dksJ2_grow_2_0 0 rfl rfl)
theorem dJ2_grow_2_1 : decode cJ2_grow_2 1 = .ok (.getfield 9, 3) := dk_180 0 9 (dk_at dksJ2_grow_2_0 1 rfl rfl)
theorem dJ2_grow_2_4 : decode cJ2_grow_2 4 = .ok (.arraylength, 1) := dk_190 (dk_at dksJ2_grow_2_0 4 rfl rfl)
theorem dJ2_grow_2_5 : decode cJ2_grow_2 5 = .ok (.istore_n 2, 1) := dk_61 (dk_at dksJ2_grow_2_0 5 rfl rfl)
theorem dJ2_grow_2_6 : decode cJ2_grow_2 6 = .ok (.iload_n 2, 1) := dk_28 (dk_at dksJ2_grow_2_0 6 rfl rfl)
theorem dJ2_grow_2_7 : decode cJ2_grow_2 7 = .ok (.ifCond .gt 13, 3) := dk_157 0 13 (dk_at dksJ2_grow_2_0 7 rfl rfl)
theorem dJ2_grow_2_10 : decode cJ2_grow_2 10 = .ok (.aload_n 0, 1) := dk_42 (dk_at dksJ2_grow_2_0 10 rfl rfl)
theorem dJ2_grow_2_11 : decode cJ2_grow_2 11 = .ok (.getfield 9, 3) := dk_180 0 9 (dk_at dksJ2_grow_2_0 11 rfl rfl)
theorem dJ2_grow_2_14 : decode cJ2_grow_2 14 = .ok (.getstatic 39, 3) := dk_178 0 39 (dk_at dksJ2_grow_2_0 14 rfl rfl)
theorem dJ2_grow_2_17 : decode cJ2_grow_2 17 = .ok (.if_acmp .eq 28, 3) := dk_165 0 28 (dk_at dksJ2_grow_2_0 17 rfl rfl)
theorem dJ2_grow_2_20 : decode cJ2_grow_2 20 = .ok (.iload_n 2, 1) := dk_28 (dk_at dksJ2_grow_2_0 20 rfl rfl)
theorem dJ2_grow_2_21 : decode cJ2_grow_2 21 = .ok (.iload_n 1, 1) := dk_27 (dk_at dksJ2_grow_2_0 21 rfl rfl)
theorem dJ2_grow_2_22 : decode cJ2_grow_2 22 = .ok (.iload_n 2, 1) := dk_28 (dk_at dksJ2_grow_2_0 22 rfl rfl)
theorem dJ2_grow_2_23 : decode cJ2_grow_2 23 = .ok (.isub, 1) := dk_100 (dk_at dksJ2_grow_2_0 23 rfl rfl)
theorem dJ2_grow_2_24 : decode cJ2_grow_2 24 = .ok (.iload_n 2, 1) := dk_28 (dk_at dksJ2_grow_2_1 0 rfl rfl)
theorem dJ2_grow_2_25 : decode cJ2_grow_2 25 = .ok (.iconst 1, 1) := dk_4 (dk_at dksJ2_grow_2_1 1 rfl rfl)
theorem dJ2_grow_2_26 : decode cJ2_grow_2 26 = .ok (.ishr, 1) := dk_122 (dk_at dksJ2_grow_2_1 2 rfl rfl)
theorem dJ2_grow_2_27 : decode cJ2_grow_2 27 = .ok (.invokestatic 73, 3) := dk_184 0 73 (dk_at dksJ2_grow_2_1 3 rfl rfl)
theorem dJ2_grow_2_30 : decode cJ2_grow_2 30 = .ok (.istore_n 3, 1) := dk_62 (dk_at dksJ2_grow_2_1 6 rfl rfl)
theorem dJ2_grow_2_31 : decode cJ2_grow_2 31 = .ok (.aload_n 0, 1) := dk_42 (dk_at dksJ2_grow_2_1 7 rfl rfl)
theorem dJ2_grow_2_32 : decode cJ2_grow_2 32 = .ok (.aload_n 0, 1) := dk_42 (dk_at dksJ2_grow_2_1 8 rfl rfl)
theorem dJ2_grow_2_33 : decode cJ2_grow_2 33 = .ok (.getfield 9, 3) := dk_180 0 9 (dk_at dksJ2_grow_2_1 9 rfl rfl)
theorem dJ2_grow_2_36 : decode cJ2_grow_2 36 = .ok (.iload_n 3, 1) := dk_29 (dk_at dksJ2_grow_2_1 12 rfl rfl)
theorem dJ2_grow_2_37 : decode cJ2_grow_2 37 = .ok (.invokestatic 66, 3) := dk_184 0 66 (dk_at dksJ2_grow_2_1 13 rfl rfl)
theorem dJ2_grow_2_40 : decode cJ2_grow_2 40 = .ok (.dup_x1, 1) := dk_90 (dk_at dksJ2_grow_2_1 16 rfl rfl)
theorem dJ2_grow_2_41 : decode cJ2_grow_2 41 = .ok (.putfield 9, 3) := dk_181 0 9 (dk_at dksJ2_grow_2_1 17 rfl rfl)
theorem dJ2_grow_2_44 : decode cJ2_grow_2 44 = .ok (.areturn, 1) := dk_176 (dk_at dksJ2_grow_2_1 20 rfl rfl)
theorem dJ2_grow_2_45 : decode cJ2_grow_2 45 = .ok (.aload_n 0, 1) := dk_42 (dk_at dksJ2_grow_2_1 21 rfl rfl)
theorem dJ2_grow_2_46 : decode cJ2_grow_2 46 = .ok (.bipush 10, 2) := dk_16 10 (dk_at dksJ2_grow_2_1 22 rfl rfl)
theorem dJ2_grow_2_48 : decode cJ2_grow_2 48 = .ok (.iload_n 1, 1) := dk_27 (dk_at dksJ2_grow_2_2 0 rfl rfl)
theorem dJ2_grow_2_49 : decode cJ2_grow_2 49 = .ok (.invokestatic 79, 3) := dk_184 0 79 (dk_at dksJ2_grow_2_2 1 rfl rfl)
theorem dJ2_grow_2_52 : decode cJ2_grow_2 52 = .ok (.anewarray 7, 3) := dk_189 0 7 (dk_at dksJ2_grow_2_2 4 rfl rfl)
theorem dJ2_grow_2_55 : decode cJ2_grow_2 55 = .ok (.dup_x1, 1) := dk_90 (dk_at dksJ2_grow_2_2 7 rfl rfl)
theorem dJ2_grow_2_56 : decode cJ2_grow_2 56 = .ok (.putfield 9, 3) := dk_181 0 9 (dk_at dksJ2_grow_2_2 8 rfl rfl)
theorem dJ2_grow_2_59 : decode cJ2_grow_2 59 = .ok (.areturn, 1) := dk_176 (dk_at dksJ2_grow_2_2 11 rfl rfl)
abbrev cJ2_get : ByteArray := prog_33_method_20_code
def yJ2_get : MethodName := ⟨RJ2, "get", "(I)Ljava/lang/Object;"⟩
def dkwJ2_get_0 : List UInt8 := [27, 42, 180, 0, 48, 184, 0, 118, 87, 42, 27, 182, 0, 123, 176]
abbrev dktJ2_get_0 : List UInt8 := dkwJ2_get_0 ++ []
theorem dksJ2_get_0 : cJ2_get.data.toList.drop 0 = dktJ2_get_0 := by decide +kernel
theorem dJ2_get_0 : decode cJ2_get 0 = .ok (.iload_n 1, 1) := dk_27 (dk_at dksJ2_get_0 0 rfl rfl)
theorem dJ2_get_1 : decode cJ2_get 1 = .ok (.aload_n 0, 1) := dk_42 (dk_at dksJ2_get_0 1 rfl rfl)
theorem dJ2_get_2 : decode cJ2_get 2 = .ok (.getfield 48, 3) := dk_180 0 48 (dk_at dksJ2_get_0 2 rfl rfl)
theorem dJ2_get_5 : decode cJ2_get 5 = .ok (.invokestatic 118, 3) := dk_184 0 118 (dk_at dksJ2_get_0 5 rfl rfl)
theorem dJ2_get_8 : decode cJ2_get 8 = .ok (.pop, 1) := dk_87 (dk_at dksJ2_get_0 8 rfl rfl)
theorem dJ2_get_9 : decode cJ2_get 9 = .ok (.aload_n 0, 1) := dk_42 (dk_at dksJ2_get_0 9 rfl rfl)
theorem dJ2_get_10 : decode cJ2_get 10 = .ok (.iload_n 1, 1) := dk_27 (dk_at dksJ2_get_0 10 rfl rfl)
theorem dJ2_get_11 : decode cJ2_get 11 = .ok (.invokevirtual 123, 3) := dk_182 0 123 (dk_at dksJ2_get_0 11 rfl rfl)
theorem dJ2_get_14 : decode cJ2_get 14 = .ok (.areturn, 1) := dk_176 (dk_at dksJ2_get_0 14 rfl rfl)
abbrev cJ2_elementData : ByteArray := prog_33_method_18_code
def yJ2_elementData : MethodName := ⟨RJ2, "elementData", "(I)Ljava/lang/Object;"⟩
def dkwJ2_elementData_0 : List UInt8 := [42, 180, 0, 9, 27, 50, 176]
abbrev dktJ2_elementData_0 : List UInt8 := dkwJ2_elementData_0 ++ []
theorem dksJ2_elementData_0 : cJ2_elementData.data.toList.drop 0 = dktJ2_elementData_0 := by decide +kernel
theorem dJ2_elementData_0 : decode cJ2_elementData 0 = .ok (.aload_n 0, 1) := dk_42 (dk_at dksJ2_elementData_0 0 rfl rfl)
theorem dJ2_elementData_1 : decode cJ2_elementData 1 = .ok (.getfield 9, 3) := dk_180 0 9 (dk_at dksJ2_elementData_0 1 rfl rfl)
theorem dJ2_elementData_4 : decode cJ2_elementData 4 = .ok (.iload_n 1, 1) := dk_27 (dk_at dksJ2_elementData_0 4 rfl rfl)
theorem dJ2_elementData_5 : decode cJ2_elementData 5 = .ok (.aaload, 1) := dk_50 (dk_at dksJ2_elementData_0 5 rfl rfl)
theorem dJ2_elementData_6 : decode cJ2_elementData 6 = .ok (.areturn, 1) := dk_176 (dk_at dksJ2_elementData_0 6 rfl rfl)
abbrev cJ2_clear : ByteArray := prog_33_method_40_code
def yJ2_clear : MethodName := ⟨RJ2, "clear", "()V"⟩
def dkwJ2_clear_1 : List UInt8 := [181, 0, 48, 62, 29, 28, 162, 0, 13, 43, 29, 1, 83, 132, 3, 1, 167, 255, 244, 177]
abbrev dktJ2_clear_1 : List UInt8 := dkwJ2_clear_1 ++ []
def dkwJ2_clear_0 : List UInt8 := [42, 89, 180, 0, 63, 4, 96, 181, 0, 63, 42, 180, 0, 9, 76, 42, 180, 0, 48, 61, 42, 3, 90]
abbrev dktJ2_clear_0 : List UInt8 := dkwJ2_clear_0 ++ dktJ2_clear_1
theorem dksJ2_clear_0 : cJ2_clear.data.toList.drop 0 = dktJ2_clear_0 := by decide +kernel
theorem dksJ2_clear_1 : cJ2_clear.data.toList.drop 23 = dktJ2_clear_1 := dk_seg dksJ2_clear_0 23 rfl rfl
theorem dJ2_clear_0 : decode cJ2_clear 0 = .ok (.aload_n 0, 1) := dk_42 (dk_at dksJ2_clear_0 0 rfl rfl)
theorem dJ2_clear_1 : decode cJ2_clear 1 = .ok (.dup, 1) := dk_89 (dk_at dksJ2_clear_0 1 rfl rfl)
theorem dJ2_clear_2 : decode cJ2_clear 2 = .ok (.getfield 63, 3) := dk_180 0 63 (dk_at dksJ2_clear_0 2 rfl rfl)
theorem dJ2_clear_5 : decode cJ2_clear 5 = .ok (.iconst 1, 1) := dk_4 (dk_at dksJ2_clear_0 5 rfl rfl)
theorem dJ2_clear_6 : decode cJ2_clear 6 = .ok (.iadd, 1) := dk_96 (dk_at dksJ2_clear_0 6 rfl rfl)
theorem dJ2_clear_7 : decode cJ2_clear 7 = .ok (.putfield 63, 3) := dk_181 0 63 (dk_at dksJ2_clear_0 7 rfl rfl)
theorem dJ2_clear_10 : decode cJ2_clear 10 = .ok (.aload_n 0, 1) := dk_42 (dk_at dksJ2_clear_0 10 rfl rfl)
theorem dJ2_clear_11 : decode cJ2_clear 11 = .ok (.getfield 9, 3) := dk_180 0 9 (dk_at dksJ2_clear_0 11 rfl rfl)
theorem dJ2_clear_14 : decode cJ2_clear 14 = .ok (.astore_n 1, 1) := dk_76 (dk_at dksJ2_clear_0 14 rfl rfl)
theorem dJ2_clear_15 : decode cJ2_clear 15 = .ok (.aload_n 0, 1) := dk_42 (dk_at dksJ2_clear_0 15 rfl rfl)
theorem dJ2_clear_16 : decode cJ2_clear 16 = .ok (.getfield 48, 3) := dk_180 0 48 (dk_at dksJ2_clear_0 16 rfl rfl)
theorem dJ2_clear_19 : decode cJ2_clear 19 = .ok (.istore_n 2, 1) := dk_61 (dk_at dksJ2_clear_0 19 rfl rfl)
theorem dJ2_clear_20 : decode cJ2_clear 20 = .ok (.aload_n 0, 1) := dk_42 (dk_at dksJ2_clear_0 20 rfl rfl)
theorem dJ2_clear_21 : decode cJ2_clear 21 = .ok (.iconst 0, 1) := dk_3 (dk_at dksJ2_clear_0 21 rfl rfl)
theorem dJ2_clear_22 : decode cJ2_clear 22 = .ok (.dup_x1, 1) := dk_90 (dk_at dksJ2_clear_0 22 rfl rfl)
theorem dJ2_clear_23 : decode cJ2_clear 23 = .ok (.putfield 48, 3) := dk_181 0 48 (dk_at dksJ2_clear_1 0 rfl rfl)
theorem dJ2_clear_26 : decode cJ2_clear 26 = .ok (.istore_n 3, 1) := dk_62 (dk_at dksJ2_clear_1 3 rfl rfl)
theorem dJ2_clear_27 : decode cJ2_clear 27 = .ok (.iload_n 3, 1) := dk_29 (dk_at dksJ2_clear_1 4 rfl rfl)
theorem dJ2_clear_28 : decode cJ2_clear 28 = .ok (.iload_n 2, 1) := dk_28 (dk_at dksJ2_clear_1 5 rfl rfl)
theorem dJ2_clear_29 : decode cJ2_clear 29 = .ok (.if_icmp .ge 13, 3) := dk_162 0 13 (dk_at dksJ2_clear_1 6 rfl rfl)
theorem dJ2_clear_32 : decode cJ2_clear 32 = .ok (.aload_n 1, 1) := dk_43 (dk_at dksJ2_clear_1 9 rfl rfl)
theorem dJ2_clear_33 : decode cJ2_clear 33 = .ok (.iload_n 3, 1) := dk_29 (dk_at dksJ2_clear_1 10 rfl rfl)
theorem dJ2_clear_34 : decode cJ2_clear 34 = .ok (.aconst_null, 1) := dk_1 (dk_at dksJ2_clear_1 11 rfl rfl)
theorem dJ2_clear_35 : decode cJ2_clear 35 = .ok (.aastore, 1) := dk_83 (dk_at dksJ2_clear_1 12 rfl rfl)
theorem dJ2_clear_36 : decode cJ2_clear 36 = .ok (.iinc 3 1, 3) := dk_132 3 1 (dk_at dksJ2_clear_1 13 rfl rfl)
theorem dJ2_clear_39 : decode cJ2_clear 39 = .ok (.goto (-12), 3) := dk_167 255 244 (dk_at dksJ2_clear_1 16 rfl rfl)
theorem dJ2_clear_42 : decode cJ2_clear 42 = .ok (.return_, 1) := dk_177 (dk_at dksJ2_clear_1 19 rfl rfl)
theorem q125 : (Jvm.Cond.initialized "java/util/ArrayList") ∈ lw_all := lw_g (lw_at lw_m1 7 rfl) rfl
theorem q372 : (Jvm.Cond.instantiable "java/util/ArrayList" (3 : Nat)) ∈ lw_all := lw_g (lw_at lw_m2 14 rfl) rfl
theorem q374 : (Jvm.Cond.instanceMethod ({ cls := "java/util/ArrayList", name := "<init>", desc := "()V" } : Jvm.MethodName)) ∈ lw_all := lw_g (lw_at lw_m2 16 rfl) rfl
theorem q375 : (Jvm.Cond.code ({ cls := "java/util/ArrayList", name := "<init>", desc := "()V" } : Jvm.MethodName) prog_33_method_2_code (1 : Nat) (Option.none : Option Jvm.ClassFile.FieldType)) ∈ lw_all := lw_g (lw_at lw_m2 17 rfl) rfl
theorem q376 : (Jvm.Cond.methodLink "java/util/ArrayList" (1 : Nat) ({ cls := "java/util/AbstractList", name := "<init>", desc := "()V" } : Jvm.MethodName)) ∈ lw_all := lw_g (lw_at lw_m2 18 rfl) rfl
theorem q383 : (Jvm.Cond.fieldLink "java/util/ArrayList" (39 : Nat) "java/util/ArrayList" "DEFAULTCAPACITY_EMPTY_ELEMENTDATA" "[Ljava/lang/Object;") ∈ lw_all := lw_g (lw_at lw_m2 25 rfl) rfl
theorem q384 : (Jvm.Cond.laysStatic "java/util/ArrayList" "DEFAULTCAPACITY_EMPTY_ELEMENTDATA" "[Ljava/lang/Object;") ∈ lw_tbl := lw_at lw_m2 26 rfl
theorem q385 : (Jvm.Cond.fieldLink "java/util/ArrayList" (9 : Nat) "java/util/ArrayList" "elementData" "[Ljava/lang/Object;") ∈ lw_all := lw_g (lw_at lw_m2 27 rfl) rfl
theorem q386 : (Jvm.Cond.fieldLink "java/util/ArrayList" (48 : Nat) "java/util/ArrayList" "size" "I") ∈ lw_all := lw_g (lw_at lw_m2 28 rfl) rfl
theorem q388 : (Jvm.Cond.fieldLink "java/util/ArrayList" (63 : Nat) "java/util/ArrayList" "modCount" "I") ∈ lw_all := lw_g (lw_at lw_m2 30 rfl) rfl
theorem q389 : (Jvm.Cond.sameField "java/util/ArrayList" "java/util/AbstractList" "modCount" "I") ∈ lw_all := lw_g (lw_at lw_m2 31 rfl) rfl
theorem q390 : (Jvm.Cond.lays "java/util/ArrayList" "java/util/ArrayList" "elementData" "[Ljava/lang/Object;") ∈ lw_all := lw_g (lw_at lw_m2 32 rfl) rfl
theorem q391 : (Jvm.Cond.soleField "java/util/ArrayList" "elementData") ∈ lw_all := lw_g (lw_at lw_m2 33 rfl) rfl
theorem q392 : (Jvm.Cond.lays "java/util/ArrayList" "java/util/ArrayList" "size" "I") ∈ lw_all := lw_g (lw_at lw_m2 34 rfl) rfl
theorem q393 : (Jvm.Cond.soleField "java/util/ArrayList" "size") ∈ lw_all := lw_g (lw_at lw_m2 35 rfl) rfl
theorem q394 : (Jvm.Cond.lays "java/util/ArrayList" "java/util/AbstractList" "modCount" "I") ∈ lw_all := lw_g (lw_at lw_m2 36 rfl) rfl
theorem q396 : (Jvm.Cond.superclass "java/util/ArrayList" "java/util/AbstractList") ∈ lw_all := lw_g (lw_at lw_m2 38 rfl) rfl
theorem q543 : (Jvm.Cond.instanceMethod ({ cls := "java/util/ArrayList", name := "size", desc := "()I" } : Jvm.MethodName)) ∈ lw_all := lw_g (lw_at lw_m2 185 rfl) rfl
theorem q544 : (Jvm.Cond.selects "java/util/ArrayList" ({ cls := "java/util/ArrayList", name := "size", desc := "()I" } : Jvm.MethodName) ({ cls := "java/util/ArrayList", name := "size", desc := "()I" } : Jvm.MethodName)) ∈ lw_all := lw_g (lw_at lw_m2 186 rfl) rfl
theorem q545 : (Jvm.Cond.code ({ cls := "java/util/ArrayList", name := "size", desc := "()I" } : Jvm.MethodName) prog_33_method_8_code (1 : Nat) (Option.some Jvm.ClassFile.FieldType.int)) ∈ lw_all := lw_g (lw_at lw_m2 187 rfl) rfl
theorem q791 : (Jvm.Cond.instanceMethod ({ cls := "java/util/ArrayList", name := "add", desc := "(Ljava/lang/Object;)Z" } : Jvm.MethodName)) ∈ lw_all := lw_g (lw_at lw_m3 193 rfl) rfl
theorem q792 : (Jvm.Cond.selects "java/util/ArrayList" ({ cls := "java/util/ArrayList", name := "add", desc := "(Ljava/lang/Object;)Z" } : Jvm.MethodName) ({ cls := "java/util/ArrayList", name := "add", desc := "(Ljava/lang/Object;)Z" } : Jvm.MethodName)) ∈ lw_all := lw_g (lw_at lw_m3 194 rfl) rfl
theorem q793 : (Jvm.Cond.code ({ cls := "java/util/ArrayList", name := "add", desc := "(Ljava/lang/Object;)Z" } : Jvm.MethodName) prog_33_method_25_code (2 : Nat) (Option.some Jvm.ClassFile.FieldType.boolean)) ∈ lw_all := lw_g (lw_at lw_m3 195 rfl) rfl
theorem q794 : (Jvm.Cond.methodLink "java/util/ArrayList" (131 : Nat) ({ cls := "java/util/ArrayList", name := "add", desc := "(Ljava/lang/Object;[Ljava/lang/Object;I)V" } : Jvm.MethodName)) ∈ lw_all := lw_g (lw_at lw_m3 196 rfl) rfl
theorem q795 : (Jvm.Cond.privateMethod ({ cls := "java/util/ArrayList", name := "add", desc := "(Ljava/lang/Object;[Ljava/lang/Object;I)V" } : Jvm.MethodName)) ∈ lw_tbl := lw_at lw_m3 197 rfl
theorem q796 : (Jvm.Cond.instanceMethod ({ cls := "java/util/ArrayList", name := "add", desc := "(Ljava/lang/Object;[Ljava/lang/Object;I)V" } : Jvm.MethodName)) ∈ lw_all := lw_g (lw_at lw_m3 198 rfl) rfl
theorem q797 : (Jvm.Cond.code ({ cls := "java/util/ArrayList", name := "add", desc := "(Ljava/lang/Object;[Ljava/lang/Object;I)V" } : Jvm.MethodName) prog_33_method_24_code (4 : Nat) (Option.none : Option Jvm.ClassFile.FieldType)) ∈ lw_all := lw_g (lw_at lw_m3 199 rfl) rfl
theorem q798 : (Jvm.Cond.methodLink "java/util/ArrayList" (129 : Nat) ({ cls := "java/util/ArrayList", name := "grow", desc := "()[Ljava/lang/Object;" } : Jvm.MethodName)) ∈ lw_all := lw_g (lw_at lw_m3 200 rfl) rfl
theorem q799 : (Jvm.Cond.privateMethod ({ cls := "java/util/ArrayList", name := "grow", desc := "()[Ljava/lang/Object;" } : Jvm.MethodName)) ∈ lw_tbl := lw_at lw_m3 201 rfl
theorem q800 : (Jvm.Cond.instanceMethod ({ cls := "java/util/ArrayList", name := "grow", desc := "()[Ljava/lang/Object;" } : Jvm.MethodName)) ∈ lw_all := lw_g (lw_at lw_m3 202 rfl) rfl
theorem q801 : (Jvm.Cond.code ({ cls := "java/util/ArrayList", name := "grow", desc := "()[Ljava/lang/Object;" } : Jvm.MethodName) prog_33_method_7_code (1 : Nat) (Option.some (Jvm.ClassFile.FieldType.array (Jvm.ClassFile.FieldType.object "java/lang/Object")))) ∈ lw_all := lw_g (lw_at lw_m3 203 rfl) rfl
theorem q802 : (Jvm.Cond.methodLink "java/util/ArrayList" (69 : Nat) ({ cls := "java/util/ArrayList", name := "grow", desc := "(I)[Ljava/lang/Object;" } : Jvm.MethodName)) ∈ lw_all := lw_g (lw_at lw_m3 204 rfl) rfl
theorem q803 : (Jvm.Cond.privateMethod ({ cls := "java/util/ArrayList", name := "grow", desc := "(I)[Ljava/lang/Object;" } : Jvm.MethodName)) ∈ lw_tbl := lw_at lw_m3 205 rfl
theorem q804 : (Jvm.Cond.instanceMethod ({ cls := "java/util/ArrayList", name := "grow", desc := "(I)[Ljava/lang/Object;" } : Jvm.MethodName)) ∈ lw_all := lw_g (lw_at lw_m3 206 rfl) rfl
theorem q805 : (Jvm.Cond.code ({ cls := "java/util/ArrayList", name := "grow", desc := "(I)[Ljava/lang/Object;" } : Jvm.MethodName) prog_33_method_6_code (4 : Nat) (Option.some (Jvm.ClassFile.FieldType.array (Jvm.ClassFile.FieldType.object "java/lang/Object")))) ∈ lw_all := lw_g (lw_at lw_m3 207 rfl) rfl
theorem q806 : (Jvm.Cond.methodLink "java/util/ArrayList" (73 : Nat) ({ cls := "jdk/internal/util/ArraysSupport", name := "newLength", desc := "(III)I" } : Jvm.MethodName)) ∈ lw_all := lw_g (lw_at lw_m3 208 rfl) rfl
theorem q814 : (Jvm.Cond.methodLink "java/util/ArrayList" (66 : Nat) ({ cls := "java/util/Arrays", name := "copyOf", desc := "([Ljava/lang/Object;I)[Ljava/lang/Object;" } : Jvm.MethodName)) ∈ lw_all := lw_g (lw_at lw_m3 216 rfl) rfl
theorem q832 : (Jvm.Cond.selects "java/util/ArrayList" ({ cls := "java/lang/Object", name := "getClass", desc := "()Ljava/lang/Class;" } : Jvm.MethodName) ({ cls := "java/lang/Object", name := "getClass", desc := "()Ljava/lang/Class;" } : Jvm.MethodName)) ∈ lw_all := lw_g (lw_at lw_m3 234 rfl) rfl
theorem q842 : (Jvm.Cond.methodLink "java/util/ArrayList" (79 : Nat) ({ cls := "java/lang/Math", name := "max", desc := "(II)I" } : Jvm.MethodName)) ∈ lw_all := lw_g (lw_at lw_m4 4 rfl) rfl
theorem q843 : (Jvm.Cond.classLink "java/util/ArrayList" (7 : Nat) "java/lang/Object") ∈ lw_all := lw_g (lw_at lw_m4 5 rfl) rfl
theorem q902 : (Jvm.Cond.instanceMethod ({ cls := "java/util/ArrayList", name := "get", desc := "(I)Ljava/lang/Object;" } : Jvm.MethodName)) ∈ lw_all := lw_g (lw_at lw_m4 64 rfl) rfl
theorem q903 : (Jvm.Cond.selects "java/util/ArrayList" ({ cls := "java/util/ArrayList", name := "get", desc := "(I)Ljava/lang/Object;" } : Jvm.MethodName) ({ cls := "java/util/ArrayList", name := "get", desc := "(I)Ljava/lang/Object;" } : Jvm.MethodName)) ∈ lw_all := lw_g (lw_at lw_m4 65 rfl) rfl
theorem q904 : (Jvm.Cond.code ({ cls := "java/util/ArrayList", name := "get", desc := "(I)Ljava/lang/Object;" } : Jvm.MethodName) prog_33_method_20_code (2 : Nat) (Option.some (Jvm.ClassFile.FieldType.object "java/lang/Object"))) ∈ lw_all := lw_g (lw_at lw_m4 66 rfl) rfl
theorem q905 : (Jvm.Cond.methodLink "java/util/ArrayList" (118 : Nat) ({ cls := "java/util/Objects", name := "checkIndex", desc := "(II)I" } : Jvm.MethodName)) ∈ lw_all := lw_g (lw_at lw_m4 67 rfl) rfl
theorem q909 : (Jvm.Cond.methodLink "java/util/ArrayList" (123 : Nat) ({ cls := "java/util/ArrayList", name := "elementData", desc := "(I)Ljava/lang/Object;" } : Jvm.MethodName)) ∈ lw_all := lw_g (lw_at lw_m4 71 rfl) rfl
theorem q910 : (Jvm.Cond.instanceMethod ({ cls := "java/util/ArrayList", name := "elementData", desc := "(I)Ljava/lang/Object;" } : Jvm.MethodName)) ∈ lw_all := lw_g (lw_at lw_m4 72 rfl) rfl
theorem q911 : (Jvm.Cond.selects "java/util/ArrayList" ({ cls := "java/util/ArrayList", name := "elementData", desc := "(I)Ljava/lang/Object;" } : Jvm.MethodName) ({ cls := "java/util/ArrayList", name := "elementData", desc := "(I)Ljava/lang/Object;" } : Jvm.MethodName)) ∈ lw_all := lw_g (lw_at lw_m4 73 rfl) rfl
theorem q912 : (Jvm.Cond.code ({ cls := "java/util/ArrayList", name := "elementData", desc := "(I)Ljava/lang/Object;" } : Jvm.MethodName) prog_33_method_18_code (2 : Nat) (Option.some (Jvm.ClassFile.FieldType.object "java/lang/Object"))) ∈ lw_all := lw_g (lw_at lw_m4 74 rfl) rfl
theorem q969 : (Jvm.Cond.instanceMethod ({ cls := "java/util/ArrayList", name := "clear", desc := "()V" } : Jvm.MethodName)) ∈ lw_all := lw_g (lw_at lw_m4 131 rfl) rfl
theorem q970 : (Jvm.Cond.selects "java/util/ArrayList" ({ cls := "java/util/ArrayList", name := "clear", desc := "()V" } : Jvm.MethodName) ({ cls := "java/util/ArrayList", name := "clear", desc := "()V" } : Jvm.MethodName)) ∈ lw_all := lw_g (lw_at lw_m4 132 rfl) rfl
theorem q971 : (Jvm.Cond.code ({ cls := "java/util/ArrayList", name := "clear", desc := "()V" } : Jvm.MethodName) prog_33_method_40_code (4 : Nat) (Option.none : Option Jvm.ClassFile.FieldType)) ∈ lw_all := lw_g (lw_at lw_m4 133 rfl) rfl
theorem q1967 : (Jvm.Cond.castable "java/util/ArrayList" "java/lang/Object") ∈ lw_tbl := lw_at lw_m8 169 rfl
theorem in_J2 : ∀ w ∈ wsJ20, w ∈ lw_all := lw_in wsJ20 [394, 390, 392] (by decide +kernel) (by decide +kernel)

/-! java/lang/String -/
set_option maxRecDepth 100000
def RJ3 : String := "java/lang/String"
abbrev cJ3_length : ByteArray := prog_24_method_54_code
def yJ3_length : MethodName := ⟨RJ3, "length", "()I"⟩
def dkwJ3_length_0 : List UInt8 := [42, 180, 0, 9, 190, 42, 182, 1, 79, 122, 172]
abbrev dktJ3_length_0 : List UInt8 := dkwJ3_length_0 ++ []
theorem dksJ3_length_0 : cJ3_length.data.toList.drop 0 = dktJ3_length_0 := by decide +kernel
theorem dJ3_length_0 : decode cJ3_length 0 = .ok (.aload_n 0, 1) := dk_42 (dk_at dksJ3_length_0 0 rfl rfl)
theorem dJ3_length_1 : decode cJ3_length 1 = .ok (.getfield 9, 3) := dk_180 0 9 (dk_at dksJ3_length_0 1 rfl rfl)
theorem dJ3_length_4 : decode cJ3_length 4 = .ok (.arraylength, 1) := dk_190 (dk_at dksJ3_length_0 4 rfl rfl)
theorem dJ3_length_5 : decode cJ3_length 5 = .ok (.aload_n 0, 1) := dk_42 (dk_at dksJ3_length_0 5 rfl rfl)
theorem dJ3_length_6 : decode cJ3_length 6 = .ok (.invokevirtual 335, 3) := dk_182 1 79 (dk_at dksJ3_length_0 6 rfl rfl)
theorem dJ3_length_9 : decode cJ3_length 9 = .ok (.ishr, 1) := dk_122 (dk_at dksJ3_length_0 9 rfl rfl)
theorem dJ3_length_10 : decode cJ3_length 10 = .ok (.ireturn, 1) := dk_172 (dk_at dksJ3_length_0 10 rfl rfl)
abbrev cJ3_coder : ByteArray := prog_24_method_152_code
def yJ3_coder : MethodName := ⟨RJ3, "coder", "()B"⟩
def dkwJ3_coder_0 : List UInt8 := [178, 0, 38, 153, 0, 10, 42, 180, 0, 15, 167, 0, 4, 4, 172]
abbrev dktJ3_coder_0 : List UInt8 := dkwJ3_coder_0 ++ []
theorem dksJ3_coder_0 : cJ3_coder.data.toList.drop 0 = dktJ3_coder_0 := by decide +kernel
theorem dJ3_coder_0 : decode cJ3_coder 0 = .ok (.getstatic 38, 3) := dk_178 0 38 (dk_at dksJ3_coder_0 0 rfl rfl)
theorem dJ3_coder_3 : decode cJ3_coder 3 = .ok (.ifCond .eq 10, 3) := dk_153 0 10 (dk_at dksJ3_coder_0 3 rfl rfl)
theorem dJ3_coder_6 : decode cJ3_coder 6 = .ok (.aload_n 0, 1) := dk_42 (dk_at dksJ3_coder_0 6 rfl rfl)
theorem dJ3_coder_7 : decode cJ3_coder 7 = .ok (.getfield 15, 3) := dk_180 0 15 (dk_at dksJ3_coder_0 7 rfl rfl)
theorem dJ3_coder_10 : decode cJ3_coder 10 = .ok (.goto 4, 3) := dk_167 0 4 (dk_at dksJ3_coder_0 10 rfl rfl)
theorem dJ3_coder_13 : decode cJ3_coder 13 = .ok (.iconst 1, 1) := dk_4 (dk_at dksJ3_coder_0 13 rfl rfl)
theorem dJ3_coder_14 : decode cJ3_coder 14 = .ok (.ireturn, 1) := dk_172 (dk_at dksJ3_coder_0 14 rfl rfl)
abbrev cJ3_charAt : ByteArray := prog_24_method_56_code
def yJ3_charAt : MethodName := ⟨RJ3, "charAt", "(I)C"⟩
def dkwJ3_charAt_1 : List UInt8 := [172]
abbrev dktJ3_charAt_1 : List UInt8 := dkwJ3_charAt_1 ++ []
def dkwJ3_charAt_0 : List UInt8 := [42, 182, 1, 236, 153, 0, 12, 42, 180, 0, 9, 27, 184, 1, 239, 172, 42, 180, 0, 9, 27, 184, 1, 242]
abbrev dktJ3_charAt_0 : List UInt8 := dkwJ3_charAt_0 ++ dktJ3_charAt_1
theorem dksJ3_charAt_0 : cJ3_charAt.data.toList.drop 0 = dktJ3_charAt_0 := by decide +kernel
theorem dksJ3_charAt_1 : cJ3_charAt.data.toList.drop 24 = dktJ3_charAt_1 := dk_seg dksJ3_charAt_0 24 rfl rfl
theorem dJ3_charAt_0 : decode cJ3_charAt 0 = .ok (.aload_n 0, 1) := dk_42 (dk_at dksJ3_charAt_0 0 rfl rfl)
theorem dJ3_charAt_1 : decode cJ3_charAt 1 = .ok (.invokevirtual 492, 3) := dk_182 1 236 (dk_at dksJ3_charAt_0 1 rfl rfl)
theorem dJ3_charAt_4 : decode cJ3_charAt 4 = .ok (.ifCond .eq 12, 3) := dk_153 0 12 (dk_at dksJ3_charAt_0 4 rfl rfl)
theorem dJ3_charAt_7 : decode cJ3_charAt 7 = .ok (.aload_n 0, 1) := dk_42 (dk_at dksJ3_charAt_0 7 rfl rfl)
theorem dJ3_charAt_8 : decode cJ3_charAt 8 = .ok (.getfield 9, 3) := dk_180 0 9 (dk_at dksJ3_charAt_0 8 rfl rfl)
theorem dJ3_charAt_11 : decode cJ3_charAt 11 = .ok (.iload_n 1, 1) := dk_27 (dk_at dksJ3_charAt_0 11 rfl rfl)
theorem dJ3_charAt_12 : decode cJ3_charAt 12 = .ok (.invokestatic 495, 3) := dk_184 1 239 (dk_at dksJ3_charAt_0 12 rfl rfl)
theorem dJ3_charAt_15 : decode cJ3_charAt 15 = .ok (.ireturn, 1) := dk_172 (dk_at dksJ3_charAt_0 15 rfl rfl)
theorem dJ3_charAt_16 : decode cJ3_charAt 16 = .ok (.aload_n 0, 1) := dk_42 (dk_at dksJ3_charAt_0 16 rfl rfl)
theorem dJ3_charAt_17 : decode cJ3_charAt 17 = .ok (.getfield 9, 3) := dk_180 0 9 (dk_at dksJ3_charAt_0 17 rfl rfl)
theorem dJ3_charAt_20 : decode cJ3_charAt 20 = .ok (.iload_n 1, 1) := dk_27 (dk_at dksJ3_charAt_0 20 rfl rfl)
theorem dJ3_charAt_21 : decode cJ3_charAt 21 = .ok (.invokestatic 498, 3) := dk_184 1 242 (dk_at dksJ3_charAt_0 21 rfl rfl)
theorem dJ3_charAt_24 : decode cJ3_charAt 24 = .ok (.ireturn, 1) := dk_172 (dk_at dksJ3_charAt_1 0 rfl rfl)
abbrev cJ3_isLatin1 : ByteArray := prog_24_method_154_code
def yJ3_isLatin1 : MethodName := ⟨RJ3, "isLatin1", "()Z"⟩
def dkwJ3_isLatin1_0 : List UInt8 := [178, 0, 38, 153, 0, 14, 42, 180, 0, 15, 154, 0, 7, 4, 167, 0, 4, 3, 172]
abbrev dktJ3_isLatin1_0 : List UInt8 := dkwJ3_isLatin1_0 ++ []
theorem dksJ3_isLatin1_0 : cJ3_isLatin1.data.toList.drop 0 = dktJ3_isLatin1_0 := by decide +kernel
theorem dJ3_isLatin1_0 : decode cJ3_isLatin1 0 = .ok (.getstatic 38, 3) := dk_178 0 38 (dk_at dksJ3_isLatin1_0 0 rfl rfl)
theorem dJ3_isLatin1_3 : decode cJ3_isLatin1 3 = .ok (.ifCond .eq 14, 3) := dk_153 0 14 (dk_at dksJ3_isLatin1_0 3 rfl rfl)
theorem dJ3_isLatin1_6 : decode cJ3_isLatin1 6 = .ok (.aload_n 0, 1) := dk_42 (dk_at dksJ3_isLatin1_0 6 rfl rfl)
theorem dJ3_isLatin1_7 : decode cJ3_isLatin1 7 = .ok (.getfield 15, 3) := dk_180 0 15 (dk_at dksJ3_isLatin1_0 7 rfl rfl)
theorem dJ3_isLatin1_10 : decode cJ3_isLatin1 10 = .ok (.ifCond .ne 7, 3) := dk_154 0 7 (dk_at dksJ3_isLatin1_0 10 rfl rfl)
theorem dJ3_isLatin1_13 : decode cJ3_isLatin1 13 = .ok (.iconst 1, 1) := dk_4 (dk_at dksJ3_isLatin1_0 13 rfl rfl)
theorem dJ3_isLatin1_14 : decode cJ3_isLatin1 14 = .ok (.goto 4, 3) := dk_167 0 4 (dk_at dksJ3_isLatin1_0 14 rfl rfl)
theorem dJ3_isLatin1_17 : decode cJ3_isLatin1 17 = .ok (.iconst 0, 1) := dk_3 (dk_at dksJ3_isLatin1_0 17 rfl rfl)
theorem dJ3_isLatin1_18 : decode cJ3_isLatin1 18 = .ok (.ireturn, 1) := dk_172 (dk_at dksJ3_isLatin1_0 18 rfl rfl)
abbrev cJ3_checkIndex : ByteArray := prog_24_method_155_code
def yJ3_checkIndex : MethodName := ⟨RJ3, "checkIndex", "(II)V"⟩
def dkwJ3_checkIndex_0 : List UInt8 := [26, 27, 178, 4, 29, 184, 4, 35, 87, 177]
abbrev dktJ3_checkIndex_0 : List UInt8 := dkwJ3_checkIndex_0 ++ []
theorem dksJ3_checkIndex_0 : cJ3_checkIndex.data.toList.drop 0 = dktJ3_checkIndex_0 := by decide +kernel
theorem dJ3_checkIndex_0 : decode cJ3_checkIndex 0 = .ok (.iload_n 0, 1) := dk_26 (dk_at dksJ3_checkIndex_0 0 rfl rfl)
theorem dJ3_checkIndex_1 : decode cJ3_checkIndex 1 = .ok (.iload_n 1, 1) := dk_27 (dk_at dksJ3_checkIndex_0 1 rfl rfl)
theorem dJ3_checkIndex_2 : decode cJ3_checkIndex 2 = .ok (.getstatic 1053, 3) := dk_178 4 29 (dk_at dksJ3_checkIndex_0 2 rfl rfl)
theorem dJ3_checkIndex_5 : decode cJ3_checkIndex 5 = .ok (.invokestatic 1059, 3) := dk_184 4 35 (dk_at dksJ3_checkIndex_0 5 rfl rfl)
theorem dJ3_checkIndex_8 : decode cJ3_checkIndex 8 = .ok (.pop, 1) := dk_87 (dk_at dksJ3_checkIndex_0 8 rfl rfl)
theorem dJ3_checkIndex_9 : decode cJ3_checkIndex 9 = .ok (.return_, 1) := dk_177 (dk_at dksJ3_checkIndex_0 9 rfl rfl)
theorem q129 : (Jvm.Cond.initialized "java/lang/String") ∈ lw_all := lw_g (lw_at lw_m1 11 rfl) rfl
theorem q574 : (Jvm.Cond.instanceMethod ({ cls := "java/lang/String", name := "length", desc := "()I" } : Jvm.MethodName)) ∈ lw_all := lw_g (lw_at lw_m2 216 rfl) rfl
theorem q575 : (Jvm.Cond.selects "java/lang/String" ({ cls := "java/lang/String", name := "length", desc := "()I" } : Jvm.MethodName) ({ cls := "java/lang/String", name := "length", desc := "()I" } : Jvm.MethodName)) ∈ lw_all := lw_g (lw_at lw_m2 217 rfl) rfl
theorem q576 : (Jvm.Cond.code ({ cls := "java/lang/String", name := "length", desc := "()I" } : Jvm.MethodName) prog_24_method_54_code (1 : Nat) (Option.some Jvm.ClassFile.FieldType.int)) ∈ lw_all := lw_g (lw_at lw_m2 218 rfl) rfl
theorem q577 : (Jvm.Cond.methodLink "java/lang/String" (335 : Nat) ({ cls := "java/lang/String", name := "coder", desc := "()B" } : Jvm.MethodName)) ∈ lw_all := lw_g (lw_at lw_m2 219 rfl) rfl
theorem q578 : (Jvm.Cond.instanceMethod ({ cls := "java/lang/String", name := "coder", desc := "()B" } : Jvm.MethodName)) ∈ lw_all := lw_g (lw_at lw_m2 220 rfl) rfl
theorem q579 : (Jvm.Cond.selects "java/lang/String" ({ cls := "java/lang/String", name := "coder", desc := "()B" } : Jvm.MethodName) ({ cls := "java/lang/String", name := "coder", desc := "()B" } : Jvm.MethodName)) ∈ lw_all := lw_g (lw_at lw_m2 221 rfl) rfl
theorem q580 : (Jvm.Cond.code ({ cls := "java/lang/String", name := "coder", desc := "()B" } : Jvm.MethodName) prog_24_method_152_code (1 : Nat) (Option.some Jvm.ClassFile.FieldType.byte)) ∈ lw_all := lw_g (lw_at lw_m2 222 rfl) rfl
theorem q581 : (Jvm.Cond.fieldLink "java/lang/String" (38 : Nat) "java/lang/String" "COMPACT_STRINGS" "Z") ∈ lw_all := lw_g (lw_at lw_m2 223 rfl) rfl
theorem q582 : (Jvm.Cond.laysStatic "java/lang/String" "COMPACT_STRINGS" "Z") ∈ lw_tbl := lw_at lw_m2 224 rfl
theorem q584 : (Jvm.Cond.instanceMethod ({ cls := "java/lang/String", name := "charAt", desc := "(I)C" } : Jvm.MethodName)) ∈ lw_all := lw_g (lw_at lw_m2 226 rfl) rfl
theorem q585 : (Jvm.Cond.selects "java/lang/String" ({ cls := "java/lang/String", name := "charAt", desc := "(I)C" } : Jvm.MethodName) ({ cls := "java/lang/String", name := "charAt", desc := "(I)C" } : Jvm.MethodName)) ∈ lw_all := lw_g (lw_at lw_m2 227 rfl) rfl
theorem q586 : (Jvm.Cond.code ({ cls := "java/lang/String", name := "charAt", desc := "(I)C" } : Jvm.MethodName) prog_24_method_56_code (2 : Nat) (Option.some Jvm.ClassFile.FieldType.char)) ∈ lw_all := lw_g (lw_at lw_m2 228 rfl) rfl
theorem q587 : (Jvm.Cond.methodLink "java/lang/String" (492 : Nat) ({ cls := "java/lang/String", name := "isLatin1", desc := "()Z" } : Jvm.MethodName)) ∈ lw_all := lw_g (lw_at lw_m2 229 rfl) rfl
theorem q588 : (Jvm.Cond.instanceMethod ({ cls := "java/lang/String", name := "isLatin1", desc := "()Z" } : Jvm.MethodName)) ∈ lw_all := lw_g (lw_at lw_m2 230 rfl) rfl
theorem q589 : (Jvm.Cond.selects "java/lang/String" ({ cls := "java/lang/String", name := "isLatin1", desc := "()Z" } : Jvm.MethodName) ({ cls := "java/lang/String", name := "isLatin1", desc := "()Z" } : Jvm.MethodName)) ∈ lw_all := lw_g (lw_at lw_m2 231 rfl) rfl
theorem q590 : (Jvm.Cond.code ({ cls := "java/lang/String", name := "isLatin1", desc := "()Z" } : Jvm.MethodName) prog_24_method_154_code (1 : Nat) (Option.some Jvm.ClassFile.FieldType.boolean)) ∈ lw_all := lw_g (lw_at lw_m2 232 rfl) rfl
theorem q591 : (Jvm.Cond.methodLink "java/lang/String" (495 : Nat) ({ cls := "java/lang/StringLatin1", name := "charAt", desc := "([BI)C" } : Jvm.MethodName)) ∈ lw_all := lw_g (lw_at lw_m2 233 rfl) rfl
theorem q595 : (Jvm.Cond.static ({ cls := "java/lang/String", name := "checkIndex", desc := "(II)V" } : Jvm.MethodName)) ∈ lw_all := lw_g (lw_at lw_m2 237 rfl) rfl
theorem q596 : (Jvm.Cond.code ({ cls := "java/lang/String", name := "checkIndex", desc := "(II)V" } : Jvm.MethodName) prog_24_method_155_code (2 : Nat) (Option.none : Option Jvm.ClassFile.FieldType)) ∈ lw_all := lw_g (lw_at lw_m2 238 rfl) rfl
theorem q597 : (Jvm.Cond.fieldLink "java/lang/String" (1053 : Nat) "jdk/internal/util/Preconditions" "SIOOBE_FORMATTER" "Ljava/util/function/BiFunction;") ∈ lw_all := lw_g (lw_at lw_m2 239 rfl) rfl
theorem q599 : (Jvm.Cond.methodLink "java/lang/String" (1059 : Nat) ({ cls := "jdk/internal/util/Preconditions", name := "checkIndex", desc := "(IILjava/util/function/BiFunction;)I" } : Jvm.MethodName)) ∈ lw_all := lw_g (lw_at lw_m3 1 rfl) rfl
theorem q602 : (Jvm.Cond.methodLink "java/lang/String" (498 : Nat) ({ cls := "java/lang/StringUTF16", name := "charAt", desc := "([BI)C" } : Jvm.MethodName)) ∈ lw_all := lw_g (lw_at lw_m3 4 rfl) rfl
theorem q1962 : (Jvm.Cond.castable "java/lang/String" "java/lang/Object") ∈ lw_tbl := lw_at lw_m8 164 rfl
theorem q1989 : (Jvm.Cond.fieldLink "java/lang/String" (9 : Nat) "java/lang/String" "value" "[B") ∈ lw_all := lw_g (lw_at lw_m8 191 rfl) rfl
theorem q1990 : (Jvm.Cond.fieldLink "java/lang/String" (15 : Nat) "java/lang/String" "coder" "B") ∈ lw_all := lw_g (lw_at lw_m8 192 rfl) rfl

/-! java/lang/StringLatin1 -/
set_option maxRecDepth 100000
def RJ4 : String := "java/lang/StringLatin1"
abbrev cJ4_charAt : ByteArray := prog_25_method_2_code
def yJ4_charAt : MethodName := ⟨RJ4, "charAt", "([BI)C"⟩
def dkwJ4_charAt_0 : List UInt8 := [27, 42, 190, 184, 0, 9, 42, 27, 51, 17, 0, 255, 126, 146, 172]
abbrev dktJ4_charAt_0 : List UInt8 := dkwJ4_charAt_0 ++ []
theorem dksJ4_charAt_0 : cJ4_charAt.data.toList.drop 0 = dktJ4_charAt_0 := by decide +kernel
theorem dJ4_charAt_0 : decode cJ4_charAt 0 = .ok (.iload_n 1, 1) := dk_27 (dk_at dksJ4_charAt_0 0 rfl rfl)
theorem dJ4_charAt_1 : decode cJ4_charAt 1 = .ok (.aload_n 0, 1) := dk_42 (dk_at dksJ4_charAt_0 1 rfl rfl)
theorem dJ4_charAt_2 : decode cJ4_charAt 2 = .ok (.arraylength, 1) := dk_190 (dk_at dksJ4_charAt_0 2 rfl rfl)
theorem dJ4_charAt_3 : decode cJ4_charAt 3 = .ok (.invokestatic 9, 3) := dk_184 0 9 (dk_at dksJ4_charAt_0 3 rfl rfl)
theorem dJ4_charAt_6 : decode cJ4_charAt 6 = .ok (.aload_n 0, 1) := dk_42 (dk_at dksJ4_charAt_0 6 rfl rfl)
theorem dJ4_charAt_7 : decode cJ4_charAt 7 = .ok (.iload_n 1, 1) := dk_27 (dk_at dksJ4_charAt_0 7 rfl rfl)
theorem dJ4_charAt_8 : decode cJ4_charAt 8 = .ok (.baload, 1) := dk_51 (dk_at dksJ4_charAt_0 8 rfl rfl)
theorem dJ4_charAt_9 : decode cJ4_charAt 9 = .ok (.sipush 255, 3) := dk_17 0 255 (dk_at dksJ4_charAt_0 9 rfl rfl)
theorem dJ4_charAt_12 : decode cJ4_charAt 12 = .ok (.iand, 1) := dk_126 (dk_at dksJ4_charAt_0 12 rfl rfl)
theorem dJ4_charAt_13 : decode cJ4_charAt 13 = .ok (.i2c, 1) := dk_146 (dk_at dksJ4_charAt_0 13 rfl rfl)
theorem dJ4_charAt_14 : decode cJ4_charAt 14 = .ok (.ireturn, 1) := dk_172 (dk_at dksJ4_charAt_0 14 rfl rfl)
theorem q130 : (Jvm.Cond.initialized "java/lang/StringLatin1") ∈ lw_all := lw_g (lw_at lw_m1 12 rfl) rfl
theorem q592 : (Jvm.Cond.static ({ cls := "java/lang/StringLatin1", name := "charAt", desc := "([BI)C" } : Jvm.MethodName)) ∈ lw_all := lw_g (lw_at lw_m2 234 rfl) rfl
theorem q593 : (Jvm.Cond.code ({ cls := "java/lang/StringLatin1", name := "charAt", desc := "([BI)C" } : Jvm.MethodName) prog_25_method_2_code (2 : Nat) (Option.some Jvm.ClassFile.FieldType.char)) ∈ lw_all := lw_g (lw_at lw_m2 235 rfl) rfl
theorem q594 : (Jvm.Cond.methodLink "java/lang/StringLatin1" (9 : Nat) ({ cls := "java/lang/String", name := "checkIndex", desc := "(II)V" } : Jvm.MethodName)) ∈ lw_all := lw_g (lw_at lw_m2 236 rfl) rfl

/-! jdk/internal/util/Preconditions -/
set_option maxRecDepth 100000
def RJ5 : String := "jdk/internal/util/Preconditions"
abbrev cJ5_checkIndex : ByteArray := prog_41_method_11_code
def yJ5_checkIndex : MethodName := ⟨RJ5, "checkIndex", "(IILjava/util/function/BiFunction;)I"⟩
def dkwJ5_checkIndex_0 : List UInt8 := [26, 155, 0, 8, 26, 27, 161, 0, 10, 44, 26, 27, 184, 0, 95, 191, 26, 172]
abbrev dktJ5_checkIndex_0 : List UInt8 := dkwJ5_checkIndex_0 ++ []
theorem dksJ5_checkIndex_0 : cJ5_checkIndex.data.toList.drop 0 = dktJ5_checkIndex_0 := by decide +kernel
theorem dJ5_checkIndex_0 : decode cJ5_checkIndex 0 = .ok (.iload_n 0, 1) := dk_26 (dk_at dksJ5_checkIndex_0 0 rfl rfl)
theorem dJ5_checkIndex_1 : decode cJ5_checkIndex 1 = .ok (.ifCond .lt 8, 3) := dk_155 0 8 (dk_at dksJ5_checkIndex_0 1 rfl rfl)
theorem dJ5_checkIndex_4 : decode cJ5_checkIndex 4 = .ok (.iload_n 0, 1) := dk_26 (dk_at dksJ5_checkIndex_0 4 rfl rfl)
theorem dJ5_checkIndex_5 : decode cJ5_checkIndex 5 = .ok (.iload_n 1, 1) := dk_27 (dk_at dksJ5_checkIndex_0 5 rfl rfl)
theorem dJ5_checkIndex_6 : decode cJ5_checkIndex 6 = .ok (.if_icmp .lt 10, 3) := dk_161 0 10 (dk_at dksJ5_checkIndex_0 6 rfl rfl)
theorem dJ5_checkIndex_9 : decode cJ5_checkIndex 9 = .ok (.aload_n 2, 1) := dk_44 (dk_at dksJ5_checkIndex_0 9 rfl rfl)
theorem dJ5_checkIndex_10 : decode cJ5_checkIndex 10 = .ok (.iload_n 0, 1) := dk_26 (dk_at dksJ5_checkIndex_0 10 rfl rfl)
theorem dJ5_checkIndex_11 : decode cJ5_checkIndex 11 = .ok (.iload_n 1, 1) := dk_27 (dk_at dksJ5_checkIndex_0 11 rfl rfl)
theorem dJ5_checkIndex_12 : decode cJ5_checkIndex 12 = .ok (.invokestatic 95, 3) := dk_184 0 95 (dk_at dksJ5_checkIndex_0 12 rfl rfl)
theorem dJ5_checkIndex_15 : decode cJ5_checkIndex 15 = .ok (.athrow, 1) := dk_191 (dk_at dksJ5_checkIndex_0 15 rfl rfl)
theorem dJ5_checkIndex_16 : decode cJ5_checkIndex 16 = .ok (.iload_n 0, 1) := dk_26 (dk_at dksJ5_checkIndex_0 16 rfl rfl)
theorem dJ5_checkIndex_17 : decode cJ5_checkIndex 17 = .ok (.ireturn, 1) := dk_172 (dk_at dksJ5_checkIndex_0 17 rfl rfl)
theorem q131 : (Jvm.Cond.initialized "jdk/internal/util/Preconditions") ∈ lw_all := lw_g (lw_at lw_m1 13 rfl) rfl
theorem q598 : (Jvm.Cond.laysStatic "jdk/internal/util/Preconditions" "SIOOBE_FORMATTER" "Ljava/util/function/BiFunction;") ∈ lw_tbl := lw_at lw_m3 0 rfl
theorem q600 : (Jvm.Cond.static ({ cls := "jdk/internal/util/Preconditions", name := "checkIndex", desc := "(IILjava/util/function/BiFunction;)I" } : Jvm.MethodName)) ∈ lw_all := lw_g (lw_at lw_m3 2 rfl) rfl
theorem q601 : (Jvm.Cond.code ({ cls := "jdk/internal/util/Preconditions", name := "checkIndex", desc := "(IILjava/util/function/BiFunction;)I" } : Jvm.MethodName) prog_41_method_11_code (3 : Nat) (Option.some Jvm.ClassFile.FieldType.int)) ∈ lw_all := lw_g (lw_at lw_m3 3 rfl) rfl

/-! java/lang/StringUTF16 -/
set_option maxRecDepth 100000
def RJ6 : String := "java/lang/StringUTF16"
abbrev cJ6_charAt : ByteArray := prog_26_method_83_code
def yJ6_charAt : MethodName := ⟨RJ6, "charAt", "([BI)C"⟩
def dkwJ6_charAt_0 : List UInt8 := [27, 42, 184, 0, 67, 42, 27, 184, 0, 71, 172]
abbrev dktJ6_charAt_0 : List UInt8 := dkwJ6_charAt_0 ++ []
theorem dksJ6_charAt_0 : cJ6_charAt.data.toList.drop 0 = dktJ6_charAt_0 := by decide +kernel
theorem dJ6_charAt_0 : decode cJ6_charAt 0 = .ok (.iload_n 1, 1) := dk_27 (dk_at dksJ6_charAt_0 0 rfl rfl)
theorem dJ6_charAt_1 : decode cJ6_charAt 1 = .ok (.aload_n 0, 1) := dk_42 (dk_at dksJ6_charAt_0 1 rfl rfl)
theorem dJ6_charAt_2 : decode cJ6_charAt 2 = .ok (.invokestatic 67, 3) := dk_184 0 67 (dk_at dksJ6_charAt_0 2 rfl rfl)
theorem dJ6_charAt_5 : decode cJ6_charAt 5 = .ok (.aload_n 0, 1) := dk_42 (dk_at dksJ6_charAt_0 5 rfl rfl)
theorem dJ6_charAt_6 : decode cJ6_charAt 6 = .ok (.iload_n 1, 1) := dk_27 (dk_at dksJ6_charAt_0 6 rfl rfl)
theorem dJ6_charAt_7 : decode cJ6_charAt 7 = .ok (.invokestatic 71, 3) := dk_184 0 71 (dk_at dksJ6_charAt_0 7 rfl rfl)
theorem dJ6_charAt_10 : decode cJ6_charAt 10 = .ok (.ireturn, 1) := dk_172 (dk_at dksJ6_charAt_0 10 rfl rfl)
abbrev cJ6_checkIndex : ByteArray := prog_26_method_91_code
def yJ6_checkIndex : MethodName := ⟨RJ6, "checkIndex", "(I[B)V"⟩
def dkwJ6_checkIndex_0 : List UInt8 := [26, 43, 184, 0, 48, 184, 1, 158, 177]
abbrev dktJ6_checkIndex_0 : List UInt8 := dkwJ6_checkIndex_0 ++ []
theorem dksJ6_checkIndex_0 : cJ6_checkIndex.data.toList.drop 0 = dktJ6_checkIndex_0 := by decide +kernel
theorem dJ6_checkIndex_0 : decode cJ6_checkIndex 0 = .ok (.iload_n 0, 1) := dk_26 (dk_at dksJ6_checkIndex_0 0 rfl rfl)
theorem dJ6_checkIndex_1 : decode cJ6_checkIndex 1 = .ok (.aload_n 1, 1) := dk_43 (dk_at dksJ6_checkIndex_0 1 rfl rfl)
theorem dJ6_checkIndex_2 : decode cJ6_checkIndex 2 = .ok (.invokestatic 48, 3) := dk_184 0 48 (dk_at dksJ6_checkIndex_0 2 rfl rfl)
theorem dJ6_checkIndex_5 : decode cJ6_checkIndex 5 = .ok (.invokestatic 414, 3) := dk_184 1 158 (dk_at dksJ6_checkIndex_0 5 rfl rfl)
theorem dJ6_checkIndex_8 : decode cJ6_checkIndex 8 = .ok (.return_, 1) := dk_177 (dk_at dksJ6_checkIndex_0 8 rfl rfl)
abbrev cJ6_length : ByteArray := prog_26_method_6_code
def yJ6_length : MethodName := ⟨RJ6, "length", "([B)I"⟩
def dkwJ6_length_0 : List UInt8 := [42, 190, 4, 122, 172]
abbrev dktJ6_length_0 : List UInt8 := dkwJ6_length_0 ++ []
theorem dksJ6_length_0 : cJ6_length.data.toList.drop 0 = dktJ6_length_0 := by decide +kernel
theorem dJ6_length_0 : decode cJ6_length 0 = .ok (.aload_n 0, 1) := dk_42 (dk_at dksJ6_length_0 0 rfl rfl)
theorem dJ6_length_1 : decode cJ6_length 1 = .ok (.arraylength, 1) := dk_190 (dk_at dksJ6_length_0 1 rfl rfl)
theorem dJ6_length_2 : decode cJ6_length 2 = .ok (.iconst 1, 1) := dk_4 (dk_at dksJ6_length_0 2 rfl rfl)
theorem dJ6_length_3 : decode cJ6_length 3 = .ok (.ishr, 1) := dk_122 (dk_at dksJ6_length_0 3 rfl rfl)
theorem dJ6_length_4 : decode cJ6_length 4 = .ok (.ireturn, 1) := dk_172 (dk_at dksJ6_length_0 4 rfl rfl)
abbrev cJ6_getChar : ByteArray := prog_26_method_5_code
def yJ6_getChar : MethodName := ⟨RJ6, "getChar", "([BI)C"⟩
def dkwJ6_getChar_2 : List UInt8 := [51, 17, 0, 255, 126, 178, 0, 63, 120, 128, 146, 172]
abbrev dktJ6_getChar_2 : List UInt8 := dkwJ6_getChar_2 ++ []
def dkwJ6_getChar_1 : List UInt8 := [183, 0, 56, 191, 27, 4, 120, 60, 42, 27, 132, 1, 1, 51, 17, 0, 255, 126, 178, 0, 59, 120, 42, 27]
abbrev dktJ6_getChar_1 : List UInt8 := dkwJ6_getChar_1 ++ dktJ6_getChar_2
def dkwJ6_getChar_0 : List UInt8 := [178, 0, 44, 154, 0, 25, 27, 155, 0, 11, 27, 42, 184, 0, 48, 161, 0, 13, 187, 0, 52, 89, 18, 54]
abbrev dktJ6_getChar_0 : List UInt8 := dkwJ6_getChar_0 ++ dktJ6_getChar_1
theorem dksJ6_getChar_0 : cJ6_getChar.data.toList.drop 0 = dktJ6_getChar_0 := by decide +kernel
theorem dksJ6_getChar_1 : cJ6_getChar.data.toList.drop 24 = dktJ6_getChar_1 := dk_seg dksJ6_getChar_0 24 rfl rfl
theorem dksJ6_getChar_2 : cJ6_getChar.data.toList.drop 48 = dktJ6_getChar_2 := dk_seg dksJ6_getChar_1 24 rfl rfl
theorem dJ6_getChar_0 : decode cJ6_getChar 0 = .ok (.getstatic 44, 3) := dk_178 0 44 (dk_at dksJ6_getChar_0 0 rfl rfl)
theorem dJ6_getChar_3 : decode cJ6_getChar 3 = .ok (.ifCond .ne 25, 3) := dk_154 0 25 (dk_at dksJ6_getChar_0 3 rfl rfl)
theorem dJ6_getChar_6 : decode cJ6_getChar 6 = .ok (.iload_n 1, 1) := dk_27 (dk_at dksJ6_getChar_0 6 rfl rfl)
theorem dJ6_getChar_7 : decode cJ6_getChar 7 = .ok (.ifCond .lt 11, 3) := dk_155 0 11 (dk_at dksJ6_getChar_0 7 rfl rfl)
theorem dJ6_getChar_10 : decode cJ6_getChar 10 = .ok (.iload_n 1, 1) := dk_27 (dk_at dksJ6_getChar_0 10 rfl rfl)
theorem dJ6_getChar_11 : decode cJ6_getChar 11 = .ok (.aload_n 0, 1) := dk_42 (dk_at dksJ6_getChar_0 11 rfl rfl)
theorem dJ6_getChar_12 : decode cJ6_getChar 12 = .ok (.invokestatic 48, 3) := dk_184 0 48 (dk_at dksJ6_getChar_0 12 rfl rfl)
theorem dJ6_getChar_15 : decode cJ6_getChar 15 = .ok (.if_icmp .lt 13, 3) := dk_161 0 13 (dk_at dksJ6_getChar_0 15 rfl rfl)
theorem dJ6_getChar_18 : decode cJ6_getChar 18 = .ok (.new 52, 3) := dk_187 0 52 (dk_at dksJ6_getChar_0 18 rfl rfl)
theorem dJ6_getChar_21 : decode cJ6_getChar 21 = .ok (.dup, 1) := dk_89 (dk_at dksJ6_getChar_0 21 rfl rfl)
theorem dJ6_getChar_22 : decode cJ6_getChar 22 = .ok (.ldc 54, 2) := dk_18 54 (dk_at dksJ6_getChar_0 22 rfl rfl)
theorem dJ6_getChar_24 : decode cJ6_getChar 24 = .ok (.invokespecial 56, 3) := dk_183 0 56 (dk_at dksJ6_getChar_1 0 rfl rfl)
theorem dJ6_getChar_27 : decode cJ6_getChar 27 = .ok (.athrow, 1) := dk_191 (dk_at dksJ6_getChar_1 3 rfl rfl)
theorem dJ6_getChar_28 : decode cJ6_getChar 28 = .ok (.iload_n 1, 1) := dk_27 (dk_at dksJ6_getChar_1 4 rfl rfl)
theorem dJ6_getChar_29 : decode cJ6_getChar 29 = .ok (.iconst 1, 1) := dk_4 (dk_at dksJ6_getChar_1 5 rfl rfl)
theorem dJ6_getChar_30 : decode cJ6_getChar 30 = .ok (.ishl, 1) := dk_120 (dk_at dksJ6_getChar_1 6 rfl rfl)
theorem dJ6_getChar_31 : decode cJ6_getChar 31 = .ok (.istore_n 1, 1) := dk_60 (dk_at dksJ6_getChar_1 7 rfl rfl)
theorem dJ6_getChar_32 : decode cJ6_getChar 32 = .ok (.aload_n 0, 1) := dk_42 (dk_at dksJ6_getChar_1 8 rfl rfl)
theorem dJ6_getChar_33 : decode cJ6_getChar 33 = .ok (.iload_n 1, 1) := dk_27 (dk_at dksJ6_getChar_1 9 rfl rfl)
theorem dJ6_getChar_34 : decode cJ6_getChar 34 = .ok (.iinc 1 1, 3) := dk_132 1 1 (dk_at dksJ6_getChar_1 10 rfl rfl)
theorem dJ6_getChar_37 : decode cJ6_getChar 37 = .ok (.baload, 1) := dk_51 (dk_at dksJ6_getChar_1 13 rfl rfl)
theorem dJ6_getChar_38 : decode cJ6_getChar 38 = .ok (.sipush 255, 3) := dk_17 0 255 (dk_at dksJ6_getChar_1 14 rfl rfl)
theorem dJ6_getChar_41 : decode cJ6_getChar 41 = .ok (.iand, 1) := dk_126 (dk_at dksJ6_getChar_1 17 rfl rfl)
theorem dJ6_getChar_42 : decode cJ6_getChar 42 = .ok (.getstatic 59, 3) := dk_178 0 59 (dk_at dksJ6_getChar_1 18 rfl rfl)
theorem dJ6_getChar_45 : decode cJ6_getChar 45 = .ok (.ishl, 1) := dk_120 (dk_at dksJ6_getChar_1 21 rfl rfl)
theorem dJ6_getChar_46 : decode cJ6_getChar 46 = .ok (.aload_n 0, 1) := dk_42 (dk_at dksJ6_getChar_1 22 rfl rfl)
theorem dJ6_getChar_47 : decode cJ6_getChar 47 = .ok (.iload_n 1, 1) := dk_27 (dk_at dksJ6_getChar_1 23 rfl rfl)
theorem dJ6_getChar_48 : decode cJ6_getChar 48 = .ok (.baload, 1) := dk_51 (dk_at dksJ6_getChar_2 0 rfl rfl)
theorem dJ6_getChar_49 : decode cJ6_getChar 49 = .ok (.sipush 255, 3) := dk_17 0 255 (dk_at dksJ6_getChar_2 1 rfl rfl)
theorem dJ6_getChar_52 : decode cJ6_getChar 52 = .ok (.iand, 1) := dk_126 (dk_at dksJ6_getChar_2 4 rfl rfl)
theorem dJ6_getChar_53 : decode cJ6_getChar 53 = .ok (.getstatic 63, 3) := dk_178 0 63 (dk_at dksJ6_getChar_2 5 rfl rfl)
theorem dJ6_getChar_56 : decode cJ6_getChar 56 = .ok (.ishl, 1) := dk_120 (dk_at dksJ6_getChar_2 8 rfl rfl)
theorem dJ6_getChar_57 : decode cJ6_getChar 57 = .ok (.ior, 1) := dk_128 (dk_at dksJ6_getChar_2 9 rfl rfl)
theorem dJ6_getChar_58 : decode cJ6_getChar 58 = .ok (.i2c, 1) := dk_146 (dk_at dksJ6_getChar_2 10 rfl rfl)
theorem dJ6_getChar_59 : decode cJ6_getChar 59 = .ok (.ireturn, 1) := dk_172 (dk_at dksJ6_getChar_2 11 rfl rfl)
theorem q132 : (Jvm.Cond.initialized "java/lang/StringUTF16") ∈ lw_all := lw_g (lw_at lw_m1 14 rfl) rfl
theorem q603 : (Jvm.Cond.static ({ cls := "java/lang/StringUTF16", name := "charAt", desc := "([BI)C" } : Jvm.MethodName)) ∈ lw_all := lw_g (lw_at lw_m3 5 rfl) rfl
theorem q604 : (Jvm.Cond.code ({ cls := "java/lang/StringUTF16", name := "charAt", desc := "([BI)C" } : Jvm.MethodName) prog_26_method_83_code (2 : Nat) (Option.some Jvm.ClassFile.FieldType.char)) ∈ lw_all := lw_g (lw_at lw_m3 6 rfl) rfl
theorem q605 : (Jvm.Cond.methodLink "java/lang/StringUTF16" (67 : Nat) ({ cls := "java/lang/StringUTF16", name := "checkIndex", desc := "(I[B)V" } : Jvm.MethodName)) ∈ lw_all := lw_g (lw_at lw_m3 7 rfl) rfl
theorem q606 : (Jvm.Cond.static ({ cls := "java/lang/StringUTF16", name := "checkIndex", desc := "(I[B)V" } : Jvm.MethodName)) ∈ lw_all := lw_g (lw_at lw_m3 8 rfl) rfl
theorem q607 : (Jvm.Cond.code ({ cls := "java/lang/StringUTF16", name := "checkIndex", desc := "(I[B)V" } : Jvm.MethodName) prog_26_method_91_code (2 : Nat) (Option.none : Option Jvm.ClassFile.FieldType)) ∈ lw_all := lw_g (lw_at lw_m3 9 rfl) rfl
theorem q608 : (Jvm.Cond.methodLink "java/lang/StringUTF16" (48 : Nat) ({ cls := "java/lang/StringUTF16", name := "length", desc := "([B)I" } : Jvm.MethodName)) ∈ lw_all := lw_g (lw_at lw_m3 10 rfl) rfl
theorem q609 : (Jvm.Cond.static ({ cls := "java/lang/StringUTF16", name := "length", desc := "([B)I" } : Jvm.MethodName)) ∈ lw_all := lw_g (lw_at lw_m3 11 rfl) rfl
theorem q610 : (Jvm.Cond.code ({ cls := "java/lang/StringUTF16", name := "length", desc := "([B)I" } : Jvm.MethodName) prog_26_method_6_code (1 : Nat) (Option.some Jvm.ClassFile.FieldType.int)) ∈ lw_all := lw_g (lw_at lw_m3 12 rfl) rfl
theorem q611 : (Jvm.Cond.methodLink "java/lang/StringUTF16" (414 : Nat) ({ cls := "java/lang/String", name := "checkIndex", desc := "(II)V" } : Jvm.MethodName)) ∈ lw_all := lw_g (lw_at lw_m3 13 rfl) rfl
theorem q612 : (Jvm.Cond.methodLink "java/lang/StringUTF16" (71 : Nat) ({ cls := "java/lang/StringUTF16", name := "getChar", desc := "([BI)C" } : Jvm.MethodName)) ∈ lw_all := lw_g (lw_at lw_m3 14 rfl) rfl
theorem q613 : (Jvm.Cond.static ({ cls := "java/lang/StringUTF16", name := "getChar", desc := "([BI)C" } : Jvm.MethodName)) ∈ lw_all := lw_g (lw_at lw_m3 15 rfl) rfl
theorem q614 : (Jvm.Cond.code ({ cls := "java/lang/StringUTF16", name := "getChar", desc := "([BI)C" } : Jvm.MethodName) prog_26_method_5_code (2 : Nat) (Option.some Jvm.ClassFile.FieldType.char)) ∈ lw_all := lw_g (lw_at lw_m3 16 rfl) rfl
theorem q615 : (Jvm.Cond.fieldLink "java/lang/StringUTF16" (44 : Nat) "java/lang/StringUTF16" "$assertionsDisabled" "Z") ∈ lw_all := lw_g (lw_at lw_m3 17 rfl) rfl
theorem q616 : (Jvm.Cond.laysStatic "java/lang/StringUTF16" "$assertionsDisabled" "Z") ∈ lw_tbl := lw_at lw_m3 18 rfl
theorem q617 : (Jvm.Cond.fieldLink "java/lang/StringUTF16" (59 : Nat) "java/lang/StringUTF16" "HI_BYTE_SHIFT" "I") ∈ lw_all := lw_g (lw_at lw_m3 19 rfl) rfl
theorem q618 : (Jvm.Cond.laysStatic "java/lang/StringUTF16" "HI_BYTE_SHIFT" "I") ∈ lw_tbl := lw_at lw_m3 20 rfl
theorem q619 : (Jvm.Cond.fieldLink "java/lang/StringUTF16" (63 : Nat) "java/lang/StringUTF16" "LO_BYTE_SHIFT" "I") ∈ lw_all := lw_g (lw_at lw_m3 21 rfl) rfl
theorem q620 : (Jvm.Cond.laysStatic "java/lang/StringUTF16" "LO_BYTE_SHIFT" "I") ∈ lw_tbl := lw_at lw_m3 22 rfl

/-! java/lang/Throwable -/
set_option maxRecDepth 100000
def RJ7 : String := "java/lang/Throwable"
def TJ7 : u_T := fun k => match k with
  | 0 => ("java/lang/Throwable", "cause", "Ljava/lang/Throwable;", false)
  | 1 => ("java/lang/Throwable", "stackTrace", "[Ljava/lang/StackTraceElement;", false)
  | 2 => ("java/lang/Throwable", "suppressedExceptions", "Ljava/util/List;", false)
  | 3 => ("java/lang/Throwable", "detailMessage", "Ljava/lang/String;", false)
  | _ => ("java/lang/Throwable", "backtrace", "Ljava/lang/Object;", false)
def tyJ7 : Nat → FieldType := fun k => match k with
  | 0 => .object "java/lang/Throwable"
  | 1 => .array (.object "java/lang/StackTraceElement")
  | 2 => .object "java/util/List"
  | 3 => .object "java/lang/String"
  | _ => .object "java/lang/Object"
abbrev wsJ70 : List Cond := u_ws RJ7 TJ7 5
theorem nmJ7 : ∀ a, a < 5 → ∀ b, b < 5 → a ≠ b → (TJ7 a).2.1 ≠ (TJ7 b).2.1 := by decide +kernel
theorem tyJ7_ok : ∀ k, k < 5 → parseFieldDescriptor (TJ7 k).2.2.1 = some (tyJ7 k) := by decide +kernel
abbrev cJ7_init : ByteArray := prog_28_method_1_code
def yJ7_init : MethodName := ⟨RJ7, "<init>", "()V"⟩
def dkwJ7_init_1 : List UInt8 := [182, 0, 27, 87, 177]
abbrev dktJ7_init_1 : List UInt8 := dkwJ7_init_1 ++ []
def dkwJ7_init_0 : List UInt8 := [42, 183, 0, 1, 42, 42, 181, 0, 7, 42, 178, 0, 13, 181, 0, 17, 42, 178, 0, 20, 181, 0, 24, 42]
abbrev dktJ7_init_0 : List UInt8 := dkwJ7_init_0 ++ dktJ7_init_1
theorem dksJ7_init_0 : cJ7_init.data.toList.drop 0 = dktJ7_init_0 := by decide +kernel
theorem dksJ7_init_1 : cJ7_init.data.toList.drop 24 = dktJ7_init_1 := dk_seg dksJ7_init_0 24 rfl rfl
theorem dJ7_init_0 : decode cJ7_init 0 = .ok (.aload_n 0, 1) := dk_42 (dk_at dksJ7_init_0 0 rfl rfl)
theorem dJ7_init_1 : decode cJ7_init 1 = .ok (.invokespecial 1, 3) := dk_183 0 1 (dk_at dksJ7_init_0 1 rfl rfl)
theorem dJ7_init_4 : decode cJ7_init 4 = .ok (.aload_n 0, 1) := dk_42 (dk_at dksJ7_init_0 4 rfl rfl)
theorem dJ7_init_5 : decode cJ7_init 5 = .ok (.aload_n 0, 1) := dk_42 (dk_at dksJ7_init_0 5 rfl rfl)
theorem dJ7_init_6 : decode cJ7_init 6 = .ok (.putfield 7, 3) := dk_181 0 7 (dk_at dksJ7_init_0 6 rfl rfl)
theorem dJ7_init_9 : decode cJ7_init 9 = .ok (.aload_n 0, 1) := dk_42 (dk_at dksJ7_init_0 9 rfl rfl)
theorem dJ7_init_10 : decode cJ7_init 10 = .ok (.getstatic 13, 3) := dk_178 0 13 (dk_at dksJ7_init_0 10 rfl rfl)
theorem dJ7_init_13 : decode cJ7_init 13 = .ok (.putfield 17, 3) := dk_181 0 17 (dk_at dksJ7_init_0 13 rfl rfl)
theorem dJ7_init_16 : decode cJ7_init 16 = .ok (.aload_n 0, 1) := dk_42 (dk_at dksJ7_init_0 16 rfl rfl)
theorem dJ7_init_17 : decode cJ7_init 17 = .ok (.getstatic 20, 3) := dk_178 0 20 (dk_at dksJ7_init_0 17 rfl rfl)
theorem dJ7_init_20 : decode cJ7_init 20 = .ok (.putfield 24, 3) := dk_181 0 24 (dk_at dksJ7_init_0 20 rfl rfl)
theorem dJ7_init_23 : decode cJ7_init 23 = .ok (.aload_n 0, 1) := dk_42 (dk_at dksJ7_init_0 23 rfl rfl)
theorem dJ7_init_24 : decode cJ7_init 24 = .ok (.invokevirtual 27, 3) := dk_182 0 27 (dk_at dksJ7_init_1 0 rfl rfl)
theorem dJ7_init_27 : decode cJ7_init 27 = .ok (.pop, 1) := dk_87 (dk_at dksJ7_init_1 3 rfl rfl)
theorem dJ7_init_28 : decode cJ7_init 28 = .ok (.return_, 1) := dk_177 (dk_at dksJ7_init_1 4 rfl rfl)
abbrev cJ7_init_2 : ByteArray := prog_28_method_5_code
def yJ7_init_2 : MethodName := ⟨RJ7, "<init>", "(Ljava/lang/String;Ljava/lang/Throwable;ZZ)V"⟩
def dkwJ7_init_2_2 : List UInt8 := [44, 181, 0, 7, 29, 154, 0, 8, 42, 1, 181, 0, 24, 177]
abbrev dktJ7_init_2_2 : List UInt8 := dkwJ7_init_2_2 ++ []
def dkwJ7_init_2_1 : List UInt8 := [21, 4, 153, 0, 11, 42, 182, 0, 27, 87, 167, 0, 8, 42, 1, 181, 0, 17, 42, 43, 181, 0, 31, 42]
abbrev dktJ7_init_2_1 : List UInt8 := dkwJ7_init_2_1 ++ dktJ7_init_2_2
def dkwJ7_init_2_0 : List UInt8 := [42, 183, 0, 1, 42, 42, 181, 0, 7, 42, 178, 0, 13, 181, 0, 17, 42, 178, 0, 20, 181, 0, 24]
abbrev dktJ7_init_2_0 : List UInt8 := dkwJ7_init_2_0 ++ dktJ7_init_2_1
theorem dksJ7_init_2_0 : cJ7_init_2.data.toList.drop 0 = dktJ7_init_2_0 := by decide +kernel
theorem dksJ7_init_2_1 : cJ7_init_2.data.toList.drop 23 = dktJ7_init_2_1 := dk_seg dksJ7_init_2_0 23 rfl rfl
theorem dksJ7_init_2_2 : cJ7_init_2.data.toList.drop 47 = dktJ7_init_2_2 := dk_seg dksJ7_init_2_1 24 rfl rfl
theorem dJ7_init_2_0 : decode cJ7_init_2 0 = .ok (.aload_n 0, 1) := dk_42 (dk_at dksJ7_init_2_0 0 rfl rfl)
theorem dJ7_init_2_1 : decode cJ7_init_2 1 = .ok (.invokespecial 1, 3) := dk_183 0 1 (dk_at dksJ7_init_2_0 1 rfl rfl)
theorem dJ7_init_2_4 : decode cJ7_init_2 4 = .ok (.aload_n 0, 1) := dk_42 (dk_at dksJ7_init_2_0 4 rfl rfl)
theorem dJ7_init_2_5 : decode cJ7_init_2 5 = .ok (.aload_n 0, 1) := dk_42 (dk_at dksJ7_init_2_0 5 rfl rfl)
theorem dJ7_init_2_6 : decode cJ7_init_2 6 = .ok (.putfield 7, 3) := dk_181 0 7 (dk_at dksJ7_init_2_0 6 rfl rfl)
theorem dJ7_init_2_9 : decode cJ7_init_2 9 = .ok (.aload_n 0, 1) := dk_42 (dk_at dksJ7_init_2_0 9 rfl rfl)
theorem dJ7_init_2_10 : decode cJ7_init_2 10 = .ok (.getstatic 13, 3) := dk_178 0 13 (dk_at dksJ7_init_2_0 10 rfl rfl)
theorem dJ7_init_2_13 : decode cJ7_init_2 13 = .ok (.putfield 17, 3) := dk_181 0 17 (dk_at dksJ7_init_2_0 13 rfl rfl)
theorem dJ7_init_2_16 : decode cJ7_init_2 16 = .ok (.aload_n 0, 1) := dk_42 (dk_at dksJ7_init_2_0 16 rfl rfl)
theorem dJ7_init_2_17 : decode cJ7_init_2 17 = .ok (.getstatic 20, 3) := dk_178 0 20 (dk_at dksJ7_init_2_0 17 rfl rfl)
theorem dJ7_init_2_20 : decode cJ7_init_2 20 = .ok (.putfield 24, 3) := dk_181 0 24 (dk_at dksJ7_init_2_0 20 rfl rfl)
theorem dJ7_init_2_23 : decode cJ7_init_2 23 = .ok (.iload 4, 2) := dk_21 4 (dk_at dksJ7_init_2_1 0 rfl rfl)
theorem dJ7_init_2_25 : decode cJ7_init_2 25 = .ok (.ifCond .eq 11, 3) := dk_153 0 11 (dk_at dksJ7_init_2_1 2 rfl rfl)
theorem dJ7_init_2_28 : decode cJ7_init_2 28 = .ok (.aload_n 0, 1) := dk_42 (dk_at dksJ7_init_2_1 5 rfl rfl)
theorem dJ7_init_2_29 : decode cJ7_init_2 29 = .ok (.invokevirtual 27, 3) := dk_182 0 27 (dk_at dksJ7_init_2_1 6 rfl rfl)
theorem dJ7_init_2_32 : decode cJ7_init_2 32 = .ok (.pop, 1) := dk_87 (dk_at dksJ7_init_2_1 9 rfl rfl)
theorem dJ7_init_2_33 : decode cJ7_init_2 33 = .ok (.goto 8, 3) := dk_167 0 8 (dk_at dksJ7_init_2_1 10 rfl rfl)
theorem dJ7_init_2_36 : decode cJ7_init_2 36 = .ok (.aload_n 0, 1) := dk_42 (dk_at dksJ7_init_2_1 13 rfl rfl)
theorem dJ7_init_2_37 : decode cJ7_init_2 37 = .ok (.aconst_null, 1) := dk_1 (dk_at dksJ7_init_2_1 14 rfl rfl)
theorem dJ7_init_2_38 : decode cJ7_init_2 38 = .ok (.putfield 17, 3) := dk_181 0 17 (dk_at dksJ7_init_2_1 15 rfl rfl)
theorem dJ7_init_2_41 : decode cJ7_init_2 41 = .ok (.aload_n 0, 1) := dk_42 (dk_at dksJ7_init_2_1 18 rfl rfl)
theorem dJ7_init_2_42 : decode cJ7_init_2 42 = .ok (.aload_n 1, 1) := dk_43 (dk_at dksJ7_init_2_1 19 rfl rfl)
theorem dJ7_init_2_43 : decode cJ7_init_2 43 = .ok (.putfield 31, 3) := dk_181 0 31 (dk_at dksJ7_init_2_1 20 rfl rfl)
theorem dJ7_init_2_46 : decode cJ7_init_2 46 = .ok (.aload_n 0, 1) := dk_42 (dk_at dksJ7_init_2_1 23 rfl rfl)
theorem dJ7_init_2_47 : decode cJ7_init_2 47 = .ok (.aload_n 2, 1) := dk_44 (dk_at dksJ7_init_2_2 0 rfl rfl)
theorem dJ7_init_2_48 : decode cJ7_init_2 48 = .ok (.putfield 7, 3) := dk_181 0 7 (dk_at dksJ7_init_2_2 1 rfl rfl)
theorem dJ7_init_2_51 : decode cJ7_init_2 51 = .ok (.iload_n 3, 1) := dk_29 (dk_at dksJ7_init_2_2 4 rfl rfl)
theorem dJ7_init_2_52 : decode cJ7_init_2 52 = .ok (.ifCond .ne 8, 3) := dk_154 0 8 (dk_at dksJ7_init_2_2 5 rfl rfl)
theorem dJ7_init_2_55 : decode cJ7_init_2 55 = .ok (.aload_n 0, 1) := dk_42 (dk_at dksJ7_init_2_2 8 rfl rfl)
theorem dJ7_init_2_56 : decode cJ7_init_2 56 = .ok (.aconst_null, 1) := dk_1 (dk_at dksJ7_init_2_2 9 rfl rfl)
theorem dJ7_init_2_57 : decode cJ7_init_2 57 = .ok (.putfield 24, 3) := dk_181 0 24 (dk_at dksJ7_init_2_2 10 rfl rfl)
theorem dJ7_init_2_60 : decode cJ7_init_2 60 = .ok (.return_, 1) := dk_177 (dk_at dksJ7_init_2_2 13 rfl rfl)
theorem q133 : (Jvm.Cond.initialized "java/lang/Throwable") ∈ lw_all := lw_g (lw_at lw_m1 15 rfl) rfl
theorem q655 : (Jvm.Cond.declares ({ cls := "java/lang/Throwable", name := "<init>", desc := "()V" } : Jvm.MethodName)) ∈ lw_tbl := lw_at lw_m3 57 rfl
theorem q656 : (Jvm.Cond.declares ({ cls := "java/lang/Throwable", name := "<init>", desc := "(Ljava/lang/String;)V" } : Jvm.MethodName)) ∈ lw_tbl := lw_at lw_m3 58 rfl
theorem q660 : (Jvm.Cond.lays "java/lang/Throwable" "java/lang/Throwable" "cause" "Ljava/lang/Throwable;") ∈ lw_all := lw_g (lw_at lw_m3 62 rfl) rfl
theorem q662 : (Jvm.Cond.lays "java/lang/Throwable" "java/lang/Throwable" "stackTrace" "[Ljava/lang/StackTraceElement;") ∈ lw_all := lw_g (lw_at lw_m3 64 rfl) rfl
theorem q664 : (Jvm.Cond.lays "java/lang/Throwable" "java/lang/Throwable" "suppressedExceptions" "Ljava/util/List;") ∈ lw_all := lw_g (lw_at lw_m3 66 rfl) rfl
theorem q666 : (Jvm.Cond.lays "java/lang/Throwable" "java/lang/Throwable" "detailMessage" "Ljava/lang/String;") ∈ lw_all := lw_g (lw_at lw_m3 68 rfl) rfl
theorem q668 : (Jvm.Cond.lays "java/lang/Throwable" "java/lang/Throwable" "backtrace" "Ljava/lang/Object;") ∈ lw_all := lw_g (lw_at lw_m3 70 rfl) rfl
theorem q669 : (Jvm.Cond.fieldLink "java/lang/Throwable" (198 : Nat) "java/lang/Throwable" "backtrace" "Ljava/lang/Object;") ∈ lw_all := lw_g (lw_at lw_m3 71 rfl) rfl
theorem q670 : (Jvm.Cond.superclass "java/lang/Throwable" "java/lang/Object") ∈ lw_all := lw_g (lw_at lw_m3 72 rfl) rfl
theorem q671 : (Jvm.Cond.instanceMethod ({ cls := "java/lang/Throwable", name := "<init>", desc := "()V" } : Jvm.MethodName)) ∈ lw_all := lw_g (lw_at lw_m3 73 rfl) rfl
theorem q672 : (Jvm.Cond.code ({ cls := "java/lang/Throwable", name := "<init>", desc := "()V" } : Jvm.MethodName) prog_28_method_1_code (1 : Nat) (Option.none : Option Jvm.ClassFile.FieldType)) ∈ lw_all := lw_g (lw_at lw_m3 74 rfl) rfl
theorem q673 : (Jvm.Cond.methodLink "java/lang/Throwable" (1 : Nat) ({ cls := "java/lang/Object", name := "<init>", desc := "()V" } : Jvm.MethodName)) ∈ lw_all := lw_g (lw_at lw_m3 75 rfl) rfl
theorem q674 : (Jvm.Cond.fieldLink "java/lang/Throwable" (13 : Nat) "java/lang/Throwable" "UNASSIGNED_STACK" "[Ljava/lang/StackTraceElement;") ∈ lw_all := lw_g (lw_at lw_m3 76 rfl) rfl
theorem q675 : (Jvm.Cond.laysStatic "java/lang/Throwable" "UNASSIGNED_STACK" "[Ljava/lang/StackTraceElement;") ∈ lw_tbl := lw_at lw_m3 77 rfl
theorem q676 : (Jvm.Cond.fieldLink "java/lang/Throwable" (20 : Nat) "java/lang/Throwable" "SUPPRESSED_SENTINEL" "Ljava/util/List;") ∈ lw_all := lw_g (lw_at lw_m3 78 rfl) rfl
theorem q677 : (Jvm.Cond.laysStatic "java/lang/Throwable" "SUPPRESSED_SENTINEL" "Ljava/util/List;") ∈ lw_tbl := lw_at lw_m3 79 rfl
theorem q678 : (Jvm.Cond.methodLink "java/lang/Throwable" (27 : Nat) ({ cls := "java/lang/Throwable", name := "fillInStackTrace", desc := "()Ljava/lang/Throwable;" } : Jvm.MethodName)) ∈ lw_all := lw_g (lw_at lw_m3 80 rfl) rfl
theorem q679 : (Jvm.Cond.instanceMethod ({ cls := "java/lang/Throwable", name := "fillInStackTrace", desc := "()Ljava/lang/Throwable;" } : Jvm.MethodName)) ∈ lw_all := lw_g (lw_at lw_m3 81 rfl) rfl
theorem q680 : (Jvm.Cond.sameMethod "java/lang/Throwable" "java/lang/Throwable" "fillInStackTrace" "()Ljava/lang/Throwable;") ∈ lw_all := lw_g (lw_at lw_m3 82 rfl) rfl
theorem q681 : (Jvm.Cond.codeSync ({ cls := "java/lang/Throwable", name := "fillInStackTrace", desc := "()Ljava/lang/Throwable;" } : Jvm.MethodName) prog_28_method_18_code (1 : Nat) (Option.some (Jvm.ClassFile.FieldType.object "java/lang/Throwable"))) ∈ lw_all := lw_g (lw_at lw_m3 83 rfl) rfl
theorem q682 : (Jvm.Cond.methodLink "java/lang/Throwable" (202 : Nat) ({ cls := "java/lang/Throwable", name := "fillInStackTrace", desc := "(I)Ljava/lang/Throwable;" } : Jvm.MethodName)) ∈ lw_all := lw_g (lw_at lw_m3 84 rfl) rfl
theorem q683 : (Jvm.Cond.privateMethod ({ cls := "java/lang/Throwable", name := "fillInStackTrace", desc := "(I)Ljava/lang/Throwable;" } : Jvm.MethodName)) ∈ lw_tbl := lw_at lw_m3 85 rfl
theorem q684 : (Jvm.Cond.instanceMethod ({ cls := "java/lang/Throwable", name := "fillInStackTrace", desc := "(I)Ljava/lang/Throwable;" } : Jvm.MethodName)) ∈ lw_all := lw_g (lw_at lw_m3 86 rfl) rfl
theorem q685 : (Jvm.Cond.instantiable "java/lang/Throwable" (6 : Nat)) ∈ lw_all := lw_g (lw_at lw_m3 87 rfl) rfl
theorem q686 : (Jvm.Cond.native ({ cls := "java/lang/Throwable", name := "fillInStackTrace", desc := "(I)Ljava/lang/Throwable;" } : Jvm.MethodName)) ∈ lw_all := lw_g (lw_at lw_m3 88 rfl) rfl
theorem q697 : (Jvm.Cond.instanceMethod ({ cls := "java/lang/Throwable", name := "<init>", desc := "(Ljava/lang/String;Ljava/lang/Throwable;ZZ)V" } : Jvm.MethodName)) ∈ lw_all := lw_g (lw_at lw_m3 99 rfl) rfl
theorem q698 : (Jvm.Cond.code ({ cls := "java/lang/Throwable", name := "<init>", desc := "(Ljava/lang/String;Ljava/lang/Throwable;ZZ)V" } : Jvm.MethodName) prog_28_method_5_code (5 : Nat) (Option.none : Option Jvm.ClassFile.FieldType)) ∈ lw_all := lw_g (lw_at lw_m3 100 rfl) rfl
theorem q703 : (Jvm.Cond.fieldLink "java/lang/Throwable" (198 : Nat) "java/lang/Throwable" "backtrace" "Ljava/lang/Object;") ∈ lw_all := lw_g (lw_at lw_m3 105 rfl) rfl
theorem q704 : (Jvm.Cond.fieldLink "java/lang/Throwable" (31 : Nat) "java/lang/Throwable" "detailMessage" "Ljava/lang/String;") ∈ lw_all := lw_g (lw_at lw_m3 106 rfl) rfl
theorem q705 : (Jvm.Cond.fieldLink "java/lang/Throwable" (7 : Nat) "java/lang/Throwable" "cause" "Ljava/lang/Throwable;") ∈ lw_all := lw_g (lw_at lw_m3 107 rfl) rfl
theorem q706 : (Jvm.Cond.fieldLink "java/lang/Throwable" (17 : Nat) "java/lang/Throwable" "stackTrace" "[Ljava/lang/StackTraceElement;") ∈ lw_all := lw_g (lw_at lw_m3 108 rfl) rfl
theorem q707 : (Jvm.Cond.fieldLink "java/lang/Throwable" (24 : Nat) "java/lang/Throwable" "suppressedExceptions" "Ljava/util/List;") ∈ lw_all := lw_g (lw_at lw_m3 109 rfl) rfl
theorem q712 : (Jvm.Cond.soleField "java/lang/Throwable" "backtrace") ∈ lw_all := lw_g (lw_at lw_m3 114 rfl) rfl
theorem q713 : (Jvm.Cond.soleField "java/lang/Throwable" "detailMessage") ∈ lw_all := lw_g (lw_at lw_m3 115 rfl) rfl
theorem q714 : (Jvm.Cond.soleField "java/lang/Throwable" "cause") ∈ lw_all := lw_g (lw_at lw_m3 116 rfl) rfl
theorem q715 : (Jvm.Cond.soleField "java/lang/Throwable" "stackTrace") ∈ lw_all := lw_g (lw_at lw_m3 117 rfl) rfl
theorem q717 : (Jvm.Cond.soleField "java/lang/Throwable" "depth") ∈ lw_all := lw_g (lw_at lw_m3 119 rfl) rfl
theorem q718 : (Jvm.Cond.soleField "java/lang/Throwable" "suppressedExceptions") ∈ lw_all := lw_g (lw_at lw_m3 120 rfl) rfl
theorem q1953 : (Jvm.Cond.sameMethod "java/lang/Throwable" "java/lang/Throwable" "fillInStackTrace" "(I)Ljava/lang/Throwable;") ∈ lw_all := lw_g (lw_at lw_m8 155 rfl) rfl
theorem q1975 : (Jvm.Cond.castable "java/lang/Throwable" "java/lang/Object") ∈ lw_tbl := lw_at lw_m8 177 rfl
theorem in_J7 : ∀ w ∈ wsJ70, w ∈ lw_all := lw_in wsJ70 [660, 662, 664, 666, 668] (by decide +kernel) (by decide +kernel)

/-! java/lang/Exception -/
set_option maxRecDepth 100000
def RJ8 : String := "java/lang/Exception"
abbrev cJ8_init : ByteArray := prog_19_method_5_code
def yJ8_init : MethodName := ⟨RJ8, "<init>", "(Ljava/lang/String;Ljava/lang/Throwable;ZZ)V"⟩
def dkwJ8_init_0 : List UInt8 := [42, 43, 44, 29, 21, 4, 183, 0, 16, 177]
abbrev dktJ8_init_0 : List UInt8 := dkwJ8_init_0 ++ []
theorem dksJ8_init_0 : cJ8_init.data.toList.drop 0 = dktJ8_init_0 := by decide +kernel
theorem dJ8_init_0 : decode cJ8_init 0 = .ok (.aload_n 0, 1) := dk_42 (dk_at dksJ8_init_0 0 rfl rfl)
theorem dJ8_init_1 : decode cJ8_init 1 = .ok (.aload_n 1, 1) := dk_43 (dk_at dksJ8_init_0 1 rfl rfl)
theorem dJ8_init_2 : decode cJ8_init 2 = .ok (.aload_n 2, 1) := dk_44 (dk_at dksJ8_init_0 2 rfl rfl)
theorem dJ8_init_3 : decode cJ8_init 3 = .ok (.iload_n 3, 1) := dk_29 (dk_at dksJ8_init_0 3 rfl rfl)
theorem dJ8_init_4 : decode cJ8_init 4 = .ok (.iload 4, 2) := dk_21 4 (dk_at dksJ8_init_0 4 rfl rfl)
theorem dJ8_init_6 : decode cJ8_init 6 = .ok (.invokespecial 16, 3) := dk_183 0 16 (dk_at dksJ8_init_0 6 rfl rfl)
theorem dJ8_init_9 : decode cJ8_init 9 = .ok (.return_, 1) := dk_177 (dk_at dksJ8_init_0 9 rfl rfl)
theorem q134 : (Jvm.Cond.initialized "java/lang/Exception") ∈ lw_all := lw_g (lw_at lw_m1 16 rfl) rfl
theorem q653 : (Jvm.Cond.declares ({ cls := "java/lang/Exception", name := "<init>", desc := "()V" } : Jvm.MethodName)) ∈ lw_tbl := lw_at lw_m3 55 rfl
theorem q654 : (Jvm.Cond.declares ({ cls := "java/lang/Exception", name := "<init>", desc := "(Ljava/lang/String;)V" } : Jvm.MethodName)) ∈ lw_tbl := lw_at lw_m3 56 rfl
theorem q694 : (Jvm.Cond.instanceMethod ({ cls := "java/lang/Exception", name := "<init>", desc := "(Ljava/lang/String;Ljava/lang/Throwable;ZZ)V" } : Jvm.MethodName)) ∈ lw_all := lw_g (lw_at lw_m3 96 rfl) rfl
theorem q695 : (Jvm.Cond.code ({ cls := "java/lang/Exception", name := "<init>", desc := "(Ljava/lang/String;Ljava/lang/Throwable;ZZ)V" } : Jvm.MethodName) prog_19_method_5_code (5 : Nat) (Option.none : Option Jvm.ClassFile.FieldType)) ∈ lw_all := lw_g (lw_at lw_m3 97 rfl) rfl
theorem q696 : (Jvm.Cond.methodLink "java/lang/Exception" (16 : Nat) ({ cls := "java/lang/Throwable", name := "<init>", desc := "(Ljava/lang/String;Ljava/lang/Throwable;ZZ)V" } : Jvm.MethodName)) ∈ lw_all := lw_g (lw_at lw_m3 98 rfl) rfl

/-! java/lang/RuntimeException -/
set_option maxRecDepth 100000
def RJ9 : String := "java/lang/RuntimeException"
abbrev cJ9_init : ByteArray := prog_23_method_5_code
def yJ9_init : MethodName := ⟨RJ9, "<init>", "(Ljava/lang/String;Ljava/lang/Throwable;ZZ)V"⟩
def dkwJ9_init_0 : List UInt8 := [42, 43, 44, 29, 21, 4, 183, 0, 16, 177]
abbrev dktJ9_init_0 : List UInt8 := dkwJ9_init_0 ++ []
theorem dksJ9_init_0 : cJ9_init.data.toList.drop 0 = dktJ9_init_0 := by decide +kernel
theorem dJ9_init_0 : decode cJ9_init 0 = .ok (.aload_n 0, 1) := dk_42 (dk_at dksJ9_init_0 0 rfl rfl)
theorem dJ9_init_1 : decode cJ9_init 1 = .ok (.aload_n 1, 1) := dk_43 (dk_at dksJ9_init_0 1 rfl rfl)
theorem dJ9_init_2 : decode cJ9_init 2 = .ok (.aload_n 2, 1) := dk_44 (dk_at dksJ9_init_0 2 rfl rfl)
theorem dJ9_init_3 : decode cJ9_init 3 = .ok (.iload_n 3, 1) := dk_29 (dk_at dksJ9_init_0 3 rfl rfl)
theorem dJ9_init_4 : decode cJ9_init 4 = .ok (.iload 4, 2) := dk_21 4 (dk_at dksJ9_init_0 4 rfl rfl)
theorem dJ9_init_6 : decode cJ9_init 6 = .ok (.invokespecial 16, 3) := dk_183 0 16 (dk_at dksJ9_init_0 6 rfl rfl)
theorem dJ9_init_9 : decode cJ9_init 9 = .ok (.return_, 1) := dk_177 (dk_at dksJ9_init_0 9 rfl rfl)
theorem q135 : (Jvm.Cond.initialized "java/lang/RuntimeException") ∈ lw_all := lw_g (lw_at lw_m1 17 rfl) rfl
theorem q651 : (Jvm.Cond.declares ({ cls := "java/lang/RuntimeException", name := "<init>", desc := "()V" } : Jvm.MethodName)) ∈ lw_tbl := lw_at lw_m3 53 rfl
theorem q652 : (Jvm.Cond.declares ({ cls := "java/lang/RuntimeException", name := "<init>", desc := "(Ljava/lang/String;)V" } : Jvm.MethodName)) ∈ lw_tbl := lw_at lw_m3 54 rfl
theorem q691 : (Jvm.Cond.instanceMethod ({ cls := "java/lang/RuntimeException", name := "<init>", desc := "(Ljava/lang/String;Ljava/lang/Throwable;ZZ)V" } : Jvm.MethodName)) ∈ lw_all := lw_g (lw_at lw_m3 93 rfl) rfl
theorem q692 : (Jvm.Cond.code ({ cls := "java/lang/RuntimeException", name := "<init>", desc := "(Ljava/lang/String;Ljava/lang/Throwable;ZZ)V" } : Jvm.MethodName) prog_23_method_5_code (5 : Nat) (Option.none : Option Jvm.ClassFile.FieldType)) ∈ lw_all := lw_g (lw_at lw_m3 94 rfl) rfl
theorem q693 : (Jvm.Cond.methodLink "java/lang/RuntimeException" (16 : Nat) ({ cls := "java/lang/Exception", name := "<init>", desc := "(Ljava/lang/String;Ljava/lang/Throwable;ZZ)V" } : Jvm.MethodName)) ∈ lw_all := lw_g (lw_at lw_m3 95 rfl) rfl

/-! LadderLots$Orders -/
set_option maxRecDepth 100000
def RX1 : String := "LadderLots$Orders"
def TX1 : u_T := fun k => match k with
  | 0 => ("LadderLots$Orders", "n", "I", false)
  | 1 => ("LadderLots$Orders", "many", "I", false)
  | 2 => ("LadderLots$Orders", "digits", "[B", true)
  | 3 => ("LadderLots$Orders", "swaps", "[S", true)
  | _ => ("LadderLots$Orders", "row", "[B", true)
def tyX1 : Nat → FieldType := fun k => match k with
  | 0 => .int
  | 1 => .int
  | 2 => .array .byte
  | 3 => .array .short
  | _ => .array .byte
abbrev wsX10 : List Cond := u_ws RX1 TX1 5
theorem nmX1 : ∀ a, a < 5 → ∀ b, b < 5 → a ≠ b → (TX1 a).2.1 ≠ (TX1 b).2.1 := by decide +kernel
theorem tyX1_ok : ∀ k, k < 5 → parseFieldDescriptor (TX1 k).2.2.1 = some (tyX1 k) := by decide +kernel
abbrev cX1_of : ByteArray := prog_7_method_2_code
def yX1_of : MethodName := ⟨RX1, "of", "(I)V"⟩
def dkwX1_of_7 : List UInt8 := [167, 255, 225, 132, 2, 1, 167, 255, 209, 177]
abbrev dktX1_of_7 : List UInt8 := dkwX1_of_7 ++ []
def dkwX1_of_6 : List UInt8 := [162, 0, 27, 42, 180, 0, 16, 16, 6, 28, 104, 29, 96, 42, 28, 29, 182, 0, 33, 147, 86, 132, 3, 1]
abbrev dktX1_of_6 : List UInt8 := dkwX1_of_6 ++ dktX1_of_7
def dkwX1_of_5 : List UInt8 := [167, 255, 208, 3, 61, 28, 42, 180, 0, 27, 162, 0, 45, 3, 62, 29, 4, 96, 42, 180, 0, 23]
abbrev dktX1_of_5 : List UInt8 := dkwX1_of_5 ++ dktX1_of_6
def dkwX1_of_4 : List UInt8 := [28, 104, 29, 96, 42, 180, 0, 20, 29, 51, 84, 132, 3, 1, 167, 255, 228, 42, 182, 0, 30, 132, 2, 1]
abbrev dktX1_of_4 : List UInt8 := dkwX1_of_4 ++ dktX1_of_5
def dkwX1_of_3 : List UInt8 := [28, 42, 180, 0, 27, 162, 0, 46, 3, 62, 29, 42, 180, 0, 23, 162, 0, 26, 42, 180, 0, 10, 16, 7]
abbrev dktX1_of_3 : List UInt8 := dkwX1_of_3 ++ dktX1_of_4
def dkwX1_of_2 : List UInt8 := [28, 42, 180, 0, 23, 162, 0, 17, 42, 180, 0, 20, 28, 28, 145, 84, 132, 2, 1, 167, 255, 237, 3, 61]
abbrev dktX1_of_2 : List UInt8 := dkwX1_of_2 ++ dktX1_of_3
def dkwX1_of_1 : List UInt8 := [180, 0, 23, 163, 0, 19, 42, 89, 180, 0, 27, 28, 104, 181, 0, 27, 132, 2, 1, 167, 255, 235, 3, 61]
abbrev dktX1_of_1 : List UInt8 := dkwX1_of_1 ++ dktX1_of_2
def dkwX1_of_0 : List UInt8 := [42, 180, 0, 23, 27, 160, 0, 4, 177, 42, 27, 181, 0, 23, 42, 4, 181, 0, 27, 5, 61, 28, 42]
abbrev dktX1_of_0 : List UInt8 := dkwX1_of_0 ++ dktX1_of_1
theorem dksX1_of_0 : cX1_of.data.toList.drop 0 = dktX1_of_0 := by decide +kernel
theorem dksX1_of_1 : cX1_of.data.toList.drop 23 = dktX1_of_1 := dk_seg dksX1_of_0 23 rfl rfl
theorem dksX1_of_2 : cX1_of.data.toList.drop 47 = dktX1_of_2 := dk_seg dksX1_of_1 24 rfl rfl
theorem dksX1_of_3 : cX1_of.data.toList.drop 71 = dktX1_of_3 := dk_seg dksX1_of_2 24 rfl rfl
theorem dksX1_of_4 : cX1_of.data.toList.drop 95 = dktX1_of_4 := dk_seg dksX1_of_3 24 rfl rfl
theorem dksX1_of_5 : cX1_of.data.toList.drop 119 = dktX1_of_5 := dk_seg dksX1_of_4 24 rfl rfl
theorem dksX1_of_6 : cX1_of.data.toList.drop 141 = dktX1_of_6 := dk_seg dksX1_of_5 22 rfl rfl
theorem dksX1_of_7 : cX1_of.data.toList.drop 165 = dktX1_of_7 := dk_seg dksX1_of_6 24 rfl rfl
theorem dX1_of_0 : decode cX1_of 0 = .ok (.aload_n 0, 1) := dk_42 (dk_at dksX1_of_0 0 rfl rfl)
theorem dX1_of_1 : decode cX1_of 1 = .ok (.getfield 23, 3) := dk_180 0 23 (dk_at dksX1_of_0 1 rfl rfl)
theorem dX1_of_4 : decode cX1_of 4 = .ok (.iload_n 1, 1) := dk_27 (dk_at dksX1_of_0 4 rfl rfl)
theorem dX1_of_5 : decode cX1_of 5 = .ok (.if_icmp .ne 4, 3) := dk_160 0 4 (dk_at dksX1_of_0 5 rfl rfl)
theorem dX1_of_8 : decode cX1_of 8 = .ok (.return_, 1) := dk_177 (dk_at dksX1_of_0 8 rfl rfl)
theorem dX1_of_9 : decode cX1_of 9 = .ok (.aload_n 0, 1) := dk_42 (dk_at dksX1_of_0 9 rfl rfl)
theorem dX1_of_10 : decode cX1_of 10 = .ok (.iload_n 1, 1) := dk_27 (dk_at dksX1_of_0 10 rfl rfl)
theorem dX1_of_11 : decode cX1_of 11 = .ok (.putfield 23, 3) := dk_181 0 23 (dk_at dksX1_of_0 11 rfl rfl)
theorem dX1_of_14 : decode cX1_of 14 = .ok (.aload_n 0, 1) := dk_42 (dk_at dksX1_of_0 14 rfl rfl)
theorem dX1_of_15 : decode cX1_of 15 = .ok (.iconst 1, 1) := dk_4 (dk_at dksX1_of_0 15 rfl rfl)
theorem dX1_of_16 : decode cX1_of 16 = .ok (.putfield 27, 3) := dk_181 0 27 (dk_at dksX1_of_0 16 rfl rfl)
theorem dX1_of_19 : decode cX1_of 19 = .ok (.iconst 2, 1) := dk_5 (dk_at dksX1_of_0 19 rfl rfl)
theorem dX1_of_20 : decode cX1_of 20 = .ok (.istore_n 2, 1) := dk_61 (dk_at dksX1_of_0 20 rfl rfl)
theorem dX1_of_21 : decode cX1_of 21 = .ok (.iload_n 2, 1) := dk_28 (dk_at dksX1_of_0 21 rfl rfl)
theorem dX1_of_22 : decode cX1_of 22 = .ok (.aload_n 0, 1) := dk_42 (dk_at dksX1_of_0 22 rfl rfl)
theorem dX1_of_23 : decode cX1_of 23 = .ok (.getfield 23, 3) := dk_180 0 23 (dk_at dksX1_of_1 0 rfl rfl)
theorem dX1_of_26 : decode cX1_of 26 = .ok (.if_icmp .gt 19, 3) := dk_163 0 19 (dk_at dksX1_of_1 3 rfl rfl)
theorem dX1_of_29 : decode cX1_of 29 = .ok (.aload_n 0, 1) := dk_42 (dk_at dksX1_of_1 6 rfl rfl)
theorem dX1_of_30 : decode cX1_of 30 = .ok (.dup, 1) := dk_89 (dk_at dksX1_of_1 7 rfl rfl)
theorem dX1_of_31 : decode cX1_of 31 = .ok (.getfield 27, 3) := dk_180 0 27 (dk_at dksX1_of_1 8 rfl rfl)
theorem dX1_of_34 : decode cX1_of 34 = .ok (.iload_n 2, 1) := dk_28 (dk_at dksX1_of_1 11 rfl rfl)
theorem dX1_of_35 : decode cX1_of 35 = .ok (.imul, 1) := dk_104 (dk_at dksX1_of_1 12 rfl rfl)
theorem dX1_of_36 : decode cX1_of 36 = .ok (.putfield 27, 3) := dk_181 0 27 (dk_at dksX1_of_1 13 rfl rfl)
theorem dX1_of_39 : decode cX1_of 39 = .ok (.iinc 2 1, 3) := dk_132 2 1 (dk_at dksX1_of_1 16 rfl rfl)
theorem dX1_of_42 : decode cX1_of 42 = .ok (.goto (-21), 3) := dk_167 255 235 (dk_at dksX1_of_1 19 rfl rfl)
theorem dX1_of_45 : decode cX1_of 45 = .ok (.iconst 0, 1) := dk_3 (dk_at dksX1_of_1 22 rfl rfl)
theorem dX1_of_46 : decode cX1_of 46 = .ok (.istore_n 2, 1) := dk_61 (dk_at dksX1_of_1 23 rfl rfl)
theorem dX1_of_47 : decode cX1_of 47 = .ok (.iload_n 2, 1) := dk_28 (dk_at dksX1_of_2 0 rfl rfl)
theorem dX1_of_48 : decode cX1_of 48 = .ok (.aload_n 0, 1) := dk_42 (dk_at dksX1_of_2 1 rfl rfl)
theorem dX1_of_49 : decode cX1_of 49 = .ok (.getfield 23, 3) := dk_180 0 23 (dk_at dksX1_of_2 2 rfl rfl)
theorem dX1_of_52 : decode cX1_of 52 = .ok (.if_icmp .ge 17, 3) := dk_162 0 17 (dk_at dksX1_of_2 5 rfl rfl)
theorem dX1_of_55 : decode cX1_of 55 = .ok (.aload_n 0, 1) := dk_42 (dk_at dksX1_of_2 8 rfl rfl)
theorem dX1_of_56 : decode cX1_of 56 = .ok (.getfield 20, 3) := dk_180 0 20 (dk_at dksX1_of_2 9 rfl rfl)
theorem dX1_of_59 : decode cX1_of 59 = .ok (.iload_n 2, 1) := dk_28 (dk_at dksX1_of_2 12 rfl rfl)
theorem dX1_of_60 : decode cX1_of 60 = .ok (.iload_n 2, 1) := dk_28 (dk_at dksX1_of_2 13 rfl rfl)
theorem dX1_of_61 : decode cX1_of 61 = .ok (.i2b, 1) := dk_145 (dk_at dksX1_of_2 14 rfl rfl)
theorem dX1_of_62 : decode cX1_of 62 = .ok (.bastore, 1) := dk_84 (dk_at dksX1_of_2 15 rfl rfl)
theorem dX1_of_63 : decode cX1_of 63 = .ok (.iinc 2 1, 3) := dk_132 2 1 (dk_at dksX1_of_2 16 rfl rfl)
theorem dX1_of_66 : decode cX1_of 66 = .ok (.goto (-19), 3) := dk_167 255 237 (dk_at dksX1_of_2 19 rfl rfl)
theorem dX1_of_69 : decode cX1_of 69 = .ok (.iconst 0, 1) := dk_3 (dk_at dksX1_of_2 22 rfl rfl)
theorem dX1_of_70 : decode cX1_of 70 = .ok (.istore_n 2, 1) := dk_61 (dk_at dksX1_of_2 23 rfl rfl)
theorem dX1_of_71 : decode cX1_of 71 = .ok (.iload_n 2, 1) := dk_28 (dk_at dksX1_of_3 0 rfl rfl)
theorem dX1_of_72 : decode cX1_of 72 = .ok (.aload_n 0, 1) := dk_42 (dk_at dksX1_of_3 1 rfl rfl)
theorem dX1_of_73 : decode cX1_of 73 = .ok (.getfield 27, 3) := dk_180 0 27 (dk_at dksX1_of_3 2 rfl rfl)
theorem dX1_of_76 : decode cX1_of 76 = .ok (.if_icmp .ge 46, 3) := dk_162 0 46 (dk_at dksX1_of_3 5 rfl rfl)
theorem dX1_of_79 : decode cX1_of 79 = .ok (.iconst 0, 1) := dk_3 (dk_at dksX1_of_3 8 rfl rfl)
theorem dX1_of_80 : decode cX1_of 80 = .ok (.istore_n 3, 1) := dk_62 (dk_at dksX1_of_3 9 rfl rfl)
theorem dX1_of_81 : decode cX1_of 81 = .ok (.iload_n 3, 1) := dk_29 (dk_at dksX1_of_3 10 rfl rfl)
theorem dX1_of_82 : decode cX1_of 82 = .ok (.aload_n 0, 1) := dk_42 (dk_at dksX1_of_3 11 rfl rfl)
theorem dX1_of_83 : decode cX1_of 83 = .ok (.getfield 23, 3) := dk_180 0 23 (dk_at dksX1_of_3 12 rfl rfl)
theorem dX1_of_86 : decode cX1_of 86 = .ok (.if_icmp .ge 26, 3) := dk_162 0 26 (dk_at dksX1_of_3 15 rfl rfl)
theorem dX1_of_89 : decode cX1_of 89 = .ok (.aload_n 0, 1) := dk_42 (dk_at dksX1_of_3 18 rfl rfl)
theorem dX1_of_90 : decode cX1_of 90 = .ok (.getfield 10, 3) := dk_180 0 10 (dk_at dksX1_of_3 19 rfl rfl)
theorem dX1_of_93 : decode cX1_of 93 = .ok (.bipush 7, 2) := dk_16 7 (dk_at dksX1_of_3 22 rfl rfl)
theorem dX1_of_95 : decode cX1_of 95 = .ok (.iload_n 2, 1) := dk_28 (dk_at dksX1_of_4 0 rfl rfl)
theorem dX1_of_96 : decode cX1_of 96 = .ok (.imul, 1) := dk_104 (dk_at dksX1_of_4 1 rfl rfl)
theorem dX1_of_97 : decode cX1_of 97 = .ok (.iload_n 3, 1) := dk_29 (dk_at dksX1_of_4 2 rfl rfl)
theorem dX1_of_98 : decode cX1_of 98 = .ok (.iadd, 1) := dk_96 (dk_at dksX1_of_4 3 rfl rfl)
theorem dX1_of_99 : decode cX1_of 99 = .ok (.aload_n 0, 1) := dk_42 (dk_at dksX1_of_4 4 rfl rfl)
theorem dX1_of_100 : decode cX1_of 100 = .ok (.getfield 20, 3) := dk_180 0 20 (dk_at dksX1_of_4 5 rfl rfl)
theorem dX1_of_103 : decode cX1_of 103 = .ok (.iload_n 3, 1) := dk_29 (dk_at dksX1_of_4 8 rfl rfl)
theorem dX1_of_104 : decode cX1_of 104 = .ok (.baload, 1) := dk_51 (dk_at dksX1_of_4 9 rfl rfl)
theorem dX1_of_105 : decode cX1_of 105 = .ok (.bastore, 1) := dk_84 (dk_at dksX1_of_4 10 rfl rfl)
theorem dX1_of_106 : decode cX1_of 106 = .ok (.iinc 3 1, 3) := dk_132 3 1 (dk_at dksX1_of_4 11 rfl rfl)
theorem dX1_of_109 : decode cX1_of 109 = .ok (.goto (-28), 3) := dk_167 255 228 (dk_at dksX1_of_4 14 rfl rfl)
theorem dX1_of_112 : decode cX1_of 112 = .ok (.aload_n 0, 1) := dk_42 (dk_at dksX1_of_4 17 rfl rfl)
theorem dX1_of_113 : decode cX1_of 113 = .ok (.invokevirtual 30, 3) := dk_182 0 30 (dk_at dksX1_of_4 18 rfl rfl)
theorem dX1_of_116 : decode cX1_of 116 = .ok (.iinc 2 1, 3) := dk_132 2 1 (dk_at dksX1_of_4 21 rfl rfl)
theorem dX1_of_119 : decode cX1_of 119 = .ok (.goto (-48), 3) := dk_167 255 208 (dk_at dksX1_of_5 0 rfl rfl)
theorem dX1_of_122 : decode cX1_of 122 = .ok (.iconst 0, 1) := dk_3 (dk_at dksX1_of_5 3 rfl rfl)
theorem dX1_of_123 : decode cX1_of 123 = .ok (.istore_n 2, 1) := dk_61 (dk_at dksX1_of_5 4 rfl rfl)
theorem dX1_of_124 : decode cX1_of 124 = .ok (.iload_n 2, 1) := dk_28 (dk_at dksX1_of_5 5 rfl rfl)
theorem dX1_of_125 : decode cX1_of 125 = .ok (.aload_n 0, 1) := dk_42 (dk_at dksX1_of_5 6 rfl rfl)
theorem dX1_of_126 : decode cX1_of 126 = .ok (.getfield 27, 3) := dk_180 0 27 (dk_at dksX1_of_5 7 rfl rfl)
theorem dX1_of_129 : decode cX1_of 129 = .ok (.if_icmp .ge 45, 3) := dk_162 0 45 (dk_at dksX1_of_5 10 rfl rfl)
theorem dX1_of_132 : decode cX1_of 132 = .ok (.iconst 0, 1) := dk_3 (dk_at dksX1_of_5 13 rfl rfl)
theorem dX1_of_133 : decode cX1_of 133 = .ok (.istore_n 3, 1) := dk_62 (dk_at dksX1_of_5 14 rfl rfl)
theorem dX1_of_134 : decode cX1_of 134 = .ok (.iload_n 3, 1) := dk_29 (dk_at dksX1_of_5 15 rfl rfl)
theorem dX1_of_135 : decode cX1_of 135 = .ok (.iconst 1, 1) := dk_4 (dk_at dksX1_of_5 16 rfl rfl)
theorem dX1_of_136 : decode cX1_of 136 = .ok (.iadd, 1) := dk_96 (dk_at dksX1_of_5 17 rfl rfl)
theorem dX1_of_137 : decode cX1_of 137 = .ok (.aload_n 0, 1) := dk_42 (dk_at dksX1_of_5 18 rfl rfl)
theorem dX1_of_138 : decode cX1_of 138 = .ok (.getfield 23, 3) := dk_180 0 23 (dk_at dksX1_of_5 19 rfl rfl)
theorem dX1_of_141 : decode cX1_of 141 = .ok (.if_icmp .ge 27, 3) := dk_162 0 27 (dk_at dksX1_of_6 0 rfl rfl)
theorem dX1_of_144 : decode cX1_of 144 = .ok (.aload_n 0, 1) := dk_42 (dk_at dksX1_of_6 3 rfl rfl)
theorem dX1_of_145 : decode cX1_of 145 = .ok (.getfield 16, 3) := dk_180 0 16 (dk_at dksX1_of_6 4 rfl rfl)
theorem dX1_of_148 : decode cX1_of 148 = .ok (.bipush 6, 2) := dk_16 6 (dk_at dksX1_of_6 7 rfl rfl)
theorem dX1_of_150 : decode cX1_of 150 = .ok (.iload_n 2, 1) := dk_28 (dk_at dksX1_of_6 9 rfl rfl)
theorem dX1_of_151 : decode cX1_of 151 = .ok (.imul, 1) := dk_104 (dk_at dksX1_of_6 10 rfl rfl)
theorem dX1_of_152 : decode cX1_of 152 = .ok (.iload_n 3, 1) := dk_29 (dk_at dksX1_of_6 11 rfl rfl)
theorem dX1_of_153 : decode cX1_of 153 = .ok (.iadd, 1) := dk_96 (dk_at dksX1_of_6 12 rfl rfl)
theorem dX1_of_154 : decode cX1_of 154 = .ok (.aload_n 0, 1) := dk_42 (dk_at dksX1_of_6 13 rfl rfl)
theorem dX1_of_155 : decode cX1_of 155 = .ok (.iload_n 2, 1) := dk_28 (dk_at dksX1_of_6 14 rfl rfl)
theorem dX1_of_156 : decode cX1_of 156 = .ok (.iload_n 3, 1) := dk_29 (dk_at dksX1_of_6 15 rfl rfl)
theorem dX1_of_157 : decode cX1_of 157 = .ok (.invokevirtual 33, 3) := dk_182 0 33 (dk_at dksX1_of_6 16 rfl rfl)
theorem dX1_of_160 : decode cX1_of 160 = .ok (.i2s, 1) := dk_147 (dk_at dksX1_of_6 19 rfl rfl)
theorem dX1_of_161 : decode cX1_of 161 = .ok (.sastore, 1) := dk_86 (dk_at dksX1_of_6 20 rfl rfl)
theorem dX1_of_162 : decode cX1_of 162 = .ok (.iinc 3 1, 3) := dk_132 3 1 (dk_at dksX1_of_6 21 rfl rfl)
theorem dX1_of_165 : decode cX1_of 165 = .ok (.goto (-31), 3) := dk_167 255 225 (dk_at dksX1_of_7 0 rfl rfl)
theorem dX1_of_168 : decode cX1_of 168 = .ok (.iinc 2 1, 3) := dk_132 2 1 (dk_at dksX1_of_7 3 rfl rfl)
theorem dX1_of_171 : decode cX1_of 171 = .ok (.goto (-47), 3) := dk_167 255 209 (dk_at dksX1_of_7 6 rfl rfl)
theorem dX1_of_174 : decode cX1_of 174 = .ok (.return_, 1) := dk_177 (dk_at dksX1_of_7 9 rfl rfl)
abbrev cX1_next : ByteArray := prog_7_method_3_code
def yX1_next : MethodName := ⟨RX1, "next", "()V"⟩
def dkwX1_next_4 : List UInt8 := [21, 4, 182, 0, 37, 132, 3, 1, 132, 4, 255, 167, 255, 237, 177]
abbrev dktX1_next_4 : List UInt8 := dkwX1_next_4 ++ []
def dkwX1_next_3 : List UInt8 := [182, 0, 37, 27, 4, 96, 62, 42, 180, 0, 23, 4, 100, 54, 4, 29, 21, 4, 162, 0, 19, 42, 29]
abbrev dktX1_next_3 : List UInt8 := dkwX1_next_3 ++ dktX1_next_4
def dkwX1_next_2 : List UInt8 := [180, 0, 20, 28, 51, 42, 180, 0, 20, 27, 51, 162, 0, 9, 132, 2, 255, 167, 255, 238, 42, 27, 28]
abbrev dktX1_next_2 : List UInt8 := dkwX1_next_2 ++ dktX1_next_3
def dkwX1_next_1 : List UInt8 := [51, 164, 0, 9, 132, 1, 255, 167, 255, 232, 27, 156, 0, 4, 177, 42, 180, 0, 23, 4, 100, 61, 42]
abbrev dktX1_next_1 : List UInt8 := dkwX1_next_1 ++ dktX1_next_2
def dkwX1_next_0 : List UInt8 := [42, 180, 0, 23, 5, 100, 60, 27, 155, 0, 26, 42, 180, 0, 20, 27, 51, 42, 180, 0, 20, 27, 4, 96]
abbrev dktX1_next_0 : List UInt8 := dkwX1_next_0 ++ dktX1_next_1
theorem dksX1_next_0 : cX1_next.data.toList.drop 0 = dktX1_next_0 := by decide +kernel
theorem dksX1_next_1 : cX1_next.data.toList.drop 24 = dktX1_next_1 := dk_seg dksX1_next_0 24 rfl rfl
theorem dksX1_next_2 : cX1_next.data.toList.drop 47 = dktX1_next_2 := dk_seg dksX1_next_1 23 rfl rfl
theorem dksX1_next_3 : cX1_next.data.toList.drop 70 = dktX1_next_3 := dk_seg dksX1_next_2 23 rfl rfl
theorem dksX1_next_4 : cX1_next.data.toList.drop 93 = dktX1_next_4 := dk_seg dksX1_next_3 23 rfl rfl
theorem dX1_next_0 : decode cX1_next 0 = .ok (.aload_n 0, 1) := dk_42 (dk_at dksX1_next_0 0 rfl rfl)
theorem dX1_next_1 : decode cX1_next 1 = .ok (.getfield 23, 3) := dk_180 0 23 (dk_at dksX1_next_0 1 rfl rfl)
theorem dX1_next_4 : decode cX1_next 4 = .ok (.iconst 2, 1) := dk_5 (dk_at dksX1_next_0 4 rfl rfl)
theorem dX1_next_5 : decode cX1_next 5 = .ok (.isub, 1) := dk_100 (dk_at dksX1_next_0 5 rfl rfl)
theorem dX1_next_6 : decode cX1_next 6 = .ok (.istore_n 1, 1) := dk_60 (dk_at dksX1_next_0 6 rfl rfl)
theorem dX1_next_7 : decode cX1_next 7 = .ok (.iload_n 1, 1) := dk_27 (dk_at dksX1_next_0 7 rfl rfl)
theorem dX1_next_8 : decode cX1_next 8 = .ok (.ifCond .lt 26, 3) := dk_155 0 26 (dk_at dksX1_next_0 8 rfl rfl)
theorem dX1_next_11 : decode cX1_next 11 = .ok (.aload_n 0, 1) := dk_42 (dk_at dksX1_next_0 11 rfl rfl)
theorem dX1_next_12 : decode cX1_next 12 = .ok (.getfield 20, 3) := dk_180 0 20 (dk_at dksX1_next_0 12 rfl rfl)
theorem dX1_next_15 : decode cX1_next 15 = .ok (.iload_n 1, 1) := dk_27 (dk_at dksX1_next_0 15 rfl rfl)
theorem dX1_next_16 : decode cX1_next 16 = .ok (.baload, 1) := dk_51 (dk_at dksX1_next_0 16 rfl rfl)
theorem dX1_next_17 : decode cX1_next 17 = .ok (.aload_n 0, 1) := dk_42 (dk_at dksX1_next_0 17 rfl rfl)
theorem dX1_next_18 : decode cX1_next 18 = .ok (.getfield 20, 3) := dk_180 0 20 (dk_at dksX1_next_0 18 rfl rfl)
theorem dX1_next_21 : decode cX1_next 21 = .ok (.iload_n 1, 1) := dk_27 (dk_at dksX1_next_0 21 rfl rfl)
theorem dX1_next_22 : decode cX1_next 22 = .ok (.iconst 1, 1) := dk_4 (dk_at dksX1_next_0 22 rfl rfl)
theorem dX1_next_23 : decode cX1_next 23 = .ok (.iadd, 1) := dk_96 (dk_at dksX1_next_0 23 rfl rfl)
theorem dX1_next_24 : decode cX1_next 24 = .ok (.baload, 1) := dk_51 (dk_at dksX1_next_1 0 rfl rfl)
theorem dX1_next_25 : decode cX1_next 25 = .ok (.if_icmp .le 9, 3) := dk_164 0 9 (dk_at dksX1_next_1 1 rfl rfl)
theorem dX1_next_28 : decode cX1_next 28 = .ok (.iinc 1 (-1), 3) := dk_132 1 255 (dk_at dksX1_next_1 4 rfl rfl)
theorem dX1_next_31 : decode cX1_next 31 = .ok (.goto (-24), 3) := dk_167 255 232 (dk_at dksX1_next_1 7 rfl rfl)
theorem dX1_next_34 : decode cX1_next 34 = .ok (.iload_n 1, 1) := dk_27 (dk_at dksX1_next_1 10 rfl rfl)
theorem dX1_next_35 : decode cX1_next 35 = .ok (.ifCond .ge 4, 3) := dk_156 0 4 (dk_at dksX1_next_1 11 rfl rfl)
theorem dX1_next_38 : decode cX1_next 38 = .ok (.return_, 1) := dk_177 (dk_at dksX1_next_1 14 rfl rfl)
theorem dX1_next_39 : decode cX1_next 39 = .ok (.aload_n 0, 1) := dk_42 (dk_at dksX1_next_1 15 rfl rfl)
theorem dX1_next_40 : decode cX1_next 40 = .ok (.getfield 23, 3) := dk_180 0 23 (dk_at dksX1_next_1 16 rfl rfl)
theorem dX1_next_43 : decode cX1_next 43 = .ok (.iconst 1, 1) := dk_4 (dk_at dksX1_next_1 19 rfl rfl)
theorem dX1_next_44 : decode cX1_next 44 = .ok (.isub, 1) := dk_100 (dk_at dksX1_next_1 20 rfl rfl)
theorem dX1_next_45 : decode cX1_next 45 = .ok (.istore_n 2, 1) := dk_61 (dk_at dksX1_next_1 21 rfl rfl)
theorem dX1_next_46 : decode cX1_next 46 = .ok (.aload_n 0, 1) := dk_42 (dk_at dksX1_next_1 22 rfl rfl)
theorem dX1_next_47 : decode cX1_next 47 = .ok (.getfield 20, 3) := dk_180 0 20 (dk_at dksX1_next_2 0 rfl rfl)
theorem dX1_next_50 : decode cX1_next 50 = .ok (.iload_n 2, 1) := dk_28 (dk_at dksX1_next_2 3 rfl rfl)
theorem dX1_next_51 : decode cX1_next 51 = .ok (.baload, 1) := dk_51 (dk_at dksX1_next_2 4 rfl rfl)
theorem dX1_next_52 : decode cX1_next 52 = .ok (.aload_n 0, 1) := dk_42 (dk_at dksX1_next_2 5 rfl rfl)
theorem dX1_next_53 : decode cX1_next 53 = .ok (.getfield 20, 3) := dk_180 0 20 (dk_at dksX1_next_2 6 rfl rfl)
theorem dX1_next_56 : decode cX1_next 56 = .ok (.iload_n 1, 1) := dk_27 (dk_at dksX1_next_2 9 rfl rfl)
theorem dX1_next_57 : decode cX1_next 57 = .ok (.baload, 1) := dk_51 (dk_at dksX1_next_2 10 rfl rfl)
theorem dX1_next_58 : decode cX1_next 58 = .ok (.if_icmp .ge 9, 3) := dk_162 0 9 (dk_at dksX1_next_2 11 rfl rfl)
theorem dX1_next_61 : decode cX1_next 61 = .ok (.iinc 2 (-1), 3) := dk_132 2 255 (dk_at dksX1_next_2 14 rfl rfl)
theorem dX1_next_64 : decode cX1_next 64 = .ok (.goto (-18), 3) := dk_167 255 238 (dk_at dksX1_next_2 17 rfl rfl)
theorem dX1_next_67 : decode cX1_next 67 = .ok (.aload_n 0, 1) := dk_42 (dk_at dksX1_next_2 20 rfl rfl)
theorem dX1_next_68 : decode cX1_next 68 = .ok (.iload_n 1, 1) := dk_27 (dk_at dksX1_next_2 21 rfl rfl)
theorem dX1_next_69 : decode cX1_next 69 = .ok (.iload_n 2, 1) := dk_28 (dk_at dksX1_next_2 22 rfl rfl)
theorem dX1_next_70 : decode cX1_next 70 = .ok (.invokevirtual 37, 3) := dk_182 0 37 (dk_at dksX1_next_3 0 rfl rfl)
theorem dX1_next_73 : decode cX1_next 73 = .ok (.iload_n 1, 1) := dk_27 (dk_at dksX1_next_3 3 rfl rfl)
theorem dX1_next_74 : decode cX1_next 74 = .ok (.iconst 1, 1) := dk_4 (dk_at dksX1_next_3 4 rfl rfl)
theorem dX1_next_75 : decode cX1_next 75 = .ok (.iadd, 1) := dk_96 (dk_at dksX1_next_3 5 rfl rfl)
theorem dX1_next_76 : decode cX1_next 76 = .ok (.istore_n 3, 1) := dk_62 (dk_at dksX1_next_3 6 rfl rfl)
theorem dX1_next_77 : decode cX1_next 77 = .ok (.aload_n 0, 1) := dk_42 (dk_at dksX1_next_3 7 rfl rfl)
theorem dX1_next_78 : decode cX1_next 78 = .ok (.getfield 23, 3) := dk_180 0 23 (dk_at dksX1_next_3 8 rfl rfl)
theorem dX1_next_81 : decode cX1_next 81 = .ok (.iconst 1, 1) := dk_4 (dk_at dksX1_next_3 11 rfl rfl)
theorem dX1_next_82 : decode cX1_next 82 = .ok (.isub, 1) := dk_100 (dk_at dksX1_next_3 12 rfl rfl)
theorem dX1_next_83 : decode cX1_next 83 = .ok (.istore 4, 2) := dk_54 4 (dk_at dksX1_next_3 13 rfl rfl)
theorem dX1_next_85 : decode cX1_next 85 = .ok (.iload_n 3, 1) := dk_29 (dk_at dksX1_next_3 15 rfl rfl)
theorem dX1_next_86 : decode cX1_next 86 = .ok (.iload 4, 2) := dk_21 4 (dk_at dksX1_next_3 16 rfl rfl)
theorem dX1_next_88 : decode cX1_next 88 = .ok (.if_icmp .ge 19, 3) := dk_162 0 19 (dk_at dksX1_next_3 18 rfl rfl)
theorem dX1_next_91 : decode cX1_next 91 = .ok (.aload_n 0, 1) := dk_42 (dk_at dksX1_next_3 21 rfl rfl)
theorem dX1_next_92 : decode cX1_next 92 = .ok (.iload_n 3, 1) := dk_29 (dk_at dksX1_next_3 22 rfl rfl)
theorem dX1_next_93 : decode cX1_next 93 = .ok (.iload 4, 2) := dk_21 4 (dk_at dksX1_next_4 0 rfl rfl)
theorem dX1_next_95 : decode cX1_next 95 = .ok (.invokevirtual 37, 3) := dk_182 0 37 (dk_at dksX1_next_4 2 rfl rfl)
theorem dX1_next_98 : decode cX1_next 98 = .ok (.iinc 3 1, 3) := dk_132 3 1 (dk_at dksX1_next_4 5 rfl rfl)
theorem dX1_next_101 : decode cX1_next 101 = .ok (.iinc 4 (-1), 3) := dk_132 4 255 (dk_at dksX1_next_4 8 rfl rfl)
theorem dX1_next_104 : decode cX1_next 104 = .ok (.goto (-19), 3) := dk_167 255 237 (dk_at dksX1_next_4 11 rfl rfl)
theorem dX1_next_107 : decode cX1_next 107 = .ok (.return_, 1) := dk_177 (dk_at dksX1_next_4 14 rfl rfl)
abbrev cX1_swap : ByteArray := prog_7_method_4_code
def yX1_swap : MethodName := ⟨RX1, "swap", "(II)V"⟩
def dkwX1_swap_1 : List UInt8 := [29, 84, 177]
abbrev dktX1_swap_1 : List UInt8 := dkwX1_swap_1 ++ []
def dkwX1_swap_0 : List UInt8 := [42, 180, 0, 20, 27, 51, 62, 42, 180, 0, 20, 27, 42, 180, 0, 20, 28, 51, 84, 42, 180, 0, 20, 28]
abbrev dktX1_swap_0 : List UInt8 := dkwX1_swap_0 ++ dktX1_swap_1
theorem dksX1_swap_0 : cX1_swap.data.toList.drop 0 = dktX1_swap_0 := by decide +kernel
theorem dksX1_swap_1 : cX1_swap.data.toList.drop 24 = dktX1_swap_1 := dk_seg dksX1_swap_0 24 rfl rfl
theorem dX1_swap_0 : decode cX1_swap 0 = .ok (.aload_n 0, 1) := dk_42 (dk_at dksX1_swap_0 0 rfl rfl)
theorem dX1_swap_1 : decode cX1_swap 1 = .ok (.getfield 20, 3) := dk_180 0 20 (dk_at dksX1_swap_0 1 rfl rfl)
theorem dX1_swap_4 : decode cX1_swap 4 = .ok (.iload_n 1, 1) := dk_27 (dk_at dksX1_swap_0 4 rfl rfl)
theorem dX1_swap_5 : decode cX1_swap 5 = .ok (.baload, 1) := dk_51 (dk_at dksX1_swap_0 5 rfl rfl)
theorem dX1_swap_6 : decode cX1_swap 6 = .ok (.istore_n 3, 1) := dk_62 (dk_at dksX1_swap_0 6 rfl rfl)
theorem dX1_swap_7 : decode cX1_swap 7 = .ok (.aload_n 0, 1) := dk_42 (dk_at dksX1_swap_0 7 rfl rfl)
theorem dX1_swap_8 : decode cX1_swap 8 = .ok (.getfield 20, 3) := dk_180 0 20 (dk_at dksX1_swap_0 8 rfl rfl)
theorem dX1_swap_11 : decode cX1_swap 11 = .ok (.iload_n 1, 1) := dk_27 (dk_at dksX1_swap_0 11 rfl rfl)
theorem dX1_swap_12 : decode cX1_swap 12 = .ok (.aload_n 0, 1) := dk_42 (dk_at dksX1_swap_0 12 rfl rfl)
theorem dX1_swap_13 : decode cX1_swap 13 = .ok (.getfield 20, 3) := dk_180 0 20 (dk_at dksX1_swap_0 13 rfl rfl)
theorem dX1_swap_16 : decode cX1_swap 16 = .ok (.iload_n 2, 1) := dk_28 (dk_at dksX1_swap_0 16 rfl rfl)
theorem dX1_swap_17 : decode cX1_swap 17 = .ok (.baload, 1) := dk_51 (dk_at dksX1_swap_0 17 rfl rfl)
theorem dX1_swap_18 : decode cX1_swap 18 = .ok (.bastore, 1) := dk_84 (dk_at dksX1_swap_0 18 rfl rfl)
theorem dX1_swap_19 : decode cX1_swap 19 = .ok (.aload_n 0, 1) := dk_42 (dk_at dksX1_swap_0 19 rfl rfl)
theorem dX1_swap_20 : decode cX1_swap 20 = .ok (.getfield 20, 3) := dk_180 0 20 (dk_at dksX1_swap_0 20 rfl rfl)
theorem dX1_swap_23 : decode cX1_swap 23 = .ok (.iload_n 2, 1) := dk_28 (dk_at dksX1_swap_0 23 rfl rfl)
theorem dX1_swap_24 : decode cX1_swap 24 = .ok (.iload_n 3, 1) := dk_29 (dk_at dksX1_swap_1 0 rfl rfl)
theorem dX1_swap_25 : decode cX1_swap 25 = .ok (.bastore, 1) := dk_84 (dk_at dksX1_swap_1 1 rfl rfl)
theorem dX1_swap_26 : decode cX1_swap 26 = .ok (.return_, 1) := dk_177 (dk_at dksX1_swap_1 2 rfl rfl)
abbrev cX1_swapped : ByteArray := prog_7_method_5_code
def yX1_swapped : MethodName := ⟨RX1, "swapped", "(II)I"⟩
def dkwX1_swapped_1 : List UInt8 := [96, 51, 84, 132, 3, 1, 167, 255, 228, 42, 28, 28, 4, 96, 182, 0, 37, 42, 182, 0, 41, 172]
abbrev dktX1_swapped_1 : List UInt8 := dkwX1_swapped_1 ++ []
def dkwX1_swapped_0 : List UInt8 := [3, 62, 29, 42, 180, 0, 23, 162, 0, 26, 42, 180, 0, 20, 29, 42, 180, 0, 10, 16, 7, 27, 104, 29]
abbrev dktX1_swapped_0 : List UInt8 := dkwX1_swapped_0 ++ dktX1_swapped_1
theorem dksX1_swapped_0 : cX1_swapped.data.toList.drop 0 = dktX1_swapped_0 := by decide +kernel
theorem dksX1_swapped_1 : cX1_swapped.data.toList.drop 24 = dktX1_swapped_1 := dk_seg dksX1_swapped_0 24 rfl rfl
theorem dX1_swapped_0 : decode cX1_swapped 0 = .ok (.iconst 0, 1) := dk_3 (dk_at dksX1_swapped_0 0 rfl rfl)
theorem dX1_swapped_1 : decode cX1_swapped 1 = .ok (.istore_n 3, 1) := dk_62 (dk_at dksX1_swapped_0 1 rfl rfl)
theorem dX1_swapped_2 : decode cX1_swapped 2 = .ok (.iload_n 3, 1) := dk_29 (dk_at dksX1_swapped_0 2 rfl rfl)
theorem dX1_swapped_3 : decode cX1_swapped 3 = .ok (.aload_n 0, 1) := dk_42 (dk_at dksX1_swapped_0 3 rfl rfl)
theorem dX1_swapped_4 : decode cX1_swapped 4 = .ok (.getfield 23, 3) := dk_180 0 23 (dk_at dksX1_swapped_0 4 rfl rfl)
theorem dX1_swapped_7 : decode cX1_swapped 7 = .ok (.if_icmp .ge 26, 3) := dk_162 0 26 (dk_at dksX1_swapped_0 7 rfl rfl)
theorem dX1_swapped_10 : decode cX1_swapped 10 = .ok (.aload_n 0, 1) := dk_42 (dk_at dksX1_swapped_0 10 rfl rfl)
theorem dX1_swapped_11 : decode cX1_swapped 11 = .ok (.getfield 20, 3) := dk_180 0 20 (dk_at dksX1_swapped_0 11 rfl rfl)
theorem dX1_swapped_14 : decode cX1_swapped 14 = .ok (.iload_n 3, 1) := dk_29 (dk_at dksX1_swapped_0 14 rfl rfl)
theorem dX1_swapped_15 : decode cX1_swapped 15 = .ok (.aload_n 0, 1) := dk_42 (dk_at dksX1_swapped_0 15 rfl rfl)
theorem dX1_swapped_16 : decode cX1_swapped 16 = .ok (.getfield 10, 3) := dk_180 0 10 (dk_at dksX1_swapped_0 16 rfl rfl)
theorem dX1_swapped_19 : decode cX1_swapped 19 = .ok (.bipush 7, 2) := dk_16 7 (dk_at dksX1_swapped_0 19 rfl rfl)
theorem dX1_swapped_21 : decode cX1_swapped 21 = .ok (.iload_n 1, 1) := dk_27 (dk_at dksX1_swapped_0 21 rfl rfl)
theorem dX1_swapped_22 : decode cX1_swapped 22 = .ok (.imul, 1) := dk_104 (dk_at dksX1_swapped_0 22 rfl rfl)
theorem dX1_swapped_23 : decode cX1_swapped 23 = .ok (.iload_n 3, 1) := dk_29 (dk_at dksX1_swapped_0 23 rfl rfl)
theorem dX1_swapped_24 : decode cX1_swapped 24 = .ok (.iadd, 1) := dk_96 (dk_at dksX1_swapped_1 0 rfl rfl)
theorem dX1_swapped_25 : decode cX1_swapped 25 = .ok (.baload, 1) := dk_51 (dk_at dksX1_swapped_1 1 rfl rfl)
theorem dX1_swapped_26 : decode cX1_swapped 26 = .ok (.bastore, 1) := dk_84 (dk_at dksX1_swapped_1 2 rfl rfl)
theorem dX1_swapped_27 : decode cX1_swapped 27 = .ok (.iinc 3 1, 3) := dk_132 3 1 (dk_at dksX1_swapped_1 3 rfl rfl)
theorem dX1_swapped_30 : decode cX1_swapped 30 = .ok (.goto (-28), 3) := dk_167 255 228 (dk_at dksX1_swapped_1 6 rfl rfl)
theorem dX1_swapped_33 : decode cX1_swapped 33 = .ok (.aload_n 0, 1) := dk_42 (dk_at dksX1_swapped_1 9 rfl rfl)
theorem dX1_swapped_34 : decode cX1_swapped 34 = .ok (.iload_n 2, 1) := dk_28 (dk_at dksX1_swapped_1 10 rfl rfl)
theorem dX1_swapped_35 : decode cX1_swapped 35 = .ok (.iload_n 2, 1) := dk_28 (dk_at dksX1_swapped_1 11 rfl rfl)
theorem dX1_swapped_36 : decode cX1_swapped 36 = .ok (.iconst 1, 1) := dk_4 (dk_at dksX1_swapped_1 12 rfl rfl)
theorem dX1_swapped_37 : decode cX1_swapped 37 = .ok (.iadd, 1) := dk_96 (dk_at dksX1_swapped_1 13 rfl rfl)
theorem dX1_swapped_38 : decode cX1_swapped 38 = .ok (.invokevirtual 37, 3) := dk_182 0 37 (dk_at dksX1_swapped_1 14 rfl rfl)
theorem dX1_swapped_41 : decode cX1_swapped 41 = .ok (.aload_n 0, 1) := dk_42 (dk_at dksX1_swapped_1 17 rfl rfl)
theorem dX1_swapped_42 : decode cX1_swapped 42 = .ok (.invokevirtual 41, 3) := dk_182 0 41 (dk_at dksX1_swapped_1 18 rfl rfl)
theorem dX1_swapped_45 : decode cX1_swapped 45 = .ok (.ireturn, 1) := dk_172 (dk_at dksX1_swapped_1 21 rfl rfl)
abbrev cX1_number : ByteArray := prog_7_method_6_code
def yX1_number : MethodName := ⟨RX1, "number", "()I"⟩
def dkwX1_number_3 : List UInt8 := [167, 255, 193, 27, 172]
abbrev dktX1_number_3 : List UInt8 := dkwX1_number_3 ++ []
def dkwX1_number_2 : List UInt8 := [132, 3, 1, 132, 4, 1, 167, 255, 225, 27, 42, 180, 0, 23, 28, 100, 104, 29, 96, 60, 132, 2, 1]
abbrev dktX1_number_2 : List UInt8 := dkwX1_number_2 ++ dktX1_number_3
def dkwX1_number_1 : List UInt8 := [180, 0, 23, 162, 0, 28, 42, 180, 0, 20, 21, 4, 51, 42, 180, 0, 20, 28, 51, 162, 0, 6]
abbrev dktX1_number_1 : List UInt8 := dkwX1_number_1 ++ dktX1_number_2
def dkwX1_number_0 : List UInt8 := [3, 60, 3, 61, 28, 42, 180, 0, 23, 162, 0, 61, 3, 62, 28, 4, 96, 54, 4, 21, 4, 42]
abbrev dktX1_number_0 : List UInt8 := dkwX1_number_0 ++ dktX1_number_1
theorem dksX1_number_0 : cX1_number.data.toList.drop 0 = dktX1_number_0 := by decide +kernel
theorem dksX1_number_1 : cX1_number.data.toList.drop 22 = dktX1_number_1 := dk_seg dksX1_number_0 22 rfl rfl
theorem dksX1_number_2 : cX1_number.data.toList.drop 44 = dktX1_number_2 := dk_seg dksX1_number_1 22 rfl rfl
theorem dksX1_number_3 : cX1_number.data.toList.drop 67 = dktX1_number_3 := dk_seg dksX1_number_2 23 rfl rfl
theorem dX1_number_0 : decode cX1_number 0 = .ok (.iconst 0, 1) := dk_3 (dk_at dksX1_number_0 0 rfl rfl)
theorem dX1_number_1 : decode cX1_number 1 = .ok (.istore_n 1, 1) := dk_60 (dk_at dksX1_number_0 1 rfl rfl)
theorem dX1_number_2 : decode cX1_number 2 = .ok (.iconst 0, 1) := dk_3 (dk_at dksX1_number_0 2 rfl rfl)
theorem dX1_number_3 : decode cX1_number 3 = .ok (.istore_n 2, 1) := dk_61 (dk_at dksX1_number_0 3 rfl rfl)
theorem dX1_number_4 : decode cX1_number 4 = .ok (.iload_n 2, 1) := dk_28 (dk_at dksX1_number_0 4 rfl rfl)
theorem dX1_number_5 : decode cX1_number 5 = .ok (.aload_n 0, 1) := dk_42 (dk_at dksX1_number_0 5 rfl rfl)
theorem dX1_number_6 : decode cX1_number 6 = .ok (.getfield 23, 3) := dk_180 0 23 (dk_at dksX1_number_0 6 rfl rfl)
theorem dX1_number_9 : decode cX1_number 9 = .ok (.if_icmp .ge 61, 3) := dk_162 0 61 (dk_at dksX1_number_0 9 rfl rfl)
theorem dX1_number_12 : decode cX1_number 12 = .ok (.iconst 0, 1) := dk_3 (dk_at dksX1_number_0 12 rfl rfl)
theorem dX1_number_13 : decode cX1_number 13 = .ok (.istore_n 3, 1) := dk_62 (dk_at dksX1_number_0 13 rfl rfl)
theorem dX1_number_14 : decode cX1_number 14 = .ok (.iload_n 2, 1) := dk_28 (dk_at dksX1_number_0 14 rfl rfl)
theorem dX1_number_15 : decode cX1_number 15 = .ok (.iconst 1, 1) := dk_4 (dk_at dksX1_number_0 15 rfl rfl)
theorem dX1_number_16 : decode cX1_number 16 = .ok (.iadd, 1) := dk_96 (dk_at dksX1_number_0 16 rfl rfl)
theorem dX1_number_17 : decode cX1_number 17 = .ok (.istore 4, 2) := dk_54 4 (dk_at dksX1_number_0 17 rfl rfl)
theorem dX1_number_19 : decode cX1_number 19 = .ok (.iload 4, 2) := dk_21 4 (dk_at dksX1_number_0 19 rfl rfl)
theorem dX1_number_21 : decode cX1_number 21 = .ok (.aload_n 0, 1) := dk_42 (dk_at dksX1_number_0 21 rfl rfl)
theorem dX1_number_22 : decode cX1_number 22 = .ok (.getfield 23, 3) := dk_180 0 23 (dk_at dksX1_number_1 0 rfl rfl)
theorem dX1_number_25 : decode cX1_number 25 = .ok (.if_icmp .ge 28, 3) := dk_162 0 28 (dk_at dksX1_number_1 3 rfl rfl)
theorem dX1_number_28 : decode cX1_number 28 = .ok (.aload_n 0, 1) := dk_42 (dk_at dksX1_number_1 6 rfl rfl)
theorem dX1_number_29 : decode cX1_number 29 = .ok (.getfield 20, 3) := dk_180 0 20 (dk_at dksX1_number_1 7 rfl rfl)
theorem dX1_number_32 : decode cX1_number 32 = .ok (.iload 4, 2) := dk_21 4 (dk_at dksX1_number_1 10 rfl rfl)
theorem dX1_number_34 : decode cX1_number 34 = .ok (.baload, 1) := dk_51 (dk_at dksX1_number_1 12 rfl rfl)
theorem dX1_number_35 : decode cX1_number 35 = .ok (.aload_n 0, 1) := dk_42 (dk_at dksX1_number_1 13 rfl rfl)
theorem dX1_number_36 : decode cX1_number 36 = .ok (.getfield 20, 3) := dk_180 0 20 (dk_at dksX1_number_1 14 rfl rfl)
theorem dX1_number_39 : decode cX1_number 39 = .ok (.iload_n 2, 1) := dk_28 (dk_at dksX1_number_1 17 rfl rfl)
theorem dX1_number_40 : decode cX1_number 40 = .ok (.baload, 1) := dk_51 (dk_at dksX1_number_1 18 rfl rfl)
theorem dX1_number_41 : decode cX1_number 41 = .ok (.if_icmp .ge 6, 3) := dk_162 0 6 (dk_at dksX1_number_1 19 rfl rfl)
theorem dX1_number_44 : decode cX1_number 44 = .ok (.iinc 3 1, 3) := dk_132 3 1 (dk_at dksX1_number_2 0 rfl rfl)
theorem dX1_number_47 : decode cX1_number 47 = .ok (.iinc 4 1, 3) := dk_132 4 1 (dk_at dksX1_number_2 3 rfl rfl)
theorem dX1_number_50 : decode cX1_number 50 = .ok (.goto (-31), 3) := dk_167 255 225 (dk_at dksX1_number_2 6 rfl rfl)
theorem dX1_number_53 : decode cX1_number 53 = .ok (.iload_n 1, 1) := dk_27 (dk_at dksX1_number_2 9 rfl rfl)
theorem dX1_number_54 : decode cX1_number 54 = .ok (.aload_n 0, 1) := dk_42 (dk_at dksX1_number_2 10 rfl rfl)
theorem dX1_number_55 : decode cX1_number 55 = .ok (.getfield 23, 3) := dk_180 0 23 (dk_at dksX1_number_2 11 rfl rfl)
theorem dX1_number_58 : decode cX1_number 58 = .ok (.iload_n 2, 1) := dk_28 (dk_at dksX1_number_2 14 rfl rfl)
theorem dX1_number_59 : decode cX1_number 59 = .ok (.isub, 1) := dk_100 (dk_at dksX1_number_2 15 rfl rfl)
theorem dX1_number_60 : decode cX1_number 60 = .ok (.imul, 1) := dk_104 (dk_at dksX1_number_2 16 rfl rfl)
theorem dX1_number_61 : decode cX1_number 61 = .ok (.iload_n 3, 1) := dk_29 (dk_at dksX1_number_2 17 rfl rfl)
theorem dX1_number_62 : decode cX1_number 62 = .ok (.iadd, 1) := dk_96 (dk_at dksX1_number_2 18 rfl rfl)
theorem dX1_number_63 : decode cX1_number 63 = .ok (.istore_n 1, 1) := dk_60 (dk_at dksX1_number_2 19 rfl rfl)
theorem dX1_number_64 : decode cX1_number 64 = .ok (.iinc 2 1, 3) := dk_132 2 1 (dk_at dksX1_number_2 20 rfl rfl)
theorem dX1_number_67 : decode cX1_number 67 = .ok (.goto (-63), 3) := dk_167 255 193 (dk_at dksX1_number_3 0 rfl rfl)
theorem dX1_number_70 : decode cX1_number 70 = .ok (.iload_n 1, 1) := dk_27 (dk_at dksX1_number_3 3 rfl rfl)
theorem dX1_number_71 : decode cX1_number 71 = .ok (.ireturn, 1) := dk_172 (dk_at dksX1_number_3 4 rfl rfl)
abbrev cX1_digit : ByteArray := prog_7_method_7_code
def yX1_digit : MethodName := ⟨RX1, "digit", "(II)I"⟩
def dkwX1_digit_0 : List UInt8 := [42, 180, 0, 10, 16, 7, 27, 104, 28, 96, 51, 172]
abbrev dktX1_digit_0 : List UInt8 := dkwX1_digit_0 ++ []
theorem dksX1_digit_0 : cX1_digit.data.toList.drop 0 = dktX1_digit_0 := by decide +kernel
theorem dX1_digit_0 : decode cX1_digit 0 = .ok (.aload_n 0, 1) := dk_42 (dk_at dksX1_digit_0 0 rfl rfl)
theorem dX1_digit_1 : decode cX1_digit 1 = .ok (.getfield 10, 3) := dk_180 0 10 (dk_at dksX1_digit_0 1 rfl rfl)
theorem dX1_digit_4 : decode cX1_digit 4 = .ok (.bipush 7, 2) := dk_16 7 (dk_at dksX1_digit_0 4 rfl rfl)
theorem dX1_digit_6 : decode cX1_digit 6 = .ok (.iload_n 1, 1) := dk_27 (dk_at dksX1_digit_0 6 rfl rfl)
theorem dX1_digit_7 : decode cX1_digit 7 = .ok (.imul, 1) := dk_104 (dk_at dksX1_digit_0 7 rfl rfl)
theorem dX1_digit_8 : decode cX1_digit 8 = .ok (.iload_n 2, 1) := dk_28 (dk_at dksX1_digit_0 8 rfl rfl)
theorem dX1_digit_9 : decode cX1_digit 9 = .ok (.iadd, 1) := dk_96 (dk_at dksX1_digit_0 9 rfl rfl)
theorem dX1_digit_10 : decode cX1_digit 10 = .ok (.baload, 1) := dk_51 (dk_at dksX1_digit_0 10 rfl rfl)
theorem dX1_digit_11 : decode cX1_digit 11 = .ok (.ireturn, 1) := dk_172 (dk_at dksX1_digit_0 11 rfl rfl)
abbrev cX1_inversions : ByteArray := prog_7_method_10_code
def yX1_inversions : MethodName := ⟨RX1, "inversions", "(I)I"⟩
def dkwX1_inversions_2 : List UInt8 := [132, 4, 1, 167, 255, 225, 132, 3, 1, 167, 255, 206, 28, 172]
abbrev dktX1_inversions_2 : List UInt8 := dkwX1_inversions_2 ++ []
def dkwX1_inversions_1 : List UInt8 := [162, 0, 28, 42, 27, 21, 4, 182, 0, 45, 42, 27, 29, 182, 0, 45, 162, 0, 6, 132, 2, 1]
abbrev dktX1_inversions_1 : List UInt8 := dkwX1_inversions_1 ++ dktX1_inversions_2
def dkwX1_inversions_0 : List UInt8 := [3, 61, 3, 62, 29, 42, 180, 0, 23, 162, 0, 48, 29, 4, 96, 54, 4, 21, 4, 42, 180, 0, 23]
abbrev dktX1_inversions_0 : List UInt8 := dkwX1_inversions_0 ++ dktX1_inversions_1
theorem dksX1_inversions_0 : cX1_inversions.data.toList.drop 0 = dktX1_inversions_0 := by decide +kernel
theorem dksX1_inversions_1 : cX1_inversions.data.toList.drop 23 = dktX1_inversions_1 := dk_seg dksX1_inversions_0 23 rfl rfl
theorem dksX1_inversions_2 : cX1_inversions.data.toList.drop 45 = dktX1_inversions_2 := dk_seg dksX1_inversions_1 22 rfl rfl
theorem dX1_inversions_0 : decode cX1_inversions 0 = .ok (.iconst 0, 1) := dk_3 (dk_at dksX1_inversions_0 0 rfl rfl)
theorem dX1_inversions_1 : decode cX1_inversions 1 = .ok (.istore_n 2, 1) := dk_61 (dk_at dksX1_inversions_0 1 rfl rfl)
theorem dX1_inversions_2 : decode cX1_inversions 2 = .ok (.iconst 0, 1) := dk_3 (dk_at dksX1_inversions_0 2 rfl rfl)
theorem dX1_inversions_3 : decode cX1_inversions 3 = .ok (.istore_n 3, 1) := dk_62 (dk_at dksX1_inversions_0 3 rfl rfl)
theorem dX1_inversions_4 : decode cX1_inversions 4 = .ok (.iload_n 3, 1) := dk_29 (dk_at dksX1_inversions_0 4 rfl rfl)
theorem dX1_inversions_5 : decode cX1_inversions 5 = .ok (.aload_n 0, 1) := dk_42 (dk_at dksX1_inversions_0 5 rfl rfl)
theorem dX1_inversions_6 : decode cX1_inversions 6 = .ok (.getfield 23, 3) := dk_180 0 23 (dk_at dksX1_inversions_0 6 rfl rfl)
theorem dX1_inversions_9 : decode cX1_inversions 9 = .ok (.if_icmp .ge 48, 3) := dk_162 0 48 (dk_at dksX1_inversions_0 9 rfl rfl)
theorem dX1_inversions_12 : decode cX1_inversions 12 = .ok (.iload_n 3, 1) := dk_29 (dk_at dksX1_inversions_0 12 rfl rfl)
theorem dX1_inversions_13 : decode cX1_inversions 13 = .ok (.iconst 1, 1) := dk_4 (dk_at dksX1_inversions_0 13 rfl rfl)
theorem dX1_inversions_14 : decode cX1_inversions 14 = .ok (.iadd, 1) := dk_96 (dk_at dksX1_inversions_0 14 rfl rfl)
theorem dX1_inversions_15 : decode cX1_inversions 15 = .ok (.istore 4, 2) := dk_54 4 (dk_at dksX1_inversions_0 15 rfl rfl)
theorem dX1_inversions_17 : decode cX1_inversions 17 = .ok (.iload 4, 2) := dk_21 4 (dk_at dksX1_inversions_0 17 rfl rfl)
theorem dX1_inversions_19 : decode cX1_inversions 19 = .ok (.aload_n 0, 1) := dk_42 (dk_at dksX1_inversions_0 19 rfl rfl)
theorem dX1_inversions_20 : decode cX1_inversions 20 = .ok (.getfield 23, 3) := dk_180 0 23 (dk_at dksX1_inversions_0 20 rfl rfl)
theorem dX1_inversions_23 : decode cX1_inversions 23 = .ok (.if_icmp .ge 28, 3) := dk_162 0 28 (dk_at dksX1_inversions_1 0 rfl rfl)
theorem dX1_inversions_26 : decode cX1_inversions 26 = .ok (.aload_n 0, 1) := dk_42 (dk_at dksX1_inversions_1 3 rfl rfl)
theorem dX1_inversions_27 : decode cX1_inversions 27 = .ok (.iload_n 1, 1) := dk_27 (dk_at dksX1_inversions_1 4 rfl rfl)
theorem dX1_inversions_28 : decode cX1_inversions 28 = .ok (.iload 4, 2) := dk_21 4 (dk_at dksX1_inversions_1 5 rfl rfl)
theorem dX1_inversions_30 : decode cX1_inversions 30 = .ok (.invokevirtual 45, 3) := dk_182 0 45 (dk_at dksX1_inversions_1 7 rfl rfl)
theorem dX1_inversions_33 : decode cX1_inversions 33 = .ok (.aload_n 0, 1) := dk_42 (dk_at dksX1_inversions_1 10 rfl rfl)
theorem dX1_inversions_34 : decode cX1_inversions 34 = .ok (.iload_n 1, 1) := dk_27 (dk_at dksX1_inversions_1 11 rfl rfl)
theorem dX1_inversions_35 : decode cX1_inversions 35 = .ok (.iload_n 3, 1) := dk_29 (dk_at dksX1_inversions_1 12 rfl rfl)
theorem dX1_inversions_36 : decode cX1_inversions 36 = .ok (.invokevirtual 45, 3) := dk_182 0 45 (dk_at dksX1_inversions_1 13 rfl rfl)
theorem dX1_inversions_39 : decode cX1_inversions 39 = .ok (.if_icmp .ge 6, 3) := dk_162 0 6 (dk_at dksX1_inversions_1 16 rfl rfl)
theorem dX1_inversions_42 : decode cX1_inversions 42 = .ok (.iinc 2 1, 3) := dk_132 2 1 (dk_at dksX1_inversions_1 19 rfl rfl)
theorem dX1_inversions_45 : decode cX1_inversions 45 = .ok (.iinc 4 1, 3) := dk_132 4 1 (dk_at dksX1_inversions_2 0 rfl rfl)
theorem dX1_inversions_48 : decode cX1_inversions 48 = .ok (.goto (-31), 3) := dk_167 255 225 (dk_at dksX1_inversions_2 3 rfl rfl)
theorem dX1_inversions_51 : decode cX1_inversions 51 = .ok (.iinc 3 1, 3) := dk_132 3 1 (dk_at dksX1_inversions_2 6 rfl rfl)
theorem dX1_inversions_54 : decode cX1_inversions 54 = .ok (.goto (-50), 3) := dk_167 255 206 (dk_at dksX1_inversions_2 9 rfl rfl)
theorem dX1_inversions_57 : decode cX1_inversions 57 = .ok (.iload_n 2, 1) := dk_28 (dk_at dksX1_inversions_2 12 rfl rfl)
theorem dX1_inversions_58 : decode cX1_inversions 58 = .ok (.ireturn, 1) := dk_172 (dk_at dksX1_inversions_2 13 rfl rfl)
abbrev cX1_canBegin : ByteArray := prog_7_method_12_code
def yX1_canBegin : MethodName := ⟨RX1, "canBegin", "(II)Z"⟩
def dkwX1_canBegin_0 : List UInt8 := [42, 27, 28, 4, 96, 182, 0, 48, 42, 27, 28, 182, 0, 48, 162, 0, 7, 4, 167, 0, 4, 3, 172]
abbrev dktX1_canBegin_0 : List UInt8 := dkwX1_canBegin_0 ++ []
theorem dksX1_canBegin_0 : cX1_canBegin.data.toList.drop 0 = dktX1_canBegin_0 := by decide +kernel
theorem dX1_canBegin_0 : decode cX1_canBegin 0 = .ok (.aload_n 0, 1) := dk_42 (dk_at dksX1_canBegin_0 0 rfl rfl)
theorem dX1_canBegin_1 : decode cX1_canBegin 1 = .ok (.iload_n 1, 1) := dk_27 (dk_at dksX1_canBegin_0 1 rfl rfl)
theorem dX1_canBegin_2 : decode cX1_canBegin 2 = .ok (.iload_n 2, 1) := dk_28 (dk_at dksX1_canBegin_0 2 rfl rfl)
theorem dX1_canBegin_3 : decode cX1_canBegin 3 = .ok (.iconst 1, 1) := dk_4 (dk_at dksX1_canBegin_0 3 rfl rfl)
theorem dX1_canBegin_4 : decode cX1_canBegin 4 = .ok (.iadd, 1) := dk_96 (dk_at dksX1_canBegin_0 4 rfl rfl)
theorem dX1_canBegin_5 : decode cX1_canBegin 5 = .ok (.invokevirtual 48, 3) := dk_182 0 48 (dk_at dksX1_canBegin_0 5 rfl rfl)
theorem dX1_canBegin_8 : decode cX1_canBegin 8 = .ok (.aload_n 0, 1) := dk_42 (dk_at dksX1_canBegin_0 8 rfl rfl)
theorem dX1_canBegin_9 : decode cX1_canBegin 9 = .ok (.iload_n 1, 1) := dk_27 (dk_at dksX1_canBegin_0 9 rfl rfl)
theorem dX1_canBegin_10 : decode cX1_canBegin 10 = .ok (.iload_n 2, 1) := dk_28 (dk_at dksX1_canBegin_0 10 rfl rfl)
theorem dX1_canBegin_11 : decode cX1_canBegin 11 = .ok (.invokevirtual 48, 3) := dk_182 0 48 (dk_at dksX1_canBegin_0 11 rfl rfl)
theorem dX1_canBegin_14 : decode cX1_canBegin 14 = .ok (.if_icmp .ge 7, 3) := dk_162 0 7 (dk_at dksX1_canBegin_0 14 rfl rfl)
theorem dX1_canBegin_17 : decode cX1_canBegin 17 = .ok (.iconst 1, 1) := dk_4 (dk_at dksX1_canBegin_0 17 rfl rfl)
theorem dX1_canBegin_18 : decode cX1_canBegin 18 = .ok (.goto 4, 3) := dk_167 0 4 (dk_at dksX1_canBegin_0 18 rfl rfl)
theorem dX1_canBegin_21 : decode cX1_canBegin 21 = .ok (.iconst 0, 1) := dk_3 (dk_at dksX1_canBegin_0 21 rfl rfl)
theorem dX1_canBegin_22 : decode cX1_canBegin 22 = .ok (.ireturn, 1) := dk_172 (dk_at dksX1_canBegin_0 22 rfl rfl)
abbrev cX1_placeOf : ByteArray := prog_7_method_9_code
def yX1_placeOf : MethodName := ⟨RX1, "placeOf", "(II)I"⟩
def dkwX1_placeOf_1 : List UInt8 := [172]
abbrev dktX1_placeOf_1 : List UInt8 := dkwX1_placeOf_1 ++ []
def dkwX1_placeOf_0 : List UInt8 := [3, 62, 42, 180, 0, 10, 16, 7, 27, 104, 29, 96, 51, 28, 159, 0, 9, 132, 3, 1, 167, 255, 238, 29]
abbrev dktX1_placeOf_0 : List UInt8 := dkwX1_placeOf_0 ++ dktX1_placeOf_1
theorem dksX1_placeOf_0 : cX1_placeOf.data.toList.drop 0 = dktX1_placeOf_0 := by decide +kernel
theorem dksX1_placeOf_1 : cX1_placeOf.data.toList.drop 24 = dktX1_placeOf_1 := dk_seg dksX1_placeOf_0 24 rfl rfl
theorem dX1_placeOf_0 : decode cX1_placeOf 0 = .ok (.iconst 0, 1) := dk_3 (dk_at dksX1_placeOf_0 0 rfl rfl)
theorem dX1_placeOf_1 : decode cX1_placeOf 1 = .ok (.istore_n 3, 1) := dk_62 (dk_at dksX1_placeOf_0 1 rfl rfl)
theorem dX1_placeOf_2 : decode cX1_placeOf 2 = .ok (.aload_n 0, 1) := dk_42 (dk_at dksX1_placeOf_0 2 rfl rfl)
theorem dX1_placeOf_3 : decode cX1_placeOf 3 = .ok (.getfield 10, 3) := dk_180 0 10 (dk_at dksX1_placeOf_0 3 rfl rfl)
theorem dX1_placeOf_6 : decode cX1_placeOf 6 = .ok (.bipush 7, 2) := dk_16 7 (dk_at dksX1_placeOf_0 6 rfl rfl)
theorem dX1_placeOf_8 : decode cX1_placeOf 8 = .ok (.iload_n 1, 1) := dk_27 (dk_at dksX1_placeOf_0 8 rfl rfl)
theorem dX1_placeOf_9 : decode cX1_placeOf 9 = .ok (.imul, 1) := dk_104 (dk_at dksX1_placeOf_0 9 rfl rfl)
theorem dX1_placeOf_10 : decode cX1_placeOf 10 = .ok (.iload_n 3, 1) := dk_29 (dk_at dksX1_placeOf_0 10 rfl rfl)
theorem dX1_placeOf_11 : decode cX1_placeOf 11 = .ok (.iadd, 1) := dk_96 (dk_at dksX1_placeOf_0 11 rfl rfl)
theorem dX1_placeOf_12 : decode cX1_placeOf 12 = .ok (.baload, 1) := dk_51 (dk_at dksX1_placeOf_0 12 rfl rfl)
theorem dX1_placeOf_13 : decode cX1_placeOf 13 = .ok (.iload_n 2, 1) := dk_28 (dk_at dksX1_placeOf_0 13 rfl rfl)
theorem dX1_placeOf_14 : decode cX1_placeOf 14 = .ok (.if_icmp .eq 9, 3) := dk_159 0 9 (dk_at dksX1_placeOf_0 14 rfl rfl)
theorem dX1_placeOf_17 : decode cX1_placeOf 17 = .ok (.iinc 3 1, 3) := dk_132 3 1 (dk_at dksX1_placeOf_0 17 rfl rfl)
theorem dX1_placeOf_20 : decode cX1_placeOf 20 = .ok (.goto (-18), 3) := dk_167 255 238 (dk_at dksX1_placeOf_0 20 rfl rfl)
theorem dX1_placeOf_23 : decode cX1_placeOf 23 = .ok (.iload_n 3, 1) := dk_29 (dk_at dksX1_placeOf_0 23 rfl rfl)
theorem dX1_placeOf_24 : decode cX1_placeOf 24 = .ok (.ireturn, 1) := dk_172 (dk_at dksX1_placeOf_1 0 rfl rfl)
abbrev cX1_renamed : ByteArray := prog_7_method_11_code
def yX1_renamed : MethodName := ⟨RX1, "renamed", "(II)I"⟩
def dkwX1_renamed_2 : List UInt8 := [21, 4, 145, 84, 132, 3, 1, 167, 255, 204, 42, 182, 0, 41, 172]
abbrev dktX1_renamed_2 : List UInt8 := dkwX1_renamed_2 ++ []
def dkwX1_renamed_1 : List UInt8 := [21, 4, 28, 160, 0, 9, 28, 4, 96, 167, 0, 17, 21, 4, 28, 4, 96, 160, 0, 7, 28, 167, 0, 5]
abbrev dktX1_renamed_1 : List UInt8 := dkwX1_renamed_1 ++ dktX1_renamed_2
def dkwX1_renamed_0 : List UInt8 := [3, 62, 29, 42, 180, 0, 23, 162, 0, 50, 42, 27, 29, 182, 0, 45, 54, 4, 42, 180, 0, 20, 29]
abbrev dktX1_renamed_0 : List UInt8 := dkwX1_renamed_0 ++ dktX1_renamed_1
theorem dksX1_renamed_0 : cX1_renamed.data.toList.drop 0 = dktX1_renamed_0 := by decide +kernel
theorem dksX1_renamed_1 : cX1_renamed.data.toList.drop 23 = dktX1_renamed_1 := dk_seg dksX1_renamed_0 23 rfl rfl
theorem dksX1_renamed_2 : cX1_renamed.data.toList.drop 47 = dktX1_renamed_2 := dk_seg dksX1_renamed_1 24 rfl rfl
theorem dX1_renamed_0 : decode cX1_renamed 0 = .ok (.iconst 0, 1) := dk_3 (dk_at dksX1_renamed_0 0 rfl rfl)
theorem dX1_renamed_1 : decode cX1_renamed 1 = .ok (.istore_n 3, 1) := dk_62 (dk_at dksX1_renamed_0 1 rfl rfl)
theorem dX1_renamed_2 : decode cX1_renamed 2 = .ok (.iload_n 3, 1) := dk_29 (dk_at dksX1_renamed_0 2 rfl rfl)
theorem dX1_renamed_3 : decode cX1_renamed 3 = .ok (.aload_n 0, 1) := dk_42 (dk_at dksX1_renamed_0 3 rfl rfl)
theorem dX1_renamed_4 : decode cX1_renamed 4 = .ok (.getfield 23, 3) := dk_180 0 23 (dk_at dksX1_renamed_0 4 rfl rfl)
theorem dX1_renamed_7 : decode cX1_renamed 7 = .ok (.if_icmp .ge 50, 3) := dk_162 0 50 (dk_at dksX1_renamed_0 7 rfl rfl)
theorem dX1_renamed_10 : decode cX1_renamed 10 = .ok (.aload_n 0, 1) := dk_42 (dk_at dksX1_renamed_0 10 rfl rfl)
theorem dX1_renamed_11 : decode cX1_renamed 11 = .ok (.iload_n 1, 1) := dk_27 (dk_at dksX1_renamed_0 11 rfl rfl)
theorem dX1_renamed_12 : decode cX1_renamed 12 = .ok (.iload_n 3, 1) := dk_29 (dk_at dksX1_renamed_0 12 rfl rfl)
theorem dX1_renamed_13 : decode cX1_renamed 13 = .ok (.invokevirtual 45, 3) := dk_182 0 45 (dk_at dksX1_renamed_0 13 rfl rfl)
theorem dX1_renamed_16 : decode cX1_renamed 16 = .ok (.istore 4, 2) := dk_54 4 (dk_at dksX1_renamed_0 16 rfl rfl)
theorem dX1_renamed_18 : decode cX1_renamed 18 = .ok (.aload_n 0, 1) := dk_42 (dk_at dksX1_renamed_0 18 rfl rfl)
theorem dX1_renamed_19 : decode cX1_renamed 19 = .ok (.getfield 20, 3) := dk_180 0 20 (dk_at dksX1_renamed_0 19 rfl rfl)
theorem dX1_renamed_22 : decode cX1_renamed 22 = .ok (.iload_n 3, 1) := dk_29 (dk_at dksX1_renamed_0 22 rfl rfl)
theorem dX1_renamed_23 : decode cX1_renamed 23 = .ok (.iload 4, 2) := dk_21 4 (dk_at dksX1_renamed_1 0 rfl rfl)
theorem dX1_renamed_25 : decode cX1_renamed 25 = .ok (.iload_n 2, 1) := dk_28 (dk_at dksX1_renamed_1 2 rfl rfl)
theorem dX1_renamed_26 : decode cX1_renamed 26 = .ok (.if_icmp .ne 9, 3) := dk_160 0 9 (dk_at dksX1_renamed_1 3 rfl rfl)
theorem dX1_renamed_29 : decode cX1_renamed 29 = .ok (.iload_n 2, 1) := dk_28 (dk_at dksX1_renamed_1 6 rfl rfl)
theorem dX1_renamed_30 : decode cX1_renamed 30 = .ok (.iconst 1, 1) := dk_4 (dk_at dksX1_renamed_1 7 rfl rfl)
theorem dX1_renamed_31 : decode cX1_renamed 31 = .ok (.iadd, 1) := dk_96 (dk_at dksX1_renamed_1 8 rfl rfl)
theorem dX1_renamed_32 : decode cX1_renamed 32 = .ok (.goto 17, 3) := dk_167 0 17 (dk_at dksX1_renamed_1 9 rfl rfl)
theorem dX1_renamed_35 : decode cX1_renamed 35 = .ok (.iload 4, 2) := dk_21 4 (dk_at dksX1_renamed_1 12 rfl rfl)
theorem dX1_renamed_37 : decode cX1_renamed 37 = .ok (.iload_n 2, 1) := dk_28 (dk_at dksX1_renamed_1 14 rfl rfl)
theorem dX1_renamed_38 : decode cX1_renamed 38 = .ok (.iconst 1, 1) := dk_4 (dk_at dksX1_renamed_1 15 rfl rfl)
theorem dX1_renamed_39 : decode cX1_renamed 39 = .ok (.iadd, 1) := dk_96 (dk_at dksX1_renamed_1 16 rfl rfl)
theorem dX1_renamed_40 : decode cX1_renamed 40 = .ok (.if_icmp .ne 7, 3) := dk_160 0 7 (dk_at dksX1_renamed_1 17 rfl rfl)
theorem dX1_renamed_43 : decode cX1_renamed 43 = .ok (.iload_n 2, 1) := dk_28 (dk_at dksX1_renamed_1 20 rfl rfl)
theorem dX1_renamed_44 : decode cX1_renamed 44 = .ok (.goto 5, 3) := dk_167 0 5 (dk_at dksX1_renamed_1 21 rfl rfl)
theorem dX1_renamed_47 : decode cX1_renamed 47 = .ok (.iload 4, 2) := dk_21 4 (dk_at dksX1_renamed_2 0 rfl rfl)
theorem dX1_renamed_49 : decode cX1_renamed 49 = .ok (.i2b, 1) := dk_145 (dk_at dksX1_renamed_2 2 rfl rfl)
theorem dX1_renamed_50 : decode cX1_renamed 50 = .ok (.bastore, 1) := dk_84 (dk_at dksX1_renamed_2 3 rfl rfl)
theorem dX1_renamed_51 : decode cX1_renamed 51 = .ok (.iinc 3 1, 3) := dk_132 3 1 (dk_at dksX1_renamed_2 4 rfl rfl)
theorem dX1_renamed_54 : decode cX1_renamed 54 = .ok (.goto (-52), 3) := dk_167 255 204 (dk_at dksX1_renamed_2 7 rfl rfl)
theorem dX1_renamed_57 : decode cX1_renamed 57 = .ok (.aload_n 0, 1) := dk_42 (dk_at dksX1_renamed_2 10 rfl rfl)
theorem dX1_renamed_58 : decode cX1_renamed 58 = .ok (.invokevirtual 41, 3) := dk_182 0 41 (dk_at dksX1_renamed_2 11 rfl rfl)
theorem dX1_renamed_61 : decode cX1_renamed 61 = .ok (.ireturn, 1) := dk_172 (dk_at dksX1_renamed_2 14 rfl rfl)
abbrev cX1_init : ByteArray := prog_7_method_1_code
def yX1_init : MethodName := ⟨RX1, "<init>", "()V"⟩
def dkwX1_init_1 : List UInt8 := [188, 8, 181, 0, 20, 177]
abbrev dktX1_init_1 : List UInt8 := dkwX1_init_1 ++ []
def dkwX1_init_0 : List UInt8 := [42, 183, 0, 3, 42, 18, 9, 188, 8, 181, 0, 10, 42, 17, 118, 32, 188, 9, 181, 0, 16, 42, 16, 7]
abbrev dktX1_init_0 : List UInt8 := dkwX1_init_0 ++ dktX1_init_1
theorem dksX1_init_0 : cX1_init.data.toList.drop 0 = dktX1_init_0 := by decide +kernel
theorem dksX1_init_1 : cX1_init.data.toList.drop 24 = dktX1_init_1 := dk_seg dksX1_init_0 24 rfl rfl
theorem dX1_init_0 : decode cX1_init 0 = .ok (.aload_n 0, 1) := dk_42 (dk_at dksX1_init_0 0 rfl rfl)
theorem dX1_init_1 : decode cX1_init 1 = .ok (.invokespecial 3, 3) := dk_183 0 3 (dk_at dksX1_init_0 1 rfl rfl)
theorem dX1_init_4 : decode cX1_init 4 = .ok (.aload_n 0, 1) := dk_42 (dk_at dksX1_init_0 4 rfl rfl)
theorem dX1_init_5 : decode cX1_init 5 = .ok (.ldc 9, 2) := dk_18 9 (dk_at dksX1_init_0 5 rfl rfl)
theorem dX1_init_7 : decode cX1_init 7 = .ok (.newarray .byte, 2) := dk_188_8 (dk_at dksX1_init_0 7 rfl rfl)
theorem dX1_init_9 : decode cX1_init 9 = .ok (.putfield 10, 3) := dk_181 0 10 (dk_at dksX1_init_0 9 rfl rfl)
theorem dX1_init_12 : decode cX1_init 12 = .ok (.aload_n 0, 1) := dk_42 (dk_at dksX1_init_0 12 rfl rfl)
theorem dX1_init_13 : decode cX1_init 13 = .ok (.sipush 30240, 3) := dk_17 118 32 (dk_at dksX1_init_0 13 rfl rfl)
theorem dX1_init_16 : decode cX1_init 16 = .ok (.newarray .short, 2) := dk_188_9 (dk_at dksX1_init_0 16 rfl rfl)
theorem dX1_init_18 : decode cX1_init 18 = .ok (.putfield 16, 3) := dk_181 0 16 (dk_at dksX1_init_0 18 rfl rfl)
theorem dX1_init_21 : decode cX1_init 21 = .ok (.aload_n 0, 1) := dk_42 (dk_at dksX1_init_0 21 rfl rfl)
theorem dX1_init_22 : decode cX1_init 22 = .ok (.bipush 7, 2) := dk_16 7 (dk_at dksX1_init_0 22 rfl rfl)
theorem dX1_init_24 : decode cX1_init 24 = .ok (.newarray .byte, 2) := dk_188_8 (dk_at dksX1_init_1 0 rfl rfl)
theorem dX1_init_26 : decode cX1_init 26 = .ok (.putfield 20, 3) := dk_181 0 20 (dk_at dksX1_init_1 2 rfl rfl)
theorem dX1_init_29 : decode cX1_init 29 = .ok (.return_, 1) := dk_177 (dk_at dksX1_init_1 5 rfl rfl)
abbrev cX1_after : ByteArray := prog_7_method_13_code
def yX1_after : MethodName := ⟨RX1, "after", "(ILLadderLots$Step;Z)I"⟩
def dkwX1_after_1 : List UInt8 := [182, 0, 45, 29, 182, 0, 56, 182, 0, 60, 172]
abbrev dktX1_after_1 : List UInt8 := dkwX1_after_1 ++ []
def dkwX1_after_0 : List UInt8 := [42, 27, 44, 180, 0, 51, 44, 42, 27, 44, 180, 0, 51, 182, 0, 45, 42, 27, 44, 180, 0, 51, 4, 96]
abbrev dktX1_after_0 : List UInt8 := dkwX1_after_0 ++ dktX1_after_1
theorem dksX1_after_0 : cX1_after.data.toList.drop 0 = dktX1_after_0 := by decide +kernel
theorem dksX1_after_1 : cX1_after.data.toList.drop 24 = dktX1_after_1 := dk_seg dksX1_after_0 24 rfl rfl
theorem dX1_after_0 : decode cX1_after 0 = .ok (.aload_n 0, 1) := dk_42 (dk_at dksX1_after_0 0 rfl rfl)
theorem dX1_after_1 : decode cX1_after 1 = .ok (.iload_n 1, 1) := dk_27 (dk_at dksX1_after_0 1 rfl rfl)
theorem dX1_after_2 : decode cX1_after 2 = .ok (.aload_n 2, 1) := dk_44 (dk_at dksX1_after_0 2 rfl rfl)
theorem dX1_after_3 : decode cX1_after 3 = .ok (.getfield 51, 3) := dk_180 0 51 (dk_at dksX1_after_0 3 rfl rfl)
theorem dX1_after_6 : decode cX1_after 6 = .ok (.aload_n 2, 1) := dk_44 (dk_at dksX1_after_0 6 rfl rfl)
theorem dX1_after_7 : decode cX1_after 7 = .ok (.aload_n 0, 1) := dk_42 (dk_at dksX1_after_0 7 rfl rfl)
theorem dX1_after_8 : decode cX1_after 8 = .ok (.iload_n 1, 1) := dk_27 (dk_at dksX1_after_0 8 rfl rfl)
theorem dX1_after_9 : decode cX1_after 9 = .ok (.aload_n 2, 1) := dk_44 (dk_at dksX1_after_0 9 rfl rfl)
theorem dX1_after_10 : decode cX1_after 10 = .ok (.getfield 51, 3) := dk_180 0 51 (dk_at dksX1_after_0 10 rfl rfl)
theorem dX1_after_13 : decode cX1_after 13 = .ok (.invokevirtual 45, 3) := dk_182 0 45 (dk_at dksX1_after_0 13 rfl rfl)
theorem dX1_after_16 : decode cX1_after 16 = .ok (.aload_n 0, 1) := dk_42 (dk_at dksX1_after_0 16 rfl rfl)
theorem dX1_after_17 : decode cX1_after 17 = .ok (.iload_n 1, 1) := dk_27 (dk_at dksX1_after_0 17 rfl rfl)
theorem dX1_after_18 : decode cX1_after 18 = .ok (.aload_n 2, 1) := dk_44 (dk_at dksX1_after_0 18 rfl rfl)
theorem dX1_after_19 : decode cX1_after 19 = .ok (.getfield 51, 3) := dk_180 0 51 (dk_at dksX1_after_0 19 rfl rfl)
theorem dX1_after_22 : decode cX1_after 22 = .ok (.iconst 1, 1) := dk_4 (dk_at dksX1_after_0 22 rfl rfl)
theorem dX1_after_23 : decode cX1_after 23 = .ok (.iadd, 1) := dk_96 (dk_at dksX1_after_0 23 rfl rfl)
theorem dX1_after_24 : decode cX1_after 24 = .ok (.invokevirtual 45, 3) := dk_182 0 45 (dk_at dksX1_after_1 0 rfl rfl)
theorem dX1_after_27 : decode cX1_after 27 = .ok (.iload_n 3, 1) := dk_29 (dk_at dksX1_after_1 3 rfl rfl)
theorem dX1_after_28 : decode cX1_after 28 = .ok (.invokevirtual 56, 3) := dk_182 0 56 (dk_at dksX1_after_1 4 rfl rfl)
theorem dX1_after_31 : decode cX1_after 31 = .ok (.invokevirtual 60, 3) := dk_182 0 60 (dk_at dksX1_after_1 7 rfl rfl)
theorem dX1_after_34 : decode cX1_after 34 = .ok (.ireturn, 1) := dk_172 (dk_at dksX1_after_1 10 rfl rfl)
abbrev cX1_swap_2 : ByteArray := prog_7_method_8_code
def yX1_swap_2 : MethodName := ⟨RX1, "swap", "(IIZ)I"⟩
def dkwX1_swap_2_0 : List UInt8 := [29, 153, 0, 17, 42, 180, 0, 16, 16, 6, 27, 104, 28, 96, 53, 167, 0, 4, 27, 172]
abbrev dktX1_swap_2_0 : List UInt8 := dkwX1_swap_2_0 ++ []
theorem dksX1_swap_2_0 : cX1_swap_2.data.toList.drop 0 = dktX1_swap_2_0 := by decide +kernel
theorem dX1_swap_2_0 : decode cX1_swap_2 0 = .ok (.iload_n 3, 1) := dk_29 (dk_at dksX1_swap_2_0 0 rfl rfl)
theorem dX1_swap_2_1 : decode cX1_swap_2 1 = .ok (.ifCond .eq 17, 3) := dk_153 0 17 (dk_at dksX1_swap_2_0 1 rfl rfl)
theorem dX1_swap_2_4 : decode cX1_swap_2 4 = .ok (.aload_n 0, 1) := dk_42 (dk_at dksX1_swap_2_0 4 rfl rfl)
theorem dX1_swap_2_5 : decode cX1_swap_2 5 = .ok (.getfield 16, 3) := dk_180 0 16 (dk_at dksX1_swap_2_0 5 rfl rfl)
theorem dX1_swap_2_8 : decode cX1_swap_2 8 = .ok (.bipush 6, 2) := dk_16 6 (dk_at dksX1_swap_2_0 8 rfl rfl)
theorem dX1_swap_2_10 : decode cX1_swap_2 10 = .ok (.iload_n 1, 1) := dk_27 (dk_at dksX1_swap_2_0 10 rfl rfl)
theorem dX1_swap_2_11 : decode cX1_swap_2 11 = .ok (.imul, 1) := dk_104 (dk_at dksX1_swap_2_0 11 rfl rfl)
theorem dX1_swap_2_12 : decode cX1_swap_2 12 = .ok (.iload_n 2, 1) := dk_28 (dk_at dksX1_swap_2_0 12 rfl rfl)
theorem dX1_swap_2_13 : decode cX1_swap_2 13 = .ok (.iadd, 1) := dk_96 (dk_at dksX1_swap_2_0 13 rfl rfl)
theorem dX1_swap_2_14 : decode cX1_swap_2 14 = .ok (.saload, 1) := dk_53 (dk_at dksX1_swap_2_0 14 rfl rfl)
theorem dX1_swap_2_15 : decode cX1_swap_2 15 = .ok (.goto 4, 3) := dk_167 0 4 (dk_at dksX1_swap_2_0 15 rfl rfl)
theorem dX1_swap_2_18 : decode cX1_swap_2 18 = .ok (.iload_n 1, 1) := dk_27 (dk_at dksX1_swap_2_0 18 rfl rfl)
theorem dX1_swap_2_19 : decode cX1_swap_2 19 = .ok (.ireturn, 1) := dk_172 (dk_at dksX1_swap_2_0 19 rfl rfl)
theorem q120 : (Jvm.Cond.initialized "LadderLots$Orders") ∈ lw_all := lw_g (lw_at lw_m1 2 rfl) rfl
theorem q161 : (Jvm.Cond.instanceMethod ({ cls := "LadderLots$Orders", name := "of", desc := "(I)V" } : Jvm.MethodName)) ∈ lw_all := lw_g (lw_at lw_m1 43 rfl) rfl
theorem q162 : (Jvm.Cond.selects "LadderLots$Orders" ({ cls := "LadderLots$Orders", name := "of", desc := "(I)V" } : Jvm.MethodName) ({ cls := "LadderLots$Orders", name := "of", desc := "(I)V" } : Jvm.MethodName)) ∈ lw_all := lw_g (lw_at lw_m1 44 rfl) rfl
theorem q163 : (Jvm.Cond.code ({ cls := "LadderLots$Orders", name := "of", desc := "(I)V" } : Jvm.MethodName) prog_7_method_2_code (4 : Nat) (Option.none : Option Jvm.ClassFile.FieldType)) ∈ lw_all := lw_g (lw_at lw_m1 45 rfl) rfl
theorem q164 : (Jvm.Cond.methodLink "LadderLots$Orders" (30 : Nat) ({ cls := "LadderLots$Orders", name := "next", desc := "()V" } : Jvm.MethodName)) ∈ lw_all := lw_g (lw_at lw_m1 46 rfl) rfl
theorem q165 : (Jvm.Cond.privateMethod ({ cls := "LadderLots$Orders", name := "next", desc := "()V" } : Jvm.MethodName)) ∈ lw_tbl := lw_at lw_m1 47 rfl
theorem q166 : (Jvm.Cond.instanceMethod ({ cls := "LadderLots$Orders", name := "next", desc := "()V" } : Jvm.MethodName)) ∈ lw_all := lw_g (lw_at lw_m1 48 rfl) rfl
theorem q167 : (Jvm.Cond.instantiable "LadderLots$Orders" (5 : Nat)) ∈ lw_all := lw_g (lw_at lw_m1 49 rfl) rfl
theorem q168 : (Jvm.Cond.code ({ cls := "LadderLots$Orders", name := "next", desc := "()V" } : Jvm.MethodName) prog_7_method_3_code (5 : Nat) (Option.none : Option Jvm.ClassFile.FieldType)) ∈ lw_all := lw_g (lw_at lw_m1 50 rfl) rfl
theorem q169 : (Jvm.Cond.methodLink "LadderLots$Orders" (37 : Nat) ({ cls := "LadderLots$Orders", name := "swap", desc := "(II)V" } : Jvm.MethodName)) ∈ lw_all := lw_g (lw_at lw_m1 51 rfl) rfl
theorem q170 : (Jvm.Cond.privateMethod ({ cls := "LadderLots$Orders", name := "swap", desc := "(II)V" } : Jvm.MethodName)) ∈ lw_tbl := lw_at lw_m1 52 rfl
theorem q171 : (Jvm.Cond.instanceMethod ({ cls := "LadderLots$Orders", name := "swap", desc := "(II)V" } : Jvm.MethodName)) ∈ lw_all := lw_g (lw_at lw_m1 53 rfl) rfl
theorem q172 : (Jvm.Cond.code ({ cls := "LadderLots$Orders", name := "swap", desc := "(II)V" } : Jvm.MethodName) prog_7_method_4_code (4 : Nat) (Option.none : Option Jvm.ClassFile.FieldType)) ∈ lw_all := lw_g (lw_at lw_m1 54 rfl) rfl
theorem q173 : (Jvm.Cond.methodLink "LadderLots$Orders" (33 : Nat) ({ cls := "LadderLots$Orders", name := "swapped", desc := "(II)I" } : Jvm.MethodName)) ∈ lw_all := lw_g (lw_at lw_m1 55 rfl) rfl
theorem q174 : (Jvm.Cond.privateMethod ({ cls := "LadderLots$Orders", name := "swapped", desc := "(II)I" } : Jvm.MethodName)) ∈ lw_tbl := lw_at lw_m1 56 rfl
theorem q175 : (Jvm.Cond.instanceMethod ({ cls := "LadderLots$Orders", name := "swapped", desc := "(II)I" } : Jvm.MethodName)) ∈ lw_all := lw_g (lw_at lw_m1 57 rfl) rfl
theorem q176 : (Jvm.Cond.code ({ cls := "LadderLots$Orders", name := "swapped", desc := "(II)I" } : Jvm.MethodName) prog_7_method_5_code (4 : Nat) (Option.some Jvm.ClassFile.FieldType.int)) ∈ lw_all := lw_g (lw_at lw_m1 58 rfl) rfl
theorem q177 : (Jvm.Cond.methodLink "LadderLots$Orders" (41 : Nat) ({ cls := "LadderLots$Orders", name := "number", desc := "()I" } : Jvm.MethodName)) ∈ lw_all := lw_g (lw_at lw_m1 59 rfl) rfl
theorem q178 : (Jvm.Cond.instanceMethod ({ cls := "LadderLots$Orders", name := "number", desc := "()I" } : Jvm.MethodName)) ∈ lw_all := lw_g (lw_at lw_m1 60 rfl) rfl
theorem q179 : (Jvm.Cond.selects "LadderLots$Orders" ({ cls := "LadderLots$Orders", name := "number", desc := "()I" } : Jvm.MethodName) ({ cls := "LadderLots$Orders", name := "number", desc := "()I" } : Jvm.MethodName)) ∈ lw_all := lw_g (lw_at lw_m1 61 rfl) rfl
theorem q180 : (Jvm.Cond.code ({ cls := "LadderLots$Orders", name := "number", desc := "()I" } : Jvm.MethodName) prog_7_method_6_code (5 : Nat) (Option.some Jvm.ClassFile.FieldType.int)) ∈ lw_all := lw_g (lw_at lw_m1 62 rfl) rfl
theorem q182 : (Jvm.Cond.instanceMethod ({ cls := "LadderLots$Orders", name := "digit", desc := "(II)I" } : Jvm.MethodName)) ∈ lw_all := lw_g (lw_at lw_m1 64 rfl) rfl
theorem q183 : (Jvm.Cond.selects "LadderLots$Orders" ({ cls := "LadderLots$Orders", name := "digit", desc := "(II)I" } : Jvm.MethodName) ({ cls := "LadderLots$Orders", name := "digit", desc := "(II)I" } : Jvm.MethodName)) ∈ lw_all := lw_g (lw_at lw_m1 65 rfl) rfl
theorem q184 : (Jvm.Cond.code ({ cls := "LadderLots$Orders", name := "digit", desc := "(II)I" } : Jvm.MethodName) prog_7_method_7_code (3 : Nat) (Option.some Jvm.ClassFile.FieldType.int)) ∈ lw_all := lw_g (lw_at lw_m1 66 rfl) rfl
theorem q190 : (Jvm.Cond.instanceMethod ({ cls := "LadderLots$Orders", name := "inversions", desc := "(I)I" } : Jvm.MethodName)) ∈ lw_all := lw_g (lw_at lw_m1 72 rfl) rfl
theorem q191 : (Jvm.Cond.selects "LadderLots$Orders" ({ cls := "LadderLots$Orders", name := "inversions", desc := "(I)I" } : Jvm.MethodName) ({ cls := "LadderLots$Orders", name := "inversions", desc := "(I)I" } : Jvm.MethodName)) ∈ lw_all := lw_g (lw_at lw_m1 73 rfl) rfl
theorem q192 : (Jvm.Cond.code ({ cls := "LadderLots$Orders", name := "inversions", desc := "(I)I" } : Jvm.MethodName) prog_7_method_10_code (5 : Nat) (Option.some Jvm.ClassFile.FieldType.int)) ∈ lw_all := lw_g (lw_at lw_m1 74 rfl) rfl
theorem q193 : (Jvm.Cond.methodLink "LadderLots$Orders" (45 : Nat) ({ cls := "LadderLots$Orders", name := "digit", desc := "(II)I" } : Jvm.MethodName)) ∈ lw_all := lw_g (lw_at lw_m1 75 rfl) rfl
theorem q203 : (Jvm.Cond.instanceMethod ({ cls := "LadderLots$Orders", name := "canBegin", desc := "(II)Z" } : Jvm.MethodName)) ∈ lw_all := lw_g (lw_at lw_m1 85 rfl) rfl
theorem q204 : (Jvm.Cond.selects "LadderLots$Orders" ({ cls := "LadderLots$Orders", name := "canBegin", desc := "(II)Z" } : Jvm.MethodName) ({ cls := "LadderLots$Orders", name := "canBegin", desc := "(II)Z" } : Jvm.MethodName)) ∈ lw_all := lw_g (lw_at lw_m1 86 rfl) rfl
theorem q205 : (Jvm.Cond.code ({ cls := "LadderLots$Orders", name := "canBegin", desc := "(II)Z" } : Jvm.MethodName) prog_7_method_12_code (3 : Nat) (Option.some Jvm.ClassFile.FieldType.boolean)) ∈ lw_all := lw_g (lw_at lw_m1 87 rfl) rfl
theorem q206 : (Jvm.Cond.methodLink "LadderLots$Orders" (48 : Nat) ({ cls := "LadderLots$Orders", name := "placeOf", desc := "(II)I" } : Jvm.MethodName)) ∈ lw_all := lw_g (lw_at lw_m1 88 rfl) rfl
theorem q207 : (Jvm.Cond.instanceMethod ({ cls := "LadderLots$Orders", name := "placeOf", desc := "(II)I" } : Jvm.MethodName)) ∈ lw_all := lw_g (lw_at lw_m1 89 rfl) rfl
theorem q208 : (Jvm.Cond.selects "LadderLots$Orders" ({ cls := "LadderLots$Orders", name := "placeOf", desc := "(II)I" } : Jvm.MethodName) ({ cls := "LadderLots$Orders", name := "placeOf", desc := "(II)I" } : Jvm.MethodName)) ∈ lw_all := lw_g (lw_at lw_m1 90 rfl) rfl
theorem q209 : (Jvm.Cond.code ({ cls := "LadderLots$Orders", name := "placeOf", desc := "(II)I" } : Jvm.MethodName) prog_7_method_9_code (4 : Nat) (Option.some Jvm.ClassFile.FieldType.int)) ∈ lw_all := lw_g (lw_at lw_m1 91 rfl) rfl
theorem q211 : (Jvm.Cond.instanceMethod ({ cls := "LadderLots$Orders", name := "renamed", desc := "(II)I" } : Jvm.MethodName)) ∈ lw_all := lw_g (lw_at lw_m1 93 rfl) rfl
theorem q212 : (Jvm.Cond.selects "LadderLots$Orders" ({ cls := "LadderLots$Orders", name := "renamed", desc := "(II)I" } : Jvm.MethodName) ({ cls := "LadderLots$Orders", name := "renamed", desc := "(II)I" } : Jvm.MethodName)) ∈ lw_all := lw_g (lw_at lw_m1 94 rfl) rfl
theorem q213 : (Jvm.Cond.code ({ cls := "LadderLots$Orders", name := "renamed", desc := "(II)I" } : Jvm.MethodName) prog_7_method_11_code (5 : Nat) (Option.some Jvm.ClassFile.FieldType.int)) ∈ lw_all := lw_g (lw_at lw_m1 95 rfl) rfl
theorem q279 : (Jvm.Cond.instanceMethod ({ cls := "LadderLots$Orders", name := "<init>", desc := "()V" } : Jvm.MethodName)) ∈ lw_all := lw_g (lw_at lw_m1 161 rfl) rfl
theorem q280 : (Jvm.Cond.code ({ cls := "LadderLots$Orders", name := "<init>", desc := "()V" } : Jvm.MethodName) prog_7_method_1_code (1 : Nat) (Option.none : Option Jvm.ClassFile.FieldType)) ∈ lw_all := lw_g (lw_at lw_m1 162 rfl) rfl
theorem q281 : (Jvm.Cond.methodLink "LadderLots$Orders" (3 : Nat) ({ cls := "java/lang/Object", name := "<init>", desc := "()V" } : Jvm.MethodName)) ∈ lw_all := lw_g (lw_at lw_m1 163 rfl) rfl
theorem q282 : (Jvm.Cond.constant "LadderLots$Orders" (9 : Nat) (35280 : Int32)) ∈ lw_all := lw_g (lw_at lw_m1 164 rfl) rfl
theorem q283 : (Jvm.Cond.fieldLink "LadderLots$Orders" (23 : Nat) "LadderLots$Orders" "n" "I") ∈ lw_all := lw_g (lw_at lw_m1 165 rfl) rfl
theorem q285 : (Jvm.Cond.fieldLink "LadderLots$Orders" (27 : Nat) "LadderLots$Orders" "many" "I") ∈ lw_all := lw_g (lw_at lw_m1 167 rfl) rfl
theorem q287 : (Jvm.Cond.fieldLink "LadderLots$Orders" (10 : Nat) "LadderLots$Orders" "digits" "[B") ∈ lw_all := lw_g (lw_at lw_m1 169 rfl) rfl
theorem q288 : (Jvm.Cond.fieldLink "LadderLots$Orders" (16 : Nat) "LadderLots$Orders" "swaps" "[S") ∈ lw_all := lw_g (lw_at lw_m1 170 rfl) rfl
theorem q289 : (Jvm.Cond.fieldLink "LadderLots$Orders" (20 : Nat) "LadderLots$Orders" "row" "[B") ∈ lw_all := lw_g (lw_at lw_m1 171 rfl) rfl
theorem q290 : (Jvm.Cond.lays "LadderLots$Orders" "LadderLots$Orders" "n" "I") ∈ lw_all := lw_g (lw_at lw_m1 172 rfl) rfl
theorem q291 : (Jvm.Cond.soleField "LadderLots$Orders" "n") ∈ lw_all := lw_g (lw_at lw_m1 173 rfl) rfl
theorem q292 : (Jvm.Cond.lays "LadderLots$Orders" "LadderLots$Orders" "many" "I") ∈ lw_all := lw_g (lw_at lw_m1 174 rfl) rfl
theorem q293 : (Jvm.Cond.soleField "LadderLots$Orders" "many") ∈ lw_all := lw_g (lw_at lw_m1 175 rfl) rfl
theorem q294 : (Jvm.Cond.laysFinal "LadderLots$Orders" "LadderLots$Orders" "digits" "[B") ∈ lw_all := lw_g (lw_at lw_m1 176 rfl) rfl
theorem q295 : (Jvm.Cond.soleField "LadderLots$Orders" "digits") ∈ lw_all := lw_g (lw_at lw_m1 177 rfl) rfl
theorem q296 : (Jvm.Cond.laysFinal "LadderLots$Orders" "LadderLots$Orders" "swaps" "[S") ∈ lw_all := lw_g (lw_at lw_m1 178 rfl) rfl
theorem q297 : (Jvm.Cond.soleField "LadderLots$Orders" "swaps") ∈ lw_all := lw_g (lw_at lw_m1 179 rfl) rfl
theorem q298 : (Jvm.Cond.laysFinal "LadderLots$Orders" "LadderLots$Orders" "row" "[B") ∈ lw_all := lw_g (lw_at lw_m1 180 rfl) rfl
theorem q299 : (Jvm.Cond.soleField "LadderLots$Orders" "row") ∈ lw_all := lw_g (lw_at lw_m1 181 rfl) rfl
theorem q300 : (Jvm.Cond.superclass "LadderLots$Orders" "java/lang/Object") ∈ lw_all := lw_g (lw_at lw_m1 182 rfl) rfl
theorem q420 : (Jvm.Cond.fieldLink "LadderLots$Orders" (51 : Nat) "LadderLots$Step" "leg" "I") ∈ lw_all := lw_g (lw_at lw_m2 62 rfl) rfl
theorem q826 : (Jvm.Cond.selects "LadderLots$Orders" ({ cls := "java/lang/Object", name := "getClass", desc := "()Ljava/lang/Class;" } : Jvm.MethodName) ({ cls := "java/lang/Object", name := "getClass", desc := "()Ljava/lang/Class;" } : Jvm.MethodName)) ∈ lw_all := lw_g (lw_at lw_m3 228 rfl) rfl
theorem q1069 : (Jvm.Cond.instanceMethod ({ cls := "LadderLots$Orders", name := "after", desc := "(ILLadderLots$Step;Z)I" } : Jvm.MethodName)) ∈ lw_all := lw_g (lw_at lw_m4 231 rfl) rfl
theorem q1070 : (Jvm.Cond.selects "LadderLots$Orders" ({ cls := "LadderLots$Orders", name := "after", desc := "(ILLadderLots$Step;Z)I" } : Jvm.MethodName) ({ cls := "LadderLots$Orders", name := "after", desc := "(ILLadderLots$Step;Z)I" } : Jvm.MethodName)) ∈ lw_all := lw_g (lw_at lw_m4 232 rfl) rfl
theorem q1071 : (Jvm.Cond.code ({ cls := "LadderLots$Orders", name := "after", desc := "(ILLadderLots$Step;Z)I" } : Jvm.MethodName) prog_7_method_13_code (4 : Nat) (Option.some Jvm.ClassFile.FieldType.int)) ∈ lw_all := lw_g (lw_at lw_m4 233 rfl) rfl
theorem q1072 : (Jvm.Cond.methodLink "LadderLots$Orders" (56 : Nat) ({ cls := "LadderLots$Step", name := "changes", desc := "(IIZ)Z" } : Jvm.MethodName)) ∈ lw_all := lw_g (lw_at lw_m4 234 rfl) rfl
theorem q1089 : (Jvm.Cond.methodLink "LadderLots$Orders" (60 : Nat) ({ cls := "LadderLots$Orders", name := "swap", desc := "(IIZ)I" } : Jvm.MethodName)) ∈ lw_all := lw_g (lw_at lw_m5 11 rfl) rfl
theorem q1090 : (Jvm.Cond.instanceMethod ({ cls := "LadderLots$Orders", name := "swap", desc := "(IIZ)I" } : Jvm.MethodName)) ∈ lw_all := lw_g (lw_at lw_m5 12 rfl) rfl
theorem q1091 : (Jvm.Cond.selects "LadderLots$Orders" ({ cls := "LadderLots$Orders", name := "swap", desc := "(IIZ)I" } : Jvm.MethodName) ({ cls := "LadderLots$Orders", name := "swap", desc := "(IIZ)I" } : Jvm.MethodName)) ∈ lw_all := lw_g (lw_at lw_m5 13 rfl) rfl
theorem q1092 : (Jvm.Cond.code ({ cls := "LadderLots$Orders", name := "swap", desc := "(IIZ)I" } : Jvm.MethodName) prog_7_method_8_code (4 : Nat) (Option.some Jvm.ClassFile.FieldType.int)) ∈ lw_all := lw_g (lw_at lw_m5 14 rfl) rfl
theorem q1964 : (Jvm.Cond.castable "LadderLots$Orders" "java/lang/Object") ∈ lw_tbl := lw_at lw_m8 166 rfl
theorem in_X1 : ∀ w ∈ wsX10, w ∈ lw_all := lw_in wsX10 [290, 292, 294, 296, 298] (by decide +kernel) (by decide +kernel)

/-! LadderLots$Back -/
set_option maxRecDepth 100000
def RX10 : String := "LadderLots$Back"
def TX10 : u_T := fun k => match k with
  | _ => ("LadderLots$Step", "leg", "I", true)
def tyX10 : Nat → FieldType := fun k => match k with
  | _ => .int
abbrev wsX100 : List Cond := u_ws RX10 TX10 1
theorem nmX10 : ∀ a, a < 1 → ∀ b, b < 1 → a ≠ b → (TX10 a).2.1 ≠ (TX10 b).2.1 := by decide +kernel
theorem tyX10_ok : ∀ k, k < 1 → parseFieldDescriptor (TX10 k).2.2.1 = some (tyX10 k) := by decide +kernel
abbrev cX10_sort : ByteArray := prog_2_method_2_code
def yX10_sort : MethodName := ⟨RX10, "sort", "()I"⟩
theorem dX10_sort_0 : decode cX10_sort 0 = .ok (.iconst 2, 1) := by decide +kernel
theorem dX10_sort_1 : decode cX10_sort 1 = .ok (.ireturn, 1) := by decide +kernel
abbrev cX10_init : ByteArray := prog_2_method_1_code
def yX10_init : MethodName := ⟨RX10, "<init>", "(I)V"⟩
def dkwX10_init_0 : List UInt8 := [42, 27, 183, 0, 1, 177]
abbrev dktX10_init_0 : List UInt8 := dkwX10_init_0 ++ []
theorem dksX10_init_0 : cX10_init.data.toList.drop 0 = dktX10_init_0 := by decide +kernel
theorem dX10_init_0 : decode cX10_init 0 = .ok (.aload_n 0, 1) := dk_42 (dk_at dksX10_init_0 0 rfl rfl)
theorem dX10_init_1 : decode cX10_init 1 = .ok (.iload_n 1, 1) := dk_27 (dk_at dksX10_init_0 1 rfl rfl)
theorem dX10_init_2 : decode cX10_init 2 = .ok (.invokespecial 1, 3) := dk_183 0 1 (dk_at dksX10_init_0 2 rfl rfl)
theorem dX10_init_5 : decode cX10_init 5 = .ok (.return_, 1) := dk_177 (dk_at dksX10_init_0 5 rfl rfl)
abbrev cX10_turned : ByteArray := prog_2_method_4_code
def yX10_turned : MethodName := ⟨RX10, "turned", "(I)LLadderLots$Step;"⟩
def dkwX10_turned_0 : List UInt8 := [187, 0, 2, 89, 27, 5, 100, 42, 180, 0, 11, 100, 183, 0, 1, 176]
abbrev dktX10_turned_0 : List UInt8 := dkwX10_turned_0 ++ []
theorem dksX10_turned_0 : cX10_turned.data.toList.drop 0 = dktX10_turned_0 := by decide +kernel
theorem dX10_turned_0 : decode cX10_turned 0 = .ok (.new 2, 3) := dk_187 0 2 (dk_at dksX10_turned_0 0 rfl rfl)
theorem dX10_turned_3 : decode cX10_turned 3 = .ok (.dup, 1) := dk_89 (dk_at dksX10_turned_0 3 rfl rfl)
theorem dX10_turned_4 : decode cX10_turned 4 = .ok (.iload_n 1, 1) := dk_27 (dk_at dksX10_turned_0 4 rfl rfl)
theorem dX10_turned_5 : decode cX10_turned 5 = .ok (.iconst 2, 1) := dk_5 (dk_at dksX10_turned_0 5 rfl rfl)
theorem dX10_turned_6 : decode cX10_turned 6 = .ok (.isub, 1) := dk_100 (dk_at dksX10_turned_0 6 rfl rfl)
theorem dX10_turned_7 : decode cX10_turned 7 = .ok (.aload_n 0, 1) := dk_42 (dk_at dksX10_turned_0 7 rfl rfl)
theorem dX10_turned_8 : decode cX10_turned 8 = .ok (.getfield 11, 3) := dk_180 0 11 (dk_at dksX10_turned_0 8 rfl rfl)
theorem dX10_turned_11 : decode cX10_turned 11 = .ok (.isub, 1) := dk_100 (dk_at dksX10_turned_0 11 rfl rfl)
theorem dX10_turned_12 : decode cX10_turned 12 = .ok (.invokespecial 1, 3) := dk_183 0 1 (dk_at dksX10_turned_0 12 rfl rfl)
theorem dX10_turned_15 : decode cX10_turned 15 = .ok (.areturn, 1) := dk_176 (dk_at dksX10_turned_0 15 rfl rfl)
abbrev cX10_changes : ByteArray := prog_2_method_3_code
def yX10_changes : MethodName := ⟨RX10, "changes", "(IIZ)Z"⟩
def dkwX10_changes_0 : List UInt8 := [42, 28, 27, 29, 183, 0, 7, 172]
abbrev dktX10_changes_0 : List UInt8 := dkwX10_changes_0 ++ []
theorem dksX10_changes_0 : cX10_changes.data.toList.drop 0 = dktX10_changes_0 := by decide +kernel
theorem dX10_changes_0 : decode cX10_changes 0 = .ok (.aload_n 0, 1) := dk_42 (dk_at dksX10_changes_0 0 rfl rfl)
theorem dX10_changes_1 : decode cX10_changes 1 = .ok (.iload_n 2, 1) := dk_28 (dk_at dksX10_changes_0 1 rfl rfl)
theorem dX10_changes_2 : decode cX10_changes 2 = .ok (.iload_n 1, 1) := dk_27 (dk_at dksX10_changes_0 2 rfl rfl)
theorem dX10_changes_3 : decode cX10_changes 3 = .ok (.iload_n 3, 1) := dk_29 (dk_at dksX10_changes_0 3 rfl rfl)
theorem dX10_changes_4 : decode cX10_changes 4 = .ok (.invokespecial 7, 3) := dk_183 0 7 (dk_at dksX10_changes_0 4 rfl rfl)
theorem dX10_changes_7 : decode cX10_changes 7 = .ok (.ireturn, 1) := dk_172 (dk_at dksX10_changes_0 7 rfl rfl)
theorem q143 : (Jvm.Cond.initialized "LadderLots$Back") ∈ lw_all := lw_g (lw_at lw_m1 25 rfl) rfl
theorem q411 : (Jvm.Cond.fieldLink "LadderLots$Back" (11 : Nat) "LadderLots$Back" "leg" "I") ∈ lw_all := lw_g (lw_at lw_m2 53 rfl) rfl
theorem q412 : (Jvm.Cond.sameField "LadderLots$Back" "LadderLots$Step" "leg" "I") ∈ lw_all := lw_g (lw_at lw_m2 54 rfl) rfl
theorem q821 : (Jvm.Cond.selects "LadderLots$Back" ({ cls := "java/lang/Object", name := "getClass", desc := "()Ljava/lang/Class;" } : Jvm.MethodName) ({ cls := "java/lang/Object", name := "getClass", desc := "()Ljava/lang/Class;" } : Jvm.MethodName)) ∈ lw_all := lw_g (lw_at lw_m3 223 rfl) rfl
theorem q849 : (Jvm.Cond.selects "LadderLots$Back" ({ cls := "LadderLots$Step", name := "sort", desc := "()I" } : Jvm.MethodName) ({ cls := "LadderLots$Back", name := "sort", desc := "()I" } : Jvm.MethodName)) ∈ lw_all := lw_g (lw_at lw_m4 11 rfl) rfl
theorem q850 : (Jvm.Cond.instanceMethod ({ cls := "LadderLots$Back", name := "sort", desc := "()I" } : Jvm.MethodName)) ∈ lw_all := lw_g (lw_at lw_m4 12 rfl) rfl
theorem q851 : (Jvm.Cond.code ({ cls := "LadderLots$Back", name := "sort", desc := "()I" } : Jvm.MethodName) prog_2_method_2_code (1 : Nat) (Option.some Jvm.ClassFile.FieldType.int)) ∈ lw_all := lw_g (lw_at lw_m4 13 rfl) rfl
theorem q864 : (Jvm.Cond.instantiable "LadderLots$Back" (1 : Nat)) ∈ lw_all := lw_g (lw_at lw_m4 26 rfl) rfl
theorem q866 : (Jvm.Cond.instanceMethod ({ cls := "LadderLots$Back", name := "<init>", desc := "(I)V" } : Jvm.MethodName)) ∈ lw_all := lw_g (lw_at lw_m4 28 rfl) rfl
theorem q867 : (Jvm.Cond.code ({ cls := "LadderLots$Back", name := "<init>", desc := "(I)V" } : Jvm.MethodName) prog_2_method_1_code (2 : Nat) (Option.none : Option Jvm.ClassFile.FieldType)) ∈ lw_all := lw_g (lw_at lw_m4 29 rfl) rfl
theorem q868 : (Jvm.Cond.methodLink "LadderLots$Back" (1 : Nat) ({ cls := "LadderLots$Gate", name := "<init>", desc := "(I)V" } : Jvm.MethodName)) ∈ lw_all := lw_g (lw_at lw_m4 30 rfl) rfl
theorem q869 : (Jvm.Cond.laysFinal "LadderLots$Back" "LadderLots$Step" "leg" "I") ∈ lw_all := lw_g (lw_at lw_m4 31 rfl) rfl
theorem q870 : (Jvm.Cond.superclass "LadderLots$Back" "LadderLots$Gate") ∈ lw_all := lw_g (lw_at lw_m4 32 rfl) rfl
theorem q917 : (Jvm.Cond.selects "LadderLots$Back" ({ cls := "LadderLots$Step", name := "turned", desc := "(I)LLadderLots$Step;" } : Jvm.MethodName) ({ cls := "LadderLots$Back", name := "turned", desc := "(I)LLadderLots$Step;" } : Jvm.MethodName)) ∈ lw_all := lw_g (lw_at lw_m4 79 rfl) rfl
theorem q918 : (Jvm.Cond.instanceMethod ({ cls := "LadderLots$Back", name := "turned", desc := "(I)LLadderLots$Step;" } : Jvm.MethodName)) ∈ lw_all := lw_g (lw_at lw_m4 80 rfl) rfl
theorem q919 : (Jvm.Cond.code ({ cls := "LadderLots$Back", name := "turned", desc := "(I)LLadderLots$Step;" } : Jvm.MethodName) prog_2_method_4_code (2 : Nat) (Option.some (Jvm.ClassFile.FieldType.object "LadderLots$Step"))) ∈ lw_all := lw_g (lw_at lw_m4 81 rfl) rfl
theorem q920 : (Jvm.Cond.classLink "LadderLots$Back" (2 : Nat) "LadderLots$Gate") ∈ lw_all := lw_g (lw_at lw_m4 82 rfl) rfl
theorem q1075 : (Jvm.Cond.selects "LadderLots$Back" ({ cls := "LadderLots$Step", name := "changes", desc := "(IIZ)Z" } : Jvm.MethodName) ({ cls := "LadderLots$Back", name := "changes", desc := "(IIZ)Z" } : Jvm.MethodName)) ∈ lw_all := lw_g (lw_at lw_m4 237 rfl) rfl
theorem q1076 : (Jvm.Cond.instanceMethod ({ cls := "LadderLots$Back", name := "changes", desc := "(IIZ)Z" } : Jvm.MethodName)) ∈ lw_all := lw_g (lw_at lw_m4 238 rfl) rfl
theorem q1077 : (Jvm.Cond.code ({ cls := "LadderLots$Back", name := "changes", desc := "(IIZ)Z" } : Jvm.MethodName) prog_2_method_3_code (4 : Nat) (Option.some Jvm.ClassFile.FieldType.boolean)) ∈ lw_all := lw_g (lw_at lw_m4 239 rfl) rfl
theorem q1078 : (Jvm.Cond.methodLink "LadderLots$Back" (7 : Nat) ({ cls := "LadderLots$Gate", name := "changes", desc := "(IIZ)Z" } : Jvm.MethodName)) ∈ lw_all := lw_g (lw_at lw_m5 0 rfl) rfl
theorem q1956 : (Jvm.Cond.castable "LadderLots$Back" "LadderLots$Step") ∈ lw_tbl := lw_at lw_m8 158 rfl
theorem q1972 : (Jvm.Cond.castable "LadderLots$Back" "java/lang/Object") ∈ lw_tbl := lw_at lw_m8 174 rfl
theorem in_X10 : ∀ w ∈ wsX100, w ∈ lw_all := lw_in wsX100 [869] (by decide +kernel) (by decide +kernel)

/-! LadderLots$Maybe -/
set_option maxRecDepth 100000
def RX11 : String := "LadderLots$Maybe"
def TX11 : u_T := fun k => match k with
  | 0 => ("LadderLots$Step", "leg", "I", true)
  | 1 => ("LadderLots$Maybe", "a", "I", true)
  | _ => ("LadderLots$Maybe", "b", "I", true)
def tyX11 : Nat → FieldType := fun k => match k with
  | 0 => .int
  | 1 => .int
  | _ => .int
abbrev wsX110 : List Cond := u_ws RX11 TX11 3
theorem nmX11 : ∀ a, a < 3 → ∀ b, b < 3 → a ≠ b → (TX11 a).2.1 ≠ (TX11 b).2.1 := by decide +kernel
theorem tyX11_ok : ∀ k, k < 3 → parseFieldDescriptor (TX11 k).2.2.1 = some (tyX11 k) := by decide +kernel
abbrev cX11_sort : ByteArray := prog_6_method_2_code
def yX11_sort : MethodName := ⟨RX11, "sort", "()I"⟩
theorem dX11_sort_0 : decode cX11_sort 0 = .ok (.iconst 3, 1) := by decide +kernel
theorem dX11_sort_1 : decode cX11_sort 1 = .ok (.ireturn, 1) := by decide +kernel
abbrev cX11_init : ByteArray := prog_6_method_1_code
def yX11_init : MethodName := ⟨RX11, "<init>", "(III)V"⟩
def dkwX11_init_0 : List UInt8 := [42, 27, 183, 0, 1, 42, 28, 181, 0, 7, 42, 29, 181, 0, 13, 177]
abbrev dktX11_init_0 : List UInt8 := dkwX11_init_0 ++ []
theorem dksX11_init_0 : cX11_init.data.toList.drop 0 = dktX11_init_0 := by decide +kernel
theorem dX11_init_0 : decode cX11_init 0 = .ok (.aload_n 0, 1) := dk_42 (dk_at dksX11_init_0 0 rfl rfl)
theorem dX11_init_1 : decode cX11_init 1 = .ok (.iload_n 1, 1) := dk_27 (dk_at dksX11_init_0 1 rfl rfl)
theorem dX11_init_2 : decode cX11_init 2 = .ok (.invokespecial 1, 3) := dk_183 0 1 (dk_at dksX11_init_0 2 rfl rfl)
theorem dX11_init_5 : decode cX11_init 5 = .ok (.aload_n 0, 1) := dk_42 (dk_at dksX11_init_0 5 rfl rfl)
theorem dX11_init_6 : decode cX11_init 6 = .ok (.iload_n 2, 1) := dk_28 (dk_at dksX11_init_0 6 rfl rfl)
theorem dX11_init_7 : decode cX11_init 7 = .ok (.putfield 7, 3) := dk_181 0 7 (dk_at dksX11_init_0 7 rfl rfl)
theorem dX11_init_10 : decode cX11_init 10 = .ok (.aload_n 0, 1) := dk_42 (dk_at dksX11_init_0 10 rfl rfl)
theorem dX11_init_11 : decode cX11_init 11 = .ok (.iload_n 3, 1) := dk_29 (dk_at dksX11_init_0 11 rfl rfl)
theorem dX11_init_12 : decode cX11_init 12 = .ok (.putfield 13, 3) := dk_181 0 13 (dk_at dksX11_init_0 12 rfl rfl)
theorem dX11_init_15 : decode cX11_init 15 = .ok (.return_, 1) := dk_177 (dk_at dksX11_init_0 15 rfl rfl)
abbrev cX11_turned : ByteArray := prog_6_method_4_code
def yX11_turned : MethodName := ⟨RX11, "turned", "(I)LLadderLots$Step;"⟩
def dkwX11_turned_0 : List UInt8 := [187, 0, 8, 89, 27, 5, 100, 42, 180, 0, 20, 100, 42, 180, 0, 7, 42, 180, 0, 13, 183, 0, 23, 176]
abbrev dktX11_turned_0 : List UInt8 := dkwX11_turned_0 ++ []
theorem dksX11_turned_0 : cX11_turned.data.toList.drop 0 = dktX11_turned_0 := by decide +kernel
theorem dX11_turned_0 : decode cX11_turned 0 = .ok (.new 8, 3) := dk_187 0 8 (dk_at dksX11_turned_0 0 rfl rfl)
theorem dX11_turned_3 : decode cX11_turned 3 = .ok (.dup, 1) := dk_89 (dk_at dksX11_turned_0 3 rfl rfl)
theorem dX11_turned_4 : decode cX11_turned 4 = .ok (.iload_n 1, 1) := dk_27 (dk_at dksX11_turned_0 4 rfl rfl)
theorem dX11_turned_5 : decode cX11_turned 5 = .ok (.iconst 2, 1) := dk_5 (dk_at dksX11_turned_0 5 rfl rfl)
theorem dX11_turned_6 : decode cX11_turned 6 = .ok (.isub, 1) := dk_100 (dk_at dksX11_turned_0 6 rfl rfl)
theorem dX11_turned_7 : decode cX11_turned 7 = .ok (.aload_n 0, 1) := dk_42 (dk_at dksX11_turned_0 7 rfl rfl)
theorem dX11_turned_8 : decode cX11_turned 8 = .ok (.getfield 20, 3) := dk_180 0 20 (dk_at dksX11_turned_0 8 rfl rfl)
theorem dX11_turned_11 : decode cX11_turned 11 = .ok (.isub, 1) := dk_100 (dk_at dksX11_turned_0 11 rfl rfl)
theorem dX11_turned_12 : decode cX11_turned 12 = .ok (.aload_n 0, 1) := dk_42 (dk_at dksX11_turned_0 12 rfl rfl)
theorem dX11_turned_13 : decode cX11_turned 13 = .ok (.getfield 7, 3) := dk_180 0 7 (dk_at dksX11_turned_0 13 rfl rfl)
theorem dX11_turned_16 : decode cX11_turned 16 = .ok (.aload_n 0, 1) := dk_42 (dk_at dksX11_turned_0 16 rfl rfl)
theorem dX11_turned_17 : decode cX11_turned 17 = .ok (.getfield 13, 3) := dk_180 0 13 (dk_at dksX11_turned_0 17 rfl rfl)
theorem dX11_turned_20 : decode cX11_turned 20 = .ok (.invokespecial 23, 3) := dk_183 0 23 (dk_at dksX11_turned_0 20 rfl rfl)
theorem dX11_turned_23 : decode cX11_turned 23 = .ok (.areturn, 1) := dk_176 (dk_at dksX11_turned_0 23 rfl rfl)
abbrev cX11_changes : ByteArray := prog_6_method_3_code
def yX11_changes : MethodName := ⟨RX11, "changes", "(IIZ)Z"⟩
def dkwX11_changes_0 : List UInt8 := [29, 153, 0, 17, 42, 27, 28, 4, 183, 0, 16, 153, 0, 7, 4, 167, 0, 4, 3, 172]
abbrev dktX11_changes_0 : List UInt8 := dkwX11_changes_0 ++ []
theorem dksX11_changes_0 : cX11_changes.data.toList.drop 0 = dktX11_changes_0 := by decide +kernel
theorem dX11_changes_0 : decode cX11_changes 0 = .ok (.iload_n 3, 1) := dk_29 (dk_at dksX11_changes_0 0 rfl rfl)
theorem dX11_changes_1 : decode cX11_changes 1 = .ok (.ifCond .eq 17, 3) := dk_153 0 17 (dk_at dksX11_changes_0 1 rfl rfl)
theorem dX11_changes_4 : decode cX11_changes 4 = .ok (.aload_n 0, 1) := dk_42 (dk_at dksX11_changes_0 4 rfl rfl)
theorem dX11_changes_5 : decode cX11_changes 5 = .ok (.iload_n 1, 1) := dk_27 (dk_at dksX11_changes_0 5 rfl rfl)
theorem dX11_changes_6 : decode cX11_changes 6 = .ok (.iload_n 2, 1) := dk_28 (dk_at dksX11_changes_0 6 rfl rfl)
theorem dX11_changes_7 : decode cX11_changes 7 = .ok (.iconst 1, 1) := dk_4 (dk_at dksX11_changes_0 7 rfl rfl)
theorem dX11_changes_8 : decode cX11_changes 8 = .ok (.invokespecial 16, 3) := dk_183 0 16 (dk_at dksX11_changes_0 8 rfl rfl)
theorem dX11_changes_11 : decode cX11_changes 11 = .ok (.ifCond .eq 7, 3) := dk_153 0 7 (dk_at dksX11_changes_0 11 rfl rfl)
theorem dX11_changes_14 : decode cX11_changes 14 = .ok (.iconst 1, 1) := dk_4 (dk_at dksX11_changes_0 14 rfl rfl)
theorem dX11_changes_15 : decode cX11_changes 15 = .ok (.goto 4, 3) := dk_167 0 4 (dk_at dksX11_changes_0 15 rfl rfl)
theorem dX11_changes_18 : decode cX11_changes 18 = .ok (.iconst 0, 1) := dk_3 (dk_at dksX11_changes_0 18 rfl rfl)
theorem dX11_changes_19 : decode cX11_changes 19 = .ok (.ireturn, 1) := dk_172 (dk_at dksX11_changes_0 19 rfl rfl)
theorem q144 : (Jvm.Cond.initialized "LadderLots$Maybe") ∈ lw_all := lw_g (lw_at lw_m1 26 rfl) rfl
theorem q415 : (Jvm.Cond.fieldLink "LadderLots$Maybe" (20 : Nat) "LadderLots$Maybe" "leg" "I") ∈ lw_all := lw_g (lw_at lw_m2 57 rfl) rfl
theorem q416 : (Jvm.Cond.sameField "LadderLots$Maybe" "LadderLots$Step" "leg" "I") ∈ lw_all := lw_g (lw_at lw_m2 58 rfl) rfl
theorem q825 : (Jvm.Cond.selects "LadderLots$Maybe" ({ cls := "java/lang/Object", name := "getClass", desc := "()Ljava/lang/Class;" } : Jvm.MethodName) ({ cls := "java/lang/Object", name := "getClass", desc := "()Ljava/lang/Class;" } : Jvm.MethodName)) ∈ lw_all := lw_g (lw_at lw_m3 227 rfl) rfl
theorem q855 : (Jvm.Cond.selects "LadderLots$Maybe" ({ cls := "LadderLots$Step", name := "sort", desc := "()I" } : Jvm.MethodName) ({ cls := "LadderLots$Maybe", name := "sort", desc := "()I" } : Jvm.MethodName)) ∈ lw_all := lw_g (lw_at lw_m4 17 rfl) rfl
theorem q856 : (Jvm.Cond.instanceMethod ({ cls := "LadderLots$Maybe", name := "sort", desc := "()I" } : Jvm.MethodName)) ∈ lw_all := lw_g (lw_at lw_m4 18 rfl) rfl
theorem q857 : (Jvm.Cond.code ({ cls := "LadderLots$Maybe", name := "sort", desc := "()I" } : Jvm.MethodName) prog_6_method_2_code (1 : Nat) (Option.some Jvm.ClassFile.FieldType.int)) ∈ lw_all := lw_g (lw_at lw_m4 19 rfl) rfl
theorem q876 : (Jvm.Cond.instantiable "LadderLots$Maybe" (3 : Nat)) ∈ lw_all := lw_g (lw_at lw_m4 38 rfl) rfl
theorem q878 : (Jvm.Cond.instanceMethod ({ cls := "LadderLots$Maybe", name := "<init>", desc := "(III)V" } : Jvm.MethodName)) ∈ lw_all := lw_g (lw_at lw_m4 40 rfl) rfl
theorem q879 : (Jvm.Cond.code ({ cls := "LadderLots$Maybe", name := "<init>", desc := "(III)V" } : Jvm.MethodName) prog_6_method_1_code (4 : Nat) (Option.none : Option Jvm.ClassFile.FieldType)) ∈ lw_all := lw_g (lw_at lw_m4 41 rfl) rfl
theorem q880 : (Jvm.Cond.methodLink "LadderLots$Maybe" (1 : Nat) ({ cls := "LadderLots$Rung", name := "<init>", desc := "(I)V" } : Jvm.MethodName)) ∈ lw_all := lw_g (lw_at lw_m4 42 rfl) rfl
theorem q881 : (Jvm.Cond.fieldLink "LadderLots$Maybe" (7 : Nat) "LadderLots$Maybe" "a" "I") ∈ lw_all := lw_g (lw_at lw_m4 43 rfl) rfl
theorem q883 : (Jvm.Cond.fieldLink "LadderLots$Maybe" (13 : Nat) "LadderLots$Maybe" "b" "I") ∈ lw_all := lw_g (lw_at lw_m4 45 rfl) rfl
theorem q885 : (Jvm.Cond.laysFinal "LadderLots$Maybe" "LadderLots$Maybe" "a" "I") ∈ lw_all := lw_g (lw_at lw_m4 47 rfl) rfl
theorem q886 : (Jvm.Cond.soleField "LadderLots$Maybe" "a") ∈ lw_all := lw_g (lw_at lw_m4 48 rfl) rfl
theorem q887 : (Jvm.Cond.laysFinal "LadderLots$Maybe" "LadderLots$Maybe" "b" "I") ∈ lw_all := lw_g (lw_at lw_m4 49 rfl) rfl
theorem q888 : (Jvm.Cond.soleField "LadderLots$Maybe" "b") ∈ lw_all := lw_g (lw_at lw_m4 50 rfl) rfl
theorem q889 : (Jvm.Cond.laysFinal "LadderLots$Maybe" "LadderLots$Step" "leg" "I") ∈ lw_all := lw_g (lw_at lw_m4 51 rfl) rfl
theorem q890 : (Jvm.Cond.superclass "LadderLots$Maybe" "LadderLots$Rung") ∈ lw_all := lw_g (lw_at lw_m4 52 rfl) rfl
theorem q926 : (Jvm.Cond.selects "LadderLots$Maybe" ({ cls := "LadderLots$Step", name := "turned", desc := "(I)LLadderLots$Step;" } : Jvm.MethodName) ({ cls := "LadderLots$Maybe", name := "turned", desc := "(I)LLadderLots$Step;" } : Jvm.MethodName)) ∈ lw_all := lw_g (lw_at lw_m4 88 rfl) rfl
theorem q927 : (Jvm.Cond.instanceMethod ({ cls := "LadderLots$Maybe", name := "turned", desc := "(I)LLadderLots$Step;" } : Jvm.MethodName)) ∈ lw_all := lw_g (lw_at lw_m4 89 rfl) rfl
theorem q928 : (Jvm.Cond.code ({ cls := "LadderLots$Maybe", name := "turned", desc := "(I)LLadderLots$Step;" } : Jvm.MethodName) prog_6_method_4_code (2 : Nat) (Option.some (Jvm.ClassFile.FieldType.object "LadderLots$Step"))) ∈ lw_all := lw_g (lw_at lw_m4 90 rfl) rfl
theorem q929 : (Jvm.Cond.classLink "LadderLots$Maybe" (8 : Nat) "LadderLots$Maybe") ∈ lw_all := lw_g (lw_at lw_m4 91 rfl) rfl
theorem q930 : (Jvm.Cond.methodLink "LadderLots$Maybe" (23 : Nat) ({ cls := "LadderLots$Maybe", name := "<init>", desc := "(III)V" } : Jvm.MethodName)) ∈ lw_all := lw_g (lw_at lw_m4 92 rfl) rfl
theorem q1082 : (Jvm.Cond.selects "LadderLots$Maybe" ({ cls := "LadderLots$Step", name := "changes", desc := "(IIZ)Z" } : Jvm.MethodName) ({ cls := "LadderLots$Maybe", name := "changes", desc := "(IIZ)Z" } : Jvm.MethodName)) ∈ lw_all := lw_g (lw_at lw_m5 4 rfl) rfl
theorem q1083 : (Jvm.Cond.instanceMethod ({ cls := "LadderLots$Maybe", name := "changes", desc := "(IIZ)Z" } : Jvm.MethodName)) ∈ lw_all := lw_g (lw_at lw_m5 5 rfl) rfl
theorem q1084 : (Jvm.Cond.code ({ cls := "LadderLots$Maybe", name := "changes", desc := "(IIZ)Z" } : Jvm.MethodName) prog_6_method_3_code (4 : Nat) (Option.some Jvm.ClassFile.FieldType.boolean)) ∈ lw_all := lw_g (lw_at lw_m5 6 rfl) rfl
theorem q1085 : (Jvm.Cond.methodLink "LadderLots$Maybe" (16 : Nat) ({ cls := "LadderLots$Rung", name := "changes", desc := "(IIZ)Z" } : Jvm.MethodName)) ∈ lw_all := lw_g (lw_at lw_m5 7 rfl) rfl
theorem q1958 : (Jvm.Cond.castable "LadderLots$Maybe" "LadderLots$Step") ∈ lw_tbl := lw_at lw_m8 160 rfl
theorem q1973 : (Jvm.Cond.castable "LadderLots$Maybe" "java/lang/Object") ∈ lw_tbl := lw_at lw_m8 175 rfl
theorem in_X11 : ∀ w ∈ wsX110, w ∈ lw_all := lw_in wsX110 [889, 885, 887] (by decide +kernel) (by decide +kernel)

/-! LadderLots$Ladder -/
set_option maxRecDepth 100000
def RX12 : String := "LadderLots$Ladder"
def TX12 : u_T := fun k => match k with
  | 0 => ("LadderLots$Ladder", "legs", "I", true)
  | _ => ("LadderLots$Ladder", "steps", "LLadderLots$Steps;", true)
def tyX12 : Nat → FieldType := fun k => match k with
  | 0 => .int
  | _ => .object "LadderLots$Steps"
abbrev wsX120 : List Cond := u_ws RX12 TX12 2
theorem nmX12 : ∀ a, a < 2 → ∀ b, b < 2 → a ≠ b → (TX12 a).2.1 ≠ (TX12 b).2.1 := by decide +kernel
theorem tyX12_ok : ∀ k, k < 2 → parseFieldDescriptor (TX12 k).2.2.1 = some (tyX12 k) := by decide +kernel
abbrev cX12_init : ByteArray := prog_5_method_1_code
def yX12_init : MethodName := ⟨RX12, "<init>", "(ILLadderLots$Steps;)V"⟩
def dkwX12_init_0 : List UInt8 := [42, 183, 0, 3, 42, 27, 181, 0, 9, 42, 44, 181, 0, 15, 177]
abbrev dktX12_init_0 : List UInt8 := dkwX12_init_0 ++ []
theorem dksX12_init_0 : cX12_init.data.toList.drop 0 = dktX12_init_0 := by decide +kernel
theorem dX12_init_0 : decode cX12_init 0 = .ok (.aload_n 0, 1) := dk_42 (dk_at dksX12_init_0 0 rfl rfl)
theorem dX12_init_1 : decode cX12_init 1 = .ok (.invokespecial 3, 3) := dk_183 0 3 (dk_at dksX12_init_0 1 rfl rfl)
theorem dX12_init_4 : decode cX12_init 4 = .ok (.aload_n 0, 1) := dk_42 (dk_at dksX12_init_0 4 rfl rfl)
theorem dX12_init_5 : decode cX12_init 5 = .ok (.iload_n 1, 1) := dk_27 (dk_at dksX12_init_0 5 rfl rfl)
theorem dX12_init_6 : decode cX12_init 6 = .ok (.putfield 9, 3) := dk_181 0 9 (dk_at dksX12_init_0 6 rfl rfl)
theorem dX12_init_9 : decode cX12_init 9 = .ok (.aload_n 0, 1) := dk_42 (dk_at dksX12_init_0 9 rfl rfl)
theorem dX12_init_10 : decode cX12_init 10 = .ok (.aload_n 2, 1) := dk_44 (dk_at dksX12_init_0 10 rfl rfl)
theorem dX12_init_11 : decode cX12_init 11 = .ok (.putfield 15, 3) := dk_181 0 15 (dk_at dksX12_init_0 11 rfl rfl)
theorem dX12_init_14 : decode cX12_init 14 = .ok (.return_, 1) := dk_177 (dk_at dksX12_init_0 14 rfl rfl)
abbrev cX12_size : ByteArray := prog_5_method_2_code
def yX12_size : MethodName := ⟨RX12, "size", "()I"⟩
def dkwX12_size_0 : List UInt8 := [42, 180, 0, 15, 180, 0, 19, 182, 0, 25, 172]
abbrev dktX12_size_0 : List UInt8 := dkwX12_size_0 ++ []
theorem dksX12_size_0 : cX12_size.data.toList.drop 0 = dktX12_size_0 := by decide +kernel
theorem dX12_size_0 : decode cX12_size 0 = .ok (.aload_n 0, 1) := dk_42 (dk_at dksX12_size_0 0 rfl rfl)
theorem dX12_size_1 : decode cX12_size 1 = .ok (.getfield 15, 3) := dk_180 0 15 (dk_at dksX12_size_0 1 rfl rfl)
theorem dX12_size_4 : decode cX12_size 4 = .ok (.getfield 19, 3) := dk_180 0 19 (dk_at dksX12_size_0 4 rfl rfl)
theorem dX12_size_7 : decode cX12_size 7 = .ok (.invokevirtual 25, 3) := dk_182 0 25 (dk_at dksX12_size_0 7 rfl rfl)
theorem dX12_size_10 : decode cX12_size 10 = .ok (.ireturn, 1) := dk_172 (dk_at dksX12_size_0 10 rfl rfl)
abbrev cX12_layers : ByteArray := prog_5_method_6_code
def yX12_layers : MethodName := ⟨RX12, "layers", "()I"⟩
def dkwX12_layers_1 : List UInt8 := [132, 2, 1, 167, 255, 235, 27, 172]
abbrev dktX12_layers_1 : List UInt8 := dkwX12_layers_1 ++ []
def dkwX12_layers_0 : List UInt8 := [3, 60, 3, 61, 28, 42, 182, 0, 53, 162, 0, 19, 27, 42, 28, 182, 0, 54, 184, 0, 47, 60]
abbrev dktX12_layers_0 : List UInt8 := dkwX12_layers_0 ++ dktX12_layers_1
theorem dksX12_layers_0 : cX12_layers.data.toList.drop 0 = dktX12_layers_0 := by decide +kernel
theorem dksX12_layers_1 : cX12_layers.data.toList.drop 22 = dktX12_layers_1 := dk_seg dksX12_layers_0 22 rfl rfl
theorem dX12_layers_0 : decode cX12_layers 0 = .ok (.iconst 0, 1) := dk_3 (dk_at dksX12_layers_0 0 rfl rfl)
theorem dX12_layers_1 : decode cX12_layers 1 = .ok (.istore_n 1, 1) := dk_60 (dk_at dksX12_layers_0 1 rfl rfl)
theorem dX12_layers_2 : decode cX12_layers 2 = .ok (.iconst 0, 1) := dk_3 (dk_at dksX12_layers_0 2 rfl rfl)
theorem dX12_layers_3 : decode cX12_layers 3 = .ok (.istore_n 2, 1) := dk_61 (dk_at dksX12_layers_0 3 rfl rfl)
theorem dX12_layers_4 : decode cX12_layers 4 = .ok (.iload_n 2, 1) := dk_28 (dk_at dksX12_layers_0 4 rfl rfl)
theorem dX12_layers_5 : decode cX12_layers 5 = .ok (.aload_n 0, 1) := dk_42 (dk_at dksX12_layers_0 5 rfl rfl)
theorem dX12_layers_6 : decode cX12_layers 6 = .ok (.invokevirtual 53, 3) := dk_182 0 53 (dk_at dksX12_layers_0 6 rfl rfl)
theorem dX12_layers_9 : decode cX12_layers 9 = .ok (.if_icmp .ge 19, 3) := dk_162 0 19 (dk_at dksX12_layers_0 9 rfl rfl)
theorem dX12_layers_12 : decode cX12_layers 12 = .ok (.iload_n 1, 1) := dk_27 (dk_at dksX12_layers_0 12 rfl rfl)
theorem dX12_layers_13 : decode cX12_layers 13 = .ok (.aload_n 0, 1) := dk_42 (dk_at dksX12_layers_0 13 rfl rfl)
theorem dX12_layers_14 : decode cX12_layers 14 = .ok (.iload_n 2, 1) := dk_28 (dk_at dksX12_layers_0 14 rfl rfl)
theorem dX12_layers_15 : decode cX12_layers 15 = .ok (.invokevirtual 54, 3) := dk_182 0 54 (dk_at dksX12_layers_0 15 rfl rfl)
theorem dX12_layers_18 : decode cX12_layers 18 = .ok (.invokestatic 47, 3) := dk_184 0 47 (dk_at dksX12_layers_0 18 rfl rfl)
theorem dX12_layers_21 : decode cX12_layers 21 = .ok (.istore_n 1, 1) := dk_60 (dk_at dksX12_layers_0 21 rfl rfl)
theorem dX12_layers_22 : decode cX12_layers 22 = .ok (.iinc 2 1, 3) := dk_132 2 1 (dk_at dksX12_layers_1 0 rfl rfl)
theorem dX12_layers_25 : decode cX12_layers 25 = .ok (.goto (-21), 3) := dk_167 255 235 (dk_at dksX12_layers_1 3 rfl rfl)
theorem dX12_layers_28 : decode cX12_layers 28 = .ok (.iload_n 1, 1) := dk_27 (dk_at dksX12_layers_1 6 rfl rfl)
theorem dX12_layers_29 : decode cX12_layers 29 = .ok (.ireturn, 1) := dk_172 (dk_at dksX12_layers_1 7 rfl rfl)
abbrev cX12_layer : ByteArray := prog_5_method_5_code
def yX12_layer : MethodName := ⟨RX12, "layer", "(I)I"⟩
def dkwX12_layer_2 : List UInt8 := [29, 79, 44, 21, 5, 4, 96, 29, 79, 132, 4, 1, 167, 255, 208, 29, 172]
abbrev dktX12_layer_2 : List UInt8 := dkwX12_layer_2 ++ []
def dkwX12_layer_1 : List UInt8 := [180, 0, 44, 54, 5, 4, 44, 21, 5, 46, 44, 21, 5, 4, 96, 46, 184, 0, 47, 96, 62, 44, 21, 5]
abbrev dktX12_layer_1 : List UInt8 := dkwX12_layer_1 ++ dktX12_layer_2
def dkwX12_layer_0 : List UInt8 := [16, 7, 188, 10, 77, 3, 62, 3, 54, 4, 21, 4, 27, 163, 0, 48, 42, 21, 4, 182, 0, 40]
abbrev dktX12_layer_0 : List UInt8 := dkwX12_layer_0 ++ dktX12_layer_1
theorem dksX12_layer_0 : cX12_layer.data.toList.drop 0 = dktX12_layer_0 := by decide +kernel
theorem dksX12_layer_1 : cX12_layer.data.toList.drop 22 = dktX12_layer_1 := dk_seg dksX12_layer_0 22 rfl rfl
theorem dksX12_layer_2 : cX12_layer.data.toList.drop 46 = dktX12_layer_2 := dk_seg dksX12_layer_1 24 rfl rfl
theorem dX12_layer_0 : decode cX12_layer 0 = .ok (.bipush 7, 2) := dk_16 7 (dk_at dksX12_layer_0 0 rfl rfl)
theorem dX12_layer_2 : decode cX12_layer 2 = .ok (.newarray .int, 2) := dk_188_10 (dk_at dksX12_layer_0 2 rfl rfl)
theorem dX12_layer_4 : decode cX12_layer 4 = .ok (.astore_n 2, 1) := dk_77 (dk_at dksX12_layer_0 4 rfl rfl)
theorem dX12_layer_5 : decode cX12_layer 5 = .ok (.iconst 0, 1) := dk_3 (dk_at dksX12_layer_0 5 rfl rfl)
theorem dX12_layer_6 : decode cX12_layer 6 = .ok (.istore_n 3, 1) := dk_62 (dk_at dksX12_layer_0 6 rfl rfl)
theorem dX12_layer_7 : decode cX12_layer 7 = .ok (.iconst 0, 1) := dk_3 (dk_at dksX12_layer_0 7 rfl rfl)
theorem dX12_layer_8 : decode cX12_layer 8 = .ok (.istore 4, 2) := dk_54 4 (dk_at dksX12_layer_0 8 rfl rfl)
theorem dX12_layer_10 : decode cX12_layer 10 = .ok (.iload 4, 2) := dk_21 4 (dk_at dksX12_layer_0 10 rfl rfl)
theorem dX12_layer_12 : decode cX12_layer 12 = .ok (.iload_n 1, 1) := dk_27 (dk_at dksX12_layer_0 12 rfl rfl)
theorem dX12_layer_13 : decode cX12_layer 13 = .ok (.if_icmp .gt 48, 3) := dk_163 0 48 (dk_at dksX12_layer_0 13 rfl rfl)
theorem dX12_layer_16 : decode cX12_layer 16 = .ok (.aload_n 0, 1) := dk_42 (dk_at dksX12_layer_0 16 rfl rfl)
theorem dX12_layer_17 : decode cX12_layer 17 = .ok (.iload 4, 2) := dk_21 4 (dk_at dksX12_layer_0 17 rfl rfl)
theorem dX12_layer_19 : decode cX12_layer 19 = .ok (.invokevirtual 40, 3) := dk_182 0 40 (dk_at dksX12_layer_0 19 rfl rfl)
theorem dX12_layer_22 : decode cX12_layer 22 = .ok (.getfield 44, 3) := dk_180 0 44 (dk_at dksX12_layer_1 0 rfl rfl)
theorem dX12_layer_25 : decode cX12_layer 25 = .ok (.istore 5, 2) := dk_54 5 (dk_at dksX12_layer_1 3 rfl rfl)
theorem dX12_layer_27 : decode cX12_layer 27 = .ok (.iconst 1, 1) := dk_4 (dk_at dksX12_layer_1 5 rfl rfl)
theorem dX12_layer_28 : decode cX12_layer 28 = .ok (.aload_n 2, 1) := dk_44 (dk_at dksX12_layer_1 6 rfl rfl)
theorem dX12_layer_29 : decode cX12_layer 29 = .ok (.iload 5, 2) := dk_21 5 (dk_at dksX12_layer_1 7 rfl rfl)
theorem dX12_layer_31 : decode cX12_layer 31 = .ok (.iaload, 1) := dk_46 (dk_at dksX12_layer_1 9 rfl rfl)
theorem dX12_layer_32 : decode cX12_layer 32 = .ok (.aload_n 2, 1) := dk_44 (dk_at dksX12_layer_1 10 rfl rfl)
theorem dX12_layer_33 : decode cX12_layer 33 = .ok (.iload 5, 2) := dk_21 5 (dk_at dksX12_layer_1 11 rfl rfl)
theorem dX12_layer_35 : decode cX12_layer 35 = .ok (.iconst 1, 1) := dk_4 (dk_at dksX12_layer_1 13 rfl rfl)
theorem dX12_layer_36 : decode cX12_layer 36 = .ok (.iadd, 1) := dk_96 (dk_at dksX12_layer_1 14 rfl rfl)
theorem dX12_layer_37 : decode cX12_layer 37 = .ok (.iaload, 1) := dk_46 (dk_at dksX12_layer_1 15 rfl rfl)
theorem dX12_layer_38 : decode cX12_layer 38 = .ok (.invokestatic 47, 3) := dk_184 0 47 (dk_at dksX12_layer_1 16 rfl rfl)
theorem dX12_layer_41 : decode cX12_layer 41 = .ok (.iadd, 1) := dk_96 (dk_at dksX12_layer_1 19 rfl rfl)
theorem dX12_layer_42 : decode cX12_layer 42 = .ok (.istore_n 3, 1) := dk_62 (dk_at dksX12_layer_1 20 rfl rfl)
theorem dX12_layer_43 : decode cX12_layer 43 = .ok (.aload_n 2, 1) := dk_44 (dk_at dksX12_layer_1 21 rfl rfl)
theorem dX12_layer_44 : decode cX12_layer 44 = .ok (.iload 5, 2) := dk_21 5 (dk_at dksX12_layer_1 22 rfl rfl)
theorem dX12_layer_46 : decode cX12_layer 46 = .ok (.iload_n 3, 1) := dk_29 (dk_at dksX12_layer_2 0 rfl rfl)
theorem dX12_layer_47 : decode cX12_layer 47 = .ok (.iastore, 1) := dk_79 (dk_at dksX12_layer_2 1 rfl rfl)
theorem dX12_layer_48 : decode cX12_layer 48 = .ok (.aload_n 2, 1) := dk_44 (dk_at dksX12_layer_2 2 rfl rfl)
theorem dX12_layer_49 : decode cX12_layer 49 = .ok (.iload 5, 2) := dk_21 5 (dk_at dksX12_layer_2 3 rfl rfl)
theorem dX12_layer_51 : decode cX12_layer 51 = .ok (.iconst 1, 1) := dk_4 (dk_at dksX12_layer_2 5 rfl rfl)
theorem dX12_layer_52 : decode cX12_layer 52 = .ok (.iadd, 1) := dk_96 (dk_at dksX12_layer_2 6 rfl rfl)
theorem dX12_layer_53 : decode cX12_layer 53 = .ok (.iload_n 3, 1) := dk_29 (dk_at dksX12_layer_2 7 rfl rfl)
theorem dX12_layer_54 : decode cX12_layer 54 = .ok (.iastore, 1) := dk_79 (dk_at dksX12_layer_2 8 rfl rfl)
theorem dX12_layer_55 : decode cX12_layer 55 = .ok (.iinc 4 1, 3) := dk_132 4 1 (dk_at dksX12_layer_2 9 rfl rfl)
theorem dX12_layer_58 : decode cX12_layer 58 = .ok (.goto (-48), 3) := dk_167 255 208 (dk_at dksX12_layer_2 12 rfl rfl)
theorem dX12_layer_61 : decode cX12_layer 61 = .ok (.iload_n 3, 1) := dk_29 (dk_at dksX12_layer_2 15 rfl rfl)
theorem dX12_layer_62 : decode cX12_layer 62 = .ok (.ireturn, 1) := dk_172 (dk_at dksX12_layer_2 16 rfl rfl)
abbrev cX12_at : ByteArray := prog_5_method_3_code
def yX12_at : MethodName := ⟨RX12, "at", "(I)LLadderLots$Step;"⟩
def dkwX12_at_0 : List UInt8 := [42, 180, 0, 15, 180, 0, 19, 27, 182, 0, 31, 192, 0, 35, 176]
abbrev dktX12_at_0 : List UInt8 := dkwX12_at_0 ++ []
theorem dksX12_at_0 : cX12_at.data.toList.drop 0 = dktX12_at_0 := by decide +kernel
theorem dX12_at_0 : decode cX12_at 0 = .ok (.aload_n 0, 1) := dk_42 (dk_at dksX12_at_0 0 rfl rfl)
theorem dX12_at_1 : decode cX12_at 1 = .ok (.getfield 15, 3) := dk_180 0 15 (dk_at dksX12_at_0 1 rfl rfl)
theorem dX12_at_4 : decode cX12_at 4 = .ok (.getfield 19, 3) := dk_180 0 19 (dk_at dksX12_at_0 4 rfl rfl)
theorem dX12_at_7 : decode cX12_at 7 = .ok (.iload_n 1, 1) := dk_27 (dk_at dksX12_at_0 7 rfl rfl)
theorem dX12_at_8 : decode cX12_at 8 = .ok (.invokevirtual 31, 3) := dk_182 0 31 (dk_at dksX12_at_0 8 rfl rfl)
theorem dX12_at_11 : decode cX12_at 11 = .ok (.checkcast 35, 3) := dk_192 0 35 (dk_at dksX12_at_0 11 rfl rfl)
theorem dX12_at_14 : decode cX12_at 14 = .ok (.areturn, 1) := dk_176 (dk_at dksX12_at_0 14 rfl rfl)
abbrev cX12_isPlain : ByteArray := prog_5_method_4_code
def yX12_isPlain : MethodName := ⟨RX12, "isPlain", "()Z"⟩
def dkwX12_isPlain_1 : List UInt8 := [182, 0, 31, 192, 0, 35, 77, 44, 182, 0, 37, 153, 0, 5, 3, 172, 132, 1, 1, 167, 255, 215, 4, 172]
abbrev dktX12_isPlain_1 : List UInt8 := dkwX12_isPlain_1 ++ []
def dkwX12_isPlain_0 : List UInt8 := [3, 60, 27, 42, 180, 0, 15, 180, 0, 19, 182, 0, 25, 162, 0, 33, 42, 180, 0, 15, 180, 0, 19, 27]
abbrev dktX12_isPlain_0 : List UInt8 := dkwX12_isPlain_0 ++ dktX12_isPlain_1
theorem dksX12_isPlain_0 : cX12_isPlain.data.toList.drop 0 = dktX12_isPlain_0 := by decide +kernel
theorem dksX12_isPlain_1 : cX12_isPlain.data.toList.drop 24 = dktX12_isPlain_1 := dk_seg dksX12_isPlain_0 24 rfl rfl
theorem dX12_isPlain_0 : decode cX12_isPlain 0 = .ok (.iconst 0, 1) := dk_3 (dk_at dksX12_isPlain_0 0 rfl rfl)
theorem dX12_isPlain_1 : decode cX12_isPlain 1 = .ok (.istore_n 1, 1) := dk_60 (dk_at dksX12_isPlain_0 1 rfl rfl)
theorem dX12_isPlain_2 : decode cX12_isPlain 2 = .ok (.iload_n 1, 1) := dk_27 (dk_at dksX12_isPlain_0 2 rfl rfl)
theorem dX12_isPlain_3 : decode cX12_isPlain 3 = .ok (.aload_n 0, 1) := dk_42 (dk_at dksX12_isPlain_0 3 rfl rfl)
theorem dX12_isPlain_4 : decode cX12_isPlain 4 = .ok (.getfield 15, 3) := dk_180 0 15 (dk_at dksX12_isPlain_0 4 rfl rfl)
theorem dX12_isPlain_7 : decode cX12_isPlain 7 = .ok (.getfield 19, 3) := dk_180 0 19 (dk_at dksX12_isPlain_0 7 rfl rfl)
theorem dX12_isPlain_10 : decode cX12_isPlain 10 = .ok (.invokevirtual 25, 3) := dk_182 0 25 (dk_at dksX12_isPlain_0 10 rfl rfl)
theorem dX12_isPlain_13 : decode cX12_isPlain 13 = .ok (.if_icmp .ge 33, 3) := dk_162 0 33 (dk_at dksX12_isPlain_0 13 rfl rfl)
theorem dX12_isPlain_16 : decode cX12_isPlain 16 = .ok (.aload_n 0, 1) := dk_42 (dk_at dksX12_isPlain_0 16 rfl rfl)
theorem dX12_isPlain_17 : decode cX12_isPlain 17 = .ok (.getfield 15, 3) := dk_180 0 15 (dk_at dksX12_isPlain_0 17 rfl rfl)
theorem dX12_isPlain_20 : decode cX12_isPlain 20 = .ok (.getfield 19, 3) := dk_180 0 19 (dk_at dksX12_isPlain_0 20 rfl rfl)
theorem dX12_isPlain_23 : decode cX12_isPlain 23 = .ok (.iload_n 1, 1) := dk_27 (dk_at dksX12_isPlain_0 23 rfl rfl)
theorem dX12_isPlain_24 : decode cX12_isPlain 24 = .ok (.invokevirtual 31, 3) := dk_182 0 31 (dk_at dksX12_isPlain_1 0 rfl rfl)
theorem dX12_isPlain_27 : decode cX12_isPlain 27 = .ok (.checkcast 35, 3) := dk_192 0 35 (dk_at dksX12_isPlain_1 3 rfl rfl)
theorem dX12_isPlain_30 : decode cX12_isPlain 30 = .ok (.astore_n 2, 1) := dk_77 (dk_at dksX12_isPlain_1 6 rfl rfl)
theorem dX12_isPlain_31 : decode cX12_isPlain 31 = .ok (.aload_n 2, 1) := dk_44 (dk_at dksX12_isPlain_1 7 rfl rfl)
theorem dX12_isPlain_32 : decode cX12_isPlain 32 = .ok (.invokevirtual 37, 3) := dk_182 0 37 (dk_at dksX12_isPlain_1 8 rfl rfl)
theorem dX12_isPlain_35 : decode cX12_isPlain 35 = .ok (.ifCond .eq 5, 3) := dk_153 0 5 (dk_at dksX12_isPlain_1 11 rfl rfl)
theorem dX12_isPlain_38 : decode cX12_isPlain 38 = .ok (.iconst 0, 1) := dk_3 (dk_at dksX12_isPlain_1 14 rfl rfl)
theorem dX12_isPlain_39 : decode cX12_isPlain 39 = .ok (.ireturn, 1) := dk_172 (dk_at dksX12_isPlain_1 15 rfl rfl)
theorem dX12_isPlain_40 : decode cX12_isPlain 40 = .ok (.iinc 1 1, 3) := dk_132 1 1 (dk_at dksX12_isPlain_1 16 rfl rfl)
theorem dX12_isPlain_43 : decode cX12_isPlain 43 = .ok (.goto (-41), 3) := dk_167 255 215 (dk_at dksX12_isPlain_1 19 rfl rfl)
theorem dX12_isPlain_46 : decode cX12_isPlain 46 = .ok (.iconst 1, 1) := dk_4 (dk_at dksX12_isPlain_1 22 rfl rfl)
theorem dX12_isPlain_47 : decode cX12_isPlain 47 = .ok (.ireturn, 1) := dk_172 (dk_at dksX12_isPlain_1 23 rfl rfl)
theorem q146 : (Jvm.Cond.initialized "LadderLots$Ladder") ∈ lw_all := lw_g (lw_at lw_m1 28 rfl) rfl
theorem q419 : (Jvm.Cond.fieldLink "LadderLots$Ladder" (44 : Nat) "LadderLots$Step" "leg" "I") ∈ lw_all := lw_g (lw_at lw_m2 61 rfl) rfl
theorem q745 : (Jvm.Cond.fieldLinkNest "LadderLots$Ladder" (19 : Nat) "LadderLots$Steps" "list" "Ljava/util/ArrayList;" "LadderLots") ∈ lw_tbl := lw_at lw_m3 147 rfl
theorem q824 : (Jvm.Cond.selects "LadderLots$Ladder" ({ cls := "java/lang/Object", name := "getClass", desc := "()Ljava/lang/Class;" } : Jvm.MethodName) ({ cls := "java/lang/Object", name := "getClass", desc := "()Ljava/lang/Class;" } : Jvm.MethodName)) ∈ lw_all := lw_g (lw_at lw_m3 226 rfl) rfl
theorem q945 : (Jvm.Cond.instantiable "LadderLots$Ladder" (2 : Nat)) ∈ lw_all := lw_g (lw_at lw_m4 107 rfl) rfl
theorem q947 : (Jvm.Cond.instanceMethod ({ cls := "LadderLots$Ladder", name := "<init>", desc := "(ILLadderLots$Steps;)V" } : Jvm.MethodName)) ∈ lw_all := lw_g (lw_at lw_m4 109 rfl) rfl
theorem q948 : (Jvm.Cond.code ({ cls := "LadderLots$Ladder", name := "<init>", desc := "(ILLadderLots$Steps;)V" } : Jvm.MethodName) prog_5_method_1_code (3 : Nat) (Option.none : Option Jvm.ClassFile.FieldType)) ∈ lw_all := lw_g (lw_at lw_m4 110 rfl) rfl
theorem q949 : (Jvm.Cond.methodLink "LadderLots$Ladder" (3 : Nat) ({ cls := "java/lang/Object", name := "<init>", desc := "()V" } : Jvm.MethodName)) ∈ lw_all := lw_g (lw_at lw_m4 111 rfl) rfl
theorem q950 : (Jvm.Cond.fieldLink "LadderLots$Ladder" (9 : Nat) "LadderLots$Ladder" "legs" "I") ∈ lw_all := lw_g (lw_at lw_m4 112 rfl) rfl
theorem q952 : (Jvm.Cond.fieldLink "LadderLots$Ladder" (15 : Nat) "LadderLots$Ladder" "steps" "LLadderLots$Steps;") ∈ lw_all := lw_g (lw_at lw_m4 114 rfl) rfl
theorem q954 : (Jvm.Cond.laysFinal "LadderLots$Ladder" "LadderLots$Ladder" "legs" "I") ∈ lw_all := lw_g (lw_at lw_m4 116 rfl) rfl
theorem q955 : (Jvm.Cond.soleField "LadderLots$Ladder" "legs") ∈ lw_all := lw_g (lw_at lw_m4 117 rfl) rfl
theorem q956 : (Jvm.Cond.laysFinal "LadderLots$Ladder" "LadderLots$Ladder" "steps" "LLadderLots$Steps;") ∈ lw_all := lw_g (lw_at lw_m4 118 rfl) rfl
theorem q957 : (Jvm.Cond.soleField "LadderLots$Ladder" "steps") ∈ lw_all := lw_g (lw_at lw_m4 119 rfl) rfl
theorem q958 : (Jvm.Cond.superclass "LadderLots$Ladder" "java/lang/Object") ∈ lw_all := lw_g (lw_at lw_m4 120 rfl) rfl
theorem q1015 : (Jvm.Cond.instanceMethod ({ cls := "LadderLots$Ladder", name := "size", desc := "()I" } : Jvm.MethodName)) ∈ lw_all := lw_g (lw_at lw_m4 177 rfl) rfl
theorem q1016 : (Jvm.Cond.selects "LadderLots$Ladder" ({ cls := "LadderLots$Ladder", name := "size", desc := "()I" } : Jvm.MethodName) ({ cls := "LadderLots$Ladder", name := "size", desc := "()I" } : Jvm.MethodName)) ∈ lw_all := lw_g (lw_at lw_m4 178 rfl) rfl
theorem q1017 : (Jvm.Cond.code ({ cls := "LadderLots$Ladder", name := "size", desc := "()I" } : Jvm.MethodName) prog_5_method_2_code (1 : Nat) (Option.some Jvm.ClassFile.FieldType.int)) ∈ lw_all := lw_g (lw_at lw_m4 179 rfl) rfl
theorem q1018 : (Jvm.Cond.methodLink "LadderLots$Ladder" (25 : Nat) ({ cls := "java/util/ArrayList", name := "size", desc := "()I" } : Jvm.MethodName)) ∈ lw_all := lw_g (lw_at lw_m4 180 rfl) rfl
theorem q1020 : (Jvm.Cond.instanceMethod ({ cls := "LadderLots$Ladder", name := "layers", desc := "()I" } : Jvm.MethodName)) ∈ lw_all := lw_g (lw_at lw_m4 182 rfl) rfl
theorem q1021 : (Jvm.Cond.selects "LadderLots$Ladder" ({ cls := "LadderLots$Ladder", name := "layers", desc := "()I" } : Jvm.MethodName) ({ cls := "LadderLots$Ladder", name := "layers", desc := "()I" } : Jvm.MethodName)) ∈ lw_all := lw_g (lw_at lw_m4 183 rfl) rfl
theorem q1022 : (Jvm.Cond.code ({ cls := "LadderLots$Ladder", name := "layers", desc := "()I" } : Jvm.MethodName) prog_5_method_6_code (3 : Nat) (Option.some Jvm.ClassFile.FieldType.int)) ∈ lw_all := lw_g (lw_at lw_m4 184 rfl) rfl
theorem q1023 : (Jvm.Cond.methodLink "LadderLots$Ladder" (53 : Nat) ({ cls := "LadderLots$Ladder", name := "size", desc := "()I" } : Jvm.MethodName)) ∈ lw_all := lw_g (lw_at lw_m4 185 rfl) rfl
theorem q1024 : (Jvm.Cond.methodLink "LadderLots$Ladder" (54 : Nat) ({ cls := "LadderLots$Ladder", name := "layer", desc := "(I)I" } : Jvm.MethodName)) ∈ lw_all := lw_g (lw_at lw_m4 186 rfl) rfl
theorem q1025 : (Jvm.Cond.instanceMethod ({ cls := "LadderLots$Ladder", name := "layer", desc := "(I)I" } : Jvm.MethodName)) ∈ lw_all := lw_g (lw_at lw_m4 187 rfl) rfl
theorem q1026 : (Jvm.Cond.selects "LadderLots$Ladder" ({ cls := "LadderLots$Ladder", name := "layer", desc := "(I)I" } : Jvm.MethodName) ({ cls := "LadderLots$Ladder", name := "layer", desc := "(I)I" } : Jvm.MethodName)) ∈ lw_all := lw_g (lw_at lw_m4 188 rfl) rfl
theorem q1027 : (Jvm.Cond.code ({ cls := "LadderLots$Ladder", name := "layer", desc := "(I)I" } : Jvm.MethodName) prog_5_method_5_code (6 : Nat) (Option.some Jvm.ClassFile.FieldType.int)) ∈ lw_all := lw_g (lw_at lw_m4 189 rfl) rfl
theorem q1028 : (Jvm.Cond.methodLink "LadderLots$Ladder" (40 : Nat) ({ cls := "LadderLots$Ladder", name := "at", desc := "(I)LLadderLots$Step;" } : Jvm.MethodName)) ∈ lw_all := lw_g (lw_at lw_m4 190 rfl) rfl
theorem q1029 : (Jvm.Cond.instanceMethod ({ cls := "LadderLots$Ladder", name := "at", desc := "(I)LLadderLots$Step;" } : Jvm.MethodName)) ∈ lw_all := lw_g (lw_at lw_m4 191 rfl) rfl
theorem q1030 : (Jvm.Cond.selects "LadderLots$Ladder" ({ cls := "LadderLots$Ladder", name := "at", desc := "(I)LLadderLots$Step;" } : Jvm.MethodName) ({ cls := "LadderLots$Ladder", name := "at", desc := "(I)LLadderLots$Step;" } : Jvm.MethodName)) ∈ lw_all := lw_g (lw_at lw_m4 192 rfl) rfl
theorem q1031 : (Jvm.Cond.code ({ cls := "LadderLots$Ladder", name := "at", desc := "(I)LLadderLots$Step;" } : Jvm.MethodName) prog_5_method_3_code (2 : Nat) (Option.some (Jvm.ClassFile.FieldType.object "LadderLots$Step"))) ∈ lw_all := lw_g (lw_at lw_m4 193 rfl) rfl
theorem q1032 : (Jvm.Cond.methodLink "LadderLots$Ladder" (31 : Nat) ({ cls := "java/util/ArrayList", name := "get", desc := "(I)Ljava/lang/Object;" } : Jvm.MethodName)) ∈ lw_all := lw_g (lw_at lw_m4 194 rfl) rfl
theorem q1033 : (Jvm.Cond.classLink "LadderLots$Ladder" (35 : Nat) "LadderLots$Step") ∈ lw_all := lw_g (lw_at lw_m4 195 rfl) rfl
theorem q1034 : (Jvm.Cond.methodLink "LadderLots$Ladder" (47 : Nat) ({ cls := "java/lang/Math", name := "max", desc := "(II)I" } : Jvm.MethodName)) ∈ lw_all := lw_g (lw_at lw_m4 196 rfl) rfl
theorem q1036 : (Jvm.Cond.instanceMethod ({ cls := "LadderLots$Ladder", name := "isPlain", desc := "()Z" } : Jvm.MethodName)) ∈ lw_all := lw_g (lw_at lw_m4 198 rfl) rfl
theorem q1037 : (Jvm.Cond.selects "LadderLots$Ladder" ({ cls := "LadderLots$Ladder", name := "isPlain", desc := "()Z" } : Jvm.MethodName) ({ cls := "LadderLots$Ladder", name := "isPlain", desc := "()Z" } : Jvm.MethodName)) ∈ lw_all := lw_g (lw_at lw_m4 199 rfl) rfl
theorem q1038 : (Jvm.Cond.code ({ cls := "LadderLots$Ladder", name := "isPlain", desc := "()Z" } : Jvm.MethodName) prog_5_method_4_code (3 : Nat) (Option.some Jvm.ClassFile.FieldType.boolean)) ∈ lw_all := lw_g (lw_at lw_m4 200 rfl) rfl
theorem q1039 : (Jvm.Cond.methodLink "LadderLots$Ladder" (37 : Nat) ({ cls := "LadderLots$Step", name := "sort", desc := "()I" } : Jvm.MethodName)) ∈ lw_all := lw_g (lw_at lw_m4 201 rfl) rfl
theorem q1974 : (Jvm.Cond.castable "LadderLots$Ladder" "java/lang/Object") ∈ lw_tbl := lw_at lw_m8 176 rfl
theorem in_X12 : ∀ w ∈ wsX120, w ∈ lw_all := lw_in wsX120 [954, 956] (by decide +kernel) (by decide +kernel)

/-! LadderLots$Scanner -/
set_option maxRecDepth 100000
def RX2 : String := "LadderLots$Scanner"
def TX2 : u_T := fun k => match k with
  | 0 => ("LadderLots$Scanner", "tape", "[B", true)
  | 1 => ("LadderLots$Scanner", "taped", "I", false)
  | 2 => ("LadderLots$Scanner", "kinds", "[B", true)
  | 3 => ("LadderLots$Scanner", "places", "[S", true)
  | 4 => ("LadderLots$Scanner", "values", "[J", true)
  | _ => ("LadderLots$Scanner", "count", "I", false)
def tyX2 : Nat → FieldType := fun k => match k with
  | 0 => .array .byte
  | 1 => .int
  | 2 => .array .byte
  | 3 => .array .short
  | 4 => .array .long
  | _ => .int
abbrev wsX20 : List Cond := u_ws RX2 TX2 6
theorem nmX2 : ∀ a, a < 6 → ∀ b, b < 6 → a ≠ b → (TX2 a).2.1 ≠ (TX2 b).2.1 := by decide +kernel
theorem tyX2_ok : ∀ k, k < 6 → parseFieldDescriptor (TX2 k).2.2.1 = some (tyX2 k) := by decide +kernel
abbrev cX2_init : ByteArray := prog_10_method_1_code
def yX2_init : MethodName := ⟨RX2, "<init>", "()V"⟩
def dkwX2_init_1 : List UInt8 := [17, 1, 146, 188, 9, 181, 0, 18, 42, 17, 1, 146, 188, 11, 181, 0, 22, 177]
abbrev dktX2_init_1 : List UInt8 := dkwX2_init_1 ++ []
def dkwX2_init_0 : List UInt8 := [42, 183, 0, 3, 42, 17, 7, 208, 188, 8, 181, 0, 11, 42, 17, 1, 146, 188, 8, 181, 0, 15, 42]
abbrev dktX2_init_0 : List UInt8 := dkwX2_init_0 ++ dktX2_init_1
theorem dksX2_init_0 : cX2_init.data.toList.drop 0 = dktX2_init_0 := by decide +kernel
theorem dksX2_init_1 : cX2_init.data.toList.drop 23 = dktX2_init_1 := dk_seg dksX2_init_0 23 rfl rfl
theorem dX2_init_0 : decode cX2_init 0 = .ok (.aload_n 0, 1) := dk_42 (dk_at dksX2_init_0 0 rfl rfl)
theorem dX2_init_1 : decode cX2_init 1 = .ok (.invokespecial 3, 3) := dk_183 0 3 (dk_at dksX2_init_0 1 rfl rfl)
theorem dX2_init_4 : decode cX2_init 4 = .ok (.aload_n 0, 1) := dk_42 (dk_at dksX2_init_0 4 rfl rfl)
theorem dX2_init_5 : decode cX2_init 5 = .ok (.sipush 2000, 3) := dk_17 7 208 (dk_at dksX2_init_0 5 rfl rfl)
theorem dX2_init_8 : decode cX2_init 8 = .ok (.newarray .byte, 2) := dk_188_8 (dk_at dksX2_init_0 8 rfl rfl)
theorem dX2_init_10 : decode cX2_init 10 = .ok (.putfield 11, 3) := dk_181 0 11 (dk_at dksX2_init_0 10 rfl rfl)
theorem dX2_init_13 : decode cX2_init 13 = .ok (.aload_n 0, 1) := dk_42 (dk_at dksX2_init_0 13 rfl rfl)
theorem dX2_init_14 : decode cX2_init 14 = .ok (.sipush 402, 3) := dk_17 1 146 (dk_at dksX2_init_0 14 rfl rfl)
theorem dX2_init_17 : decode cX2_init 17 = .ok (.newarray .byte, 2) := dk_188_8 (dk_at dksX2_init_0 17 rfl rfl)
theorem dX2_init_19 : decode cX2_init 19 = .ok (.putfield 15, 3) := dk_181 0 15 (dk_at dksX2_init_0 19 rfl rfl)
theorem dX2_init_22 : decode cX2_init 22 = .ok (.aload_n 0, 1) := dk_42 (dk_at dksX2_init_0 22 rfl rfl)
theorem dX2_init_23 : decode cX2_init 23 = .ok (.sipush 402, 3) := dk_17 1 146 (dk_at dksX2_init_1 0 rfl rfl)
theorem dX2_init_26 : decode cX2_init 26 = .ok (.newarray .short, 2) := dk_188_9 (dk_at dksX2_init_1 3 rfl rfl)
theorem dX2_init_28 : decode cX2_init 28 = .ok (.putfield 18, 3) := dk_181 0 18 (dk_at dksX2_init_1 5 rfl rfl)
theorem dX2_init_31 : decode cX2_init 31 = .ok (.aload_n 0, 1) := dk_42 (dk_at dksX2_init_1 8 rfl rfl)
theorem dX2_init_32 : decode cX2_init 32 = .ok (.sipush 402, 3) := dk_17 1 146 (dk_at dksX2_init_1 9 rfl rfl)
theorem dX2_init_35 : decode cX2_init 35 = .ok (.newarray .long, 2) := dk_188_11 (dk_at dksX2_init_1 12 rfl rfl)
theorem dX2_init_37 : decode cX2_init 37 = .ok (.putfield 22, 3) := dk_181 0 22 (dk_at dksX2_init_1 14 rfl rfl)
theorem dX2_init_40 : decode cX2_init 40 = .ok (.return_, 1) := dk_177 (dk_at dksX2_init_1 17 rfl rfl)
abbrev cX2_feed : ByteArray := prog_10_method_2_code
def yX2_feed : MethodName := ⟨RX2, "feed", "(IIIII)I"⟩
def dkwX2_feed_2 : List UInt8 := [172]
abbrev dktX2_feed_2 : List UInt8 := dkwX2_feed_2 ++ []
def dkwX2_feed_1 : List UInt8 := [182, 0, 30, 42, 29, 182, 0, 30, 42, 21, 4, 182, 0, 30, 42, 21, 5, 182, 0, 30, 42, 180, 0, 26]
abbrev dktX2_feed_1 : List UInt8 := dkwX2_feed_1 ++ dktX2_feed_2
def dkwX2_feed_0 : List UInt8 := [42, 180, 0, 26, 16, 20, 96, 17, 7, 208, 164, 0, 5, 2, 172, 42, 27, 182, 0, 30, 42, 28]
abbrev dktX2_feed_0 : List UInt8 := dkwX2_feed_0 ++ dktX2_feed_1
theorem dksX2_feed_0 : cX2_feed.data.toList.drop 0 = dktX2_feed_0 := by decide +kernel
theorem dksX2_feed_1 : cX2_feed.data.toList.drop 22 = dktX2_feed_1 := dk_seg dksX2_feed_0 22 rfl rfl
theorem dksX2_feed_2 : cX2_feed.data.toList.drop 46 = dktX2_feed_2 := dk_seg dksX2_feed_1 24 rfl rfl
theorem dX2_feed_0 : decode cX2_feed 0 = .ok (.aload_n 0, 1) := dk_42 (dk_at dksX2_feed_0 0 rfl rfl)
theorem dX2_feed_1 : decode cX2_feed 1 = .ok (.getfield 26, 3) := dk_180 0 26 (dk_at dksX2_feed_0 1 rfl rfl)
theorem dX2_feed_4 : decode cX2_feed 4 = .ok (.bipush 20, 2) := dk_16 20 (dk_at dksX2_feed_0 4 rfl rfl)
theorem dX2_feed_6 : decode cX2_feed 6 = .ok (.iadd, 1) := dk_96 (dk_at dksX2_feed_0 6 rfl rfl)
theorem dX2_feed_7 : decode cX2_feed 7 = .ok (.sipush 2000, 3) := dk_17 7 208 (dk_at dksX2_feed_0 7 rfl rfl)
theorem dX2_feed_10 : decode cX2_feed 10 = .ok (.if_icmp .le 5, 3) := dk_164 0 5 (dk_at dksX2_feed_0 10 rfl rfl)
theorem dX2_feed_13 : decode cX2_feed 13 = .ok (.iconst (-1), 1) := dk_2 (dk_at dksX2_feed_0 13 rfl rfl)
theorem dX2_feed_14 : decode cX2_feed 14 = .ok (.ireturn, 1) := dk_172 (dk_at dksX2_feed_0 14 rfl rfl)
theorem dX2_feed_15 : decode cX2_feed 15 = .ok (.aload_n 0, 1) := dk_42 (dk_at dksX2_feed_0 15 rfl rfl)
theorem dX2_feed_16 : decode cX2_feed 16 = .ok (.iload_n 1, 1) := dk_27 (dk_at dksX2_feed_0 16 rfl rfl)
theorem dX2_feed_17 : decode cX2_feed 17 = .ok (.invokevirtual 30, 3) := dk_182 0 30 (dk_at dksX2_feed_0 17 rfl rfl)
theorem dX2_feed_20 : decode cX2_feed 20 = .ok (.aload_n 0, 1) := dk_42 (dk_at dksX2_feed_0 20 rfl rfl)
theorem dX2_feed_21 : decode cX2_feed 21 = .ok (.iload_n 2, 1) := dk_28 (dk_at dksX2_feed_0 21 rfl rfl)
theorem dX2_feed_22 : decode cX2_feed 22 = .ok (.invokevirtual 30, 3) := dk_182 0 30 (dk_at dksX2_feed_1 0 rfl rfl)
theorem dX2_feed_25 : decode cX2_feed 25 = .ok (.aload_n 0, 1) := dk_42 (dk_at dksX2_feed_1 3 rfl rfl)
theorem dX2_feed_26 : decode cX2_feed 26 = .ok (.iload_n 3, 1) := dk_29 (dk_at dksX2_feed_1 4 rfl rfl)
theorem dX2_feed_27 : decode cX2_feed 27 = .ok (.invokevirtual 30, 3) := dk_182 0 30 (dk_at dksX2_feed_1 5 rfl rfl)
theorem dX2_feed_30 : decode cX2_feed 30 = .ok (.aload_n 0, 1) := dk_42 (dk_at dksX2_feed_1 8 rfl rfl)
theorem dX2_feed_31 : decode cX2_feed 31 = .ok (.iload 4, 2) := dk_21 4 (dk_at dksX2_feed_1 9 rfl rfl)
theorem dX2_feed_33 : decode cX2_feed 33 = .ok (.invokevirtual 30, 3) := dk_182 0 30 (dk_at dksX2_feed_1 11 rfl rfl)
theorem dX2_feed_36 : decode cX2_feed 36 = .ok (.aload_n 0, 1) := dk_42 (dk_at dksX2_feed_1 14 rfl rfl)
theorem dX2_feed_37 : decode cX2_feed 37 = .ok (.iload 5, 2) := dk_21 5 (dk_at dksX2_feed_1 15 rfl rfl)
theorem dX2_feed_39 : decode cX2_feed 39 = .ok (.invokevirtual 30, 3) := dk_182 0 30 (dk_at dksX2_feed_1 17 rfl rfl)
theorem dX2_feed_42 : decode cX2_feed 42 = .ok (.aload_n 0, 1) := dk_42 (dk_at dksX2_feed_1 20 rfl rfl)
theorem dX2_feed_43 : decode cX2_feed 43 = .ok (.getfield 26, 3) := dk_180 0 26 (dk_at dksX2_feed_1 21 rfl rfl)
theorem dX2_feed_46 : decode cX2_feed 46 = .ok (.ireturn, 1) := dk_172 (dk_at dksX2_feed_2 0 rfl rfl)
abbrev cX2_put : ByteArray := prog_10_method_3_code
def yX2_put : MethodName := ⟨RX2, "put", "(I)V"⟩
def dkwX2_put_1 : List UInt8 := [180, 0, 26, 4, 96, 181, 0, 26, 132, 2, 248, 167, 255, 226, 177]
abbrev dktX2_put_1 : List UInt8 := dkwX2_put_1 ++ []
def dkwX2_put_0 : List UInt8 := [16, 24, 61, 28, 155, 0, 32, 42, 180, 0, 11, 42, 180, 0, 26, 27, 28, 124, 145, 84, 42, 89]
abbrev dktX2_put_0 : List UInt8 := dkwX2_put_0 ++ dktX2_put_1
theorem dksX2_put_0 : cX2_put.data.toList.drop 0 = dktX2_put_0 := by decide +kernel
theorem dksX2_put_1 : cX2_put.data.toList.drop 22 = dktX2_put_1 := dk_seg dksX2_put_0 22 rfl rfl
theorem dX2_put_0 : decode cX2_put 0 = .ok (.bipush 24, 2) := dk_16 24 (dk_at dksX2_put_0 0 rfl rfl)
theorem dX2_put_2 : decode cX2_put 2 = .ok (.istore_n 2, 1) := dk_61 (dk_at dksX2_put_0 2 rfl rfl)
theorem dX2_put_3 : decode cX2_put 3 = .ok (.iload_n 2, 1) := dk_28 (dk_at dksX2_put_0 3 rfl rfl)
theorem dX2_put_4 : decode cX2_put 4 = .ok (.ifCond .lt 32, 3) := dk_155 0 32 (dk_at dksX2_put_0 4 rfl rfl)
theorem dX2_put_7 : decode cX2_put 7 = .ok (.aload_n 0, 1) := dk_42 (dk_at dksX2_put_0 7 rfl rfl)
theorem dX2_put_8 : decode cX2_put 8 = .ok (.getfield 11, 3) := dk_180 0 11 (dk_at dksX2_put_0 8 rfl rfl)
theorem dX2_put_11 : decode cX2_put 11 = .ok (.aload_n 0, 1) := dk_42 (dk_at dksX2_put_0 11 rfl rfl)
theorem dX2_put_12 : decode cX2_put 12 = .ok (.getfield 26, 3) := dk_180 0 26 (dk_at dksX2_put_0 12 rfl rfl)
theorem dX2_put_15 : decode cX2_put 15 = .ok (.iload_n 1, 1) := dk_27 (dk_at dksX2_put_0 15 rfl rfl)
theorem dX2_put_16 : decode cX2_put 16 = .ok (.iload_n 2, 1) := dk_28 (dk_at dksX2_put_0 16 rfl rfl)
theorem dX2_put_17 : decode cX2_put 17 = .ok (.iushr, 1) := dk_124 (dk_at dksX2_put_0 17 rfl rfl)
theorem dX2_put_18 : decode cX2_put 18 = .ok (.i2b, 1) := dk_145 (dk_at dksX2_put_0 18 rfl rfl)
theorem dX2_put_19 : decode cX2_put 19 = .ok (.bastore, 1) := dk_84 (dk_at dksX2_put_0 19 rfl rfl)
theorem dX2_put_20 : decode cX2_put 20 = .ok (.aload_n 0, 1) := dk_42 (dk_at dksX2_put_0 20 rfl rfl)
theorem dX2_put_21 : decode cX2_put 21 = .ok (.dup, 1) := dk_89 (dk_at dksX2_put_0 21 rfl rfl)
theorem dX2_put_22 : decode cX2_put 22 = .ok (.getfield 26, 3) := dk_180 0 26 (dk_at dksX2_put_1 0 rfl rfl)
theorem dX2_put_25 : decode cX2_put 25 = .ok (.iconst 1, 1) := dk_4 (dk_at dksX2_put_1 3 rfl rfl)
theorem dX2_put_26 : decode cX2_put 26 = .ok (.iadd, 1) := dk_96 (dk_at dksX2_put_1 4 rfl rfl)
theorem dX2_put_27 : decode cX2_put 27 = .ok (.putfield 26, 3) := dk_181 0 26 (dk_at dksX2_put_1 5 rfl rfl)
theorem dX2_put_30 : decode cX2_put 30 = .ok (.iinc 2 (-8), 3) := dk_132 2 248 (dk_at dksX2_put_1 8 rfl rfl)
theorem dX2_put_33 : decode cX2_put 33 = .ok (.goto (-30), 3) := dk_167 255 226 (dk_at dksX2_put_1 11 rfl rfl)
theorem dX2_put_36 : decode cX2_put 36 = .ok (.return_, 1) := dk_177 (dk_at dksX2_put_1 14 rfl rfl)
abbrev cX2_back : ByteArray := prog_10_method_4_code
def yX2_back : MethodName := ⟨RX2, "back", "(I)I"⟩
def dkwX2_back_1 : List UInt8 := [42, 180, 0, 26, 172]
abbrev dktX2_back_1 : List UInt8 := dkwX2_back_1 ++ []
def dkwX2_back_0 : List UInt8 := [27, 3, 42, 180, 0, 26, 184, 0, 34, 154, 0, 5, 2, 172, 42, 89, 180, 0, 26, 27, 100, 181, 0, 26]
abbrev dktX2_back_0 : List UInt8 := dkwX2_back_0 ++ dktX2_back_1
theorem dksX2_back_0 : cX2_back.data.toList.drop 0 = dktX2_back_0 := by decide +kernel
theorem dksX2_back_1 : cX2_back.data.toList.drop 24 = dktX2_back_1 := dk_seg dksX2_back_0 24 rfl rfl
theorem dX2_back_0 : decode cX2_back 0 = .ok (.iload_n 1, 1) := dk_27 (dk_at dksX2_back_0 0 rfl rfl)
theorem dX2_back_1 : decode cX2_back 1 = .ok (.iconst 0, 1) := dk_3 (dk_at dksX2_back_0 1 rfl rfl)
theorem dX2_back_2 : decode cX2_back 2 = .ok (.aload_n 0, 1) := dk_42 (dk_at dksX2_back_0 2 rfl rfl)
theorem dX2_back_3 : decode cX2_back 3 = .ok (.getfield 26, 3) := dk_180 0 26 (dk_at dksX2_back_0 3 rfl rfl)
theorem dX2_back_6 : decode cX2_back 6 = .ok (.invokestatic 34, 3) := dk_184 0 34 (dk_at dksX2_back_0 6 rfl rfl)
theorem dX2_back_9 : decode cX2_back 9 = .ok (.ifCond .ne 5, 3) := dk_154 0 5 (dk_at dksX2_back_0 9 rfl rfl)
theorem dX2_back_12 : decode cX2_back 12 = .ok (.iconst (-1), 1) := dk_2 (dk_at dksX2_back_0 12 rfl rfl)
theorem dX2_back_13 : decode cX2_back 13 = .ok (.ireturn, 1) := dk_172 (dk_at dksX2_back_0 13 rfl rfl)
theorem dX2_back_14 : decode cX2_back 14 = .ok (.aload_n 0, 1) := dk_42 (dk_at dksX2_back_0 14 rfl rfl)
theorem dX2_back_15 : decode cX2_back 15 = .ok (.dup, 1) := dk_89 (dk_at dksX2_back_0 15 rfl rfl)
theorem dX2_back_16 : decode cX2_back 16 = .ok (.getfield 26, 3) := dk_180 0 26 (dk_at dksX2_back_0 16 rfl rfl)
theorem dX2_back_19 : decode cX2_back 19 = .ok (.iload_n 1, 1) := dk_27 (dk_at dksX2_back_0 19 rfl rfl)
theorem dX2_back_20 : decode cX2_back 20 = .ok (.isub, 1) := dk_100 (dk_at dksX2_back_0 20 rfl rfl)
theorem dX2_back_21 : decode cX2_back 21 = .ok (.putfield 26, 3) := dk_181 0 26 (dk_at dksX2_back_0 21 rfl rfl)
theorem dX2_back_24 : decode cX2_back 24 = .ok (.aload_n 0, 1) := dk_42 (dk_at dksX2_back_1 0 rfl rfl)
theorem dX2_back_25 : decode cX2_back 25 = .ok (.getfield 26, 3) := dk_180 0 26 (dk_at dksX2_back_1 1 rfl rfl)
theorem dX2_back_28 : decode cX2_back 28 = .ok (.ireturn, 1) := dk_172 (dk_at dksX2_back_1 4 rfl rfl)
abbrev cX2_cut : ByteArray := prog_10_method_9_code
def yX2_cut : MethodName := ⟨RX2, "cut", "()V"⟩
def dkwX2_cut_6 : List UInt8 := [27, 182, 0, 59, 60, 167, 255, 121, 42, 3, 181, 0, 26, 177]
abbrev dktX2_cut_6 : List UInt8 := dkwX2_cut_6 ++ []
def dkwX2_cut_5 : List UInt8 := [167, 0, 28, 42, 180, 0, 11, 27, 51, 184, 0, 53, 153, 0, 11, 42, 27, 182, 0, 56, 167, 0, 8, 42]
abbrev dktX2_cut_5 : List UInt8 := dkwX2_cut_5 ++ dktX2_cut_6
def dkwX2_cut_4 : List UInt8 := [182, 0, 41, 167, 0, 52, 42, 180, 0, 11, 27, 51, 184, 0, 45, 153, 0, 11, 42, 27, 182, 0, 49]
abbrev dktX2_cut_4 : List UInt8 := dkwX2_cut_4 ++ dktX2_cut_5
def dkwX2_cut_3 : List UInt8 := [160, 0, 9, 132, 1, 1, 167, 255, 201, 27, 42, 180, 0, 26, 161, 0, 16, 42, 3, 42, 180, 0, 26, 9]
abbrev dktX2_cut_3 : List UInt8 := dkwX2_cut_3 ++ dktX2_cut_4
def dkwX2_cut_2 : List UInt8 := [159, 0, 25, 42, 180, 0, 11, 27, 51, 16, 13, 159, 0, 14, 42, 180, 0, 11, 27, 51, 16, 32]
abbrev dktX2_cut_2 : List UInt8 := dkwX2_cut_2 ++ dktX2_cut_3
def dkwX2_cut_1 : List UInt8 := [162, 0, 53, 42, 180, 0, 11, 27, 51, 16, 9, 159, 0, 36, 42, 180, 0, 11, 27, 51, 16, 10]
abbrev dktX2_cut_1 : List UInt8 := dkwX2_cut_1 ++ dktX2_cut_2
def dkwX2_cut_0 : List UInt8 := [42, 3, 181, 0, 38, 3, 60, 42, 180, 0, 38, 17, 1, 144, 163, 0, 131, 27, 42, 180, 0, 26]
abbrev dktX2_cut_0 : List UInt8 := dkwX2_cut_0 ++ dktX2_cut_1
theorem dksX2_cut_0 : cX2_cut.data.toList.drop 0 = dktX2_cut_0 := by decide +kernel
theorem dksX2_cut_1 : cX2_cut.data.toList.drop 22 = dktX2_cut_1 := dk_seg dksX2_cut_0 22 rfl rfl
theorem dksX2_cut_2 : cX2_cut.data.toList.drop 44 = dktX2_cut_2 := dk_seg dksX2_cut_1 22 rfl rfl
theorem dksX2_cut_3 : cX2_cut.data.toList.drop 66 = dktX2_cut_3 := dk_seg dksX2_cut_2 22 rfl rfl
theorem dksX2_cut_4 : cX2_cut.data.toList.drop 90 = dktX2_cut_4 := dk_seg dksX2_cut_3 24 rfl rfl
theorem dksX2_cut_5 : cX2_cut.data.toList.drop 113 = dktX2_cut_5 := dk_seg dksX2_cut_4 23 rfl rfl
theorem dksX2_cut_6 : cX2_cut.data.toList.drop 137 = dktX2_cut_6 := dk_seg dksX2_cut_5 24 rfl rfl
theorem dX2_cut_0 : decode cX2_cut 0 = .ok (.aload_n 0, 1) := dk_42 (dk_at dksX2_cut_0 0 rfl rfl)
theorem dX2_cut_1 : decode cX2_cut 1 = .ok (.iconst 0, 1) := dk_3 (dk_at dksX2_cut_0 1 rfl rfl)
theorem dX2_cut_2 : decode cX2_cut 2 = .ok (.putfield 38, 3) := dk_181 0 38 (dk_at dksX2_cut_0 2 rfl rfl)
theorem dX2_cut_5 : decode cX2_cut 5 = .ok (.iconst 0, 1) := dk_3 (dk_at dksX2_cut_0 5 rfl rfl)
theorem dX2_cut_6 : decode cX2_cut 6 = .ok (.istore_n 1, 1) := dk_60 (dk_at dksX2_cut_0 6 rfl rfl)
theorem dX2_cut_7 : decode cX2_cut 7 = .ok (.aload_n 0, 1) := dk_42 (dk_at dksX2_cut_0 7 rfl rfl)
theorem dX2_cut_8 : decode cX2_cut 8 = .ok (.getfield 38, 3) := dk_180 0 38 (dk_at dksX2_cut_0 8 rfl rfl)
theorem dX2_cut_11 : decode cX2_cut 11 = .ok (.sipush 400, 3) := dk_17 1 144 (dk_at dksX2_cut_0 11 rfl rfl)
theorem dX2_cut_14 : decode cX2_cut 14 = .ok (.if_icmp .gt 131, 3) := dk_163 0 131 (dk_at dksX2_cut_0 14 rfl rfl)
theorem dX2_cut_17 : decode cX2_cut 17 = .ok (.iload_n 1, 1) := dk_27 (dk_at dksX2_cut_0 17 rfl rfl)
theorem dX2_cut_18 : decode cX2_cut 18 = .ok (.aload_n 0, 1) := dk_42 (dk_at dksX2_cut_0 18 rfl rfl)
theorem dX2_cut_19 : decode cX2_cut 19 = .ok (.getfield 26, 3) := dk_180 0 26 (dk_at dksX2_cut_0 19 rfl rfl)
theorem dX2_cut_22 : decode cX2_cut 22 = .ok (.if_icmp .ge 53, 3) := dk_162 0 53 (dk_at dksX2_cut_1 0 rfl rfl)
theorem dX2_cut_25 : decode cX2_cut 25 = .ok (.aload_n 0, 1) := dk_42 (dk_at dksX2_cut_1 3 rfl rfl)
theorem dX2_cut_26 : decode cX2_cut 26 = .ok (.getfield 11, 3) := dk_180 0 11 (dk_at dksX2_cut_1 4 rfl rfl)
theorem dX2_cut_29 : decode cX2_cut 29 = .ok (.iload_n 1, 1) := dk_27 (dk_at dksX2_cut_1 7 rfl rfl)
theorem dX2_cut_30 : decode cX2_cut 30 = .ok (.baload, 1) := dk_51 (dk_at dksX2_cut_1 8 rfl rfl)
theorem dX2_cut_31 : decode cX2_cut 31 = .ok (.bipush 9, 2) := dk_16 9 (dk_at dksX2_cut_1 9 rfl rfl)
theorem dX2_cut_33 : decode cX2_cut 33 = .ok (.if_icmp .eq 36, 3) := dk_159 0 36 (dk_at dksX2_cut_1 11 rfl rfl)
theorem dX2_cut_36 : decode cX2_cut 36 = .ok (.aload_n 0, 1) := dk_42 (dk_at dksX2_cut_1 14 rfl rfl)
theorem dX2_cut_37 : decode cX2_cut 37 = .ok (.getfield 11, 3) := dk_180 0 11 (dk_at dksX2_cut_1 15 rfl rfl)
theorem dX2_cut_40 : decode cX2_cut 40 = .ok (.iload_n 1, 1) := dk_27 (dk_at dksX2_cut_1 18 rfl rfl)
theorem dX2_cut_41 : decode cX2_cut 41 = .ok (.baload, 1) := dk_51 (dk_at dksX2_cut_1 19 rfl rfl)
theorem dX2_cut_42 : decode cX2_cut 42 = .ok (.bipush 10, 2) := dk_16 10 (dk_at dksX2_cut_1 20 rfl rfl)
theorem dX2_cut_44 : decode cX2_cut 44 = .ok (.if_icmp .eq 25, 3) := dk_159 0 25 (dk_at dksX2_cut_2 0 rfl rfl)
theorem dX2_cut_47 : decode cX2_cut 47 = .ok (.aload_n 0, 1) := dk_42 (dk_at dksX2_cut_2 3 rfl rfl)
theorem dX2_cut_48 : decode cX2_cut 48 = .ok (.getfield 11, 3) := dk_180 0 11 (dk_at dksX2_cut_2 4 rfl rfl)
theorem dX2_cut_51 : decode cX2_cut 51 = .ok (.iload_n 1, 1) := dk_27 (dk_at dksX2_cut_2 7 rfl rfl)
theorem dX2_cut_52 : decode cX2_cut 52 = .ok (.baload, 1) := dk_51 (dk_at dksX2_cut_2 8 rfl rfl)
theorem dX2_cut_53 : decode cX2_cut 53 = .ok (.bipush 13, 2) := dk_16 13 (dk_at dksX2_cut_2 9 rfl rfl)
theorem dX2_cut_55 : decode cX2_cut 55 = .ok (.if_icmp .eq 14, 3) := dk_159 0 14 (dk_at dksX2_cut_2 11 rfl rfl)
theorem dX2_cut_58 : decode cX2_cut 58 = .ok (.aload_n 0, 1) := dk_42 (dk_at dksX2_cut_2 14 rfl rfl)
theorem dX2_cut_59 : decode cX2_cut 59 = .ok (.getfield 11, 3) := dk_180 0 11 (dk_at dksX2_cut_2 15 rfl rfl)
theorem dX2_cut_62 : decode cX2_cut 62 = .ok (.iload_n 1, 1) := dk_27 (dk_at dksX2_cut_2 18 rfl rfl)
theorem dX2_cut_63 : decode cX2_cut 63 = .ok (.baload, 1) := dk_51 (dk_at dksX2_cut_2 19 rfl rfl)
theorem dX2_cut_64 : decode cX2_cut 64 = .ok (.bipush 32, 2) := dk_16 32 (dk_at dksX2_cut_2 20 rfl rfl)
theorem dX2_cut_66 : decode cX2_cut 66 = .ok (.if_icmp .ne 9, 3) := dk_160 0 9 (dk_at dksX2_cut_3 0 rfl rfl)
theorem dX2_cut_69 : decode cX2_cut 69 = .ok (.iinc 1 1, 3) := dk_132 1 1 (dk_at dksX2_cut_3 3 rfl rfl)
theorem dX2_cut_72 : decode cX2_cut 72 = .ok (.goto (-55), 3) := dk_167 255 201 (dk_at dksX2_cut_3 6 rfl rfl)
theorem dX2_cut_75 : decode cX2_cut 75 = .ok (.iload_n 1, 1) := dk_27 (dk_at dksX2_cut_3 9 rfl rfl)
theorem dX2_cut_76 : decode cX2_cut 76 = .ok (.aload_n 0, 1) := dk_42 (dk_at dksX2_cut_3 10 rfl rfl)
theorem dX2_cut_77 : decode cX2_cut 77 = .ok (.getfield 26, 3) := dk_180 0 26 (dk_at dksX2_cut_3 11 rfl rfl)
theorem dX2_cut_80 : decode cX2_cut 80 = .ok (.if_icmp .lt 16, 3) := dk_161 0 16 (dk_at dksX2_cut_3 14 rfl rfl)
theorem dX2_cut_83 : decode cX2_cut 83 = .ok (.aload_n 0, 1) := dk_42 (dk_at dksX2_cut_3 17 rfl rfl)
theorem dX2_cut_84 : decode cX2_cut 84 = .ok (.iconst 0, 1) := dk_3 (dk_at dksX2_cut_3 18 rfl rfl)
theorem dX2_cut_85 : decode cX2_cut 85 = .ok (.aload_n 0, 1) := dk_42 (dk_at dksX2_cut_3 19 rfl rfl)
theorem dX2_cut_86 : decode cX2_cut 86 = .ok (.getfield 26, 3) := dk_180 0 26 (dk_at dksX2_cut_3 20 rfl rfl)
theorem dX2_cut_89 : decode cX2_cut 89 = .ok (.lconst 0, 1) := dk_9 (dk_at dksX2_cut_3 23 rfl rfl)
theorem dX2_cut_90 : decode cX2_cut 90 = .ok (.invokevirtual 41, 3) := dk_182 0 41 (dk_at dksX2_cut_4 0 rfl rfl)
theorem dX2_cut_93 : decode cX2_cut 93 = .ok (.goto 52, 3) := dk_167 0 52 (dk_at dksX2_cut_4 3 rfl rfl)
theorem dX2_cut_96 : decode cX2_cut 96 = .ok (.aload_n 0, 1) := dk_42 (dk_at dksX2_cut_4 6 rfl rfl)
theorem dX2_cut_97 : decode cX2_cut 97 = .ok (.getfield 11, 3) := dk_180 0 11 (dk_at dksX2_cut_4 7 rfl rfl)
theorem dX2_cut_100 : decode cX2_cut 100 = .ok (.iload_n 1, 1) := dk_27 (dk_at dksX2_cut_4 10 rfl rfl)
theorem dX2_cut_101 : decode cX2_cut 101 = .ok (.baload, 1) := dk_51 (dk_at dksX2_cut_4 11 rfl rfl)
theorem dX2_cut_102 : decode cX2_cut 102 = .ok (.invokestatic 45, 3) := dk_184 0 45 (dk_at dksX2_cut_4 12 rfl rfl)
theorem dX2_cut_105 : decode cX2_cut 105 = .ok (.ifCond .eq 11, 3) := dk_153 0 11 (dk_at dksX2_cut_4 15 rfl rfl)
theorem dX2_cut_108 : decode cX2_cut 108 = .ok (.aload_n 0, 1) := dk_42 (dk_at dksX2_cut_4 18 rfl rfl)
theorem dX2_cut_109 : decode cX2_cut 109 = .ok (.iload_n 1, 1) := dk_27 (dk_at dksX2_cut_4 19 rfl rfl)
theorem dX2_cut_110 : decode cX2_cut 110 = .ok (.invokevirtual 49, 3) := dk_182 0 49 (dk_at dksX2_cut_4 20 rfl rfl)
theorem dX2_cut_113 : decode cX2_cut 113 = .ok (.goto 28, 3) := dk_167 0 28 (dk_at dksX2_cut_5 0 rfl rfl)
theorem dX2_cut_116 : decode cX2_cut 116 = .ok (.aload_n 0, 1) := dk_42 (dk_at dksX2_cut_5 3 rfl rfl)
theorem dX2_cut_117 : decode cX2_cut 117 = .ok (.getfield 11, 3) := dk_180 0 11 (dk_at dksX2_cut_5 4 rfl rfl)
theorem dX2_cut_120 : decode cX2_cut 120 = .ok (.iload_n 1, 1) := dk_27 (dk_at dksX2_cut_5 7 rfl rfl)
theorem dX2_cut_121 : decode cX2_cut 121 = .ok (.baload, 1) := dk_51 (dk_at dksX2_cut_5 8 rfl rfl)
theorem dX2_cut_122 : decode cX2_cut 122 = .ok (.invokestatic 53, 3) := dk_184 0 53 (dk_at dksX2_cut_5 9 rfl rfl)
theorem dX2_cut_125 : decode cX2_cut 125 = .ok (.ifCond .eq 11, 3) := dk_153 0 11 (dk_at dksX2_cut_5 12 rfl rfl)
theorem dX2_cut_128 : decode cX2_cut 128 = .ok (.aload_n 0, 1) := dk_42 (dk_at dksX2_cut_5 15 rfl rfl)
theorem dX2_cut_129 : decode cX2_cut 129 = .ok (.iload_n 1, 1) := dk_27 (dk_at dksX2_cut_5 16 rfl rfl)
theorem dX2_cut_130 : decode cX2_cut 130 = .ok (.invokevirtual 56, 3) := dk_182 0 56 (dk_at dksX2_cut_5 17 rfl rfl)
theorem dX2_cut_133 : decode cX2_cut 133 = .ok (.goto 8, 3) := dk_167 0 8 (dk_at dksX2_cut_5 20 rfl rfl)
theorem dX2_cut_136 : decode cX2_cut 136 = .ok (.aload_n 0, 1) := dk_42 (dk_at dksX2_cut_5 23 rfl rfl)
theorem dX2_cut_137 : decode cX2_cut 137 = .ok (.iload_n 1, 1) := dk_27 (dk_at dksX2_cut_6 0 rfl rfl)
theorem dX2_cut_138 : decode cX2_cut 138 = .ok (.invokevirtual 59, 3) := dk_182 0 59 (dk_at dksX2_cut_6 1 rfl rfl)
theorem dX2_cut_141 : decode cX2_cut 141 = .ok (.istore_n 1, 1) := dk_60 (dk_at dksX2_cut_6 4 rfl rfl)
theorem dX2_cut_142 : decode cX2_cut 142 = .ok (.goto (-135), 3) := dk_167 255 121 (dk_at dksX2_cut_6 5 rfl rfl)
theorem dX2_cut_145 : decode cX2_cut 145 = .ok (.aload_n 0, 1) := dk_42 (dk_at dksX2_cut_6 8 rfl rfl)
theorem dX2_cut_146 : decode cX2_cut 146 = .ok (.iconst 0, 1) := dk_3 (dk_at dksX2_cut_6 9 rfl rfl)
theorem dX2_cut_147 : decode cX2_cut 147 = .ok (.putfield 26, 3) := dk_181 0 26 (dk_at dksX2_cut_6 10 rfl rfl)
theorem dX2_cut_150 : decode cX2_cut 150 = .ok (.return_, 1) := dk_177 (dk_at dksX2_cut_6 13 rfl rfl)
abbrev cX2_add : ByteArray := prog_10_method_8_code
def yX2_add : MethodName := ⟨RX2, "add", "(IIJ)V"⟩
def dkwX2_add_1 : List UInt8 := [180, 0, 22, 42, 180, 0, 38, 33, 80, 42, 89, 180, 0, 38, 4, 96, 181, 0, 38, 177]
abbrev dktX2_add_1 : List UInt8 := dkwX2_add_1 ++ []
def dkwX2_add_0 : List UInt8 := [42, 180, 0, 15, 42, 180, 0, 38, 27, 145, 84, 42, 180, 0, 18, 42, 180, 0, 38, 28, 147, 86, 42]
abbrev dktX2_add_0 : List UInt8 := dkwX2_add_0 ++ dktX2_add_1
theorem dksX2_add_0 : cX2_add.data.toList.drop 0 = dktX2_add_0 := by decide +kernel
theorem dksX2_add_1 : cX2_add.data.toList.drop 23 = dktX2_add_1 := dk_seg dksX2_add_0 23 rfl rfl
theorem dX2_add_0 : decode cX2_add 0 = .ok (.aload_n 0, 1) := dk_42 (dk_at dksX2_add_0 0 rfl rfl)
theorem dX2_add_1 : decode cX2_add 1 = .ok (.getfield 15, 3) := dk_180 0 15 (dk_at dksX2_add_0 1 rfl rfl)
theorem dX2_add_4 : decode cX2_add 4 = .ok (.aload_n 0, 1) := dk_42 (dk_at dksX2_add_0 4 rfl rfl)
theorem dX2_add_5 : decode cX2_add 5 = .ok (.getfield 38, 3) := dk_180 0 38 (dk_at dksX2_add_0 5 rfl rfl)
theorem dX2_add_8 : decode cX2_add 8 = .ok (.iload_n 1, 1) := dk_27 (dk_at dksX2_add_0 8 rfl rfl)
theorem dX2_add_9 : decode cX2_add 9 = .ok (.i2b, 1) := dk_145 (dk_at dksX2_add_0 9 rfl rfl)
theorem dX2_add_10 : decode cX2_add 10 = .ok (.bastore, 1) := dk_84 (dk_at dksX2_add_0 10 rfl rfl)
theorem dX2_add_11 : decode cX2_add 11 = .ok (.aload_n 0, 1) := dk_42 (dk_at dksX2_add_0 11 rfl rfl)
theorem dX2_add_12 : decode cX2_add 12 = .ok (.getfield 18, 3) := dk_180 0 18 (dk_at dksX2_add_0 12 rfl rfl)
theorem dX2_add_15 : decode cX2_add 15 = .ok (.aload_n 0, 1) := dk_42 (dk_at dksX2_add_0 15 rfl rfl)
theorem dX2_add_16 : decode cX2_add 16 = .ok (.getfield 38, 3) := dk_180 0 38 (dk_at dksX2_add_0 16 rfl rfl)
theorem dX2_add_19 : decode cX2_add 19 = .ok (.iload_n 2, 1) := dk_28 (dk_at dksX2_add_0 19 rfl rfl)
theorem dX2_add_20 : decode cX2_add 20 = .ok (.i2s, 1) := dk_147 (dk_at dksX2_add_0 20 rfl rfl)
theorem dX2_add_21 : decode cX2_add 21 = .ok (.sastore, 1) := dk_86 (dk_at dksX2_add_0 21 rfl rfl)
theorem dX2_add_22 : decode cX2_add 22 = .ok (.aload_n 0, 1) := dk_42 (dk_at dksX2_add_0 22 rfl rfl)
theorem dX2_add_23 : decode cX2_add 23 = .ok (.getfield 22, 3) := dk_180 0 22 (dk_at dksX2_add_1 0 rfl rfl)
theorem dX2_add_26 : decode cX2_add 26 = .ok (.aload_n 0, 1) := dk_42 (dk_at dksX2_add_1 3 rfl rfl)
theorem dX2_add_27 : decode cX2_add 27 = .ok (.getfield 38, 3) := dk_180 0 38 (dk_at dksX2_add_1 4 rfl rfl)
theorem dX2_add_30 : decode cX2_add 30 = .ok (.lload_n 3, 1) := dk_33 (dk_at dksX2_add_1 7 rfl rfl)
theorem dX2_add_31 : decode cX2_add 31 = .ok (.lastore, 1) := dk_80 (dk_at dksX2_add_1 8 rfl rfl)
theorem dX2_add_32 : decode cX2_add 32 = .ok (.aload_n 0, 1) := dk_42 (dk_at dksX2_add_1 9 rfl rfl)
theorem dX2_add_33 : decode cX2_add 33 = .ok (.dup, 1) := dk_89 (dk_at dksX2_add_1 10 rfl rfl)
theorem dX2_add_34 : decode cX2_add 34 = .ok (.getfield 38, 3) := dk_180 0 38 (dk_at dksX2_add_1 11 rfl rfl)
theorem dX2_add_37 : decode cX2_add 37 = .ok (.iconst 1, 1) := dk_4 (dk_at dksX2_add_1 14 rfl rfl)
theorem dX2_add_38 : decode cX2_add 38 = .ok (.iadd, 1) := dk_96 (dk_at dksX2_add_1 15 rfl rfl)
theorem dX2_add_39 : decode cX2_add 39 = .ok (.putfield 38, 3) := dk_181 0 38 (dk_at dksX2_add_1 16 rfl rfl)
theorem dX2_add_42 : decode cX2_add 42 = .ok (.return_, 1) := dk_177 (dk_at dksX2_add_1 19 rfl rfl)
abbrev cX2_isLetter : ByteArray := prog_10_method_6_code
def yX2_isLetter : MethodName := ⟨RX2, "isLetter", "(I)Z"⟩
def dkwX2_isLetter_0 : List UInt8 := [26, 16, 97, 161, 0, 13, 26, 16, 122, 163, 0, 7, 4, 167, 0, 4, 3, 172]
abbrev dktX2_isLetter_0 : List UInt8 := dkwX2_isLetter_0 ++ []
theorem dksX2_isLetter_0 : cX2_isLetter.data.toList.drop 0 = dktX2_isLetter_0 := by decide +kernel
theorem dX2_isLetter_0 : decode cX2_isLetter 0 = .ok (.iload_n 0, 1) := dk_26 (dk_at dksX2_isLetter_0 0 rfl rfl)
theorem dX2_isLetter_1 : decode cX2_isLetter 1 = .ok (.bipush 97, 2) := dk_16 97 (dk_at dksX2_isLetter_0 1 rfl rfl)
theorem dX2_isLetter_3 : decode cX2_isLetter 3 = .ok (.if_icmp .lt 13, 3) := dk_161 0 13 (dk_at dksX2_isLetter_0 3 rfl rfl)
theorem dX2_isLetter_6 : decode cX2_isLetter 6 = .ok (.iload_n 0, 1) := dk_26 (dk_at dksX2_isLetter_0 6 rfl rfl)
theorem dX2_isLetter_7 : decode cX2_isLetter 7 = .ok (.bipush 122, 2) := dk_16 122 (dk_at dksX2_isLetter_0 7 rfl rfl)
theorem dX2_isLetter_9 : decode cX2_isLetter 9 = .ok (.if_icmp .gt 7, 3) := dk_163 0 7 (dk_at dksX2_isLetter_0 9 rfl rfl)
theorem dX2_isLetter_12 : decode cX2_isLetter 12 = .ok (.iconst 1, 1) := dk_4 (dk_at dksX2_isLetter_0 12 rfl rfl)
theorem dX2_isLetter_13 : decode cX2_isLetter 13 = .ok (.goto 4, 3) := dk_167 0 4 (dk_at dksX2_isLetter_0 13 rfl rfl)
theorem dX2_isLetter_16 : decode cX2_isLetter 16 = .ok (.iconst 0, 1) := dk_3 (dk_at dksX2_isLetter_0 16 rfl rfl)
theorem dX2_isLetter_17 : decode cX2_isLetter 17 = .ok (.ireturn, 1) := dk_172 (dk_at dksX2_isLetter_0 17 rfl rfl)
abbrev cX2_word : ByteArray := prog_10_method_12_code
def yX2_word : MethodName := ⟨RX2, "word", "(I)I"⟩
def dkwX2_word_5 : List UInt8 := [182, 0, 41, 28, 172]
abbrev dktX2_word_5 : List UInt8 := dkwX2_word_5 ++ []
def dkwX2_word_4 : List UInt8 := [182, 0, 73, 153, 0, 10, 16, 10, 21, 6, 96, 54, 5, 132, 6, 1, 167, 255, 216, 42, 21, 5, 27, 33]
abbrev dktX2_word_4 : List UInt8 := dkwX2_word_4 ++ dktX2_word_5
def dkwX2_word_3 : List UInt8 := [178, 0, 69, 190, 162, 0, 37, 21, 5, 4, 160, 0, 31, 42, 178, 0, 69, 21, 6, 50, 27, 28]
abbrev dktX2_word_3 : List UInt8 := dkwX2_word_3 ++ dktX2_word_4
def dkwX2_word_2 : List UInt8 := [167, 255, 214, 28, 27, 100, 16, 8, 164, 0, 7, 6, 167, 0, 4, 4, 54, 5, 3, 54, 6, 21, 6]
abbrev dktX2_word_2 : List UInt8 := dkwX2_word_2 ++ dktX2_word_3
def dkwX2_word_1 : List UInt8 := [20, 0, 65, 105, 42, 180, 0, 11, 28, 51, 133, 97, 20, 0, 67, 101, 10, 97, 66, 132, 2, 1]
abbrev dktX2_word_1 : List UInt8 := dkwX2_word_1 ++ dktX2_word_2
def dkwX2_word_0 : List UInt8 := [27, 61, 9, 66, 42, 28, 182, 0, 62, 184, 0, 45, 153, 0, 37, 28, 27, 16, 8, 96, 162, 0, 23, 33]
abbrev dktX2_word_0 : List UInt8 := dkwX2_word_0 ++ dktX2_word_1
theorem dksX2_word_0 : cX2_word.data.toList.drop 0 = dktX2_word_0 := by decide +kernel
theorem dksX2_word_1 : cX2_word.data.toList.drop 24 = dktX2_word_1 := dk_seg dksX2_word_0 24 rfl rfl
theorem dksX2_word_2 : cX2_word.data.toList.drop 46 = dktX2_word_2 := dk_seg dksX2_word_1 22 rfl rfl
theorem dksX2_word_3 : cX2_word.data.toList.drop 69 = dktX2_word_3 := dk_seg dksX2_word_2 23 rfl rfl
theorem dksX2_word_4 : cX2_word.data.toList.drop 91 = dktX2_word_4 := dk_seg dksX2_word_3 22 rfl rfl
theorem dksX2_word_5 : cX2_word.data.toList.drop 115 = dktX2_word_5 := dk_seg dksX2_word_4 24 rfl rfl
theorem dX2_word_0 : decode cX2_word 0 = .ok (.iload_n 1, 1) := dk_27 (dk_at dksX2_word_0 0 rfl rfl)
theorem dX2_word_1 : decode cX2_word 1 = .ok (.istore_n 2, 1) := dk_61 (dk_at dksX2_word_0 1 rfl rfl)
theorem dX2_word_2 : decode cX2_word 2 = .ok (.lconst 0, 1) := dk_9 (dk_at dksX2_word_0 2 rfl rfl)
theorem dX2_word_3 : decode cX2_word 3 = .ok (.lstore_n 3, 1) := dk_66 (dk_at dksX2_word_0 3 rfl rfl)
theorem dX2_word_4 : decode cX2_word 4 = .ok (.aload_n 0, 1) := dk_42 (dk_at dksX2_word_0 4 rfl rfl)
theorem dX2_word_5 : decode cX2_word 5 = .ok (.iload_n 2, 1) := dk_28 (dk_at dksX2_word_0 5 rfl rfl)
theorem dX2_word_6 : decode cX2_word 6 = .ok (.invokevirtual 62, 3) := dk_182 0 62 (dk_at dksX2_word_0 6 rfl rfl)
theorem dX2_word_9 : decode cX2_word 9 = .ok (.invokestatic 45, 3) := dk_184 0 45 (dk_at dksX2_word_0 9 rfl rfl)
theorem dX2_word_12 : decode cX2_word 12 = .ok (.ifCond .eq 37, 3) := dk_153 0 37 (dk_at dksX2_word_0 12 rfl rfl)
theorem dX2_word_15 : decode cX2_word 15 = .ok (.iload_n 2, 1) := dk_28 (dk_at dksX2_word_0 15 rfl rfl)
theorem dX2_word_16 : decode cX2_word 16 = .ok (.iload_n 1, 1) := dk_27 (dk_at dksX2_word_0 16 rfl rfl)
theorem dX2_word_17 : decode cX2_word 17 = .ok (.bipush 8, 2) := dk_16 8 (dk_at dksX2_word_0 17 rfl rfl)
theorem dX2_word_19 : decode cX2_word 19 = .ok (.iadd, 1) := dk_96 (dk_at dksX2_word_0 19 rfl rfl)
theorem dX2_word_20 : decode cX2_word 20 = .ok (.if_icmp .ge 23, 3) := dk_162 0 23 (dk_at dksX2_word_0 20 rfl rfl)
theorem dX2_word_23 : decode cX2_word 23 = .ok (.lload_n 3, 1) := dk_33 (dk_at dksX2_word_0 23 rfl rfl)
theorem dX2_word_24 : decode cX2_word 24 = .ok (.ldc2_w 65, 3) := dk_20 0 65 (dk_at dksX2_word_1 0 rfl rfl)
theorem dX2_word_27 : decode cX2_word 27 = .ok (.lmul, 1) := dk_105 (dk_at dksX2_word_1 3 rfl rfl)
theorem dX2_word_28 : decode cX2_word 28 = .ok (.aload_n 0, 1) := dk_42 (dk_at dksX2_word_1 4 rfl rfl)
theorem dX2_word_29 : decode cX2_word 29 = .ok (.getfield 11, 3) := dk_180 0 11 (dk_at dksX2_word_1 5 rfl rfl)
theorem dX2_word_32 : decode cX2_word 32 = .ok (.iload_n 2, 1) := dk_28 (dk_at dksX2_word_1 8 rfl rfl)
theorem dX2_word_33 : decode cX2_word 33 = .ok (.baload, 1) := dk_51 (dk_at dksX2_word_1 9 rfl rfl)
theorem dX2_word_34 : decode cX2_word 34 = .ok (.i2l, 1) := dk_133 (dk_at dksX2_word_1 10 rfl rfl)
theorem dX2_word_35 : decode cX2_word 35 = .ok (.ladd, 1) := dk_97 (dk_at dksX2_word_1 11 rfl rfl)
theorem dX2_word_36 : decode cX2_word 36 = .ok (.ldc2_w 67, 3) := dk_20 0 67 (dk_at dksX2_word_1 12 rfl rfl)
theorem dX2_word_39 : decode cX2_word 39 = .ok (.lsub, 1) := dk_101 (dk_at dksX2_word_1 15 rfl rfl)
theorem dX2_word_40 : decode cX2_word 40 = .ok (.lconst 1, 1) := dk_10 (dk_at dksX2_word_1 16 rfl rfl)
theorem dX2_word_41 : decode cX2_word 41 = .ok (.ladd, 1) := dk_97 (dk_at dksX2_word_1 17 rfl rfl)
theorem dX2_word_42 : decode cX2_word 42 = .ok (.lstore_n 3, 1) := dk_66 (dk_at dksX2_word_1 18 rfl rfl)
theorem dX2_word_43 : decode cX2_word 43 = .ok (.iinc 2 1, 3) := dk_132 2 1 (dk_at dksX2_word_1 19 rfl rfl)
theorem dX2_word_46 : decode cX2_word 46 = .ok (.goto (-42), 3) := dk_167 255 214 (dk_at dksX2_word_2 0 rfl rfl)
theorem dX2_word_49 : decode cX2_word 49 = .ok (.iload_n 2, 1) := dk_28 (dk_at dksX2_word_2 3 rfl rfl)
theorem dX2_word_50 : decode cX2_word 50 = .ok (.iload_n 1, 1) := dk_27 (dk_at dksX2_word_2 4 rfl rfl)
theorem dX2_word_51 : decode cX2_word 51 = .ok (.isub, 1) := dk_100 (dk_at dksX2_word_2 5 rfl rfl)
theorem dX2_word_52 : decode cX2_word 52 = .ok (.bipush 8, 2) := dk_16 8 (dk_at dksX2_word_2 6 rfl rfl)
theorem dX2_word_54 : decode cX2_word 54 = .ok (.if_icmp .le 7, 3) := dk_164 0 7 (dk_at dksX2_word_2 8 rfl rfl)
theorem dX2_word_57 : decode cX2_word 57 = .ok (.iconst 3, 1) := dk_6 (dk_at dksX2_word_2 11 rfl rfl)
theorem dX2_word_58 : decode cX2_word 58 = .ok (.goto 4, 3) := dk_167 0 4 (dk_at dksX2_word_2 12 rfl rfl)
theorem dX2_word_61 : decode cX2_word 61 = .ok (.iconst 1, 1) := dk_4 (dk_at dksX2_word_2 15 rfl rfl)
theorem dX2_word_62 : decode cX2_word 62 = .ok (.istore 5, 2) := dk_54 5 (dk_at dksX2_word_2 16 rfl rfl)
theorem dX2_word_64 : decode cX2_word 64 = .ok (.iconst 0, 1) := dk_3 (dk_at dksX2_word_2 18 rfl rfl)
theorem dX2_word_65 : decode cX2_word 65 = .ok (.istore 6, 2) := dk_54 6 (dk_at dksX2_word_2 19 rfl rfl)
theorem dX2_word_67 : decode cX2_word 67 = .ok (.iload 6, 2) := dk_21 6 (dk_at dksX2_word_2 21 rfl rfl)
theorem dX2_word_69 : decode cX2_word 69 = .ok (.getstatic 69, 3) := dk_178 0 69 (dk_at dksX2_word_3 0 rfl rfl)
theorem dX2_word_72 : decode cX2_word 72 = .ok (.arraylength, 1) := dk_190 (dk_at dksX2_word_3 3 rfl rfl)
theorem dX2_word_73 : decode cX2_word 73 = .ok (.if_icmp .ge 37, 3) := dk_162 0 37 (dk_at dksX2_word_3 4 rfl rfl)
theorem dX2_word_76 : decode cX2_word 76 = .ok (.iload 5, 2) := dk_21 5 (dk_at dksX2_word_3 7 rfl rfl)
theorem dX2_word_78 : decode cX2_word 78 = .ok (.iconst 1, 1) := dk_4 (dk_at dksX2_word_3 9 rfl rfl)
theorem dX2_word_79 : decode cX2_word 79 = .ok (.if_icmp .ne 31, 3) := dk_160 0 31 (dk_at dksX2_word_3 10 rfl rfl)
theorem dX2_word_82 : decode cX2_word 82 = .ok (.aload_n 0, 1) := dk_42 (dk_at dksX2_word_3 13 rfl rfl)
theorem dX2_word_83 : decode cX2_word 83 = .ok (.getstatic 69, 3) := dk_178 0 69 (dk_at dksX2_word_3 14 rfl rfl)
theorem dX2_word_86 : decode cX2_word 86 = .ok (.iload 6, 2) := dk_21 6 (dk_at dksX2_word_3 17 rfl rfl)
theorem dX2_word_88 : decode cX2_word 88 = .ok (.aaload, 1) := dk_50 (dk_at dksX2_word_3 19 rfl rfl)
theorem dX2_word_89 : decode cX2_word 89 = .ok (.iload_n 1, 1) := dk_27 (dk_at dksX2_word_3 20 rfl rfl)
theorem dX2_word_90 : decode cX2_word 90 = .ok (.iload_n 2, 1) := dk_28 (dk_at dksX2_word_3 21 rfl rfl)
theorem dX2_word_91 : decode cX2_word 91 = .ok (.invokevirtual 73, 3) := dk_182 0 73 (dk_at dksX2_word_4 0 rfl rfl)
theorem dX2_word_94 : decode cX2_word 94 = .ok (.ifCond .eq 10, 3) := dk_153 0 10 (dk_at dksX2_word_4 3 rfl rfl)
theorem dX2_word_97 : decode cX2_word 97 = .ok (.bipush 10, 2) := dk_16 10 (dk_at dksX2_word_4 6 rfl rfl)
theorem dX2_word_99 : decode cX2_word 99 = .ok (.iload 6, 2) := dk_21 6 (dk_at dksX2_word_4 8 rfl rfl)
theorem dX2_word_101 : decode cX2_word 101 = .ok (.iadd, 1) := dk_96 (dk_at dksX2_word_4 10 rfl rfl)
theorem dX2_word_102 : decode cX2_word 102 = .ok (.istore 5, 2) := dk_54 5 (dk_at dksX2_word_4 11 rfl rfl)
theorem dX2_word_104 : decode cX2_word 104 = .ok (.iinc 6 1, 3) := dk_132 6 1 (dk_at dksX2_word_4 13 rfl rfl)
theorem dX2_word_107 : decode cX2_word 107 = .ok (.goto (-40), 3) := dk_167 255 216 (dk_at dksX2_word_4 16 rfl rfl)
theorem dX2_word_110 : decode cX2_word 110 = .ok (.aload_n 0, 1) := dk_42 (dk_at dksX2_word_4 19 rfl rfl)
theorem dX2_word_111 : decode cX2_word 111 = .ok (.iload 5, 2) := dk_21 5 (dk_at dksX2_word_4 20 rfl rfl)
theorem dX2_word_113 : decode cX2_word 113 = .ok (.iload_n 1, 1) := dk_27 (dk_at dksX2_word_4 22 rfl rfl)
theorem dX2_word_114 : decode cX2_word 114 = .ok (.lload_n 3, 1) := dk_33 (dk_at dksX2_word_4 23 rfl rfl)
theorem dX2_word_115 : decode cX2_word 115 = .ok (.invokevirtual 41, 3) := dk_182 0 41 (dk_at dksX2_word_5 0 rfl rfl)
theorem dX2_word_118 : decode cX2_word 118 = .ok (.iload_n 2, 1) := dk_28 (dk_at dksX2_word_5 3 rfl rfl)
theorem dX2_word_119 : decode cX2_word 119 = .ok (.ireturn, 1) := dk_172 (dk_at dksX2_word_5 4 rfl rfl)
abbrev cX2_byteAt : ByteArray := prog_10_method_5_code
def yX2_byteAt : MethodName := ⟨RX2, "byteAt", "(I)I"⟩
def dkwX2_byteAt_0 : List UInt8 := [27, 42, 180, 0, 26, 162, 0, 12, 42, 180, 0, 11, 27, 51, 167, 0, 4, 3, 172]
abbrev dktX2_byteAt_0 : List UInt8 := dkwX2_byteAt_0 ++ []
theorem dksX2_byteAt_0 : cX2_byteAt.data.toList.drop 0 = dktX2_byteAt_0 := by decide +kernel
theorem dX2_byteAt_0 : decode cX2_byteAt 0 = .ok (.iload_n 1, 1) := dk_27 (dk_at dksX2_byteAt_0 0 rfl rfl)
theorem dX2_byteAt_1 : decode cX2_byteAt 1 = .ok (.aload_n 0, 1) := dk_42 (dk_at dksX2_byteAt_0 1 rfl rfl)
theorem dX2_byteAt_2 : decode cX2_byteAt 2 = .ok (.getfield 26, 3) := dk_180 0 26 (dk_at dksX2_byteAt_0 2 rfl rfl)
theorem dX2_byteAt_5 : decode cX2_byteAt 5 = .ok (.if_icmp .ge 12, 3) := dk_162 0 12 (dk_at dksX2_byteAt_0 5 rfl rfl)
theorem dX2_byteAt_8 : decode cX2_byteAt 8 = .ok (.aload_n 0, 1) := dk_42 (dk_at dksX2_byteAt_0 8 rfl rfl)
theorem dX2_byteAt_9 : decode cX2_byteAt 9 = .ok (.getfield 11, 3) := dk_180 0 11 (dk_at dksX2_byteAt_0 9 rfl rfl)
theorem dX2_byteAt_12 : decode cX2_byteAt 12 = .ok (.iload_n 1, 1) := dk_27 (dk_at dksX2_byteAt_0 12 rfl rfl)
theorem dX2_byteAt_13 : decode cX2_byteAt 13 = .ok (.baload, 1) := dk_51 (dk_at dksX2_byteAt_0 13 rfl rfl)
theorem dX2_byteAt_14 : decode cX2_byteAt 14 = .ok (.goto 4, 3) := dk_167 0 4 (dk_at dksX2_byteAt_0 14 rfl rfl)
theorem dX2_byteAt_17 : decode cX2_byteAt 17 = .ok (.iconst 0, 1) := dk_3 (dk_at dksX2_byteAt_0 17 rfl rfl)
theorem dX2_byteAt_18 : decode cX2_byteAt 18 = .ok (.ireturn, 1) := dk_172 (dk_at dksX2_byteAt_0 18 rfl rfl)
abbrev cX2_is : ByteArray := prog_10_method_13_code
def yX2_is : MethodName := ⟨RX2, "is", "(Ljava/lang/String;II)Z"⟩
def dkwX2_is_2 : List UInt8 := [96, 51, 160, 0, 7, 4, 167, 0, 4, 3, 54, 4, 132, 5, 1, 167, 255, 214, 21, 4, 172]
abbrev dktX2_is_2 : List UInt8 := dkwX2_is_2 ++ []
def dkwX2_is_1 : List UInt8 := [182, 0, 77, 162, 0, 39, 21, 4, 153, 0, 34, 43, 21, 5, 182, 0, 83, 42, 180, 0, 11, 28, 21, 5]
abbrev dktX2_is_1 : List UInt8 := dkwX2_is_1 ++ dktX2_is_2
def dkwX2_is_0 : List UInt8 := [43, 182, 0, 77, 29, 28, 100, 160, 0, 7, 4, 167, 0, 4, 3, 54, 4, 3, 54, 5, 21, 5, 43]
abbrev dktX2_is_0 : List UInt8 := dkwX2_is_0 ++ dktX2_is_1
theorem dksX2_is_0 : cX2_is.data.toList.drop 0 = dktX2_is_0 := by decide +kernel
theorem dksX2_is_1 : cX2_is.data.toList.drop 23 = dktX2_is_1 := dk_seg dksX2_is_0 23 rfl rfl
theorem dksX2_is_2 : cX2_is.data.toList.drop 47 = dktX2_is_2 := dk_seg dksX2_is_1 24 rfl rfl
theorem dX2_is_0 : decode cX2_is 0 = .ok (.aload_n 1, 1) := dk_43 (dk_at dksX2_is_0 0 rfl rfl)
theorem dX2_is_1 : decode cX2_is 1 = .ok (.invokevirtual 77, 3) := dk_182 0 77 (dk_at dksX2_is_0 1 rfl rfl)
theorem dX2_is_4 : decode cX2_is 4 = .ok (.iload_n 3, 1) := dk_29 (dk_at dksX2_is_0 4 rfl rfl)
theorem dX2_is_5 : decode cX2_is 5 = .ok (.iload_n 2, 1) := dk_28 (dk_at dksX2_is_0 5 rfl rfl)
theorem dX2_is_6 : decode cX2_is 6 = .ok (.isub, 1) := dk_100 (dk_at dksX2_is_0 6 rfl rfl)
theorem dX2_is_7 : decode cX2_is 7 = .ok (.if_icmp .ne 7, 3) := dk_160 0 7 (dk_at dksX2_is_0 7 rfl rfl)
theorem dX2_is_10 : decode cX2_is 10 = .ok (.iconst 1, 1) := dk_4 (dk_at dksX2_is_0 10 rfl rfl)
theorem dX2_is_11 : decode cX2_is 11 = .ok (.goto 4, 3) := dk_167 0 4 (dk_at dksX2_is_0 11 rfl rfl)
theorem dX2_is_14 : decode cX2_is 14 = .ok (.iconst 0, 1) := dk_3 (dk_at dksX2_is_0 14 rfl rfl)
theorem dX2_is_15 : decode cX2_is 15 = .ok (.istore 4, 2) := dk_54 4 (dk_at dksX2_is_0 15 rfl rfl)
theorem dX2_is_17 : decode cX2_is 17 = .ok (.iconst 0, 1) := dk_3 (dk_at dksX2_is_0 17 rfl rfl)
theorem dX2_is_18 : decode cX2_is 18 = .ok (.istore 5, 2) := dk_54 5 (dk_at dksX2_is_0 18 rfl rfl)
theorem dX2_is_20 : decode cX2_is 20 = .ok (.iload 5, 2) := dk_21 5 (dk_at dksX2_is_0 20 rfl rfl)
theorem dX2_is_22 : decode cX2_is 22 = .ok (.aload_n 1, 1) := dk_43 (dk_at dksX2_is_0 22 rfl rfl)
theorem dX2_is_23 : decode cX2_is 23 = .ok (.invokevirtual 77, 3) := dk_182 0 77 (dk_at dksX2_is_1 0 rfl rfl)
theorem dX2_is_26 : decode cX2_is 26 = .ok (.if_icmp .ge 39, 3) := dk_162 0 39 (dk_at dksX2_is_1 3 rfl rfl)
theorem dX2_is_29 : decode cX2_is 29 = .ok (.iload 4, 2) := dk_21 4 (dk_at dksX2_is_1 6 rfl rfl)
theorem dX2_is_31 : decode cX2_is 31 = .ok (.ifCond .eq 34, 3) := dk_153 0 34 (dk_at dksX2_is_1 8 rfl rfl)
theorem dX2_is_34 : decode cX2_is 34 = .ok (.aload_n 1, 1) := dk_43 (dk_at dksX2_is_1 11 rfl rfl)
theorem dX2_is_35 : decode cX2_is 35 = .ok (.iload 5, 2) := dk_21 5 (dk_at dksX2_is_1 12 rfl rfl)
theorem dX2_is_37 : decode cX2_is 37 = .ok (.invokevirtual 83, 3) := dk_182 0 83 (dk_at dksX2_is_1 14 rfl rfl)
theorem dX2_is_40 : decode cX2_is 40 = .ok (.aload_n 0, 1) := dk_42 (dk_at dksX2_is_1 17 rfl rfl)
theorem dX2_is_41 : decode cX2_is 41 = .ok (.getfield 11, 3) := dk_180 0 11 (dk_at dksX2_is_1 18 rfl rfl)
theorem dX2_is_44 : decode cX2_is 44 = .ok (.iload_n 2, 1) := dk_28 (dk_at dksX2_is_1 21 rfl rfl)
theorem dX2_is_45 : decode cX2_is 45 = .ok (.iload 5, 2) := dk_21 5 (dk_at dksX2_is_1 22 rfl rfl)
theorem dX2_is_47 : decode cX2_is 47 = .ok (.iadd, 1) := dk_96 (dk_at dksX2_is_2 0 rfl rfl)
theorem dX2_is_48 : decode cX2_is 48 = .ok (.baload, 1) := dk_51 (dk_at dksX2_is_2 1 rfl rfl)
theorem dX2_is_49 : decode cX2_is 49 = .ok (.if_icmp .ne 7, 3) := dk_160 0 7 (dk_at dksX2_is_2 2 rfl rfl)
theorem dX2_is_52 : decode cX2_is 52 = .ok (.iconst 1, 1) := dk_4 (dk_at dksX2_is_2 5 rfl rfl)
theorem dX2_is_53 : decode cX2_is 53 = .ok (.goto 4, 3) := dk_167 0 4 (dk_at dksX2_is_2 6 rfl rfl)
theorem dX2_is_56 : decode cX2_is 56 = .ok (.iconst 0, 1) := dk_3 (dk_at dksX2_is_2 9 rfl rfl)
theorem dX2_is_57 : decode cX2_is 57 = .ok (.istore 4, 2) := dk_54 4 (dk_at dksX2_is_2 10 rfl rfl)
theorem dX2_is_59 : decode cX2_is 59 = .ok (.iinc 5 1, 3) := dk_132 5 1 (dk_at dksX2_is_2 12 rfl rfl)
theorem dX2_is_62 : decode cX2_is 62 = .ok (.goto (-42), 3) := dk_167 255 214 (dk_at dksX2_is_2 15 rfl rfl)
theorem dX2_is_65 : decode cX2_is 65 = .ok (.iload 4, 2) := dk_21 4 (dk_at dksX2_is_2 18 rfl rfl)
theorem dX2_is_67 : decode cX2_is 67 = .ok (.ireturn, 1) := dk_172 (dk_at dksX2_is_2 20 rfl rfl)
abbrev cX2_isDigit : ByteArray := prog_10_method_7_code
def yX2_isDigit : MethodName := ⟨RX2, "isDigit", "(I)Z"⟩
def dkwX2_isDigit_0 : List UInt8 := [26, 16, 48, 161, 0, 13, 26, 16, 57, 163, 0, 7, 4, 167, 0, 4, 3, 172]
abbrev dktX2_isDigit_0 : List UInt8 := dkwX2_isDigit_0 ++ []
theorem dksX2_isDigit_0 : cX2_isDigit.data.toList.drop 0 = dktX2_isDigit_0 := by decide +kernel
theorem dX2_isDigit_0 : decode cX2_isDigit 0 = .ok (.iload_n 0, 1) := dk_26 (dk_at dksX2_isDigit_0 0 rfl rfl)
theorem dX2_isDigit_1 : decode cX2_isDigit 1 = .ok (.bipush 48, 2) := dk_16 48 (dk_at dksX2_isDigit_0 1 rfl rfl)
theorem dX2_isDigit_3 : decode cX2_isDigit 3 = .ok (.if_icmp .lt 13, 3) := dk_161 0 13 (dk_at dksX2_isDigit_0 3 rfl rfl)
theorem dX2_isDigit_6 : decode cX2_isDigit 6 = .ok (.iload_n 0, 1) := dk_26 (dk_at dksX2_isDigit_0 6 rfl rfl)
theorem dX2_isDigit_7 : decode cX2_isDigit 7 = .ok (.bipush 57, 2) := dk_16 57 (dk_at dksX2_isDigit_0 7 rfl rfl)
theorem dX2_isDigit_9 : decode cX2_isDigit 9 = .ok (.if_icmp .gt 7, 3) := dk_163 0 7 (dk_at dksX2_isDigit_0 9 rfl rfl)
theorem dX2_isDigit_12 : decode cX2_isDigit 12 = .ok (.iconst 1, 1) := dk_4 (dk_at dksX2_isDigit_0 12 rfl rfl)
theorem dX2_isDigit_13 : decode cX2_isDigit 13 = .ok (.goto 4, 3) := dk_167 0 4 (dk_at dksX2_isDigit_0 13 rfl rfl)
theorem dX2_isDigit_16 : decode cX2_isDigit 16 = .ok (.iconst 0, 1) := dk_3 (dk_at dksX2_isDigit_0 16 rfl rfl)
theorem dX2_isDigit_17 : decode cX2_isDigit 17 = .ok (.ireturn, 1) := dk_172 (dk_at dksX2_isDigit_0 17 rfl rfl)
abbrev cX2_number : ByteArray := prog_10_method_11_code
def yX2_number : MethodName := ⟨RX2, "number", "(I)I"⟩
def dkwX2_number_2 : List UInt8 := [164, 0, 7, 6, 167, 0, 4, 5, 27, 29, 133, 182, 0, 41, 28, 172]
abbrev dktX2_number_2 : List UInt8 := dkwX2_number_2 ++ []
def dkwX2_number_1 : List UInt8 := [29, 104, 42, 180, 0, 11, 28, 51, 96, 16, 48, 100, 62, 132, 2, 1, 167, 255, 220, 42, 28, 27, 100, 7]
abbrev dktX2_number_1 : List UInt8 := dkwX2_number_1 ++ dktX2_number_2
def dkwX2_number_0 : List UInt8 := [27, 61, 3, 62, 42, 28, 182, 0, 62, 184, 0, 53, 153, 0, 31, 28, 27, 7, 96, 162, 0, 18, 16, 10]
abbrev dktX2_number_0 : List UInt8 := dkwX2_number_0 ++ dktX2_number_1
theorem dksX2_number_0 : cX2_number.data.toList.drop 0 = dktX2_number_0 := by decide +kernel
theorem dksX2_number_1 : cX2_number.data.toList.drop 24 = dktX2_number_1 := dk_seg dksX2_number_0 24 rfl rfl
theorem dksX2_number_2 : cX2_number.data.toList.drop 48 = dktX2_number_2 := dk_seg dksX2_number_1 24 rfl rfl
theorem dX2_number_0 : decode cX2_number 0 = .ok (.iload_n 1, 1) := dk_27 (dk_at dksX2_number_0 0 rfl rfl)
theorem dX2_number_1 : decode cX2_number 1 = .ok (.istore_n 2, 1) := dk_61 (dk_at dksX2_number_0 1 rfl rfl)
theorem dX2_number_2 : decode cX2_number 2 = .ok (.iconst 0, 1) := dk_3 (dk_at dksX2_number_0 2 rfl rfl)
theorem dX2_number_3 : decode cX2_number 3 = .ok (.istore_n 3, 1) := dk_62 (dk_at dksX2_number_0 3 rfl rfl)
theorem dX2_number_4 : decode cX2_number 4 = .ok (.aload_n 0, 1) := dk_42 (dk_at dksX2_number_0 4 rfl rfl)
theorem dX2_number_5 : decode cX2_number 5 = .ok (.iload_n 2, 1) := dk_28 (dk_at dksX2_number_0 5 rfl rfl)
theorem dX2_number_6 : decode cX2_number 6 = .ok (.invokevirtual 62, 3) := dk_182 0 62 (dk_at dksX2_number_0 6 rfl rfl)
theorem dX2_number_9 : decode cX2_number 9 = .ok (.invokestatic 53, 3) := dk_184 0 53 (dk_at dksX2_number_0 9 rfl rfl)
theorem dX2_number_12 : decode cX2_number 12 = .ok (.ifCond .eq 31, 3) := dk_153 0 31 (dk_at dksX2_number_0 12 rfl rfl)
theorem dX2_number_15 : decode cX2_number 15 = .ok (.iload_n 2, 1) := dk_28 (dk_at dksX2_number_0 15 rfl rfl)
theorem dX2_number_16 : decode cX2_number 16 = .ok (.iload_n 1, 1) := dk_27 (dk_at dksX2_number_0 16 rfl rfl)
theorem dX2_number_17 : decode cX2_number 17 = .ok (.iconst 4, 1) := dk_7 (dk_at dksX2_number_0 17 rfl rfl)
theorem dX2_number_18 : decode cX2_number 18 = .ok (.iadd, 1) := dk_96 (dk_at dksX2_number_0 18 rfl rfl)
theorem dX2_number_19 : decode cX2_number 19 = .ok (.if_icmp .ge 18, 3) := dk_162 0 18 (dk_at dksX2_number_0 19 rfl rfl)
theorem dX2_number_22 : decode cX2_number 22 = .ok (.bipush 10, 2) := dk_16 10 (dk_at dksX2_number_0 22 rfl rfl)
theorem dX2_number_24 : decode cX2_number 24 = .ok (.iload_n 3, 1) := dk_29 (dk_at dksX2_number_1 0 rfl rfl)
theorem dX2_number_25 : decode cX2_number 25 = .ok (.imul, 1) := dk_104 (dk_at dksX2_number_1 1 rfl rfl)
theorem dX2_number_26 : decode cX2_number 26 = .ok (.aload_n 0, 1) := dk_42 (dk_at dksX2_number_1 2 rfl rfl)
theorem dX2_number_27 : decode cX2_number 27 = .ok (.getfield 11, 3) := dk_180 0 11 (dk_at dksX2_number_1 3 rfl rfl)
theorem dX2_number_30 : decode cX2_number 30 = .ok (.iload_n 2, 1) := dk_28 (dk_at dksX2_number_1 6 rfl rfl)
theorem dX2_number_31 : decode cX2_number 31 = .ok (.baload, 1) := dk_51 (dk_at dksX2_number_1 7 rfl rfl)
theorem dX2_number_32 : decode cX2_number 32 = .ok (.iadd, 1) := dk_96 (dk_at dksX2_number_1 8 rfl rfl)
theorem dX2_number_33 : decode cX2_number 33 = .ok (.bipush 48, 2) := dk_16 48 (dk_at dksX2_number_1 9 rfl rfl)
theorem dX2_number_35 : decode cX2_number 35 = .ok (.isub, 1) := dk_100 (dk_at dksX2_number_1 11 rfl rfl)
theorem dX2_number_36 : decode cX2_number 36 = .ok (.istore_n 3, 1) := dk_62 (dk_at dksX2_number_1 12 rfl rfl)
theorem dX2_number_37 : decode cX2_number 37 = .ok (.iinc 2 1, 3) := dk_132 2 1 (dk_at dksX2_number_1 13 rfl rfl)
theorem dX2_number_40 : decode cX2_number 40 = .ok (.goto (-36), 3) := dk_167 255 220 (dk_at dksX2_number_1 16 rfl rfl)
theorem dX2_number_43 : decode cX2_number 43 = .ok (.aload_n 0, 1) := dk_42 (dk_at dksX2_number_1 19 rfl rfl)
theorem dX2_number_44 : decode cX2_number 44 = .ok (.iload_n 2, 1) := dk_28 (dk_at dksX2_number_1 20 rfl rfl)
theorem dX2_number_45 : decode cX2_number 45 = .ok (.iload_n 1, 1) := dk_27 (dk_at dksX2_number_1 21 rfl rfl)
theorem dX2_number_46 : decode cX2_number 46 = .ok (.isub, 1) := dk_100 (dk_at dksX2_number_1 22 rfl rfl)
theorem dX2_number_47 : decode cX2_number 47 = .ok (.iconst 4, 1) := dk_7 (dk_at dksX2_number_1 23 rfl rfl)
theorem dX2_number_48 : decode cX2_number 48 = .ok (.if_icmp .le 7, 3) := dk_164 0 7 (dk_at dksX2_number_2 0 rfl rfl)
theorem dX2_number_51 : decode cX2_number 51 = .ok (.iconst 3, 1) := dk_6 (dk_at dksX2_number_2 3 rfl rfl)
theorem dX2_number_52 : decode cX2_number 52 = .ok (.goto 4, 3) := dk_167 0 4 (dk_at dksX2_number_2 4 rfl rfl)
theorem dX2_number_55 : decode cX2_number 55 = .ok (.iconst 2, 1) := dk_5 (dk_at dksX2_number_2 7 rfl rfl)
theorem dX2_number_56 : decode cX2_number 56 = .ok (.iload_n 1, 1) := dk_27 (dk_at dksX2_number_2 8 rfl rfl)
theorem dX2_number_57 : decode cX2_number 57 = .ok (.iload_n 3, 1) := dk_29 (dk_at dksX2_number_2 9 rfl rfl)
theorem dX2_number_58 : decode cX2_number 58 = .ok (.i2l, 1) := dk_133 (dk_at dksX2_number_2 10 rfl rfl)
theorem dX2_number_59 : decode cX2_number 59 = .ok (.invokevirtual 41, 3) := dk_182 0 41 (dk_at dksX2_number_2 11 rfl rfl)
theorem dX2_number_62 : decode cX2_number 62 = .ok (.iload_n 2, 1) := dk_28 (dk_at dksX2_number_2 14 rfl rfl)
theorem dX2_number_63 : decode cX2_number 63 = .ok (.ireturn, 1) := dk_172 (dk_at dksX2_number_2 15 rfl rfl)
abbrev cX2_sign : ByteArray := prog_10_method_10_code
def yX2_sign : MethodName := ⟨RX2, "sign", "(I)I"⟩
def dkwX2_sign_2 : List UInt8 := [172]
abbrev dktX2_sign_2 : List UInt8 := dkwX2_sign_2 ++ []
def dkwX2_sign_1 : List UInt8 := [8, 167, 0, 15, 28, 16, 125, 160, 0, 8, 16, 6, 167, 0, 4, 6, 27, 9, 182, 0, 41, 27, 4, 96]
abbrev dktX2_sign_1 : List UInt8 := dkwX2_sign_1 ++ dktX2_sign_2
def dkwX2_sign_0 : List UInt8 := [42, 180, 0, 11, 27, 51, 61, 42, 28, 16, 59, 160, 0, 7, 7, 167, 0, 25, 28, 16, 123, 160, 0, 7]
abbrev dktX2_sign_0 : List UInt8 := dkwX2_sign_0 ++ dktX2_sign_1
theorem dksX2_sign_0 : cX2_sign.data.toList.drop 0 = dktX2_sign_0 := by decide +kernel
theorem dksX2_sign_1 : cX2_sign.data.toList.drop 24 = dktX2_sign_1 := dk_seg dksX2_sign_0 24 rfl rfl
theorem dksX2_sign_2 : cX2_sign.data.toList.drop 48 = dktX2_sign_2 := dk_seg dksX2_sign_1 24 rfl rfl
theorem dX2_sign_0 : decode cX2_sign 0 = .ok (.aload_n 0, 1) := dk_42 (dk_at dksX2_sign_0 0 rfl rfl)
theorem dX2_sign_1 : decode cX2_sign 1 = .ok (.getfield 11, 3) := dk_180 0 11 (dk_at dksX2_sign_0 1 rfl rfl)
theorem dX2_sign_4 : decode cX2_sign 4 = .ok (.iload_n 1, 1) := dk_27 (dk_at dksX2_sign_0 4 rfl rfl)
theorem dX2_sign_5 : decode cX2_sign 5 = .ok (.baload, 1) := dk_51 (dk_at dksX2_sign_0 5 rfl rfl)
theorem dX2_sign_6 : decode cX2_sign 6 = .ok (.istore_n 2, 1) := dk_61 (dk_at dksX2_sign_0 6 rfl rfl)
theorem dX2_sign_7 : decode cX2_sign 7 = .ok (.aload_n 0, 1) := dk_42 (dk_at dksX2_sign_0 7 rfl rfl)
theorem dX2_sign_8 : decode cX2_sign 8 = .ok (.iload_n 2, 1) := dk_28 (dk_at dksX2_sign_0 8 rfl rfl)
theorem dX2_sign_9 : decode cX2_sign 9 = .ok (.bipush 59, 2) := dk_16 59 (dk_at dksX2_sign_0 9 rfl rfl)
theorem dX2_sign_11 : decode cX2_sign 11 = .ok (.if_icmp .ne 7, 3) := dk_160 0 7 (dk_at dksX2_sign_0 11 rfl rfl)
theorem dX2_sign_14 : decode cX2_sign 14 = .ok (.iconst 4, 1) := dk_7 (dk_at dksX2_sign_0 14 rfl rfl)
theorem dX2_sign_15 : decode cX2_sign 15 = .ok (.goto 25, 3) := dk_167 0 25 (dk_at dksX2_sign_0 15 rfl rfl)
theorem dX2_sign_18 : decode cX2_sign 18 = .ok (.iload_n 2, 1) := dk_28 (dk_at dksX2_sign_0 18 rfl rfl)
theorem dX2_sign_19 : decode cX2_sign 19 = .ok (.bipush 123, 2) := dk_16 123 (dk_at dksX2_sign_0 19 rfl rfl)
theorem dX2_sign_21 : decode cX2_sign 21 = .ok (.if_icmp .ne 7, 3) := dk_160 0 7 (dk_at dksX2_sign_0 21 rfl rfl)
theorem dX2_sign_24 : decode cX2_sign 24 = .ok (.iconst 5, 1) := dk_8 (dk_at dksX2_sign_1 0 rfl rfl)
theorem dX2_sign_25 : decode cX2_sign 25 = .ok (.goto 15, 3) := dk_167 0 15 (dk_at dksX2_sign_1 1 rfl rfl)
theorem dX2_sign_28 : decode cX2_sign 28 = .ok (.iload_n 2, 1) := dk_28 (dk_at dksX2_sign_1 4 rfl rfl)
theorem dX2_sign_29 : decode cX2_sign 29 = .ok (.bipush 125, 2) := dk_16 125 (dk_at dksX2_sign_1 5 rfl rfl)
theorem dX2_sign_31 : decode cX2_sign 31 = .ok (.if_icmp .ne 8, 3) := dk_160 0 8 (dk_at dksX2_sign_1 7 rfl rfl)
theorem dX2_sign_34 : decode cX2_sign 34 = .ok (.bipush 6, 2) := dk_16 6 (dk_at dksX2_sign_1 10 rfl rfl)
theorem dX2_sign_36 : decode cX2_sign 36 = .ok (.goto 4, 3) := dk_167 0 4 (dk_at dksX2_sign_1 12 rfl rfl)
theorem dX2_sign_39 : decode cX2_sign 39 = .ok (.iconst 3, 1) := dk_6 (dk_at dksX2_sign_1 15 rfl rfl)
theorem dX2_sign_40 : decode cX2_sign 40 = .ok (.iload_n 1, 1) := dk_27 (dk_at dksX2_sign_1 16 rfl rfl)
theorem dX2_sign_41 : decode cX2_sign 41 = .ok (.lconst 0, 1) := dk_9 (dk_at dksX2_sign_1 17 rfl rfl)
theorem dX2_sign_42 : decode cX2_sign 42 = .ok (.invokevirtual 41, 3) := dk_182 0 41 (dk_at dksX2_sign_1 18 rfl rfl)
theorem dX2_sign_45 : decode cX2_sign 45 = .ok (.iload_n 1, 1) := dk_27 (dk_at dksX2_sign_1 21 rfl rfl)
theorem dX2_sign_46 : decode cX2_sign 46 = .ok (.iconst 1, 1) := dk_4 (dk_at dksX2_sign_1 22 rfl rfl)
theorem dX2_sign_47 : decode cX2_sign 47 = .ok (.iadd, 1) := dk_96 (dk_at dksX2_sign_1 23 rfl rfl)
theorem dX2_sign_48 : decode cX2_sign 48 = .ok (.ireturn, 1) := dk_172 (dk_at dksX2_sign_2 0 rfl rfl)
theorem q121 : (Jvm.Cond.initialized "LadderLots$Scanner") ∈ lw_all := lw_g (lw_at lw_m1 3 rfl) rfl
theorem q304 : (Jvm.Cond.instantiable "LadderLots$Scanner" (6 : Nat)) ∈ lw_all := lw_g (lw_at lw_m1 186 rfl) rfl
theorem q306 : (Jvm.Cond.instanceMethod ({ cls := "LadderLots$Scanner", name := "<init>", desc := "()V" } : Jvm.MethodName)) ∈ lw_all := lw_g (lw_at lw_m1 188 rfl) rfl
theorem q307 : (Jvm.Cond.code ({ cls := "LadderLots$Scanner", name := "<init>", desc := "()V" } : Jvm.MethodName) prog_10_method_1_code (1 : Nat) (Option.none : Option Jvm.ClassFile.FieldType)) ∈ lw_all := lw_g (lw_at lw_m1 189 rfl) rfl
theorem q308 : (Jvm.Cond.methodLink "LadderLots$Scanner" (3 : Nat) ({ cls := "java/lang/Object", name := "<init>", desc := "()V" } : Jvm.MethodName)) ∈ lw_all := lw_g (lw_at lw_m1 190 rfl) rfl
theorem q309 : (Jvm.Cond.fieldLink "LadderLots$Scanner" (11 : Nat) "LadderLots$Scanner" "tape" "[B") ∈ lw_all := lw_g (lw_at lw_m1 191 rfl) rfl
theorem q310 : (Jvm.Cond.fieldLink "LadderLots$Scanner" (26 : Nat) "LadderLots$Scanner" "taped" "I") ∈ lw_all := lw_g (lw_at lw_m1 192 rfl) rfl
theorem q312 : (Jvm.Cond.fieldLink "LadderLots$Scanner" (15 : Nat) "LadderLots$Scanner" "kinds" "[B") ∈ lw_all := lw_g (lw_at lw_m1 194 rfl) rfl
theorem q314 : (Jvm.Cond.fieldLink "LadderLots$Scanner" (18 : Nat) "LadderLots$Scanner" "places" "[S") ∈ lw_all := lw_g (lw_at lw_m1 196 rfl) rfl
theorem q316 : (Jvm.Cond.fieldLink "LadderLots$Scanner" (22 : Nat) "LadderLots$Scanner" "values" "[J") ∈ lw_all := lw_g (lw_at lw_m1 198 rfl) rfl
theorem q318 : (Jvm.Cond.fieldLink "LadderLots$Scanner" (38 : Nat) "LadderLots$Scanner" "count" "I") ∈ lw_all := lw_g (lw_at lw_m1 200 rfl) rfl
theorem q319 : (Jvm.Cond.laysFinal "LadderLots$Scanner" "LadderLots$Scanner" "tape" "[B") ∈ lw_all := lw_g (lw_at lw_m1 201 rfl) rfl
theorem q320 : (Jvm.Cond.soleField "LadderLots$Scanner" "tape") ∈ lw_all := lw_g (lw_at lw_m1 202 rfl) rfl
theorem q321 : (Jvm.Cond.lays "LadderLots$Scanner" "LadderLots$Scanner" "taped" "I") ∈ lw_all := lw_g (lw_at lw_m1 203 rfl) rfl
theorem q322 : (Jvm.Cond.soleField "LadderLots$Scanner" "taped") ∈ lw_all := lw_g (lw_at lw_m1 204 rfl) rfl
theorem q323 : (Jvm.Cond.laysFinal "LadderLots$Scanner" "LadderLots$Scanner" "kinds" "[B") ∈ lw_all := lw_g (lw_at lw_m1 205 rfl) rfl
theorem q324 : (Jvm.Cond.soleField "LadderLots$Scanner" "kinds") ∈ lw_all := lw_g (lw_at lw_m1 206 rfl) rfl
theorem q325 : (Jvm.Cond.laysFinal "LadderLots$Scanner" "LadderLots$Scanner" "places" "[S") ∈ lw_all := lw_g (lw_at lw_m1 207 rfl) rfl
theorem q326 : (Jvm.Cond.soleField "LadderLots$Scanner" "places") ∈ lw_all := lw_g (lw_at lw_m1 208 rfl) rfl
theorem q327 : (Jvm.Cond.laysFinal "LadderLots$Scanner" "LadderLots$Scanner" "values" "[J") ∈ lw_all := lw_g (lw_at lw_m1 209 rfl) rfl
theorem q328 : (Jvm.Cond.soleField "LadderLots$Scanner" "values") ∈ lw_all := lw_g (lw_at lw_m1 210 rfl) rfl
theorem q329 : (Jvm.Cond.lays "LadderLots$Scanner" "LadderLots$Scanner" "count" "I") ∈ lw_all := lw_g (lw_at lw_m1 211 rfl) rfl
theorem q330 : (Jvm.Cond.soleField "LadderLots$Scanner" "count") ∈ lw_all := lw_g (lw_at lw_m1 212 rfl) rfl
theorem q331 : (Jvm.Cond.superclass "LadderLots$Scanner" "java/lang/Object") ∈ lw_all := lw_g (lw_at lw_m1 213 rfl) rfl
theorem q521 : (Jvm.Cond.instanceMethod ({ cls := "LadderLots$Scanner", name := "feed", desc := "(IIIII)I" } : Jvm.MethodName)) ∈ lw_all := lw_g (lw_at lw_m2 163 rfl) rfl
theorem q522 : (Jvm.Cond.selects "LadderLots$Scanner" ({ cls := "LadderLots$Scanner", name := "feed", desc := "(IIIII)I" } : Jvm.MethodName) ({ cls := "LadderLots$Scanner", name := "feed", desc := "(IIIII)I" } : Jvm.MethodName)) ∈ lw_all := lw_g (lw_at lw_m2 164 rfl) rfl
theorem q523 : (Jvm.Cond.code ({ cls := "LadderLots$Scanner", name := "feed", desc := "(IIIII)I" } : Jvm.MethodName) prog_10_method_2_code (6 : Nat) (Option.some Jvm.ClassFile.FieldType.int)) ∈ lw_all := lw_g (lw_at lw_m2 165 rfl) rfl
theorem q524 : (Jvm.Cond.methodLink "LadderLots$Scanner" (30 : Nat) ({ cls := "LadderLots$Scanner", name := "put", desc := "(I)V" } : Jvm.MethodName)) ∈ lw_all := lw_g (lw_at lw_m2 166 rfl) rfl
theorem q525 : (Jvm.Cond.privateMethod ({ cls := "LadderLots$Scanner", name := "put", desc := "(I)V" } : Jvm.MethodName)) ∈ lw_tbl := lw_at lw_m2 167 rfl
theorem q526 : (Jvm.Cond.instanceMethod ({ cls := "LadderLots$Scanner", name := "put", desc := "(I)V" } : Jvm.MethodName)) ∈ lw_all := lw_g (lw_at lw_m2 168 rfl) rfl
theorem q527 : (Jvm.Cond.code ({ cls := "LadderLots$Scanner", name := "put", desc := "(I)V" } : Jvm.MethodName) prog_10_method_3_code (3 : Nat) (Option.none : Option Jvm.ClassFile.FieldType)) ∈ lw_all := lw_g (lw_at lw_m2 169 rfl) rfl
theorem q533 : (Jvm.Cond.instanceMethod ({ cls := "LadderLots$Scanner", name := "back", desc := "(I)I" } : Jvm.MethodName)) ∈ lw_all := lw_g (lw_at lw_m2 175 rfl) rfl
theorem q534 : (Jvm.Cond.selects "LadderLots$Scanner" ({ cls := "LadderLots$Scanner", name := "back", desc := "(I)I" } : Jvm.MethodName) ({ cls := "LadderLots$Scanner", name := "back", desc := "(I)I" } : Jvm.MethodName)) ∈ lw_all := lw_g (lw_at lw_m2 176 rfl) rfl
theorem q535 : (Jvm.Cond.code ({ cls := "LadderLots$Scanner", name := "back", desc := "(I)I" } : Jvm.MethodName) prog_10_method_4_code (2 : Nat) (Option.some Jvm.ClassFile.FieldType.int)) ∈ lw_all := lw_g (lw_at lw_m2 177 rfl) rfl
theorem q536 : (Jvm.Cond.methodLinkNest "LadderLots$Scanner" (34 : Nat) ({ cls := "LadderLots", name := "within", desc := "(III)Z" } : Jvm.MethodName) "LadderLots") ∈ lw_tbl := lw_at lw_m2 178 rfl
theorem q547 : (Jvm.Cond.instanceMethod ({ cls := "LadderLots$Scanner", name := "cut", desc := "()V" } : Jvm.MethodName)) ∈ lw_all := lw_g (lw_at lw_m2 189 rfl) rfl
theorem q548 : (Jvm.Cond.selects "LadderLots$Scanner" ({ cls := "LadderLots$Scanner", name := "cut", desc := "()V" } : Jvm.MethodName) ({ cls := "LadderLots$Scanner", name := "cut", desc := "()V" } : Jvm.MethodName)) ∈ lw_all := lw_g (lw_at lw_m2 190 rfl) rfl
theorem q549 : (Jvm.Cond.code ({ cls := "LadderLots$Scanner", name := "cut", desc := "()V" } : Jvm.MethodName) prog_10_method_9_code (2 : Nat) (Option.none : Option Jvm.ClassFile.FieldType)) ∈ lw_all := lw_g (lw_at lw_m2 191 rfl) rfl
theorem q550 : (Jvm.Cond.methodLink "LadderLots$Scanner" (41 : Nat) ({ cls := "LadderLots$Scanner", name := "add", desc := "(IIJ)V" } : Jvm.MethodName)) ∈ lw_all := lw_g (lw_at lw_m2 192 rfl) rfl
theorem q551 : (Jvm.Cond.privateMethod ({ cls := "LadderLots$Scanner", name := "add", desc := "(IIJ)V" } : Jvm.MethodName)) ∈ lw_tbl := lw_at lw_m2 193 rfl
theorem q552 : (Jvm.Cond.instanceMethod ({ cls := "LadderLots$Scanner", name := "add", desc := "(IIJ)V" } : Jvm.MethodName)) ∈ lw_all := lw_g (lw_at lw_m2 194 rfl) rfl
theorem q553 : (Jvm.Cond.code ({ cls := "LadderLots$Scanner", name := "add", desc := "(IIJ)V" } : Jvm.MethodName) prog_10_method_8_code (5 : Nat) (Option.none : Option Jvm.ClassFile.FieldType)) ∈ lw_all := lw_g (lw_at lw_m2 195 rfl) rfl
theorem q554 : (Jvm.Cond.methodLink "LadderLots$Scanner" (45 : Nat) ({ cls := "LadderLots$Scanner", name := "isLetter", desc := "(I)Z" } : Jvm.MethodName)) ∈ lw_all := lw_g (lw_at lw_m2 196 rfl) rfl
theorem q555 : (Jvm.Cond.static ({ cls := "LadderLots$Scanner", name := "isLetter", desc := "(I)Z" } : Jvm.MethodName)) ∈ lw_all := lw_g (lw_at lw_m2 197 rfl) rfl
theorem q556 : (Jvm.Cond.code ({ cls := "LadderLots$Scanner", name := "isLetter", desc := "(I)Z" } : Jvm.MethodName) prog_10_method_6_code (1 : Nat) (Option.some Jvm.ClassFile.FieldType.boolean)) ∈ lw_all := lw_g (lw_at lw_m2 198 rfl) rfl
theorem q557 : (Jvm.Cond.methodLink "LadderLots$Scanner" (49 : Nat) ({ cls := "LadderLots$Scanner", name := "word", desc := "(I)I" } : Jvm.MethodName)) ∈ lw_all := lw_g (lw_at lw_m2 199 rfl) rfl
theorem q558 : (Jvm.Cond.privateMethod ({ cls := "LadderLots$Scanner", name := "word", desc := "(I)I" } : Jvm.MethodName)) ∈ lw_tbl := lw_at lw_m2 200 rfl
theorem q559 : (Jvm.Cond.instanceMethod ({ cls := "LadderLots$Scanner", name := "word", desc := "(I)I" } : Jvm.MethodName)) ∈ lw_all := lw_g (lw_at lw_m2 201 rfl) rfl
theorem q560 : (Jvm.Cond.code ({ cls := "LadderLots$Scanner", name := "word", desc := "(I)I" } : Jvm.MethodName) prog_10_method_12_code (7 : Nat) (Option.some Jvm.ClassFile.FieldType.int)) ∈ lw_all := lw_g (lw_at lw_m2 202 rfl) rfl
theorem q561 : (Jvm.Cond.methodLink "LadderLots$Scanner" (62 : Nat) ({ cls := "LadderLots$Scanner", name := "byteAt", desc := "(I)I" } : Jvm.MethodName)) ∈ lw_all := lw_g (lw_at lw_m2 203 rfl) rfl
theorem q562 : (Jvm.Cond.privateMethod ({ cls := "LadderLots$Scanner", name := "byteAt", desc := "(I)I" } : Jvm.MethodName)) ∈ lw_tbl := lw_at lw_m2 204 rfl
theorem q563 : (Jvm.Cond.instanceMethod ({ cls := "LadderLots$Scanner", name := "byteAt", desc := "(I)I" } : Jvm.MethodName)) ∈ lw_all := lw_g (lw_at lw_m2 205 rfl) rfl
theorem q564 : (Jvm.Cond.code ({ cls := "LadderLots$Scanner", name := "byteAt", desc := "(I)I" } : Jvm.MethodName) prog_10_method_5_code (2 : Nat) (Option.some Jvm.ClassFile.FieldType.int)) ∈ lw_all := lw_g (lw_at lw_m2 206 rfl) rfl
theorem q565 : (Jvm.Cond.constantLong "LadderLots$Scanner" (65 : Nat) (27 : Int64)) ∈ lw_all := lw_g (lw_at lw_m2 207 rfl) rfl
theorem q566 : (Jvm.Cond.constantLong "LadderLots$Scanner" (67 : Nat) (97 : Int64)) ∈ lw_all := lw_g (lw_at lw_m2 208 rfl) rfl
theorem q567 : (Jvm.Cond.fieldLink "LadderLots$Scanner" (69 : Nat) "LadderLots$Scanner" "WORDS" "[Ljava/lang/String;") ∈ lw_all := lw_g (lw_at lw_m2 209 rfl) rfl
theorem q568 : (Jvm.Cond.laysStatic "LadderLots$Scanner" "WORDS" "[Ljava/lang/String;") ∈ lw_tbl := lw_at lw_m2 210 rfl
theorem q569 : (Jvm.Cond.methodLink "LadderLots$Scanner" (73 : Nat) ({ cls := "LadderLots$Scanner", name := "is", desc := "(Ljava/lang/String;II)Z" } : Jvm.MethodName)) ∈ lw_all := lw_g (lw_at lw_m2 211 rfl) rfl
theorem q570 : (Jvm.Cond.privateMethod ({ cls := "LadderLots$Scanner", name := "is", desc := "(Ljava/lang/String;II)Z" } : Jvm.MethodName)) ∈ lw_tbl := lw_at lw_m2 212 rfl
theorem q571 : (Jvm.Cond.instanceMethod ({ cls := "LadderLots$Scanner", name := "is", desc := "(Ljava/lang/String;II)Z" } : Jvm.MethodName)) ∈ lw_all := lw_g (lw_at lw_m2 213 rfl) rfl
theorem q572 : (Jvm.Cond.code ({ cls := "LadderLots$Scanner", name := "is", desc := "(Ljava/lang/String;II)Z" } : Jvm.MethodName) prog_10_method_13_code (6 : Nat) (Option.some Jvm.ClassFile.FieldType.boolean)) ∈ lw_all := lw_g (lw_at lw_m2 214 rfl) rfl
theorem q573 : (Jvm.Cond.methodLink "LadderLots$Scanner" (77 : Nat) ({ cls := "java/lang/String", name := "length", desc := "()I" } : Jvm.MethodName)) ∈ lw_all := lw_g (lw_at lw_m2 215 rfl) rfl
theorem q583 : (Jvm.Cond.methodLink "LadderLots$Scanner" (83 : Nat) ({ cls := "java/lang/String", name := "charAt", desc := "(I)C" } : Jvm.MethodName)) ∈ lw_all := lw_g (lw_at lw_m2 225 rfl) rfl
theorem q621 : (Jvm.Cond.methodLink "LadderLots$Scanner" (53 : Nat) ({ cls := "LadderLots$Scanner", name := "isDigit", desc := "(I)Z" } : Jvm.MethodName)) ∈ lw_all := lw_g (lw_at lw_m3 23 rfl) rfl
theorem q622 : (Jvm.Cond.static ({ cls := "LadderLots$Scanner", name := "isDigit", desc := "(I)Z" } : Jvm.MethodName)) ∈ lw_all := lw_g (lw_at lw_m3 24 rfl) rfl
theorem q623 : (Jvm.Cond.code ({ cls := "LadderLots$Scanner", name := "isDigit", desc := "(I)Z" } : Jvm.MethodName) prog_10_method_7_code (1 : Nat) (Option.some Jvm.ClassFile.FieldType.boolean)) ∈ lw_all := lw_g (lw_at lw_m3 25 rfl) rfl
theorem q624 : (Jvm.Cond.methodLink "LadderLots$Scanner" (56 : Nat) ({ cls := "LadderLots$Scanner", name := "number", desc := "(I)I" } : Jvm.MethodName)) ∈ lw_all := lw_g (lw_at lw_m3 26 rfl) rfl
theorem q625 : (Jvm.Cond.privateMethod ({ cls := "LadderLots$Scanner", name := "number", desc := "(I)I" } : Jvm.MethodName)) ∈ lw_tbl := lw_at lw_m3 27 rfl
theorem q626 : (Jvm.Cond.instanceMethod ({ cls := "LadderLots$Scanner", name := "number", desc := "(I)I" } : Jvm.MethodName)) ∈ lw_all := lw_g (lw_at lw_m3 28 rfl) rfl
theorem q627 : (Jvm.Cond.code ({ cls := "LadderLots$Scanner", name := "number", desc := "(I)I" } : Jvm.MethodName) prog_10_method_11_code (4 : Nat) (Option.some Jvm.ClassFile.FieldType.int)) ∈ lw_all := lw_g (lw_at lw_m3 29 rfl) rfl
theorem q628 : (Jvm.Cond.methodLink "LadderLots$Scanner" (59 : Nat) ({ cls := "LadderLots$Scanner", name := "sign", desc := "(I)I" } : Jvm.MethodName)) ∈ lw_all := lw_g (lw_at lw_m3 30 rfl) rfl
theorem q629 : (Jvm.Cond.privateMethod ({ cls := "LadderLots$Scanner", name := "sign", desc := "(I)I" } : Jvm.MethodName)) ∈ lw_tbl := lw_at lw_m3 31 rfl
theorem q630 : (Jvm.Cond.instanceMethod ({ cls := "LadderLots$Scanner", name := "sign", desc := "(I)I" } : Jvm.MethodName)) ∈ lw_all := lw_g (lw_at lw_m3 32 rfl) rfl
theorem q631 : (Jvm.Cond.code ({ cls := "LadderLots$Scanner", name := "sign", desc := "(I)I" } : Jvm.MethodName) prog_10_method_10_code (3 : Nat) (Option.some Jvm.ClassFile.FieldType.int)) ∈ lw_all := lw_g (lw_at lw_m3 33 rfl) rfl
theorem q829 : (Jvm.Cond.selects "LadderLots$Scanner" ({ cls := "java/lang/Object", name := "getClass", desc := "()Ljava/lang/Class;" } : Jvm.MethodName) ({ cls := "java/lang/Object", name := "getClass", desc := "()Ljava/lang/Class;" } : Jvm.MethodName)) ∈ lw_all := lw_g (lw_at lw_m3 231 rfl) rfl
theorem q1965 : (Jvm.Cond.castable "LadderLots$Scanner" "java/lang/Object") ∈ lw_tbl := lw_at lw_m8 167 rfl
theorem q1991 : (Jvm.Cond.stringRef "LadderLots$Scanner" (87 : Nat) "legs") ∈ lw_tbl := lw_at lw_m8 193 rfl
theorem q1992 : (Jvm.Cond.stringRef "LadderLots$Scanner" (89 : Nat) "part") ∈ lw_tbl := lw_at lw_m8 194 rfl
theorem q1993 : (Jvm.Cond.stringRef "LadderLots$Scanner" (91 : Nat) "rung") ∈ lw_tbl := lw_at lw_m8 195 rfl
theorem q1994 : (Jvm.Cond.stringRef "LadderLots$Scanner" (93 : Nat) "gate") ∈ lw_tbl := lw_at lw_m8 196 rfl
theorem q1995 : (Jvm.Cond.stringRef "LadderLots$Scanner" (95 : Nat) "back") ∈ lw_tbl := lw_at lw_m8 197 rfl
theorem q1996 : (Jvm.Cond.stringRef "LadderLots$Scanner" (97 : Nat) "maybe") ∈ lw_tbl := lw_at lw_m8 198 rfl
theorem q1997 : (Jvm.Cond.stringRef "LadderLots$Scanner" (99 : Nat) "use") ∈ lw_tbl := lw_at lw_m8 199 rfl
theorem q1998 : (Jvm.Cond.stringRef "LadderLots$Scanner" (101 : Nat) "upside") ∈ lw_tbl := lw_at lw_m8 200 rfl
theorem q1999 : (Jvm.Cond.stringRef "LadderLots$Scanner" (103 : Nat) "turned") ∈ lw_tbl := lw_at lw_m8 201 rfl
theorem q2000 : (Jvm.Cond.stringRef "LadderLots$Scanner" (105 : Nat) "times") ∈ lw_tbl := lw_at lw_m8 202 rfl
theorem in_X2 : ∀ w ∈ wsX20, w ∈ lw_all := lw_in wsX20 [319, 321, 323, 325, 327, 329] (by decide +kernel) (by decide +kernel)

/-! LadderLots$Reader -/
set_option maxRecDepth 100000
def RX3 : String := "LadderLots$Reader"
def TX3 : u_T := fun k => match k with
  | 0 => ("LadderLots$Reader", "scanner", "LLadderLots$Scanner;", true)
  | 1 => ("LadderLots$Reader", "at", "I", false)
  | 2 => ("LadderLots$Reader", "deep", "I", false)
  | 3 => ("LadderLots$Reader", "legs", "I", false)
  | 4 => ("LadderLots$Reader", "wrongKind", "I", false)
  | 5 => ("LadderLots$Reader", "wrongPlace", "I", false)
  | 6 => ("LadderLots$Reader", "names", "[J", true)
  | 7 => ("LadderLots$Reader", "parts", "[LLadderLots$Steps;", true)
  | _ => ("LadderLots$Reader", "many", "I", false)
def tyX3 : Nat → FieldType := fun k => match k with
  | 0 => .object "LadderLots$Scanner"
  | 1 => .int
  | 2 => .int
  | 3 => .int
  | 4 => .int
  | 5 => .int
  | 6 => .array .long
  | 7 => .array (.object "LadderLots$Steps")
  | _ => .int
abbrev wsX30 : List Cond := u_ws RX3 TX3 9
theorem nmX3 : ∀ a, a < 9 → ∀ b, b < 9 → a ≠ b → (TX3 a).2.1 ≠ (TX3 b).2.1 := by decide +kernel
theorem tyX3_ok : ∀ k, k < 9 → parseFieldDescriptor (TX3 k).2.2.1 = some (tyX3 k) := by decide +kernel
abbrev cX3_init : ByteArray := prog_8_method_1_code
def yX3_init : MethodName := ⟨RX3, "<init>", "(LLadderLots$Scanner;)V"⟩
def dkwX3_init_1 : List UInt8 := [181, 0, 21, 177]
abbrev dktX3_init_1 : List UInt8 := dkwX3_init_1 ++ []
def dkwX3_init_0 : List UInt8 := [42, 183, 0, 3, 42, 16, 8, 188, 11, 181, 0, 11, 42, 16, 8, 189, 0, 15, 181, 0, 17, 42, 43]
abbrev dktX3_init_0 : List UInt8 := dkwX3_init_0 ++ dktX3_init_1
theorem dksX3_init_0 : cX3_init.data.toList.drop 0 = dktX3_init_0 := by decide +kernel
theorem dksX3_init_1 : cX3_init.data.toList.drop 23 = dktX3_init_1 := dk_seg dksX3_init_0 23 rfl rfl
theorem dX3_init_0 : decode cX3_init 0 = .ok (.aload_n 0, 1) := dk_42 (dk_at dksX3_init_0 0 rfl rfl)
theorem dX3_init_1 : decode cX3_init 1 = .ok (.invokespecial 3, 3) := dk_183 0 3 (dk_at dksX3_init_0 1 rfl rfl)
theorem dX3_init_4 : decode cX3_init 4 = .ok (.aload_n 0, 1) := dk_42 (dk_at dksX3_init_0 4 rfl rfl)
theorem dX3_init_5 : decode cX3_init 5 = .ok (.bipush 8, 2) := dk_16 8 (dk_at dksX3_init_0 5 rfl rfl)
theorem dX3_init_7 : decode cX3_init 7 = .ok (.newarray .long, 2) := dk_188_11 (dk_at dksX3_init_0 7 rfl rfl)
theorem dX3_init_9 : decode cX3_init 9 = .ok (.putfield 11, 3) := dk_181 0 11 (dk_at dksX3_init_0 9 rfl rfl)
theorem dX3_init_12 : decode cX3_init 12 = .ok (.aload_n 0, 1) := dk_42 (dk_at dksX3_init_0 12 rfl rfl)
theorem dX3_init_13 : decode cX3_init 13 = .ok (.bipush 8, 2) := dk_16 8 (dk_at dksX3_init_0 13 rfl rfl)
theorem dX3_init_15 : decode cX3_init 15 = .ok (.anewarray 15, 3) := dk_189 0 15 (dk_at dksX3_init_0 15 rfl rfl)
theorem dX3_init_18 : decode cX3_init 18 = .ok (.putfield 17, 3) := dk_181 0 17 (dk_at dksX3_init_0 18 rfl rfl)
theorem dX3_init_21 : decode cX3_init 21 = .ok (.aload_n 0, 1) := dk_42 (dk_at dksX3_init_0 21 rfl rfl)
theorem dX3_init_22 : decode cX3_init 22 = .ok (.aload_n 1, 1) := dk_43 (dk_at dksX3_init_0 22 rfl rfl)
theorem dX3_init_23 : decode cX3_init 23 = .ok (.putfield 21, 3) := dk_181 0 21 (dk_at dksX3_init_1 0 rfl rfl)
theorem dX3_init_26 : decode cX3_init 26 = .ok (.return_, 1) := dk_177 (dk_at dksX3_init_1 3 rfl rfl)
abbrev cX3_read : ByteArray := prog_8_method_8_code
def yX3_read : MethodName := ⟨RX3, "read", "()LLadderLots$Ladder;"⟩
def dkwX3_read_7 : List UInt8 := [187, 0, 109, 89, 42, 180, 0, 94, 44, 183, 0, 111, 176]
abbrev dktX3_read_7 : List UInt8 := dkwX3_read_7 ++ []
def dkwX3_read_6 : List UInt8 := [180, 0, 44, 153, 0, 19, 187, 0, 35, 89, 42, 180, 0, 44, 42, 180, 0, 47, 183, 0, 41, 191]
abbrev dktX3_read_6 : List UInt8 := dkwX3_read_6 ++ dktX3_read_7
def dkwX3_read_5 : List UInt8 := [42, 44, 182, 0, 101, 44, 182, 0, 105, 153, 0, 10, 42, 16, 6, 29, 182, 0, 73, 167, 255, 208, 42]
abbrev dktX3_read_5 : List UInt8 := dkwX3_read_5 ++ dktX3_read_6
def dkwX3_read_4 : List UInt8 := [154, 0, 46, 42, 180, 0, 31, 62, 42, 16, 11, 182, 0, 54, 153, 0, 10, 42, 182, 0, 98, 167, 255, 230]
abbrev dktX3_read_4 : List UInt8 := dkwX3_read_4 ++ dktX3_read_5
def dkwX3_read_3 : List UInt8 := [181, 0, 94, 42, 7, 182, 0, 62, 87, 187, 0, 15, 89, 183, 0, 97, 77, 42, 3, 182, 0, 54]
abbrev dktX3_read_3 : List UInt8 := dkwX3_read_3 ++ dktX3_read_4
def dkwX3_read_2 : List UInt8 := [153, 0, 25, 42, 180, 0, 21, 180, 0, 37, 27, 53, 42, 180, 0, 47, 160, 0, 9, 42, 16, 7]
abbrev dktX3_read_2 : List UInt8 := dkwX3_read_2 ++ dktX3_read_3
def dkwX3_read_1 : List UInt8 := [182, 0, 62, 87, 42, 180, 0, 31, 60, 42, 42, 5, 16, 7, 182, 0, 91, 181, 0, 94, 42, 180, 0, 44]
abbrev dktX3_read_1 : List UInt8 := dkwX3_read_1 ++ dktX3_read_2
def dkwX3_read_0 : List UInt8 := [42, 3, 181, 0, 31, 42, 3, 181, 0, 85, 42, 3, 181, 0, 44, 42, 3, 181, 0, 88, 42, 16, 10]
abbrev dktX3_read_0 : List UInt8 := dkwX3_read_0 ++ dktX3_read_1
theorem dksX3_read_0 : cX3_read.data.toList.drop 0 = dktX3_read_0 := by decide +kernel
theorem dksX3_read_1 : cX3_read.data.toList.drop 23 = dktX3_read_1 := dk_seg dksX3_read_0 23 rfl rfl
theorem dksX3_read_2 : cX3_read.data.toList.drop 47 = dktX3_read_2 := dk_seg dksX3_read_1 24 rfl rfl
theorem dksX3_read_3 : cX3_read.data.toList.drop 69 = dktX3_read_3 := dk_seg dksX3_read_2 22 rfl rfl
theorem dksX3_read_4 : cX3_read.data.toList.drop 91 = dktX3_read_4 := dk_seg dksX3_read_3 22 rfl rfl
theorem dksX3_read_5 : cX3_read.data.toList.drop 115 = dktX3_read_5 := dk_seg dksX3_read_4 24 rfl rfl
theorem dksX3_read_6 : cX3_read.data.toList.drop 138 = dktX3_read_6 := dk_seg dksX3_read_5 23 rfl rfl
theorem dksX3_read_7 : cX3_read.data.toList.drop 160 = dktX3_read_7 := dk_seg dksX3_read_6 22 rfl rfl
theorem dX3_read_0 : decode cX3_read 0 = .ok (.aload_n 0, 1) := dk_42 (dk_at dksX3_read_0 0 rfl rfl)
theorem dX3_read_1 : decode cX3_read 1 = .ok (.iconst 0, 1) := dk_3 (dk_at dksX3_read_0 1 rfl rfl)
theorem dX3_read_2 : decode cX3_read 2 = .ok (.putfield 31, 3) := dk_181 0 31 (dk_at dksX3_read_0 2 rfl rfl)
theorem dX3_read_5 : decode cX3_read 5 = .ok (.aload_n 0, 1) := dk_42 (dk_at dksX3_read_0 5 rfl rfl)
theorem dX3_read_6 : decode cX3_read 6 = .ok (.iconst 0, 1) := dk_3 (dk_at dksX3_read_0 6 rfl rfl)
theorem dX3_read_7 : decode cX3_read 7 = .ok (.putfield 85, 3) := dk_181 0 85 (dk_at dksX3_read_0 7 rfl rfl)
theorem dX3_read_10 : decode cX3_read 10 = .ok (.aload_n 0, 1) := dk_42 (dk_at dksX3_read_0 10 rfl rfl)
theorem dX3_read_11 : decode cX3_read 11 = .ok (.iconst 0, 1) := dk_3 (dk_at dksX3_read_0 11 rfl rfl)
theorem dX3_read_12 : decode cX3_read 12 = .ok (.putfield 44, 3) := dk_181 0 44 (dk_at dksX3_read_0 12 rfl rfl)
theorem dX3_read_15 : decode cX3_read 15 = .ok (.aload_n 0, 1) := dk_42 (dk_at dksX3_read_0 15 rfl rfl)
theorem dX3_read_16 : decode cX3_read 16 = .ok (.iconst 0, 1) := dk_3 (dk_at dksX3_read_0 16 rfl rfl)
theorem dX3_read_17 : decode cX3_read 17 = .ok (.putfield 88, 3) := dk_181 0 88 (dk_at dksX3_read_0 17 rfl rfl)
theorem dX3_read_20 : decode cX3_read 20 = .ok (.aload_n 0, 1) := dk_42 (dk_at dksX3_read_0 20 rfl rfl)
theorem dX3_read_21 : decode cX3_read 21 = .ok (.bipush 10, 2) := dk_16 10 (dk_at dksX3_read_0 21 rfl rfl)
theorem dX3_read_23 : decode cX3_read 23 = .ok (.invokevirtual 62, 3) := dk_182 0 62 (dk_at dksX3_read_1 0 rfl rfl)
theorem dX3_read_26 : decode cX3_read 26 = .ok (.pop, 1) := dk_87 (dk_at dksX3_read_1 3 rfl rfl)
theorem dX3_read_27 : decode cX3_read 27 = .ok (.aload_n 0, 1) := dk_42 (dk_at dksX3_read_1 4 rfl rfl)
theorem dX3_read_28 : decode cX3_read 28 = .ok (.getfield 31, 3) := dk_180 0 31 (dk_at dksX3_read_1 5 rfl rfl)
theorem dX3_read_31 : decode cX3_read 31 = .ok (.istore_n 1, 1) := dk_60 (dk_at dksX3_read_1 8 rfl rfl)
theorem dX3_read_32 : decode cX3_read 32 = .ok (.aload_n 0, 1) := dk_42 (dk_at dksX3_read_1 9 rfl rfl)
theorem dX3_read_33 : decode cX3_read 33 = .ok (.aload_n 0, 1) := dk_42 (dk_at dksX3_read_1 10 rfl rfl)
theorem dX3_read_34 : decode cX3_read 34 = .ok (.iconst 2, 1) := dk_5 (dk_at dksX3_read_1 11 rfl rfl)
theorem dX3_read_35 : decode cX3_read 35 = .ok (.bipush 7, 2) := dk_16 7 (dk_at dksX3_read_1 12 rfl rfl)
theorem dX3_read_37 : decode cX3_read 37 = .ok (.invokevirtual 91, 3) := dk_182 0 91 (dk_at dksX3_read_1 14 rfl rfl)
theorem dX3_read_40 : decode cX3_read 40 = .ok (.putfield 94, 3) := dk_181 0 94 (dk_at dksX3_read_1 17 rfl rfl)
theorem dX3_read_43 : decode cX3_read 43 = .ok (.aload_n 0, 1) := dk_42 (dk_at dksX3_read_1 20 rfl rfl)
theorem dX3_read_44 : decode cX3_read 44 = .ok (.getfield 44, 3) := dk_180 0 44 (dk_at dksX3_read_1 21 rfl rfl)
theorem dX3_read_47 : decode cX3_read 47 = .ok (.ifCond .eq 25, 3) := dk_153 0 25 (dk_at dksX3_read_2 0 rfl rfl)
theorem dX3_read_50 : decode cX3_read 50 = .ok (.aload_n 0, 1) := dk_42 (dk_at dksX3_read_2 3 rfl rfl)
theorem dX3_read_51 : decode cX3_read 51 = .ok (.getfield 21, 3) := dk_180 0 21 (dk_at dksX3_read_2 4 rfl rfl)
theorem dX3_read_54 : decode cX3_read 54 = .ok (.getfield 37, 3) := dk_180 0 37 (dk_at dksX3_read_2 7 rfl rfl)
theorem dX3_read_57 : decode cX3_read 57 = .ok (.iload_n 1, 1) := dk_27 (dk_at dksX3_read_2 10 rfl rfl)
theorem dX3_read_58 : decode cX3_read 58 = .ok (.saload, 1) := dk_53 (dk_at dksX3_read_2 11 rfl rfl)
theorem dX3_read_59 : decode cX3_read 59 = .ok (.aload_n 0, 1) := dk_42 (dk_at dksX3_read_2 12 rfl rfl)
theorem dX3_read_60 : decode cX3_read 60 = .ok (.getfield 47, 3) := dk_180 0 47 (dk_at dksX3_read_2 13 rfl rfl)
theorem dX3_read_63 : decode cX3_read 63 = .ok (.if_icmp .ne 9, 3) := dk_160 0 9 (dk_at dksX3_read_2 16 rfl rfl)
theorem dX3_read_66 : decode cX3_read 66 = .ok (.aload_n 0, 1) := dk_42 (dk_at dksX3_read_2 19 rfl rfl)
theorem dX3_read_67 : decode cX3_read 67 = .ok (.bipush 7, 2) := dk_16 7 (dk_at dksX3_read_2 20 rfl rfl)
theorem dX3_read_69 : decode cX3_read 69 = .ok (.putfield 94, 3) := dk_181 0 94 (dk_at dksX3_read_3 0 rfl rfl)
theorem dX3_read_72 : decode cX3_read 72 = .ok (.aload_n 0, 1) := dk_42 (dk_at dksX3_read_3 3 rfl rfl)
theorem dX3_read_73 : decode cX3_read 73 = .ok (.iconst 4, 1) := dk_7 (dk_at dksX3_read_3 4 rfl rfl)
theorem dX3_read_74 : decode cX3_read 74 = .ok (.invokevirtual 62, 3) := dk_182 0 62 (dk_at dksX3_read_3 5 rfl rfl)
theorem dX3_read_77 : decode cX3_read 77 = .ok (.pop, 1) := dk_87 (dk_at dksX3_read_3 8 rfl rfl)
theorem dX3_read_78 : decode cX3_read 78 = .ok (.new 15, 3) := dk_187 0 15 (dk_at dksX3_read_3 9 rfl rfl)
theorem dX3_read_81 : decode cX3_read 81 = .ok (.dup, 1) := dk_89 (dk_at dksX3_read_3 12 rfl rfl)
theorem dX3_read_82 : decode cX3_read 82 = .ok (.invokespecial 97, 3) := dk_183 0 97 (dk_at dksX3_read_3 13 rfl rfl)
theorem dX3_read_85 : decode cX3_read 85 = .ok (.astore_n 2, 1) := dk_77 (dk_at dksX3_read_3 16 rfl rfl)
theorem dX3_read_86 : decode cX3_read 86 = .ok (.aload_n 0, 1) := dk_42 (dk_at dksX3_read_3 17 rfl rfl)
theorem dX3_read_87 : decode cX3_read 87 = .ok (.iconst 0, 1) := dk_3 (dk_at dksX3_read_3 18 rfl rfl)
theorem dX3_read_88 : decode cX3_read 88 = .ok (.invokevirtual 54, 3) := dk_182 0 54 (dk_at dksX3_read_3 19 rfl rfl)
theorem dX3_read_91 : decode cX3_read 91 = .ok (.ifCond .ne 46, 3) := dk_154 0 46 (dk_at dksX3_read_4 0 rfl rfl)
theorem dX3_read_94 : decode cX3_read 94 = .ok (.aload_n 0, 1) := dk_42 (dk_at dksX3_read_4 3 rfl rfl)
theorem dX3_read_95 : decode cX3_read 95 = .ok (.getfield 31, 3) := dk_180 0 31 (dk_at dksX3_read_4 4 rfl rfl)
theorem dX3_read_98 : decode cX3_read 98 = .ok (.istore_n 3, 1) := dk_62 (dk_at dksX3_read_4 7 rfl rfl)
theorem dX3_read_99 : decode cX3_read 99 = .ok (.aload_n 0, 1) := dk_42 (dk_at dksX3_read_4 8 rfl rfl)
theorem dX3_read_100 : decode cX3_read 100 = .ok (.bipush 11, 2) := dk_16 11 (dk_at dksX3_read_4 9 rfl rfl)
theorem dX3_read_102 : decode cX3_read 102 = .ok (.invokevirtual 54, 3) := dk_182 0 54 (dk_at dksX3_read_4 11 rfl rfl)
theorem dX3_read_105 : decode cX3_read 105 = .ok (.ifCond .eq 10, 3) := dk_153 0 10 (dk_at dksX3_read_4 14 rfl rfl)
theorem dX3_read_108 : decode cX3_read 108 = .ok (.aload_n 0, 1) := dk_42 (dk_at dksX3_read_4 17 rfl rfl)
theorem dX3_read_109 : decode cX3_read 109 = .ok (.invokevirtual 98, 3) := dk_182 0 98 (dk_at dksX3_read_4 18 rfl rfl)
theorem dX3_read_112 : decode cX3_read 112 = .ok (.goto (-26), 3) := dk_167 255 230 (dk_at dksX3_read_4 21 rfl rfl)
theorem dX3_read_115 : decode cX3_read 115 = .ok (.aload_n 0, 1) := dk_42 (dk_at dksX3_read_5 0 rfl rfl)
theorem dX3_read_116 : decode cX3_read 116 = .ok (.aload_n 2, 1) := dk_44 (dk_at dksX3_read_5 1 rfl rfl)
theorem dX3_read_117 : decode cX3_read 117 = .ok (.invokevirtual 101, 3) := dk_182 0 101 (dk_at dksX3_read_5 2 rfl rfl)
theorem dX3_read_120 : decode cX3_read 120 = .ok (.aload_n 2, 1) := dk_44 (dk_at dksX3_read_5 5 rfl rfl)
theorem dX3_read_121 : decode cX3_read 121 = .ok (.invokevirtual 105, 3) := dk_182 0 105 (dk_at dksX3_read_5 6 rfl rfl)
theorem dX3_read_124 : decode cX3_read 124 = .ok (.ifCond .eq 10, 3) := dk_153 0 10 (dk_at dksX3_read_5 9 rfl rfl)
theorem dX3_read_127 : decode cX3_read 127 = .ok (.aload_n 0, 1) := dk_42 (dk_at dksX3_read_5 12 rfl rfl)
theorem dX3_read_128 : decode cX3_read 128 = .ok (.bipush 6, 2) := dk_16 6 (dk_at dksX3_read_5 13 rfl rfl)
theorem dX3_read_130 : decode cX3_read 130 = .ok (.iload_n 3, 1) := dk_29 (dk_at dksX3_read_5 15 rfl rfl)
theorem dX3_read_131 : decode cX3_read 131 = .ok (.invokevirtual 73, 3) := dk_182 0 73 (dk_at dksX3_read_5 16 rfl rfl)
theorem dX3_read_134 : decode cX3_read 134 = .ok (.goto (-48), 3) := dk_167 255 208 (dk_at dksX3_read_5 19 rfl rfl)
theorem dX3_read_137 : decode cX3_read 137 = .ok (.aload_n 0, 1) := dk_42 (dk_at dksX3_read_5 22 rfl rfl)
theorem dX3_read_138 : decode cX3_read 138 = .ok (.getfield 44, 3) := dk_180 0 44 (dk_at dksX3_read_6 0 rfl rfl)
theorem dX3_read_141 : decode cX3_read 141 = .ok (.ifCond .eq 19, 3) := dk_153 0 19 (dk_at dksX3_read_6 3 rfl rfl)
theorem dX3_read_144 : decode cX3_read 144 = .ok (.new 35, 3) := dk_187 0 35 (dk_at dksX3_read_6 6 rfl rfl)
theorem dX3_read_147 : decode cX3_read 147 = .ok (.dup, 1) := dk_89 (dk_at dksX3_read_6 9 rfl rfl)
theorem dX3_read_148 : decode cX3_read 148 = .ok (.aload_n 0, 1) := dk_42 (dk_at dksX3_read_6 10 rfl rfl)
theorem dX3_read_149 : decode cX3_read 149 = .ok (.getfield 44, 3) := dk_180 0 44 (dk_at dksX3_read_6 11 rfl rfl)
theorem dX3_read_152 : decode cX3_read 152 = .ok (.aload_n 0, 1) := dk_42 (dk_at dksX3_read_6 14 rfl rfl)
theorem dX3_read_153 : decode cX3_read 153 = .ok (.getfield 47, 3) := dk_180 0 47 (dk_at dksX3_read_6 15 rfl rfl)
theorem dX3_read_156 : decode cX3_read 156 = .ok (.invokespecial 41, 3) := dk_183 0 41 (dk_at dksX3_read_6 18 rfl rfl)
theorem dX3_read_159 : decode cX3_read 159 = .ok (.athrow, 1) := dk_191 (dk_at dksX3_read_6 21 rfl rfl)
theorem dX3_read_160 : decode cX3_read 160 = .ok (.new 109, 3) := dk_187 0 109 (dk_at dksX3_read_7 0 rfl rfl)
theorem dX3_read_163 : decode cX3_read 163 = .ok (.dup, 1) := dk_89 (dk_at dksX3_read_7 3 rfl rfl)
theorem dX3_read_164 : decode cX3_read 164 = .ok (.aload_n 0, 1) := dk_42 (dk_at dksX3_read_7 4 rfl rfl)
theorem dX3_read_165 : decode cX3_read 165 = .ok (.getfield 94, 3) := dk_180 0 94 (dk_at dksX3_read_7 5 rfl rfl)
theorem dX3_read_168 : decode cX3_read 168 = .ok (.aload_n 2, 1) := dk_44 (dk_at dksX3_read_7 8 rfl rfl)
theorem dX3_read_169 : decode cX3_read 169 = .ok (.invokespecial 111, 3) := dk_183 0 111 (dk_at dksX3_read_7 9 rfl rfl)
theorem dX3_read_172 : decode cX3_read 172 = .ok (.areturn, 1) := dk_176 (dk_at dksX3_read_7 12 rfl rfl)
abbrev cX3_must : ByteArray := prog_8_method_6_code
def yX3_must : MethodName := ⟨RX3, "must", "(I)I"⟩
def dkwX3_must_0 : List UInt8 := [42, 27, 182, 0, 54, 154, 0, 9, 42, 4, 182, 0, 50, 191, 42, 182, 0, 58, 172]
abbrev dktX3_must_0 : List UInt8 := dkwX3_must_0 ++ []
theorem dksX3_must_0 : cX3_must.data.toList.drop 0 = dktX3_must_0 := by decide +kernel
theorem dX3_must_0 : decode cX3_must 0 = .ok (.aload_n 0, 1) := dk_42 (dk_at dksX3_must_0 0 rfl rfl)
theorem dX3_must_1 : decode cX3_must 1 = .ok (.iload_n 1, 1) := dk_27 (dk_at dksX3_must_0 1 rfl rfl)
theorem dX3_must_2 : decode cX3_must 2 = .ok (.invokevirtual 54, 3) := dk_182 0 54 (dk_at dksX3_must_0 2 rfl rfl)
theorem dX3_must_5 : decode cX3_must 5 = .ok (.ifCond .ne 9, 3) := dk_154 0 9 (dk_at dksX3_must_0 5 rfl rfl)
theorem dX3_must_8 : decode cX3_must 8 = .ok (.aload_n 0, 1) := dk_42 (dk_at dksX3_must_0 8 rfl rfl)
theorem dX3_must_9 : decode cX3_must 9 = .ok (.iconst 1, 1) := dk_4 (dk_at dksX3_must_0 9 rfl rfl)
theorem dX3_must_10 : decode cX3_must 10 = .ok (.invokevirtual 50, 3) := dk_182 0 50 (dk_at dksX3_must_0 10 rfl rfl)
theorem dX3_must_13 : decode cX3_must 13 = .ok (.athrow, 1) := dk_191 (dk_at dksX3_must_0 13 rfl rfl)
theorem dX3_must_14 : decode cX3_must 14 = .ok (.aload_n 0, 1) := dk_42 (dk_at dksX3_must_0 14 rfl rfl)
theorem dX3_must_15 : decode cX3_must 15 = .ok (.invokevirtual 58, 3) := dk_182 0 58 (dk_at dksX3_must_0 15 rfl rfl)
theorem dX3_must_18 : decode cX3_must 18 = .ok (.ireturn, 1) := dk_172 (dk_at dksX3_must_0 18 rfl rfl)
abbrev cX3_is : ByteArray := prog_8_method_2_code
def yX3_is : MethodName := ⟨RX3, "is", "(I)Z"⟩
def dkwX3_is_0 : List UInt8 := [42, 180, 0, 21, 180, 0, 25, 42, 180, 0, 31, 51, 27, 160, 0, 7, 4, 167, 0, 4, 3, 172]
abbrev dktX3_is_0 : List UInt8 := dkwX3_is_0 ++ []
theorem dksX3_is_0 : cX3_is.data.toList.drop 0 = dktX3_is_0 := by decide +kernel
theorem dX3_is_0 : decode cX3_is 0 = .ok (.aload_n 0, 1) := dk_42 (dk_at dksX3_is_0 0 rfl rfl)
theorem dX3_is_1 : decode cX3_is 1 = .ok (.getfield 21, 3) := dk_180 0 21 (dk_at dksX3_is_0 1 rfl rfl)
theorem dX3_is_4 : decode cX3_is 4 = .ok (.getfield 25, 3) := dk_180 0 25 (dk_at dksX3_is_0 4 rfl rfl)
theorem dX3_is_7 : decode cX3_is 7 = .ok (.aload_n 0, 1) := dk_42 (dk_at dksX3_is_0 7 rfl rfl)
theorem dX3_is_8 : decode cX3_is 8 = .ok (.getfield 31, 3) := dk_180 0 31 (dk_at dksX3_is_0 8 rfl rfl)
theorem dX3_is_11 : decode cX3_is 11 = .ok (.baload, 1) := dk_51 (dk_at dksX3_is_0 11 rfl rfl)
theorem dX3_is_12 : decode cX3_is 12 = .ok (.iload_n 1, 1) := dk_27 (dk_at dksX3_is_0 12 rfl rfl)
theorem dX3_is_13 : decode cX3_is 13 = .ok (.if_icmp .ne 7, 3) := dk_160 0 7 (dk_at dksX3_is_0 13 rfl rfl)
theorem dX3_is_16 : decode cX3_is 16 = .ok (.iconst 1, 1) := dk_4 (dk_at dksX3_is_0 16 rfl rfl)
theorem dX3_is_17 : decode cX3_is 17 = .ok (.goto 4, 3) := dk_167 0 4 (dk_at dksX3_is_0 17 rfl rfl)
theorem dX3_is_20 : decode cX3_is 20 = .ok (.iconst 0, 1) := dk_3 (dk_at dksX3_is_0 20 rfl rfl)
theorem dX3_is_21 : decode cX3_is 21 = .ok (.ireturn, 1) := dk_172 (dk_at dksX3_is_0 21 rfl rfl)
abbrev cX3_fault : ByteArray := prog_8_method_3_code
def yX3_fault : MethodName := ⟨RX3, "fault", "(I)LLadderLots$Fault;"⟩
def dkwX3_fault_0 : List UInt8 := [187, 0, 35, 89, 27, 42, 180, 0, 21, 180, 0, 37, 42, 180, 0, 31, 53, 183, 0, 41, 176]
abbrev dktX3_fault_0 : List UInt8 := dkwX3_fault_0 ++ []
theorem dksX3_fault_0 : cX3_fault.data.toList.drop 0 = dktX3_fault_0 := by decide +kernel
theorem dX3_fault_0 : decode cX3_fault 0 = .ok (.new 35, 3) := dk_187 0 35 (dk_at dksX3_fault_0 0 rfl rfl)
theorem dX3_fault_3 : decode cX3_fault 3 = .ok (.dup, 1) := dk_89 (dk_at dksX3_fault_0 3 rfl rfl)
theorem dX3_fault_4 : decode cX3_fault 4 = .ok (.iload_n 1, 1) := dk_27 (dk_at dksX3_fault_0 4 rfl rfl)
theorem dX3_fault_5 : decode cX3_fault 5 = .ok (.aload_n 0, 1) := dk_42 (dk_at dksX3_fault_0 5 rfl rfl)
theorem dX3_fault_6 : decode cX3_fault 6 = .ok (.getfield 21, 3) := dk_180 0 21 (dk_at dksX3_fault_0 6 rfl rfl)
theorem dX3_fault_9 : decode cX3_fault 9 = .ok (.getfield 37, 3) := dk_180 0 37 (dk_at dksX3_fault_0 9 rfl rfl)
theorem dX3_fault_12 : decode cX3_fault 12 = .ok (.aload_n 0, 1) := dk_42 (dk_at dksX3_fault_0 12 rfl rfl)
theorem dX3_fault_13 : decode cX3_fault 13 = .ok (.getfield 31, 3) := dk_180 0 31 (dk_at dksX3_fault_0 13 rfl rfl)
theorem dX3_fault_16 : decode cX3_fault 16 = .ok (.saload, 1) := dk_53 (dk_at dksX3_fault_0 16 rfl rfl)
theorem dX3_fault_17 : decode cX3_fault 17 = .ok (.invokespecial 41, 3) := dk_183 0 41 (dk_at dksX3_fault_0 17 rfl rfl)
theorem dX3_fault_20 : decode cX3_fault 20 = .ok (.areturn, 1) := dk_176 (dk_at dksX3_fault_0 20 rfl rfl)
abbrev cX3_go : ByteArray := prog_8_method_5_code
def yX3_go : MethodName := ⟨RX3, "go", "()I"⟩
def dkwX3_go_1 : List UInt8 := [181, 0, 31, 42, 180, 0, 31, 4, 100, 172]
abbrev dktX3_go_1 : List UInt8 := dkwX3_go_1 ++ []
def dkwX3_go_0 : List UInt8 := [42, 180, 0, 31, 17, 1, 144, 160, 0, 9, 42, 5, 182, 0, 50, 191, 42, 89, 180, 0, 31, 4, 96]
abbrev dktX3_go_0 : List UInt8 := dkwX3_go_0 ++ dktX3_go_1
theorem dksX3_go_0 : cX3_go.data.toList.drop 0 = dktX3_go_0 := by decide +kernel
theorem dksX3_go_1 : cX3_go.data.toList.drop 23 = dktX3_go_1 := dk_seg dksX3_go_0 23 rfl rfl
theorem dX3_go_0 : decode cX3_go 0 = .ok (.aload_n 0, 1) := dk_42 (dk_at dksX3_go_0 0 rfl rfl)
theorem dX3_go_1 : decode cX3_go 1 = .ok (.getfield 31, 3) := dk_180 0 31 (dk_at dksX3_go_0 1 rfl rfl)
theorem dX3_go_4 : decode cX3_go 4 = .ok (.sipush 400, 3) := dk_17 1 144 (dk_at dksX3_go_0 4 rfl rfl)
theorem dX3_go_7 : decode cX3_go 7 = .ok (.if_icmp .ne 9, 3) := dk_160 0 9 (dk_at dksX3_go_0 7 rfl rfl)
theorem dX3_go_10 : decode cX3_go 10 = .ok (.aload_n 0, 1) := dk_42 (dk_at dksX3_go_0 10 rfl rfl)
theorem dX3_go_11 : decode cX3_go 11 = .ok (.iconst 2, 1) := dk_5 (dk_at dksX3_go_0 11 rfl rfl)
theorem dX3_go_12 : decode cX3_go 12 = .ok (.invokevirtual 50, 3) := dk_182 0 50 (dk_at dksX3_go_0 12 rfl rfl)
theorem dX3_go_15 : decode cX3_go 15 = .ok (.athrow, 1) := dk_191 (dk_at dksX3_go_0 15 rfl rfl)
theorem dX3_go_16 : decode cX3_go 16 = .ok (.aload_n 0, 1) := dk_42 (dk_at dksX3_go_0 16 rfl rfl)
theorem dX3_go_17 : decode cX3_go 17 = .ok (.dup, 1) := dk_89 (dk_at dksX3_go_0 17 rfl rfl)
theorem dX3_go_18 : decode cX3_go 18 = .ok (.getfield 31, 3) := dk_180 0 31 (dk_at dksX3_go_0 18 rfl rfl)
theorem dX3_go_21 : decode cX3_go 21 = .ok (.iconst 1, 1) := dk_4 (dk_at dksX3_go_0 21 rfl rfl)
theorem dX3_go_22 : decode cX3_go 22 = .ok (.iadd, 1) := dk_96 (dk_at dksX3_go_0 22 rfl rfl)
theorem dX3_go_23 : decode cX3_go 23 = .ok (.putfield 31, 3) := dk_181 0 31 (dk_at dksX3_go_1 0 rfl rfl)
theorem dX3_go_26 : decode cX3_go 26 = .ok (.aload_n 0, 1) := dk_42 (dk_at dksX3_go_1 3 rfl rfl)
theorem dX3_go_27 : decode cX3_go 27 = .ok (.getfield 31, 3) := dk_180 0 31 (dk_at dksX3_go_1 4 rfl rfl)
theorem dX3_go_30 : decode cX3_go 30 = .ok (.iconst 1, 1) := dk_4 (dk_at dksX3_go_1 7 rfl rfl)
theorem dX3_go_31 : decode cX3_go 31 = .ok (.isub, 1) := dk_100 (dk_at dksX3_go_1 8 rfl rfl)
theorem dX3_go_32 : decode cX3_go 32 = .ok (.ireturn, 1) := dk_172 (dk_at dksX3_go_1 9 rfl rfl)
abbrev cX3_bounded : ByteArray := prog_8_method_7_code
def yX3_bounded : MethodName := ⟨RX3, "bounded", "(II)I"⟩
def dkwX3_bounded_1 : List UInt8 := [184, 0, 69, 154, 0, 9, 42, 8, 29, 182, 0, 73, 21, 4, 27, 184, 0, 76, 28, 184, 0, 82, 172]
abbrev dktX3_bounded_1 : List UInt8 := dkwX3_bounded_1 ++ []
def dkwX3_bounded_0 : List UInt8 := [42, 5, 182, 0, 62, 62, 42, 180, 0, 21, 180, 0, 66, 29, 47, 136, 54, 4, 21, 4, 27, 28]
abbrev dktX3_bounded_0 : List UInt8 := dkwX3_bounded_0 ++ dktX3_bounded_1
theorem dksX3_bounded_0 : cX3_bounded.data.toList.drop 0 = dktX3_bounded_0 := by decide +kernel
theorem dksX3_bounded_1 : cX3_bounded.data.toList.drop 22 = dktX3_bounded_1 := dk_seg dksX3_bounded_0 22 rfl rfl
theorem dX3_bounded_0 : decode cX3_bounded 0 = .ok (.aload_n 0, 1) := dk_42 (dk_at dksX3_bounded_0 0 rfl rfl)
theorem dX3_bounded_1 : decode cX3_bounded 1 = .ok (.iconst 2, 1) := dk_5 (dk_at dksX3_bounded_0 1 rfl rfl)
theorem dX3_bounded_2 : decode cX3_bounded 2 = .ok (.invokevirtual 62, 3) := dk_182 0 62 (dk_at dksX3_bounded_0 2 rfl rfl)
theorem dX3_bounded_5 : decode cX3_bounded 5 = .ok (.istore_n 3, 1) := dk_62 (dk_at dksX3_bounded_0 5 rfl rfl)
theorem dX3_bounded_6 : decode cX3_bounded 6 = .ok (.aload_n 0, 1) := dk_42 (dk_at dksX3_bounded_0 6 rfl rfl)
theorem dX3_bounded_7 : decode cX3_bounded 7 = .ok (.getfield 21, 3) := dk_180 0 21 (dk_at dksX3_bounded_0 7 rfl rfl)
theorem dX3_bounded_10 : decode cX3_bounded 10 = .ok (.getfield 66, 3) := dk_180 0 66 (dk_at dksX3_bounded_0 10 rfl rfl)
theorem dX3_bounded_13 : decode cX3_bounded 13 = .ok (.iload_n 3, 1) := dk_29 (dk_at dksX3_bounded_0 13 rfl rfl)
theorem dX3_bounded_14 : decode cX3_bounded 14 = .ok (.laload, 1) := dk_47 (dk_at dksX3_bounded_0 14 rfl rfl)
theorem dX3_bounded_15 : decode cX3_bounded 15 = .ok (.l2i, 1) := dk_136 (dk_at dksX3_bounded_0 15 rfl rfl)
theorem dX3_bounded_16 : decode cX3_bounded 16 = .ok (.istore 4, 2) := dk_54 4 (dk_at dksX3_bounded_0 16 rfl rfl)
theorem dX3_bounded_18 : decode cX3_bounded 18 = .ok (.iload 4, 2) := dk_21 4 (dk_at dksX3_bounded_0 18 rfl rfl)
theorem dX3_bounded_20 : decode cX3_bounded 20 = .ok (.iload_n 1, 1) := dk_27 (dk_at dksX3_bounded_0 20 rfl rfl)
theorem dX3_bounded_21 : decode cX3_bounded 21 = .ok (.iload_n 2, 1) := dk_28 (dk_at dksX3_bounded_0 21 rfl rfl)
theorem dX3_bounded_22 : decode cX3_bounded 22 = .ok (.invokestatic 69, 3) := dk_184 0 69 (dk_at dksX3_bounded_1 0 rfl rfl)
theorem dX3_bounded_25 : decode cX3_bounded 25 = .ok (.ifCond .ne 9, 3) := dk_154 0 9 (dk_at dksX3_bounded_1 3 rfl rfl)
theorem dX3_bounded_28 : decode cX3_bounded 28 = .ok (.aload_n 0, 1) := dk_42 (dk_at dksX3_bounded_1 6 rfl rfl)
theorem dX3_bounded_29 : decode cX3_bounded 29 = .ok (.iconst 5, 1) := dk_8 (dk_at dksX3_bounded_1 7 rfl rfl)
theorem dX3_bounded_30 : decode cX3_bounded 30 = .ok (.iload_n 3, 1) := dk_29 (dk_at dksX3_bounded_1 8 rfl rfl)
theorem dX3_bounded_31 : decode cX3_bounded 31 = .ok (.invokevirtual 73, 3) := dk_182 0 73 (dk_at dksX3_bounded_1 9 rfl rfl)
theorem dX3_bounded_34 : decode cX3_bounded 34 = .ok (.iload 4, 2) := dk_21 4 (dk_at dksX3_bounded_1 12 rfl rfl)
theorem dX3_bounded_36 : decode cX3_bounded 36 = .ok (.iload_n 1, 1) := dk_27 (dk_at dksX3_bounded_1 14 rfl rfl)
theorem dX3_bounded_37 : decode cX3_bounded 37 = .ok (.invokestatic 76, 3) := dk_184 0 76 (dk_at dksX3_bounded_1 15 rfl rfl)
theorem dX3_bounded_40 : decode cX3_bounded 40 = .ok (.iload_n 2, 1) := dk_28 (dk_at dksX3_bounded_1 18 rfl rfl)
theorem dX3_bounded_41 : decode cX3_bounded 41 = .ok (.invokestatic 82, 3) := dk_184 0 82 (dk_at dksX3_bounded_1 19 rfl rfl)
theorem dX3_bounded_44 : decode cX3_bounded 44 = .ok (.ireturn, 1) := dk_172 (dk_at dksX3_bounded_1 22 rfl rfl)
abbrev cX3_wrong : ByteArray := prog_8_method_4_code
def yX3_wrong : MethodName := ⟨RX3, "wrong", "(II)V"⟩
def dkwX3_wrong_2 : List UInt8 := [181, 0, 44, 42, 29, 181, 0, 47, 177]
abbrev dktX3_wrong_2 : List UInt8 := dkwX3_wrong_2 ++ []
def dkwX3_wrong_1 : List UInt8 := [163, 0, 19, 29, 42, 180, 0, 47, 160, 0, 12, 27, 42, 180, 0, 44, 161, 0, 4, 177, 42, 27]
abbrev dktX3_wrong_1 : List UInt8 := dkwX3_wrong_1 ++ dktX3_wrong_2
def dkwX3_wrong_0 : List UInt8 := [42, 180, 0, 21, 180, 0, 37, 28, 53, 62, 42, 180, 0, 44, 153, 0, 28, 29, 42, 180, 0, 47]
abbrev dktX3_wrong_0 : List UInt8 := dkwX3_wrong_0 ++ dktX3_wrong_1
theorem dksX3_wrong_0 : cX3_wrong.data.toList.drop 0 = dktX3_wrong_0 := by decide +kernel
theorem dksX3_wrong_1 : cX3_wrong.data.toList.drop 22 = dktX3_wrong_1 := dk_seg dksX3_wrong_0 22 rfl rfl
theorem dksX3_wrong_2 : cX3_wrong.data.toList.drop 44 = dktX3_wrong_2 := dk_seg dksX3_wrong_1 22 rfl rfl
theorem dX3_wrong_0 : decode cX3_wrong 0 = .ok (.aload_n 0, 1) := dk_42 (dk_at dksX3_wrong_0 0 rfl rfl)
theorem dX3_wrong_1 : decode cX3_wrong 1 = .ok (.getfield 21, 3) := dk_180 0 21 (dk_at dksX3_wrong_0 1 rfl rfl)
theorem dX3_wrong_4 : decode cX3_wrong 4 = .ok (.getfield 37, 3) := dk_180 0 37 (dk_at dksX3_wrong_0 4 rfl rfl)
theorem dX3_wrong_7 : decode cX3_wrong 7 = .ok (.iload_n 2, 1) := dk_28 (dk_at dksX3_wrong_0 7 rfl rfl)
theorem dX3_wrong_8 : decode cX3_wrong 8 = .ok (.saload, 1) := dk_53 (dk_at dksX3_wrong_0 8 rfl rfl)
theorem dX3_wrong_9 : decode cX3_wrong 9 = .ok (.istore_n 3, 1) := dk_62 (dk_at dksX3_wrong_0 9 rfl rfl)
theorem dX3_wrong_10 : decode cX3_wrong 10 = .ok (.aload_n 0, 1) := dk_42 (dk_at dksX3_wrong_0 10 rfl rfl)
theorem dX3_wrong_11 : decode cX3_wrong 11 = .ok (.getfield 44, 3) := dk_180 0 44 (dk_at dksX3_wrong_0 11 rfl rfl)
theorem dX3_wrong_14 : decode cX3_wrong 14 = .ok (.ifCond .eq 28, 3) := dk_153 0 28 (dk_at dksX3_wrong_0 14 rfl rfl)
theorem dX3_wrong_17 : decode cX3_wrong 17 = .ok (.iload_n 3, 1) := dk_29 (dk_at dksX3_wrong_0 17 rfl rfl)
theorem dX3_wrong_18 : decode cX3_wrong 18 = .ok (.aload_n 0, 1) := dk_42 (dk_at dksX3_wrong_0 18 rfl rfl)
theorem dX3_wrong_19 : decode cX3_wrong 19 = .ok (.getfield 47, 3) := dk_180 0 47 (dk_at dksX3_wrong_0 19 rfl rfl)
theorem dX3_wrong_22 : decode cX3_wrong 22 = .ok (.if_icmp .gt 19, 3) := dk_163 0 19 (dk_at dksX3_wrong_1 0 rfl rfl)
theorem dX3_wrong_25 : decode cX3_wrong 25 = .ok (.iload_n 3, 1) := dk_29 (dk_at dksX3_wrong_1 3 rfl rfl)
theorem dX3_wrong_26 : decode cX3_wrong 26 = .ok (.aload_n 0, 1) := dk_42 (dk_at dksX3_wrong_1 4 rfl rfl)
theorem dX3_wrong_27 : decode cX3_wrong 27 = .ok (.getfield 47, 3) := dk_180 0 47 (dk_at dksX3_wrong_1 5 rfl rfl)
theorem dX3_wrong_30 : decode cX3_wrong 30 = .ok (.if_icmp .ne 12, 3) := dk_160 0 12 (dk_at dksX3_wrong_1 8 rfl rfl)
theorem dX3_wrong_33 : decode cX3_wrong 33 = .ok (.iload_n 1, 1) := dk_27 (dk_at dksX3_wrong_1 11 rfl rfl)
theorem dX3_wrong_34 : decode cX3_wrong 34 = .ok (.aload_n 0, 1) := dk_42 (dk_at dksX3_wrong_1 12 rfl rfl)
theorem dX3_wrong_35 : decode cX3_wrong 35 = .ok (.getfield 44, 3) := dk_180 0 44 (dk_at dksX3_wrong_1 13 rfl rfl)
theorem dX3_wrong_38 : decode cX3_wrong 38 = .ok (.if_icmp .lt 4, 3) := dk_161 0 4 (dk_at dksX3_wrong_1 16 rfl rfl)
theorem dX3_wrong_41 : decode cX3_wrong 41 = .ok (.return_, 1) := dk_177 (dk_at dksX3_wrong_1 19 rfl rfl)
theorem dX3_wrong_42 : decode cX3_wrong 42 = .ok (.aload_n 0, 1) := dk_42 (dk_at dksX3_wrong_1 20 rfl rfl)
theorem dX3_wrong_43 : decode cX3_wrong 43 = .ok (.iload_n 1, 1) := dk_27 (dk_at dksX3_wrong_1 21 rfl rfl)
theorem dX3_wrong_44 : decode cX3_wrong 44 = .ok (.putfield 44, 3) := dk_181 0 44 (dk_at dksX3_wrong_2 0 rfl rfl)
theorem dX3_wrong_47 : decode cX3_wrong 47 = .ok (.aload_n 0, 1) := dk_42 (dk_at dksX3_wrong_2 3 rfl rfl)
theorem dX3_wrong_48 : decode cX3_wrong 48 = .ok (.iload_n 3, 1) := dk_29 (dk_at dksX3_wrong_2 4 rfl rfl)
theorem dX3_wrong_49 : decode cX3_wrong 49 = .ok (.putfield 47, 3) := dk_181 0 47 (dk_at dksX3_wrong_2 5 rfl rfl)
theorem dX3_wrong_52 : decode cX3_wrong 52 = .ok (.return_, 1) := dk_177 (dk_at dksX3_wrong_2 8 rfl rfl)
abbrev cX3_tellPart : ByteArray := prog_8_method_12_code
def yX3_tellPart : MethodName := ⟨RX3, "tellPart", "()V"⟩
def dkwX3_tellPart_4 : List UInt8 := [180, 0, 88, 44, 83, 42, 89, 180, 0, 88, 4, 96, 181, 0, 88, 177]
abbrev dktX3_tellPart_4 : List UInt8 := dkwX3_tellPart_4 ++ []
def dkwX3_tellPart_3 : List UInt8 := [180, 0, 11, 42, 180, 0, 88, 42, 180, 0, 21, 180, 0, 66, 27, 47, 80, 42, 180, 0, 17, 42]
abbrev dktX3_tellPart_3 : List UInt8 := dkwX3_tellPart_3 ++ dktX3_tellPart_4
def dkwX3_tellPart_2 : List UInt8 := [182, 0, 73, 42, 182, 0, 121, 77, 44, 182, 0, 105, 153, 0, 10, 42, 16, 6, 27, 182, 0, 73, 42]
abbrev dktX3_tellPart_2 : List UInt8 := dkwX3_tellPart_2 ++ dktX3_tellPart_3
def dkwX3_tellPart_1 : List UInt8 := [182, 0, 62, 60, 42, 42, 180, 0, 21, 180, 0, 66, 27, 47, 182, 0, 117, 2, 159, 0, 9, 42, 6, 27]
abbrev dktX3_tellPart_1 : List UInt8 := dkwX3_tellPart_1 ++ dktX3_tellPart_2
def dkwX3_tellPart_0 : List UInt8 := [42, 180, 0, 88, 16, 8, 160, 0, 9, 42, 5, 182, 0, 50, 191, 42, 182, 0, 58, 87, 42, 4]
abbrev dktX3_tellPart_0 : List UInt8 := dkwX3_tellPart_0 ++ dktX3_tellPart_1
theorem dksX3_tellPart_0 : cX3_tellPart.data.toList.drop 0 = dktX3_tellPart_0 := by decide +kernel
theorem dksX3_tellPart_1 : cX3_tellPart.data.toList.drop 22 = dktX3_tellPart_1 := dk_seg dksX3_tellPart_0 22 rfl rfl
theorem dksX3_tellPart_2 : cX3_tellPart.data.toList.drop 46 = dktX3_tellPart_2 := dk_seg dksX3_tellPart_1 24 rfl rfl
theorem dksX3_tellPart_3 : cX3_tellPart.data.toList.drop 69 = dktX3_tellPart_3 := dk_seg dksX3_tellPart_2 23 rfl rfl
theorem dksX3_tellPart_4 : cX3_tellPart.data.toList.drop 91 = dktX3_tellPart_4 := dk_seg dksX3_tellPart_3 22 rfl rfl
theorem dX3_tellPart_0 : decode cX3_tellPart 0 = .ok (.aload_n 0, 1) := dk_42 (dk_at dksX3_tellPart_0 0 rfl rfl)
theorem dX3_tellPart_1 : decode cX3_tellPart 1 = .ok (.getfield 88, 3) := dk_180 0 88 (dk_at dksX3_tellPart_0 1 rfl rfl)
theorem dX3_tellPart_4 : decode cX3_tellPart 4 = .ok (.bipush 8, 2) := dk_16 8 (dk_at dksX3_tellPart_0 4 rfl rfl)
theorem dX3_tellPart_6 : decode cX3_tellPart 6 = .ok (.if_icmp .ne 9, 3) := dk_160 0 9 (dk_at dksX3_tellPart_0 6 rfl rfl)
theorem dX3_tellPart_9 : decode cX3_tellPart 9 = .ok (.aload_n 0, 1) := dk_42 (dk_at dksX3_tellPart_0 9 rfl rfl)
theorem dX3_tellPart_10 : decode cX3_tellPart 10 = .ok (.iconst 2, 1) := dk_5 (dk_at dksX3_tellPart_0 10 rfl rfl)
theorem dX3_tellPart_11 : decode cX3_tellPart 11 = .ok (.invokevirtual 50, 3) := dk_182 0 50 (dk_at dksX3_tellPart_0 11 rfl rfl)
theorem dX3_tellPart_14 : decode cX3_tellPart 14 = .ok (.athrow, 1) := dk_191 (dk_at dksX3_tellPart_0 14 rfl rfl)
theorem dX3_tellPart_15 : decode cX3_tellPart 15 = .ok (.aload_n 0, 1) := dk_42 (dk_at dksX3_tellPart_0 15 rfl rfl)
theorem dX3_tellPart_16 : decode cX3_tellPart 16 = .ok (.invokevirtual 58, 3) := dk_182 0 58 (dk_at dksX3_tellPart_0 16 rfl rfl)
theorem dX3_tellPart_19 : decode cX3_tellPart 19 = .ok (.pop, 1) := dk_87 (dk_at dksX3_tellPart_0 19 rfl rfl)
theorem dX3_tellPart_20 : decode cX3_tellPart 20 = .ok (.aload_n 0, 1) := dk_42 (dk_at dksX3_tellPart_0 20 rfl rfl)
theorem dX3_tellPart_21 : decode cX3_tellPart 21 = .ok (.iconst 1, 1) := dk_4 (dk_at dksX3_tellPart_0 21 rfl rfl)
theorem dX3_tellPart_22 : decode cX3_tellPart 22 = .ok (.invokevirtual 62, 3) := dk_182 0 62 (dk_at dksX3_tellPart_1 0 rfl rfl)
theorem dX3_tellPart_25 : decode cX3_tellPart 25 = .ok (.istore_n 1, 1) := dk_60 (dk_at dksX3_tellPart_1 3 rfl rfl)
theorem dX3_tellPart_26 : decode cX3_tellPart 26 = .ok (.aload_n 0, 1) := dk_42 (dk_at dksX3_tellPart_1 4 rfl rfl)
theorem dX3_tellPart_27 : decode cX3_tellPart 27 = .ok (.aload_n 0, 1) := dk_42 (dk_at dksX3_tellPart_1 5 rfl rfl)
theorem dX3_tellPart_28 : decode cX3_tellPart 28 = .ok (.getfield 21, 3) := dk_180 0 21 (dk_at dksX3_tellPart_1 6 rfl rfl)
theorem dX3_tellPart_31 : decode cX3_tellPart 31 = .ok (.getfield 66, 3) := dk_180 0 66 (dk_at dksX3_tellPart_1 9 rfl rfl)
theorem dX3_tellPart_34 : decode cX3_tellPart 34 = .ok (.iload_n 1, 1) := dk_27 (dk_at dksX3_tellPart_1 12 rfl rfl)
theorem dX3_tellPart_35 : decode cX3_tellPart 35 = .ok (.laload, 1) := dk_47 (dk_at dksX3_tellPart_1 13 rfl rfl)
theorem dX3_tellPart_36 : decode cX3_tellPart 36 = .ok (.invokevirtual 117, 3) := dk_182 0 117 (dk_at dksX3_tellPart_1 14 rfl rfl)
theorem dX3_tellPart_39 : decode cX3_tellPart 39 = .ok (.iconst (-1), 1) := dk_2 (dk_at dksX3_tellPart_1 17 rfl rfl)
theorem dX3_tellPart_40 : decode cX3_tellPart 40 = .ok (.if_icmp .eq 9, 3) := dk_159 0 9 (dk_at dksX3_tellPart_1 18 rfl rfl)
theorem dX3_tellPart_43 : decode cX3_tellPart 43 = .ok (.aload_n 0, 1) := dk_42 (dk_at dksX3_tellPart_1 21 rfl rfl)
theorem dX3_tellPart_44 : decode cX3_tellPart 44 = .ok (.iconst 3, 1) := dk_6 (dk_at dksX3_tellPart_1 22 rfl rfl)
theorem dX3_tellPart_45 : decode cX3_tellPart 45 = .ok (.iload_n 1, 1) := dk_27 (dk_at dksX3_tellPart_1 23 rfl rfl)
theorem dX3_tellPart_46 : decode cX3_tellPart 46 = .ok (.invokevirtual 73, 3) := dk_182 0 73 (dk_at dksX3_tellPart_2 0 rfl rfl)
theorem dX3_tellPart_49 : decode cX3_tellPart 49 = .ok (.aload_n 0, 1) := dk_42 (dk_at dksX3_tellPart_2 3 rfl rfl)
theorem dX3_tellPart_50 : decode cX3_tellPart 50 = .ok (.invokevirtual 121, 3) := dk_182 0 121 (dk_at dksX3_tellPart_2 4 rfl rfl)
theorem dX3_tellPart_53 : decode cX3_tellPart 53 = .ok (.astore_n 2, 1) := dk_77 (dk_at dksX3_tellPart_2 7 rfl rfl)
theorem dX3_tellPart_54 : decode cX3_tellPart 54 = .ok (.aload_n 2, 1) := dk_44 (dk_at dksX3_tellPart_2 8 rfl rfl)
theorem dX3_tellPart_55 : decode cX3_tellPart 55 = .ok (.invokevirtual 105, 3) := dk_182 0 105 (dk_at dksX3_tellPart_2 9 rfl rfl)
theorem dX3_tellPart_58 : decode cX3_tellPart 58 = .ok (.ifCond .eq 10, 3) := dk_153 0 10 (dk_at dksX3_tellPart_2 12 rfl rfl)
theorem dX3_tellPart_61 : decode cX3_tellPart 61 = .ok (.aload_n 0, 1) := dk_42 (dk_at dksX3_tellPart_2 15 rfl rfl)
theorem dX3_tellPart_62 : decode cX3_tellPart 62 = .ok (.bipush 6, 2) := dk_16 6 (dk_at dksX3_tellPart_2 16 rfl rfl)
theorem dX3_tellPart_64 : decode cX3_tellPart 64 = .ok (.iload_n 1, 1) := dk_27 (dk_at dksX3_tellPart_2 18 rfl rfl)
theorem dX3_tellPart_65 : decode cX3_tellPart 65 = .ok (.invokevirtual 73, 3) := dk_182 0 73 (dk_at dksX3_tellPart_2 19 rfl rfl)
theorem dX3_tellPart_68 : decode cX3_tellPart 68 = .ok (.aload_n 0, 1) := dk_42 (dk_at dksX3_tellPart_2 22 rfl rfl)
theorem dX3_tellPart_69 : decode cX3_tellPart 69 = .ok (.getfield 11, 3) := dk_180 0 11 (dk_at dksX3_tellPart_3 0 rfl rfl)
theorem dX3_tellPart_72 : decode cX3_tellPart 72 = .ok (.aload_n 0, 1) := dk_42 (dk_at dksX3_tellPart_3 3 rfl rfl)
theorem dX3_tellPart_73 : decode cX3_tellPart 73 = .ok (.getfield 88, 3) := dk_180 0 88 (dk_at dksX3_tellPart_3 4 rfl rfl)
theorem dX3_tellPart_76 : decode cX3_tellPart 76 = .ok (.aload_n 0, 1) := dk_42 (dk_at dksX3_tellPart_3 7 rfl rfl)
theorem dX3_tellPart_77 : decode cX3_tellPart 77 = .ok (.getfield 21, 3) := dk_180 0 21 (dk_at dksX3_tellPart_3 8 rfl rfl)
theorem dX3_tellPart_80 : decode cX3_tellPart 80 = .ok (.getfield 66, 3) := dk_180 0 66 (dk_at dksX3_tellPart_3 11 rfl rfl)
theorem dX3_tellPart_83 : decode cX3_tellPart 83 = .ok (.iload_n 1, 1) := dk_27 (dk_at dksX3_tellPart_3 14 rfl rfl)
theorem dX3_tellPart_84 : decode cX3_tellPart 84 = .ok (.laload, 1) := dk_47 (dk_at dksX3_tellPart_3 15 rfl rfl)
theorem dX3_tellPart_85 : decode cX3_tellPart 85 = .ok (.lastore, 1) := dk_80 (dk_at dksX3_tellPart_3 16 rfl rfl)
theorem dX3_tellPart_86 : decode cX3_tellPart 86 = .ok (.aload_n 0, 1) := dk_42 (dk_at dksX3_tellPart_3 17 rfl rfl)
theorem dX3_tellPart_87 : decode cX3_tellPart 87 = .ok (.getfield 17, 3) := dk_180 0 17 (dk_at dksX3_tellPart_3 18 rfl rfl)
theorem dX3_tellPart_90 : decode cX3_tellPart 90 = .ok (.aload_n 0, 1) := dk_42 (dk_at dksX3_tellPart_3 21 rfl rfl)
theorem dX3_tellPart_91 : decode cX3_tellPart 91 = .ok (.getfield 88, 3) := dk_180 0 88 (dk_at dksX3_tellPart_4 0 rfl rfl)
theorem dX3_tellPart_94 : decode cX3_tellPart 94 = .ok (.aload_n 2, 1) := dk_44 (dk_at dksX3_tellPart_4 3 rfl rfl)
theorem dX3_tellPart_95 : decode cX3_tellPart 95 = .ok (.aastore, 1) := dk_83 (dk_at dksX3_tellPart_4 4 rfl rfl)
theorem dX3_tellPart_96 : decode cX3_tellPart 96 = .ok (.aload_n 0, 1) := dk_42 (dk_at dksX3_tellPart_4 5 rfl rfl)
theorem dX3_tellPart_97 : decode cX3_tellPart 97 = .ok (.dup, 1) := dk_89 (dk_at dksX3_tellPart_4 6 rfl rfl)
theorem dX3_tellPart_98 : decode cX3_tellPart 98 = .ok (.getfield 88, 3) := dk_180 0 88 (dk_at dksX3_tellPart_4 7 rfl rfl)
theorem dX3_tellPart_101 : decode cX3_tellPart 101 = .ok (.iconst 1, 1) := dk_4 (dk_at dksX3_tellPart_4 10 rfl rfl)
theorem dX3_tellPart_102 : decode cX3_tellPart 102 = .ok (.iadd, 1) := dk_96 (dk_at dksX3_tellPart_4 11 rfl rfl)
theorem dX3_tellPart_103 : decode cX3_tellPart 103 = .ok (.putfield 88, 3) := dk_181 0 88 (dk_at dksX3_tellPart_4 12 rfl rfl)
theorem dX3_tellPart_106 : decode cX3_tellPart 106 = .ok (.return_, 1) := dk_177 (dk_at dksX3_tellPart_4 15 rfl rfl)
abbrev cX3_partOf : ByteArray := prog_8_method_11_code
def yX3_partOf : MethodName := ⟨RX3, "partOf", "(J)I"⟩
def dkwX3_partOf_1 : List UInt8 := [132, 3, 1, 167, 255, 232, 2, 172]
abbrev dktX3_partOf_1 : List UInt8 := dkwX3_partOf_1 ++ []
def dkwX3_partOf_0 : List UInt8 := [3, 62, 29, 42, 180, 0, 88, 162, 0, 22, 42, 180, 0, 11, 29, 47, 31, 148, 154, 0, 5, 29, 172]
abbrev dktX3_partOf_0 : List UInt8 := dkwX3_partOf_0 ++ dktX3_partOf_1
theorem dksX3_partOf_0 : cX3_partOf.data.toList.drop 0 = dktX3_partOf_0 := by decide +kernel
theorem dksX3_partOf_1 : cX3_partOf.data.toList.drop 23 = dktX3_partOf_1 := dk_seg dksX3_partOf_0 23 rfl rfl
theorem dX3_partOf_0 : decode cX3_partOf 0 = .ok (.iconst 0, 1) := dk_3 (dk_at dksX3_partOf_0 0 rfl rfl)
theorem dX3_partOf_1 : decode cX3_partOf 1 = .ok (.istore_n 3, 1) := dk_62 (dk_at dksX3_partOf_0 1 rfl rfl)
theorem dX3_partOf_2 : decode cX3_partOf 2 = .ok (.iload_n 3, 1) := dk_29 (dk_at dksX3_partOf_0 2 rfl rfl)
theorem dX3_partOf_3 : decode cX3_partOf 3 = .ok (.aload_n 0, 1) := dk_42 (dk_at dksX3_partOf_0 3 rfl rfl)
theorem dX3_partOf_4 : decode cX3_partOf 4 = .ok (.getfield 88, 3) := dk_180 0 88 (dk_at dksX3_partOf_0 4 rfl rfl)
theorem dX3_partOf_7 : decode cX3_partOf 7 = .ok (.if_icmp .ge 22, 3) := dk_162 0 22 (dk_at dksX3_partOf_0 7 rfl rfl)
theorem dX3_partOf_10 : decode cX3_partOf 10 = .ok (.aload_n 0, 1) := dk_42 (dk_at dksX3_partOf_0 10 rfl rfl)
theorem dX3_partOf_11 : decode cX3_partOf 11 = .ok (.getfield 11, 3) := dk_180 0 11 (dk_at dksX3_partOf_0 11 rfl rfl)
theorem dX3_partOf_14 : decode cX3_partOf 14 = .ok (.iload_n 3, 1) := dk_29 (dk_at dksX3_partOf_0 14 rfl rfl)
theorem dX3_partOf_15 : decode cX3_partOf 15 = .ok (.laload, 1) := dk_47 (dk_at dksX3_partOf_0 15 rfl rfl)
theorem dX3_partOf_16 : decode cX3_partOf 16 = .ok (.lload_n 1, 1) := dk_31 (dk_at dksX3_partOf_0 16 rfl rfl)
theorem dX3_partOf_17 : decode cX3_partOf 17 = .ok (.lcmp, 1) := dk_148 (dk_at dksX3_partOf_0 17 rfl rfl)
theorem dX3_partOf_18 : decode cX3_partOf 18 = .ok (.ifCond .ne 5, 3) := dk_154 0 5 (dk_at dksX3_partOf_0 18 rfl rfl)
theorem dX3_partOf_21 : decode cX3_partOf 21 = .ok (.iload_n 3, 1) := dk_29 (dk_at dksX3_partOf_0 21 rfl rfl)
theorem dX3_partOf_22 : decode cX3_partOf 22 = .ok (.ireturn, 1) := dk_172 (dk_at dksX3_partOf_0 22 rfl rfl)
theorem dX3_partOf_23 : decode cX3_partOf 23 = .ok (.iinc 3 1, 3) := dk_132 3 1 (dk_at dksX3_partOf_1 0 rfl rfl)
theorem dX3_partOf_26 : decode cX3_partOf 26 = .ok (.goto (-24), 3) := dk_167 255 232 (dk_at dksX3_partOf_1 3 rfl rfl)
theorem dX3_partOf_29 : decode cX3_partOf 29 = .ok (.iconst (-1), 1) := dk_2 (dk_at dksX3_partOf_1 6 rfl rfl)
theorem dX3_partOf_30 : decode cX3_partOf 30 = .ok (.ireturn, 1) := dk_172 (dk_at dksX3_partOf_1 7 rfl rfl)
abbrev cX3_body : ByteArray := prog_8_method_10_code
def yX3_body : MethodName := ⟨RX3, "body", "()LLadderLots$Steps;"⟩
def dkwX3_body_1 : List UInt8 := [182, 0, 101, 167, 255, 242, 42, 182, 0, 58, 87, 42, 89, 180, 0, 85, 4, 100, 181, 0, 85, 43, 176]
abbrev dktX3_body_1 : List UInt8 := dkwX3_body_1 ++ []
def dkwX3_body_0 : List UInt8 := [42, 182, 0, 114, 187, 0, 15, 89, 183, 0, 97, 76, 42, 16, 6, 182, 0, 54, 154, 0, 11, 42, 43]
abbrev dktX3_body_0 : List UInt8 := dkwX3_body_0 ++ dktX3_body_1
theorem dksX3_body_0 : cX3_body.data.toList.drop 0 = dktX3_body_0 := by decide +kernel
theorem dksX3_body_1 : cX3_body.data.toList.drop 23 = dktX3_body_1 := dk_seg dksX3_body_0 23 rfl rfl
theorem dX3_body_0 : decode cX3_body 0 = .ok (.aload_n 0, 1) := dk_42 (dk_at dksX3_body_0 0 rfl rfl)
theorem dX3_body_1 : decode cX3_body 1 = .ok (.invokevirtual 114, 3) := dk_182 0 114 (dk_at dksX3_body_0 1 rfl rfl)
theorem dX3_body_4 : decode cX3_body 4 = .ok (.new 15, 3) := dk_187 0 15 (dk_at dksX3_body_0 4 rfl rfl)
theorem dX3_body_7 : decode cX3_body 7 = .ok (.dup, 1) := dk_89 (dk_at dksX3_body_0 7 rfl rfl)
theorem dX3_body_8 : decode cX3_body 8 = .ok (.invokespecial 97, 3) := dk_183 0 97 (dk_at dksX3_body_0 8 rfl rfl)
theorem dX3_body_11 : decode cX3_body 11 = .ok (.astore_n 1, 1) := dk_76 (dk_at dksX3_body_0 11 rfl rfl)
theorem dX3_body_12 : decode cX3_body 12 = .ok (.aload_n 0, 1) := dk_42 (dk_at dksX3_body_0 12 rfl rfl)
theorem dX3_body_13 : decode cX3_body 13 = .ok (.bipush 6, 2) := dk_16 6 (dk_at dksX3_body_0 13 rfl rfl)
theorem dX3_body_15 : decode cX3_body 15 = .ok (.invokevirtual 54, 3) := dk_182 0 54 (dk_at dksX3_body_0 15 rfl rfl)
theorem dX3_body_18 : decode cX3_body 18 = .ok (.ifCond .ne 11, 3) := dk_154 0 11 (dk_at dksX3_body_0 18 rfl rfl)
theorem dX3_body_21 : decode cX3_body 21 = .ok (.aload_n 0, 1) := dk_42 (dk_at dksX3_body_0 21 rfl rfl)
theorem dX3_body_22 : decode cX3_body 22 = .ok (.aload_n 1, 1) := dk_43 (dk_at dksX3_body_0 22 rfl rfl)
theorem dX3_body_23 : decode cX3_body 23 = .ok (.invokevirtual 101, 3) := dk_182 0 101 (dk_at dksX3_body_1 0 rfl rfl)
theorem dX3_body_26 : decode cX3_body 26 = .ok (.goto (-14), 3) := dk_167 255 242 (dk_at dksX3_body_1 3 rfl rfl)
theorem dX3_body_29 : decode cX3_body 29 = .ok (.aload_n 0, 1) := dk_42 (dk_at dksX3_body_1 6 rfl rfl)
theorem dX3_body_30 : decode cX3_body 30 = .ok (.invokevirtual 58, 3) := dk_182 0 58 (dk_at dksX3_body_1 7 rfl rfl)
theorem dX3_body_33 : decode cX3_body 33 = .ok (.pop, 1) := dk_87 (dk_at dksX3_body_1 10 rfl rfl)
theorem dX3_body_34 : decode cX3_body 34 = .ok (.aload_n 0, 1) := dk_42 (dk_at dksX3_body_1 11 rfl rfl)
theorem dX3_body_35 : decode cX3_body 35 = .ok (.dup, 1) := dk_89 (dk_at dksX3_body_1 12 rfl rfl)
theorem dX3_body_36 : decode cX3_body 36 = .ok (.getfield 85, 3) := dk_180 0 85 (dk_at dksX3_body_1 13 rfl rfl)
theorem dX3_body_39 : decode cX3_body 39 = .ok (.iconst 1, 1) := dk_4 (dk_at dksX3_body_1 16 rfl rfl)
theorem dX3_body_40 : decode cX3_body 40 = .ok (.isub, 1) := dk_100 (dk_at dksX3_body_1 17 rfl rfl)
theorem dX3_body_41 : decode cX3_body 41 = .ok (.putfield 85, 3) := dk_181 0 85 (dk_at dksX3_body_1 18 rfl rfl)
theorem dX3_body_44 : decode cX3_body 44 = .ok (.aload_n 1, 1) := dk_43 (dk_at dksX3_body_1 21 rfl rfl)
theorem dX3_body_45 : decode cX3_body 45 = .ok (.areturn, 1) := dk_176 (dk_at dksX3_body_1 22 rfl rfl)
abbrev cX3_opens : ByteArray := prog_8_method_9_code
def yX3_opens : MethodName := ⟨RX3, "opens", "()V"⟩
def dkwX3_opens_1 : List UInt8 := [182, 0, 50, 191, 42, 89, 180, 0, 85, 4, 96, 181, 0, 85, 42, 182, 0, 58, 87, 177]
abbrev dktX3_opens_1 : List UInt8 := dkwX3_opens_1 ++ []
def dkwX3_opens_0 : List UInt8 := [42, 8, 182, 0, 54, 154, 0, 9, 42, 4, 182, 0, 50, 191, 42, 180, 0, 85, 7, 160, 0, 9, 42, 5]
abbrev dktX3_opens_0 : List UInt8 := dkwX3_opens_0 ++ dktX3_opens_1
theorem dksX3_opens_0 : cX3_opens.data.toList.drop 0 = dktX3_opens_0 := by decide +kernel
theorem dksX3_opens_1 : cX3_opens.data.toList.drop 24 = dktX3_opens_1 := dk_seg dksX3_opens_0 24 rfl rfl
theorem dX3_opens_0 : decode cX3_opens 0 = .ok (.aload_n 0, 1) := dk_42 (dk_at dksX3_opens_0 0 rfl rfl)
theorem dX3_opens_1 : decode cX3_opens 1 = .ok (.iconst 5, 1) := dk_8 (dk_at dksX3_opens_0 1 rfl rfl)
theorem dX3_opens_2 : decode cX3_opens 2 = .ok (.invokevirtual 54, 3) := dk_182 0 54 (dk_at dksX3_opens_0 2 rfl rfl)
theorem dX3_opens_5 : decode cX3_opens 5 = .ok (.ifCond .ne 9, 3) := dk_154 0 9 (dk_at dksX3_opens_0 5 rfl rfl)
theorem dX3_opens_8 : decode cX3_opens 8 = .ok (.aload_n 0, 1) := dk_42 (dk_at dksX3_opens_0 8 rfl rfl)
theorem dX3_opens_9 : decode cX3_opens 9 = .ok (.iconst 1, 1) := dk_4 (dk_at dksX3_opens_0 9 rfl rfl)
theorem dX3_opens_10 : decode cX3_opens 10 = .ok (.invokevirtual 50, 3) := dk_182 0 50 (dk_at dksX3_opens_0 10 rfl rfl)
theorem dX3_opens_13 : decode cX3_opens 13 = .ok (.athrow, 1) := dk_191 (dk_at dksX3_opens_0 13 rfl rfl)
theorem dX3_opens_14 : decode cX3_opens 14 = .ok (.aload_n 0, 1) := dk_42 (dk_at dksX3_opens_0 14 rfl rfl)
theorem dX3_opens_15 : decode cX3_opens 15 = .ok (.getfield 85, 3) := dk_180 0 85 (dk_at dksX3_opens_0 15 rfl rfl)
theorem dX3_opens_18 : decode cX3_opens 18 = .ok (.iconst 4, 1) := dk_7 (dk_at dksX3_opens_0 18 rfl rfl)
theorem dX3_opens_19 : decode cX3_opens 19 = .ok (.if_icmp .ne 9, 3) := dk_160 0 9 (dk_at dksX3_opens_0 19 rfl rfl)
theorem dX3_opens_22 : decode cX3_opens 22 = .ok (.aload_n 0, 1) := dk_42 (dk_at dksX3_opens_0 22 rfl rfl)
theorem dX3_opens_23 : decode cX3_opens 23 = .ok (.iconst 2, 1) := dk_5 (dk_at dksX3_opens_0 23 rfl rfl)
theorem dX3_opens_24 : decode cX3_opens 24 = .ok (.invokevirtual 50, 3) := dk_182 0 50 (dk_at dksX3_opens_1 0 rfl rfl)
theorem dX3_opens_27 : decode cX3_opens 27 = .ok (.athrow, 1) := dk_191 (dk_at dksX3_opens_1 3 rfl rfl)
theorem dX3_opens_28 : decode cX3_opens 28 = .ok (.aload_n 0, 1) := dk_42 (dk_at dksX3_opens_1 4 rfl rfl)
theorem dX3_opens_29 : decode cX3_opens 29 = .ok (.dup, 1) := dk_89 (dk_at dksX3_opens_1 5 rfl rfl)
theorem dX3_opens_30 : decode cX3_opens 30 = .ok (.getfield 85, 3) := dk_180 0 85 (dk_at dksX3_opens_1 6 rfl rfl)
theorem dX3_opens_33 : decode cX3_opens 33 = .ok (.iconst 1, 1) := dk_4 (dk_at dksX3_opens_1 9 rfl rfl)
theorem dX3_opens_34 : decode cX3_opens 34 = .ok (.iadd, 1) := dk_96 (dk_at dksX3_opens_1 10 rfl rfl)
theorem dX3_opens_35 : decode cX3_opens 35 = .ok (.putfield 85, 3) := dk_181 0 85 (dk_at dksX3_opens_1 11 rfl rfl)
theorem dX3_opens_38 : decode cX3_opens 38 = .ok (.aload_n 0, 1) := dk_42 (dk_at dksX3_opens_1 14 rfl rfl)
theorem dX3_opens_39 : decode cX3_opens 39 = .ok (.invokevirtual 58, 3) := dk_182 0 58 (dk_at dksX3_opens_1 15 rfl rfl)
theorem dX3_opens_42 : decode cX3_opens 42 = .ok (.pop, 1) := dk_87 (dk_at dksX3_opens_1 18 rfl rfl)
theorem dX3_opens_43 : decode cX3_opens 43 = .ok (.return_, 1) := dk_177 (dk_at dksX3_opens_1 19 rfl rfl)
abbrev cX3_tell : ByteArray := prog_8_method_13_code
def yX3_tell : MethodName := ⟨RX3, "tell", "(LLadderLots$Steps;)V"⟩
def dkwX3_tell_8 : List UInt8 := [180, 0, 66, 28, 47, 136, 182, 0, 146, 177, 42, 4, 182, 0, 50, 191, 42, 7, 182, 0, 62, 87, 177]
abbrev dktX3_tell_8 : List UInt8 := dkwX3_tell_8 ++ []
def dkwX3_tell_7 : List UInt8 := [87, 42, 180, 0, 31, 61, 42, 3, 16, 20, 182, 0, 91, 87, 43, 42, 182, 0, 121, 42, 180, 0, 21]
abbrev dktX3_tell_7 : List UInt8 := dkwX3_tell_7 ++ dktX3_tell_8
def dkwX3_tell_6 : List UInt8 := [43, 182, 0, 140, 167, 0, 59, 42, 182, 0, 58, 87, 42, 43, 182, 0, 143, 167, 0, 46, 42, 182, 0, 58]
abbrev dktX3_tell_6 : List UInt8 := dkwX3_tell_6 ++ dktX3_tell_7
def dkwX3_tell_5 : List UInt8 := [42, 180, 0, 94, 5, 100, 182, 0, 91, 183, 0, 139, 182, 0, 130, 167, 0, 72, 42, 182, 0, 58, 87, 42]
abbrev dktX3_tell_5 : List UInt8 := dkwX3_tell_5 ++ dktX3_tell_6
def dkwX3_tell_4 : List UInt8 := [182, 0, 91, 183, 0, 136, 182, 0, 130, 167, 0, 102, 42, 182, 0, 58, 87, 43, 187, 0, 137, 89, 42, 3]
abbrev dktX3_tell_4 : List UInt8 := dkwX3_tell_4 ++ dktX3_tell_5
def dkwX3_tell_3 : List UInt8 := [182, 0, 130, 167, 0, 132, 42, 182, 0, 58, 87, 43, 187, 0, 134, 89, 42, 3, 42, 180, 0, 94, 5, 100]
abbrev dktX3_tell_3 : List UInt8 := dkwX3_tell_3 ++ dktX3_tell_4
def dkwX3_tell_2 : List UInt8 := [42, 182, 0, 58, 87, 43, 187, 0, 125, 89, 42, 3, 42, 180, 0, 94, 5, 100, 182, 0, 91, 183, 0, 127]
abbrev dktX3_tell_2 : List UInt8 := dkwX3_tell_2 ++ dktX3_tell_3
def dkwX3_tell_1 : List UInt8 := [170, 0, 0, 0, 0, 0, 0, 201, 0, 0, 0, 12, 0, 0, 0, 19, 0, 0, 0, 48, 0, 0, 0, 78, 0, 0, 0, 108, 0, 0, 0, 138, 0, 0, 0, 151, 0, 0, 0, 201, 0, 0, 0, 201, 0, 0, 0, 164]
abbrev dktX3_tell_1 : List UInt8 := dkwX3_tell_1 ++ dktX3_tell_2
def dkwX3_tell_0 : List UInt8 := [42, 180, 0, 21, 180, 0, 25, 42, 180, 0, 31, 51]
abbrev dktX3_tell_0 : List UInt8 := dkwX3_tell_0 ++ dktX3_tell_1
theorem dksX3_tell_0 : cX3_tell.data.toList.drop 0 = dktX3_tell_0 := by decide +kernel
theorem dksX3_tell_1 : cX3_tell.data.toList.drop 12 = dktX3_tell_1 := dk_seg dksX3_tell_0 12 rfl rfl
theorem dksX3_tell_2 : cX3_tell.data.toList.drop 60 = dktX3_tell_2 := dk_seg dksX3_tell_1 48 rfl rfl
theorem dksX3_tell_3 : cX3_tell.data.toList.drop 84 = dktX3_tell_3 := dk_seg dksX3_tell_2 24 rfl rfl
theorem dksX3_tell_4 : cX3_tell.data.toList.drop 108 = dktX3_tell_4 := dk_seg dksX3_tell_3 24 rfl rfl
theorem dksX3_tell_5 : cX3_tell.data.toList.drop 132 = dktX3_tell_5 := dk_seg dksX3_tell_4 24 rfl rfl
theorem dksX3_tell_6 : cX3_tell.data.toList.drop 156 = dktX3_tell_6 := dk_seg dksX3_tell_5 24 rfl rfl
theorem dksX3_tell_7 : cX3_tell.data.toList.drop 180 = dktX3_tell_7 := dk_seg dksX3_tell_6 24 rfl rfl
theorem dksX3_tell_8 : cX3_tell.data.toList.drop 203 = dktX3_tell_8 := dk_seg dksX3_tell_7 23 rfl rfl
theorem dX3_tell_0 : decode cX3_tell 0 = .ok (.aload_n 0, 1) := dk_42 (dk_at dksX3_tell_0 0 rfl rfl)
theorem dX3_tell_1 : decode cX3_tell 1 = .ok (.getfield 21, 3) := dk_180 0 21 (dk_at dksX3_tell_0 1 rfl rfl)
theorem dX3_tell_4 : decode cX3_tell 4 = .ok (.getfield 25, 3) := dk_180 0 25 (dk_at dksX3_tell_0 4 rfl rfl)
theorem dX3_tell_7 : decode cX3_tell 7 = .ok (.aload_n 0, 1) := dk_42 (dk_at dksX3_tell_0 7 rfl rfl)
theorem dX3_tell_8 : decode cX3_tell 8 = .ok (.getfield 31, 3) := dk_180 0 31 (dk_at dksX3_tell_0 8 rfl rfl)
theorem dX3_tell_11 : decode cX3_tell 11 = .ok (.baload, 1) := dk_51 (dk_at dksX3_tell_0 11 rfl rfl)
theorem dX3_tell_12 : decode cX3_tell 12 = .ok (.tableswitch 201 12 19 #[48, 78, 108, 138, 151, 201, 201, 164], 48) := by decide +kernel
theorem dX3_tell_60 : decode cX3_tell 60 = .ok (.aload_n 0, 1) := dk_42 (dk_at dksX3_tell_2 0 rfl rfl)
theorem dX3_tell_61 : decode cX3_tell 61 = .ok (.invokevirtual 58, 3) := dk_182 0 58 (dk_at dksX3_tell_2 1 rfl rfl)
theorem dX3_tell_64 : decode cX3_tell 64 = .ok (.pop, 1) := dk_87 (dk_at dksX3_tell_2 4 rfl rfl)
theorem dX3_tell_65 : decode cX3_tell 65 = .ok (.aload_n 1, 1) := dk_43 (dk_at dksX3_tell_2 5 rfl rfl)
theorem dX3_tell_66 : decode cX3_tell 66 = .ok (.new 125, 3) := dk_187 0 125 (dk_at dksX3_tell_2 6 rfl rfl)
theorem dX3_tell_69 : decode cX3_tell 69 = .ok (.dup, 1) := dk_89 (dk_at dksX3_tell_2 9 rfl rfl)
theorem dX3_tell_70 : decode cX3_tell 70 = .ok (.aload_n 0, 1) := dk_42 (dk_at dksX3_tell_2 10 rfl rfl)
theorem dX3_tell_71 : decode cX3_tell 71 = .ok (.iconst 0, 1) := dk_3 (dk_at dksX3_tell_2 11 rfl rfl)
theorem dX3_tell_72 : decode cX3_tell 72 = .ok (.aload_n 0, 1) := dk_42 (dk_at dksX3_tell_2 12 rfl rfl)
theorem dX3_tell_73 : decode cX3_tell 73 = .ok (.getfield 94, 3) := dk_180 0 94 (dk_at dksX3_tell_2 13 rfl rfl)
theorem dX3_tell_76 : decode cX3_tell 76 = .ok (.iconst 2, 1) := dk_5 (dk_at dksX3_tell_2 16 rfl rfl)
theorem dX3_tell_77 : decode cX3_tell 77 = .ok (.isub, 1) := dk_100 (dk_at dksX3_tell_2 17 rfl rfl)
theorem dX3_tell_78 : decode cX3_tell 78 = .ok (.invokevirtual 91, 3) := dk_182 0 91 (dk_at dksX3_tell_2 18 rfl rfl)
theorem dX3_tell_81 : decode cX3_tell 81 = .ok (.invokespecial 127, 3) := dk_183 0 127 (dk_at dksX3_tell_2 21 rfl rfl)
theorem dX3_tell_84 : decode cX3_tell 84 = .ok (.invokevirtual 130, 3) := dk_182 0 130 (dk_at dksX3_tell_3 0 rfl rfl)
theorem dX3_tell_87 : decode cX3_tell 87 = .ok (.goto 132, 3) := dk_167 0 132 (dk_at dksX3_tell_3 3 rfl rfl)
theorem dX3_tell_90 : decode cX3_tell 90 = .ok (.aload_n 0, 1) := dk_42 (dk_at dksX3_tell_3 6 rfl rfl)
theorem dX3_tell_91 : decode cX3_tell 91 = .ok (.invokevirtual 58, 3) := dk_182 0 58 (dk_at dksX3_tell_3 7 rfl rfl)
theorem dX3_tell_94 : decode cX3_tell 94 = .ok (.pop, 1) := dk_87 (dk_at dksX3_tell_3 10 rfl rfl)
theorem dX3_tell_95 : decode cX3_tell 95 = .ok (.aload_n 1, 1) := dk_43 (dk_at dksX3_tell_3 11 rfl rfl)
theorem dX3_tell_96 : decode cX3_tell 96 = .ok (.new 134, 3) := dk_187 0 134 (dk_at dksX3_tell_3 12 rfl rfl)
theorem dX3_tell_99 : decode cX3_tell 99 = .ok (.dup, 1) := dk_89 (dk_at dksX3_tell_3 15 rfl rfl)
theorem dX3_tell_100 : decode cX3_tell 100 = .ok (.aload_n 0, 1) := dk_42 (dk_at dksX3_tell_3 16 rfl rfl)
theorem dX3_tell_101 : decode cX3_tell 101 = .ok (.iconst 0, 1) := dk_3 (dk_at dksX3_tell_3 17 rfl rfl)
theorem dX3_tell_102 : decode cX3_tell 102 = .ok (.aload_n 0, 1) := dk_42 (dk_at dksX3_tell_3 18 rfl rfl)
theorem dX3_tell_103 : decode cX3_tell 103 = .ok (.getfield 94, 3) := dk_180 0 94 (dk_at dksX3_tell_3 19 rfl rfl)
theorem dX3_tell_106 : decode cX3_tell 106 = .ok (.iconst 2, 1) := dk_5 (dk_at dksX3_tell_3 22 rfl rfl)
theorem dX3_tell_107 : decode cX3_tell 107 = .ok (.isub, 1) := dk_100 (dk_at dksX3_tell_3 23 rfl rfl)
theorem dX3_tell_108 : decode cX3_tell 108 = .ok (.invokevirtual 91, 3) := dk_182 0 91 (dk_at dksX3_tell_4 0 rfl rfl)
theorem dX3_tell_111 : decode cX3_tell 111 = .ok (.invokespecial 136, 3) := dk_183 0 136 (dk_at dksX3_tell_4 3 rfl rfl)
theorem dX3_tell_114 : decode cX3_tell 114 = .ok (.invokevirtual 130, 3) := dk_182 0 130 (dk_at dksX3_tell_4 6 rfl rfl)
theorem dX3_tell_117 : decode cX3_tell 117 = .ok (.goto 102, 3) := dk_167 0 102 (dk_at dksX3_tell_4 9 rfl rfl)
theorem dX3_tell_120 : decode cX3_tell 120 = .ok (.aload_n 0, 1) := dk_42 (dk_at dksX3_tell_4 12 rfl rfl)
theorem dX3_tell_121 : decode cX3_tell 121 = .ok (.invokevirtual 58, 3) := dk_182 0 58 (dk_at dksX3_tell_4 13 rfl rfl)
theorem dX3_tell_124 : decode cX3_tell 124 = .ok (.pop, 1) := dk_87 (dk_at dksX3_tell_4 16 rfl rfl)
theorem dX3_tell_125 : decode cX3_tell 125 = .ok (.aload_n 1, 1) := dk_43 (dk_at dksX3_tell_4 17 rfl rfl)
theorem dX3_tell_126 : decode cX3_tell 126 = .ok (.new 137, 3) := dk_187 0 137 (dk_at dksX3_tell_4 18 rfl rfl)
theorem dX3_tell_129 : decode cX3_tell 129 = .ok (.dup, 1) := dk_89 (dk_at dksX3_tell_4 21 rfl rfl)
theorem dX3_tell_130 : decode cX3_tell 130 = .ok (.aload_n 0, 1) := dk_42 (dk_at dksX3_tell_4 22 rfl rfl)
theorem dX3_tell_131 : decode cX3_tell 131 = .ok (.iconst 0, 1) := dk_3 (dk_at dksX3_tell_4 23 rfl rfl)
theorem dX3_tell_132 : decode cX3_tell 132 = .ok (.aload_n 0, 1) := dk_42 (dk_at dksX3_tell_5 0 rfl rfl)
theorem dX3_tell_133 : decode cX3_tell 133 = .ok (.getfield 94, 3) := dk_180 0 94 (dk_at dksX3_tell_5 1 rfl rfl)
theorem dX3_tell_136 : decode cX3_tell 136 = .ok (.iconst 2, 1) := dk_5 (dk_at dksX3_tell_5 4 rfl rfl)
theorem dX3_tell_137 : decode cX3_tell 137 = .ok (.isub, 1) := dk_100 (dk_at dksX3_tell_5 5 rfl rfl)
theorem dX3_tell_138 : decode cX3_tell 138 = .ok (.invokevirtual 91, 3) := dk_182 0 91 (dk_at dksX3_tell_5 6 rfl rfl)
theorem dX3_tell_141 : decode cX3_tell 141 = .ok (.invokespecial 139, 3) := dk_183 0 139 (dk_at dksX3_tell_5 9 rfl rfl)
theorem dX3_tell_144 : decode cX3_tell 144 = .ok (.invokevirtual 130, 3) := dk_182 0 130 (dk_at dksX3_tell_5 12 rfl rfl)
theorem dX3_tell_147 : decode cX3_tell 147 = .ok (.goto 72, 3) := dk_167 0 72 (dk_at dksX3_tell_5 15 rfl rfl)
theorem dX3_tell_150 : decode cX3_tell 150 = .ok (.aload_n 0, 1) := dk_42 (dk_at dksX3_tell_5 18 rfl rfl)
theorem dX3_tell_151 : decode cX3_tell 151 = .ok (.invokevirtual 58, 3) := dk_182 0 58 (dk_at dksX3_tell_5 19 rfl rfl)
theorem dX3_tell_154 : decode cX3_tell 154 = .ok (.pop, 1) := dk_87 (dk_at dksX3_tell_5 22 rfl rfl)
theorem dX3_tell_155 : decode cX3_tell 155 = .ok (.aload_n 0, 1) := dk_42 (dk_at dksX3_tell_5 23 rfl rfl)
theorem dX3_tell_156 : decode cX3_tell 156 = .ok (.aload_n 1, 1) := dk_43 (dk_at dksX3_tell_6 0 rfl rfl)
theorem dX3_tell_157 : decode cX3_tell 157 = .ok (.invokevirtual 140, 3) := dk_182 0 140 (dk_at dksX3_tell_6 1 rfl rfl)
theorem dX3_tell_160 : decode cX3_tell 160 = .ok (.goto 59, 3) := dk_167 0 59 (dk_at dksX3_tell_6 4 rfl rfl)
theorem dX3_tell_163 : decode cX3_tell 163 = .ok (.aload_n 0, 1) := dk_42 (dk_at dksX3_tell_6 7 rfl rfl)
theorem dX3_tell_164 : decode cX3_tell 164 = .ok (.invokevirtual 58, 3) := dk_182 0 58 (dk_at dksX3_tell_6 8 rfl rfl)
theorem dX3_tell_167 : decode cX3_tell 167 = .ok (.pop, 1) := dk_87 (dk_at dksX3_tell_6 11 rfl rfl)
theorem dX3_tell_168 : decode cX3_tell 168 = .ok (.aload_n 0, 1) := dk_42 (dk_at dksX3_tell_6 12 rfl rfl)
theorem dX3_tell_169 : decode cX3_tell 169 = .ok (.aload_n 1, 1) := dk_43 (dk_at dksX3_tell_6 13 rfl rfl)
theorem dX3_tell_170 : decode cX3_tell 170 = .ok (.invokevirtual 143, 3) := dk_182 0 143 (dk_at dksX3_tell_6 14 rfl rfl)
theorem dX3_tell_173 : decode cX3_tell 173 = .ok (.goto 46, 3) := dk_167 0 46 (dk_at dksX3_tell_6 17 rfl rfl)
theorem dX3_tell_176 : decode cX3_tell 176 = .ok (.aload_n 0, 1) := dk_42 (dk_at dksX3_tell_6 20 rfl rfl)
theorem dX3_tell_177 : decode cX3_tell 177 = .ok (.invokevirtual 58, 3) := dk_182 0 58 (dk_at dksX3_tell_6 21 rfl rfl)
theorem dX3_tell_180 : decode cX3_tell 180 = .ok (.pop, 1) := dk_87 (dk_at dksX3_tell_7 0 rfl rfl)
theorem dX3_tell_181 : decode cX3_tell 181 = .ok (.aload_n 0, 1) := dk_42 (dk_at dksX3_tell_7 1 rfl rfl)
theorem dX3_tell_182 : decode cX3_tell 182 = .ok (.getfield 31, 3) := dk_180 0 31 (dk_at dksX3_tell_7 2 rfl rfl)
theorem dX3_tell_185 : decode cX3_tell 185 = .ok (.istore_n 2, 1) := dk_61 (dk_at dksX3_tell_7 5 rfl rfl)
theorem dX3_tell_186 : decode cX3_tell 186 = .ok (.aload_n 0, 1) := dk_42 (dk_at dksX3_tell_7 6 rfl rfl)
theorem dX3_tell_187 : decode cX3_tell 187 = .ok (.iconst 0, 1) := dk_3 (dk_at dksX3_tell_7 7 rfl rfl)
theorem dX3_tell_188 : decode cX3_tell 188 = .ok (.bipush 20, 2) := dk_16 20 (dk_at dksX3_tell_7 8 rfl rfl)
theorem dX3_tell_190 : decode cX3_tell 190 = .ok (.invokevirtual 91, 3) := dk_182 0 91 (dk_at dksX3_tell_7 10 rfl rfl)
theorem dX3_tell_193 : decode cX3_tell 193 = .ok (.pop, 1) := dk_87 (dk_at dksX3_tell_7 13 rfl rfl)
theorem dX3_tell_194 : decode cX3_tell 194 = .ok (.aload_n 1, 1) := dk_43 (dk_at dksX3_tell_7 14 rfl rfl)
theorem dX3_tell_195 : decode cX3_tell 195 = .ok (.aload_n 0, 1) := dk_42 (dk_at dksX3_tell_7 15 rfl rfl)
theorem dX3_tell_196 : decode cX3_tell 196 = .ok (.invokevirtual 121, 3) := dk_182 0 121 (dk_at dksX3_tell_7 16 rfl rfl)
theorem dX3_tell_199 : decode cX3_tell 199 = .ok (.aload_n 0, 1) := dk_42 (dk_at dksX3_tell_7 19 rfl rfl)
theorem dX3_tell_200 : decode cX3_tell 200 = .ok (.getfield 21, 3) := dk_180 0 21 (dk_at dksX3_tell_7 20 rfl rfl)
theorem dX3_tell_203 : decode cX3_tell 203 = .ok (.getfield 66, 3) := dk_180 0 66 (dk_at dksX3_tell_8 0 rfl rfl)
theorem dX3_tell_206 : decode cX3_tell 206 = .ok (.iload_n 2, 1) := dk_28 (dk_at dksX3_tell_8 3 rfl rfl)
theorem dX3_tell_207 : decode cX3_tell 207 = .ok (.laload, 1) := dk_47 (dk_at dksX3_tell_8 4 rfl rfl)
theorem dX3_tell_208 : decode cX3_tell 208 = .ok (.l2i, 1) := dk_136 (dk_at dksX3_tell_8 5 rfl rfl)
theorem dX3_tell_209 : decode cX3_tell 209 = .ok (.invokevirtual 146, 3) := dk_182 0 146 (dk_at dksX3_tell_8 6 rfl rfl)
theorem dX3_tell_212 : decode cX3_tell 212 = .ok (.return_, 1) := dk_177 (dk_at dksX3_tell_8 9 rfl rfl)
theorem dX3_tell_213 : decode cX3_tell 213 = .ok (.aload_n 0, 1) := dk_42 (dk_at dksX3_tell_8 10 rfl rfl)
theorem dX3_tell_214 : decode cX3_tell 214 = .ok (.iconst 1, 1) := dk_4 (dk_at dksX3_tell_8 11 rfl rfl)
theorem dX3_tell_215 : decode cX3_tell 215 = .ok (.invokevirtual 50, 3) := dk_182 0 50 (dk_at dksX3_tell_8 12 rfl rfl)
theorem dX3_tell_218 : decode cX3_tell 218 = .ok (.athrow, 1) := dk_191 (dk_at dksX3_tell_8 15 rfl rfl)
theorem dX3_tell_219 : decode cX3_tell 219 = .ok (.aload_n 0, 1) := dk_42 (dk_at dksX3_tell_8 16 rfl rfl)
theorem dX3_tell_220 : decode cX3_tell 220 = .ok (.iconst 4, 1) := dk_7 (dk_at dksX3_tell_8 17 rfl rfl)
theorem dX3_tell_221 : decode cX3_tell 221 = .ok (.invokevirtual 62, 3) := dk_182 0 62 (dk_at dksX3_tell_8 18 rfl rfl)
theorem dX3_tell_224 : decode cX3_tell 224 = .ok (.pop, 1) := dk_87 (dk_at dksX3_tell_8 21 rfl rfl)
theorem dX3_tell_225 : decode cX3_tell 225 = .ok (.return_, 1) := dk_177 (dk_at dksX3_tell_8 22 rfl rfl)
abbrev cX3_tellMaybe : ByteArray := prog_8_method_14_code
def yX3_tellMaybe : MethodName := ⟨RX3, "tellMaybe", "(LLadderLots$Steps;)V"⟩
def dkwX3_tellMaybe_4 : List UInt8 := [182, 0, 130, 177]
abbrev dktX3_tellMaybe_4 : List UInt8 := dkwX3_tellMaybe_4 ++ []
def dkwX3_tellMaybe_3 : List UInt8 := [154, 0, 10, 42, 8, 21, 4, 182, 0, 73, 43, 187, 0, 150, 89, 28, 21, 5, 21, 6, 183, 0, 152]
abbrev dktX3_tellMaybe_3 : List UInt8 := dkwX3_tellMaybe_3 ++ dktX3_tellMaybe_4
def dkwX3_tellMaybe_2 : List UInt8 := [136, 54, 6, 21, 5, 21, 6, 164, 0, 9, 42, 8, 29, 182, 0, 73, 21, 6, 4, 7, 184, 0, 69]
abbrev dktX3_tellMaybe_2 : List UInt8 := dkwX3_tellMaybe_2 ++ dktX3_tellMaybe_3
def dkwX3_tellMaybe_1 : List UInt8 := [54, 4, 42, 180, 0, 21, 180, 0, 66, 29, 47, 136, 54, 5, 42, 180, 0, 21, 180, 0, 66, 21, 4, 47]
abbrev dktX3_tellMaybe_1 : List UInt8 := dkwX3_tellMaybe_1 ++ dktX3_tellMaybe_2
def dkwX3_tellMaybe_0 : List UInt8 := [42, 3, 42, 180, 0, 94, 5, 100, 182, 0, 91, 61, 42, 5, 182, 0, 62, 62, 42, 5, 182, 0, 62]
abbrev dktX3_tellMaybe_0 : List UInt8 := dkwX3_tellMaybe_0 ++ dktX3_tellMaybe_1
theorem dksX3_tellMaybe_0 : cX3_tellMaybe.data.toList.drop 0 = dktX3_tellMaybe_0 := by decide +kernel
theorem dksX3_tellMaybe_1 : cX3_tellMaybe.data.toList.drop 23 = dktX3_tellMaybe_1 := dk_seg dksX3_tellMaybe_0 23 rfl rfl
theorem dksX3_tellMaybe_2 : cX3_tellMaybe.data.toList.drop 47 = dktX3_tellMaybe_2 := dk_seg dksX3_tellMaybe_1 24 rfl rfl
theorem dksX3_tellMaybe_3 : cX3_tellMaybe.data.toList.drop 70 = dktX3_tellMaybe_3 := dk_seg dksX3_tellMaybe_2 23 rfl rfl
theorem dksX3_tellMaybe_4 : cX3_tellMaybe.data.toList.drop 93 = dktX3_tellMaybe_4 := dk_seg dksX3_tellMaybe_3 23 rfl rfl
theorem dX3_tellMaybe_0 : decode cX3_tellMaybe 0 = .ok (.aload_n 0, 1) := dk_42 (dk_at dksX3_tellMaybe_0 0 rfl rfl)
theorem dX3_tellMaybe_1 : decode cX3_tellMaybe 1 = .ok (.iconst 0, 1) := dk_3 (dk_at dksX3_tellMaybe_0 1 rfl rfl)
theorem dX3_tellMaybe_2 : decode cX3_tellMaybe 2 = .ok (.aload_n 0, 1) := dk_42 (dk_at dksX3_tellMaybe_0 2 rfl rfl)
theorem dX3_tellMaybe_3 : decode cX3_tellMaybe 3 = .ok (.getfield 94, 3) := dk_180 0 94 (dk_at dksX3_tellMaybe_0 3 rfl rfl)
theorem dX3_tellMaybe_6 : decode cX3_tellMaybe 6 = .ok (.iconst 2, 1) := dk_5 (dk_at dksX3_tellMaybe_0 6 rfl rfl)
theorem dX3_tellMaybe_7 : decode cX3_tellMaybe 7 = .ok (.isub, 1) := dk_100 (dk_at dksX3_tellMaybe_0 7 rfl rfl)
theorem dX3_tellMaybe_8 : decode cX3_tellMaybe 8 = .ok (.invokevirtual 91, 3) := dk_182 0 91 (dk_at dksX3_tellMaybe_0 8 rfl rfl)
theorem dX3_tellMaybe_11 : decode cX3_tellMaybe 11 = .ok (.istore_n 2, 1) := dk_61 (dk_at dksX3_tellMaybe_0 11 rfl rfl)
theorem dX3_tellMaybe_12 : decode cX3_tellMaybe 12 = .ok (.aload_n 0, 1) := dk_42 (dk_at dksX3_tellMaybe_0 12 rfl rfl)
theorem dX3_tellMaybe_13 : decode cX3_tellMaybe 13 = .ok (.iconst 2, 1) := dk_5 (dk_at dksX3_tellMaybe_0 13 rfl rfl)
theorem dX3_tellMaybe_14 : decode cX3_tellMaybe 14 = .ok (.invokevirtual 62, 3) := dk_182 0 62 (dk_at dksX3_tellMaybe_0 14 rfl rfl)
theorem dX3_tellMaybe_17 : decode cX3_tellMaybe 17 = .ok (.istore_n 3, 1) := dk_62 (dk_at dksX3_tellMaybe_0 17 rfl rfl)
theorem dX3_tellMaybe_18 : decode cX3_tellMaybe 18 = .ok (.aload_n 0, 1) := dk_42 (dk_at dksX3_tellMaybe_0 18 rfl rfl)
theorem dX3_tellMaybe_19 : decode cX3_tellMaybe 19 = .ok (.iconst 2, 1) := dk_5 (dk_at dksX3_tellMaybe_0 19 rfl rfl)
theorem dX3_tellMaybe_20 : decode cX3_tellMaybe 20 = .ok (.invokevirtual 62, 3) := dk_182 0 62 (dk_at dksX3_tellMaybe_0 20 rfl rfl)
theorem dX3_tellMaybe_23 : decode cX3_tellMaybe 23 = .ok (.istore 4, 2) := dk_54 4 (dk_at dksX3_tellMaybe_1 0 rfl rfl)
theorem dX3_tellMaybe_25 : decode cX3_tellMaybe 25 = .ok (.aload_n 0, 1) := dk_42 (dk_at dksX3_tellMaybe_1 2 rfl rfl)
theorem dX3_tellMaybe_26 : decode cX3_tellMaybe 26 = .ok (.getfield 21, 3) := dk_180 0 21 (dk_at dksX3_tellMaybe_1 3 rfl rfl)
theorem dX3_tellMaybe_29 : decode cX3_tellMaybe 29 = .ok (.getfield 66, 3) := dk_180 0 66 (dk_at dksX3_tellMaybe_1 6 rfl rfl)
theorem dX3_tellMaybe_32 : decode cX3_tellMaybe 32 = .ok (.iload_n 3, 1) := dk_29 (dk_at dksX3_tellMaybe_1 9 rfl rfl)
theorem dX3_tellMaybe_33 : decode cX3_tellMaybe 33 = .ok (.laload, 1) := dk_47 (dk_at dksX3_tellMaybe_1 10 rfl rfl)
theorem dX3_tellMaybe_34 : decode cX3_tellMaybe 34 = .ok (.l2i, 1) := dk_136 (dk_at dksX3_tellMaybe_1 11 rfl rfl)
theorem dX3_tellMaybe_35 : decode cX3_tellMaybe 35 = .ok (.istore 5, 2) := dk_54 5 (dk_at dksX3_tellMaybe_1 12 rfl rfl)
theorem dX3_tellMaybe_37 : decode cX3_tellMaybe 37 = .ok (.aload_n 0, 1) := dk_42 (dk_at dksX3_tellMaybe_1 14 rfl rfl)
theorem dX3_tellMaybe_38 : decode cX3_tellMaybe 38 = .ok (.getfield 21, 3) := dk_180 0 21 (dk_at dksX3_tellMaybe_1 15 rfl rfl)
theorem dX3_tellMaybe_41 : decode cX3_tellMaybe 41 = .ok (.getfield 66, 3) := dk_180 0 66 (dk_at dksX3_tellMaybe_1 18 rfl rfl)
theorem dX3_tellMaybe_44 : decode cX3_tellMaybe 44 = .ok (.iload 4, 2) := dk_21 4 (dk_at dksX3_tellMaybe_1 21 rfl rfl)
theorem dX3_tellMaybe_46 : decode cX3_tellMaybe 46 = .ok (.laload, 1) := dk_47 (dk_at dksX3_tellMaybe_1 23 rfl rfl)
theorem dX3_tellMaybe_47 : decode cX3_tellMaybe 47 = .ok (.l2i, 1) := dk_136 (dk_at dksX3_tellMaybe_2 0 rfl rfl)
theorem dX3_tellMaybe_48 : decode cX3_tellMaybe 48 = .ok (.istore 6, 2) := dk_54 6 (dk_at dksX3_tellMaybe_2 1 rfl rfl)
theorem dX3_tellMaybe_50 : decode cX3_tellMaybe 50 = .ok (.iload 5, 2) := dk_21 5 (dk_at dksX3_tellMaybe_2 3 rfl rfl)
theorem dX3_tellMaybe_52 : decode cX3_tellMaybe 52 = .ok (.iload 6, 2) := dk_21 6 (dk_at dksX3_tellMaybe_2 5 rfl rfl)
theorem dX3_tellMaybe_54 : decode cX3_tellMaybe 54 = .ok (.if_icmp .le 9, 3) := dk_164 0 9 (dk_at dksX3_tellMaybe_2 7 rfl rfl)
theorem dX3_tellMaybe_57 : decode cX3_tellMaybe 57 = .ok (.aload_n 0, 1) := dk_42 (dk_at dksX3_tellMaybe_2 10 rfl rfl)
theorem dX3_tellMaybe_58 : decode cX3_tellMaybe 58 = .ok (.iconst 5, 1) := dk_8 (dk_at dksX3_tellMaybe_2 11 rfl rfl)
theorem dX3_tellMaybe_59 : decode cX3_tellMaybe 59 = .ok (.iload_n 3, 1) := dk_29 (dk_at dksX3_tellMaybe_2 12 rfl rfl)
theorem dX3_tellMaybe_60 : decode cX3_tellMaybe 60 = .ok (.invokevirtual 73, 3) := dk_182 0 73 (dk_at dksX3_tellMaybe_2 13 rfl rfl)
theorem dX3_tellMaybe_63 : decode cX3_tellMaybe 63 = .ok (.iload 6, 2) := dk_21 6 (dk_at dksX3_tellMaybe_2 16 rfl rfl)
theorem dX3_tellMaybe_65 : decode cX3_tellMaybe 65 = .ok (.iconst 1, 1) := dk_4 (dk_at dksX3_tellMaybe_2 18 rfl rfl)
theorem dX3_tellMaybe_66 : decode cX3_tellMaybe 66 = .ok (.iconst 4, 1) := dk_7 (dk_at dksX3_tellMaybe_2 19 rfl rfl)
theorem dX3_tellMaybe_67 : decode cX3_tellMaybe 67 = .ok (.invokestatic 69, 3) := dk_184 0 69 (dk_at dksX3_tellMaybe_2 20 rfl rfl)
theorem dX3_tellMaybe_70 : decode cX3_tellMaybe 70 = .ok (.ifCond .ne 10, 3) := dk_154 0 10 (dk_at dksX3_tellMaybe_3 0 rfl rfl)
theorem dX3_tellMaybe_73 : decode cX3_tellMaybe 73 = .ok (.aload_n 0, 1) := dk_42 (dk_at dksX3_tellMaybe_3 3 rfl rfl)
theorem dX3_tellMaybe_74 : decode cX3_tellMaybe 74 = .ok (.iconst 5, 1) := dk_8 (dk_at dksX3_tellMaybe_3 4 rfl rfl)
theorem dX3_tellMaybe_75 : decode cX3_tellMaybe 75 = .ok (.iload 4, 2) := dk_21 4 (dk_at dksX3_tellMaybe_3 5 rfl rfl)
theorem dX3_tellMaybe_77 : decode cX3_tellMaybe 77 = .ok (.invokevirtual 73, 3) := dk_182 0 73 (dk_at dksX3_tellMaybe_3 7 rfl rfl)
theorem dX3_tellMaybe_80 : decode cX3_tellMaybe 80 = .ok (.aload_n 1, 1) := dk_43 (dk_at dksX3_tellMaybe_3 10 rfl rfl)
theorem dX3_tellMaybe_81 : decode cX3_tellMaybe 81 = .ok (.new 150, 3) := dk_187 0 150 (dk_at dksX3_tellMaybe_3 11 rfl rfl)
theorem dX3_tellMaybe_84 : decode cX3_tellMaybe 84 = .ok (.dup, 1) := dk_89 (dk_at dksX3_tellMaybe_3 14 rfl rfl)
theorem dX3_tellMaybe_85 : decode cX3_tellMaybe 85 = .ok (.iload_n 2, 1) := dk_28 (dk_at dksX3_tellMaybe_3 15 rfl rfl)
theorem dX3_tellMaybe_86 : decode cX3_tellMaybe 86 = .ok (.iload 5, 2) := dk_21 5 (dk_at dksX3_tellMaybe_3 16 rfl rfl)
theorem dX3_tellMaybe_88 : decode cX3_tellMaybe 88 = .ok (.iload 6, 2) := dk_21 6 (dk_at dksX3_tellMaybe_3 18 rfl rfl)
theorem dX3_tellMaybe_90 : decode cX3_tellMaybe 90 = .ok (.invokespecial 152, 3) := dk_183 0 152 (dk_at dksX3_tellMaybe_3 20 rfl rfl)
theorem dX3_tellMaybe_93 : decode cX3_tellMaybe 93 = .ok (.invokevirtual 130, 3) := dk_182 0 130 (dk_at dksX3_tellMaybe_4 0 rfl rfl)
theorem dX3_tellMaybe_96 : decode cX3_tellMaybe 96 = .ok (.return_, 1) := dk_177 (dk_at dksX3_tellMaybe_4 3 rfl rfl)
abbrev cX3_tellUse : ByteArray := prog_8_method_15_code
def yX3_tellUse : MethodName := ⟨RX3, "tellUse", "(LLadderLots$Steps;)V"⟩
def dkwX3_tellUse_4 : List UInt8 := [182, 0, 146, 177]
abbrev dktX3_tellUse_4 : List UInt8 := dkwX3_tellUse_4 ++ []
def dkwX3_tellUse_3 : List UInt8 := [159, 0, 25, 43, 42, 180, 0, 17, 29, 50, 21, 4, 21, 5, 42, 180, 0, 94, 182, 0, 155, 4]
abbrev dktX3_tellUse_3 : List UInt8 := dkwX3_tellUse_3 ++ dktX3_tellUse_4
def dkwX3_tellUse_2 : List UInt8 := [182, 0, 58, 87, 42, 16, 18, 182, 0, 54, 54, 5, 21, 5, 153, 0, 8, 42, 182, 0, 58, 87, 29, 2]
abbrev dktX3_tellUse_2 : List UInt8 := dkwX3_tellUse_2 ++ dktX3_tellUse_3
def dkwX3_tellUse_1 : List UInt8 := [160, 0, 9, 42, 7, 28, 182, 0, 73, 42, 16, 17, 182, 0, 54, 54, 4, 21, 4, 153, 0, 8, 42]
abbrev dktX3_tellUse_1 : List UInt8 := dkwX3_tellUse_1 ++ dktX3_tellUse_2
def dkwX3_tellUse_0 : List UInt8 := [42, 4, 182, 0, 62, 61, 42, 42, 180, 0, 21, 180, 0, 66, 28, 47, 182, 0, 117, 62, 29, 2]
abbrev dktX3_tellUse_0 : List UInt8 := dkwX3_tellUse_0 ++ dktX3_tellUse_1
theorem dksX3_tellUse_0 : cX3_tellUse.data.toList.drop 0 = dktX3_tellUse_0 := by decide +kernel
theorem dksX3_tellUse_1 : cX3_tellUse.data.toList.drop 22 = dktX3_tellUse_1 := dk_seg dksX3_tellUse_0 22 rfl rfl
theorem dksX3_tellUse_2 : cX3_tellUse.data.toList.drop 45 = dktX3_tellUse_2 := dk_seg dksX3_tellUse_1 23 rfl rfl
theorem dksX3_tellUse_3 : cX3_tellUse.data.toList.drop 69 = dktX3_tellUse_3 := dk_seg dksX3_tellUse_2 24 rfl rfl
theorem dksX3_tellUse_4 : cX3_tellUse.data.toList.drop 91 = dktX3_tellUse_4 := dk_seg dksX3_tellUse_3 22 rfl rfl
theorem dX3_tellUse_0 : decode cX3_tellUse 0 = .ok (.aload_n 0, 1) := dk_42 (dk_at dksX3_tellUse_0 0 rfl rfl)
theorem dX3_tellUse_1 : decode cX3_tellUse 1 = .ok (.iconst 1, 1) := dk_4 (dk_at dksX3_tellUse_0 1 rfl rfl)
theorem dX3_tellUse_2 : decode cX3_tellUse 2 = .ok (.invokevirtual 62, 3) := dk_182 0 62 (dk_at dksX3_tellUse_0 2 rfl rfl)
theorem dX3_tellUse_5 : decode cX3_tellUse 5 = .ok (.istore_n 2, 1) := dk_61 (dk_at dksX3_tellUse_0 5 rfl rfl)
theorem dX3_tellUse_6 : decode cX3_tellUse 6 = .ok (.aload_n 0, 1) := dk_42 (dk_at dksX3_tellUse_0 6 rfl rfl)
theorem dX3_tellUse_7 : decode cX3_tellUse 7 = .ok (.aload_n 0, 1) := dk_42 (dk_at dksX3_tellUse_0 7 rfl rfl)
theorem dX3_tellUse_8 : decode cX3_tellUse 8 = .ok (.getfield 21, 3) := dk_180 0 21 (dk_at dksX3_tellUse_0 8 rfl rfl)
theorem dX3_tellUse_11 : decode cX3_tellUse 11 = .ok (.getfield 66, 3) := dk_180 0 66 (dk_at dksX3_tellUse_0 11 rfl rfl)
theorem dX3_tellUse_14 : decode cX3_tellUse 14 = .ok (.iload_n 2, 1) := dk_28 (dk_at dksX3_tellUse_0 14 rfl rfl)
theorem dX3_tellUse_15 : decode cX3_tellUse 15 = .ok (.laload, 1) := dk_47 (dk_at dksX3_tellUse_0 15 rfl rfl)
theorem dX3_tellUse_16 : decode cX3_tellUse 16 = .ok (.invokevirtual 117, 3) := dk_182 0 117 (dk_at dksX3_tellUse_0 16 rfl rfl)
theorem dX3_tellUse_19 : decode cX3_tellUse 19 = .ok (.istore_n 3, 1) := dk_62 (dk_at dksX3_tellUse_0 19 rfl rfl)
theorem dX3_tellUse_20 : decode cX3_tellUse 20 = .ok (.iload_n 3, 1) := dk_29 (dk_at dksX3_tellUse_0 20 rfl rfl)
theorem dX3_tellUse_21 : decode cX3_tellUse 21 = .ok (.iconst (-1), 1) := dk_2 (dk_at dksX3_tellUse_0 21 rfl rfl)
theorem dX3_tellUse_22 : decode cX3_tellUse 22 = .ok (.if_icmp .ne 9, 3) := dk_160 0 9 (dk_at dksX3_tellUse_1 0 rfl rfl)
theorem dX3_tellUse_25 : decode cX3_tellUse 25 = .ok (.aload_n 0, 1) := dk_42 (dk_at dksX3_tellUse_1 3 rfl rfl)
theorem dX3_tellUse_26 : decode cX3_tellUse 26 = .ok (.iconst 4, 1) := dk_7 (dk_at dksX3_tellUse_1 4 rfl rfl)
theorem dX3_tellUse_27 : decode cX3_tellUse 27 = .ok (.iload_n 2, 1) := dk_28 (dk_at dksX3_tellUse_1 5 rfl rfl)
theorem dX3_tellUse_28 : decode cX3_tellUse 28 = .ok (.invokevirtual 73, 3) := dk_182 0 73 (dk_at dksX3_tellUse_1 6 rfl rfl)
theorem dX3_tellUse_31 : decode cX3_tellUse 31 = .ok (.aload_n 0, 1) := dk_42 (dk_at dksX3_tellUse_1 9 rfl rfl)
theorem dX3_tellUse_32 : decode cX3_tellUse 32 = .ok (.bipush 17, 2) := dk_16 17 (dk_at dksX3_tellUse_1 10 rfl rfl)
theorem dX3_tellUse_34 : decode cX3_tellUse 34 = .ok (.invokevirtual 54, 3) := dk_182 0 54 (dk_at dksX3_tellUse_1 12 rfl rfl)
theorem dX3_tellUse_37 : decode cX3_tellUse 37 = .ok (.istore 4, 2) := dk_54 4 (dk_at dksX3_tellUse_1 15 rfl rfl)
theorem dX3_tellUse_39 : decode cX3_tellUse 39 = .ok (.iload 4, 2) := dk_21 4 (dk_at dksX3_tellUse_1 17 rfl rfl)
theorem dX3_tellUse_41 : decode cX3_tellUse 41 = .ok (.ifCond .eq 8, 3) := dk_153 0 8 (dk_at dksX3_tellUse_1 19 rfl rfl)
theorem dX3_tellUse_44 : decode cX3_tellUse 44 = .ok (.aload_n 0, 1) := dk_42 (dk_at dksX3_tellUse_1 22 rfl rfl)
theorem dX3_tellUse_45 : decode cX3_tellUse 45 = .ok (.invokevirtual 58, 3) := dk_182 0 58 (dk_at dksX3_tellUse_2 0 rfl rfl)
theorem dX3_tellUse_48 : decode cX3_tellUse 48 = .ok (.pop, 1) := dk_87 (dk_at dksX3_tellUse_2 3 rfl rfl)
theorem dX3_tellUse_49 : decode cX3_tellUse 49 = .ok (.aload_n 0, 1) := dk_42 (dk_at dksX3_tellUse_2 4 rfl rfl)
theorem dX3_tellUse_50 : decode cX3_tellUse 50 = .ok (.bipush 18, 2) := dk_16 18 (dk_at dksX3_tellUse_2 5 rfl rfl)
theorem dX3_tellUse_52 : decode cX3_tellUse 52 = .ok (.invokevirtual 54, 3) := dk_182 0 54 (dk_at dksX3_tellUse_2 7 rfl rfl)
theorem dX3_tellUse_55 : decode cX3_tellUse 55 = .ok (.istore 5, 2) := dk_54 5 (dk_at dksX3_tellUse_2 10 rfl rfl)
theorem dX3_tellUse_57 : decode cX3_tellUse 57 = .ok (.iload 5, 2) := dk_21 5 (dk_at dksX3_tellUse_2 12 rfl rfl)
theorem dX3_tellUse_59 : decode cX3_tellUse 59 = .ok (.ifCond .eq 8, 3) := dk_153 0 8 (dk_at dksX3_tellUse_2 14 rfl rfl)
theorem dX3_tellUse_62 : decode cX3_tellUse 62 = .ok (.aload_n 0, 1) := dk_42 (dk_at dksX3_tellUse_2 17 rfl rfl)
theorem dX3_tellUse_63 : decode cX3_tellUse 63 = .ok (.invokevirtual 58, 3) := dk_182 0 58 (dk_at dksX3_tellUse_2 18 rfl rfl)
theorem dX3_tellUse_66 : decode cX3_tellUse 66 = .ok (.pop, 1) := dk_87 (dk_at dksX3_tellUse_2 21 rfl rfl)
theorem dX3_tellUse_67 : decode cX3_tellUse 67 = .ok (.iload_n 3, 1) := dk_29 (dk_at dksX3_tellUse_2 22 rfl rfl)
theorem dX3_tellUse_68 : decode cX3_tellUse 68 = .ok (.iconst (-1), 1) := dk_2 (dk_at dksX3_tellUse_2 23 rfl rfl)
theorem dX3_tellUse_69 : decode cX3_tellUse 69 = .ok (.if_icmp .eq 25, 3) := dk_159 0 25 (dk_at dksX3_tellUse_3 0 rfl rfl)
theorem dX3_tellUse_72 : decode cX3_tellUse 72 = .ok (.aload_n 1, 1) := dk_43 (dk_at dksX3_tellUse_3 3 rfl rfl)
theorem dX3_tellUse_73 : decode cX3_tellUse 73 = .ok (.aload_n 0, 1) := dk_42 (dk_at dksX3_tellUse_3 4 rfl rfl)
theorem dX3_tellUse_74 : decode cX3_tellUse 74 = .ok (.getfield 17, 3) := dk_180 0 17 (dk_at dksX3_tellUse_3 5 rfl rfl)
theorem dX3_tellUse_77 : decode cX3_tellUse 77 = .ok (.iload_n 3, 1) := dk_29 (dk_at dksX3_tellUse_3 8 rfl rfl)
theorem dX3_tellUse_78 : decode cX3_tellUse 78 = .ok (.aaload, 1) := dk_50 (dk_at dksX3_tellUse_3 9 rfl rfl)
theorem dX3_tellUse_79 : decode cX3_tellUse 79 = .ok (.iload 4, 2) := dk_21 4 (dk_at dksX3_tellUse_3 10 rfl rfl)
theorem dX3_tellUse_81 : decode cX3_tellUse 81 = .ok (.iload 5, 2) := dk_21 5 (dk_at dksX3_tellUse_3 12 rfl rfl)
theorem dX3_tellUse_83 : decode cX3_tellUse 83 = .ok (.aload_n 0, 1) := dk_42 (dk_at dksX3_tellUse_3 14 rfl rfl)
theorem dX3_tellUse_84 : decode cX3_tellUse 84 = .ok (.getfield 94, 3) := dk_180 0 94 (dk_at dksX3_tellUse_3 15 rfl rfl)
theorem dX3_tellUse_87 : decode cX3_tellUse 87 = .ok (.invokevirtual 155, 3) := dk_182 0 155 (dk_at dksX3_tellUse_3 18 rfl rfl)
theorem dX3_tellUse_90 : decode cX3_tellUse 90 = .ok (.iconst 1, 1) := dk_4 (dk_at dksX3_tellUse_3 21 rfl rfl)
theorem dX3_tellUse_91 : decode cX3_tellUse 91 = .ok (.invokevirtual 146, 3) := dk_182 0 146 (dk_at dksX3_tellUse_4 0 rfl rfl)
theorem dX3_tellUse_94 : decode cX3_tellUse 94 = .ok (.return_, 1) := dk_177 (dk_at dksX3_tellUse_4 3 rfl rfl)
theorem q122 : (Jvm.Cond.initialized "LadderLots$Reader") ∈ lw_all := lw_g (lw_at lw_m1 4 rfl) rfl
theorem q313 : (Jvm.Cond.fieldLinkNest "LadderLots$Reader" (25 : Nat) "LadderLots$Scanner" "kinds" "[B" "LadderLots") ∈ lw_tbl := lw_at lw_m1 195 rfl
theorem q315 : (Jvm.Cond.fieldLinkNest "LadderLots$Reader" (37 : Nat) "LadderLots$Scanner" "places" "[S" "LadderLots") ∈ lw_tbl := lw_at lw_m1 197 rfl
theorem q317 : (Jvm.Cond.fieldLinkNest "LadderLots$Reader" (66 : Nat) "LadderLots$Scanner" "values" "[J" "LadderLots") ∈ lw_tbl := lw_at lw_m1 199 rfl
theorem q336 : (Jvm.Cond.instantiable "LadderLots$Reader" (9 : Nat)) ∈ lw_all := lw_g (lw_at lw_m1 218 rfl) rfl
theorem q338 : (Jvm.Cond.instanceMethod ({ cls := "LadderLots$Reader", name := "<init>", desc := "(LLadderLots$Scanner;)V" } : Jvm.MethodName)) ∈ lw_all := lw_g (lw_at lw_m1 220 rfl) rfl
theorem q339 : (Jvm.Cond.code ({ cls := "LadderLots$Reader", name := "<init>", desc := "(LLadderLots$Scanner;)V" } : Jvm.MethodName) prog_8_method_1_code (2 : Nat) (Option.none : Option Jvm.ClassFile.FieldType)) ∈ lw_all := lw_g (lw_at lw_m1 221 rfl) rfl
theorem q340 : (Jvm.Cond.methodLink "LadderLots$Reader" (3 : Nat) ({ cls := "java/lang/Object", name := "<init>", desc := "()V" } : Jvm.MethodName)) ∈ lw_all := lw_g (lw_at lw_m1 222 rfl) rfl
theorem q341 : (Jvm.Cond.classLink "LadderLots$Reader" (15 : Nat) "LadderLots$Steps") ∈ lw_all := lw_g (lw_at lw_m1 223 rfl) rfl
theorem q343 : (Jvm.Cond.fieldLink "LadderLots$Reader" (21 : Nat) "LadderLots$Reader" "scanner" "LLadderLots$Scanner;") ∈ lw_all := lw_g (lw_at lw_m1 225 rfl) rfl
theorem q344 : (Jvm.Cond.fieldLink "LadderLots$Reader" (31 : Nat) "LadderLots$Reader" "at" "I") ∈ lw_all := lw_g (lw_at lw_m1 226 rfl) rfl
theorem q345 : (Jvm.Cond.fieldLink "LadderLots$Reader" (85 : Nat) "LadderLots$Reader" "deep" "I") ∈ lw_all := lw_g (lw_at lw_m1 227 rfl) rfl
theorem q346 : (Jvm.Cond.fieldLink "LadderLots$Reader" (94 : Nat) "LadderLots$Reader" "legs" "I") ∈ lw_all := lw_g (lw_at lw_m1 228 rfl) rfl
theorem q347 : (Jvm.Cond.fieldLink "LadderLots$Reader" (44 : Nat) "LadderLots$Reader" "wrongKind" "I") ∈ lw_all := lw_g (lw_at lw_m1 229 rfl) rfl
theorem q348 : (Jvm.Cond.fieldLink "LadderLots$Reader" (47 : Nat) "LadderLots$Reader" "wrongPlace" "I") ∈ lw_all := lw_g (lw_at lw_m1 230 rfl) rfl
theorem q349 : (Jvm.Cond.fieldLink "LadderLots$Reader" (11 : Nat) "LadderLots$Reader" "names" "[J") ∈ lw_all := lw_g (lw_at lw_m1 231 rfl) rfl
theorem q350 : (Jvm.Cond.fieldLink "LadderLots$Reader" (17 : Nat) "LadderLots$Reader" "parts" "[LLadderLots$Steps;") ∈ lw_all := lw_g (lw_at lw_m1 232 rfl) rfl
theorem q351 : (Jvm.Cond.fieldLink "LadderLots$Reader" (88 : Nat) "LadderLots$Reader" "many" "I") ∈ lw_all := lw_g (lw_at lw_m1 233 rfl) rfl
theorem q352 : (Jvm.Cond.laysFinal "LadderLots$Reader" "LadderLots$Reader" "scanner" "LLadderLots$Scanner;") ∈ lw_all := lw_g (lw_at lw_m1 234 rfl) rfl
theorem q353 : (Jvm.Cond.soleField "LadderLots$Reader" "scanner") ∈ lw_all := lw_g (lw_at lw_m1 235 rfl) rfl
theorem q354 : (Jvm.Cond.lays "LadderLots$Reader" "LadderLots$Reader" "at" "I") ∈ lw_all := lw_g (lw_at lw_m1 236 rfl) rfl
theorem q355 : (Jvm.Cond.soleField "LadderLots$Reader" "at") ∈ lw_all := lw_g (lw_at lw_m1 237 rfl) rfl
theorem q356 : (Jvm.Cond.lays "LadderLots$Reader" "LadderLots$Reader" "deep" "I") ∈ lw_all := lw_g (lw_at lw_m1 238 rfl) rfl
theorem q357 : (Jvm.Cond.soleField "LadderLots$Reader" "deep") ∈ lw_all := lw_g (lw_at lw_m1 239 rfl) rfl
theorem q358 : (Jvm.Cond.lays "LadderLots$Reader" "LadderLots$Reader" "legs" "I") ∈ lw_all := lw_g (lw_at lw_m2 0 rfl) rfl
theorem q359 : (Jvm.Cond.soleField "LadderLots$Reader" "legs") ∈ lw_all := lw_g (lw_at lw_m2 1 rfl) rfl
theorem q360 : (Jvm.Cond.lays "LadderLots$Reader" "LadderLots$Reader" "wrongKind" "I") ∈ lw_all := lw_g (lw_at lw_m2 2 rfl) rfl
theorem q361 : (Jvm.Cond.soleField "LadderLots$Reader" "wrongKind") ∈ lw_all := lw_g (lw_at lw_m2 3 rfl) rfl
theorem q362 : (Jvm.Cond.lays "LadderLots$Reader" "LadderLots$Reader" "wrongPlace" "I") ∈ lw_all := lw_g (lw_at lw_m2 4 rfl) rfl
theorem q363 : (Jvm.Cond.soleField "LadderLots$Reader" "wrongPlace") ∈ lw_all := lw_g (lw_at lw_m2 5 rfl) rfl
theorem q364 : (Jvm.Cond.laysFinal "LadderLots$Reader" "LadderLots$Reader" "names" "[J") ∈ lw_all := lw_g (lw_at lw_m2 6 rfl) rfl
theorem q365 : (Jvm.Cond.soleField "LadderLots$Reader" "names") ∈ lw_all := lw_g (lw_at lw_m2 7 rfl) rfl
theorem q366 : (Jvm.Cond.laysFinal "LadderLots$Reader" "LadderLots$Reader" "parts" "[LLadderLots$Steps;") ∈ lw_all := lw_g (lw_at lw_m2 8 rfl) rfl
theorem q367 : (Jvm.Cond.soleField "LadderLots$Reader" "parts") ∈ lw_all := lw_g (lw_at lw_m2 9 rfl) rfl
theorem q368 : (Jvm.Cond.lays "LadderLots$Reader" "LadderLots$Reader" "many" "I") ∈ lw_all := lw_g (lw_at lw_m2 10 rfl) rfl
theorem q369 : (Jvm.Cond.soleField "LadderLots$Reader" "many") ∈ lw_all := lw_g (lw_at lw_m2 11 rfl) rfl
theorem q370 : (Jvm.Cond.superclass "LadderLots$Reader" "java/lang/Object") ∈ lw_all := lw_g (lw_at lw_m2 12 rfl) rfl
theorem q633 : (Jvm.Cond.instanceMethod ({ cls := "LadderLots$Reader", name := "read", desc := "()LLadderLots$Ladder;" } : Jvm.MethodName)) ∈ lw_all := lw_g (lw_at lw_m3 35 rfl) rfl
theorem q634 : (Jvm.Cond.selects "LadderLots$Reader" ({ cls := "LadderLots$Reader", name := "read", desc := "()LLadderLots$Ladder;" } : Jvm.MethodName) ({ cls := "LadderLots$Reader", name := "read", desc := "()LLadderLots$Ladder;" } : Jvm.MethodName)) ∈ lw_all := lw_g (lw_at lw_m3 36 rfl) rfl
theorem q635 : (Jvm.Cond.code ({ cls := "LadderLots$Reader", name := "read", desc := "()LLadderLots$Ladder;" } : Jvm.MethodName) prog_8_method_8_code (4 : Nat) (Option.some (Jvm.ClassFile.FieldType.object "LadderLots$Ladder"))) ∈ lw_all := lw_g (lw_at lw_m3 37 rfl) rfl
theorem q636 : (Jvm.Cond.methodLink "LadderLots$Reader" (62 : Nat) ({ cls := "LadderLots$Reader", name := "must", desc := "(I)I" } : Jvm.MethodName)) ∈ lw_all := lw_g (lw_at lw_m3 38 rfl) rfl
theorem q637 : (Jvm.Cond.privateMethod ({ cls := "LadderLots$Reader", name := "must", desc := "(I)I" } : Jvm.MethodName)) ∈ lw_tbl := lw_at lw_m3 39 rfl
theorem q638 : (Jvm.Cond.instanceMethod ({ cls := "LadderLots$Reader", name := "must", desc := "(I)I" } : Jvm.MethodName)) ∈ lw_all := lw_g (lw_at lw_m3 40 rfl) rfl
theorem q639 : (Jvm.Cond.code ({ cls := "LadderLots$Reader", name := "must", desc := "(I)I" } : Jvm.MethodName) prog_8_method_6_code (2 : Nat) (Option.some Jvm.ClassFile.FieldType.int)) ∈ lw_all := lw_g (lw_at lw_m3 41 rfl) rfl
theorem q640 : (Jvm.Cond.methodLink "LadderLots$Reader" (54 : Nat) ({ cls := "LadderLots$Reader", name := "is", desc := "(I)Z" } : Jvm.MethodName)) ∈ lw_all := lw_g (lw_at lw_m3 42 rfl) rfl
theorem q641 : (Jvm.Cond.privateMethod ({ cls := "LadderLots$Reader", name := "is", desc := "(I)Z" } : Jvm.MethodName)) ∈ lw_tbl := lw_at lw_m3 43 rfl
theorem q642 : (Jvm.Cond.instanceMethod ({ cls := "LadderLots$Reader", name := "is", desc := "(I)Z" } : Jvm.MethodName)) ∈ lw_all := lw_g (lw_at lw_m3 44 rfl) rfl
theorem q643 : (Jvm.Cond.code ({ cls := "LadderLots$Reader", name := "is", desc := "(I)Z" } : Jvm.MethodName) prog_8_method_2_code (2 : Nat) (Option.some Jvm.ClassFile.FieldType.boolean)) ∈ lw_all := lw_g (lw_at lw_m3 45 rfl) rfl
theorem q644 : (Jvm.Cond.methodLink "LadderLots$Reader" (50 : Nat) ({ cls := "LadderLots$Reader", name := "fault", desc := "(I)LLadderLots$Fault;" } : Jvm.MethodName)) ∈ lw_all := lw_g (lw_at lw_m3 46 rfl) rfl
theorem q645 : (Jvm.Cond.privateMethod ({ cls := "LadderLots$Reader", name := "fault", desc := "(I)LLadderLots$Fault;" } : Jvm.MethodName)) ∈ lw_tbl := lw_at lw_m3 47 rfl
theorem q646 : (Jvm.Cond.instanceMethod ({ cls := "LadderLots$Reader", name := "fault", desc := "(I)LLadderLots$Fault;" } : Jvm.MethodName)) ∈ lw_all := lw_g (lw_at lw_m3 48 rfl) rfl
theorem q647 : (Jvm.Cond.code ({ cls := "LadderLots$Reader", name := "fault", desc := "(I)LLadderLots$Fault;" } : Jvm.MethodName) prog_8_method_3_code (2 : Nat) (Option.some (Jvm.ClassFile.FieldType.object "LadderLots$Fault"))) ∈ lw_all := lw_g (lw_at lw_m3 49 rfl) rfl
theorem q648 : (Jvm.Cond.classLink "LadderLots$Reader" (35 : Nat) "LadderLots$Fault") ∈ lw_all := lw_g (lw_at lw_m3 50 rfl) rfl
theorem q687 : (Jvm.Cond.methodLink "LadderLots$Reader" (41 : Nat) ({ cls := "LadderLots$Fault", name := "<init>", desc := "(II)V" } : Jvm.MethodName)) ∈ lw_all := lw_g (lw_at lw_m3 89 rfl) rfl
theorem q720 : (Jvm.Cond.methodLink "LadderLots$Reader" (58 : Nat) ({ cls := "LadderLots$Reader", name := "go", desc := "()I" } : Jvm.MethodName)) ∈ lw_all := lw_g (lw_at lw_m3 122 rfl) rfl
theorem q721 : (Jvm.Cond.privateMethod ({ cls := "LadderLots$Reader", name := "go", desc := "()I" } : Jvm.MethodName)) ∈ lw_tbl := lw_at lw_m3 123 rfl
theorem q722 : (Jvm.Cond.instanceMethod ({ cls := "LadderLots$Reader", name := "go", desc := "()I" } : Jvm.MethodName)) ∈ lw_all := lw_g (lw_at lw_m3 124 rfl) rfl
theorem q723 : (Jvm.Cond.code ({ cls := "LadderLots$Reader", name := "go", desc := "()I" } : Jvm.MethodName) prog_8_method_5_code (1 : Nat) (Option.some Jvm.ClassFile.FieldType.int)) ∈ lw_all := lw_g (lw_at lw_m3 125 rfl) rfl
theorem q724 : (Jvm.Cond.methodLink "LadderLots$Reader" (91 : Nat) ({ cls := "LadderLots$Reader", name := "bounded", desc := "(II)I" } : Jvm.MethodName)) ∈ lw_all := lw_g (lw_at lw_m3 126 rfl) rfl
theorem q725 : (Jvm.Cond.privateMethod ({ cls := "LadderLots$Reader", name := "bounded", desc := "(II)I" } : Jvm.MethodName)) ∈ lw_tbl := lw_at lw_m3 127 rfl
theorem q726 : (Jvm.Cond.instanceMethod ({ cls := "LadderLots$Reader", name := "bounded", desc := "(II)I" } : Jvm.MethodName)) ∈ lw_all := lw_g (lw_at lw_m3 128 rfl) rfl
theorem q727 : (Jvm.Cond.code ({ cls := "LadderLots$Reader", name := "bounded", desc := "(II)I" } : Jvm.MethodName) prog_8_method_7_code (5 : Nat) (Option.some Jvm.ClassFile.FieldType.int)) ∈ lw_all := lw_g (lw_at lw_m3 129 rfl) rfl
theorem q728 : (Jvm.Cond.methodLinkNest "LadderLots$Reader" (69 : Nat) ({ cls := "LadderLots", name := "within", desc := "(III)Z" } : Jvm.MethodName) "LadderLots") ∈ lw_tbl := lw_at lw_m3 130 rfl
theorem q729 : (Jvm.Cond.methodLink "LadderLots$Reader" (73 : Nat) ({ cls := "LadderLots$Reader", name := "wrong", desc := "(II)V" } : Jvm.MethodName)) ∈ lw_all := lw_g (lw_at lw_m3 131 rfl) rfl
theorem q730 : (Jvm.Cond.privateMethod ({ cls := "LadderLots$Reader", name := "wrong", desc := "(II)V" } : Jvm.MethodName)) ∈ lw_tbl := lw_at lw_m3 132 rfl
theorem q731 : (Jvm.Cond.instanceMethod ({ cls := "LadderLots$Reader", name := "wrong", desc := "(II)V" } : Jvm.MethodName)) ∈ lw_all := lw_g (lw_at lw_m3 133 rfl) rfl
theorem q732 : (Jvm.Cond.code ({ cls := "LadderLots$Reader", name := "wrong", desc := "(II)V" } : Jvm.MethodName) prog_8_method_4_code (4 : Nat) (Option.none : Option Jvm.ClassFile.FieldType)) ∈ lw_all := lw_g (lw_at lw_m3 134 rfl) rfl
theorem q733 : (Jvm.Cond.methodLink "LadderLots$Reader" (76 : Nat) ({ cls := "java/lang/Math", name := "max", desc := "(II)I" } : Jvm.MethodName)) ∈ lw_all := lw_g (lw_at lw_m3 135 rfl) rfl
theorem q736 : (Jvm.Cond.methodLink "LadderLots$Reader" (82 : Nat) ({ cls := "java/lang/Math", name := "min", desc := "(II)I" } : Jvm.MethodName)) ∈ lw_all := lw_g (lw_at lw_m3 138 rfl) rfl
theorem q738 : (Jvm.Cond.methodLinkNest "LadderLots$Reader" (97 : Nat) ({ cls := "LadderLots$Steps", name := "<init>", desc := "()V" } : Jvm.MethodName) "LadderLots") ∈ lw_tbl := lw_at lw_m3 140 rfl
theorem q757 : (Jvm.Cond.methodLink "LadderLots$Reader" (98 : Nat) ({ cls := "LadderLots$Reader", name := "tellPart", desc := "()V" } : Jvm.MethodName)) ∈ lw_all := lw_g (lw_at lw_m3 159 rfl) rfl
theorem q758 : (Jvm.Cond.privateMethod ({ cls := "LadderLots$Reader", name := "tellPart", desc := "()V" } : Jvm.MethodName)) ∈ lw_tbl := lw_at lw_m3 160 rfl
theorem q759 : (Jvm.Cond.instanceMethod ({ cls := "LadderLots$Reader", name := "tellPart", desc := "()V" } : Jvm.MethodName)) ∈ lw_all := lw_g (lw_at lw_m3 161 rfl) rfl
theorem q760 : (Jvm.Cond.code ({ cls := "LadderLots$Reader", name := "tellPart", desc := "()V" } : Jvm.MethodName) prog_8_method_12_code (3 : Nat) (Option.none : Option Jvm.ClassFile.FieldType)) ∈ lw_all := lw_g (lw_at lw_m3 162 rfl) rfl
theorem q761 : (Jvm.Cond.methodLink "LadderLots$Reader" (117 : Nat) ({ cls := "LadderLots$Reader", name := "partOf", desc := "(J)I" } : Jvm.MethodName)) ∈ lw_all := lw_g (lw_at lw_m3 163 rfl) rfl
theorem q762 : (Jvm.Cond.privateMethod ({ cls := "LadderLots$Reader", name := "partOf", desc := "(J)I" } : Jvm.MethodName)) ∈ lw_tbl := lw_at lw_m3 164 rfl
theorem q763 : (Jvm.Cond.instanceMethod ({ cls := "LadderLots$Reader", name := "partOf", desc := "(J)I" } : Jvm.MethodName)) ∈ lw_all := lw_g (lw_at lw_m3 165 rfl) rfl
theorem q764 : (Jvm.Cond.code ({ cls := "LadderLots$Reader", name := "partOf", desc := "(J)I" } : Jvm.MethodName) prog_8_method_11_code (4 : Nat) (Option.some Jvm.ClassFile.FieldType.int)) ∈ lw_all := lw_g (lw_at lw_m3 166 rfl) rfl
theorem q765 : (Jvm.Cond.methodLink "LadderLots$Reader" (121 : Nat) ({ cls := "LadderLots$Reader", name := "body", desc := "()LLadderLots$Steps;" } : Jvm.MethodName)) ∈ lw_all := lw_g (lw_at lw_m3 167 rfl) rfl
theorem q766 : (Jvm.Cond.privateMethod ({ cls := "LadderLots$Reader", name := "body", desc := "()LLadderLots$Steps;" } : Jvm.MethodName)) ∈ lw_tbl := lw_at lw_m3 168 rfl
theorem q767 : (Jvm.Cond.instanceMethod ({ cls := "LadderLots$Reader", name := "body", desc := "()LLadderLots$Steps;" } : Jvm.MethodName)) ∈ lw_all := lw_g (lw_at lw_m3 169 rfl) rfl
theorem q768 : (Jvm.Cond.code ({ cls := "LadderLots$Reader", name := "body", desc := "()LLadderLots$Steps;" } : Jvm.MethodName) prog_8_method_10_code (2 : Nat) (Option.some (Jvm.ClassFile.FieldType.object "LadderLots$Steps"))) ∈ lw_all := lw_g (lw_at lw_m3 170 rfl) rfl
theorem q769 : (Jvm.Cond.methodLink "LadderLots$Reader" (114 : Nat) ({ cls := "LadderLots$Reader", name := "opens", desc := "()V" } : Jvm.MethodName)) ∈ lw_all := lw_g (lw_at lw_m3 171 rfl) rfl
theorem q770 : (Jvm.Cond.privateMethod ({ cls := "LadderLots$Reader", name := "opens", desc := "()V" } : Jvm.MethodName)) ∈ lw_tbl := lw_at lw_m3 172 rfl
theorem q771 : (Jvm.Cond.instanceMethod ({ cls := "LadderLots$Reader", name := "opens", desc := "()V" } : Jvm.MethodName)) ∈ lw_all := lw_g (lw_at lw_m3 173 rfl) rfl
theorem q772 : (Jvm.Cond.code ({ cls := "LadderLots$Reader", name := "opens", desc := "()V" } : Jvm.MethodName) prog_8_method_9_code (1 : Nat) (Option.none : Option Jvm.ClassFile.FieldType)) ∈ lw_all := lw_g (lw_at lw_m3 174 rfl) rfl
theorem q773 : (Jvm.Cond.methodLink "LadderLots$Reader" (101 : Nat) ({ cls := "LadderLots$Reader", name := "tell", desc := "(LLadderLots$Steps;)V" } : Jvm.MethodName)) ∈ lw_all := lw_g (lw_at lw_m3 175 rfl) rfl
theorem q774 : (Jvm.Cond.privateMethod ({ cls := "LadderLots$Reader", name := "tell", desc := "(LLadderLots$Steps;)V" } : Jvm.MethodName)) ∈ lw_tbl := lw_at lw_m3 176 rfl
theorem q775 : (Jvm.Cond.instanceMethod ({ cls := "LadderLots$Reader", name := "tell", desc := "(LLadderLots$Steps;)V" } : Jvm.MethodName)) ∈ lw_all := lw_g (lw_at lw_m3 177 rfl) rfl
theorem q776 : (Jvm.Cond.code ({ cls := "LadderLots$Reader", name := "tell", desc := "(LLadderLots$Steps;)V" } : Jvm.MethodName) prog_8_method_13_code (3 : Nat) (Option.none : Option Jvm.ClassFile.FieldType)) ∈ lw_all := lw_g (lw_at lw_m3 178 rfl) rfl
theorem q777 : (Jvm.Cond.classLink "LadderLots$Reader" (125 : Nat) "LadderLots$Rung") ∈ lw_all := lw_g (lw_at lw_m3 179 rfl) rfl
theorem q779 : (Jvm.Cond.methodLink "LadderLots$Reader" (127 : Nat) ({ cls := "LadderLots$Rung", name := "<init>", desc := "(I)V" } : Jvm.MethodName)) ∈ lw_all := lw_g (lw_at lw_m3 181 rfl) rfl
theorem q785 : (Jvm.Cond.methodLink "LadderLots$Reader" (130 : Nat) ({ cls := "LadderLots$Steps", name := "add", desc := "(LLadderLots$Step;)V" } : Jvm.MethodName)) ∈ lw_all := lw_g (lw_at lw_m3 187 rfl) rfl
theorem q827 : (Jvm.Cond.selects "LadderLots$Reader" ({ cls := "java/lang/Object", name := "getClass", desc := "()Ljava/lang/Class;" } : Jvm.MethodName) ({ cls := "java/lang/Object", name := "getClass", desc := "()Ljava/lang/Class;" } : Jvm.MethodName)) ∈ lw_all := lw_g (lw_at lw_m3 229 rfl) rfl
theorem q861 : (Jvm.Cond.classLink "LadderLots$Reader" (134 : Nat) "LadderLots$Gate") ∈ lw_all := lw_g (lw_at lw_m4 23 rfl) rfl
theorem q862 : (Jvm.Cond.methodLink "LadderLots$Reader" (136 : Nat) ({ cls := "LadderLots$Gate", name := "<init>", desc := "(I)V" } : Jvm.MethodName)) ∈ lw_all := lw_g (lw_at lw_m4 24 rfl) rfl
theorem q863 : (Jvm.Cond.classLink "LadderLots$Reader" (137 : Nat) "LadderLots$Back") ∈ lw_all := lw_g (lw_at lw_m4 25 rfl) rfl
theorem q865 : (Jvm.Cond.methodLink "LadderLots$Reader" (139 : Nat) ({ cls := "LadderLots$Back", name := "<init>", desc := "(I)V" } : Jvm.MethodName)) ∈ lw_all := lw_g (lw_at lw_m4 27 rfl) rfl
theorem q871 : (Jvm.Cond.methodLink "LadderLots$Reader" (140 : Nat) ({ cls := "LadderLots$Reader", name := "tellMaybe", desc := "(LLadderLots$Steps;)V" } : Jvm.MethodName)) ∈ lw_all := lw_g (lw_at lw_m4 33 rfl) rfl
theorem q872 : (Jvm.Cond.privateMethod ({ cls := "LadderLots$Reader", name := "tellMaybe", desc := "(LLadderLots$Steps;)V" } : Jvm.MethodName)) ∈ lw_tbl := lw_at lw_m4 34 rfl
theorem q873 : (Jvm.Cond.instanceMethod ({ cls := "LadderLots$Reader", name := "tellMaybe", desc := "(LLadderLots$Steps;)V" } : Jvm.MethodName)) ∈ lw_all := lw_g (lw_at lw_m4 35 rfl) rfl
theorem q874 : (Jvm.Cond.code ({ cls := "LadderLots$Reader", name := "tellMaybe", desc := "(LLadderLots$Steps;)V" } : Jvm.MethodName) prog_8_method_14_code (7 : Nat) (Option.none : Option Jvm.ClassFile.FieldType)) ∈ lw_all := lw_g (lw_at lw_m4 36 rfl) rfl
theorem q875 : (Jvm.Cond.classLink "LadderLots$Reader" (150 : Nat) "LadderLots$Maybe") ∈ lw_all := lw_g (lw_at lw_m4 37 rfl) rfl
theorem q877 : (Jvm.Cond.methodLink "LadderLots$Reader" (152 : Nat) ({ cls := "LadderLots$Maybe", name := "<init>", desc := "(III)V" } : Jvm.MethodName)) ∈ lw_all := lw_g (lw_at lw_m4 39 rfl) rfl
theorem q891 : (Jvm.Cond.methodLink "LadderLots$Reader" (143 : Nat) ({ cls := "LadderLots$Reader", name := "tellUse", desc := "(LLadderLots$Steps;)V" } : Jvm.MethodName)) ∈ lw_all := lw_g (lw_at lw_m4 53 rfl) rfl
theorem q892 : (Jvm.Cond.privateMethod ({ cls := "LadderLots$Reader", name := "tellUse", desc := "(LLadderLots$Steps;)V" } : Jvm.MethodName)) ∈ lw_tbl := lw_at lw_m4 54 rfl
theorem q893 : (Jvm.Cond.instanceMethod ({ cls := "LadderLots$Reader", name := "tellUse", desc := "(LLadderLots$Steps;)V" } : Jvm.MethodName)) ∈ lw_all := lw_g (lw_at lw_m4 55 rfl) rfl
theorem q894 : (Jvm.Cond.code ({ cls := "LadderLots$Reader", name := "tellUse", desc := "(LLadderLots$Steps;)V" } : Jvm.MethodName) prog_8_method_15_code (6 : Nat) (Option.none : Option Jvm.ClassFile.FieldType)) ∈ lw_all := lw_g (lw_at lw_m4 56 rfl) rfl
theorem q895 : (Jvm.Cond.methodLink "LadderLots$Reader" (155 : Nat) ({ cls := "LadderLots$Steps", name := "changed", desc := "(ZZI)LLadderLots$Steps;" } : Jvm.MethodName)) ∈ lw_all := lw_g (lw_at lw_m4 57 rfl) rfl
theorem q936 : (Jvm.Cond.methodLink "LadderLots$Reader" (146 : Nat) ({ cls := "LadderLots$Steps", name := "addAll", desc := "(LLadderLots$Steps;I)V" } : Jvm.MethodName)) ∈ lw_all := lw_g (lw_at lw_m4 98 rfl) rfl
theorem q940 : (Jvm.Cond.methodLink "LadderLots$Reader" (105 : Nat) ({ cls := "LadderLots$Steps", name := "isLong", desc := "()Z" } : Jvm.MethodName)) ∈ lw_all := lw_g (lw_at lw_m4 102 rfl) rfl
theorem q944 : (Jvm.Cond.classLink "LadderLots$Reader" (109 : Nat) "LadderLots$Ladder") ∈ lw_all := lw_g (lw_at lw_m4 106 rfl) rfl
theorem q946 : (Jvm.Cond.methodLink "LadderLots$Reader" (111 : Nat) ({ cls := "LadderLots$Ladder", name := "<init>", desc := "(ILLadderLots$Steps;)V" } : Jvm.MethodName)) ∈ lw_all := lw_g (lw_at lw_m4 108 rfl) rfl
theorem q1966 : (Jvm.Cond.castable "LadderLots$Reader" "java/lang/Object") ∈ lw_tbl := lw_at lw_m8 168 rfl
theorem in_X3 : ∀ w ∈ wsX30, w ∈ lw_all := lw_in wsX30 [352, 354, 356, 358, 360, 362, 364, 366, 368] (by decide +kernel) (by decide +kernel)

/-! LadderLots$Step -/
set_option maxRecDepth 100000
def RX4 : String := "LadderLots$Step"
abbrev cX4_init : ByteArray := prog_11_method_1_code
def yX4_init : MethodName := ⟨RX4, "<init>", "(I)V"⟩
def dkwX4_init_0 : List UInt8 := [42, 183, 0, 1, 42, 27, 181, 0, 7, 177]
abbrev dktX4_init_0 : List UInt8 := dkwX4_init_0 ++ []
theorem dksX4_init_0 : cX4_init.data.toList.drop 0 = dktX4_init_0 := by decide +kernel
theorem dX4_init_0 : decode cX4_init 0 = .ok (.aload_n 0, 1) := dk_42 (dk_at dksX4_init_0 0 rfl rfl)
theorem dX4_init_1 : decode cX4_init 1 = .ok (.invokespecial 1, 3) := dk_183 0 1 (dk_at dksX4_init_0 1 rfl rfl)
theorem dX4_init_4 : decode cX4_init 4 = .ok (.aload_n 0, 1) := dk_42 (dk_at dksX4_init_0 4 rfl rfl)
theorem dX4_init_5 : decode cX4_init 5 = .ok (.iload_n 1, 1) := dk_27 (dk_at dksX4_init_0 5 rfl rfl)
theorem dX4_init_6 : decode cX4_init 6 = .ok (.putfield 7, 3) := dk_181 0 7 (dk_at dksX4_init_0 6 rfl rfl)
theorem dX4_init_9 : decode cX4_init 9 = .ok (.return_, 1) := dk_177 (dk_at dksX4_init_0 9 rfl rfl)
theorem q126 : (Jvm.Cond.initialized "LadderLots$Step") ∈ lw_all := lw_g (lw_at lw_m1 8 rfl) rfl
theorem q407 : (Jvm.Cond.instanceMethod ({ cls := "LadderLots$Step", name := "<init>", desc := "(I)V" } : Jvm.MethodName)) ∈ lw_all := lw_g (lw_at lw_m2 49 rfl) rfl
theorem q408 : (Jvm.Cond.code ({ cls := "LadderLots$Step", name := "<init>", desc := "(I)V" } : Jvm.MethodName) prog_11_method_1_code (2 : Nat) (Option.none : Option Jvm.ClassFile.FieldType)) ∈ lw_all := lw_g (lw_at lw_m2 50 rfl) rfl
theorem q409 : (Jvm.Cond.methodLink "LadderLots$Step" (1 : Nat) ({ cls := "java/lang/Object", name := "<init>", desc := "()V" } : Jvm.MethodName)) ∈ lw_all := lw_g (lw_at lw_m2 51 rfl) rfl
theorem q410 : (Jvm.Cond.fieldLink "LadderLots$Step" (7 : Nat) "LadderLots$Step" "leg" "I") ∈ lw_all := lw_g (lw_at lw_m2 52 rfl) rfl
theorem q423 : (Jvm.Cond.soleField "LadderLots$Step" "leg") ∈ lw_all := lw_g (lw_at lw_m2 65 rfl) rfl
theorem q847 : (Jvm.Cond.declares ({ cls := "LadderLots$Step", name := "sort", desc := "()I" } : Jvm.MethodName)) ∈ lw_tbl := lw_at lw_m4 9 rfl
theorem q848 : (Jvm.Cond.sameMethod "LadderLots$Step" "LadderLots$Step" "sort" "()I") ∈ lw_all := lw_g (lw_at lw_m4 10 rfl) rfl
theorem q915 : (Jvm.Cond.declares ({ cls := "LadderLots$Step", name := "turned", desc := "(I)LLadderLots$Step;" } : Jvm.MethodName)) ∈ lw_tbl := lw_at lw_m4 77 rfl
theorem q916 : (Jvm.Cond.sameMethod "LadderLots$Step" "LadderLots$Step" "turned" "(I)LLadderLots$Step;") ∈ lw_all := lw_g (lw_at lw_m4 78 rfl) rfl
theorem q1073 : (Jvm.Cond.declares ({ cls := "LadderLots$Step", name := "changes", desc := "(IIZ)Z" } : Jvm.MethodName)) ∈ lw_tbl := lw_at lw_m4 235 rfl
theorem q1074 : (Jvm.Cond.sameMethod "LadderLots$Step" "LadderLots$Step" "changes" "(IIZ)Z") ∈ lw_all := lw_g (lw_at lw_m4 236 rfl) rfl
theorem q1961 : (Jvm.Cond.castable "LadderLots$Step" "java/lang/Object") ∈ lw_tbl := lw_at lw_m8 163 rfl

/-! LadderLots$Gate -/
set_option maxRecDepth 100000
def RX5 : String := "LadderLots$Gate"
def TX5 : u_T := fun k => match k with
  | _ => ("LadderLots$Step", "leg", "I", true)
def tyX5 : Nat → FieldType := fun k => match k with
  | _ => .int
abbrev wsX50 : List Cond := u_ws RX5 TX5 1
theorem nmX5 : ∀ a, a < 1 → ∀ b, b < 1 → a ≠ b → (TX5 a).2.1 ≠ (TX5 b).2.1 := by decide +kernel
theorem tyX5_ok : ∀ k, k < 1 → parseFieldDescriptor (TX5 k).2.2.1 = some (tyX5 k) := by decide +kernel
abbrev cX5_init : ByteArray := prog_4_method_1_code
def yX5_init : MethodName := ⟨RX5, "<init>", "(I)V"⟩
def dkwX5_init_0 : List UInt8 := [42, 27, 183, 0, 1, 177]
abbrev dktX5_init_0 : List UInt8 := dkwX5_init_0 ++ []
theorem dksX5_init_0 : cX5_init.data.toList.drop 0 = dktX5_init_0 := by decide +kernel
theorem dX5_init_0 : decode cX5_init 0 = .ok (.aload_n 0, 1) := dk_42 (dk_at dksX5_init_0 0 rfl rfl)
theorem dX5_init_1 : decode cX5_init 1 = .ok (.iload_n 1, 1) := dk_27 (dk_at dksX5_init_0 1 rfl rfl)
theorem dX5_init_2 : decode cX5_init 2 = .ok (.invokespecial 1, 3) := dk_183 0 1 (dk_at dksX5_init_0 2 rfl rfl)
theorem dX5_init_5 : decode cX5_init 5 = .ok (.return_, 1) := dk_177 (dk_at dksX5_init_0 5 rfl rfl)
abbrev cX5_sort : ByteArray := prog_4_method_2_code
def yX5_sort : MethodName := ⟨RX5, "sort", "()I"⟩
theorem dX5_sort_0 : decode cX5_sort 0 = .ok (.iconst 1, 1) := by decide +kernel
theorem dX5_sort_1 : decode cX5_sort 1 = .ok (.ireturn, 1) := by decide +kernel
abbrev cX5_turned : ByteArray := prog_4_method_4_code
def yX5_turned : MethodName := ⟨RX5, "turned", "(I)LLadderLots$Step;"⟩
def dkwX5_turned_0 : List UInt8 := [187, 0, 7, 89, 27, 5, 100, 42, 180, 0, 9, 100, 183, 0, 15, 176]
abbrev dktX5_turned_0 : List UInt8 := dkwX5_turned_0 ++ []
theorem dksX5_turned_0 : cX5_turned.data.toList.drop 0 = dktX5_turned_0 := by decide +kernel
theorem dX5_turned_0 : decode cX5_turned 0 = .ok (.new 7, 3) := dk_187 0 7 (dk_at dksX5_turned_0 0 rfl rfl)
theorem dX5_turned_3 : decode cX5_turned 3 = .ok (.dup, 1) := dk_89 (dk_at dksX5_turned_0 3 rfl rfl)
theorem dX5_turned_4 : decode cX5_turned 4 = .ok (.iload_n 1, 1) := dk_27 (dk_at dksX5_turned_0 4 rfl rfl)
theorem dX5_turned_5 : decode cX5_turned 5 = .ok (.iconst 2, 1) := dk_5 (dk_at dksX5_turned_0 5 rfl rfl)
theorem dX5_turned_6 : decode cX5_turned 6 = .ok (.isub, 1) := dk_100 (dk_at dksX5_turned_0 6 rfl rfl)
theorem dX5_turned_7 : decode cX5_turned 7 = .ok (.aload_n 0, 1) := dk_42 (dk_at dksX5_turned_0 7 rfl rfl)
theorem dX5_turned_8 : decode cX5_turned 8 = .ok (.getfield 9, 3) := dk_180 0 9 (dk_at dksX5_turned_0 8 rfl rfl)
theorem dX5_turned_11 : decode cX5_turned 11 = .ok (.isub, 1) := dk_100 (dk_at dksX5_turned_0 11 rfl rfl)
theorem dX5_turned_12 : decode cX5_turned 12 = .ok (.invokespecial 15, 3) := dk_183 0 15 (dk_at dksX5_turned_0 12 rfl rfl)
theorem dX5_turned_15 : decode cX5_turned 15 = .ok (.areturn, 1) := dk_176 (dk_at dksX5_turned_0 15 rfl rfl)
abbrev cX5_changes : ByteArray := prog_4_method_3_code
def yX5_changes : MethodName := ⟨RX5, "changes", "(IIZ)Z"⟩
def dkwX5_changes_0 : List UInt8 := [27, 28, 164, 0, 7, 4, 167, 0, 4, 3, 172]
abbrev dktX5_changes_0 : List UInt8 := dkwX5_changes_0 ++ []
theorem dksX5_changes_0 : cX5_changes.data.toList.drop 0 = dktX5_changes_0 := by decide +kernel
theorem dX5_changes_0 : decode cX5_changes 0 = .ok (.iload_n 1, 1) := dk_27 (dk_at dksX5_changes_0 0 rfl rfl)
theorem dX5_changes_1 : decode cX5_changes 1 = .ok (.iload_n 2, 1) := dk_28 (dk_at dksX5_changes_0 1 rfl rfl)
theorem dX5_changes_2 : decode cX5_changes 2 = .ok (.if_icmp .le 7, 3) := dk_164 0 7 (dk_at dksX5_changes_0 2 rfl rfl)
theorem dX5_changes_5 : decode cX5_changes 5 = .ok (.iconst 1, 1) := dk_4 (dk_at dksX5_changes_0 5 rfl rfl)
theorem dX5_changes_6 : decode cX5_changes 6 = .ok (.goto 4, 3) := dk_167 0 4 (dk_at dksX5_changes_0 6 rfl rfl)
theorem dX5_changes_9 : decode cX5_changes 9 = .ok (.iconst 0, 1) := dk_3 (dk_at dksX5_changes_0 9 rfl rfl)
theorem dX5_changes_10 : decode cX5_changes 10 = .ok (.ireturn, 1) := dk_172 (dk_at dksX5_changes_0 10 rfl rfl)
theorem q127 : (Jvm.Cond.initialized "LadderLots$Gate") ∈ lw_all := lw_g (lw_at lw_m1 9 rfl) rfl
theorem q402 : (Jvm.Cond.instantiable "LadderLots$Gate" (1 : Nat)) ∈ lw_all := lw_g (lw_at lw_m2 44 rfl) rfl
theorem q404 : (Jvm.Cond.instanceMethod ({ cls := "LadderLots$Gate", name := "<init>", desc := "(I)V" } : Jvm.MethodName)) ∈ lw_all := lw_g (lw_at lw_m2 46 rfl) rfl
theorem q405 : (Jvm.Cond.code ({ cls := "LadderLots$Gate", name := "<init>", desc := "(I)V" } : Jvm.MethodName) prog_4_method_1_code (2 : Nat) (Option.none : Option Jvm.ClassFile.FieldType)) ∈ lw_all := lw_g (lw_at lw_m2 47 rfl) rfl
theorem q406 : (Jvm.Cond.methodLink "LadderLots$Gate" (1 : Nat) ({ cls := "LadderLots$Step", name := "<init>", desc := "(I)V" } : Jvm.MethodName)) ∈ lw_all := lw_g (lw_at lw_m2 48 rfl) rfl
theorem q413 : (Jvm.Cond.fieldLink "LadderLots$Gate" (9 : Nat) "LadderLots$Gate" "leg" "I") ∈ lw_all := lw_g (lw_at lw_m2 55 rfl) rfl
theorem q414 : (Jvm.Cond.sameField "LadderLots$Gate" "LadderLots$Step" "leg" "I") ∈ lw_all := lw_g (lw_at lw_m2 56 rfl) rfl
theorem q422 : (Jvm.Cond.laysFinal "LadderLots$Gate" "LadderLots$Step" "leg" "I") ∈ lw_all := lw_g (lw_at lw_m2 64 rfl) rfl
theorem q424 : (Jvm.Cond.superclass "LadderLots$Gate" "LadderLots$Step") ∈ lw_all := lw_g (lw_at lw_m2 66 rfl) rfl
theorem q823 : (Jvm.Cond.selects "LadderLots$Gate" ({ cls := "java/lang/Object", name := "getClass", desc := "()Ljava/lang/Class;" } : Jvm.MethodName) ({ cls := "java/lang/Object", name := "getClass", desc := "()Ljava/lang/Class;" } : Jvm.MethodName)) ∈ lw_all := lw_g (lw_at lw_m3 225 rfl) rfl
theorem q852 : (Jvm.Cond.selects "LadderLots$Gate" ({ cls := "LadderLots$Step", name := "sort", desc := "()I" } : Jvm.MethodName) ({ cls := "LadderLots$Gate", name := "sort", desc := "()I" } : Jvm.MethodName)) ∈ lw_all := lw_g (lw_at lw_m4 14 rfl) rfl
theorem q853 : (Jvm.Cond.instanceMethod ({ cls := "LadderLots$Gate", name := "sort", desc := "()I" } : Jvm.MethodName)) ∈ lw_all := lw_g (lw_at lw_m4 15 rfl) rfl
theorem q854 : (Jvm.Cond.code ({ cls := "LadderLots$Gate", name := "sort", desc := "()I" } : Jvm.MethodName) prog_4_method_2_code (1 : Nat) (Option.some Jvm.ClassFile.FieldType.int)) ∈ lw_all := lw_g (lw_at lw_m4 16 rfl) rfl
theorem q921 : (Jvm.Cond.selects "LadderLots$Gate" ({ cls := "LadderLots$Step", name := "turned", desc := "(I)LLadderLots$Step;" } : Jvm.MethodName) ({ cls := "LadderLots$Gate", name := "turned", desc := "(I)LLadderLots$Step;" } : Jvm.MethodName)) ∈ lw_all := lw_g (lw_at lw_m4 83 rfl) rfl
theorem q922 : (Jvm.Cond.instanceMethod ({ cls := "LadderLots$Gate", name := "turned", desc := "(I)LLadderLots$Step;" } : Jvm.MethodName)) ∈ lw_all := lw_g (lw_at lw_m4 84 rfl) rfl
theorem q923 : (Jvm.Cond.code ({ cls := "LadderLots$Gate", name := "turned", desc := "(I)LLadderLots$Step;" } : Jvm.MethodName) prog_4_method_4_code (2 : Nat) (Option.some (Jvm.ClassFile.FieldType.object "LadderLots$Step"))) ∈ lw_all := lw_g (lw_at lw_m4 85 rfl) rfl
theorem q924 : (Jvm.Cond.classLink "LadderLots$Gate" (7 : Nat) "LadderLots$Back") ∈ lw_all := lw_g (lw_at lw_m4 86 rfl) rfl
theorem q925 : (Jvm.Cond.methodLink "LadderLots$Gate" (15 : Nat) ({ cls := "LadderLots$Back", name := "<init>", desc := "(I)V" } : Jvm.MethodName)) ∈ lw_all := lw_g (lw_at lw_m4 87 rfl) rfl
theorem q1079 : (Jvm.Cond.instanceMethod ({ cls := "LadderLots$Gate", name := "changes", desc := "(IIZ)Z" } : Jvm.MethodName)) ∈ lw_all := lw_g (lw_at lw_m5 1 rfl) rfl
theorem q1080 : (Jvm.Cond.code ({ cls := "LadderLots$Gate", name := "changes", desc := "(IIZ)Z" } : Jvm.MethodName) prog_4_method_3_code (4 : Nat) (Option.some Jvm.ClassFile.FieldType.boolean)) ∈ lw_all := lw_g (lw_at lw_m5 2 rfl) rfl
theorem q1081 : (Jvm.Cond.selects "LadderLots$Gate" ({ cls := "LadderLots$Step", name := "changes", desc := "(IIZ)Z" } : Jvm.MethodName) ({ cls := "LadderLots$Gate", name := "changes", desc := "(IIZ)Z" } : Jvm.MethodName)) ∈ lw_all := lw_g (lw_at lw_m5 3 rfl) rfl
theorem q1954 : (Jvm.Cond.sameMethod "LadderLots$Gate" "LadderLots$Gate" "changes" "(IIZ)Z") ∈ lw_all := lw_g (lw_at lw_m8 156 rfl) rfl
theorem q1957 : (Jvm.Cond.castable "LadderLots$Gate" "LadderLots$Step") ∈ lw_tbl := lw_at lw_m8 159 rfl
theorem q1968 : (Jvm.Cond.castable "LadderLots$Gate" "java/lang/Object") ∈ lw_tbl := lw_at lw_m8 170 rfl
theorem in_X5 : ∀ w ∈ wsX50, w ∈ lw_all := lw_in wsX50 [422] (by decide +kernel) (by decide +kernel)

/-! LadderLots$Fault -/
set_option maxRecDepth 100000
def RX7 : String := "LadderLots$Fault"
def TX7 : u_T := fun k => match k with
  | 0 => ("java/lang/Throwable", "cause", "Ljava/lang/Throwable;", false)
  | 1 => ("java/lang/Throwable", "stackTrace", "[Ljava/lang/StackTraceElement;", false)
  | 2 => ("java/lang/Throwable", "suppressedExceptions", "Ljava/util/List;", false)
  | 3 => ("java/lang/Throwable", "detailMessage", "Ljava/lang/String;", false)
  | 4 => ("java/lang/Throwable", "backtrace", "Ljava/lang/Object;", false)
  | 5 => ("java/lang/Throwable", "depth", "I", false)
  | 6 => ("LadderLots$Fault", "kind", "I", true)
  | _ => ("LadderLots$Fault", "place", "I", true)
def tyX7 : Nat → FieldType := fun k => match k with
  | 0 => .object "java/lang/Throwable"
  | 1 => .array (.object "java/lang/StackTraceElement")
  | 2 => .object "java/util/List"
  | 3 => .object "java/lang/String"
  | 4 => .object "java/lang/Object"
  | 5 => .int
  | 6 => .int
  | _ => .int
abbrev wsX70 : List Cond := u_ws RX7 TX7 8
theorem nmX7 : ∀ a, a < 8 → ∀ b, b < 8 → a ≠ b → (TX7 a).2.1 ≠ (TX7 b).2.1 := by decide +kernel
theorem tyX7_ok : ∀ k, k < 8 → parseFieldDescriptor (TX7 k).2.2.1 = some (tyX7 k) := by decide +kernel
abbrev cX7_init : ByteArray := prog_3_method_1_code
def yX7_init : MethodName := ⟨RX7, "<init>", "(II)V"⟩
def dkwX7_init_0 : List UInt8 := [42, 1, 1, 3, 3, 183, 0, 1, 42, 27, 181, 0, 7, 42, 28, 181, 0, 13, 177]
abbrev dktX7_init_0 : List UInt8 := dkwX7_init_0 ++ []
theorem dksX7_init_0 : cX7_init.data.toList.drop 0 = dktX7_init_0 := by decide +kernel
theorem dX7_init_0 : decode cX7_init 0 = .ok (.aload_n 0, 1) := dk_42 (dk_at dksX7_init_0 0 rfl rfl)
theorem dX7_init_1 : decode cX7_init 1 = .ok (.aconst_null, 1) := dk_1 (dk_at dksX7_init_0 1 rfl rfl)
theorem dX7_init_2 : decode cX7_init 2 = .ok (.aconst_null, 1) := dk_1 (dk_at dksX7_init_0 2 rfl rfl)
theorem dX7_init_3 : decode cX7_init 3 = .ok (.iconst 0, 1) := dk_3 (dk_at dksX7_init_0 3 rfl rfl)
theorem dX7_init_4 : decode cX7_init 4 = .ok (.iconst 0, 1) := dk_3 (dk_at dksX7_init_0 4 rfl rfl)
theorem dX7_init_5 : decode cX7_init 5 = .ok (.invokespecial 1, 3) := dk_183 0 1 (dk_at dksX7_init_0 5 rfl rfl)
theorem dX7_init_8 : decode cX7_init 8 = .ok (.aload_n 0, 1) := dk_42 (dk_at dksX7_init_0 8 rfl rfl)
theorem dX7_init_9 : decode cX7_init 9 = .ok (.iload_n 1, 1) := dk_27 (dk_at dksX7_init_0 9 rfl rfl)
theorem dX7_init_10 : decode cX7_init 10 = .ok (.putfield 7, 3) := dk_181 0 7 (dk_at dksX7_init_0 10 rfl rfl)
theorem dX7_init_13 : decode cX7_init 13 = .ok (.aload_n 0, 1) := dk_42 (dk_at dksX7_init_0 13 rfl rfl)
theorem dX7_init_14 : decode cX7_init 14 = .ok (.iload_n 2, 1) := dk_28 (dk_at dksX7_init_0 14 rfl rfl)
theorem dX7_init_15 : decode cX7_init 15 = .ok (.putfield 13, 3) := dk_181 0 13 (dk_at dksX7_init_0 15 rfl rfl)
theorem dX7_init_18 : decode cX7_init 18 = .ok (.return_, 1) := dk_177 (dk_at dksX7_init_0 18 rfl rfl)
theorem q136 : (Jvm.Cond.initialized "LadderLots$Fault") ∈ lw_all := lw_g (lw_at lw_m1 18 rfl) rfl
theorem q649 : (Jvm.Cond.instantiable "LadderLots$Fault" (8 : Nat)) ∈ lw_all := lw_g (lw_at lw_m3 51 rfl) rfl
theorem q650 : (Jvm.Cond.castable "LadderLots$Fault" "LadderLots$Fault") ∈ lw_tbl := lw_at lw_m3 52 rfl
theorem q657 : (Jvm.Cond.selects "LadderLots$Fault" ({ cls := "java/lang/Throwable", name := "fillInStackTrace", desc := "(I)Ljava/lang/Throwable;" } : Jvm.MethodName) ({ cls := "java/lang/Throwable", name := "fillInStackTrace", desc := "(I)Ljava/lang/Throwable;" } : Jvm.MethodName)) ∈ lw_all := lw_g (lw_at lw_m3 59 rfl) rfl
theorem q658 : (Jvm.Cond.selects "LadderLots$Fault" ({ cls := "java/lang/Throwable", name := "fillInStackTrace", desc := "()Ljava/lang/Throwable;" } : Jvm.MethodName) ({ cls := "java/lang/Throwable", name := "fillInStackTrace", desc := "()Ljava/lang/Throwable;" } : Jvm.MethodName)) ∈ lw_all := lw_g (lw_at lw_m3 60 rfl) rfl
theorem q659 : (Jvm.Cond.lays "LadderLots$Fault" "java/lang/Throwable" "cause" "Ljava/lang/Throwable;") ∈ lw_all := lw_g (lw_at lw_m3 61 rfl) rfl
theorem q661 : (Jvm.Cond.lays "LadderLots$Fault" "java/lang/Throwable" "stackTrace" "[Ljava/lang/StackTraceElement;") ∈ lw_all := lw_g (lw_at lw_m3 63 rfl) rfl
theorem q663 : (Jvm.Cond.lays "LadderLots$Fault" "java/lang/Throwable" "suppressedExceptions" "Ljava/util/List;") ∈ lw_all := lw_g (lw_at lw_m3 65 rfl) rfl
theorem q665 : (Jvm.Cond.lays "LadderLots$Fault" "java/lang/Throwable" "detailMessage" "Ljava/lang/String;") ∈ lw_all := lw_g (lw_at lw_m3 67 rfl) rfl
theorem q667 : (Jvm.Cond.lays "LadderLots$Fault" "java/lang/Throwable" "backtrace" "Ljava/lang/Object;") ∈ lw_all := lw_g (lw_at lw_m3 69 rfl) rfl
theorem q688 : (Jvm.Cond.instanceMethod ({ cls := "LadderLots$Fault", name := "<init>", desc := "(II)V" } : Jvm.MethodName)) ∈ lw_all := lw_g (lw_at lw_m3 90 rfl) rfl
theorem q689 : (Jvm.Cond.code ({ cls := "LadderLots$Fault", name := "<init>", desc := "(II)V" } : Jvm.MethodName) prog_3_method_1_code (3 : Nat) (Option.none : Option Jvm.ClassFile.FieldType)) ∈ lw_all := lw_g (lw_at lw_m3 91 rfl) rfl
theorem q690 : (Jvm.Cond.methodLink "LadderLots$Fault" (1 : Nat) ({ cls := "java/lang/RuntimeException", name := "<init>", desc := "(Ljava/lang/String;Ljava/lang/Throwable;ZZ)V" } : Jvm.MethodName)) ∈ lw_all := lw_g (lw_at lw_m3 92 rfl) rfl
theorem q699 : (Jvm.Cond.fieldLink "LadderLots$Fault" (7 : Nat) "LadderLots$Fault" "kind" "I") ∈ lw_all := lw_g (lw_at lw_m3 101 rfl) rfl
theorem q701 : (Jvm.Cond.fieldLink "LadderLots$Fault" (13 : Nat) "LadderLots$Fault" "place" "I") ∈ lw_all := lw_g (lw_at lw_m3 103 rfl) rfl
theorem q708 : (Jvm.Cond.laysFinal "LadderLots$Fault" "LadderLots$Fault" "kind" "I") ∈ lw_all := lw_g (lw_at lw_m3 110 rfl) rfl
theorem q709 : (Jvm.Cond.soleField "LadderLots$Fault" "kind") ∈ lw_all := lw_g (lw_at lw_m3 111 rfl) rfl
theorem q710 : (Jvm.Cond.laysFinal "LadderLots$Fault" "LadderLots$Fault" "place" "I") ∈ lw_all := lw_g (lw_at lw_m3 112 rfl) rfl
theorem q711 : (Jvm.Cond.soleField "LadderLots$Fault" "place") ∈ lw_all := lw_g (lw_at lw_m3 113 rfl) rfl
theorem q716 : (Jvm.Cond.lays "LadderLots$Fault" "java/lang/Throwable" "depth" "I") ∈ lw_all := lw_g (lw_at lw_m3 118 rfl) rfl
theorem q719 : (Jvm.Cond.superclass "LadderLots$Fault" "java/lang/RuntimeException") ∈ lw_all := lw_g (lw_at lw_m3 121 rfl) rfl
theorem q822 : (Jvm.Cond.selects "LadderLots$Fault" ({ cls := "java/lang/Object", name := "getClass", desc := "()Ljava/lang/Class;" } : Jvm.MethodName) ({ cls := "java/lang/Object", name := "getClass", desc := "()Ljava/lang/Class;" } : Jvm.MethodName)) ∈ lw_all := lw_g (lw_at lw_m3 224 rfl) rfl
theorem q1970 : (Jvm.Cond.castable "LadderLots$Fault" "java/lang/Object") ∈ lw_tbl := lw_at lw_m8 172 rfl
theorem in_X7 : ∀ w ∈ wsX70, w ∈ lw_all := lw_in wsX70 [659, 661, 663, 665, 667, 716, 708, 710] (by decide +kernel) (by decide +kernel)

/-! LadderLots$Steps -/
set_option maxRecDepth 100000
def RX8 : String := "LadderLots$Steps"
def TX8 : u_T := fun k => match k with
  | 0 => ("LadderLots$Steps", "list", "Ljava/util/ArrayList;", true)
  | 1 => ("LadderLots$Steps", "size", "I", false)
  | _ => ("LadderLots$Steps", "maybes", "I", false)
def tyX8 : Nat → FieldType := fun k => match k with
  | 0 => .object "java/util/ArrayList"
  | 1 => .int
  | _ => .int
abbrev wsX80 : List Cond := u_ws RX8 TX8 3
theorem nmX8 : ∀ a, a < 3 → ∀ b, b < 3 → a ≠ b → (TX8 a).2.1 ≠ (TX8 b).2.1 := by decide +kernel
theorem tyX8_ok : ∀ k, k < 3 → parseFieldDescriptor (TX8 k).2.2.1 = some (tyX8 k) := by decide +kernel
abbrev cX8_init : ByteArray := prog_12_method_1_code
def yX8_init : MethodName := ⟨RX8, "<init>", "()V"⟩
def dkwX8_init_0 : List UInt8 := [42, 183, 0, 3, 42, 187, 0, 9, 89, 183, 0, 11, 181, 0, 12, 177]
abbrev dktX8_init_0 : List UInt8 := dkwX8_init_0 ++ []
theorem dksX8_init_0 : cX8_init.data.toList.drop 0 = dktX8_init_0 := by decide +kernel
theorem dX8_init_0 : decode cX8_init 0 = .ok (.aload_n 0, 1) := dk_42 (dk_at dksX8_init_0 0 rfl rfl)
theorem dX8_init_1 : decode cX8_init 1 = .ok (.invokespecial 3, 3) := dk_183 0 3 (dk_at dksX8_init_0 1 rfl rfl)
theorem dX8_init_4 : decode cX8_init 4 = .ok (.aload_n 0, 1) := dk_42 (dk_at dksX8_init_0 4 rfl rfl)
theorem dX8_init_5 : decode cX8_init 5 = .ok (.new 9, 3) := dk_187 0 9 (dk_at dksX8_init_0 5 rfl rfl)
theorem dX8_init_8 : decode cX8_init 8 = .ok (.dup, 1) := dk_89 (dk_at dksX8_init_0 8 rfl rfl)
theorem dX8_init_9 : decode cX8_init 9 = .ok (.invokespecial 11, 3) := dk_183 0 11 (dk_at dksX8_init_0 9 rfl rfl)
theorem dX8_init_12 : decode cX8_init 12 = .ok (.putfield 12, 3) := dk_181 0 12 (dk_at dksX8_init_0 12 rfl rfl)
theorem dX8_init_15 : decode cX8_init 15 = .ok (.return_, 1) := dk_177 (dk_at dksX8_init_0 15 rfl rfl)
abbrev cX8_add : ByteArray := prog_12_method_2_code
def yX8_add : MethodName := ⟨RX8, "add", "(LLadderLots$Step;)V"⟩
def dkwX8_add_2 : List UInt8 := [180, 0, 41, 4, 96, 18, 29, 184, 0, 30, 181, 0, 41, 177]
abbrev dktX8_add_2 : List UInt8 := dkwX8_add_2 ++ []
def dkwX8_add_1 : List UInt8 := [180, 0, 26, 4, 96, 18, 29, 184, 0, 30, 181, 0, 26, 43, 182, 0, 36, 6, 160, 0, 18, 42, 42]
abbrev dktX8_add_1 : List UInt8 := dkwX8_add_1 ++ dktX8_add_2
def dkwX8_add_0 : List UInt8 := [42, 180, 0, 12, 182, 0, 18, 17, 0, 200, 162, 0, 12, 42, 180, 0, 12, 43, 182, 0, 22, 87, 42, 42]
abbrev dktX8_add_0 : List UInt8 := dkwX8_add_0 ++ dktX8_add_1
theorem dksX8_add_0 : cX8_add.data.toList.drop 0 = dktX8_add_0 := by decide +kernel
theorem dksX8_add_1 : cX8_add.data.toList.drop 24 = dktX8_add_1 := dk_seg dksX8_add_0 24 rfl rfl
theorem dksX8_add_2 : cX8_add.data.toList.drop 47 = dktX8_add_2 := dk_seg dksX8_add_1 23 rfl rfl
theorem dX8_add_0 : decode cX8_add 0 = .ok (.aload_n 0, 1) := dk_42 (dk_at dksX8_add_0 0 rfl rfl)
theorem dX8_add_1 : decode cX8_add 1 = .ok (.getfield 12, 3) := dk_180 0 12 (dk_at dksX8_add_0 1 rfl rfl)
theorem dX8_add_4 : decode cX8_add 4 = .ok (.invokevirtual 18, 3) := dk_182 0 18 (dk_at dksX8_add_0 4 rfl rfl)
theorem dX8_add_7 : decode cX8_add 7 = .ok (.sipush 200, 3) := dk_17 0 200 (dk_at dksX8_add_0 7 rfl rfl)
theorem dX8_add_10 : decode cX8_add 10 = .ok (.if_icmp .ge 12, 3) := dk_162 0 12 (dk_at dksX8_add_0 10 rfl rfl)
theorem dX8_add_13 : decode cX8_add 13 = .ok (.aload_n 0, 1) := dk_42 (dk_at dksX8_add_0 13 rfl rfl)
theorem dX8_add_14 : decode cX8_add 14 = .ok (.getfield 12, 3) := dk_180 0 12 (dk_at dksX8_add_0 14 rfl rfl)
theorem dX8_add_17 : decode cX8_add 17 = .ok (.aload_n 1, 1) := dk_43 (dk_at dksX8_add_0 17 rfl rfl)
theorem dX8_add_18 : decode cX8_add 18 = .ok (.invokevirtual 22, 3) := dk_182 0 22 (dk_at dksX8_add_0 18 rfl rfl)
theorem dX8_add_21 : decode cX8_add 21 = .ok (.pop, 1) := dk_87 (dk_at dksX8_add_0 21 rfl rfl)
theorem dX8_add_22 : decode cX8_add 22 = .ok (.aload_n 0, 1) := dk_42 (dk_at dksX8_add_0 22 rfl rfl)
theorem dX8_add_23 : decode cX8_add 23 = .ok (.aload_n 0, 1) := dk_42 (dk_at dksX8_add_0 23 rfl rfl)
theorem dX8_add_24 : decode cX8_add 24 = .ok (.getfield 26, 3) := dk_180 0 26 (dk_at dksX8_add_1 0 rfl rfl)
theorem dX8_add_27 : decode cX8_add 27 = .ok (.iconst 1, 1) := dk_4 (dk_at dksX8_add_1 3 rfl rfl)
theorem dX8_add_28 : decode cX8_add 28 = .ok (.iadd, 1) := dk_96 (dk_at dksX8_add_1 4 rfl rfl)
theorem dX8_add_29 : decode cX8_add 29 = .ok (.ldc 29, 2) := dk_18 29 (dk_at dksX8_add_1 5 rfl rfl)
theorem dX8_add_31 : decode cX8_add 31 = .ok (.invokestatic 30, 3) := dk_184 0 30 (dk_at dksX8_add_1 7 rfl rfl)
theorem dX8_add_34 : decode cX8_add 34 = .ok (.putfield 26, 3) := dk_181 0 26 (dk_at dksX8_add_1 10 rfl rfl)
theorem dX8_add_37 : decode cX8_add 37 = .ok (.aload_n 1, 1) := dk_43 (dk_at dksX8_add_1 13 rfl rfl)
theorem dX8_add_38 : decode cX8_add 38 = .ok (.invokevirtual 36, 3) := dk_182 0 36 (dk_at dksX8_add_1 14 rfl rfl)
theorem dX8_add_41 : decode cX8_add 41 = .ok (.iconst 3, 1) := dk_6 (dk_at dksX8_add_1 17 rfl rfl)
theorem dX8_add_42 : decode cX8_add 42 = .ok (.if_icmp .ne 18, 3) := dk_160 0 18 (dk_at dksX8_add_1 18 rfl rfl)
theorem dX8_add_45 : decode cX8_add 45 = .ok (.aload_n 0, 1) := dk_42 (dk_at dksX8_add_1 21 rfl rfl)
theorem dX8_add_46 : decode cX8_add 46 = .ok (.aload_n 0, 1) := dk_42 (dk_at dksX8_add_1 22 rfl rfl)
theorem dX8_add_47 : decode cX8_add 47 = .ok (.getfield 41, 3) := dk_180 0 41 (dk_at dksX8_add_2 0 rfl rfl)
theorem dX8_add_50 : decode cX8_add 50 = .ok (.iconst 1, 1) := dk_4 (dk_at dksX8_add_2 3 rfl rfl)
theorem dX8_add_51 : decode cX8_add 51 = .ok (.iadd, 1) := dk_96 (dk_at dksX8_add_2 4 rfl rfl)
theorem dX8_add_52 : decode cX8_add 52 = .ok (.ldc 29, 2) := dk_18 29 (dk_at dksX8_add_2 5 rfl rfl)
theorem dX8_add_54 : decode cX8_add 54 = .ok (.invokestatic 30, 3) := dk_184 0 30 (dk_at dksX8_add_2 7 rfl rfl)
theorem dX8_add_57 : decode cX8_add 57 = .ok (.putfield 41, 3) := dk_181 0 41 (dk_at dksX8_add_2 10 rfl rfl)
theorem dX8_add_60 : decode cX8_add 60 = .ok (.return_, 1) := dk_177 (dk_at dksX8_add_2 13 rfl rfl)
abbrev cX8_changed : ByteArray := prog_12_method_4_code
def yX8_changed : MethodName := ⟨RX8, "changed", "(ZZI)LLadderLots$Steps;"⟩
def dkwX8_changed_4 : List UInt8 := [181, 0, 26, 25, 4, 42, 180, 0, 41, 181, 0, 41, 25, 4, 176]
abbrev dktX8_changed_4 : List UInt8 := dkwX8_changed_4 ++ []
def dkwX8_changed_3 : List UInt8 := [182, 0, 49, 167, 0, 5, 25, 7, 182, 0, 22, 87, 132, 6, 1, 167, 255, 194, 25, 4, 42, 180, 0, 26]
abbrev dktX8_changed_3 : List UInt8 := dkwX8_changed_3 ++ dktX8_changed_4
def dkwX8_changed_2 : List UInt8 := [21, 6, 182, 0, 44, 192, 0, 37, 58, 7, 25, 4, 180, 0, 12, 28, 153, 0, 12, 25, 7, 29]
abbrev dktX8_changed_2 : List UInt8 := dkwX8_changed_2 ++ dktX8_changed_3
def dkwX8_changed_1 : List UInt8 := [21, 5, 162, 0, 61, 42, 180, 0, 12, 27, 153, 0, 13, 21, 5, 4, 100, 21, 6, 100, 167, 0, 5]
abbrev dktX8_changed_1 : List UInt8 := dkwX8_changed_1 ++ dktX8_changed_2
def dkwX8_changed_0 : List UInt8 := [187, 0, 13, 89, 183, 0, 48, 58, 4, 42, 180, 0, 12, 182, 0, 18, 54, 5, 3, 54, 6, 21, 6]
abbrev dktX8_changed_0 : List UInt8 := dkwX8_changed_0 ++ dktX8_changed_1
theorem dksX8_changed_0 : cX8_changed.data.toList.drop 0 = dktX8_changed_0 := by decide +kernel
theorem dksX8_changed_1 : cX8_changed.data.toList.drop 23 = dktX8_changed_1 := dk_seg dksX8_changed_0 23 rfl rfl
theorem dksX8_changed_2 : cX8_changed.data.toList.drop 46 = dktX8_changed_2 := dk_seg dksX8_changed_1 23 rfl rfl
theorem dksX8_changed_3 : cX8_changed.data.toList.drop 68 = dktX8_changed_3 := dk_seg dksX8_changed_2 22 rfl rfl
theorem dksX8_changed_4 : cX8_changed.data.toList.drop 92 = dktX8_changed_4 := dk_seg dksX8_changed_3 24 rfl rfl
theorem dX8_changed_0 : decode cX8_changed 0 = .ok (.new 13, 3) := dk_187 0 13 (dk_at dksX8_changed_0 0 rfl rfl)
theorem dX8_changed_3 : decode cX8_changed 3 = .ok (.dup, 1) := dk_89 (dk_at dksX8_changed_0 3 rfl rfl)
theorem dX8_changed_4 : decode cX8_changed 4 = .ok (.invokespecial 48, 3) := dk_183 0 48 (dk_at dksX8_changed_0 4 rfl rfl)
theorem dX8_changed_7 : decode cX8_changed 7 = .ok (.astore 4, 2) := dk_58 4 (dk_at dksX8_changed_0 7 rfl rfl)
theorem dX8_changed_9 : decode cX8_changed 9 = .ok (.aload_n 0, 1) := dk_42 (dk_at dksX8_changed_0 9 rfl rfl)
theorem dX8_changed_10 : decode cX8_changed 10 = .ok (.getfield 12, 3) := dk_180 0 12 (dk_at dksX8_changed_0 10 rfl rfl)
theorem dX8_changed_13 : decode cX8_changed 13 = .ok (.invokevirtual 18, 3) := dk_182 0 18 (dk_at dksX8_changed_0 13 rfl rfl)
theorem dX8_changed_16 : decode cX8_changed 16 = .ok (.istore 5, 2) := dk_54 5 (dk_at dksX8_changed_0 16 rfl rfl)
theorem dX8_changed_18 : decode cX8_changed 18 = .ok (.iconst 0, 1) := dk_3 (dk_at dksX8_changed_0 18 rfl rfl)
theorem dX8_changed_19 : decode cX8_changed 19 = .ok (.istore 6, 2) := dk_54 6 (dk_at dksX8_changed_0 19 rfl rfl)
theorem dX8_changed_21 : decode cX8_changed 21 = .ok (.iload 6, 2) := dk_21 6 (dk_at dksX8_changed_0 21 rfl rfl)
theorem dX8_changed_23 : decode cX8_changed 23 = .ok (.iload 5, 2) := dk_21 5 (dk_at dksX8_changed_1 0 rfl rfl)
theorem dX8_changed_25 : decode cX8_changed 25 = .ok (.if_icmp .ge 61, 3) := dk_162 0 61 (dk_at dksX8_changed_1 2 rfl rfl)
theorem dX8_changed_28 : decode cX8_changed 28 = .ok (.aload_n 0, 1) := dk_42 (dk_at dksX8_changed_1 5 rfl rfl)
theorem dX8_changed_29 : decode cX8_changed 29 = .ok (.getfield 12, 3) := dk_180 0 12 (dk_at dksX8_changed_1 6 rfl rfl)
theorem dX8_changed_32 : decode cX8_changed 32 = .ok (.iload_n 1, 1) := dk_27 (dk_at dksX8_changed_1 9 rfl rfl)
theorem dX8_changed_33 : decode cX8_changed 33 = .ok (.ifCond .eq 13, 3) := dk_153 0 13 (dk_at dksX8_changed_1 10 rfl rfl)
theorem dX8_changed_36 : decode cX8_changed 36 = .ok (.iload 5, 2) := dk_21 5 (dk_at dksX8_changed_1 13 rfl rfl)
theorem dX8_changed_38 : decode cX8_changed 38 = .ok (.iconst 1, 1) := dk_4 (dk_at dksX8_changed_1 15 rfl rfl)
theorem dX8_changed_39 : decode cX8_changed 39 = .ok (.isub, 1) := dk_100 (dk_at dksX8_changed_1 16 rfl rfl)
theorem dX8_changed_40 : decode cX8_changed 40 = .ok (.iload 6, 2) := dk_21 6 (dk_at dksX8_changed_1 17 rfl rfl)
theorem dX8_changed_42 : decode cX8_changed 42 = .ok (.isub, 1) := dk_100 (dk_at dksX8_changed_1 19 rfl rfl)
theorem dX8_changed_43 : decode cX8_changed 43 = .ok (.goto 5, 3) := dk_167 0 5 (dk_at dksX8_changed_1 20 rfl rfl)
theorem dX8_changed_46 : decode cX8_changed 46 = .ok (.iload 6, 2) := dk_21 6 (dk_at dksX8_changed_2 0 rfl rfl)
theorem dX8_changed_48 : decode cX8_changed 48 = .ok (.invokevirtual 44, 3) := dk_182 0 44 (dk_at dksX8_changed_2 2 rfl rfl)
theorem dX8_changed_51 : decode cX8_changed 51 = .ok (.checkcast 37, 3) := dk_192 0 37 (dk_at dksX8_changed_2 5 rfl rfl)
theorem dX8_changed_54 : decode cX8_changed 54 = .ok (.astore 7, 2) := dk_58 7 (dk_at dksX8_changed_2 8 rfl rfl)
theorem dX8_changed_56 : decode cX8_changed 56 = .ok (.aload 4, 2) := dk_25 4 (dk_at dksX8_changed_2 10 rfl rfl)
theorem dX8_changed_58 : decode cX8_changed 58 = .ok (.getfield 12, 3) := dk_180 0 12 (dk_at dksX8_changed_2 12 rfl rfl)
theorem dX8_changed_61 : decode cX8_changed 61 = .ok (.iload_n 2, 1) := dk_28 (dk_at dksX8_changed_2 15 rfl rfl)
theorem dX8_changed_62 : decode cX8_changed 62 = .ok (.ifCond .eq 12, 3) := dk_153 0 12 (dk_at dksX8_changed_2 16 rfl rfl)
theorem dX8_changed_65 : decode cX8_changed 65 = .ok (.aload 7, 2) := dk_25 7 (dk_at dksX8_changed_2 19 rfl rfl)
theorem dX8_changed_67 : decode cX8_changed 67 = .ok (.iload_n 3, 1) := dk_29 (dk_at dksX8_changed_2 21 rfl rfl)
theorem dX8_changed_68 : decode cX8_changed 68 = .ok (.invokevirtual 49, 3) := dk_182 0 49 (dk_at dksX8_changed_3 0 rfl rfl)
theorem dX8_changed_71 : decode cX8_changed 71 = .ok (.goto 5, 3) := dk_167 0 5 (dk_at dksX8_changed_3 3 rfl rfl)
theorem dX8_changed_74 : decode cX8_changed 74 = .ok (.aload 7, 2) := dk_25 7 (dk_at dksX8_changed_3 6 rfl rfl)
theorem dX8_changed_76 : decode cX8_changed 76 = .ok (.invokevirtual 22, 3) := dk_182 0 22 (dk_at dksX8_changed_3 8 rfl rfl)
theorem dX8_changed_79 : decode cX8_changed 79 = .ok (.pop, 1) := dk_87 (dk_at dksX8_changed_3 11 rfl rfl)
theorem dX8_changed_80 : decode cX8_changed 80 = .ok (.iinc 6 1, 3) := dk_132 6 1 (dk_at dksX8_changed_3 12 rfl rfl)
theorem dX8_changed_83 : decode cX8_changed 83 = .ok (.goto (-62), 3) := dk_167 255 194 (dk_at dksX8_changed_3 15 rfl rfl)
theorem dX8_changed_86 : decode cX8_changed 86 = .ok (.aload 4, 2) := dk_25 4 (dk_at dksX8_changed_3 18 rfl rfl)
theorem dX8_changed_88 : decode cX8_changed 88 = .ok (.aload_n 0, 1) := dk_42 (dk_at dksX8_changed_3 20 rfl rfl)
theorem dX8_changed_89 : decode cX8_changed 89 = .ok (.getfield 26, 3) := dk_180 0 26 (dk_at dksX8_changed_3 21 rfl rfl)
theorem dX8_changed_92 : decode cX8_changed 92 = .ok (.putfield 26, 3) := dk_181 0 26 (dk_at dksX8_changed_4 0 rfl rfl)
theorem dX8_changed_95 : decode cX8_changed 95 = .ok (.aload 4, 2) := dk_25 4 (dk_at dksX8_changed_4 3 rfl rfl)
theorem dX8_changed_97 : decode cX8_changed 97 = .ok (.aload_n 0, 1) := dk_42 (dk_at dksX8_changed_4 5 rfl rfl)
theorem dX8_changed_98 : decode cX8_changed 98 = .ok (.getfield 41, 3) := dk_180 0 41 (dk_at dksX8_changed_4 6 rfl rfl)
theorem dX8_changed_101 : decode cX8_changed 101 = .ok (.putfield 41, 3) := dk_181 0 41 (dk_at dksX8_changed_4 9 rfl rfl)
theorem dX8_changed_104 : decode cX8_changed 104 = .ok (.aload 4, 2) := dk_25 4 (dk_at dksX8_changed_4 12 rfl rfl)
theorem dX8_changed_106 : decode cX8_changed 106 = .ok (.areturn, 1) := dk_176 (dk_at dksX8_changed_4 14 rfl rfl)
abbrev cX8_addAll : ByteArray := prog_12_method_3_code
def yX8_addAll : MethodName := ⟨RX8, "addAll", "(LLadderLots$Steps;I)V"⟩
def dkwX8_addAll_5 : List UInt8 := [184, 0, 30, 181, 0, 41, 177]
abbrev dktX8_addAll_5 : List UInt8 := dkwX8_addAll_5 ++ []
def dkwX8_addAll_4 : List UInt8 := [18, 29, 184, 0, 30, 181, 0, 26, 42, 42, 180, 0, 41, 43, 180, 0, 41, 28, 104, 96, 18, 29]
abbrev dktX8_addAll_4 : List UInt8 := dkwX8_addAll_4 ++ dktX8_addAll_5
def dkwX8_addAll_3 : List UInt8 := [132, 4, 1, 167, 255, 208, 132, 3, 1, 167, 255, 181, 42, 42, 180, 0, 26, 43, 180, 0, 26, 28, 104, 96]
abbrev dktX8_addAll_3 : List UInt8 := dkwX8_addAll_3 ++ dktX8_addAll_4
def dkwX8_addAll_2 : List UInt8 := [162, 0, 29, 42, 180, 0, 12, 43, 180, 0, 12, 21, 4, 182, 0, 44, 192, 0, 37, 182, 0, 22, 87]
abbrev dktX8_addAll_2 : List UInt8 := dkwX8_addAll_2 ++ dktX8_addAll_3
def dkwX8_addAll_1 : List UInt8 := [21, 4, 43, 180, 0, 12, 182, 0, 18, 162, 0, 42, 42, 180, 0, 12, 182, 0, 18, 17, 0, 200]
abbrev dktX8_addAll_1 : List UInt8 := dkwX8_addAll_1 ++ dktX8_addAll_2
def dkwX8_addAll_0 : List UInt8 := [3, 62, 29, 28, 162, 0, 76, 42, 180, 0, 12, 182, 0, 18, 17, 0, 200, 162, 0, 63, 3, 54, 4]
abbrev dktX8_addAll_0 : List UInt8 := dkwX8_addAll_0 ++ dktX8_addAll_1
theorem dksX8_addAll_0 : cX8_addAll.data.toList.drop 0 = dktX8_addAll_0 := by decide +kernel
theorem dksX8_addAll_1 : cX8_addAll.data.toList.drop 23 = dktX8_addAll_1 := dk_seg dksX8_addAll_0 23 rfl rfl
theorem dksX8_addAll_2 : cX8_addAll.data.toList.drop 45 = dktX8_addAll_2 := dk_seg dksX8_addAll_1 22 rfl rfl
theorem dksX8_addAll_3 : cX8_addAll.data.toList.drop 68 = dktX8_addAll_3 := dk_seg dksX8_addAll_2 23 rfl rfl
theorem dksX8_addAll_4 : cX8_addAll.data.toList.drop 92 = dktX8_addAll_4 := dk_seg dksX8_addAll_3 24 rfl rfl
theorem dksX8_addAll_5 : cX8_addAll.data.toList.drop 114 = dktX8_addAll_5 := dk_seg dksX8_addAll_4 22 rfl rfl
theorem dX8_addAll_0 : decode cX8_addAll 0 = .ok (.iconst 0, 1) := dk_3 (dk_at dksX8_addAll_0 0 rfl rfl)
theorem dX8_addAll_1 : decode cX8_addAll 1 = .ok (.istore_n 3, 1) := dk_62 (dk_at dksX8_addAll_0 1 rfl rfl)
theorem dX8_addAll_2 : decode cX8_addAll 2 = .ok (.iload_n 3, 1) := dk_29 (dk_at dksX8_addAll_0 2 rfl rfl)
theorem dX8_addAll_3 : decode cX8_addAll 3 = .ok (.iload_n 2, 1) := dk_28 (dk_at dksX8_addAll_0 3 rfl rfl)
theorem dX8_addAll_4 : decode cX8_addAll 4 = .ok (.if_icmp .ge 76, 3) := dk_162 0 76 (dk_at dksX8_addAll_0 4 rfl rfl)
theorem dX8_addAll_7 : decode cX8_addAll 7 = .ok (.aload_n 0, 1) := dk_42 (dk_at dksX8_addAll_0 7 rfl rfl)
theorem dX8_addAll_8 : decode cX8_addAll 8 = .ok (.getfield 12, 3) := dk_180 0 12 (dk_at dksX8_addAll_0 8 rfl rfl)
theorem dX8_addAll_11 : decode cX8_addAll 11 = .ok (.invokevirtual 18, 3) := dk_182 0 18 (dk_at dksX8_addAll_0 11 rfl rfl)
theorem dX8_addAll_14 : decode cX8_addAll 14 = .ok (.sipush 200, 3) := dk_17 0 200 (dk_at dksX8_addAll_0 14 rfl rfl)
theorem dX8_addAll_17 : decode cX8_addAll 17 = .ok (.if_icmp .ge 63, 3) := dk_162 0 63 (dk_at dksX8_addAll_0 17 rfl rfl)
theorem dX8_addAll_20 : decode cX8_addAll 20 = .ok (.iconst 0, 1) := dk_3 (dk_at dksX8_addAll_0 20 rfl rfl)
theorem dX8_addAll_21 : decode cX8_addAll 21 = .ok (.istore 4, 2) := dk_54 4 (dk_at dksX8_addAll_0 21 rfl rfl)
theorem dX8_addAll_23 : decode cX8_addAll 23 = .ok (.iload 4, 2) := dk_21 4 (dk_at dksX8_addAll_1 0 rfl rfl)
theorem dX8_addAll_25 : decode cX8_addAll 25 = .ok (.aload_n 1, 1) := dk_43 (dk_at dksX8_addAll_1 2 rfl rfl)
theorem dX8_addAll_26 : decode cX8_addAll 26 = .ok (.getfield 12, 3) := dk_180 0 12 (dk_at dksX8_addAll_1 3 rfl rfl)
theorem dX8_addAll_29 : decode cX8_addAll 29 = .ok (.invokevirtual 18, 3) := dk_182 0 18 (dk_at dksX8_addAll_1 6 rfl rfl)
theorem dX8_addAll_32 : decode cX8_addAll 32 = .ok (.if_icmp .ge 42, 3) := dk_162 0 42 (dk_at dksX8_addAll_1 9 rfl rfl)
theorem dX8_addAll_35 : decode cX8_addAll 35 = .ok (.aload_n 0, 1) := dk_42 (dk_at dksX8_addAll_1 12 rfl rfl)
theorem dX8_addAll_36 : decode cX8_addAll 36 = .ok (.getfield 12, 3) := dk_180 0 12 (dk_at dksX8_addAll_1 13 rfl rfl)
theorem dX8_addAll_39 : decode cX8_addAll 39 = .ok (.invokevirtual 18, 3) := dk_182 0 18 (dk_at dksX8_addAll_1 16 rfl rfl)
theorem dX8_addAll_42 : decode cX8_addAll 42 = .ok (.sipush 200, 3) := dk_17 0 200 (dk_at dksX8_addAll_1 19 rfl rfl)
theorem dX8_addAll_45 : decode cX8_addAll 45 = .ok (.if_icmp .ge 29, 3) := dk_162 0 29 (dk_at dksX8_addAll_2 0 rfl rfl)
theorem dX8_addAll_48 : decode cX8_addAll 48 = .ok (.aload_n 0, 1) := dk_42 (dk_at dksX8_addAll_2 3 rfl rfl)
theorem dX8_addAll_49 : decode cX8_addAll 49 = .ok (.getfield 12, 3) := dk_180 0 12 (dk_at dksX8_addAll_2 4 rfl rfl)
theorem dX8_addAll_52 : decode cX8_addAll 52 = .ok (.aload_n 1, 1) := dk_43 (dk_at dksX8_addAll_2 7 rfl rfl)
theorem dX8_addAll_53 : decode cX8_addAll 53 = .ok (.getfield 12, 3) := dk_180 0 12 (dk_at dksX8_addAll_2 8 rfl rfl)
theorem dX8_addAll_56 : decode cX8_addAll 56 = .ok (.iload 4, 2) := dk_21 4 (dk_at dksX8_addAll_2 11 rfl rfl)
theorem dX8_addAll_58 : decode cX8_addAll 58 = .ok (.invokevirtual 44, 3) := dk_182 0 44 (dk_at dksX8_addAll_2 13 rfl rfl)
theorem dX8_addAll_61 : decode cX8_addAll 61 = .ok (.checkcast 37, 3) := dk_192 0 37 (dk_at dksX8_addAll_2 16 rfl rfl)
theorem dX8_addAll_64 : decode cX8_addAll 64 = .ok (.invokevirtual 22, 3) := dk_182 0 22 (dk_at dksX8_addAll_2 19 rfl rfl)
theorem dX8_addAll_67 : decode cX8_addAll 67 = .ok (.pop, 1) := dk_87 (dk_at dksX8_addAll_2 22 rfl rfl)
theorem dX8_addAll_68 : decode cX8_addAll 68 = .ok (.iinc 4 1, 3) := dk_132 4 1 (dk_at dksX8_addAll_3 0 rfl rfl)
theorem dX8_addAll_71 : decode cX8_addAll 71 = .ok (.goto (-48), 3) := dk_167 255 208 (dk_at dksX8_addAll_3 3 rfl rfl)
theorem dX8_addAll_74 : decode cX8_addAll 74 = .ok (.iinc 3 1, 3) := dk_132 3 1 (dk_at dksX8_addAll_3 6 rfl rfl)
theorem dX8_addAll_77 : decode cX8_addAll 77 = .ok (.goto (-75), 3) := dk_167 255 181 (dk_at dksX8_addAll_3 9 rfl rfl)
theorem dX8_addAll_80 : decode cX8_addAll 80 = .ok (.aload_n 0, 1) := dk_42 (dk_at dksX8_addAll_3 12 rfl rfl)
theorem dX8_addAll_81 : decode cX8_addAll 81 = .ok (.aload_n 0, 1) := dk_42 (dk_at dksX8_addAll_3 13 rfl rfl)
theorem dX8_addAll_82 : decode cX8_addAll 82 = .ok (.getfield 26, 3) := dk_180 0 26 (dk_at dksX8_addAll_3 14 rfl rfl)
theorem dX8_addAll_85 : decode cX8_addAll 85 = .ok (.aload_n 1, 1) := dk_43 (dk_at dksX8_addAll_3 17 rfl rfl)
theorem dX8_addAll_86 : decode cX8_addAll 86 = .ok (.getfield 26, 3) := dk_180 0 26 (dk_at dksX8_addAll_3 18 rfl rfl)
theorem dX8_addAll_89 : decode cX8_addAll 89 = .ok (.iload_n 2, 1) := dk_28 (dk_at dksX8_addAll_3 21 rfl rfl)
theorem dX8_addAll_90 : decode cX8_addAll 90 = .ok (.imul, 1) := dk_104 (dk_at dksX8_addAll_3 22 rfl rfl)
theorem dX8_addAll_91 : decode cX8_addAll 91 = .ok (.iadd, 1) := dk_96 (dk_at dksX8_addAll_3 23 rfl rfl)
theorem dX8_addAll_92 : decode cX8_addAll 92 = .ok (.ldc 29, 2) := dk_18 29 (dk_at dksX8_addAll_4 0 rfl rfl)
theorem dX8_addAll_94 : decode cX8_addAll 94 = .ok (.invokestatic 30, 3) := dk_184 0 30 (dk_at dksX8_addAll_4 2 rfl rfl)
theorem dX8_addAll_97 : decode cX8_addAll 97 = .ok (.putfield 26, 3) := dk_181 0 26 (dk_at dksX8_addAll_4 5 rfl rfl)
theorem dX8_addAll_100 : decode cX8_addAll 100 = .ok (.aload_n 0, 1) := dk_42 (dk_at dksX8_addAll_4 8 rfl rfl)
theorem dX8_addAll_101 : decode cX8_addAll 101 = .ok (.aload_n 0, 1) := dk_42 (dk_at dksX8_addAll_4 9 rfl rfl)
theorem dX8_addAll_102 : decode cX8_addAll 102 = .ok (.getfield 41, 3) := dk_180 0 41 (dk_at dksX8_addAll_4 10 rfl rfl)
theorem dX8_addAll_105 : decode cX8_addAll 105 = .ok (.aload_n 1, 1) := dk_43 (dk_at dksX8_addAll_4 13 rfl rfl)
theorem dX8_addAll_106 : decode cX8_addAll 106 = .ok (.getfield 41, 3) := dk_180 0 41 (dk_at dksX8_addAll_4 14 rfl rfl)
theorem dX8_addAll_109 : decode cX8_addAll 109 = .ok (.iload_n 2, 1) := dk_28 (dk_at dksX8_addAll_4 17 rfl rfl)
theorem dX8_addAll_110 : decode cX8_addAll 110 = .ok (.imul, 1) := dk_104 (dk_at dksX8_addAll_4 18 rfl rfl)
theorem dX8_addAll_111 : decode cX8_addAll 111 = .ok (.iadd, 1) := dk_96 (dk_at dksX8_addAll_4 19 rfl rfl)
theorem dX8_addAll_112 : decode cX8_addAll 112 = .ok (.ldc 29, 2) := dk_18 29 (dk_at dksX8_addAll_4 20 rfl rfl)
theorem dX8_addAll_114 : decode cX8_addAll 114 = .ok (.invokestatic 30, 3) := dk_184 0 30 (dk_at dksX8_addAll_5 0 rfl rfl)
theorem dX8_addAll_117 : decode cX8_addAll 117 = .ok (.putfield 41, 3) := dk_181 0 41 (dk_at dksX8_addAll_5 3 rfl rfl)
theorem dX8_addAll_120 : decode cX8_addAll 120 = .ok (.return_, 1) := dk_177 (dk_at dksX8_addAll_5 6 rfl rfl)
abbrev cX8_isLong : ByteArray := prog_12_method_5_code
def yX8_isLong : MethodName := ⟨RX8, "isLong", "()Z"⟩
def dkwX8_isLong_1 : List UInt8 := [172]
abbrev dktX8_isLong_1 : List UInt8 := dkwX8_isLong_1 ++ []
def dkwX8_isLong_0 : List UInt8 := [42, 180, 0, 26, 17, 0, 200, 163, 0, 12, 42, 180, 0, 41, 16, 20, 164, 0, 7, 4, 167, 0, 4, 3]
abbrev dktX8_isLong_0 : List UInt8 := dkwX8_isLong_0 ++ dktX8_isLong_1
theorem dksX8_isLong_0 : cX8_isLong.data.toList.drop 0 = dktX8_isLong_0 := by decide +kernel
theorem dksX8_isLong_1 : cX8_isLong.data.toList.drop 24 = dktX8_isLong_1 := dk_seg dksX8_isLong_0 24 rfl rfl
theorem dX8_isLong_0 : decode cX8_isLong 0 = .ok (.aload_n 0, 1) := dk_42 (dk_at dksX8_isLong_0 0 rfl rfl)
theorem dX8_isLong_1 : decode cX8_isLong 1 = .ok (.getfield 26, 3) := dk_180 0 26 (dk_at dksX8_isLong_0 1 rfl rfl)
theorem dX8_isLong_4 : decode cX8_isLong 4 = .ok (.sipush 200, 3) := dk_17 0 200 (dk_at dksX8_isLong_0 4 rfl rfl)
theorem dX8_isLong_7 : decode cX8_isLong 7 = .ok (.if_icmp .gt 12, 3) := dk_163 0 12 (dk_at dksX8_isLong_0 7 rfl rfl)
theorem dX8_isLong_10 : decode cX8_isLong 10 = .ok (.aload_n 0, 1) := dk_42 (dk_at dksX8_isLong_0 10 rfl rfl)
theorem dX8_isLong_11 : decode cX8_isLong 11 = .ok (.getfield 41, 3) := dk_180 0 41 (dk_at dksX8_isLong_0 11 rfl rfl)
theorem dX8_isLong_14 : decode cX8_isLong 14 = .ok (.bipush 20, 2) := dk_16 20 (dk_at dksX8_isLong_0 14 rfl rfl)
theorem dX8_isLong_16 : decode cX8_isLong 16 = .ok (.if_icmp .le 7, 3) := dk_164 0 7 (dk_at dksX8_isLong_0 16 rfl rfl)
theorem dX8_isLong_19 : decode cX8_isLong 19 = .ok (.iconst 1, 1) := dk_4 (dk_at dksX8_isLong_0 19 rfl rfl)
theorem dX8_isLong_20 : decode cX8_isLong 20 = .ok (.goto 4, 3) := dk_167 0 4 (dk_at dksX8_isLong_0 20 rfl rfl)
theorem dX8_isLong_23 : decode cX8_isLong 23 = .ok (.iconst 0, 1) := dk_3 (dk_at dksX8_isLong_0 23 rfl rfl)
theorem dX8_isLong_24 : decode cX8_isLong 24 = .ok (.ireturn, 1) := dk_172 (dk_at dksX8_isLong_1 0 rfl rfl)
theorem q138 : (Jvm.Cond.initialized "LadderLots$Steps") ∈ lw_all := lw_g (lw_at lw_m1 20 rfl) rfl
theorem q737 : (Jvm.Cond.instantiable "LadderLots$Steps" (3 : Nat)) ∈ lw_all := lw_g (lw_at lw_m3 139 rfl) rfl
theorem q739 : (Jvm.Cond.instanceMethod ({ cls := "LadderLots$Steps", name := "<init>", desc := "()V" } : Jvm.MethodName)) ∈ lw_all := lw_g (lw_at lw_m3 141 rfl) rfl
theorem q740 : (Jvm.Cond.code ({ cls := "LadderLots$Steps", name := "<init>", desc := "()V" } : Jvm.MethodName) prog_12_method_1_code (1 : Nat) (Option.none : Option Jvm.ClassFile.FieldType)) ∈ lw_all := lw_g (lw_at lw_m3 142 rfl) rfl
theorem q741 : (Jvm.Cond.methodLink "LadderLots$Steps" (3 : Nat) ({ cls := "java/lang/Object", name := "<init>", desc := "()V" } : Jvm.MethodName)) ∈ lw_all := lw_g (lw_at lw_m3 143 rfl) rfl
theorem q742 : (Jvm.Cond.classLink "LadderLots$Steps" (9 : Nat) "java/util/ArrayList") ∈ lw_all := lw_g (lw_at lw_m3 144 rfl) rfl
theorem q743 : (Jvm.Cond.methodLink "LadderLots$Steps" (11 : Nat) ({ cls := "java/util/ArrayList", name := "<init>", desc := "()V" } : Jvm.MethodName)) ∈ lw_all := lw_g (lw_at lw_m3 145 rfl) rfl
theorem q744 : (Jvm.Cond.fieldLink "LadderLots$Steps" (12 : Nat) "LadderLots$Steps" "list" "Ljava/util/ArrayList;") ∈ lw_all := lw_g (lw_at lw_m3 146 rfl) rfl
theorem q747 : (Jvm.Cond.fieldLink "LadderLots$Steps" (26 : Nat) "LadderLots$Steps" "size" "I") ∈ lw_all := lw_g (lw_at lw_m3 149 rfl) rfl
theorem q748 : (Jvm.Cond.fieldLink "LadderLots$Steps" (41 : Nat) "LadderLots$Steps" "maybes" "I") ∈ lw_all := lw_g (lw_at lw_m3 150 rfl) rfl
theorem q750 : (Jvm.Cond.laysFinal "LadderLots$Steps" "LadderLots$Steps" "list" "Ljava/util/ArrayList;") ∈ lw_all := lw_g (lw_at lw_m3 152 rfl) rfl
theorem q751 : (Jvm.Cond.soleField "LadderLots$Steps" "list") ∈ lw_all := lw_g (lw_at lw_m3 153 rfl) rfl
theorem q752 : (Jvm.Cond.lays "LadderLots$Steps" "LadderLots$Steps" "size" "I") ∈ lw_all := lw_g (lw_at lw_m3 154 rfl) rfl
theorem q753 : (Jvm.Cond.soleField "LadderLots$Steps" "size") ∈ lw_all := lw_g (lw_at lw_m3 155 rfl) rfl
theorem q754 : (Jvm.Cond.lays "LadderLots$Steps" "LadderLots$Steps" "maybes" "I") ∈ lw_all := lw_g (lw_at lw_m3 156 rfl) rfl
theorem q755 : (Jvm.Cond.soleField "LadderLots$Steps" "maybes") ∈ lw_all := lw_g (lw_at lw_m3 157 rfl) rfl
theorem q756 : (Jvm.Cond.superclass "LadderLots$Steps" "java/lang/Object") ∈ lw_all := lw_g (lw_at lw_m3 158 rfl) rfl
theorem q786 : (Jvm.Cond.instanceMethod ({ cls := "LadderLots$Steps", name := "add", desc := "(LLadderLots$Step;)V" } : Jvm.MethodName)) ∈ lw_all := lw_g (lw_at lw_m3 188 rfl) rfl
theorem q787 : (Jvm.Cond.selects "LadderLots$Steps" ({ cls := "LadderLots$Steps", name := "add", desc := "(LLadderLots$Step;)V" } : Jvm.MethodName) ({ cls := "LadderLots$Steps", name := "add", desc := "(LLadderLots$Step;)V" } : Jvm.MethodName)) ∈ lw_all := lw_g (lw_at lw_m3 189 rfl) rfl
theorem q788 : (Jvm.Cond.code ({ cls := "LadderLots$Steps", name := "add", desc := "(LLadderLots$Step;)V" } : Jvm.MethodName) prog_12_method_2_code (2 : Nat) (Option.none : Option Jvm.ClassFile.FieldType)) ∈ lw_all := lw_g (lw_at lw_m3 190 rfl) rfl
theorem q789 : (Jvm.Cond.methodLink "LadderLots$Steps" (18 : Nat) ({ cls := "java/util/ArrayList", name := "size", desc := "()I" } : Jvm.MethodName)) ∈ lw_all := lw_g (lw_at lw_m3 191 rfl) rfl
theorem q790 : (Jvm.Cond.methodLink "LadderLots$Steps" (22 : Nat) ({ cls := "java/util/ArrayList", name := "add", desc := "(Ljava/lang/Object;)Z" } : Jvm.MethodName)) ∈ lw_all := lw_g (lw_at lw_m3 192 rfl) rfl
theorem q830 : (Jvm.Cond.selects "LadderLots$Steps" ({ cls := "java/lang/Object", name := "getClass", desc := "()Ljava/lang/Class;" } : Jvm.MethodName) ({ cls := "java/lang/Object", name := "getClass", desc := "()Ljava/lang/Class;" } : Jvm.MethodName)) ∈ lw_all := lw_g (lw_at lw_m3 232 rfl) rfl
theorem q844 : (Jvm.Cond.constant "LadderLots$Steps" (29 : Nat) (100000 : Int32)) ∈ lw_all := lw_g (lw_at lw_m4 6 rfl) rfl
theorem q845 : (Jvm.Cond.methodLink "LadderLots$Steps" (30 : Nat) ({ cls := "java/lang/Math", name := "min", desc := "(II)I" } : Jvm.MethodName)) ∈ lw_all := lw_g (lw_at lw_m4 7 rfl) rfl
theorem q846 : (Jvm.Cond.methodLink "LadderLots$Steps" (36 : Nat) ({ cls := "LadderLots$Step", name := "sort", desc := "()I" } : Jvm.MethodName)) ∈ lw_all := lw_g (lw_at lw_m4 8 rfl) rfl
theorem q896 : (Jvm.Cond.instanceMethod ({ cls := "LadderLots$Steps", name := "changed", desc := "(ZZI)LLadderLots$Steps;" } : Jvm.MethodName)) ∈ lw_all := lw_g (lw_at lw_m4 58 rfl) rfl
theorem q897 : (Jvm.Cond.selects "LadderLots$Steps" ({ cls := "LadderLots$Steps", name := "changed", desc := "(ZZI)LLadderLots$Steps;" } : Jvm.MethodName) ({ cls := "LadderLots$Steps", name := "changed", desc := "(ZZI)LLadderLots$Steps;" } : Jvm.MethodName)) ∈ lw_all := lw_g (lw_at lw_m4 59 rfl) rfl
theorem q898 : (Jvm.Cond.code ({ cls := "LadderLots$Steps", name := "changed", desc := "(ZZI)LLadderLots$Steps;" } : Jvm.MethodName) prog_12_method_4_code (8 : Nat) (Option.some (Jvm.ClassFile.FieldType.object "LadderLots$Steps"))) ∈ lw_all := lw_g (lw_at lw_m4 60 rfl) rfl
theorem q899 : (Jvm.Cond.classLink "LadderLots$Steps" (13 : Nat) "LadderLots$Steps") ∈ lw_all := lw_g (lw_at lw_m4 61 rfl) rfl
theorem q900 : (Jvm.Cond.methodLink "LadderLots$Steps" (48 : Nat) ({ cls := "LadderLots$Steps", name := "<init>", desc := "()V" } : Jvm.MethodName)) ∈ lw_all := lw_g (lw_at lw_m4 62 rfl) rfl
theorem q901 : (Jvm.Cond.methodLink "LadderLots$Steps" (44 : Nat) ({ cls := "java/util/ArrayList", name := "get", desc := "(I)Ljava/lang/Object;" } : Jvm.MethodName)) ∈ lw_all := lw_g (lw_at lw_m4 63 rfl) rfl
theorem q913 : (Jvm.Cond.classLink "LadderLots$Steps" (37 : Nat) "LadderLots$Step") ∈ lw_all := lw_g (lw_at lw_m4 75 rfl) rfl
theorem q914 : (Jvm.Cond.methodLink "LadderLots$Steps" (49 : Nat) ({ cls := "LadderLots$Step", name := "turned", desc := "(I)LLadderLots$Step;" } : Jvm.MethodName)) ∈ lw_all := lw_g (lw_at lw_m4 76 rfl) rfl
theorem q937 : (Jvm.Cond.instanceMethod ({ cls := "LadderLots$Steps", name := "addAll", desc := "(LLadderLots$Steps;I)V" } : Jvm.MethodName)) ∈ lw_all := lw_g (lw_at lw_m4 99 rfl) rfl
theorem q938 : (Jvm.Cond.selects "LadderLots$Steps" ({ cls := "LadderLots$Steps", name := "addAll", desc := "(LLadderLots$Steps;I)V" } : Jvm.MethodName) ({ cls := "LadderLots$Steps", name := "addAll", desc := "(LLadderLots$Steps;I)V" } : Jvm.MethodName)) ∈ lw_all := lw_g (lw_at lw_m4 100 rfl) rfl
theorem q939 : (Jvm.Cond.code ({ cls := "LadderLots$Steps", name := "addAll", desc := "(LLadderLots$Steps;I)V" } : Jvm.MethodName) prog_12_method_3_code (5 : Nat) (Option.none : Option Jvm.ClassFile.FieldType)) ∈ lw_all := lw_g (lw_at lw_m4 101 rfl) rfl
theorem q941 : (Jvm.Cond.instanceMethod ({ cls := "LadderLots$Steps", name := "isLong", desc := "()Z" } : Jvm.MethodName)) ∈ lw_all := lw_g (lw_at lw_m4 103 rfl) rfl
theorem q942 : (Jvm.Cond.selects "LadderLots$Steps" ({ cls := "LadderLots$Steps", name := "isLong", desc := "()Z" } : Jvm.MethodName) ({ cls := "LadderLots$Steps", name := "isLong", desc := "()Z" } : Jvm.MethodName)) ∈ lw_all := lw_g (lw_at lw_m4 104 rfl) rfl
theorem q943 : (Jvm.Cond.code ({ cls := "LadderLots$Steps", name := "isLong", desc := "()Z" } : Jvm.MethodName) prog_12_method_5_code (1 : Nat) (Option.some Jvm.ClassFile.FieldType.boolean)) ∈ lw_all := lw_g (lw_at lw_m4 105 rfl) rfl
theorem q1960 : (Jvm.Cond.castable "LadderLots$Steps" "java/lang/Object") ∈ lw_tbl := lw_at lw_m8 162 rfl
theorem in_X8 : ∀ w ∈ wsX80, w ∈ lw_all := lw_in wsX80 [750, 752, 754] (by decide +kernel) (by decide +kernel)

/-! LadderLots$Rung -/
set_option maxRecDepth 100000
def RX9 : String := "LadderLots$Rung"
def TX9 : u_T := fun k => match k with
  | _ => ("LadderLots$Step", "leg", "I", true)
def tyX9 : Nat → FieldType := fun k => match k with
  | _ => .int
abbrev wsX90 : List Cond := u_ws RX9 TX9 1
theorem nmX9 : ∀ a, a < 1 → ∀ b, b < 1 → a ≠ b → (TX9 a).2.1 ≠ (TX9 b).2.1 := by decide +kernel
theorem tyX9_ok : ∀ k, k < 1 → parseFieldDescriptor (TX9 k).2.2.1 = some (tyX9 k) := by decide +kernel
abbrev cX9_init : ByteArray := prog_9_method_1_code
def yX9_init : MethodName := ⟨RX9, "<init>", "(I)V"⟩
def dkwX9_init_0 : List UInt8 := [42, 27, 183, 0, 1, 177]
abbrev dktX9_init_0 : List UInt8 := dkwX9_init_0 ++ []
theorem dksX9_init_0 : cX9_init.data.toList.drop 0 = dktX9_init_0 := by decide +kernel
theorem dX9_init_0 : decode cX9_init 0 = .ok (.aload_n 0, 1) := dk_42 (dk_at dksX9_init_0 0 rfl rfl)
theorem dX9_init_1 : decode cX9_init 1 = .ok (.iload_n 1, 1) := dk_27 (dk_at dksX9_init_0 1 rfl rfl)
theorem dX9_init_2 : decode cX9_init 2 = .ok (.invokespecial 1, 3) := dk_183 0 1 (dk_at dksX9_init_0 2 rfl rfl)
theorem dX9_init_5 : decode cX9_init 5 = .ok (.return_, 1) := dk_177 (dk_at dksX9_init_0 5 rfl rfl)
abbrev cX9_sort : ByteArray := prog_9_method_2_code
def yX9_sort : MethodName := ⟨RX9, "sort", "()I"⟩
theorem dX9_sort_0 : decode cX9_sort 0 = .ok (.iconst 0, 1) := by decide +kernel
theorem dX9_sort_1 : decode cX9_sort 1 = .ok (.ireturn, 1) := by decide +kernel
abbrev cX9_turned : ByteArray := prog_9_method_4_code
def yX9_turned : MethodName := ⟨RX9, "turned", "(I)LLadderLots$Step;"⟩
def dkwX9_turned_0 : List UInt8 := [187, 0, 7, 89, 27, 5, 100, 42, 180, 0, 9, 100, 183, 0, 13, 176]
abbrev dktX9_turned_0 : List UInt8 := dkwX9_turned_0 ++ []
theorem dksX9_turned_0 : cX9_turned.data.toList.drop 0 = dktX9_turned_0 := by decide +kernel
theorem dX9_turned_0 : decode cX9_turned 0 = .ok (.new 7, 3) := dk_187 0 7 (dk_at dksX9_turned_0 0 rfl rfl)
theorem dX9_turned_3 : decode cX9_turned 3 = .ok (.dup, 1) := dk_89 (dk_at dksX9_turned_0 3 rfl rfl)
theorem dX9_turned_4 : decode cX9_turned 4 = .ok (.iload_n 1, 1) := dk_27 (dk_at dksX9_turned_0 4 rfl rfl)
theorem dX9_turned_5 : decode cX9_turned 5 = .ok (.iconst 2, 1) := dk_5 (dk_at dksX9_turned_0 5 rfl rfl)
theorem dX9_turned_6 : decode cX9_turned 6 = .ok (.isub, 1) := dk_100 (dk_at dksX9_turned_0 6 rfl rfl)
theorem dX9_turned_7 : decode cX9_turned 7 = .ok (.aload_n 0, 1) := dk_42 (dk_at dksX9_turned_0 7 rfl rfl)
theorem dX9_turned_8 : decode cX9_turned 8 = .ok (.getfield 9, 3) := dk_180 0 9 (dk_at dksX9_turned_0 8 rfl rfl)
theorem dX9_turned_11 : decode cX9_turned 11 = .ok (.isub, 1) := dk_100 (dk_at dksX9_turned_0 11 rfl rfl)
theorem dX9_turned_12 : decode cX9_turned 12 = .ok (.invokespecial 13, 3) := dk_183 0 13 (dk_at dksX9_turned_0 12 rfl rfl)
theorem dX9_turned_15 : decode cX9_turned 15 = .ok (.areturn, 1) := dk_176 (dk_at dksX9_turned_0 15 rfl rfl)
abbrev cX9_changes : ByteArray := prog_9_method_3_code
def yX9_changes : MethodName := ⟨RX9, "changes", "(IIZ)Z"⟩
theorem dX9_changes_0 : decode cX9_changes 0 = .ok (.iconst 1, 1) := by decide +kernel
theorem dX9_changes_1 : decode cX9_changes 1 = .ok (.ireturn, 1) := by decide +kernel
theorem q139 : (Jvm.Cond.initialized "LadderLots$Rung") ∈ lw_all := lw_g (lw_at lw_m1 21 rfl) rfl
theorem q417 : (Jvm.Cond.fieldLink "LadderLots$Rung" (9 : Nat) "LadderLots$Rung" "leg" "I") ∈ lw_all := lw_g (lw_at lw_m2 59 rfl) rfl
theorem q418 : (Jvm.Cond.sameField "LadderLots$Rung" "LadderLots$Step" "leg" "I") ∈ lw_all := lw_g (lw_at lw_m2 60 rfl) rfl
theorem q778 : (Jvm.Cond.instantiable "LadderLots$Rung" (1 : Nat)) ∈ lw_all := lw_g (lw_at lw_m3 180 rfl) rfl
theorem q780 : (Jvm.Cond.instanceMethod ({ cls := "LadderLots$Rung", name := "<init>", desc := "(I)V" } : Jvm.MethodName)) ∈ lw_all := lw_g (lw_at lw_m3 182 rfl) rfl
theorem q781 : (Jvm.Cond.code ({ cls := "LadderLots$Rung", name := "<init>", desc := "(I)V" } : Jvm.MethodName) prog_9_method_1_code (2 : Nat) (Option.none : Option Jvm.ClassFile.FieldType)) ∈ lw_all := lw_g (lw_at lw_m3 183 rfl) rfl
theorem q782 : (Jvm.Cond.methodLink "LadderLots$Rung" (1 : Nat) ({ cls := "LadderLots$Step", name := "<init>", desc := "(I)V" } : Jvm.MethodName)) ∈ lw_all := lw_g (lw_at lw_m3 184 rfl) rfl
theorem q783 : (Jvm.Cond.laysFinal "LadderLots$Rung" "LadderLots$Step" "leg" "I") ∈ lw_all := lw_g (lw_at lw_m3 185 rfl) rfl
theorem q784 : (Jvm.Cond.superclass "LadderLots$Rung" "LadderLots$Step") ∈ lw_all := lw_g (lw_at lw_m3 186 rfl) rfl
theorem q828 : (Jvm.Cond.selects "LadderLots$Rung" ({ cls := "java/lang/Object", name := "getClass", desc := "()Ljava/lang/Class;" } : Jvm.MethodName) ({ cls := "java/lang/Object", name := "getClass", desc := "()Ljava/lang/Class;" } : Jvm.MethodName)) ∈ lw_all := lw_g (lw_at lw_m3 230 rfl) rfl
theorem q858 : (Jvm.Cond.selects "LadderLots$Rung" ({ cls := "LadderLots$Step", name := "sort", desc := "()I" } : Jvm.MethodName) ({ cls := "LadderLots$Rung", name := "sort", desc := "()I" } : Jvm.MethodName)) ∈ lw_all := lw_g (lw_at lw_m4 20 rfl) rfl
theorem q859 : (Jvm.Cond.instanceMethod ({ cls := "LadderLots$Rung", name := "sort", desc := "()I" } : Jvm.MethodName)) ∈ lw_all := lw_g (lw_at lw_m4 21 rfl) rfl
theorem q860 : (Jvm.Cond.code ({ cls := "LadderLots$Rung", name := "sort", desc := "()I" } : Jvm.MethodName) prog_9_method_2_code (1 : Nat) (Option.some Jvm.ClassFile.FieldType.int)) ∈ lw_all := lw_g (lw_at lw_m4 22 rfl) rfl
theorem q931 : (Jvm.Cond.selects "LadderLots$Rung" ({ cls := "LadderLots$Step", name := "turned", desc := "(I)LLadderLots$Step;" } : Jvm.MethodName) ({ cls := "LadderLots$Rung", name := "turned", desc := "(I)LLadderLots$Step;" } : Jvm.MethodName)) ∈ lw_all := lw_g (lw_at lw_m4 93 rfl) rfl
theorem q932 : (Jvm.Cond.instanceMethod ({ cls := "LadderLots$Rung", name := "turned", desc := "(I)LLadderLots$Step;" } : Jvm.MethodName)) ∈ lw_all := lw_g (lw_at lw_m4 94 rfl) rfl
theorem q933 : (Jvm.Cond.code ({ cls := "LadderLots$Rung", name := "turned", desc := "(I)LLadderLots$Step;" } : Jvm.MethodName) prog_9_method_4_code (2 : Nat) (Option.some (Jvm.ClassFile.FieldType.object "LadderLots$Step"))) ∈ lw_all := lw_g (lw_at lw_m4 95 rfl) rfl
theorem q934 : (Jvm.Cond.classLink "LadderLots$Rung" (7 : Nat) "LadderLots$Rung") ∈ lw_all := lw_g (lw_at lw_m4 96 rfl) rfl
theorem q935 : (Jvm.Cond.methodLink "LadderLots$Rung" (13 : Nat) ({ cls := "LadderLots$Rung", name := "<init>", desc := "(I)V" } : Jvm.MethodName)) ∈ lw_all := lw_g (lw_at lw_m4 97 rfl) rfl
theorem q1086 : (Jvm.Cond.instanceMethod ({ cls := "LadderLots$Rung", name := "changes", desc := "(IIZ)Z" } : Jvm.MethodName)) ∈ lw_all := lw_g (lw_at lw_m5 8 rfl) rfl
theorem q1087 : (Jvm.Cond.code ({ cls := "LadderLots$Rung", name := "changes", desc := "(IIZ)Z" } : Jvm.MethodName) prog_9_method_3_code (4 : Nat) (Option.some Jvm.ClassFile.FieldType.boolean)) ∈ lw_all := lw_g (lw_at lw_m5 9 rfl) rfl
theorem q1088 : (Jvm.Cond.selects "LadderLots$Rung" ({ cls := "LadderLots$Step", name := "changes", desc := "(IIZ)Z" } : Jvm.MethodName) ({ cls := "LadderLots$Rung", name := "changes", desc := "(IIZ)Z" } : Jvm.MethodName)) ∈ lw_all := lw_g (lw_at lw_m5 10 rfl) rfl
theorem q1955 : (Jvm.Cond.sameMethod "LadderLots$Rung" "LadderLots$Rung" "changes" "(IIZ)Z") ∈ lw_all := lw_g (lw_at lw_m8 157 rfl) rfl
theorem q1959 : (Jvm.Cond.castable "LadderLots$Rung" "LadderLots$Step") ∈ lw_tbl := lw_at lw_m8 161 rfl
theorem q1971 : (Jvm.Cond.castable "LadderLots$Rung" "java/lang/Object") ∈ lw_tbl := lw_at lw_m8 173 rfl
theorem in_X9 : ∀ w ∈ wsX90, w ∈ lw_all := lw_in wsX90 [783] (by decide +kernel) (by decide +kernel)

