/-! java/util/AbstractCollection -/
set_option maxRecDepth 100000
def RJ0 : String := "java/util/AbstractCollection"
abbrev cJ0_init : ByteArray := prog_41_method_1_code
def yJ0_init : MethodName := ⟨RJ0, "<init>", "()V"⟩
theorem dJ0_init_0 : decode cJ0_init 0 = .ok (.aload_n 0, 1) := by decide +kernel
theorem dJ0_init_1 : decode cJ0_init 1 = .ok (.invokespecial 1, 3) := by decide +kernel
theorem dJ0_init_4 : decode cJ0_init 4 = .ok (.return_, 1) := by decide +kernel
theorem q92 : (Jvm.Cond.initialized "java/util/AbstractCollection") ∈ lw_all := lw_g (lw_at lw_m1 3 rfl) rfl
theorem q176 : (Jvm.Cond.instanceMethod ({ cls := "java/util/AbstractCollection", name := "<init>", desc := "()V" } : Jvm.MethodName)) ∈ lw_all := lw_g (lw_at lw_m1 87 rfl) rfl
theorem q177 : (Jvm.Cond.code ({ cls := "java/util/AbstractCollection", name := "<init>", desc := "()V" } : Jvm.MethodName) prog_41_method_1_code (1 : Nat) (Option.none : Option Jvm.ClassFile.FieldType)) ∈ lw_all := lw_g (lw_at lw_m1 88 rfl) rfl
theorem q178 : (Jvm.Cond.methodLink "java/util/AbstractCollection" (1 : Nat) ({ cls := "java/lang/Object", name := "<init>", desc := "()V" } : Jvm.MethodName)) ∈ lw_all := lw_g (lw_at lw_m1 89 rfl) rfl
/-! java/util/AbstractList -/
set_option maxRecDepth 100000
def RJ1 : String := "java/util/AbstractList"
abbrev cJ1_init : ByteArray := prog_42_method_1_code
def yJ1_init : MethodName := ⟨RJ1, "<init>", "()V"⟩
def dkwJ1_init_0 : List UInt8 := [42, 183, 0, 1, 42, 3, 181, 0, 7, 177]
abbrev dktJ1_init_0 : List UInt8 := dkwJ1_init_0 ++ []
theorem dksJ1_init_0 : cJ1_init.data.toList.drop 0 = dktJ1_init_0 := by decide +kernel
theorem dJ1_init_0 : decode cJ1_init 0 = .ok (.aload_n 0, 1) := dk_42 (dk_at dksJ1_init_0 0 rfl rfl)
theorem dJ1_init_1 : decode cJ1_init 1 = .ok (.invokespecial 1, 3) := dk_183 0 1 (dk_at dksJ1_init_0 1 rfl rfl)
theorem dJ1_init_4 : decode cJ1_init 4 = .ok (.aload_n 0, 1) := dk_42 (dk_at dksJ1_init_0 4 rfl rfl)
theorem dJ1_init_5 : decode cJ1_init 5 = .ok (.iconst 0, 1) := dk_3 (dk_at dksJ1_init_0 5 rfl rfl)
theorem dJ1_init_6 : decode cJ1_init 6 = .ok (.putfield 7, 3) := dk_181 0 7 (dk_at dksJ1_init_0 6 rfl rfl)
theorem dJ1_init_9 : decode cJ1_init 9 = .ok (.return_, 1) := dk_177 (dk_at dksJ1_init_0 9 rfl rfl)
theorem q93 : (Jvm.Cond.initialized "java/util/AbstractList") ∈ lw_all := lw_g (lw_at lw_m1 4 rfl) rfl
theorem q173 : (Jvm.Cond.instanceMethod ({ cls := "java/util/AbstractList", name := "<init>", desc := "()V" } : Jvm.MethodName)) ∈ lw_all := lw_g (lw_at lw_m1 84 rfl) rfl
theorem q174 : (Jvm.Cond.code ({ cls := "java/util/AbstractList", name := "<init>", desc := "()V" } : Jvm.MethodName) prog_42_method_1_code (1 : Nat) (Option.none : Option Jvm.ClassFile.FieldType)) ∈ lw_all := lw_g (lw_at lw_m1 85 rfl) rfl
theorem q175 : (Jvm.Cond.methodLink "java/util/AbstractList" (1 : Nat) ({ cls := "java/util/AbstractCollection", name := "<init>", desc := "()V" } : Jvm.MethodName)) ∈ lw_all := lw_g (lw_at lw_m1 86 rfl) rfl
theorem q183 : (Jvm.Cond.fieldLink "java/util/AbstractList" (7 : Nat) "java/util/AbstractList" "modCount" "I") ∈ lw_all := lw_g (lw_at lw_m1 94 rfl) rfl
theorem q191 : (Jvm.Cond.soleField "java/util/AbstractList" "modCount") ∈ lw_all := lw_g (lw_at lw_m1 102 rfl) rfl
/-! jdk/internal/util/ArraysSupport -/
set_option maxRecDepth 100000
def RJ10 : String := "jdk/internal/util/ArraysSupport"
abbrev cJ10_newLength : ByteArray := prog_50_method_27_code
def yJ10_newLength : MethodName := ⟨RJ10, "newLength", "(III)I"⟩
def dkwJ10_newLength_1 : List UInt8 := [184, 0, 201, 172]
abbrev dktJ10_newLength_1 : List UInt8 := dkwJ10_newLength_1 ++ []
def dkwJ10_newLength_0 : List UInt8 := [26, 27, 28, 184, 0, 194, 96, 62, 3, 29, 162, 0, 11, 29, 18, 200, 163, 0, 5, 29, 172, 26, 27]
abbrev dktJ10_newLength_0 : List UInt8 := dkwJ10_newLength_0 ++ dktJ10_newLength_1
theorem dksJ10_newLength_0 : cJ10_newLength.data.toList.drop 0 = dktJ10_newLength_0 := by decide +kernel
theorem dksJ10_newLength_1 : cJ10_newLength.data.toList.drop 23 = dktJ10_newLength_1 := dk_seg dksJ10_newLength_0 23 rfl rfl
theorem dJ10_newLength_0 : decode cJ10_newLength 0 = .ok (.iload_n 0, 1) := dk_26 (dk_at dksJ10_newLength_0 0 rfl rfl)
theorem dJ10_newLength_1 : decode cJ10_newLength 1 = .ok (.iload_n 1, 1) := dk_27 (dk_at dksJ10_newLength_0 1 rfl rfl)
theorem dJ10_newLength_2 : decode cJ10_newLength 2 = .ok (.iload_n 2, 1) := dk_28 (dk_at dksJ10_newLength_0 2 rfl rfl)
theorem dJ10_newLength_3 : decode cJ10_newLength 3 = .ok (.invokestatic 194, 3) := dk_184 0 194 (dk_at dksJ10_newLength_0 3 rfl rfl)
theorem dJ10_newLength_6 : decode cJ10_newLength 6 = .ok (.iadd, 1) := dk_96 (dk_at dksJ10_newLength_0 6 rfl rfl)
theorem dJ10_newLength_7 : decode cJ10_newLength 7 = .ok (.istore_n 3, 1) := dk_62 (dk_at dksJ10_newLength_0 7 rfl rfl)
theorem dJ10_newLength_8 : decode cJ10_newLength 8 = .ok (.iconst 0, 1) := dk_3 (dk_at dksJ10_newLength_0 8 rfl rfl)
theorem dJ10_newLength_9 : decode cJ10_newLength 9 = .ok (.iload_n 3, 1) := dk_29 (dk_at dksJ10_newLength_0 9 rfl rfl)
theorem dJ10_newLength_10 : decode cJ10_newLength 10 = .ok (.if_icmp .ge 11, 3) := dk_162 0 11 (dk_at dksJ10_newLength_0 10 rfl rfl)
theorem dJ10_newLength_13 : decode cJ10_newLength 13 = .ok (.iload_n 3, 1) := dk_29 (dk_at dksJ10_newLength_0 13 rfl rfl)
theorem dJ10_newLength_14 : decode cJ10_newLength 14 = .ok (.ldc 200, 2) := dk_18 200 (dk_at dksJ10_newLength_0 14 rfl rfl)
theorem dJ10_newLength_16 : decode cJ10_newLength 16 = .ok (.if_icmp .gt 5, 3) := dk_163 0 5 (dk_at dksJ10_newLength_0 16 rfl rfl)
theorem dJ10_newLength_19 : decode cJ10_newLength 19 = .ok (.iload_n 3, 1) := dk_29 (dk_at dksJ10_newLength_0 19 rfl rfl)
theorem dJ10_newLength_20 : decode cJ10_newLength 20 = .ok (.ireturn, 1) := dk_172 (dk_at dksJ10_newLength_0 20 rfl rfl)
theorem dJ10_newLength_21 : decode cJ10_newLength 21 = .ok (.iload_n 0, 1) := dk_26 (dk_at dksJ10_newLength_0 21 rfl rfl)
theorem dJ10_newLength_22 : decode cJ10_newLength 22 = .ok (.iload_n 1, 1) := dk_27 (dk_at dksJ10_newLength_0 22 rfl rfl)
theorem dJ10_newLength_23 : decode cJ10_newLength 23 = .ok (.invokestatic 201, 3) := dk_184 0 201 (dk_at dksJ10_newLength_1 0 rfl rfl)
theorem dJ10_newLength_26 : decode cJ10_newLength 26 = .ok (.ireturn, 1) := dk_172 (dk_at dksJ10_newLength_1 3 rfl rfl)
abbrev cJ10_hugeLength : ByteArray := prog_50_method_28_code
def yJ10_hugeLength : MethodName := ⟨RJ10, "hugeLength", "(II)I"⟩
def dkwJ10_hugeLength_2 : List UInt8 := [191, 28, 18, 200, 163, 0, 6, 18, 200, 172, 28, 172]
abbrev dktJ10_hugeLength_2 : List UInt8 := dkwJ10_hugeLength_2 ++ []
def dkwJ10_hugeLength_1 : List UInt8 := [26, 182, 0, 98, 18, 208, 182, 0, 94, 27, 182, 0, 98, 18, 210, 182, 0, 94, 182, 0, 101, 183, 0, 212]
abbrev dktJ10_hugeLength_1 : List UInt8 := dkwJ10_hugeLength_1 ++ dktJ10_hugeLength_2
def dkwJ10_hugeLength_0 : List UInt8 := [26, 27, 96, 61, 28, 156, 0, 44, 187, 0, 204, 89, 187, 0, 89, 89, 183, 0, 91, 18, 206, 182, 0, 94]
abbrev dktJ10_hugeLength_0 : List UInt8 := dkwJ10_hugeLength_0 ++ dktJ10_hugeLength_1
theorem dksJ10_hugeLength_0 : cJ10_hugeLength.data.toList.drop 0 = dktJ10_hugeLength_0 := by decide +kernel
theorem dksJ10_hugeLength_1 : cJ10_hugeLength.data.toList.drop 24 = dktJ10_hugeLength_1 := dk_seg dksJ10_hugeLength_0 24 rfl rfl
theorem dksJ10_hugeLength_2 : cJ10_hugeLength.data.toList.drop 48 = dktJ10_hugeLength_2 := dk_seg dksJ10_hugeLength_1 24 rfl rfl
theorem dJ10_hugeLength_0 : decode cJ10_hugeLength 0 = .ok (.iload_n 0, 1) := dk_26 (dk_at dksJ10_hugeLength_0 0 rfl rfl)
theorem dJ10_hugeLength_1 : decode cJ10_hugeLength 1 = .ok (.iload_n 1, 1) := dk_27 (dk_at dksJ10_hugeLength_0 1 rfl rfl)
theorem dJ10_hugeLength_2 : decode cJ10_hugeLength 2 = .ok (.iadd, 1) := dk_96 (dk_at dksJ10_hugeLength_0 2 rfl rfl)
theorem dJ10_hugeLength_3 : decode cJ10_hugeLength 3 = .ok (.istore_n 2, 1) := dk_61 (dk_at dksJ10_hugeLength_0 3 rfl rfl)
theorem dJ10_hugeLength_4 : decode cJ10_hugeLength 4 = .ok (.iload_n 2, 1) := dk_28 (dk_at dksJ10_hugeLength_0 4 rfl rfl)
theorem dJ10_hugeLength_5 : decode cJ10_hugeLength 5 = .ok (.ifCond .ge 44, 3) := dk_156 0 44 (dk_at dksJ10_hugeLength_0 5 rfl rfl)
theorem dJ10_hugeLength_8 : decode cJ10_hugeLength 8 = .ok (.new 204, 3) := dk_187 0 204 (dk_at dksJ10_hugeLength_0 8 rfl rfl)
theorem dJ10_hugeLength_11 : decode cJ10_hugeLength 11 = .ok (.dup, 1) := dk_89 (dk_at dksJ10_hugeLength_0 11 rfl rfl)
theorem dJ10_hugeLength_12 : decode cJ10_hugeLength 12 = .ok (.new 89, 3) := dk_187 0 89 (dk_at dksJ10_hugeLength_0 12 rfl rfl)
theorem dJ10_hugeLength_15 : decode cJ10_hugeLength 15 = .ok (.dup, 1) := dk_89 (dk_at dksJ10_hugeLength_0 15 rfl rfl)
theorem dJ10_hugeLength_16 : decode cJ10_hugeLength 16 = .ok (.invokespecial 91, 3) := dk_183 0 91 (dk_at dksJ10_hugeLength_0 16 rfl rfl)
theorem dJ10_hugeLength_19 : decode cJ10_hugeLength 19 = .ok (.ldc 206, 2) := dk_18 206 (dk_at dksJ10_hugeLength_0 19 rfl rfl)
theorem dJ10_hugeLength_21 : decode cJ10_hugeLength 21 = .ok (.invokevirtual 94, 3) := dk_182 0 94 (dk_at dksJ10_hugeLength_0 21 rfl rfl)
theorem dJ10_hugeLength_24 : decode cJ10_hugeLength 24 = .ok (.iload_n 0, 1) := dk_26 (dk_at dksJ10_hugeLength_1 0 rfl rfl)
theorem dJ10_hugeLength_25 : decode cJ10_hugeLength 25 = .ok (.invokevirtual 98, 3) := dk_182 0 98 (dk_at dksJ10_hugeLength_1 1 rfl rfl)
theorem dJ10_hugeLength_28 : decode cJ10_hugeLength 28 = .ok (.ldc 208, 2) := dk_18 208 (dk_at dksJ10_hugeLength_1 4 rfl rfl)
theorem dJ10_hugeLength_30 : decode cJ10_hugeLength 30 = .ok (.invokevirtual 94, 3) := dk_182 0 94 (dk_at dksJ10_hugeLength_1 6 rfl rfl)
theorem dJ10_hugeLength_33 : decode cJ10_hugeLength 33 = .ok (.iload_n 1, 1) := dk_27 (dk_at dksJ10_hugeLength_1 9 rfl rfl)
theorem dJ10_hugeLength_34 : decode cJ10_hugeLength 34 = .ok (.invokevirtual 98, 3) := dk_182 0 98 (dk_at dksJ10_hugeLength_1 10 rfl rfl)
theorem dJ10_hugeLength_37 : decode cJ10_hugeLength 37 = .ok (.ldc 210, 2) := dk_18 210 (dk_at dksJ10_hugeLength_1 13 rfl rfl)
theorem dJ10_hugeLength_39 : decode cJ10_hugeLength 39 = .ok (.invokevirtual 94, 3) := dk_182 0 94 (dk_at dksJ10_hugeLength_1 15 rfl rfl)
theorem dJ10_hugeLength_42 : decode cJ10_hugeLength 42 = .ok (.invokevirtual 101, 3) := dk_182 0 101 (dk_at dksJ10_hugeLength_1 18 rfl rfl)
theorem dJ10_hugeLength_45 : decode cJ10_hugeLength 45 = .ok (.invokespecial 212, 3) := dk_183 0 212 (dk_at dksJ10_hugeLength_1 21 rfl rfl)
theorem dJ10_hugeLength_48 : decode cJ10_hugeLength 48 = .ok (.athrow, 1) := dk_191 (dk_at dksJ10_hugeLength_2 0 rfl rfl)
theorem dJ10_hugeLength_49 : decode cJ10_hugeLength 49 = .ok (.iload_n 2, 1) := dk_28 (dk_at dksJ10_hugeLength_2 1 rfl rfl)
theorem dJ10_hugeLength_50 : decode cJ10_hugeLength 50 = .ok (.ldc 200, 2) := dk_18 200 (dk_at dksJ10_hugeLength_2 2 rfl rfl)
theorem dJ10_hugeLength_52 : decode cJ10_hugeLength 52 = .ok (.if_icmp .gt 6, 3) := dk_163 0 6 (dk_at dksJ10_hugeLength_2 4 rfl rfl)
theorem dJ10_hugeLength_55 : decode cJ10_hugeLength 55 = .ok (.ldc 200, 2) := dk_18 200 (dk_at dksJ10_hugeLength_2 7 rfl rfl)
theorem dJ10_hugeLength_57 : decode cJ10_hugeLength 57 = .ok (.ireturn, 1) := dk_172 (dk_at dksJ10_hugeLength_2 9 rfl rfl)
theorem dJ10_hugeLength_58 : decode cJ10_hugeLength 58 = .ok (.iload_n 2, 1) := dk_28 (dk_at dksJ10_hugeLength_2 10 rfl rfl)
theorem dJ10_hugeLength_59 : decode cJ10_hugeLength 59 = .ok (.ireturn, 1) := dk_172 (dk_at dksJ10_hugeLength_2 11 rfl rfl)
theorem q108 : (Jvm.Cond.initialized "jdk/internal/util/ArraysSupport") ∈ lw_all := lw_g (lw_at lw_m1 19 rfl) rfl
theorem q669 : (Jvm.Cond.static ({ cls := "jdk/internal/util/ArraysSupport", name := "newLength", desc := "(III)I" } : Jvm.MethodName)) ∈ lw_all := lw_g (lw_at lw_m3 100 rfl) rfl
theorem q670 : (Jvm.Cond.code ({ cls := "jdk/internal/util/ArraysSupport", name := "newLength", desc := "(III)I" } : Jvm.MethodName) prog_50_method_27_code (4 : Nat) (Option.some Jvm.ClassFile.FieldType.int)) ∈ lw_all := lw_g (lw_at lw_m3 101 rfl) rfl
theorem q671 : (Jvm.Cond.methodLink "jdk/internal/util/ArraysSupport" (194 : Nat) ({ cls := "java/lang/Math", name := "max", desc := "(II)I" } : Jvm.MethodName)) ∈ lw_all := lw_g (lw_at lw_m3 102 rfl) rfl
theorem q674 : (Jvm.Cond.constant "jdk/internal/util/ArraysSupport" (200 : Nat) (2147483639 : Int32)) ∈ lw_all := lw_g (lw_at lw_m3 105 rfl) rfl
theorem q675 : (Jvm.Cond.methodLink "jdk/internal/util/ArraysSupport" (201 : Nat) ({ cls := "jdk/internal/util/ArraysSupport", name := "hugeLength", desc := "(II)I" } : Jvm.MethodName)) ∈ lw_all := lw_g (lw_at lw_m3 106 rfl) rfl
theorem q676 : (Jvm.Cond.static ({ cls := "jdk/internal/util/ArraysSupport", name := "hugeLength", desc := "(II)I" } : Jvm.MethodName)) ∈ lw_all := lw_g (lw_at lw_m3 107 rfl) rfl
theorem q677 : (Jvm.Cond.code ({ cls := "jdk/internal/util/ArraysSupport", name := "hugeLength", desc := "(II)I" } : Jvm.MethodName) prog_50_method_28_code (3 : Nat) (Option.some Jvm.ClassFile.FieldType.int)) ∈ lw_all := lw_g (lw_at lw_m3 108 rfl) rfl
/-! java/util/Arrays -/
set_option maxRecDepth 100000
def RJ11 : String := "java/util/Arrays"
abbrev cJ11_copyOf : ByteArray := prog_44_method_119_code
def yJ11_copyOf : MethodName := ⟨RJ11, "copyOf", "([Ljava/lang/Object;I)[Ljava/lang/Object;"⟩
def dkwJ11_copyOf_0 : List UInt8 := [42, 27, 42, 182, 0, 86, 184, 1, 44, 176]
abbrev dktJ11_copyOf_0 : List UInt8 := dkwJ11_copyOf_0 ++ []
theorem dksJ11_copyOf_0 : cJ11_copyOf.data.toList.drop 0 = dktJ11_copyOf_0 := by decide +kernel
theorem dJ11_copyOf_0 : decode cJ11_copyOf 0 = .ok (.aload_n 0, 1) := dk_42 (dk_at dksJ11_copyOf_0 0 rfl rfl)
theorem dJ11_copyOf_1 : decode cJ11_copyOf 1 = .ok (.iload_n 1, 1) := dk_27 (dk_at dksJ11_copyOf_0 1 rfl rfl)
theorem dJ11_copyOf_2 : decode cJ11_copyOf 2 = .ok (.aload_n 0, 1) := dk_42 (dk_at dksJ11_copyOf_0 2 rfl rfl)
theorem dJ11_copyOf_3 : decode cJ11_copyOf 3 = .ok (.invokevirtual 86, 3) := dk_182 0 86 (dk_at dksJ11_copyOf_0 3 rfl rfl)
theorem dJ11_copyOf_6 : decode cJ11_copyOf 6 = .ok (.invokestatic 300, 3) := dk_184 1 44 (dk_at dksJ11_copyOf_0 6 rfl rfl)
theorem dJ11_copyOf_9 : decode cJ11_copyOf 9 = .ok (.areturn, 1) := dk_176 (dk_at dksJ11_copyOf_0 9 rfl rfl)
abbrev cJ11_copyOf_2 : ByteArray := prog_44_method_120_code
def yJ11_copyOf_2 : MethodName := ⟨RJ11, "copyOf", "([Ljava/lang/Object;ILjava/lang/Class;)[Ljava/lang/Object;"⟩
def dkwJ11_copyOf_2_1 : List UInt8 := [78, 42, 3, 45, 3, 42, 190, 27, 184, 1, 48, 184, 0, 150, 45, 176]
abbrev dktJ11_copyOf_2_1 : List UInt8 := dkwJ11_copyOf_2_1 ++ []
def dkwJ11_copyOf_2_0 : List UInt8 := [44, 18, 110, 166, 0, 10, 27, 189, 0, 2, 167, 0, 14, 44, 182, 0, 90, 27, 184, 0, 95, 192, 0, 110]
abbrev dktJ11_copyOf_2_0 : List UInt8 := dkwJ11_copyOf_2_0 ++ dktJ11_copyOf_2_1
theorem dksJ11_copyOf_2_0 : cJ11_copyOf_2.data.toList.drop 0 = dktJ11_copyOf_2_0 := by decide +kernel
theorem dksJ11_copyOf_2_1 : cJ11_copyOf_2.data.toList.drop 24 = dktJ11_copyOf_2_1 := dk_seg dksJ11_copyOf_2_0 24 rfl rfl
theorem dJ11_copyOf_2_0 : decode cJ11_copyOf_2 0 = .ok (.aload_n 2, 1) := dk_44 (dk_at dksJ11_copyOf_2_0 0 rfl rfl)
theorem dJ11_copyOf_2_1 : decode cJ11_copyOf_2 1 = .ok (.ldc 110, 2) := dk_18 110 (dk_at dksJ11_copyOf_2_0 1 rfl rfl)
theorem dJ11_copyOf_2_3 : decode cJ11_copyOf_2 3 = .ok (.if_acmp .ne 10, 3) := dk_166 0 10 (dk_at dksJ11_copyOf_2_0 3 rfl rfl)
theorem dJ11_copyOf_2_6 : decode cJ11_copyOf_2 6 = .ok (.iload_n 1, 1) := dk_27 (dk_at dksJ11_copyOf_2_0 6 rfl rfl)
theorem dJ11_copyOf_2_7 : decode cJ11_copyOf_2 7 = .ok (.anewarray 2, 3) := dk_189 0 2 (dk_at dksJ11_copyOf_2_0 7 rfl rfl)
theorem dJ11_copyOf_2_10 : decode cJ11_copyOf_2 10 = .ok (.goto 14, 3) := dk_167 0 14 (dk_at dksJ11_copyOf_2_0 10 rfl rfl)
theorem dJ11_copyOf_2_13 : decode cJ11_copyOf_2 13 = .ok (.aload_n 2, 1) := dk_44 (dk_at dksJ11_copyOf_2_0 13 rfl rfl)
theorem dJ11_copyOf_2_14 : decode cJ11_copyOf_2 14 = .ok (.invokevirtual 90, 3) := dk_182 0 90 (dk_at dksJ11_copyOf_2_0 14 rfl rfl)
theorem dJ11_copyOf_2_17 : decode cJ11_copyOf_2 17 = .ok (.iload_n 1, 1) := dk_27 (dk_at dksJ11_copyOf_2_0 17 rfl rfl)
theorem dJ11_copyOf_2_18 : decode cJ11_copyOf_2 18 = .ok (.invokestatic 95, 3) := dk_184 0 95 (dk_at dksJ11_copyOf_2_0 18 rfl rfl)
theorem dJ11_copyOf_2_21 : decode cJ11_copyOf_2 21 = .ok (.checkcast 110, 3) := dk_192 0 110 (dk_at dksJ11_copyOf_2_0 21 rfl rfl)
theorem dJ11_copyOf_2_24 : decode cJ11_copyOf_2 24 = .ok (.astore_n 3, 1) := dk_78 (dk_at dksJ11_copyOf_2_1 0 rfl rfl)
theorem dJ11_copyOf_2_25 : decode cJ11_copyOf_2 25 = .ok (.aload_n 0, 1) := dk_42 (dk_at dksJ11_copyOf_2_1 1 rfl rfl)
theorem dJ11_copyOf_2_26 : decode cJ11_copyOf_2 26 = .ok (.iconst 0, 1) := dk_3 (dk_at dksJ11_copyOf_2_1 2 rfl rfl)
theorem dJ11_copyOf_2_27 : decode cJ11_copyOf_2 27 = .ok (.aload_n 3, 1) := dk_45 (dk_at dksJ11_copyOf_2_1 3 rfl rfl)
theorem dJ11_copyOf_2_28 : decode cJ11_copyOf_2 28 = .ok (.iconst 0, 1) := dk_3 (dk_at dksJ11_copyOf_2_1 4 rfl rfl)
theorem dJ11_copyOf_2_29 : decode cJ11_copyOf_2 29 = .ok (.aload_n 0, 1) := dk_42 (dk_at dksJ11_copyOf_2_1 5 rfl rfl)
theorem dJ11_copyOf_2_30 : decode cJ11_copyOf_2 30 = .ok (.arraylength, 1) := dk_190 (dk_at dksJ11_copyOf_2_1 6 rfl rfl)
theorem dJ11_copyOf_2_31 : decode cJ11_copyOf_2 31 = .ok (.iload_n 1, 1) := dk_27 (dk_at dksJ11_copyOf_2_1 7 rfl rfl)
theorem dJ11_copyOf_2_32 : decode cJ11_copyOf_2 32 = .ok (.invokestatic 304, 3) := dk_184 1 48 (dk_at dksJ11_copyOf_2_1 8 rfl rfl)
theorem dJ11_copyOf_2_35 : decode cJ11_copyOf_2 35 = .ok (.invokestatic 150, 3) := dk_184 0 150 (dk_at dksJ11_copyOf_2_1 11 rfl rfl)
theorem dJ11_copyOf_2_38 : decode cJ11_copyOf_2 38 = .ok (.aload_n 3, 1) := dk_45 (dk_at dksJ11_copyOf_2_1 14 rfl rfl)
theorem dJ11_copyOf_2_39 : decode cJ11_copyOf_2 39 = .ok (.areturn, 1) := dk_176 (dk_at dksJ11_copyOf_2_1 15 rfl rfl)
abbrev cJ11_copyOf_3 : ByteArray := prog_44_method_121_code
def yJ11_copyOf_3 : MethodName := ⟨RJ11, "copyOf", "([BI)[B"⟩
def dkwJ11_copyOf_3_1 : List UInt8 := [27, 184, 1, 48, 184, 0, 150, 44, 176]
abbrev dktJ11_copyOf_3_1 : List UInt8 := dkwJ11_copyOf_3_1 ++ []
def dkwJ11_copyOf_3_0 : List UInt8 := [27, 42, 190, 160, 0, 11, 42, 182, 1, 54, 192, 1, 55, 176, 27, 188, 8, 77, 42, 3, 44, 3, 42, 190]
abbrev dktJ11_copyOf_3_0 : List UInt8 := dkwJ11_copyOf_3_0 ++ dktJ11_copyOf_3_1
theorem dksJ11_copyOf_3_0 : cJ11_copyOf_3.data.toList.drop 0 = dktJ11_copyOf_3_0 := by decide +kernel
theorem dksJ11_copyOf_3_1 : cJ11_copyOf_3.data.toList.drop 24 = dktJ11_copyOf_3_1 := dk_seg dksJ11_copyOf_3_0 24 rfl rfl
theorem dJ11_copyOf_3_0 : decode cJ11_copyOf_3 0 = .ok (.iload_n 1, 1) := dk_27 (dk_at dksJ11_copyOf_3_0 0 rfl rfl)
theorem dJ11_copyOf_3_1 : decode cJ11_copyOf_3 1 = .ok (.aload_n 0, 1) := dk_42 (dk_at dksJ11_copyOf_3_0 1 rfl rfl)
theorem dJ11_copyOf_3_2 : decode cJ11_copyOf_3 2 = .ok (.arraylength, 1) := dk_190 (dk_at dksJ11_copyOf_3_0 2 rfl rfl)
theorem dJ11_copyOf_3_3 : decode cJ11_copyOf_3 3 = .ok (.if_icmp .ne 11, 3) := dk_160 0 11 (dk_at dksJ11_copyOf_3_0 3 rfl rfl)
theorem dJ11_copyOf_3_6 : decode cJ11_copyOf_3 6 = .ok (.aload_n 0, 1) := dk_42 (dk_at dksJ11_copyOf_3_0 6 rfl rfl)
theorem dJ11_copyOf_3_7 : decode cJ11_copyOf_3 7 = .ok (.invokevirtual 310, 3) := dk_182 1 54 (dk_at dksJ11_copyOf_3_0 7 rfl rfl)
theorem dJ11_copyOf_3_10 : decode cJ11_copyOf_3 10 = .ok (.checkcast 311, 3) := dk_192 1 55 (dk_at dksJ11_copyOf_3_0 10 rfl rfl)
theorem dJ11_copyOf_3_13 : decode cJ11_copyOf_3 13 = .ok (.areturn, 1) := dk_176 (dk_at dksJ11_copyOf_3_0 13 rfl rfl)
theorem dJ11_copyOf_3_14 : decode cJ11_copyOf_3 14 = .ok (.iload_n 1, 1) := dk_27 (dk_at dksJ11_copyOf_3_0 14 rfl rfl)
theorem dJ11_copyOf_3_15 : decode cJ11_copyOf_3 15 = .ok (.newarray .byte, 2) := dk_188_8 (dk_at dksJ11_copyOf_3_0 15 rfl rfl)
theorem dJ11_copyOf_3_17 : decode cJ11_copyOf_3 17 = .ok (.astore_n 2, 1) := dk_77 (dk_at dksJ11_copyOf_3_0 17 rfl rfl)
theorem dJ11_copyOf_3_18 : decode cJ11_copyOf_3 18 = .ok (.aload_n 0, 1) := dk_42 (dk_at dksJ11_copyOf_3_0 18 rfl rfl)
theorem dJ11_copyOf_3_19 : decode cJ11_copyOf_3 19 = .ok (.iconst 0, 1) := dk_3 (dk_at dksJ11_copyOf_3_0 19 rfl rfl)
theorem dJ11_copyOf_3_20 : decode cJ11_copyOf_3 20 = .ok (.aload_n 2, 1) := dk_44 (dk_at dksJ11_copyOf_3_0 20 rfl rfl)
theorem dJ11_copyOf_3_21 : decode cJ11_copyOf_3 21 = .ok (.iconst 0, 1) := dk_3 (dk_at dksJ11_copyOf_3_0 21 rfl rfl)
theorem dJ11_copyOf_3_22 : decode cJ11_copyOf_3 22 = .ok (.aload_n 0, 1) := dk_42 (dk_at dksJ11_copyOf_3_0 22 rfl rfl)
theorem dJ11_copyOf_3_23 : decode cJ11_copyOf_3 23 = .ok (.arraylength, 1) := dk_190 (dk_at dksJ11_copyOf_3_0 23 rfl rfl)
theorem dJ11_copyOf_3_24 : decode cJ11_copyOf_3 24 = .ok (.iload_n 1, 1) := dk_27 (dk_at dksJ11_copyOf_3_1 0 rfl rfl)
theorem dJ11_copyOf_3_25 : decode cJ11_copyOf_3 25 = .ok (.invokestatic 304, 3) := dk_184 1 48 (dk_at dksJ11_copyOf_3_1 1 rfl rfl)
theorem dJ11_copyOf_3_28 : decode cJ11_copyOf_3 28 = .ok (.invokestatic 150, 3) := dk_184 0 150 (dk_at dksJ11_copyOf_3_1 4 rfl rfl)
theorem dJ11_copyOf_3_31 : decode cJ11_copyOf_3 31 = .ok (.aload_n 2, 1) := dk_44 (dk_at dksJ11_copyOf_3_1 7 rfl rfl)
theorem dJ11_copyOf_3_32 : decode cJ11_copyOf_3 32 = .ok (.areturn, 1) := dk_176 (dk_at dksJ11_copyOf_3_1 8 rfl rfl)
abbrev cJ11_copyOfRange : ByteArray := prog_44_method_132_code
def yJ11_copyOfRange : MethodName := ⟨RJ11, "copyOfRange", "([BII)[B"⟩
def dkwJ11_copyOfRange_1 : List UInt8 := [176]
abbrev dktJ11_copyOfRange_1 : List UInt8 := dkwJ11_copyOfRange_1 ++ []
def dkwJ11_copyOfRange_0 : List UInt8 := [27, 154, 0, 9, 28, 42, 190, 159, 0, 10, 42, 27, 28, 184, 1, 83, 176, 42, 182, 1, 54, 192, 1, 55]
abbrev dktJ11_copyOfRange_0 : List UInt8 := dkwJ11_copyOfRange_0 ++ dktJ11_copyOfRange_1
theorem dksJ11_copyOfRange_0 : cJ11_copyOfRange.data.toList.drop 0 = dktJ11_copyOfRange_0 := by decide +kernel
theorem dksJ11_copyOfRange_1 : cJ11_copyOfRange.data.toList.drop 24 = dktJ11_copyOfRange_1 := dk_seg dksJ11_copyOfRange_0 24 rfl rfl
theorem dJ11_copyOfRange_0 : decode cJ11_copyOfRange 0 = .ok (.iload_n 1, 1) := dk_27 (dk_at dksJ11_copyOfRange_0 0 rfl rfl)
theorem dJ11_copyOfRange_1 : decode cJ11_copyOfRange 1 = .ok (.ifCond .ne 9, 3) := dk_154 0 9 (dk_at dksJ11_copyOfRange_0 1 rfl rfl)
theorem dJ11_copyOfRange_4 : decode cJ11_copyOfRange 4 = .ok (.iload_n 2, 1) := dk_28 (dk_at dksJ11_copyOfRange_0 4 rfl rfl)
theorem dJ11_copyOfRange_5 : decode cJ11_copyOfRange 5 = .ok (.aload_n 0, 1) := dk_42 (dk_at dksJ11_copyOfRange_0 5 rfl rfl)
theorem dJ11_copyOfRange_6 : decode cJ11_copyOfRange 6 = .ok (.arraylength, 1) := dk_190 (dk_at dksJ11_copyOfRange_0 6 rfl rfl)
theorem dJ11_copyOfRange_7 : decode cJ11_copyOfRange 7 = .ok (.if_icmp .eq 10, 3) := dk_159 0 10 (dk_at dksJ11_copyOfRange_0 7 rfl rfl)
theorem dJ11_copyOfRange_10 : decode cJ11_copyOfRange 10 = .ok (.aload_n 0, 1) := dk_42 (dk_at dksJ11_copyOfRange_0 10 rfl rfl)
theorem dJ11_copyOfRange_11 : decode cJ11_copyOfRange 11 = .ok (.iload_n 1, 1) := dk_27 (dk_at dksJ11_copyOfRange_0 11 rfl rfl)
theorem dJ11_copyOfRange_12 : decode cJ11_copyOfRange 12 = .ok (.iload_n 2, 1) := dk_28 (dk_at dksJ11_copyOfRange_0 12 rfl rfl)
theorem dJ11_copyOfRange_13 : decode cJ11_copyOfRange 13 = .ok (.invokestatic 339, 3) := dk_184 1 83 (dk_at dksJ11_copyOfRange_0 13 rfl rfl)
theorem dJ11_copyOfRange_16 : decode cJ11_copyOfRange 16 = .ok (.areturn, 1) := dk_176 (dk_at dksJ11_copyOfRange_0 16 rfl rfl)
theorem dJ11_copyOfRange_17 : decode cJ11_copyOfRange 17 = .ok (.aload_n 0, 1) := dk_42 (dk_at dksJ11_copyOfRange_0 17 rfl rfl)
theorem dJ11_copyOfRange_18 : decode cJ11_copyOfRange 18 = .ok (.invokevirtual 310, 3) := dk_182 1 54 (dk_at dksJ11_copyOfRange_0 18 rfl rfl)
theorem dJ11_copyOfRange_21 : decode cJ11_copyOfRange 21 = .ok (.checkcast 311, 3) := dk_192 1 55 (dk_at dksJ11_copyOfRange_0 21 rfl rfl)
theorem dJ11_copyOfRange_24 : decode cJ11_copyOfRange 24 = .ok (.areturn, 1) := dk_176 (dk_at dksJ11_copyOfRange_1 0 rfl rfl)
abbrev cJ11_copyOfRangeByte : ByteArray := prog_44_method_133_code
def yJ11_copyOfRangeByte : MethodName := ⟨RJ11, "copyOfRangeByte", "([BII)[B"⟩
def dkwJ11_copyOfRangeByte_1 : List UInt8 := [184, 1, 48, 184, 0, 150, 25, 4, 176]
abbrev dktJ11_copyOfRangeByte_1 : List UInt8 := dkwJ11_copyOfRangeByte_1 ++ []
def dkwJ11_copyOfRangeByte_0 : List UInt8 := [27, 28, 184, 1, 87, 28, 27, 100, 62, 29, 188, 8, 58, 4, 42, 27, 25, 4, 3, 42, 190, 27, 100, 29]
abbrev dktJ11_copyOfRangeByte_0 : List UInt8 := dkwJ11_copyOfRangeByte_0 ++ dktJ11_copyOfRangeByte_1
theorem dksJ11_copyOfRangeByte_0 : cJ11_copyOfRangeByte.data.toList.drop 0 = dktJ11_copyOfRangeByte_0 := by decide +kernel
theorem dksJ11_copyOfRangeByte_1 : cJ11_copyOfRangeByte.data.toList.drop 24 = dktJ11_copyOfRangeByte_1 := dk_seg dksJ11_copyOfRangeByte_0 24 rfl rfl
theorem dJ11_copyOfRangeByte_0 : decode cJ11_copyOfRangeByte 0 = .ok (.iload_n 1, 1) := dk_27 (dk_at dksJ11_copyOfRangeByte_0 0 rfl rfl)
theorem dJ11_copyOfRangeByte_1 : decode cJ11_copyOfRangeByte 1 = .ok (.iload_n 2, 1) := dk_28 (dk_at dksJ11_copyOfRangeByte_0 1 rfl rfl)
theorem dJ11_copyOfRangeByte_2 : decode cJ11_copyOfRangeByte 2 = .ok (.invokestatic 343, 3) := dk_184 1 87 (dk_at dksJ11_copyOfRangeByte_0 2 rfl rfl)
theorem dJ11_copyOfRangeByte_5 : decode cJ11_copyOfRangeByte 5 = .ok (.iload_n 2, 1) := dk_28 (dk_at dksJ11_copyOfRangeByte_0 5 rfl rfl)
theorem dJ11_copyOfRangeByte_6 : decode cJ11_copyOfRangeByte 6 = .ok (.iload_n 1, 1) := dk_27 (dk_at dksJ11_copyOfRangeByte_0 6 rfl rfl)
theorem dJ11_copyOfRangeByte_7 : decode cJ11_copyOfRangeByte 7 = .ok (.isub, 1) := dk_100 (dk_at dksJ11_copyOfRangeByte_0 7 rfl rfl)
theorem dJ11_copyOfRangeByte_8 : decode cJ11_copyOfRangeByte 8 = .ok (.istore_n 3, 1) := dk_62 (dk_at dksJ11_copyOfRangeByte_0 8 rfl rfl)
theorem dJ11_copyOfRangeByte_9 : decode cJ11_copyOfRangeByte 9 = .ok (.iload_n 3, 1) := dk_29 (dk_at dksJ11_copyOfRangeByte_0 9 rfl rfl)
theorem dJ11_copyOfRangeByte_10 : decode cJ11_copyOfRangeByte 10 = .ok (.newarray .byte, 2) := dk_188_8 (dk_at dksJ11_copyOfRangeByte_0 10 rfl rfl)
theorem dJ11_copyOfRangeByte_12 : decode cJ11_copyOfRangeByte 12 = .ok (.astore 4, 2) := dk_58 4 (dk_at dksJ11_copyOfRangeByte_0 12 rfl rfl)
theorem dJ11_copyOfRangeByte_14 : decode cJ11_copyOfRangeByte 14 = .ok (.aload_n 0, 1) := dk_42 (dk_at dksJ11_copyOfRangeByte_0 14 rfl rfl)
theorem dJ11_copyOfRangeByte_15 : decode cJ11_copyOfRangeByte 15 = .ok (.iload_n 1, 1) := dk_27 (dk_at dksJ11_copyOfRangeByte_0 15 rfl rfl)
theorem dJ11_copyOfRangeByte_16 : decode cJ11_copyOfRangeByte 16 = .ok (.aload 4, 2) := dk_25 4 (dk_at dksJ11_copyOfRangeByte_0 16 rfl rfl)
theorem dJ11_copyOfRangeByte_18 : decode cJ11_copyOfRangeByte 18 = .ok (.iconst 0, 1) := dk_3 (dk_at dksJ11_copyOfRangeByte_0 18 rfl rfl)
theorem dJ11_copyOfRangeByte_19 : decode cJ11_copyOfRangeByte 19 = .ok (.aload_n 0, 1) := dk_42 (dk_at dksJ11_copyOfRangeByte_0 19 rfl rfl)
theorem dJ11_copyOfRangeByte_20 : decode cJ11_copyOfRangeByte 20 = .ok (.arraylength, 1) := dk_190 (dk_at dksJ11_copyOfRangeByte_0 20 rfl rfl)
theorem dJ11_copyOfRangeByte_21 : decode cJ11_copyOfRangeByte 21 = .ok (.iload_n 1, 1) := dk_27 (dk_at dksJ11_copyOfRangeByte_0 21 rfl rfl)
theorem dJ11_copyOfRangeByte_22 : decode cJ11_copyOfRangeByte 22 = .ok (.isub, 1) := dk_100 (dk_at dksJ11_copyOfRangeByte_0 22 rfl rfl)
theorem dJ11_copyOfRangeByte_23 : decode cJ11_copyOfRangeByte 23 = .ok (.iload_n 3, 1) := dk_29 (dk_at dksJ11_copyOfRangeByte_0 23 rfl rfl)
theorem dJ11_copyOfRangeByte_24 : decode cJ11_copyOfRangeByte 24 = .ok (.invokestatic 304, 3) := dk_184 1 48 (dk_at dksJ11_copyOfRangeByte_1 0 rfl rfl)
theorem dJ11_copyOfRangeByte_27 : decode cJ11_copyOfRangeByte 27 = .ok (.invokestatic 150, 3) := dk_184 0 150 (dk_at dksJ11_copyOfRangeByte_1 3 rfl rfl)
theorem dJ11_copyOfRangeByte_30 : decode cJ11_copyOfRangeByte 30 = .ok (.aload 4, 2) := dk_25 4 (dk_at dksJ11_copyOfRangeByte_1 6 rfl rfl)
theorem dJ11_copyOfRangeByte_32 : decode cJ11_copyOfRangeByte 32 = .ok (.areturn, 1) := dk_176 (dk_at dksJ11_copyOfRangeByte_1 8 rfl rfl)
abbrev cJ11_checkLength : ByteArray := prog_44_method_131_code
def yJ11_checkLength : MethodName := ⟨RJ11, "checkLength", "(II)V"⟩
def dkwJ11_checkLength_1 : List UInt8 := [182, 0, 50, 27, 182, 0, 54, 182, 0, 61, 183, 0, 65, 191, 177]
abbrev dktJ11_checkLength_1 : List UInt8 := dkwJ11_checkLength_1 ++ []
def dkwJ11_checkLength_0 : List UInt8 := [27, 26, 162, 0, 35, 187, 0, 43, 89, 187, 0, 45, 89, 183, 0, 47, 26, 182, 0, 54, 19, 1, 81]
abbrev dktJ11_checkLength_0 : List UInt8 := dkwJ11_checkLength_0 ++ dktJ11_checkLength_1
theorem dksJ11_checkLength_0 : cJ11_checkLength.data.toList.drop 0 = dktJ11_checkLength_0 := by decide +kernel
theorem dksJ11_checkLength_1 : cJ11_checkLength.data.toList.drop 23 = dktJ11_checkLength_1 := dk_seg dksJ11_checkLength_0 23 rfl rfl
theorem dJ11_checkLength_0 : decode cJ11_checkLength 0 = .ok (.iload_n 1, 1) := dk_27 (dk_at dksJ11_checkLength_0 0 rfl rfl)
theorem dJ11_checkLength_1 : decode cJ11_checkLength 1 = .ok (.iload_n 0, 1) := dk_26 (dk_at dksJ11_checkLength_0 1 rfl rfl)
theorem dJ11_checkLength_2 : decode cJ11_checkLength 2 = .ok (.if_icmp .ge 35, 3) := dk_162 0 35 (dk_at dksJ11_checkLength_0 2 rfl rfl)
theorem dJ11_checkLength_5 : decode cJ11_checkLength 5 = .ok (.new 43, 3) := dk_187 0 43 (dk_at dksJ11_checkLength_0 5 rfl rfl)
theorem dJ11_checkLength_8 : decode cJ11_checkLength 8 = .ok (.dup, 1) := dk_89 (dk_at dksJ11_checkLength_0 8 rfl rfl)
theorem dJ11_checkLength_9 : decode cJ11_checkLength 9 = .ok (.new 45, 3) := dk_187 0 45 (dk_at dksJ11_checkLength_0 9 rfl rfl)
theorem dJ11_checkLength_12 : decode cJ11_checkLength 12 = .ok (.dup, 1) := dk_89 (dk_at dksJ11_checkLength_0 12 rfl rfl)
theorem dJ11_checkLength_13 : decode cJ11_checkLength 13 = .ok (.invokespecial 47, 3) := dk_183 0 47 (dk_at dksJ11_checkLength_0 13 rfl rfl)
theorem dJ11_checkLength_16 : decode cJ11_checkLength 16 = .ok (.iload_n 0, 1) := dk_26 (dk_at dksJ11_checkLength_0 16 rfl rfl)
theorem dJ11_checkLength_17 : decode cJ11_checkLength 17 = .ok (.invokevirtual 54, 3) := dk_182 0 54 (dk_at dksJ11_checkLength_0 17 rfl rfl)
theorem dJ11_checkLength_20 : decode cJ11_checkLength 20 = .ok (.ldc_w 337, 3) := dk_19 1 81 (dk_at dksJ11_checkLength_0 20 rfl rfl)
theorem dJ11_checkLength_23 : decode cJ11_checkLength 23 = .ok (.invokevirtual 50, 3) := dk_182 0 50 (dk_at dksJ11_checkLength_1 0 rfl rfl)
theorem dJ11_checkLength_26 : decode cJ11_checkLength 26 = .ok (.iload_n 1, 1) := dk_27 (dk_at dksJ11_checkLength_1 3 rfl rfl)
theorem dJ11_checkLength_27 : decode cJ11_checkLength 27 = .ok (.invokevirtual 54, 3) := dk_182 0 54 (dk_at dksJ11_checkLength_1 4 rfl rfl)
theorem dJ11_checkLength_30 : decode cJ11_checkLength 30 = .ok (.invokevirtual 61, 3) := dk_182 0 61 (dk_at dksJ11_checkLength_1 7 rfl rfl)
theorem dJ11_checkLength_33 : decode cJ11_checkLength 33 = .ok (.invokespecial 65, 3) := dk_183 0 65 (dk_at dksJ11_checkLength_1 10 rfl rfl)
theorem dJ11_checkLength_36 : decode cJ11_checkLength 36 = .ok (.athrow, 1) := dk_191 (dk_at dksJ11_checkLength_1 13 rfl rfl)
theorem dJ11_checkLength_37 : decode cJ11_checkLength 37 = .ok (.return_, 1) := dk_177 (dk_at dksJ11_checkLength_1 14 rfl rfl)
theorem q109 : (Jvm.Cond.initialized "java/util/Arrays") ∈ lw_all := lw_g (lw_at lw_m1 20 rfl) rfl
theorem q679 : (Jvm.Cond.static ({ cls := "java/util/Arrays", name := "copyOf", desc := "([Ljava/lang/Object;I)[Ljava/lang/Object;" } : Jvm.MethodName)) ∈ lw_all := lw_g (lw_at lw_m3 110 rfl) rfl
theorem q680 : (Jvm.Cond.code ({ cls := "java/util/Arrays", name := "copyOf", desc := "([Ljava/lang/Object;I)[Ljava/lang/Object;" } : Jvm.MethodName) prog_44_method_119_code (2 : Nat) (Option.some (Jvm.ClassFile.FieldType.array (Jvm.ClassFile.FieldType.object "java/lang/Object")))) ∈ lw_all := lw_g (lw_at lw_m3 111 rfl) rfl
theorem q681 : (Jvm.Cond.methodLink "java/util/Arrays" (86 : Nat) ({ cls := "java/lang/Object", name := "getClass", desc := "()Ljava/lang/Class;" } : Jvm.MethodName)) ∈ lw_all := lw_g (lw_at lw_m3 112 rfl) rfl
theorem q705 : (Jvm.Cond.methodLink "java/util/Arrays" (300 : Nat) ({ cls := "java/util/Arrays", name := "copyOf", desc := "([Ljava/lang/Object;ILjava/lang/Class;)[Ljava/lang/Object;" } : Jvm.MethodName)) ∈ lw_all := lw_g (lw_at lw_m3 136 rfl) rfl
theorem q706 : (Jvm.Cond.static ({ cls := "java/util/Arrays", name := "copyOf", desc := "([Ljava/lang/Object;ILjava/lang/Class;)[Ljava/lang/Object;" } : Jvm.MethodName)) ∈ lw_all := lw_g (lw_at lw_m3 137 rfl) rfl
theorem q707 : (Jvm.Cond.code ({ cls := "java/util/Arrays", name := "copyOf", desc := "([Ljava/lang/Object;ILjava/lang/Class;)[Ljava/lang/Object;" } : Jvm.MethodName) prog_44_method_120_code (4 : Nat) (Option.some (Jvm.ClassFile.FieldType.array (Jvm.ClassFile.FieldType.object "java/lang/Object")))) ∈ lw_all := lw_g (lw_at lw_m3 138 rfl) rfl
theorem q708 : (Jvm.Cond.classLink "java/util/Arrays" (110 : Nat) "[Ljava/lang/Object;") ∈ lw_all := lw_g (lw_at lw_m3 139 rfl) rfl
theorem q710 : (Jvm.Cond.classLink "java/util/Arrays" (2 : Nat) "java/lang/Object") ∈ lw_all := lw_g (lw_at lw_m3 141 rfl) rfl
theorem q711 : (Jvm.Cond.methodLink "java/util/Arrays" (304 : Nat) ({ cls := "java/lang/Math", name := "min", desc := "(II)I" } : Jvm.MethodName)) ∈ lw_all := lw_g (lw_at lw_m3 142 rfl) rfl
theorem q714 : (Jvm.Cond.methodLink "java/util/Arrays" (150 : Nat) ({ cls := "java/lang/System", name := "arraycopy", desc := "(Ljava/lang/Object;ILjava/lang/Object;II)V" } : Jvm.MethodName)) ∈ lw_all := lw_g (lw_at lw_m3 145 rfl) rfl
theorem q919 : (Jvm.Cond.static ({ cls := "java/util/Arrays", name := "copyOf", desc := "([BI)[B" } : Jvm.MethodName)) ∈ lw_all := lw_g (lw_at lw_m4 110 rfl) rfl
theorem q920 : (Jvm.Cond.code ({ cls := "java/util/Arrays", name := "copyOf", desc := "([BI)[B" } : Jvm.MethodName) prog_44_method_121_code (3 : Nat) (Option.some (Jvm.ClassFile.FieldType.array Jvm.ClassFile.FieldType.byte))) ∈ lw_all := lw_g (lw_at lw_m4 111 rfl) rfl
theorem q921 : (Jvm.Cond.methodLink "java/util/Arrays" (310 : Nat) ({ cls := "[B", name := "clone", desc := "()Ljava/lang/Object;" } : Jvm.MethodName)) ∈ lw_all := lw_g (lw_at lw_m4 112 rfl) rfl
theorem q927 : (Jvm.Cond.classLink "java/util/Arrays" (311 : Nat) "[B") ∈ lw_all := lw_g (lw_at lw_m4 118 rfl) rfl
theorem q1006 : (Jvm.Cond.static ({ cls := "java/util/Arrays", name := "copyOfRange", desc := "([BII)[B" } : Jvm.MethodName)) ∈ lw_all := lw_g (lw_at lw_m4 197 rfl) rfl
theorem q1007 : (Jvm.Cond.code ({ cls := "java/util/Arrays", name := "copyOfRange", desc := "([BII)[B" } : Jvm.MethodName) prog_44_method_132_code (3 : Nat) (Option.some (Jvm.ClassFile.FieldType.array Jvm.ClassFile.FieldType.byte))) ∈ lw_all := lw_g (lw_at lw_m4 198 rfl) rfl
theorem q1008 : (Jvm.Cond.methodLink "java/util/Arrays" (339 : Nat) ({ cls := "java/util/Arrays", name := "copyOfRangeByte", desc := "([BII)[B" } : Jvm.MethodName)) ∈ lw_all := lw_g (lw_at lw_m4 199 rfl) rfl
theorem q1009 : (Jvm.Cond.static ({ cls := "java/util/Arrays", name := "copyOfRangeByte", desc := "([BII)[B" } : Jvm.MethodName)) ∈ lw_all := lw_g (lw_at lw_m4 200 rfl) rfl
theorem q1010 : (Jvm.Cond.code ({ cls := "java/util/Arrays", name := "copyOfRangeByte", desc := "([BII)[B" } : Jvm.MethodName) prog_44_method_133_code (5 : Nat) (Option.some (Jvm.ClassFile.FieldType.array Jvm.ClassFile.FieldType.byte))) ∈ lw_all := lw_g (lw_at lw_m4 201 rfl) rfl
theorem q1011 : (Jvm.Cond.methodLink "java/util/Arrays" (343 : Nat) ({ cls := "java/util/Arrays", name := "checkLength", desc := "(II)V" } : Jvm.MethodName)) ∈ lw_all := lw_g (lw_at lw_m4 202 rfl) rfl
theorem q1012 : (Jvm.Cond.static ({ cls := "java/util/Arrays", name := "checkLength", desc := "(II)V" } : Jvm.MethodName)) ∈ lw_all := lw_g (lw_at lw_m4 203 rfl) rfl
theorem q1013 : (Jvm.Cond.code ({ cls := "java/util/Arrays", name := "checkLength", desc := "(II)V" } : Jvm.MethodName) prog_44_method_131_code (2 : Nat) (Option.none : Option Jvm.ClassFile.FieldType)) ∈ lw_all := lw_g (lw_at lw_m4 204 rfl) rfl
/-! java/util/Objects -/
set_option maxRecDepth 100000
def RJ12 : String := "java/util/Objects"
abbrev cJ12_checkIndex : ByteArray := prog_47_method_17_code
def yJ12_checkIndex : MethodName := ⟨RJ12, "checkIndex", "(II)I"⟩
def dkwJ12_checkIndex_0 : List UInt8 := [26, 27, 1, 184, 0, 105, 172]
abbrev dktJ12_checkIndex_0 : List UInt8 := dkwJ12_checkIndex_0 ++ []
theorem dksJ12_checkIndex_0 : cJ12_checkIndex.data.toList.drop 0 = dktJ12_checkIndex_0 := by decide +kernel
theorem dJ12_checkIndex_0 : decode cJ12_checkIndex 0 = .ok (.iload_n 0, 1) := dk_26 (dk_at dksJ12_checkIndex_0 0 rfl rfl)
theorem dJ12_checkIndex_1 : decode cJ12_checkIndex 1 = .ok (.iload_n 1, 1) := dk_27 (dk_at dksJ12_checkIndex_0 1 rfl rfl)
theorem dJ12_checkIndex_2 : decode cJ12_checkIndex 2 = .ok (.aconst_null, 1) := dk_1 (dk_at dksJ12_checkIndex_0 2 rfl rfl)
theorem dJ12_checkIndex_3 : decode cJ12_checkIndex 3 = .ok (.invokestatic 105, 3) := dk_184 0 105 (dk_at dksJ12_checkIndex_0 3 rfl rfl)
theorem dJ12_checkIndex_6 : decode cJ12_checkIndex 6 = .ok (.ireturn, 1) := dk_172 (dk_at dksJ12_checkIndex_0 6 rfl rfl)
theorem q110 : (Jvm.Cond.initialized "java/util/Objects") ∈ lw_all := lw_g (lw_at lw_m1 21 rfl) rfl
theorem q743 : (Jvm.Cond.static ({ cls := "java/util/Objects", name := "checkIndex", desc := "(II)I" } : Jvm.MethodName)) ∈ lw_all := lw_g (lw_at lw_m3 174 rfl) rfl
theorem q744 : (Jvm.Cond.code ({ cls := "java/util/Objects", name := "checkIndex", desc := "(II)I" } : Jvm.MethodName) prog_47_method_17_code (2 : Nat) (Option.some Jvm.ClassFile.FieldType.int)) ∈ lw_all := lw_g (lw_at lw_m3 175 rfl) rfl
theorem q745 : (Jvm.Cond.methodLink "java/util/Objects" (105 : Nat) ({ cls := "jdk/internal/util/Preconditions", name := "checkIndex", desc := "(IILjava/util/function/BiFunction;)I" } : Jvm.MethodName)) ∈ lw_all := lw_g (lw_at lw_m3 176 rfl) rfl
/-! jdk/internal/util/Preconditions -/
set_option maxRecDepth 100000
def RJ13 : String := "jdk/internal/util/Preconditions"
abbrev cJ13_checkIndex : ByteArray := prog_51_method_11_code
def yJ13_checkIndex : MethodName := ⟨RJ13, "checkIndex", "(IILjava/util/function/BiFunction;)I"⟩
def dkwJ13_checkIndex_0 : List UInt8 := [26, 155, 0, 8, 26, 27, 161, 0, 10, 44, 26, 27, 184, 0, 95, 191, 26, 172]
abbrev dktJ13_checkIndex_0 : List UInt8 := dkwJ13_checkIndex_0 ++ []
theorem dksJ13_checkIndex_0 : cJ13_checkIndex.data.toList.drop 0 = dktJ13_checkIndex_0 := by decide +kernel
theorem dJ13_checkIndex_0 : decode cJ13_checkIndex 0 = .ok (.iload_n 0, 1) := dk_26 (dk_at dksJ13_checkIndex_0 0 rfl rfl)
theorem dJ13_checkIndex_1 : decode cJ13_checkIndex 1 = .ok (.ifCond .lt 8, 3) := dk_155 0 8 (dk_at dksJ13_checkIndex_0 1 rfl rfl)
theorem dJ13_checkIndex_4 : decode cJ13_checkIndex 4 = .ok (.iload_n 0, 1) := dk_26 (dk_at dksJ13_checkIndex_0 4 rfl rfl)
theorem dJ13_checkIndex_5 : decode cJ13_checkIndex 5 = .ok (.iload_n 1, 1) := dk_27 (dk_at dksJ13_checkIndex_0 5 rfl rfl)
theorem dJ13_checkIndex_6 : decode cJ13_checkIndex 6 = .ok (.if_icmp .lt 10, 3) := dk_161 0 10 (dk_at dksJ13_checkIndex_0 6 rfl rfl)
theorem dJ13_checkIndex_9 : decode cJ13_checkIndex 9 = .ok (.aload_n 2, 1) := dk_44 (dk_at dksJ13_checkIndex_0 9 rfl rfl)
theorem dJ13_checkIndex_10 : decode cJ13_checkIndex 10 = .ok (.iload_n 0, 1) := dk_26 (dk_at dksJ13_checkIndex_0 10 rfl rfl)
theorem dJ13_checkIndex_11 : decode cJ13_checkIndex 11 = .ok (.iload_n 1, 1) := dk_27 (dk_at dksJ13_checkIndex_0 11 rfl rfl)
theorem dJ13_checkIndex_12 : decode cJ13_checkIndex 12 = .ok (.invokestatic 95, 3) := dk_184 0 95 (dk_at dksJ13_checkIndex_0 12 rfl rfl)
theorem dJ13_checkIndex_15 : decode cJ13_checkIndex 15 = .ok (.athrow, 1) := dk_191 (dk_at dksJ13_checkIndex_0 15 rfl rfl)
theorem dJ13_checkIndex_16 : decode cJ13_checkIndex 16 = .ok (.iload_n 0, 1) := dk_26 (dk_at dksJ13_checkIndex_0 16 rfl rfl)
theorem dJ13_checkIndex_17 : decode cJ13_checkIndex 17 = .ok (.ireturn, 1) := dk_172 (dk_at dksJ13_checkIndex_0 17 rfl rfl)
abbrev cJ13_checkFromIndexSize : ByteArray := prog_51_method_13_code
def yJ13_checkFromIndexSize : MethodName := ⟨RJ13, "checkFromIndexSize", "(IIILjava/util/function/BiFunction;)I"⟩
def dkwJ13_checkFromIndexSize_1 : List UInt8 := [172]
abbrev dktJ13_checkFromIndexSize_1 : List UInt8 := dkwJ13_checkFromIndexSize_1 ++ []
def dkwJ13_checkFromIndexSize_0 : List UInt8 := [28, 26, 128, 27, 128, 155, 0, 10, 27, 28, 26, 100, 164, 0, 11, 45, 26, 27, 28, 184, 0, 103, 191, 26]
abbrev dktJ13_checkFromIndexSize_0 : List UInt8 := dkwJ13_checkFromIndexSize_0 ++ dktJ13_checkFromIndexSize_1
theorem dksJ13_checkFromIndexSize_0 : cJ13_checkFromIndexSize.data.toList.drop 0 = dktJ13_checkFromIndexSize_0 := by decide +kernel
theorem dksJ13_checkFromIndexSize_1 : cJ13_checkFromIndexSize.data.toList.drop 24 = dktJ13_checkFromIndexSize_1 := dk_seg dksJ13_checkFromIndexSize_0 24 rfl rfl
theorem dJ13_checkFromIndexSize_0 : decode cJ13_checkFromIndexSize 0 = .ok (.iload_n 2, 1) := dk_28 (dk_at dksJ13_checkFromIndexSize_0 0 rfl rfl)
theorem dJ13_checkFromIndexSize_1 : decode cJ13_checkFromIndexSize 1 = .ok (.iload_n 0, 1) := dk_26 (dk_at dksJ13_checkFromIndexSize_0 1 rfl rfl)
theorem dJ13_checkFromIndexSize_2 : decode cJ13_checkFromIndexSize 2 = .ok (.ior, 1) := dk_128 (dk_at dksJ13_checkFromIndexSize_0 2 rfl rfl)
theorem dJ13_checkFromIndexSize_3 : decode cJ13_checkFromIndexSize 3 = .ok (.iload_n 1, 1) := dk_27 (dk_at dksJ13_checkFromIndexSize_0 3 rfl rfl)
theorem dJ13_checkFromIndexSize_4 : decode cJ13_checkFromIndexSize 4 = .ok (.ior, 1) := dk_128 (dk_at dksJ13_checkFromIndexSize_0 4 rfl rfl)
theorem dJ13_checkFromIndexSize_5 : decode cJ13_checkFromIndexSize 5 = .ok (.ifCond .lt 10, 3) := dk_155 0 10 (dk_at dksJ13_checkFromIndexSize_0 5 rfl rfl)
theorem dJ13_checkFromIndexSize_8 : decode cJ13_checkFromIndexSize 8 = .ok (.iload_n 1, 1) := dk_27 (dk_at dksJ13_checkFromIndexSize_0 8 rfl rfl)
theorem dJ13_checkFromIndexSize_9 : decode cJ13_checkFromIndexSize 9 = .ok (.iload_n 2, 1) := dk_28 (dk_at dksJ13_checkFromIndexSize_0 9 rfl rfl)
theorem dJ13_checkFromIndexSize_10 : decode cJ13_checkFromIndexSize 10 = .ok (.iload_n 0, 1) := dk_26 (dk_at dksJ13_checkFromIndexSize_0 10 rfl rfl)
theorem dJ13_checkFromIndexSize_11 : decode cJ13_checkFromIndexSize 11 = .ok (.isub, 1) := dk_100 (dk_at dksJ13_checkFromIndexSize_0 11 rfl rfl)
theorem dJ13_checkFromIndexSize_12 : decode cJ13_checkFromIndexSize 12 = .ok (.if_icmp .le 11, 3) := dk_164 0 11 (dk_at dksJ13_checkFromIndexSize_0 12 rfl rfl)
theorem dJ13_checkFromIndexSize_15 : decode cJ13_checkFromIndexSize 15 = .ok (.aload_n 3, 1) := dk_45 (dk_at dksJ13_checkFromIndexSize_0 15 rfl rfl)
theorem dJ13_checkFromIndexSize_16 : decode cJ13_checkFromIndexSize 16 = .ok (.iload_n 0, 1) := dk_26 (dk_at dksJ13_checkFromIndexSize_0 16 rfl rfl)
theorem dJ13_checkFromIndexSize_17 : decode cJ13_checkFromIndexSize 17 = .ok (.iload_n 1, 1) := dk_27 (dk_at dksJ13_checkFromIndexSize_0 17 rfl rfl)
theorem dJ13_checkFromIndexSize_18 : decode cJ13_checkFromIndexSize 18 = .ok (.iload_n 2, 1) := dk_28 (dk_at dksJ13_checkFromIndexSize_0 18 rfl rfl)
theorem dJ13_checkFromIndexSize_19 : decode cJ13_checkFromIndexSize 19 = .ok (.invokestatic 103, 3) := dk_184 0 103 (dk_at dksJ13_checkFromIndexSize_0 19 rfl rfl)
theorem dJ13_checkFromIndexSize_22 : decode cJ13_checkFromIndexSize 22 = .ok (.athrow, 1) := dk_191 (dk_at dksJ13_checkFromIndexSize_0 22 rfl rfl)
theorem dJ13_checkFromIndexSize_23 : decode cJ13_checkFromIndexSize 23 = .ok (.iload_n 0, 1) := dk_26 (dk_at dksJ13_checkFromIndexSize_0 23 rfl rfl)
theorem dJ13_checkFromIndexSize_24 : decode cJ13_checkFromIndexSize 24 = .ok (.ireturn, 1) := dk_172 (dk_at dksJ13_checkFromIndexSize_1 0 rfl rfl)
theorem q111 : (Jvm.Cond.initialized "jdk/internal/util/Preconditions") ∈ lw_all := lw_g (lw_at lw_m1 22 rfl) rfl
theorem q746 : (Jvm.Cond.static ({ cls := "jdk/internal/util/Preconditions", name := "checkIndex", desc := "(IILjava/util/function/BiFunction;)I" } : Jvm.MethodName)) ∈ lw_all := lw_g (lw_at lw_m3 177 rfl) rfl
theorem q747 : (Jvm.Cond.code ({ cls := "jdk/internal/util/Preconditions", name := "checkIndex", desc := "(IILjava/util/function/BiFunction;)I" } : Jvm.MethodName) prog_51_method_11_code (3 : Nat) (Option.some Jvm.ClassFile.FieldType.int)) ∈ lw_all := lw_g (lw_at lw_m3 178 rfl) rfl
theorem q956 : (Jvm.Cond.laysStatic "jdk/internal/util/Preconditions" "SIOOBE_FORMATTER" "Ljava/util/function/BiFunction;") ∈ lw_tbl := lw_at lw_m4 147 rfl
theorem q958 : (Jvm.Cond.static ({ cls := "jdk/internal/util/Preconditions", name := "checkFromIndexSize", desc := "(IIILjava/util/function/BiFunction;)I" } : Jvm.MethodName)) ∈ lw_all := lw_g (lw_at lw_m4 149 rfl) rfl
theorem q959 : (Jvm.Cond.code ({ cls := "jdk/internal/util/Preconditions", name := "checkFromIndexSize", desc := "(IIILjava/util/function/BiFunction;)I" } : Jvm.MethodName) prog_51_method_13_code (4 : Nat) (Option.some Jvm.ClassFile.FieldType.int)) ∈ lw_all := lw_g (lw_at lw_m4 150 rfl) rfl
/-! java/lang/Integer -/
set_option maxRecDepth 100000
def RJ14 : String := "java/lang/Integer"
abbrev cJ14_numberOfTrailingZeros : ByteArray := prog_29_method_48_code
def yJ14_numberOfTrailingZeros : MethodName := ⟨RJ14, "numberOfTrailingZeros", "(I)I"⟩
def dkwJ14_numberOfTrailingZeros_3 : List UInt8 := [5, 124, 59, 27, 26, 4, 124, 96, 172]
abbrev dktJ14_numberOfTrailingZeros_3 : List UInt8 := dkwJ14_numberOfTrailingZeros_3 ++ []
def dkwJ14_numberOfTrailingZeros_2 : List UInt8 := [124, 59, 26, 16, 16, 164, 0, 10, 132, 1, 4, 26, 7, 124, 59, 26, 7, 164, 0, 10, 132, 1, 2, 26]
abbrev dktJ14_numberOfTrailingZeros_2 : List UInt8 := dkwJ14_numberOfTrailingZeros_2 ++ dktJ14_numberOfTrailingZeros_3
def dkwJ14_numberOfTrailingZeros_1 : List UInt8 := [164, 0, 11, 132, 1, 16, 26, 16, 16, 124, 59, 26, 17, 1, 0, 164, 0, 11, 132, 1, 8, 26, 16, 8]
abbrev dktJ14_numberOfTrailingZeros_1 : List UInt8 := dkwJ14_numberOfTrailingZeros_1 ++ dktJ14_numberOfTrailingZeros_2
def dkwJ14_numberOfTrailingZeros_0 : List UInt8 := [26, 2, 130, 26, 4, 100, 126, 59, 26, 157, 0, 8, 26, 16, 32, 126, 172, 4, 60, 26, 19, 1, 8]
abbrev dktJ14_numberOfTrailingZeros_0 : List UInt8 := dkwJ14_numberOfTrailingZeros_0 ++ dktJ14_numberOfTrailingZeros_1
theorem dksJ14_numberOfTrailingZeros_0 : cJ14_numberOfTrailingZeros.data.toList.drop 0 = dktJ14_numberOfTrailingZeros_0 := by decide +kernel
theorem dksJ14_numberOfTrailingZeros_1 : cJ14_numberOfTrailingZeros.data.toList.drop 23 = dktJ14_numberOfTrailingZeros_1 := dk_seg dksJ14_numberOfTrailingZeros_0 23 rfl rfl
theorem dksJ14_numberOfTrailingZeros_2 : cJ14_numberOfTrailingZeros.data.toList.drop 47 = dktJ14_numberOfTrailingZeros_2 := dk_seg dksJ14_numberOfTrailingZeros_1 24 rfl rfl
theorem dksJ14_numberOfTrailingZeros_3 : cJ14_numberOfTrailingZeros.data.toList.drop 71 = dktJ14_numberOfTrailingZeros_3 := dk_seg dksJ14_numberOfTrailingZeros_2 24 rfl rfl
theorem dJ14_numberOfTrailingZeros_0 : decode cJ14_numberOfTrailingZeros 0 = .ok (.iload_n 0, 1) := dk_26 (dk_at dksJ14_numberOfTrailingZeros_0 0 rfl rfl)
theorem dJ14_numberOfTrailingZeros_1 : decode cJ14_numberOfTrailingZeros 1 = .ok (.iconst (-1), 1) := dk_2 (dk_at dksJ14_numberOfTrailingZeros_0 1 rfl rfl)
theorem dJ14_numberOfTrailingZeros_2 : decode cJ14_numberOfTrailingZeros 2 = .ok (.ixor, 1) := dk_130 (dk_at dksJ14_numberOfTrailingZeros_0 2 rfl rfl)
theorem dJ14_numberOfTrailingZeros_3 : decode cJ14_numberOfTrailingZeros 3 = .ok (.iload_n 0, 1) := dk_26 (dk_at dksJ14_numberOfTrailingZeros_0 3 rfl rfl)
theorem dJ14_numberOfTrailingZeros_4 : decode cJ14_numberOfTrailingZeros 4 = .ok (.iconst 1, 1) := dk_4 (dk_at dksJ14_numberOfTrailingZeros_0 4 rfl rfl)
theorem dJ14_numberOfTrailingZeros_5 : decode cJ14_numberOfTrailingZeros 5 = .ok (.isub, 1) := dk_100 (dk_at dksJ14_numberOfTrailingZeros_0 5 rfl rfl)
theorem dJ14_numberOfTrailingZeros_6 : decode cJ14_numberOfTrailingZeros 6 = .ok (.iand, 1) := dk_126 (dk_at dksJ14_numberOfTrailingZeros_0 6 rfl rfl)
theorem dJ14_numberOfTrailingZeros_7 : decode cJ14_numberOfTrailingZeros 7 = .ok (.istore_n 0, 1) := dk_59 (dk_at dksJ14_numberOfTrailingZeros_0 7 rfl rfl)
theorem dJ14_numberOfTrailingZeros_8 : decode cJ14_numberOfTrailingZeros 8 = .ok (.iload_n 0, 1) := dk_26 (dk_at dksJ14_numberOfTrailingZeros_0 8 rfl rfl)
theorem dJ14_numberOfTrailingZeros_9 : decode cJ14_numberOfTrailingZeros 9 = .ok (.ifCond .gt 8, 3) := dk_157 0 8 (dk_at dksJ14_numberOfTrailingZeros_0 9 rfl rfl)
theorem dJ14_numberOfTrailingZeros_12 : decode cJ14_numberOfTrailingZeros 12 = .ok (.iload_n 0, 1) := dk_26 (dk_at dksJ14_numberOfTrailingZeros_0 12 rfl rfl)
theorem dJ14_numberOfTrailingZeros_13 : decode cJ14_numberOfTrailingZeros 13 = .ok (.bipush 32, 2) := dk_16 32 (dk_at dksJ14_numberOfTrailingZeros_0 13 rfl rfl)
theorem dJ14_numberOfTrailingZeros_15 : decode cJ14_numberOfTrailingZeros 15 = .ok (.iand, 1) := dk_126 (dk_at dksJ14_numberOfTrailingZeros_0 15 rfl rfl)
theorem dJ14_numberOfTrailingZeros_16 : decode cJ14_numberOfTrailingZeros 16 = .ok (.ireturn, 1) := dk_172 (dk_at dksJ14_numberOfTrailingZeros_0 16 rfl rfl)
theorem dJ14_numberOfTrailingZeros_17 : decode cJ14_numberOfTrailingZeros 17 = .ok (.iconst 1, 1) := dk_4 (dk_at dksJ14_numberOfTrailingZeros_0 17 rfl rfl)
theorem dJ14_numberOfTrailingZeros_18 : decode cJ14_numberOfTrailingZeros 18 = .ok (.istore_n 1, 1) := dk_60 (dk_at dksJ14_numberOfTrailingZeros_0 18 rfl rfl)
theorem dJ14_numberOfTrailingZeros_19 : decode cJ14_numberOfTrailingZeros 19 = .ok (.iload_n 0, 1) := dk_26 (dk_at dksJ14_numberOfTrailingZeros_0 19 rfl rfl)
theorem dJ14_numberOfTrailingZeros_20 : decode cJ14_numberOfTrailingZeros 20 = .ok (.ldc_w 264, 3) := dk_19 1 8 (dk_at dksJ14_numberOfTrailingZeros_0 20 rfl rfl)
theorem dJ14_numberOfTrailingZeros_23 : decode cJ14_numberOfTrailingZeros 23 = .ok (.if_icmp .le 11, 3) := dk_164 0 11 (dk_at dksJ14_numberOfTrailingZeros_1 0 rfl rfl)
theorem dJ14_numberOfTrailingZeros_26 : decode cJ14_numberOfTrailingZeros 26 = .ok (.iinc 1 16, 3) := dk_132 1 16 (dk_at dksJ14_numberOfTrailingZeros_1 3 rfl rfl)
theorem dJ14_numberOfTrailingZeros_29 : decode cJ14_numberOfTrailingZeros 29 = .ok (.iload_n 0, 1) := dk_26 (dk_at dksJ14_numberOfTrailingZeros_1 6 rfl rfl)
theorem dJ14_numberOfTrailingZeros_30 : decode cJ14_numberOfTrailingZeros 30 = .ok (.bipush 16, 2) := dk_16 16 (dk_at dksJ14_numberOfTrailingZeros_1 7 rfl rfl)
theorem dJ14_numberOfTrailingZeros_32 : decode cJ14_numberOfTrailingZeros 32 = .ok (.iushr, 1) := dk_124 (dk_at dksJ14_numberOfTrailingZeros_1 9 rfl rfl)
theorem dJ14_numberOfTrailingZeros_33 : decode cJ14_numberOfTrailingZeros 33 = .ok (.istore_n 0, 1) := dk_59 (dk_at dksJ14_numberOfTrailingZeros_1 10 rfl rfl)
theorem dJ14_numberOfTrailingZeros_34 : decode cJ14_numberOfTrailingZeros 34 = .ok (.iload_n 0, 1) := dk_26 (dk_at dksJ14_numberOfTrailingZeros_1 11 rfl rfl)
theorem dJ14_numberOfTrailingZeros_35 : decode cJ14_numberOfTrailingZeros 35 = .ok (.sipush 256, 3) := dk_17 1 0 (dk_at dksJ14_numberOfTrailingZeros_1 12 rfl rfl)
theorem dJ14_numberOfTrailingZeros_38 : decode cJ14_numberOfTrailingZeros 38 = .ok (.if_icmp .le 11, 3) := dk_164 0 11 (dk_at dksJ14_numberOfTrailingZeros_1 15 rfl rfl)
theorem dJ14_numberOfTrailingZeros_41 : decode cJ14_numberOfTrailingZeros 41 = .ok (.iinc 1 8, 3) := dk_132 1 8 (dk_at dksJ14_numberOfTrailingZeros_1 18 rfl rfl)
theorem dJ14_numberOfTrailingZeros_44 : decode cJ14_numberOfTrailingZeros 44 = .ok (.iload_n 0, 1) := dk_26 (dk_at dksJ14_numberOfTrailingZeros_1 21 rfl rfl)
theorem dJ14_numberOfTrailingZeros_45 : decode cJ14_numberOfTrailingZeros 45 = .ok (.bipush 8, 2) := dk_16 8 (dk_at dksJ14_numberOfTrailingZeros_1 22 rfl rfl)
theorem dJ14_numberOfTrailingZeros_47 : decode cJ14_numberOfTrailingZeros 47 = .ok (.iushr, 1) := dk_124 (dk_at dksJ14_numberOfTrailingZeros_2 0 rfl rfl)
theorem dJ14_numberOfTrailingZeros_48 : decode cJ14_numberOfTrailingZeros 48 = .ok (.istore_n 0, 1) := dk_59 (dk_at dksJ14_numberOfTrailingZeros_2 1 rfl rfl)
theorem dJ14_numberOfTrailingZeros_49 : decode cJ14_numberOfTrailingZeros 49 = .ok (.iload_n 0, 1) := dk_26 (dk_at dksJ14_numberOfTrailingZeros_2 2 rfl rfl)
theorem dJ14_numberOfTrailingZeros_50 : decode cJ14_numberOfTrailingZeros 50 = .ok (.bipush 16, 2) := dk_16 16 (dk_at dksJ14_numberOfTrailingZeros_2 3 rfl rfl)
theorem dJ14_numberOfTrailingZeros_52 : decode cJ14_numberOfTrailingZeros 52 = .ok (.if_icmp .le 10, 3) := dk_164 0 10 (dk_at dksJ14_numberOfTrailingZeros_2 5 rfl rfl)
theorem dJ14_numberOfTrailingZeros_55 : decode cJ14_numberOfTrailingZeros 55 = .ok (.iinc 1 4, 3) := dk_132 1 4 (dk_at dksJ14_numberOfTrailingZeros_2 8 rfl rfl)
theorem dJ14_numberOfTrailingZeros_58 : decode cJ14_numberOfTrailingZeros 58 = .ok (.iload_n 0, 1) := dk_26 (dk_at dksJ14_numberOfTrailingZeros_2 11 rfl rfl)
theorem dJ14_numberOfTrailingZeros_59 : decode cJ14_numberOfTrailingZeros 59 = .ok (.iconst 4, 1) := dk_7 (dk_at dksJ14_numberOfTrailingZeros_2 12 rfl rfl)
theorem dJ14_numberOfTrailingZeros_60 : decode cJ14_numberOfTrailingZeros 60 = .ok (.iushr, 1) := dk_124 (dk_at dksJ14_numberOfTrailingZeros_2 13 rfl rfl)
theorem dJ14_numberOfTrailingZeros_61 : decode cJ14_numberOfTrailingZeros 61 = .ok (.istore_n 0, 1) := dk_59 (dk_at dksJ14_numberOfTrailingZeros_2 14 rfl rfl)
theorem dJ14_numberOfTrailingZeros_62 : decode cJ14_numberOfTrailingZeros 62 = .ok (.iload_n 0, 1) := dk_26 (dk_at dksJ14_numberOfTrailingZeros_2 15 rfl rfl)
theorem dJ14_numberOfTrailingZeros_63 : decode cJ14_numberOfTrailingZeros 63 = .ok (.iconst 4, 1) := dk_7 (dk_at dksJ14_numberOfTrailingZeros_2 16 rfl rfl)
theorem dJ14_numberOfTrailingZeros_64 : decode cJ14_numberOfTrailingZeros 64 = .ok (.if_icmp .le 10, 3) := dk_164 0 10 (dk_at dksJ14_numberOfTrailingZeros_2 17 rfl rfl)
theorem dJ14_numberOfTrailingZeros_67 : decode cJ14_numberOfTrailingZeros 67 = .ok (.iinc 1 2, 3) := dk_132 1 2 (dk_at dksJ14_numberOfTrailingZeros_2 20 rfl rfl)
theorem dJ14_numberOfTrailingZeros_70 : decode cJ14_numberOfTrailingZeros 70 = .ok (.iload_n 0, 1) := dk_26 (dk_at dksJ14_numberOfTrailingZeros_2 23 rfl rfl)
theorem dJ14_numberOfTrailingZeros_71 : decode cJ14_numberOfTrailingZeros 71 = .ok (.iconst 2, 1) := dk_5 (dk_at dksJ14_numberOfTrailingZeros_3 0 rfl rfl)
theorem dJ14_numberOfTrailingZeros_72 : decode cJ14_numberOfTrailingZeros 72 = .ok (.iushr, 1) := dk_124 (dk_at dksJ14_numberOfTrailingZeros_3 1 rfl rfl)
theorem dJ14_numberOfTrailingZeros_73 : decode cJ14_numberOfTrailingZeros 73 = .ok (.istore_n 0, 1) := dk_59 (dk_at dksJ14_numberOfTrailingZeros_3 2 rfl rfl)
theorem dJ14_numberOfTrailingZeros_74 : decode cJ14_numberOfTrailingZeros 74 = .ok (.iload_n 1, 1) := dk_27 (dk_at dksJ14_numberOfTrailingZeros_3 3 rfl rfl)
theorem dJ14_numberOfTrailingZeros_75 : decode cJ14_numberOfTrailingZeros 75 = .ok (.iload_n 0, 1) := dk_26 (dk_at dksJ14_numberOfTrailingZeros_3 4 rfl rfl)
theorem dJ14_numberOfTrailingZeros_76 : decode cJ14_numberOfTrailingZeros 76 = .ok (.iconst 1, 1) := dk_4 (dk_at dksJ14_numberOfTrailingZeros_3 5 rfl rfl)
theorem dJ14_numberOfTrailingZeros_77 : decode cJ14_numberOfTrailingZeros 77 = .ok (.iushr, 1) := dk_124 (dk_at dksJ14_numberOfTrailingZeros_3 6 rfl rfl)
theorem dJ14_numberOfTrailingZeros_78 : decode cJ14_numberOfTrailingZeros 78 = .ok (.iadd, 1) := dk_96 (dk_at dksJ14_numberOfTrailingZeros_3 7 rfl rfl)
theorem dJ14_numberOfTrailingZeros_79 : decode cJ14_numberOfTrailingZeros 79 = .ok (.ireturn, 1) := dk_172 (dk_at dksJ14_numberOfTrailingZeros_3 8 rfl rfl)
abbrev cJ14_bitCount : ByteArray := prog_29_method_49_code
def yJ14_bitCount : MethodName := ⟨RJ14, "bitCount", "(I)I"⟩
def dkwJ14_bitCount_2 : List UInt8 := [26, 16, 63, 126, 172]
abbrev dktJ14_bitCount_2 : List UInt8 := dkwJ14_bitCount_2 ++ []
def dkwJ14_bitCount_1 : List UInt8 := [26, 26, 7, 124, 96, 19, 1, 11, 126, 59, 26, 26, 16, 8, 124, 96, 59, 26, 26, 16, 16, 124, 96, 59]
abbrev dktJ14_bitCount_1 : List UInt8 := dkwJ14_bitCount_1 ++ dktJ14_bitCount_2
def dkwJ14_bitCount_0 : List UInt8 := [26, 26, 4, 124, 19, 1, 9, 126, 100, 59, 26, 19, 1, 10, 126, 26, 5, 124, 19, 1, 10, 126, 96, 59]
abbrev dktJ14_bitCount_0 : List UInt8 := dkwJ14_bitCount_0 ++ dktJ14_bitCount_1
theorem dksJ14_bitCount_0 : cJ14_bitCount.data.toList.drop 0 = dktJ14_bitCount_0 := by decide +kernel
theorem dksJ14_bitCount_1 : cJ14_bitCount.data.toList.drop 24 = dktJ14_bitCount_1 := dk_seg dksJ14_bitCount_0 24 rfl rfl
theorem dksJ14_bitCount_2 : cJ14_bitCount.data.toList.drop 48 = dktJ14_bitCount_2 := dk_seg dksJ14_bitCount_1 24 rfl rfl
theorem dJ14_bitCount_0 : decode cJ14_bitCount 0 = .ok (.iload_n 0, 1) := dk_26 (dk_at dksJ14_bitCount_0 0 rfl rfl)
theorem dJ14_bitCount_1 : decode cJ14_bitCount 1 = .ok (.iload_n 0, 1) := dk_26 (dk_at dksJ14_bitCount_0 1 rfl rfl)
theorem dJ14_bitCount_2 : decode cJ14_bitCount 2 = .ok (.iconst 1, 1) := dk_4 (dk_at dksJ14_bitCount_0 2 rfl rfl)
theorem dJ14_bitCount_3 : decode cJ14_bitCount 3 = .ok (.iushr, 1) := dk_124 (dk_at dksJ14_bitCount_0 3 rfl rfl)
theorem dJ14_bitCount_4 : decode cJ14_bitCount 4 = .ok (.ldc_w 265, 3) := dk_19 1 9 (dk_at dksJ14_bitCount_0 4 rfl rfl)
theorem dJ14_bitCount_7 : decode cJ14_bitCount 7 = .ok (.iand, 1) := dk_126 (dk_at dksJ14_bitCount_0 7 rfl rfl)
theorem dJ14_bitCount_8 : decode cJ14_bitCount 8 = .ok (.isub, 1) := dk_100 (dk_at dksJ14_bitCount_0 8 rfl rfl)
theorem dJ14_bitCount_9 : decode cJ14_bitCount 9 = .ok (.istore_n 0, 1) := dk_59 (dk_at dksJ14_bitCount_0 9 rfl rfl)
theorem dJ14_bitCount_10 : decode cJ14_bitCount 10 = .ok (.iload_n 0, 1) := dk_26 (dk_at dksJ14_bitCount_0 10 rfl rfl)
theorem dJ14_bitCount_11 : decode cJ14_bitCount 11 = .ok (.ldc_w 266, 3) := dk_19 1 10 (dk_at dksJ14_bitCount_0 11 rfl rfl)
theorem dJ14_bitCount_14 : decode cJ14_bitCount 14 = .ok (.iand, 1) := dk_126 (dk_at dksJ14_bitCount_0 14 rfl rfl)
theorem dJ14_bitCount_15 : decode cJ14_bitCount 15 = .ok (.iload_n 0, 1) := dk_26 (dk_at dksJ14_bitCount_0 15 rfl rfl)
theorem dJ14_bitCount_16 : decode cJ14_bitCount 16 = .ok (.iconst 2, 1) := dk_5 (dk_at dksJ14_bitCount_0 16 rfl rfl)
theorem dJ14_bitCount_17 : decode cJ14_bitCount 17 = .ok (.iushr, 1) := dk_124 (dk_at dksJ14_bitCount_0 17 rfl rfl)
theorem dJ14_bitCount_18 : decode cJ14_bitCount 18 = .ok (.ldc_w 266, 3) := dk_19 1 10 (dk_at dksJ14_bitCount_0 18 rfl rfl)
theorem dJ14_bitCount_21 : decode cJ14_bitCount 21 = .ok (.iand, 1) := dk_126 (dk_at dksJ14_bitCount_0 21 rfl rfl)
theorem dJ14_bitCount_22 : decode cJ14_bitCount 22 = .ok (.iadd, 1) := dk_96 (dk_at dksJ14_bitCount_0 22 rfl rfl)
theorem dJ14_bitCount_23 : decode cJ14_bitCount 23 = .ok (.istore_n 0, 1) := dk_59 (dk_at dksJ14_bitCount_0 23 rfl rfl)
theorem dJ14_bitCount_24 : decode cJ14_bitCount 24 = .ok (.iload_n 0, 1) := dk_26 (dk_at dksJ14_bitCount_1 0 rfl rfl)
theorem dJ14_bitCount_25 : decode cJ14_bitCount 25 = .ok (.iload_n 0, 1) := dk_26 (dk_at dksJ14_bitCount_1 1 rfl rfl)
theorem dJ14_bitCount_26 : decode cJ14_bitCount 26 = .ok (.iconst 4, 1) := dk_7 (dk_at dksJ14_bitCount_1 2 rfl rfl)
theorem dJ14_bitCount_27 : decode cJ14_bitCount 27 = .ok (.iushr, 1) := dk_124 (dk_at dksJ14_bitCount_1 3 rfl rfl)
theorem dJ14_bitCount_28 : decode cJ14_bitCount 28 = .ok (.iadd, 1) := dk_96 (dk_at dksJ14_bitCount_1 4 rfl rfl)
theorem dJ14_bitCount_29 : decode cJ14_bitCount 29 = .ok (.ldc_w 267, 3) := dk_19 1 11 (dk_at dksJ14_bitCount_1 5 rfl rfl)
theorem dJ14_bitCount_32 : decode cJ14_bitCount 32 = .ok (.iand, 1) := dk_126 (dk_at dksJ14_bitCount_1 8 rfl rfl)
theorem dJ14_bitCount_33 : decode cJ14_bitCount 33 = .ok (.istore_n 0, 1) := dk_59 (dk_at dksJ14_bitCount_1 9 rfl rfl)
theorem dJ14_bitCount_34 : decode cJ14_bitCount 34 = .ok (.iload_n 0, 1) := dk_26 (dk_at dksJ14_bitCount_1 10 rfl rfl)
theorem dJ14_bitCount_35 : decode cJ14_bitCount 35 = .ok (.iload_n 0, 1) := dk_26 (dk_at dksJ14_bitCount_1 11 rfl rfl)
theorem dJ14_bitCount_36 : decode cJ14_bitCount 36 = .ok (.bipush 8, 2) := dk_16 8 (dk_at dksJ14_bitCount_1 12 rfl rfl)
theorem dJ14_bitCount_38 : decode cJ14_bitCount 38 = .ok (.iushr, 1) := dk_124 (dk_at dksJ14_bitCount_1 14 rfl rfl)
theorem dJ14_bitCount_39 : decode cJ14_bitCount 39 = .ok (.iadd, 1) := dk_96 (dk_at dksJ14_bitCount_1 15 rfl rfl)
theorem dJ14_bitCount_40 : decode cJ14_bitCount 40 = .ok (.istore_n 0, 1) := dk_59 (dk_at dksJ14_bitCount_1 16 rfl rfl)
theorem dJ14_bitCount_41 : decode cJ14_bitCount 41 = .ok (.iload_n 0, 1) := dk_26 (dk_at dksJ14_bitCount_1 17 rfl rfl)
theorem dJ14_bitCount_42 : decode cJ14_bitCount 42 = .ok (.iload_n 0, 1) := dk_26 (dk_at dksJ14_bitCount_1 18 rfl rfl)
theorem dJ14_bitCount_43 : decode cJ14_bitCount 43 = .ok (.bipush 16, 2) := dk_16 16 (dk_at dksJ14_bitCount_1 19 rfl rfl)
theorem dJ14_bitCount_45 : decode cJ14_bitCount 45 = .ok (.iushr, 1) := dk_124 (dk_at dksJ14_bitCount_1 21 rfl rfl)
theorem dJ14_bitCount_46 : decode cJ14_bitCount 46 = .ok (.iadd, 1) := dk_96 (dk_at dksJ14_bitCount_1 22 rfl rfl)
theorem dJ14_bitCount_47 : decode cJ14_bitCount 47 = .ok (.istore_n 0, 1) := dk_59 (dk_at dksJ14_bitCount_1 23 rfl rfl)
theorem dJ14_bitCount_48 : decode cJ14_bitCount 48 = .ok (.iload_n 0, 1) := dk_26 (dk_at dksJ14_bitCount_2 0 rfl rfl)
theorem dJ14_bitCount_49 : decode cJ14_bitCount 49 = .ok (.bipush 63, 2) := dk_16 63 (dk_at dksJ14_bitCount_2 1 rfl rfl)
theorem dJ14_bitCount_51 : decode cJ14_bitCount 51 = .ok (.iand, 1) := dk_126 (dk_at dksJ14_bitCount_2 3 rfl rfl)
theorem dJ14_bitCount_52 : decode cJ14_bitCount 52 = .ok (.ireturn, 1) := dk_172 (dk_at dksJ14_bitCount_2 4 rfl rfl)
theorem q112 : (Jvm.Cond.initialized "java/lang/Integer") ∈ lw_all := lw_g (lw_at lw_m1 23 rfl) rfl
theorem q769 : (Jvm.Cond.static ({ cls := "java/lang/Integer", name := "numberOfTrailingZeros", desc := "(I)I" } : Jvm.MethodName)) ∈ lw_all := lw_g (lw_at lw_m3 200 rfl) rfl
theorem q770 : (Jvm.Cond.code ({ cls := "java/lang/Integer", name := "numberOfTrailingZeros", desc := "(I)I" } : Jvm.MethodName) prog_29_method_48_code (2 : Nat) (Option.some Jvm.ClassFile.FieldType.int)) ∈ lw_all := lw_g (lw_at lw_m3 201 rfl) rfl
theorem q771 : (Jvm.Cond.constant "java/lang/Integer" (264 : Nat) (65536 : Int32)) ∈ lw_all := lw_g (lw_at lw_m3 202 rfl) rfl
theorem q785 : (Jvm.Cond.static ({ cls := "java/lang/Integer", name := "bitCount", desc := "(I)I" } : Jvm.MethodName)) ∈ lw_all := lw_g (lw_at lw_m3 216 rfl) rfl
theorem q786 : (Jvm.Cond.code ({ cls := "java/lang/Integer", name := "bitCount", desc := "(I)I" } : Jvm.MethodName) prog_29_method_49_code (1 : Nat) (Option.some Jvm.ClassFile.FieldType.int)) ∈ lw_all := lw_g (lw_at lw_m3 217 rfl) rfl
theorem q787 : (Jvm.Cond.constant "java/lang/Integer" (265 : Nat) (1431655765 : Int32)) ∈ lw_all := lw_g (lw_at lw_m3 218 rfl) rfl
theorem q788 : (Jvm.Cond.constant "java/lang/Integer" (266 : Nat) (858993459 : Int32)) ∈ lw_all := lw_g (lw_at lw_m3 219 rfl) rfl
theorem q789 : (Jvm.Cond.constant "java/lang/Integer" (267 : Nat) (252645135 : Int32)) ∈ lw_all := lw_g (lw_at lw_m3 220 rfl) rfl
/-! java/lang/AbstractStringBuilder -/
set_option maxRecDepth 100000
def RJ15 : String := "java/lang/AbstractStringBuilder"
abbrev cJ15_init : ByteArray := prog_20_method_2_code
def yJ15_init : MethodName := ⟨RJ15, "<init>", "(I)V"⟩
def dkwJ15_init_1 : List UInt8 := [167, 0, 16, 42, 27, 184, 0, 26, 181, 0, 15, 42, 4, 181, 0, 22, 177]
abbrev dktJ15_init_1 : List UInt8 := dkwJ15_init_1 ++ []
def dkwJ15_init_0 : List UInt8 := [42, 183, 0, 3, 178, 0, 18, 153, 0, 18, 42, 27, 188, 8, 181, 0, 15, 42, 3, 181, 0, 22]
abbrev dktJ15_init_0 : List UInt8 := dkwJ15_init_0 ++ dktJ15_init_1
theorem dksJ15_init_0 : cJ15_init.data.toList.drop 0 = dktJ15_init_0 := by decide +kernel
theorem dksJ15_init_1 : cJ15_init.data.toList.drop 22 = dktJ15_init_1 := dk_seg dksJ15_init_0 22 rfl rfl
theorem dJ15_init_0 : decode cJ15_init 0 = .ok (.aload_n 0, 1) := dk_42 (dk_at dksJ15_init_0 0 rfl rfl)
theorem dJ15_init_1 : decode cJ15_init 1 = .ok (.invokespecial 3, 3) := dk_183 0 3 (dk_at dksJ15_init_0 1 rfl rfl)
theorem dJ15_init_4 : decode cJ15_init 4 = .ok (.getstatic 18, 3) := dk_178 0 18 (dk_at dksJ15_init_0 4 rfl rfl)
theorem dJ15_init_7 : decode cJ15_init 7 = .ok (.ifCond .eq 18, 3) := dk_153 0 18 (dk_at dksJ15_init_0 7 rfl rfl)
theorem dJ15_init_10 : decode cJ15_init 10 = .ok (.aload_n 0, 1) := dk_42 (dk_at dksJ15_init_0 10 rfl rfl)
theorem dJ15_init_11 : decode cJ15_init 11 = .ok (.iload_n 1, 1) := dk_27 (dk_at dksJ15_init_0 11 rfl rfl)
theorem dJ15_init_12 : decode cJ15_init 12 = .ok (.newarray .byte, 2) := dk_188_8 (dk_at dksJ15_init_0 12 rfl rfl)
theorem dJ15_init_14 : decode cJ15_init 14 = .ok (.putfield 15, 3) := dk_181 0 15 (dk_at dksJ15_init_0 14 rfl rfl)
theorem dJ15_init_17 : decode cJ15_init 17 = .ok (.aload_n 0, 1) := dk_42 (dk_at dksJ15_init_0 17 rfl rfl)
theorem dJ15_init_18 : decode cJ15_init 18 = .ok (.iconst 0, 1) := dk_3 (dk_at dksJ15_init_0 18 rfl rfl)
theorem dJ15_init_19 : decode cJ15_init 19 = .ok (.putfield 22, 3) := dk_181 0 22 (dk_at dksJ15_init_0 19 rfl rfl)
theorem dJ15_init_22 : decode cJ15_init 22 = .ok (.goto 16, 3) := dk_167 0 16 (dk_at dksJ15_init_1 0 rfl rfl)
theorem dJ15_init_25 : decode cJ15_init 25 = .ok (.aload_n 0, 1) := dk_42 (dk_at dksJ15_init_1 3 rfl rfl)
theorem dJ15_init_26 : decode cJ15_init 26 = .ok (.iload_n 1, 1) := dk_27 (dk_at dksJ15_init_1 4 rfl rfl)
theorem dJ15_init_27 : decode cJ15_init 27 = .ok (.invokestatic 26, 3) := dk_184 0 26 (dk_at dksJ15_init_1 5 rfl rfl)
theorem dJ15_init_30 : decode cJ15_init 30 = .ok (.putfield 15, 3) := dk_181 0 15 (dk_at dksJ15_init_1 8 rfl rfl)
theorem dJ15_init_33 : decode cJ15_init 33 = .ok (.aload_n 0, 1) := dk_42 (dk_at dksJ15_init_1 11 rfl rfl)
theorem dJ15_init_34 : decode cJ15_init 34 = .ok (.iconst 1, 1) := dk_4 (dk_at dksJ15_init_1 12 rfl rfl)
theorem dJ15_init_35 : decode cJ15_init 35 = .ok (.putfield 22, 3) := dk_181 0 22 (dk_at dksJ15_init_1 13 rfl rfl)
theorem dJ15_init_38 : decode cJ15_init 38 = .ok (.return_, 1) := dk_177 (dk_at dksJ15_init_1 16 rfl rfl)
abbrev cJ15_append : ByteArray := prog_20_method_31_code
def yJ15_append : MethodName := ⟨RJ15, "append", "(C)Ljava/lang/AbstractStringBuilder;"⟩
def dkwJ15_append_3 : List UInt8 := [181, 0, 79, 27, 184, 0, 197, 42, 176]
abbrev dktJ15_append_3 : List UInt8 := dkwJ15_append_3 ++ []
def dkwJ15_append_2 : List UInt8 := [182, 0, 83, 153, 0, 7, 42, 182, 0, 195, 42, 180, 0, 15, 42, 89, 180, 0, 79, 90, 4, 96]
abbrev dktJ15_append_2 : List UInt8 := dkwJ15_append_2 ++ dktJ15_append_3
def dkwJ15_append_1 : List UInt8 := [42, 180, 0, 15, 42, 89, 180, 0, 79, 90, 4, 96, 181, 0, 79, 27, 145, 84, 167, 0, 33, 42]
abbrev dktJ15_append_1 : List UInt8 := dkwJ15_append_1 ++ dktJ15_append_2
def dkwJ15_append_0 : List UInt8 := [42, 42, 180, 0, 79, 4, 96, 182, 0, 100, 42, 182, 0, 83, 153, 0, 31, 27, 184, 0, 191, 153, 0, 24]
abbrev dktJ15_append_0 : List UInt8 := dkwJ15_append_0 ++ dktJ15_append_1
theorem dksJ15_append_0 : cJ15_append.data.toList.drop 0 = dktJ15_append_0 := by decide +kernel
theorem dksJ15_append_1 : cJ15_append.data.toList.drop 24 = dktJ15_append_1 := dk_seg dksJ15_append_0 24 rfl rfl
theorem dksJ15_append_2 : cJ15_append.data.toList.drop 46 = dktJ15_append_2 := dk_seg dksJ15_append_1 22 rfl rfl
theorem dksJ15_append_3 : cJ15_append.data.toList.drop 68 = dktJ15_append_3 := dk_seg dksJ15_append_2 22 rfl rfl
theorem dJ15_append_0 : decode cJ15_append 0 = .ok (.aload_n 0, 1) := dk_42 (dk_at dksJ15_append_0 0 rfl rfl)
theorem dJ15_append_1 : decode cJ15_append 1 = .ok (.aload_n 0, 1) := dk_42 (dk_at dksJ15_append_0 1 rfl rfl)
theorem dJ15_append_2 : decode cJ15_append 2 = .ok (.getfield 79, 3) := dk_180 0 79 (dk_at dksJ15_append_0 2 rfl rfl)
theorem dJ15_append_5 : decode cJ15_append 5 = .ok (.iconst 1, 1) := dk_4 (dk_at dksJ15_append_0 5 rfl rfl)
theorem dJ15_append_6 : decode cJ15_append 6 = .ok (.iadd, 1) := dk_96 (dk_at dksJ15_append_0 6 rfl rfl)
theorem dJ15_append_7 : decode cJ15_append 7 = .ok (.invokevirtual 100, 3) := dk_182 0 100 (dk_at dksJ15_append_0 7 rfl rfl)
theorem dJ15_append_10 : decode cJ15_append 10 = .ok (.aload_n 0, 1) := dk_42 (dk_at dksJ15_append_0 10 rfl rfl)
theorem dJ15_append_11 : decode cJ15_append 11 = .ok (.invokevirtual 83, 3) := dk_182 0 83 (dk_at dksJ15_append_0 11 rfl rfl)
theorem dJ15_append_14 : decode cJ15_append 14 = .ok (.ifCond .eq 31, 3) := dk_153 0 31 (dk_at dksJ15_append_0 14 rfl rfl)
theorem dJ15_append_17 : decode cJ15_append 17 = .ok (.iload_n 1, 1) := dk_27 (dk_at dksJ15_append_0 17 rfl rfl)
theorem dJ15_append_18 : decode cJ15_append 18 = .ok (.invokestatic 191, 3) := dk_184 0 191 (dk_at dksJ15_append_0 18 rfl rfl)
theorem dJ15_append_21 : decode cJ15_append 21 = .ok (.ifCond .eq 24, 3) := dk_153 0 24 (dk_at dksJ15_append_0 21 rfl rfl)
theorem dJ15_append_24 : decode cJ15_append 24 = .ok (.aload_n 0, 1) := dk_42 (dk_at dksJ15_append_1 0 rfl rfl)
theorem dJ15_append_25 : decode cJ15_append 25 = .ok (.getfield 15, 3) := dk_180 0 15 (dk_at dksJ15_append_1 1 rfl rfl)
theorem dJ15_append_28 : decode cJ15_append 28 = .ok (.aload_n 0, 1) := dk_42 (dk_at dksJ15_append_1 4 rfl rfl)
theorem dJ15_append_29 : decode cJ15_append 29 = .ok (.dup, 1) := dk_89 (dk_at dksJ15_append_1 5 rfl rfl)
theorem dJ15_append_30 : decode cJ15_append 30 = .ok (.getfield 79, 3) := dk_180 0 79 (dk_at dksJ15_append_1 6 rfl rfl)
theorem dJ15_append_33 : decode cJ15_append 33 = .ok (.dup_x1, 1) := dk_90 (dk_at dksJ15_append_1 9 rfl rfl)
theorem dJ15_append_34 : decode cJ15_append 34 = .ok (.iconst 1, 1) := dk_4 (dk_at dksJ15_append_1 10 rfl rfl)
theorem dJ15_append_35 : decode cJ15_append 35 = .ok (.iadd, 1) := dk_96 (dk_at dksJ15_append_1 11 rfl rfl)
theorem dJ15_append_36 : decode cJ15_append 36 = .ok (.putfield 79, 3) := dk_181 0 79 (dk_at dksJ15_append_1 12 rfl rfl)
theorem dJ15_append_39 : decode cJ15_append 39 = .ok (.iload_n 1, 1) := dk_27 (dk_at dksJ15_append_1 15 rfl rfl)
theorem dJ15_append_40 : decode cJ15_append 40 = .ok (.i2b, 1) := dk_145 (dk_at dksJ15_append_1 16 rfl rfl)
theorem dJ15_append_41 : decode cJ15_append 41 = .ok (.bastore, 1) := dk_84 (dk_at dksJ15_append_1 17 rfl rfl)
theorem dJ15_append_42 : decode cJ15_append 42 = .ok (.goto 33, 3) := dk_167 0 33 (dk_at dksJ15_append_1 18 rfl rfl)
theorem dJ15_append_45 : decode cJ15_append 45 = .ok (.aload_n 0, 1) := dk_42 (dk_at dksJ15_append_1 21 rfl rfl)
theorem dJ15_append_46 : decode cJ15_append 46 = .ok (.invokevirtual 83, 3) := dk_182 0 83 (dk_at dksJ15_append_2 0 rfl rfl)
theorem dJ15_append_49 : decode cJ15_append 49 = .ok (.ifCond .eq 7, 3) := dk_153 0 7 (dk_at dksJ15_append_2 3 rfl rfl)
theorem dJ15_append_52 : decode cJ15_append 52 = .ok (.aload_n 0, 1) := dk_42 (dk_at dksJ15_append_2 6 rfl rfl)
theorem dJ15_append_53 : decode cJ15_append 53 = .ok (.invokevirtual 195, 3) := dk_182 0 195 (dk_at dksJ15_append_2 7 rfl rfl)
theorem dJ15_append_56 : decode cJ15_append 56 = .ok (.aload_n 0, 1) := dk_42 (dk_at dksJ15_append_2 10 rfl rfl)
theorem dJ15_append_57 : decode cJ15_append 57 = .ok (.getfield 15, 3) := dk_180 0 15 (dk_at dksJ15_append_2 11 rfl rfl)
theorem dJ15_append_60 : decode cJ15_append 60 = .ok (.aload_n 0, 1) := dk_42 (dk_at dksJ15_append_2 14 rfl rfl)
theorem dJ15_append_61 : decode cJ15_append 61 = .ok (.dup, 1) := dk_89 (dk_at dksJ15_append_2 15 rfl rfl)
theorem dJ15_append_62 : decode cJ15_append 62 = .ok (.getfield 79, 3) := dk_180 0 79 (dk_at dksJ15_append_2 16 rfl rfl)
theorem dJ15_append_65 : decode cJ15_append 65 = .ok (.dup_x1, 1) := dk_90 (dk_at dksJ15_append_2 19 rfl rfl)
theorem dJ15_append_66 : decode cJ15_append 66 = .ok (.iconst 1, 1) := dk_4 (dk_at dksJ15_append_2 20 rfl rfl)
theorem dJ15_append_67 : decode cJ15_append 67 = .ok (.iadd, 1) := dk_96 (dk_at dksJ15_append_2 21 rfl rfl)
theorem dJ15_append_68 : decode cJ15_append 68 = .ok (.putfield 79, 3) := dk_181 0 79 (dk_at dksJ15_append_3 0 rfl rfl)
theorem dJ15_append_71 : decode cJ15_append 71 = .ok (.iload_n 1, 1) := dk_27 (dk_at dksJ15_append_3 3 rfl rfl)
theorem dJ15_append_72 : decode cJ15_append 72 = .ok (.invokestatic 197, 3) := dk_184 0 197 (dk_at dksJ15_append_3 4 rfl rfl)
theorem dJ15_append_75 : decode cJ15_append 75 = .ok (.aload_n 0, 1) := dk_42 (dk_at dksJ15_append_3 7 rfl rfl)
theorem dJ15_append_76 : decode cJ15_append 76 = .ok (.areturn, 1) := dk_176 (dk_at dksJ15_append_3 8 rfl rfl)
abbrev cJ15_ensureCapacityInternal : ByteArray := prog_20_method_9_code
def yJ15_ensureCapacityInternal : MethodName := ⟨RJ15, "ensureCapacityInternal", "(I)V"⟩
def dkwJ15_ensureCapacityInternal_1 : List UInt8 := [182, 0, 104, 42, 180, 0, 22, 120, 184, 0, 108, 181, 0, 15, 177]
abbrev dktJ15_ensureCapacityInternal_1 : List UInt8 := dkwJ15_ensureCapacityInternal_1 ++ []
def dkwJ15_ensureCapacityInternal_0 : List UInt8 := [42, 180, 0, 15, 190, 42, 180, 0, 22, 122, 61, 27, 28, 100, 158, 0, 24, 42, 42, 180, 0, 15, 42, 27]
abbrev dktJ15_ensureCapacityInternal_0 : List UInt8 := dkwJ15_ensureCapacityInternal_0 ++ dktJ15_ensureCapacityInternal_1
theorem dksJ15_ensureCapacityInternal_0 : cJ15_ensureCapacityInternal.data.toList.drop 0 = dktJ15_ensureCapacityInternal_0 := by decide +kernel
theorem dksJ15_ensureCapacityInternal_1 : cJ15_ensureCapacityInternal.data.toList.drop 24 = dktJ15_ensureCapacityInternal_1 := dk_seg dksJ15_ensureCapacityInternal_0 24 rfl rfl
theorem dJ15_ensureCapacityInternal_0 : decode cJ15_ensureCapacityInternal 0 = .ok (.aload_n 0, 1) := dk_42 (dk_at dksJ15_ensureCapacityInternal_0 0 rfl rfl)
theorem dJ15_ensureCapacityInternal_1 : decode cJ15_ensureCapacityInternal 1 = .ok (.getfield 15, 3) := dk_180 0 15 (dk_at dksJ15_ensureCapacityInternal_0 1 rfl rfl)
theorem dJ15_ensureCapacityInternal_4 : decode cJ15_ensureCapacityInternal 4 = .ok (.arraylength, 1) := dk_190 (dk_at dksJ15_ensureCapacityInternal_0 4 rfl rfl)
theorem dJ15_ensureCapacityInternal_5 : decode cJ15_ensureCapacityInternal 5 = .ok (.aload_n 0, 1) := dk_42 (dk_at dksJ15_ensureCapacityInternal_0 5 rfl rfl)
theorem dJ15_ensureCapacityInternal_6 : decode cJ15_ensureCapacityInternal 6 = .ok (.getfield 22, 3) := dk_180 0 22 (dk_at dksJ15_ensureCapacityInternal_0 6 rfl rfl)
theorem dJ15_ensureCapacityInternal_9 : decode cJ15_ensureCapacityInternal 9 = .ok (.ishr, 1) := dk_122 (dk_at dksJ15_ensureCapacityInternal_0 9 rfl rfl)
theorem dJ15_ensureCapacityInternal_10 : decode cJ15_ensureCapacityInternal 10 = .ok (.istore_n 2, 1) := dk_61 (dk_at dksJ15_ensureCapacityInternal_0 10 rfl rfl)
theorem dJ15_ensureCapacityInternal_11 : decode cJ15_ensureCapacityInternal 11 = .ok (.iload_n 1, 1) := dk_27 (dk_at dksJ15_ensureCapacityInternal_0 11 rfl rfl)
theorem dJ15_ensureCapacityInternal_12 : decode cJ15_ensureCapacityInternal 12 = .ok (.iload_n 2, 1) := dk_28 (dk_at dksJ15_ensureCapacityInternal_0 12 rfl rfl)
theorem dJ15_ensureCapacityInternal_13 : decode cJ15_ensureCapacityInternal 13 = .ok (.isub, 1) := dk_100 (dk_at dksJ15_ensureCapacityInternal_0 13 rfl rfl)
theorem dJ15_ensureCapacityInternal_14 : decode cJ15_ensureCapacityInternal 14 = .ok (.ifCond .le 24, 3) := dk_158 0 24 (dk_at dksJ15_ensureCapacityInternal_0 14 rfl rfl)
theorem dJ15_ensureCapacityInternal_17 : decode cJ15_ensureCapacityInternal 17 = .ok (.aload_n 0, 1) := dk_42 (dk_at dksJ15_ensureCapacityInternal_0 17 rfl rfl)
theorem dJ15_ensureCapacityInternal_18 : decode cJ15_ensureCapacityInternal 18 = .ok (.aload_n 0, 1) := dk_42 (dk_at dksJ15_ensureCapacityInternal_0 18 rfl rfl)
theorem dJ15_ensureCapacityInternal_19 : decode cJ15_ensureCapacityInternal 19 = .ok (.getfield 15, 3) := dk_180 0 15 (dk_at dksJ15_ensureCapacityInternal_0 19 rfl rfl)
theorem dJ15_ensureCapacityInternal_22 : decode cJ15_ensureCapacityInternal 22 = .ok (.aload_n 0, 1) := dk_42 (dk_at dksJ15_ensureCapacityInternal_0 22 rfl rfl)
theorem dJ15_ensureCapacityInternal_23 : decode cJ15_ensureCapacityInternal 23 = .ok (.iload_n 1, 1) := dk_27 (dk_at dksJ15_ensureCapacityInternal_0 23 rfl rfl)
theorem dJ15_ensureCapacityInternal_24 : decode cJ15_ensureCapacityInternal 24 = .ok (.invokevirtual 104, 3) := dk_182 0 104 (dk_at dksJ15_ensureCapacityInternal_1 0 rfl rfl)
theorem dJ15_ensureCapacityInternal_27 : decode cJ15_ensureCapacityInternal 27 = .ok (.aload_n 0, 1) := dk_42 (dk_at dksJ15_ensureCapacityInternal_1 3 rfl rfl)
theorem dJ15_ensureCapacityInternal_28 : decode cJ15_ensureCapacityInternal 28 = .ok (.getfield 22, 3) := dk_180 0 22 (dk_at dksJ15_ensureCapacityInternal_1 4 rfl rfl)
theorem dJ15_ensureCapacityInternal_31 : decode cJ15_ensureCapacityInternal 31 = .ok (.ishl, 1) := dk_120 (dk_at dksJ15_ensureCapacityInternal_1 7 rfl rfl)
theorem dJ15_ensureCapacityInternal_32 : decode cJ15_ensureCapacityInternal 32 = .ok (.invokestatic 108, 3) := dk_184 0 108 (dk_at dksJ15_ensureCapacityInternal_1 8 rfl rfl)
theorem dJ15_ensureCapacityInternal_35 : decode cJ15_ensureCapacityInternal 35 = .ok (.putfield 15, 3) := dk_181 0 15 (dk_at dksJ15_ensureCapacityInternal_1 11 rfl rfl)
theorem dJ15_ensureCapacityInternal_38 : decode cJ15_ensureCapacityInternal 38 = .ok (.return_, 1) := dk_177 (dk_at dksJ15_ensureCapacityInternal_1 14 rfl rfl)
abbrev cJ15_newCapacity : ByteArray := prog_20_method_10_code
def yJ15_newCapacity : MethodName := ⟨RJ15, "newCapacity", "(I)I"⟩
def dkwJ15_newCapacity_2 : List UInt8 := [183, 0, 124, 191, 21, 5, 42, 180, 0, 22, 122, 172]
abbrev dktJ15_newCapacity_2 : List UInt8 := dkwJ15_newCapacity_2 ++ []
def dkwJ15_newCapacity_1 : List UInt8 := [180, 0, 22, 120, 96, 184, 0, 114, 54, 5, 21, 5, 18, 39, 160, 0, 13, 187, 0, 120, 89, 18, 122]
abbrev dktJ15_newCapacity_1 : List UInt8 := dkwJ15_newCapacity_1 ++ dktJ15_newCapacity_2
def dkwJ15_newCapacity_0 : List UInt8 := [42, 180, 0, 15, 190, 61, 27, 42, 180, 0, 22, 120, 62, 29, 28, 100, 54, 4, 28, 21, 4, 28, 5, 42]
abbrev dktJ15_newCapacity_0 : List UInt8 := dkwJ15_newCapacity_0 ++ dktJ15_newCapacity_1
theorem dksJ15_newCapacity_0 : cJ15_newCapacity.data.toList.drop 0 = dktJ15_newCapacity_0 := by decide +kernel
theorem dksJ15_newCapacity_1 : cJ15_newCapacity.data.toList.drop 24 = dktJ15_newCapacity_1 := dk_seg dksJ15_newCapacity_0 24 rfl rfl
theorem dksJ15_newCapacity_2 : cJ15_newCapacity.data.toList.drop 47 = dktJ15_newCapacity_2 := dk_seg dksJ15_newCapacity_1 23 rfl rfl
theorem dJ15_newCapacity_0 : decode cJ15_newCapacity 0 = .ok (.aload_n 0, 1) := dk_42 (dk_at dksJ15_newCapacity_0 0 rfl rfl)
theorem dJ15_newCapacity_1 : decode cJ15_newCapacity 1 = .ok (.getfield 15, 3) := dk_180 0 15 (dk_at dksJ15_newCapacity_0 1 rfl rfl)
theorem dJ15_newCapacity_4 : decode cJ15_newCapacity 4 = .ok (.arraylength, 1) := dk_190 (dk_at dksJ15_newCapacity_0 4 rfl rfl)
theorem dJ15_newCapacity_5 : decode cJ15_newCapacity 5 = .ok (.istore_n 2, 1) := dk_61 (dk_at dksJ15_newCapacity_0 5 rfl rfl)
theorem dJ15_newCapacity_6 : decode cJ15_newCapacity 6 = .ok (.iload_n 1, 1) := dk_27 (dk_at dksJ15_newCapacity_0 6 rfl rfl)
theorem dJ15_newCapacity_7 : decode cJ15_newCapacity 7 = .ok (.aload_n 0, 1) := dk_42 (dk_at dksJ15_newCapacity_0 7 rfl rfl)
theorem dJ15_newCapacity_8 : decode cJ15_newCapacity 8 = .ok (.getfield 22, 3) := dk_180 0 22 (dk_at dksJ15_newCapacity_0 8 rfl rfl)
theorem dJ15_newCapacity_11 : decode cJ15_newCapacity 11 = .ok (.ishl, 1) := dk_120 (dk_at dksJ15_newCapacity_0 11 rfl rfl)
theorem dJ15_newCapacity_12 : decode cJ15_newCapacity 12 = .ok (.istore_n 3, 1) := dk_62 (dk_at dksJ15_newCapacity_0 12 rfl rfl)
theorem dJ15_newCapacity_13 : decode cJ15_newCapacity 13 = .ok (.iload_n 3, 1) := dk_29 (dk_at dksJ15_newCapacity_0 13 rfl rfl)
theorem dJ15_newCapacity_14 : decode cJ15_newCapacity 14 = .ok (.iload_n 2, 1) := dk_28 (dk_at dksJ15_newCapacity_0 14 rfl rfl)
theorem dJ15_newCapacity_15 : decode cJ15_newCapacity 15 = .ok (.isub, 1) := dk_100 (dk_at dksJ15_newCapacity_0 15 rfl rfl)
theorem dJ15_newCapacity_16 : decode cJ15_newCapacity 16 = .ok (.istore 4, 2) := dk_54 4 (dk_at dksJ15_newCapacity_0 16 rfl rfl)
theorem dJ15_newCapacity_18 : decode cJ15_newCapacity 18 = .ok (.iload_n 2, 1) := dk_28 (dk_at dksJ15_newCapacity_0 18 rfl rfl)
theorem dJ15_newCapacity_19 : decode cJ15_newCapacity 19 = .ok (.iload 4, 2) := dk_21 4 (dk_at dksJ15_newCapacity_0 19 rfl rfl)
theorem dJ15_newCapacity_21 : decode cJ15_newCapacity 21 = .ok (.iload_n 2, 1) := dk_28 (dk_at dksJ15_newCapacity_0 21 rfl rfl)
theorem dJ15_newCapacity_22 : decode cJ15_newCapacity 22 = .ok (.iconst 2, 1) := dk_5 (dk_at dksJ15_newCapacity_0 22 rfl rfl)
theorem dJ15_newCapacity_23 : decode cJ15_newCapacity 23 = .ok (.aload_n 0, 1) := dk_42 (dk_at dksJ15_newCapacity_0 23 rfl rfl)
theorem dJ15_newCapacity_24 : decode cJ15_newCapacity 24 = .ok (.getfield 22, 3) := dk_180 0 22 (dk_at dksJ15_newCapacity_1 0 rfl rfl)
theorem dJ15_newCapacity_27 : decode cJ15_newCapacity 27 = .ok (.ishl, 1) := dk_120 (dk_at dksJ15_newCapacity_1 3 rfl rfl)
theorem dJ15_newCapacity_28 : decode cJ15_newCapacity 28 = .ok (.iadd, 1) := dk_96 (dk_at dksJ15_newCapacity_1 4 rfl rfl)
theorem dJ15_newCapacity_29 : decode cJ15_newCapacity 29 = .ok (.invokestatic 114, 3) := dk_184 0 114 (dk_at dksJ15_newCapacity_1 5 rfl rfl)
theorem dJ15_newCapacity_32 : decode cJ15_newCapacity 32 = .ok (.istore 5, 2) := dk_54 5 (dk_at dksJ15_newCapacity_1 8 rfl rfl)
theorem dJ15_newCapacity_34 : decode cJ15_newCapacity 34 = .ok (.iload 5, 2) := dk_21 5 (dk_at dksJ15_newCapacity_1 10 rfl rfl)
theorem dJ15_newCapacity_36 : decode cJ15_newCapacity 36 = .ok (.ldc 39, 2) := dk_18 39 (dk_at dksJ15_newCapacity_1 12 rfl rfl)
theorem dJ15_newCapacity_38 : decode cJ15_newCapacity 38 = .ok (.if_icmp .ne 13, 3) := dk_160 0 13 (dk_at dksJ15_newCapacity_1 14 rfl rfl)
theorem dJ15_newCapacity_41 : decode cJ15_newCapacity 41 = .ok (.new 120, 3) := dk_187 0 120 (dk_at dksJ15_newCapacity_1 17 rfl rfl)
theorem dJ15_newCapacity_44 : decode cJ15_newCapacity 44 = .ok (.dup, 1) := dk_89 (dk_at dksJ15_newCapacity_1 20 rfl rfl)
theorem dJ15_newCapacity_45 : decode cJ15_newCapacity 45 = .ok (.ldc 122, 2) := dk_18 122 (dk_at dksJ15_newCapacity_1 21 rfl rfl)
theorem dJ15_newCapacity_47 : decode cJ15_newCapacity 47 = .ok (.invokespecial 124, 3) := dk_183 0 124 (dk_at dksJ15_newCapacity_2 0 rfl rfl)
theorem dJ15_newCapacity_50 : decode cJ15_newCapacity 50 = .ok (.athrow, 1) := dk_191 (dk_at dksJ15_newCapacity_2 3 rfl rfl)
theorem dJ15_newCapacity_51 : decode cJ15_newCapacity 51 = .ok (.iload 5, 2) := dk_21 5 (dk_at dksJ15_newCapacity_2 4 rfl rfl)
theorem dJ15_newCapacity_53 : decode cJ15_newCapacity 53 = .ok (.aload_n 0, 1) := dk_42 (dk_at dksJ15_newCapacity_2 6 rfl rfl)
theorem dJ15_newCapacity_54 : decode cJ15_newCapacity 54 = .ok (.getfield 22, 3) := dk_180 0 22 (dk_at dksJ15_newCapacity_2 7 rfl rfl)
theorem dJ15_newCapacity_57 : decode cJ15_newCapacity 57 = .ok (.ishr, 1) := dk_122 (dk_at dksJ15_newCapacity_2 10 rfl rfl)
theorem dJ15_newCapacity_58 : decode cJ15_newCapacity 58 = .ok (.ireturn, 1) := dk_172 (dk_at dksJ15_newCapacity_2 11 rfl rfl)
abbrev cJ15_isLatin1 : ByteArray := prog_20_method_68_code
def yJ15_isLatin1 : MethodName := ⟨RJ15, "isLatin1", "()Z"⟩
def dkwJ15_isLatin1_0 : List UInt8 := [178, 0, 18, 153, 0, 14, 42, 180, 0, 22, 154, 0, 7, 4, 167, 0, 4, 3, 172]
abbrev dktJ15_isLatin1_0 : List UInt8 := dkwJ15_isLatin1_0 ++ []
theorem dksJ15_isLatin1_0 : cJ15_isLatin1.data.toList.drop 0 = dktJ15_isLatin1_0 := by decide +kernel
theorem dJ15_isLatin1_0 : decode cJ15_isLatin1 0 = .ok (.getstatic 18, 3) := dk_178 0 18 (dk_at dksJ15_isLatin1_0 0 rfl rfl)
theorem dJ15_isLatin1_3 : decode cJ15_isLatin1 3 = .ok (.ifCond .eq 14, 3) := dk_153 0 14 (dk_at dksJ15_isLatin1_0 3 rfl rfl)
theorem dJ15_isLatin1_6 : decode cJ15_isLatin1 6 = .ok (.aload_n 0, 1) := dk_42 (dk_at dksJ15_isLatin1_0 6 rfl rfl)
theorem dJ15_isLatin1_7 : decode cJ15_isLatin1 7 = .ok (.getfield 22, 3) := dk_180 0 22 (dk_at dksJ15_isLatin1_0 7 rfl rfl)
theorem dJ15_isLatin1_10 : decode cJ15_isLatin1 10 = .ok (.ifCond .ne 7, 3) := dk_154 0 7 (dk_at dksJ15_isLatin1_0 10 rfl rfl)
theorem dJ15_isLatin1_13 : decode cJ15_isLatin1 13 = .ok (.iconst 1, 1) := dk_4 (dk_at dksJ15_isLatin1_0 13 rfl rfl)
theorem dJ15_isLatin1_14 : decode cJ15_isLatin1 14 = .ok (.goto 4, 3) := dk_167 0 4 (dk_at dksJ15_isLatin1_0 14 rfl rfl)
theorem dJ15_isLatin1_17 : decode cJ15_isLatin1 17 = .ok (.iconst 0, 1) := dk_3 (dk_at dksJ15_isLatin1_0 17 rfl rfl)
theorem dJ15_isLatin1_18 : decode cJ15_isLatin1 18 = .ok (.ireturn, 1) := dk_172 (dk_at dksJ15_isLatin1_0 18 rfl rfl)
abbrev cJ15_inflate : ByteArray := prog_20_method_11_code
def yJ15_inflate : MethodName := ⟨RJ15, "inflate", "()V"⟩
def dkwJ15_inflate_1 : List UInt8 := [42, 180, 0, 79, 184, 0, 125, 42, 43, 181, 0, 15, 42, 4, 181, 0, 22, 177]
abbrev dktJ15_inflate_1 : List UInt8 := dkwJ15_inflate_1 ++ []
def dkwJ15_inflate_0 : List UInt8 := [42, 182, 0, 83, 154, 0, 4, 177, 42, 180, 0, 15, 190, 184, 0, 26, 76, 42, 180, 0, 15, 3, 43, 3]
abbrev dktJ15_inflate_0 : List UInt8 := dkwJ15_inflate_0 ++ dktJ15_inflate_1
theorem dksJ15_inflate_0 : cJ15_inflate.data.toList.drop 0 = dktJ15_inflate_0 := by decide +kernel
theorem dksJ15_inflate_1 : cJ15_inflate.data.toList.drop 24 = dktJ15_inflate_1 := dk_seg dksJ15_inflate_0 24 rfl rfl
theorem dJ15_inflate_0 : decode cJ15_inflate 0 = .ok (.aload_n 0, 1) := dk_42 (dk_at dksJ15_inflate_0 0 rfl rfl)
theorem dJ15_inflate_1 : decode cJ15_inflate 1 = .ok (.invokevirtual 83, 3) := dk_182 0 83 (dk_at dksJ15_inflate_0 1 rfl rfl)
theorem dJ15_inflate_4 : decode cJ15_inflate 4 = .ok (.ifCond .ne 4, 3) := dk_154 0 4 (dk_at dksJ15_inflate_0 4 rfl rfl)
theorem dJ15_inflate_7 : decode cJ15_inflate 7 = .ok (.return_, 1) := dk_177 (dk_at dksJ15_inflate_0 7 rfl rfl)
theorem dJ15_inflate_8 : decode cJ15_inflate 8 = .ok (.aload_n 0, 1) := dk_42 (dk_at dksJ15_inflate_0 8 rfl rfl)
theorem dJ15_inflate_9 : decode cJ15_inflate 9 = .ok (.getfield 15, 3) := dk_180 0 15 (dk_at dksJ15_inflate_0 9 rfl rfl)
theorem dJ15_inflate_12 : decode cJ15_inflate 12 = .ok (.arraylength, 1) := dk_190 (dk_at dksJ15_inflate_0 12 rfl rfl)
theorem dJ15_inflate_13 : decode cJ15_inflate 13 = .ok (.invokestatic 26, 3) := dk_184 0 26 (dk_at dksJ15_inflate_0 13 rfl rfl)
theorem dJ15_inflate_16 : decode cJ15_inflate 16 = .ok (.astore_n 1, 1) := dk_76 (dk_at dksJ15_inflate_0 16 rfl rfl)
theorem dJ15_inflate_17 : decode cJ15_inflate 17 = .ok (.aload_n 0, 1) := dk_42 (dk_at dksJ15_inflate_0 17 rfl rfl)
theorem dJ15_inflate_18 : decode cJ15_inflate 18 = .ok (.getfield 15, 3) := dk_180 0 15 (dk_at dksJ15_inflate_0 18 rfl rfl)
theorem dJ15_inflate_21 : decode cJ15_inflate 21 = .ok (.iconst 0, 1) := dk_3 (dk_at dksJ15_inflate_0 21 rfl rfl)
theorem dJ15_inflate_22 : decode cJ15_inflate 22 = .ok (.aload_n 1, 1) := dk_43 (dk_at dksJ15_inflate_0 22 rfl rfl)
theorem dJ15_inflate_23 : decode cJ15_inflate 23 = .ok (.iconst 0, 1) := dk_3 (dk_at dksJ15_inflate_0 23 rfl rfl)
theorem dJ15_inflate_24 : decode cJ15_inflate 24 = .ok (.aload_n 0, 1) := dk_42 (dk_at dksJ15_inflate_1 0 rfl rfl)
theorem dJ15_inflate_25 : decode cJ15_inflate 25 = .ok (.getfield 79, 3) := dk_180 0 79 (dk_at dksJ15_inflate_1 1 rfl rfl)
theorem dJ15_inflate_28 : decode cJ15_inflate 28 = .ok (.invokestatic 125, 3) := dk_184 0 125 (dk_at dksJ15_inflate_1 4 rfl rfl)
theorem dJ15_inflate_31 : decode cJ15_inflate 31 = .ok (.aload_n 0, 1) := dk_42 (dk_at dksJ15_inflate_1 7 rfl rfl)
theorem dJ15_inflate_32 : decode cJ15_inflate 32 = .ok (.aload_n 1, 1) := dk_43 (dk_at dksJ15_inflate_1 8 rfl rfl)
theorem dJ15_inflate_33 : decode cJ15_inflate 33 = .ok (.putfield 15, 3) := dk_181 0 15 (dk_at dksJ15_inflate_1 9 rfl rfl)
theorem dJ15_inflate_36 : decode cJ15_inflate 36 = .ok (.aload_n 0, 1) := dk_42 (dk_at dksJ15_inflate_1 12 rfl rfl)
theorem dJ15_inflate_37 : decode cJ15_inflate 37 = .ok (.iconst 1, 1) := dk_4 (dk_at dksJ15_inflate_1 13 rfl rfl)
theorem dJ15_inflate_38 : decode cJ15_inflate 38 = .ok (.putfield 22, 3) := dk_181 0 22 (dk_at dksJ15_inflate_1 14 rfl rfl)
theorem dJ15_inflate_41 : decode cJ15_inflate 41 = .ok (.return_, 1) := dk_177 (dk_at dksJ15_inflate_1 17 rfl rfl)
abbrev cJ15_getValue : ByteArray := prog_20_method_64_code
def yJ15_getValue : MethodName := ⟨RJ15, "getValue", "()[B"⟩
theorem dJ15_getValue_0 : decode cJ15_getValue 0 = .ok (.aload_n 0, 1) := by decide +kernel
theorem dJ15_getValue_1 : decode cJ15_getValue 1 = .ok (.getfield 15, 3) := by decide +kernel
theorem dJ15_getValue_4 : decode cJ15_getValue 4 = .ok (.areturn, 1) := by decide +kernel
abbrev cJ15_length : ByteArray := prog_20_method_6_code
def yJ15_length : MethodName := ⟨RJ15, "length", "()I"⟩
theorem dJ15_length_0 : decode cJ15_length 0 = .ok (.aload_n 0, 1) := by decide +kernel
theorem dJ15_length_1 : decode cJ15_length 1 = .ok (.getfield 79, 3) := by decide +kernel
theorem dJ15_length_4 : decode cJ15_length 4 = .ok (.ireturn, 1) := by decide +kernel
theorem q114 : (Jvm.Cond.initialized "java/lang/AbstractStringBuilder") ∈ lw_all := lw_g (lw_at lw_m1 25 rfl) rfl
theorem q876 : (Jvm.Cond.instanceMethod ({ cls := "java/lang/AbstractStringBuilder", name := "<init>", desc := "(I)V" } : Jvm.MethodName)) ∈ lw_all := lw_g (lw_at lw_m4 67 rfl) rfl
theorem q877 : (Jvm.Cond.code ({ cls := "java/lang/AbstractStringBuilder", name := "<init>", desc := "(I)V" } : Jvm.MethodName) prog_20_method_2_code (2 : Nat) (Option.none : Option Jvm.ClassFile.FieldType)) ∈ lw_all := lw_g (lw_at lw_m4 68 rfl) rfl
theorem q878 : (Jvm.Cond.methodLink "java/lang/AbstractStringBuilder" (3 : Nat) ({ cls := "java/lang/Object", name := "<init>", desc := "()V" } : Jvm.MethodName)) ∈ lw_all := lw_g (lw_at lw_m4 69 rfl) rfl
theorem q879 : (Jvm.Cond.fieldLink "java/lang/AbstractStringBuilder" (18 : Nat) "java/lang/String" "COMPACT_STRINGS" "Z") ∈ lw_all := lw_g (lw_at lw_m4 70 rfl) rfl
theorem q881 : (Jvm.Cond.methodLink "java/lang/AbstractStringBuilder" (26 : Nat) ({ cls := "java/lang/StringUTF16", name := "newBytesFor", desc := "(I)[B" } : Jvm.MethodName)) ∈ lw_all := lw_g (lw_at lw_m4 72 rfl) rfl
theorem q888 : (Jvm.Cond.fieldLink "java/lang/AbstractStringBuilder" (15 : Nat) "java/lang/AbstractStringBuilder" "value" "[B") ∈ lw_all := lw_g (lw_at lw_m4 79 rfl) rfl
theorem q889 : (Jvm.Cond.fieldLink "java/lang/AbstractStringBuilder" (22 : Nat) "java/lang/AbstractStringBuilder" "coder" "B") ∈ lw_all := lw_g (lw_at lw_m4 80 rfl) rfl
theorem q891 : (Jvm.Cond.fieldLink "java/lang/AbstractStringBuilder" (79 : Nat) "java/lang/AbstractStringBuilder" "count" "I") ∈ lw_all := lw_g (lw_at lw_m4 82 rfl) rfl
theorem q893 : (Jvm.Cond.soleField "java/lang/AbstractStringBuilder" "value") ∈ lw_all := lw_g (lw_at lw_m4 84 rfl) rfl
theorem q895 : (Jvm.Cond.soleField "java/lang/AbstractStringBuilder" "coder") ∈ lw_all := lw_g (lw_at lw_m4 86 rfl) rfl
theorem q897 : (Jvm.Cond.soleField "java/lang/AbstractStringBuilder" "maybeLatin1") ∈ lw_all := lw_g (lw_at lw_m4 88 rfl) rfl
theorem q899 : (Jvm.Cond.soleField "java/lang/AbstractStringBuilder" "count") ∈ lw_all := lw_g (lw_at lw_m4 90 rfl) rfl
theorem q906 : (Jvm.Cond.instanceMethod ({ cls := "java/lang/AbstractStringBuilder", name := "append", desc := "(C)Ljava/lang/AbstractStringBuilder;" } : Jvm.MethodName)) ∈ lw_all := lw_g (lw_at lw_m4 97 rfl) rfl
theorem q907 : (Jvm.Cond.code ({ cls := "java/lang/AbstractStringBuilder", name := "append", desc := "(C)Ljava/lang/AbstractStringBuilder;" } : Jvm.MethodName) prog_20_method_31_code (2 : Nat) (Option.some (Jvm.ClassFile.FieldType.object "java/lang/AbstractStringBuilder"))) ∈ lw_all := lw_g (lw_at lw_m4 98 rfl) rfl
theorem q908 : (Jvm.Cond.methodLink "java/lang/AbstractStringBuilder" (100 : Nat) ({ cls := "java/lang/AbstractStringBuilder", name := "ensureCapacityInternal", desc := "(I)V" } : Jvm.MethodName)) ∈ lw_all := lw_g (lw_at lw_m4 99 rfl) rfl
theorem q909 : (Jvm.Cond.privateMethod ({ cls := "java/lang/AbstractStringBuilder", name := "ensureCapacityInternal", desc := "(I)V" } : Jvm.MethodName)) ∈ lw_tbl := lw_at lw_m4 100 rfl
theorem q910 : (Jvm.Cond.instanceMethod ({ cls := "java/lang/AbstractStringBuilder", name := "ensureCapacityInternal", desc := "(I)V" } : Jvm.MethodName)) ∈ lw_all := lw_g (lw_at lw_m4 101 rfl) rfl
theorem q911 : (Jvm.Cond.code ({ cls := "java/lang/AbstractStringBuilder", name := "ensureCapacityInternal", desc := "(I)V" } : Jvm.MethodName) prog_20_method_9_code (3 : Nat) (Option.none : Option Jvm.ClassFile.FieldType)) ∈ lw_all := lw_g (lw_at lw_m4 102 rfl) rfl
theorem q912 : (Jvm.Cond.methodLink "java/lang/AbstractStringBuilder" (104 : Nat) ({ cls := "java/lang/AbstractStringBuilder", name := "newCapacity", desc := "(I)I" } : Jvm.MethodName)) ∈ lw_all := lw_g (lw_at lw_m4 103 rfl) rfl
theorem q913 : (Jvm.Cond.privateMethod ({ cls := "java/lang/AbstractStringBuilder", name := "newCapacity", desc := "(I)I" } : Jvm.MethodName)) ∈ lw_tbl := lw_at lw_m4 104 rfl
theorem q914 : (Jvm.Cond.instanceMethod ({ cls := "java/lang/AbstractStringBuilder", name := "newCapacity", desc := "(I)I" } : Jvm.MethodName)) ∈ lw_all := lw_g (lw_at lw_m4 105 rfl) rfl
theorem q915 : (Jvm.Cond.code ({ cls := "java/lang/AbstractStringBuilder", name := "newCapacity", desc := "(I)I" } : Jvm.MethodName) prog_20_method_10_code (6 : Nat) (Option.some Jvm.ClassFile.FieldType.int)) ∈ lw_all := lw_g (lw_at lw_m4 106 rfl) rfl
theorem q916 : (Jvm.Cond.methodLink "java/lang/AbstractStringBuilder" (114 : Nat) ({ cls := "jdk/internal/util/ArraysSupport", name := "newLength", desc := "(III)I" } : Jvm.MethodName)) ∈ lw_all := lw_g (lw_at lw_m4 107 rfl) rfl
theorem q917 : (Jvm.Cond.constant "java/lang/AbstractStringBuilder" (39 : Nat) (2147483647 : Int32)) ∈ lw_all := lw_g (lw_at lw_m4 108 rfl) rfl
theorem q918 : (Jvm.Cond.methodLink "java/lang/AbstractStringBuilder" (108 : Nat) ({ cls := "java/util/Arrays", name := "copyOf", desc := "([BI)[B" } : Jvm.MethodName)) ∈ lw_all := lw_g (lw_at lw_m4 109 rfl) rfl
theorem q928 : (Jvm.Cond.methodLink "java/lang/AbstractStringBuilder" (83 : Nat) ({ cls := "java/lang/AbstractStringBuilder", name := "isLatin1", desc := "()Z" } : Jvm.MethodName)) ∈ lw_all := lw_g (lw_at lw_m4 119 rfl) rfl
theorem q929 : (Jvm.Cond.instanceMethod ({ cls := "java/lang/AbstractStringBuilder", name := "isLatin1", desc := "()Z" } : Jvm.MethodName)) ∈ lw_all := lw_g (lw_at lw_m4 120 rfl) rfl
theorem q930 : (Jvm.Cond.sameMethod "java/lang/AbstractStringBuilder" "java/lang/AbstractStringBuilder" "isLatin1" "()Z") ∈ lw_all := lw_g (lw_at lw_m4 121 rfl) rfl
theorem q932 : (Jvm.Cond.code ({ cls := "java/lang/AbstractStringBuilder", name := "isLatin1", desc := "()Z" } : Jvm.MethodName) prog_20_method_68_code (1 : Nat) (Option.some Jvm.ClassFile.FieldType.boolean)) ∈ lw_all := lw_g (lw_at lw_m4 123 rfl) rfl
theorem q933 : (Jvm.Cond.methodLink "java/lang/AbstractStringBuilder" (191 : Nat) ({ cls := "java/lang/StringLatin1", name := "canEncode", desc := "(C)Z" } : Jvm.MethodName)) ∈ lw_all := lw_g (lw_at lw_m4 124 rfl) rfl
theorem q936 : (Jvm.Cond.methodLink "java/lang/AbstractStringBuilder" (195 : Nat) ({ cls := "java/lang/AbstractStringBuilder", name := "inflate", desc := "()V" } : Jvm.MethodName)) ∈ lw_all := lw_g (lw_at lw_m4 127 rfl) rfl
theorem q937 : (Jvm.Cond.privateMethod ({ cls := "java/lang/AbstractStringBuilder", name := "inflate", desc := "()V" } : Jvm.MethodName)) ∈ lw_tbl := lw_at lw_m4 128 rfl
theorem q938 : (Jvm.Cond.instanceMethod ({ cls := "java/lang/AbstractStringBuilder", name := "inflate", desc := "()V" } : Jvm.MethodName)) ∈ lw_all := lw_g (lw_at lw_m4 129 rfl) rfl
theorem q939 : (Jvm.Cond.code ({ cls := "java/lang/AbstractStringBuilder", name := "inflate", desc := "()V" } : Jvm.MethodName) prog_20_method_11_code (2 : Nat) (Option.none : Option Jvm.ClassFile.FieldType)) ∈ lw_all := lw_g (lw_at lw_m4 130 rfl) rfl
theorem q940 : (Jvm.Cond.methodLink "java/lang/AbstractStringBuilder" (125 : Nat) ({ cls := "java/lang/StringLatin1", name := "inflate", desc := "([BI[BII)V" } : Jvm.MethodName)) ∈ lw_all := lw_g (lw_at lw_m4 131 rfl) rfl
theorem q969 : (Jvm.Cond.methodLink "java/lang/AbstractStringBuilder" (197 : Nat) ({ cls := "java/lang/StringUTF16", name := "putCharSB", desc := "([BII)V" } : Jvm.MethodName)) ∈ lw_all := lw_g (lw_at lw_m4 160 rfl) rfl
theorem q992 : (Jvm.Cond.instanceMethod ({ cls := "java/lang/AbstractStringBuilder", name := "getValue", desc := "()[B" } : Jvm.MethodName)) ∈ lw_all := lw_g (lw_at lw_m4 183 rfl) rfl
theorem q993 : (Jvm.Cond.sameMethod "java/lang/AbstractStringBuilder" "java/lang/AbstractStringBuilder" "getValue" "()[B") ∈ lw_all := lw_g (lw_at lw_m4 184 rfl) rfl
theorem q995 : (Jvm.Cond.code ({ cls := "java/lang/AbstractStringBuilder", name := "getValue", desc := "()[B" } : Jvm.MethodName) prog_20_method_64_code (1 : Nat) (Option.some (Jvm.ClassFile.FieldType.array Jvm.ClassFile.FieldType.byte))) ∈ lw_all := lw_g (lw_at lw_m4 186 rfl) rfl
theorem q997 : (Jvm.Cond.instanceMethod ({ cls := "java/lang/AbstractStringBuilder", name := "length", desc := "()I" } : Jvm.MethodName)) ∈ lw_all := lw_g (lw_at lw_m4 188 rfl) rfl
theorem q998 : (Jvm.Cond.sameMethod "java/lang/AbstractStringBuilder" "java/lang/AbstractStringBuilder" "length" "()I") ∈ lw_all := lw_g (lw_at lw_m4 189 rfl) rfl
theorem q1003 : (Jvm.Cond.code ({ cls := "java/lang/AbstractStringBuilder", name := "length", desc := "()I" } : Jvm.MethodName) prog_20_method_6_code (1 : Nat) (Option.some Jvm.ClassFile.FieldType.int)) ∈ lw_all := lw_g (lw_at lw_m4 194 rfl) rfl
theorem q1893 : (Jvm.Cond.sameMethod "java/lang/AbstractStringBuilder" "java/lang/AbstractStringBuilder" "append" "(C)Ljava/lang/AbstractStringBuilder;") ∈ lw_all := lw_g (lw_at lw_m8 124 rfl) rfl
theorem q1894 : (Jvm.Cond.sameMethod "java/lang/AbstractStringBuilder" "java/lang/AbstractStringBuilder" "ensureCapacityInternal" "(I)V") ∈ lw_all := lw_g (lw_at lw_m8 125 rfl) rfl
theorem q1895 : (Jvm.Cond.sameMethod "java/lang/AbstractStringBuilder" "java/lang/AbstractStringBuilder" "newCapacity" "(I)I") ∈ lw_all := lw_g (lw_at lw_m8 126 rfl) rfl
theorem q1896 : (Jvm.Cond.sameMethod "java/lang/AbstractStringBuilder" "java/lang/AbstractStringBuilder" "inflate" "()V") ∈ lw_all := lw_g (lw_at lw_m8 127 rfl) rfl
/-! java/lang/StringBuilder -/
set_option maxRecDepth 100000
def RJ16 : String := "java/lang/StringBuilder"
def TJ16 : u_T := fun k => match k with
  | 0 => ("java/lang/AbstractStringBuilder", "value", "[B", false)
  | 1 => ("java/lang/AbstractStringBuilder", "coder", "B", false)
  | 2 => ("java/lang/AbstractStringBuilder", "maybeLatin1", "Z", false)
  | _ => ("java/lang/AbstractStringBuilder", "count", "I", false)
def tyJ16 : Nat → FieldType := fun k => match k with
  | 0 => .array .byte
  | 1 => .byte
  | 2 => .boolean
  | _ => .int
abbrev wsJ160 : List Cond := u_ws RJ16 TJ16 4
theorem nmJ16 : ∀ a, a < 4 → ∀ b, b < 4 → a ≠ b → (TJ16 a).2.1 ≠ (TJ16 b).2.1 := by decide +kernel
theorem tyJ16_ok : ∀ k, k < 4 → parseFieldDescriptor (TJ16 k).2.2.1 = some (tyJ16 k) := by decide +kernel
abbrev cJ16_init : ByteArray := prog_34_method_1_code
def yJ16_init : MethodName := ⟨RJ16, "<init>", "()V"⟩
def dkwJ16_init_0 : List UInt8 := [42, 16, 16, 183, 0, 1, 177]
abbrev dktJ16_init_0 : List UInt8 := dkwJ16_init_0 ++ []
theorem dksJ16_init_0 : cJ16_init.data.toList.drop 0 = dktJ16_init_0 := by decide +kernel
theorem dJ16_init_0 : decode cJ16_init 0 = .ok (.aload_n 0, 1) := dk_42 (dk_at dksJ16_init_0 0 rfl rfl)
theorem dJ16_init_1 : decode cJ16_init 1 = .ok (.bipush 16, 2) := dk_16 16 (dk_at dksJ16_init_0 1 rfl rfl)
theorem dJ16_init_3 : decode cJ16_init 3 = .ok (.invokespecial 1, 3) := dk_183 0 1 (dk_at dksJ16_init_0 3 rfl rfl)
theorem dJ16_init_6 : decode cJ16_init 6 = .ok (.return_, 1) := dk_177 (dk_at dksJ16_init_0 6 rfl rfl)
abbrev cJ16_append : ByteArray := prog_34_method_14_code
def yJ16_append : MethodName := ⟨RJ16, "append", "(C)Ljava/lang/StringBuilder;"⟩
def dkwJ16_append_0 : List UInt8 := [42, 27, 183, 0, 50, 87, 42, 176]
abbrev dktJ16_append_0 : List UInt8 := dkwJ16_append_0 ++ []
theorem dksJ16_append_0 : cJ16_append.data.toList.drop 0 = dktJ16_append_0 := by decide +kernel
theorem dJ16_append_0 : decode cJ16_append 0 = .ok (.aload_n 0, 1) := dk_42 (dk_at dksJ16_append_0 0 rfl rfl)
theorem dJ16_append_1 : decode cJ16_append 1 = .ok (.iload_n 1, 1) := dk_27 (dk_at dksJ16_append_0 1 rfl rfl)
theorem dJ16_append_2 : decode cJ16_append 2 = .ok (.invokespecial 50, 3) := dk_183 0 50 (dk_at dksJ16_append_0 2 rfl rfl)
theorem dJ16_append_5 : decode cJ16_append 5 = .ok (.pop, 1) := dk_87 (dk_at dksJ16_append_0 5 rfl rfl)
theorem dJ16_append_6 : decode cJ16_append 6 = .ok (.aload_n 0, 1) := dk_42 (dk_at dksJ16_append_0 6 rfl rfl)
theorem dJ16_append_7 : decode cJ16_append 7 = .ok (.areturn, 1) := dk_176 (dk_at dksJ16_append_0 7 rfl rfl)
abbrev cJ16_toString : ByteArray := prog_34_method_42_code
def yJ16_toString : MethodName := ⟨RJ16, "toString", "()Ljava/lang/String;"⟩
def dkwJ16_toString_0 : List UInt8 := [187, 0, 18, 89, 42, 183, 0, 137, 176]
abbrev dktJ16_toString_0 : List UInt8 := dkwJ16_toString_0 ++ []
theorem dksJ16_toString_0 : cJ16_toString.data.toList.drop 0 = dktJ16_toString_0 := by decide +kernel
theorem dJ16_toString_0 : decode cJ16_toString 0 = .ok (.new 18, 3) := dk_187 0 18 (dk_at dksJ16_toString_0 0 rfl rfl)
theorem dJ16_toString_3 : decode cJ16_toString 3 = .ok (.dup, 1) := dk_89 (dk_at dksJ16_toString_0 3 rfl rfl)
theorem dJ16_toString_4 : decode cJ16_toString 4 = .ok (.aload_n 0, 1) := dk_42 (dk_at dksJ16_toString_0 4 rfl rfl)
theorem dJ16_toString_5 : decode cJ16_toString 5 = .ok (.invokespecial 137, 3) := dk_183 0 137 (dk_at dksJ16_toString_0 5 rfl rfl)
theorem dJ16_toString_8 : decode cJ16_toString 8 = .ok (.areturn, 1) := dk_176 (dk_at dksJ16_toString_0 8 rfl rfl)
abbrev cJ16_length : ByteArray := prog_34_method_93_code
def yJ16_length : MethodName := ⟨RJ16, "length", "()I"⟩
theorem dJ16_length_0 : decode cJ16_length 0 = .ok (.aload_n 0, 1) := by decide +kernel
theorem dJ16_length_1 : decode cJ16_length 1 = .ok (.invokespecial 343, 3) := by decide +kernel
theorem dJ16_length_4 : decode cJ16_length 4 = .ok (.ireturn, 1) := by decide +kernel
theorem q115 : (Jvm.Cond.initialized "java/lang/StringBuilder") ∈ lw_all := lw_g (lw_at lw_m1 26 rfl) rfl
theorem q702 : (Jvm.Cond.selects "java/lang/StringBuilder" ({ cls := "java/lang/Object", name := "getClass", desc := "()Ljava/lang/Class;" } : Jvm.MethodName) ({ cls := "java/lang/Object", name := "getClass", desc := "()Ljava/lang/Class;" } : Jvm.MethodName)) ∈ lw_all := lw_g (lw_at lw_m3 133 rfl) rfl
theorem q871 : (Jvm.Cond.instantiable "java/lang/StringBuilder" (4 : Nat)) ∈ lw_all := lw_g (lw_at lw_m4 62 rfl) rfl
theorem q873 : (Jvm.Cond.instanceMethod ({ cls := "java/lang/StringBuilder", name := "<init>", desc := "()V" } : Jvm.MethodName)) ∈ lw_all := lw_g (lw_at lw_m4 64 rfl) rfl
theorem q874 : (Jvm.Cond.code ({ cls := "java/lang/StringBuilder", name := "<init>", desc := "()V" } : Jvm.MethodName) prog_34_method_1_code (1 : Nat) (Option.none : Option Jvm.ClassFile.FieldType)) ∈ lw_all := lw_g (lw_at lw_m4 65 rfl) rfl
theorem q875 : (Jvm.Cond.methodLink "java/lang/StringBuilder" (1 : Nat) ({ cls := "java/lang/AbstractStringBuilder", name := "<init>", desc := "(I)V" } : Jvm.MethodName)) ∈ lw_all := lw_g (lw_at lw_m4 66 rfl) rfl
theorem q892 : (Jvm.Cond.lays "java/lang/StringBuilder" "java/lang/AbstractStringBuilder" "value" "[B") ∈ lw_all := lw_g (lw_at lw_m4 83 rfl) rfl
theorem q894 : (Jvm.Cond.lays "java/lang/StringBuilder" "java/lang/AbstractStringBuilder" "coder" "B") ∈ lw_all := lw_g (lw_at lw_m4 85 rfl) rfl
theorem q896 : (Jvm.Cond.lays "java/lang/StringBuilder" "java/lang/AbstractStringBuilder" "maybeLatin1" "Z") ∈ lw_all := lw_g (lw_at lw_m4 87 rfl) rfl
theorem q898 : (Jvm.Cond.lays "java/lang/StringBuilder" "java/lang/AbstractStringBuilder" "count" "I") ∈ lw_all := lw_g (lw_at lw_m4 89 rfl) rfl
theorem q900 : (Jvm.Cond.superclass "java/lang/StringBuilder" "java/lang/AbstractStringBuilder") ∈ lw_all := lw_g (lw_at lw_m4 91 rfl) rfl
theorem q902 : (Jvm.Cond.instanceMethod ({ cls := "java/lang/StringBuilder", name := "append", desc := "(C)Ljava/lang/StringBuilder;" } : Jvm.MethodName)) ∈ lw_all := lw_g (lw_at lw_m4 93 rfl) rfl
theorem q903 : (Jvm.Cond.selects "java/lang/StringBuilder" ({ cls := "java/lang/StringBuilder", name := "append", desc := "(C)Ljava/lang/StringBuilder;" } : Jvm.MethodName) ({ cls := "java/lang/StringBuilder", name := "append", desc := "(C)Ljava/lang/StringBuilder;" } : Jvm.MethodName)) ∈ lw_all := lw_g (lw_at lw_m4 94 rfl) rfl
theorem q904 : (Jvm.Cond.code ({ cls := "java/lang/StringBuilder", name := "append", desc := "(C)Ljava/lang/StringBuilder;" } : Jvm.MethodName) prog_34_method_14_code (2 : Nat) (Option.some (Jvm.ClassFile.FieldType.object "java/lang/StringBuilder"))) ∈ lw_all := lw_g (lw_at lw_m4 95 rfl) rfl
theorem q905 : (Jvm.Cond.methodLink "java/lang/StringBuilder" (50 : Nat) ({ cls := "java/lang/AbstractStringBuilder", name := "append", desc := "(C)Ljava/lang/AbstractStringBuilder;" } : Jvm.MethodName)) ∈ lw_all := lw_g (lw_at lw_m4 96 rfl) rfl
theorem q931 : (Jvm.Cond.selects "java/lang/StringBuilder" ({ cls := "java/lang/AbstractStringBuilder", name := "isLatin1", desc := "()Z" } : Jvm.MethodName) ({ cls := "java/lang/AbstractStringBuilder", name := "isLatin1", desc := "()Z" } : Jvm.MethodName)) ∈ lw_all := lw_g (lw_at lw_m4 122 rfl) rfl
theorem q980 : (Jvm.Cond.instanceMethod ({ cls := "java/lang/StringBuilder", name := "toString", desc := "()Ljava/lang/String;" } : Jvm.MethodName)) ∈ lw_all := lw_g (lw_at lw_m4 171 rfl) rfl
theorem q981 : (Jvm.Cond.selects "java/lang/StringBuilder" ({ cls := "java/lang/StringBuilder", name := "toString", desc := "()Ljava/lang/String;" } : Jvm.MethodName) ({ cls := "java/lang/StringBuilder", name := "toString", desc := "()Ljava/lang/String;" } : Jvm.MethodName)) ∈ lw_all := lw_g (lw_at lw_m4 172 rfl) rfl
theorem q982 : (Jvm.Cond.code ({ cls := "java/lang/StringBuilder", name := "toString", desc := "()Ljava/lang/String;" } : Jvm.MethodName) prog_34_method_42_code (1 : Nat) (Option.some (Jvm.ClassFile.FieldType.object "java/lang/String"))) ∈ lw_all := lw_g (lw_at lw_m4 173 rfl) rfl
theorem q983 : (Jvm.Cond.classLink "java/lang/StringBuilder" (18 : Nat) "java/lang/String") ∈ lw_all := lw_g (lw_at lw_m4 174 rfl) rfl
theorem q984 : (Jvm.Cond.methodLink "java/lang/StringBuilder" (137 : Nat) ({ cls := "java/lang/String", name := "<init>", desc := "(Ljava/lang/StringBuilder;)V" } : Jvm.MethodName)) ∈ lw_all := lw_g (lw_at lw_m4 175 rfl) rfl
theorem q994 : (Jvm.Cond.selects "java/lang/StringBuilder" ({ cls := "java/lang/AbstractStringBuilder", name := "getValue", desc := "()[B" } : Jvm.MethodName) ({ cls := "java/lang/AbstractStringBuilder", name := "getValue", desc := "()[B" } : Jvm.MethodName)) ∈ lw_all := lw_g (lw_at lw_m4 185 rfl) rfl
theorem q999 : (Jvm.Cond.selects "java/lang/StringBuilder" ({ cls := "java/lang/AbstractStringBuilder", name := "length", desc := "()I" } : Jvm.MethodName) ({ cls := "java/lang/StringBuilder", name := "length", desc := "()I" } : Jvm.MethodName)) ∈ lw_all := lw_g (lw_at lw_m4 190 rfl) rfl
theorem q1000 : (Jvm.Cond.instanceMethod ({ cls := "java/lang/StringBuilder", name := "length", desc := "()I" } : Jvm.MethodName)) ∈ lw_all := lw_g (lw_at lw_m4 191 rfl) rfl
theorem q1001 : (Jvm.Cond.code ({ cls := "java/lang/StringBuilder", name := "length", desc := "()I" } : Jvm.MethodName) prog_34_method_93_code (1 : Nat) (Option.some Jvm.ClassFile.FieldType.int)) ∈ lw_all := lw_g (lw_at lw_m4 192 rfl) rfl
theorem q1002 : (Jvm.Cond.methodLink "java/lang/StringBuilder" (343 : Nat) ({ cls := "java/lang/AbstractStringBuilder", name := "length", desc := "()I" } : Jvm.MethodName)) ∈ lw_all := lw_g (lw_at lw_m4 193 rfl) rfl
theorem q1914 : (Jvm.Cond.castable "java/lang/StringBuilder" "java/lang/Object") ∈ lw_tbl := lw_at lw_m8 145 rfl
theorem in_J16 : ∀ w ∈ wsJ160, w ∈ lw_all := lw_in wsJ160 [892, 894, 896, 898] (by decide +kernel) (by decide +kernel)
/-! java/lang/StringUTF16 -/
set_option maxRecDepth 100000
def RJ17 : String := "java/lang/StringUTF16"
abbrev cJ17_newBytesFor : ByteArray := prog_36_method_2_code
def yJ17_newBytesFor : MethodName := ⟨RJ17, "newBytesFor", "(I)[B"⟩
def dkwJ17_newBytesFor_0 : List UInt8 := [26, 184, 0, 11, 188, 8, 176]
abbrev dktJ17_newBytesFor_0 : List UInt8 := dkwJ17_newBytesFor_0 ++ []
theorem dksJ17_newBytesFor_0 : cJ17_newBytesFor.data.toList.drop 0 = dktJ17_newBytesFor_0 := by decide +kernel
theorem dJ17_newBytesFor_0 : decode cJ17_newBytesFor 0 = .ok (.iload_n 0, 1) := dk_26 (dk_at dksJ17_newBytesFor_0 0 rfl rfl)
theorem dJ17_newBytesFor_1 : decode cJ17_newBytesFor 1 = .ok (.invokestatic 11, 3) := dk_184 0 11 (dk_at dksJ17_newBytesFor_0 1 rfl rfl)
theorem dJ17_newBytesFor_4 : decode cJ17_newBytesFor 4 = .ok (.newarray .byte, 2) := dk_188_8 (dk_at dksJ17_newBytesFor_0 4 rfl rfl)
theorem dJ17_newBytesFor_6 : decode cJ17_newBytesFor 6 = .ok (.areturn, 1) := dk_176 (dk_at dksJ17_newBytesFor_0 6 rfl rfl)
abbrev cJ17_newBytesLength : ByteArray := prog_36_method_3_code
def yJ17_newBytesLength : MethodName := ⟨RJ17, "newBytesLength", "(I)I"⟩
def dkwJ17_newBytesLength_2 : List UInt8 := [182, 0, 32, 182, 0, 37, 183, 0, 41, 191, 26, 4, 120, 172]
abbrev dktJ17_newBytesLength_2 : List UInt8 := dkwJ17_newBytesLength_2 ++ []
def dkwJ17_newBytesLength_1 : List UInt8 := [187, 0, 23, 89, 183, 0, 25, 18, 26, 182, 0, 28, 26, 182, 0, 32, 18, 35, 182, 0, 28, 18, 20]
abbrev dktJ17_newBytesLength_1 : List UInt8 := dkwJ17_newBytesLength_1 ++ dktJ17_newBytesLength_2
def dkwJ17_newBytesLength_0 : List UInt8 := [26, 156, 0, 11, 187, 0, 17, 89, 183, 0, 19, 191, 26, 18, 20, 161, 0, 40, 187, 0, 21, 89]
abbrev dktJ17_newBytesLength_0 : List UInt8 := dkwJ17_newBytesLength_0 ++ dktJ17_newBytesLength_1
theorem dksJ17_newBytesLength_0 : cJ17_newBytesLength.data.toList.drop 0 = dktJ17_newBytesLength_0 := by decide +kernel
theorem dksJ17_newBytesLength_1 : cJ17_newBytesLength.data.toList.drop 22 = dktJ17_newBytesLength_1 := dk_seg dksJ17_newBytesLength_0 22 rfl rfl
theorem dksJ17_newBytesLength_2 : cJ17_newBytesLength.data.toList.drop 45 = dktJ17_newBytesLength_2 := dk_seg dksJ17_newBytesLength_1 23 rfl rfl
theorem dJ17_newBytesLength_0 : decode cJ17_newBytesLength 0 = .ok (.iload_n 0, 1) := dk_26 (dk_at dksJ17_newBytesLength_0 0 rfl rfl)
theorem dJ17_newBytesLength_1 : decode cJ17_newBytesLength 1 = .ok (.ifCond .ge 11, 3) := dk_156 0 11 (dk_at dksJ17_newBytesLength_0 1 rfl rfl)
theorem dJ17_newBytesLength_4 : decode cJ17_newBytesLength 4 = .ok (.new 17, 3) := dk_187 0 17 (dk_at dksJ17_newBytesLength_0 4 rfl rfl)
theorem dJ17_newBytesLength_7 : decode cJ17_newBytesLength 7 = .ok (.dup, 1) := dk_89 (dk_at dksJ17_newBytesLength_0 7 rfl rfl)
theorem dJ17_newBytesLength_8 : decode cJ17_newBytesLength 8 = .ok (.invokespecial 19, 3) := dk_183 0 19 (dk_at dksJ17_newBytesLength_0 8 rfl rfl)
theorem dJ17_newBytesLength_11 : decode cJ17_newBytesLength 11 = .ok (.athrow, 1) := dk_191 (dk_at dksJ17_newBytesLength_0 11 rfl rfl)
theorem dJ17_newBytesLength_12 : decode cJ17_newBytesLength 12 = .ok (.iload_n 0, 1) := dk_26 (dk_at dksJ17_newBytesLength_0 12 rfl rfl)
theorem dJ17_newBytesLength_13 : decode cJ17_newBytesLength 13 = .ok (.ldc 20, 2) := dk_18 20 (dk_at dksJ17_newBytesLength_0 13 rfl rfl)
theorem dJ17_newBytesLength_15 : decode cJ17_newBytesLength 15 = .ok (.if_icmp .lt 40, 3) := dk_161 0 40 (dk_at dksJ17_newBytesLength_0 15 rfl rfl)
theorem dJ17_newBytesLength_18 : decode cJ17_newBytesLength 18 = .ok (.new 21, 3) := dk_187 0 21 (dk_at dksJ17_newBytesLength_0 18 rfl rfl)
theorem dJ17_newBytesLength_21 : decode cJ17_newBytesLength 21 = .ok (.dup, 1) := dk_89 (dk_at dksJ17_newBytesLength_0 21 rfl rfl)
theorem dJ17_newBytesLength_22 : decode cJ17_newBytesLength 22 = .ok (.new 23, 3) := dk_187 0 23 (dk_at dksJ17_newBytesLength_1 0 rfl rfl)
theorem dJ17_newBytesLength_25 : decode cJ17_newBytesLength 25 = .ok (.dup, 1) := dk_89 (dk_at dksJ17_newBytesLength_1 3 rfl rfl)
theorem dJ17_newBytesLength_26 : decode cJ17_newBytesLength 26 = .ok (.invokespecial 25, 3) := dk_183 0 25 (dk_at dksJ17_newBytesLength_1 4 rfl rfl)
theorem dJ17_newBytesLength_29 : decode cJ17_newBytesLength 29 = .ok (.ldc 26, 2) := dk_18 26 (dk_at dksJ17_newBytesLength_1 7 rfl rfl)
theorem dJ17_newBytesLength_31 : decode cJ17_newBytesLength 31 = .ok (.invokevirtual 28, 3) := dk_182 0 28 (dk_at dksJ17_newBytesLength_1 9 rfl rfl)
theorem dJ17_newBytesLength_34 : decode cJ17_newBytesLength 34 = .ok (.iload_n 0, 1) := dk_26 (dk_at dksJ17_newBytesLength_1 12 rfl rfl)
theorem dJ17_newBytesLength_35 : decode cJ17_newBytesLength 35 = .ok (.invokevirtual 32, 3) := dk_182 0 32 (dk_at dksJ17_newBytesLength_1 13 rfl rfl)
theorem dJ17_newBytesLength_38 : decode cJ17_newBytesLength 38 = .ok (.ldc 35, 2) := dk_18 35 (dk_at dksJ17_newBytesLength_1 16 rfl rfl)
theorem dJ17_newBytesLength_40 : decode cJ17_newBytesLength 40 = .ok (.invokevirtual 28, 3) := dk_182 0 28 (dk_at dksJ17_newBytesLength_1 18 rfl rfl)
theorem dJ17_newBytesLength_43 : decode cJ17_newBytesLength 43 = .ok (.ldc 20, 2) := dk_18 20 (dk_at dksJ17_newBytesLength_1 21 rfl rfl)
theorem dJ17_newBytesLength_45 : decode cJ17_newBytesLength 45 = .ok (.invokevirtual 32, 3) := dk_182 0 32 (dk_at dksJ17_newBytesLength_2 0 rfl rfl)
theorem dJ17_newBytesLength_48 : decode cJ17_newBytesLength 48 = .ok (.invokevirtual 37, 3) := dk_182 0 37 (dk_at dksJ17_newBytesLength_2 3 rfl rfl)
theorem dJ17_newBytesLength_51 : decode cJ17_newBytesLength 51 = .ok (.invokespecial 41, 3) := dk_183 0 41 (dk_at dksJ17_newBytesLength_2 6 rfl rfl)
theorem dJ17_newBytesLength_54 : decode cJ17_newBytesLength 54 = .ok (.athrow, 1) := dk_191 (dk_at dksJ17_newBytesLength_2 9 rfl rfl)
theorem dJ17_newBytesLength_55 : decode cJ17_newBytesLength 55 = .ok (.iload_n 0, 1) := dk_26 (dk_at dksJ17_newBytesLength_2 10 rfl rfl)
theorem dJ17_newBytesLength_56 : decode cJ17_newBytesLength 56 = .ok (.iconst 1, 1) := dk_4 (dk_at dksJ17_newBytesLength_2 11 rfl rfl)
theorem dJ17_newBytesLength_57 : decode cJ17_newBytesLength 57 = .ok (.ishl, 1) := dk_120 (dk_at dksJ17_newBytesLength_2 12 rfl rfl)
theorem dJ17_newBytesLength_58 : decode cJ17_newBytesLength 58 = .ok (.ireturn, 1) := dk_172 (dk_at dksJ17_newBytesLength_2 13 rfl rfl)
abbrev cJ17_inflate : ByteArray := prog_36_method_86_code
def yJ17_inflate : MethodName := ⟨RJ17, "inflate", "([BI[BII)V"⟩
def dkwJ17_inflate_1 : List UInt8 := [132, 1, 1, 51, 17, 0, 255, 126, 184, 0, 111, 132, 5, 1, 167, 255, 228, 177]
abbrev dktJ17_inflate_1 : List UInt8 := dkwJ17_inflate_1 ++ []
def dkwJ17_inflate_0 : List UInt8 := [29, 21, 4, 44, 184, 0, 173, 3, 54, 5, 21, 5, 21, 4, 162, 0, 27, 44, 29, 132, 3, 1, 42, 27]
abbrev dktJ17_inflate_0 : List UInt8 := dkwJ17_inflate_0 ++ dktJ17_inflate_1
theorem dksJ17_inflate_0 : cJ17_inflate.data.toList.drop 0 = dktJ17_inflate_0 := by decide +kernel
theorem dksJ17_inflate_1 : cJ17_inflate.data.toList.drop 24 = dktJ17_inflate_1 := dk_seg dksJ17_inflate_0 24 rfl rfl
theorem dJ17_inflate_0 : decode cJ17_inflate 0 = .ok (.iload_n 3, 1) := dk_29 (dk_at dksJ17_inflate_0 0 rfl rfl)
theorem dJ17_inflate_1 : decode cJ17_inflate 1 = .ok (.iload 4, 2) := dk_21 4 (dk_at dksJ17_inflate_0 1 rfl rfl)
theorem dJ17_inflate_3 : decode cJ17_inflate 3 = .ok (.aload_n 2, 1) := dk_44 (dk_at dksJ17_inflate_0 3 rfl rfl)
theorem dJ17_inflate_4 : decode cJ17_inflate 4 = .ok (.invokestatic 173, 3) := dk_184 0 173 (dk_at dksJ17_inflate_0 4 rfl rfl)
theorem dJ17_inflate_7 : decode cJ17_inflate 7 = .ok (.iconst 0, 1) := dk_3 (dk_at dksJ17_inflate_0 7 rfl rfl)
theorem dJ17_inflate_8 : decode cJ17_inflate 8 = .ok (.istore 5, 2) := dk_54 5 (dk_at dksJ17_inflate_0 8 rfl rfl)
theorem dJ17_inflate_10 : decode cJ17_inflate 10 = .ok (.iload 5, 2) := dk_21 5 (dk_at dksJ17_inflate_0 10 rfl rfl)
theorem dJ17_inflate_12 : decode cJ17_inflate 12 = .ok (.iload 4, 2) := dk_21 4 (dk_at dksJ17_inflate_0 12 rfl rfl)
theorem dJ17_inflate_14 : decode cJ17_inflate 14 = .ok (.if_icmp .ge 27, 3) := dk_162 0 27 (dk_at dksJ17_inflate_0 14 rfl rfl)
theorem dJ17_inflate_17 : decode cJ17_inflate 17 = .ok (.aload_n 2, 1) := dk_44 (dk_at dksJ17_inflate_0 17 rfl rfl)
theorem dJ17_inflate_18 : decode cJ17_inflate 18 = .ok (.iload_n 3, 1) := dk_29 (dk_at dksJ17_inflate_0 18 rfl rfl)
theorem dJ17_inflate_19 : decode cJ17_inflate 19 = .ok (.iinc 3 1, 3) := dk_132 3 1 (dk_at dksJ17_inflate_0 19 rfl rfl)
theorem dJ17_inflate_22 : decode cJ17_inflate 22 = .ok (.aload_n 0, 1) := dk_42 (dk_at dksJ17_inflate_0 22 rfl rfl)
theorem dJ17_inflate_23 : decode cJ17_inflate 23 = .ok (.iload_n 1, 1) := dk_27 (dk_at dksJ17_inflate_0 23 rfl rfl)
theorem dJ17_inflate_24 : decode cJ17_inflate 24 = .ok (.iinc 1 1, 3) := dk_132 1 1 (dk_at dksJ17_inflate_1 0 rfl rfl)
theorem dJ17_inflate_27 : decode cJ17_inflate 27 = .ok (.baload, 1) := dk_51 (dk_at dksJ17_inflate_1 3 rfl rfl)
theorem dJ17_inflate_28 : decode cJ17_inflate 28 = .ok (.sipush 255, 3) := dk_17 0 255 (dk_at dksJ17_inflate_1 4 rfl rfl)
theorem dJ17_inflate_31 : decode cJ17_inflate 31 = .ok (.iand, 1) := dk_126 (dk_at dksJ17_inflate_1 7 rfl rfl)
theorem dJ17_inflate_32 : decode cJ17_inflate 32 = .ok (.invokestatic 111, 3) := dk_184 0 111 (dk_at dksJ17_inflate_1 8 rfl rfl)
theorem dJ17_inflate_35 : decode cJ17_inflate 35 = .ok (.iinc 5 1, 3) := dk_132 5 1 (dk_at dksJ17_inflate_1 11 rfl rfl)
theorem dJ17_inflate_38 : decode cJ17_inflate 38 = .ok (.goto (-28), 3) := dk_167 255 228 (dk_at dksJ17_inflate_1 14 rfl rfl)
theorem dJ17_inflate_41 : decode cJ17_inflate 41 = .ok (.return_, 1) := dk_177 (dk_at dksJ17_inflate_1 17 rfl rfl)
abbrev cJ17_checkBoundsOffCount : ByteArray := prog_36_method_94_code
def yJ17_checkBoundsOffCount : MethodName := ⟨RJ17, "checkBoundsOffCount", "(II[B)V"⟩
def dkwJ17_checkBoundsOffCount_0 : List UInt8 := [26, 27, 44, 184, 0, 48, 184, 1, 163, 87, 177]
abbrev dktJ17_checkBoundsOffCount_0 : List UInt8 := dkwJ17_checkBoundsOffCount_0 ++ []
theorem dksJ17_checkBoundsOffCount_0 : cJ17_checkBoundsOffCount.data.toList.drop 0 = dktJ17_checkBoundsOffCount_0 := by decide +kernel
theorem dJ17_checkBoundsOffCount_0 : decode cJ17_checkBoundsOffCount 0 = .ok (.iload_n 0, 1) := dk_26 (dk_at dksJ17_checkBoundsOffCount_0 0 rfl rfl)
theorem dJ17_checkBoundsOffCount_1 : decode cJ17_checkBoundsOffCount 1 = .ok (.iload_n 1, 1) := dk_27 (dk_at dksJ17_checkBoundsOffCount_0 1 rfl rfl)
theorem dJ17_checkBoundsOffCount_2 : decode cJ17_checkBoundsOffCount 2 = .ok (.aload_n 2, 1) := dk_44 (dk_at dksJ17_checkBoundsOffCount_0 2 rfl rfl)
theorem dJ17_checkBoundsOffCount_3 : decode cJ17_checkBoundsOffCount 3 = .ok (.invokestatic 48, 3) := dk_184 0 48 (dk_at dksJ17_checkBoundsOffCount_0 3 rfl rfl)
theorem dJ17_checkBoundsOffCount_6 : decode cJ17_checkBoundsOffCount 6 = .ok (.invokestatic 419, 3) := dk_184 1 163 (dk_at dksJ17_checkBoundsOffCount_0 6 rfl rfl)
theorem dJ17_checkBoundsOffCount_9 : decode cJ17_checkBoundsOffCount 9 = .ok (.pop, 1) := dk_87 (dk_at dksJ17_checkBoundsOffCount_0 9 rfl rfl)
theorem dJ17_checkBoundsOffCount_10 : decode cJ17_checkBoundsOffCount 10 = .ok (.return_, 1) := dk_177 (dk_at dksJ17_checkBoundsOffCount_0 10 rfl rfl)
abbrev cJ17_length : ByteArray := prog_36_method_6_code
def yJ17_length : MethodName := ⟨RJ17, "length", "([B)I"⟩
def dkwJ17_length_0 : List UInt8 := [42, 190, 4, 122, 172]
abbrev dktJ17_length_0 : List UInt8 := dkwJ17_length_0 ++ []
theorem dksJ17_length_0 : cJ17_length.data.toList.drop 0 = dktJ17_length_0 := by decide +kernel
theorem dJ17_length_0 : decode cJ17_length 0 = .ok (.aload_n 0, 1) := dk_42 (dk_at dksJ17_length_0 0 rfl rfl)
theorem dJ17_length_1 : decode cJ17_length 1 = .ok (.arraylength, 1) := dk_190 (dk_at dksJ17_length_0 1 rfl rfl)
theorem dJ17_length_2 : decode cJ17_length 2 = .ok (.iconst 1, 1) := dk_4 (dk_at dksJ17_length_0 2 rfl rfl)
theorem dJ17_length_3 : decode cJ17_length 3 = .ok (.ishr, 1) := dk_122 (dk_at dksJ17_length_0 3 rfl rfl)
theorem dJ17_length_4 : decode cJ17_length 4 = .ok (.ireturn, 1) := dk_172 (dk_at dksJ17_length_0 4 rfl rfl)
abbrev cJ17_putChar : ByteArray := prog_36_method_4_code
def yJ17_putChar : MethodName := ⟨RJ17, "putChar", "([BII)V"⟩
def dkwJ17_putChar_2 : List UInt8 := [178, 0, 63, 122, 145, 84, 177]
abbrev dktJ17_putChar_2 : List UInt8 := dkwJ17_putChar_2 ++ []
def dkwJ17_putChar_1 : List UInt8 := [183, 0, 56, 191, 27, 4, 120, 60, 42, 27, 132, 1, 1, 28, 178, 0, 59, 122, 145, 84, 42, 27, 28]
abbrev dktJ17_putChar_1 : List UInt8 := dkwJ17_putChar_1 ++ dktJ17_putChar_2
def dkwJ17_putChar_0 : List UInt8 := [178, 0, 44, 154, 0, 25, 27, 155, 0, 11, 27, 42, 184, 0, 48, 161, 0, 13, 187, 0, 52, 89, 18, 54]
abbrev dktJ17_putChar_0 : List UInt8 := dkwJ17_putChar_0 ++ dktJ17_putChar_1
theorem dksJ17_putChar_0 : cJ17_putChar.data.toList.drop 0 = dktJ17_putChar_0 := by decide +kernel
theorem dksJ17_putChar_1 : cJ17_putChar.data.toList.drop 24 = dktJ17_putChar_1 := dk_seg dksJ17_putChar_0 24 rfl rfl
theorem dksJ17_putChar_2 : cJ17_putChar.data.toList.drop 47 = dktJ17_putChar_2 := dk_seg dksJ17_putChar_1 23 rfl rfl
theorem dJ17_putChar_0 : decode cJ17_putChar 0 = .ok (.getstatic 44, 3) := dk_178 0 44 (dk_at dksJ17_putChar_0 0 rfl rfl)
theorem dJ17_putChar_3 : decode cJ17_putChar 3 = .ok (.ifCond .ne 25, 3) := dk_154 0 25 (dk_at dksJ17_putChar_0 3 rfl rfl)
theorem dJ17_putChar_6 : decode cJ17_putChar 6 = .ok (.iload_n 1, 1) := dk_27 (dk_at dksJ17_putChar_0 6 rfl rfl)
theorem dJ17_putChar_7 : decode cJ17_putChar 7 = .ok (.ifCond .lt 11, 3) := dk_155 0 11 (dk_at dksJ17_putChar_0 7 rfl rfl)
theorem dJ17_putChar_10 : decode cJ17_putChar 10 = .ok (.iload_n 1, 1) := dk_27 (dk_at dksJ17_putChar_0 10 rfl rfl)
theorem dJ17_putChar_11 : decode cJ17_putChar 11 = .ok (.aload_n 0, 1) := dk_42 (dk_at dksJ17_putChar_0 11 rfl rfl)
theorem dJ17_putChar_12 : decode cJ17_putChar 12 = .ok (.invokestatic 48, 3) := dk_184 0 48 (dk_at dksJ17_putChar_0 12 rfl rfl)
theorem dJ17_putChar_15 : decode cJ17_putChar 15 = .ok (.if_icmp .lt 13, 3) := dk_161 0 13 (dk_at dksJ17_putChar_0 15 rfl rfl)
theorem dJ17_putChar_18 : decode cJ17_putChar 18 = .ok (.new 52, 3) := dk_187 0 52 (dk_at dksJ17_putChar_0 18 rfl rfl)
theorem dJ17_putChar_21 : decode cJ17_putChar 21 = .ok (.dup, 1) := dk_89 (dk_at dksJ17_putChar_0 21 rfl rfl)
theorem dJ17_putChar_22 : decode cJ17_putChar 22 = .ok (.ldc 54, 2) := dk_18 54 (dk_at dksJ17_putChar_0 22 rfl rfl)
theorem dJ17_putChar_24 : decode cJ17_putChar 24 = .ok (.invokespecial 56, 3) := dk_183 0 56 (dk_at dksJ17_putChar_1 0 rfl rfl)
theorem dJ17_putChar_27 : decode cJ17_putChar 27 = .ok (.athrow, 1) := dk_191 (dk_at dksJ17_putChar_1 3 rfl rfl)
theorem dJ17_putChar_28 : decode cJ17_putChar 28 = .ok (.iload_n 1, 1) := dk_27 (dk_at dksJ17_putChar_1 4 rfl rfl)
theorem dJ17_putChar_29 : decode cJ17_putChar 29 = .ok (.iconst 1, 1) := dk_4 (dk_at dksJ17_putChar_1 5 rfl rfl)
theorem dJ17_putChar_30 : decode cJ17_putChar 30 = .ok (.ishl, 1) := dk_120 (dk_at dksJ17_putChar_1 6 rfl rfl)
theorem dJ17_putChar_31 : decode cJ17_putChar 31 = .ok (.istore_n 1, 1) := dk_60 (dk_at dksJ17_putChar_1 7 rfl rfl)
theorem dJ17_putChar_32 : decode cJ17_putChar 32 = .ok (.aload_n 0, 1) := dk_42 (dk_at dksJ17_putChar_1 8 rfl rfl)
theorem dJ17_putChar_33 : decode cJ17_putChar 33 = .ok (.iload_n 1, 1) := dk_27 (dk_at dksJ17_putChar_1 9 rfl rfl)
theorem dJ17_putChar_34 : decode cJ17_putChar 34 = .ok (.iinc 1 1, 3) := dk_132 1 1 (dk_at dksJ17_putChar_1 10 rfl rfl)
theorem dJ17_putChar_37 : decode cJ17_putChar 37 = .ok (.iload_n 2, 1) := dk_28 (dk_at dksJ17_putChar_1 13 rfl rfl)
theorem dJ17_putChar_38 : decode cJ17_putChar 38 = .ok (.getstatic 59, 3) := dk_178 0 59 (dk_at dksJ17_putChar_1 14 rfl rfl)
theorem dJ17_putChar_41 : decode cJ17_putChar 41 = .ok (.ishr, 1) := dk_122 (dk_at dksJ17_putChar_1 17 rfl rfl)
theorem dJ17_putChar_42 : decode cJ17_putChar 42 = .ok (.i2b, 1) := dk_145 (dk_at dksJ17_putChar_1 18 rfl rfl)
theorem dJ17_putChar_43 : decode cJ17_putChar 43 = .ok (.bastore, 1) := dk_84 (dk_at dksJ17_putChar_1 19 rfl rfl)
theorem dJ17_putChar_44 : decode cJ17_putChar 44 = .ok (.aload_n 0, 1) := dk_42 (dk_at dksJ17_putChar_1 20 rfl rfl)
theorem dJ17_putChar_45 : decode cJ17_putChar 45 = .ok (.iload_n 1, 1) := dk_27 (dk_at dksJ17_putChar_1 21 rfl rfl)
theorem dJ17_putChar_46 : decode cJ17_putChar 46 = .ok (.iload_n 2, 1) := dk_28 (dk_at dksJ17_putChar_1 22 rfl rfl)
theorem dJ17_putChar_47 : decode cJ17_putChar 47 = .ok (.getstatic 63, 3) := dk_178 0 63 (dk_at dksJ17_putChar_2 0 rfl rfl)
theorem dJ17_putChar_50 : decode cJ17_putChar 50 = .ok (.ishr, 1) := dk_122 (dk_at dksJ17_putChar_2 3 rfl rfl)
theorem dJ17_putChar_51 : decode cJ17_putChar 51 = .ok (.i2b, 1) := dk_145 (dk_at dksJ17_putChar_2 4 rfl rfl)
theorem dJ17_putChar_52 : decode cJ17_putChar 52 = .ok (.bastore, 1) := dk_84 (dk_at dksJ17_putChar_2 5 rfl rfl)
theorem dJ17_putChar_53 : decode cJ17_putChar 53 = .ok (.return_, 1) := dk_177 (dk_at dksJ17_putChar_2 6 rfl rfl)
abbrev cJ17_putCharSB : ByteArray := prog_36_method_71_code
def yJ17_putCharSB : MethodName := ⟨RJ17, "putCharSB", "([BII)V"⟩
def dkwJ17_putCharSB_0 : List UInt8 := [27, 42, 184, 0, 67, 42, 27, 28, 184, 0, 111, 177]
abbrev dktJ17_putCharSB_0 : List UInt8 := dkwJ17_putCharSB_0 ++ []
theorem dksJ17_putCharSB_0 : cJ17_putCharSB.data.toList.drop 0 = dktJ17_putCharSB_0 := by decide +kernel
theorem dJ17_putCharSB_0 : decode cJ17_putCharSB 0 = .ok (.iload_n 1, 1) := dk_27 (dk_at dksJ17_putCharSB_0 0 rfl rfl)
theorem dJ17_putCharSB_1 : decode cJ17_putCharSB 1 = .ok (.aload_n 0, 1) := dk_42 (dk_at dksJ17_putCharSB_0 1 rfl rfl)
theorem dJ17_putCharSB_2 : decode cJ17_putCharSB 2 = .ok (.invokestatic 67, 3) := dk_184 0 67 (dk_at dksJ17_putCharSB_0 2 rfl rfl)
theorem dJ17_putCharSB_5 : decode cJ17_putCharSB 5 = .ok (.aload_n 0, 1) := dk_42 (dk_at dksJ17_putCharSB_0 5 rfl rfl)
theorem dJ17_putCharSB_6 : decode cJ17_putCharSB 6 = .ok (.iload_n 1, 1) := dk_27 (dk_at dksJ17_putCharSB_0 6 rfl rfl)
theorem dJ17_putCharSB_7 : decode cJ17_putCharSB 7 = .ok (.iload_n 2, 1) := dk_28 (dk_at dksJ17_putCharSB_0 7 rfl rfl)
theorem dJ17_putCharSB_8 : decode cJ17_putCharSB 8 = .ok (.invokestatic 111, 3) := dk_184 0 111 (dk_at dksJ17_putCharSB_0 8 rfl rfl)
theorem dJ17_putCharSB_11 : decode cJ17_putCharSB 11 = .ok (.return_, 1) := dk_177 (dk_at dksJ17_putCharSB_0 11 rfl rfl)
abbrev cJ17_checkIndex : ByteArray := prog_36_method_91_code
def yJ17_checkIndex : MethodName := ⟨RJ17, "checkIndex", "(I[B)V"⟩
def dkwJ17_checkIndex_0 : List UInt8 := [26, 43, 184, 0, 48, 184, 1, 158, 177]
abbrev dktJ17_checkIndex_0 : List UInt8 := dkwJ17_checkIndex_0 ++ []
theorem dksJ17_checkIndex_0 : cJ17_checkIndex.data.toList.drop 0 = dktJ17_checkIndex_0 := by decide +kernel
theorem dJ17_checkIndex_0 : decode cJ17_checkIndex 0 = .ok (.iload_n 0, 1) := dk_26 (dk_at dksJ17_checkIndex_0 0 rfl rfl)
theorem dJ17_checkIndex_1 : decode cJ17_checkIndex 1 = .ok (.aload_n 1, 1) := dk_43 (dk_at dksJ17_checkIndex_0 1 rfl rfl)
theorem dJ17_checkIndex_2 : decode cJ17_checkIndex 2 = .ok (.invokestatic 48, 3) := dk_184 0 48 (dk_at dksJ17_checkIndex_0 2 rfl rfl)
theorem dJ17_checkIndex_5 : decode cJ17_checkIndex 5 = .ok (.invokestatic 414, 3) := dk_184 1 158 (dk_at dksJ17_checkIndex_0 5 rfl rfl)
theorem dJ17_checkIndex_8 : decode cJ17_checkIndex 8 = .ok (.return_, 1) := dk_177 (dk_at dksJ17_checkIndex_0 8 rfl rfl)
abbrev cJ17_compress : ByteArray := prog_36_method_17_code
def yJ17_compress : MethodName := ⟨RJ17, "compress", "([BII)[B"⟩
def dkwJ17_compress_2 : List UInt8 := [25, 5, 3, 45, 3, 28, 184, 0, 123, 28, 159, 0, 6, 25, 5, 176, 45, 176]
abbrev dktJ17_compress_2 : List UInt8 := dkwJ17_compress_2 ++ []
def dkwJ17_compress_1 : List UInt8 := [27, 28, 96, 184, 0, 11, 184, 0, 126, 58, 5, 25, 5, 21, 4, 184, 0, 71, 17, 0, 255, 163, 0, 16]
abbrev dktJ17_compress_1 : List UInt8 := dkwJ17_compress_1 ++ dktJ17_compress_2
def dkwJ17_compress_0 : List UInt8 := [28, 188, 8, 78, 42, 27, 45, 3, 28, 184, 0, 123, 54, 4, 21, 4, 28, 159, 0, 47, 42, 27, 4, 120]
abbrev dktJ17_compress_0 : List UInt8 := dkwJ17_compress_0 ++ dktJ17_compress_1
theorem dksJ17_compress_0 : cJ17_compress.data.toList.drop 0 = dktJ17_compress_0 := by decide +kernel
theorem dksJ17_compress_1 : cJ17_compress.data.toList.drop 24 = dktJ17_compress_1 := dk_seg dksJ17_compress_0 24 rfl rfl
theorem dksJ17_compress_2 : cJ17_compress.data.toList.drop 48 = dktJ17_compress_2 := dk_seg dksJ17_compress_1 24 rfl rfl
theorem dJ17_compress_0 : decode cJ17_compress 0 = .ok (.iload_n 2, 1) := dk_28 (dk_at dksJ17_compress_0 0 rfl rfl)
theorem dJ17_compress_1 : decode cJ17_compress 1 = .ok (.newarray .byte, 2) := dk_188_8 (dk_at dksJ17_compress_0 1 rfl rfl)
theorem dJ17_compress_3 : decode cJ17_compress 3 = .ok (.astore_n 3, 1) := dk_78 (dk_at dksJ17_compress_0 3 rfl rfl)
theorem dJ17_compress_4 : decode cJ17_compress 4 = .ok (.aload_n 0, 1) := dk_42 (dk_at dksJ17_compress_0 4 rfl rfl)
theorem dJ17_compress_5 : decode cJ17_compress 5 = .ok (.iload_n 1, 1) := dk_27 (dk_at dksJ17_compress_0 5 rfl rfl)
theorem dJ17_compress_6 : decode cJ17_compress 6 = .ok (.aload_n 3, 1) := dk_45 (dk_at dksJ17_compress_0 6 rfl rfl)
theorem dJ17_compress_7 : decode cJ17_compress 7 = .ok (.iconst 0, 1) := dk_3 (dk_at dksJ17_compress_0 7 rfl rfl)
theorem dJ17_compress_8 : decode cJ17_compress 8 = .ok (.iload_n 2, 1) := dk_28 (dk_at dksJ17_compress_0 8 rfl rfl)
theorem dJ17_compress_9 : decode cJ17_compress 9 = .ok (.invokestatic 123, 3) := dk_184 0 123 (dk_at dksJ17_compress_0 9 rfl rfl)
theorem dJ17_compress_12 : decode cJ17_compress 12 = .ok (.istore 4, 2) := dk_54 4 (dk_at dksJ17_compress_0 12 rfl rfl)
theorem dJ17_compress_14 : decode cJ17_compress 14 = .ok (.iload 4, 2) := dk_21 4 (dk_at dksJ17_compress_0 14 rfl rfl)
theorem dJ17_compress_16 : decode cJ17_compress 16 = .ok (.iload_n 2, 1) := dk_28 (dk_at dksJ17_compress_0 16 rfl rfl)
theorem dJ17_compress_17 : decode cJ17_compress 17 = .ok (.if_icmp .eq 47, 3) := dk_159 0 47 (dk_at dksJ17_compress_0 17 rfl rfl)
theorem dJ17_compress_20 : decode cJ17_compress 20 = .ok (.aload_n 0, 1) := dk_42 (dk_at dksJ17_compress_0 20 rfl rfl)
theorem dJ17_compress_21 : decode cJ17_compress 21 = .ok (.iload_n 1, 1) := dk_27 (dk_at dksJ17_compress_0 21 rfl rfl)
theorem dJ17_compress_22 : decode cJ17_compress 22 = .ok (.iconst 1, 1) := dk_4 (dk_at dksJ17_compress_0 22 rfl rfl)
theorem dJ17_compress_23 : decode cJ17_compress 23 = .ok (.ishl, 1) := dk_120 (dk_at dksJ17_compress_0 23 rfl rfl)
theorem dJ17_compress_24 : decode cJ17_compress 24 = .ok (.iload_n 1, 1) := dk_27 (dk_at dksJ17_compress_1 0 rfl rfl)
theorem dJ17_compress_25 : decode cJ17_compress 25 = .ok (.iload_n 2, 1) := dk_28 (dk_at dksJ17_compress_1 1 rfl rfl)
theorem dJ17_compress_26 : decode cJ17_compress 26 = .ok (.iadd, 1) := dk_96 (dk_at dksJ17_compress_1 2 rfl rfl)
theorem dJ17_compress_27 : decode cJ17_compress 27 = .ok (.invokestatic 11, 3) := dk_184 0 11 (dk_at dksJ17_compress_1 3 rfl rfl)
theorem dJ17_compress_30 : decode cJ17_compress 30 = .ok (.invokestatic 126, 3) := dk_184 0 126 (dk_at dksJ17_compress_1 6 rfl rfl)
theorem dJ17_compress_33 : decode cJ17_compress 33 = .ok (.astore 5, 2) := dk_58 5 (dk_at dksJ17_compress_1 9 rfl rfl)
theorem dJ17_compress_35 : decode cJ17_compress 35 = .ok (.aload 5, 2) := dk_25 5 (dk_at dksJ17_compress_1 11 rfl rfl)
theorem dJ17_compress_37 : decode cJ17_compress 37 = .ok (.iload 4, 2) := dk_21 4 (dk_at dksJ17_compress_1 13 rfl rfl)
theorem dJ17_compress_39 : decode cJ17_compress 39 = .ok (.invokestatic 71, 3) := dk_184 0 71 (dk_at dksJ17_compress_1 15 rfl rfl)
theorem dJ17_compress_42 : decode cJ17_compress 42 = .ok (.sipush 255, 3) := dk_17 0 255 (dk_at dksJ17_compress_1 18 rfl rfl)
theorem dJ17_compress_45 : decode cJ17_compress 45 = .ok (.if_icmp .gt 16, 3) := dk_163 0 16 (dk_at dksJ17_compress_1 21 rfl rfl)
theorem dJ17_compress_48 : decode cJ17_compress 48 = .ok (.aload 5, 2) := dk_25 5 (dk_at dksJ17_compress_2 0 rfl rfl)
theorem dJ17_compress_50 : decode cJ17_compress 50 = .ok (.iconst 0, 1) := dk_3 (dk_at dksJ17_compress_2 2 rfl rfl)
theorem dJ17_compress_51 : decode cJ17_compress 51 = .ok (.aload_n 3, 1) := dk_45 (dk_at dksJ17_compress_2 3 rfl rfl)
theorem dJ17_compress_52 : decode cJ17_compress 52 = .ok (.iconst 0, 1) := dk_3 (dk_at dksJ17_compress_2 4 rfl rfl)
theorem dJ17_compress_53 : decode cJ17_compress 53 = .ok (.iload_n 2, 1) := dk_28 (dk_at dksJ17_compress_2 5 rfl rfl)
theorem dJ17_compress_54 : decode cJ17_compress 54 = .ok (.invokestatic 123, 3) := dk_184 0 123 (dk_at dksJ17_compress_2 6 rfl rfl)
theorem dJ17_compress_57 : decode cJ17_compress 57 = .ok (.iload_n 2, 1) := dk_28 (dk_at dksJ17_compress_2 9 rfl rfl)
theorem dJ17_compress_58 : decode cJ17_compress 58 = .ok (.if_icmp .eq 6, 3) := dk_159 0 6 (dk_at dksJ17_compress_2 10 rfl rfl)
theorem dJ17_compress_61 : decode cJ17_compress 61 = .ok (.aload 5, 2) := dk_25 5 (dk_at dksJ17_compress_2 13 rfl rfl)
theorem dJ17_compress_63 : decode cJ17_compress 63 = .ok (.areturn, 1) := dk_176 (dk_at dksJ17_compress_2 15 rfl rfl)
theorem dJ17_compress_64 : decode cJ17_compress 64 = .ok (.aload_n 3, 1) := dk_45 (dk_at dksJ17_compress_2 16 rfl rfl)
theorem dJ17_compress_65 : decode cJ17_compress 65 = .ok (.areturn, 1) := dk_176 (dk_at dksJ17_compress_2 17 rfl rfl)
abbrev cJ17_compress_2 : ByteArray := prog_36_method_22_code
def yJ17_compress_2 : MethodName := ⟨RJ17, "compress", "([BI[BII)I"⟩
def dkwJ17_compress_2_2 : List UInt8 := [132, 5, 1, 167, 255, 216, 21, 4, 172]
abbrev dktJ17_compress_2_2 : List UInt8 := dkwJ17_compress_2_2 ++ []
def dkwJ17_compress_2_1 : List UInt8 := [21, 6, 17, 0, 255, 164, 0, 6, 21, 5, 172, 44, 29, 21, 6, 145, 84, 132, 1, 1, 132, 3, 1]
abbrev dktJ17_compress_2_1 : List UInt8 := dkwJ17_compress_2_1 ++ dktJ17_compress_2_2
def dkwJ17_compress_2_0 : List UInt8 := [27, 21, 4, 42, 184, 0, 173, 3, 54, 5, 21, 5, 21, 4, 162, 0, 39, 42, 27, 184, 0, 71, 54, 6]
abbrev dktJ17_compress_2_0 : List UInt8 := dkwJ17_compress_2_0 ++ dktJ17_compress_2_1
theorem dksJ17_compress_2_0 : cJ17_compress_2.data.toList.drop 0 = dktJ17_compress_2_0 := by decide +kernel
theorem dksJ17_compress_2_1 : cJ17_compress_2.data.toList.drop 24 = dktJ17_compress_2_1 := dk_seg dksJ17_compress_2_0 24 rfl rfl
theorem dksJ17_compress_2_2 : cJ17_compress_2.data.toList.drop 47 = dktJ17_compress_2_2 := dk_seg dksJ17_compress_2_1 23 rfl rfl
theorem dJ17_compress_2_0 : decode cJ17_compress_2 0 = .ok (.iload_n 1, 1) := dk_27 (dk_at dksJ17_compress_2_0 0 rfl rfl)
theorem dJ17_compress_2_1 : decode cJ17_compress_2 1 = .ok (.iload 4, 2) := dk_21 4 (dk_at dksJ17_compress_2_0 1 rfl rfl)
theorem dJ17_compress_2_3 : decode cJ17_compress_2 3 = .ok (.aload_n 0, 1) := dk_42 (dk_at dksJ17_compress_2_0 3 rfl rfl)
theorem dJ17_compress_2_4 : decode cJ17_compress_2 4 = .ok (.invokestatic 173, 3) := dk_184 0 173 (dk_at dksJ17_compress_2_0 4 rfl rfl)
theorem dJ17_compress_2_7 : decode cJ17_compress_2 7 = .ok (.iconst 0, 1) := dk_3 (dk_at dksJ17_compress_2_0 7 rfl rfl)
theorem dJ17_compress_2_8 : decode cJ17_compress_2 8 = .ok (.istore 5, 2) := dk_54 5 (dk_at dksJ17_compress_2_0 8 rfl rfl)
theorem dJ17_compress_2_10 : decode cJ17_compress_2 10 = .ok (.iload 5, 2) := dk_21 5 (dk_at dksJ17_compress_2_0 10 rfl rfl)
theorem dJ17_compress_2_12 : decode cJ17_compress_2 12 = .ok (.iload 4, 2) := dk_21 4 (dk_at dksJ17_compress_2_0 12 rfl rfl)
theorem dJ17_compress_2_14 : decode cJ17_compress_2 14 = .ok (.if_icmp .ge 39, 3) := dk_162 0 39 (dk_at dksJ17_compress_2_0 14 rfl rfl)
theorem dJ17_compress_2_17 : decode cJ17_compress_2 17 = .ok (.aload_n 0, 1) := dk_42 (dk_at dksJ17_compress_2_0 17 rfl rfl)
theorem dJ17_compress_2_18 : decode cJ17_compress_2 18 = .ok (.iload_n 1, 1) := dk_27 (dk_at dksJ17_compress_2_0 18 rfl rfl)
theorem dJ17_compress_2_19 : decode cJ17_compress_2 19 = .ok (.invokestatic 71, 3) := dk_184 0 71 (dk_at dksJ17_compress_2_0 19 rfl rfl)
theorem dJ17_compress_2_22 : decode cJ17_compress_2 22 = .ok (.istore 6, 2) := dk_54 6 (dk_at dksJ17_compress_2_0 22 rfl rfl)
theorem dJ17_compress_2_24 : decode cJ17_compress_2 24 = .ok (.iload 6, 2) := dk_21 6 (dk_at dksJ17_compress_2_1 0 rfl rfl)
theorem dJ17_compress_2_26 : decode cJ17_compress_2 26 = .ok (.sipush 255, 3) := dk_17 0 255 (dk_at dksJ17_compress_2_1 2 rfl rfl)
theorem dJ17_compress_2_29 : decode cJ17_compress_2 29 = .ok (.if_icmp .le 6, 3) := dk_164 0 6 (dk_at dksJ17_compress_2_1 5 rfl rfl)
theorem dJ17_compress_2_32 : decode cJ17_compress_2 32 = .ok (.iload 5, 2) := dk_21 5 (dk_at dksJ17_compress_2_1 8 rfl rfl)
theorem dJ17_compress_2_34 : decode cJ17_compress_2 34 = .ok (.ireturn, 1) := dk_172 (dk_at dksJ17_compress_2_1 10 rfl rfl)
theorem dJ17_compress_2_35 : decode cJ17_compress_2 35 = .ok (.aload_n 2, 1) := dk_44 (dk_at dksJ17_compress_2_1 11 rfl rfl)
theorem dJ17_compress_2_36 : decode cJ17_compress_2 36 = .ok (.iload_n 3, 1) := dk_29 (dk_at dksJ17_compress_2_1 12 rfl rfl)
theorem dJ17_compress_2_37 : decode cJ17_compress_2 37 = .ok (.iload 6, 2) := dk_21 6 (dk_at dksJ17_compress_2_1 13 rfl rfl)
theorem dJ17_compress_2_39 : decode cJ17_compress_2 39 = .ok (.i2b, 1) := dk_145 (dk_at dksJ17_compress_2_1 15 rfl rfl)
theorem dJ17_compress_2_40 : decode cJ17_compress_2 40 = .ok (.bastore, 1) := dk_84 (dk_at dksJ17_compress_2_1 16 rfl rfl)
theorem dJ17_compress_2_41 : decode cJ17_compress_2 41 = .ok (.iinc 1 1, 3) := dk_132 1 1 (dk_at dksJ17_compress_2_1 17 rfl rfl)
theorem dJ17_compress_2_44 : decode cJ17_compress_2 44 = .ok (.iinc 3 1, 3) := dk_132 3 1 (dk_at dksJ17_compress_2_1 20 rfl rfl)
theorem dJ17_compress_2_47 : decode cJ17_compress_2 47 = .ok (.iinc 5 1, 3) := dk_132 5 1 (dk_at dksJ17_compress_2_2 0 rfl rfl)
theorem dJ17_compress_2_50 : decode cJ17_compress_2 50 = .ok (.goto (-40), 3) := dk_167 255 216 (dk_at dksJ17_compress_2_2 3 rfl rfl)
theorem dJ17_compress_2_53 : decode cJ17_compress_2 53 = .ok (.iload 4, 2) := dk_21 4 (dk_at dksJ17_compress_2_2 6 rfl rfl)
theorem dJ17_compress_2_55 : decode cJ17_compress_2 55 = .ok (.ireturn, 1) := dk_172 (dk_at dksJ17_compress_2_2 8 rfl rfl)
abbrev cJ17_getChar : ByteArray := prog_36_method_5_code
def yJ17_getChar : MethodName := ⟨RJ17, "getChar", "([BI)C"⟩
def dkwJ17_getChar_2 : List UInt8 := [51, 17, 0, 255, 126, 178, 0, 63, 120, 128, 146, 172]
abbrev dktJ17_getChar_2 : List UInt8 := dkwJ17_getChar_2 ++ []
def dkwJ17_getChar_1 : List UInt8 := [183, 0, 56, 191, 27, 4, 120, 60, 42, 27, 132, 1, 1, 51, 17, 0, 255, 126, 178, 0, 59, 120, 42, 27]
abbrev dktJ17_getChar_1 : List UInt8 := dkwJ17_getChar_1 ++ dktJ17_getChar_2
def dkwJ17_getChar_0 : List UInt8 := [178, 0, 44, 154, 0, 25, 27, 155, 0, 11, 27, 42, 184, 0, 48, 161, 0, 13, 187, 0, 52, 89, 18, 54]
abbrev dktJ17_getChar_0 : List UInt8 := dkwJ17_getChar_0 ++ dktJ17_getChar_1
theorem dksJ17_getChar_0 : cJ17_getChar.data.toList.drop 0 = dktJ17_getChar_0 := by decide +kernel
theorem dksJ17_getChar_1 : cJ17_getChar.data.toList.drop 24 = dktJ17_getChar_1 := dk_seg dksJ17_getChar_0 24 rfl rfl
theorem dksJ17_getChar_2 : cJ17_getChar.data.toList.drop 48 = dktJ17_getChar_2 := dk_seg dksJ17_getChar_1 24 rfl rfl
theorem dJ17_getChar_0 : decode cJ17_getChar 0 = .ok (.getstatic 44, 3) := dk_178 0 44 (dk_at dksJ17_getChar_0 0 rfl rfl)
theorem dJ17_getChar_3 : decode cJ17_getChar 3 = .ok (.ifCond .ne 25, 3) := dk_154 0 25 (dk_at dksJ17_getChar_0 3 rfl rfl)
theorem dJ17_getChar_6 : decode cJ17_getChar 6 = .ok (.iload_n 1, 1) := dk_27 (dk_at dksJ17_getChar_0 6 rfl rfl)
theorem dJ17_getChar_7 : decode cJ17_getChar 7 = .ok (.ifCond .lt 11, 3) := dk_155 0 11 (dk_at dksJ17_getChar_0 7 rfl rfl)
theorem dJ17_getChar_10 : decode cJ17_getChar 10 = .ok (.iload_n 1, 1) := dk_27 (dk_at dksJ17_getChar_0 10 rfl rfl)
theorem dJ17_getChar_11 : decode cJ17_getChar 11 = .ok (.aload_n 0, 1) := dk_42 (dk_at dksJ17_getChar_0 11 rfl rfl)
theorem dJ17_getChar_12 : decode cJ17_getChar 12 = .ok (.invokestatic 48, 3) := dk_184 0 48 (dk_at dksJ17_getChar_0 12 rfl rfl)
theorem dJ17_getChar_15 : decode cJ17_getChar 15 = .ok (.if_icmp .lt 13, 3) := dk_161 0 13 (dk_at dksJ17_getChar_0 15 rfl rfl)
theorem dJ17_getChar_18 : decode cJ17_getChar 18 = .ok (.new 52, 3) := dk_187 0 52 (dk_at dksJ17_getChar_0 18 rfl rfl)
theorem dJ17_getChar_21 : decode cJ17_getChar 21 = .ok (.dup, 1) := dk_89 (dk_at dksJ17_getChar_0 21 rfl rfl)
theorem dJ17_getChar_22 : decode cJ17_getChar 22 = .ok (.ldc 54, 2) := dk_18 54 (dk_at dksJ17_getChar_0 22 rfl rfl)
theorem dJ17_getChar_24 : decode cJ17_getChar 24 = .ok (.invokespecial 56, 3) := dk_183 0 56 (dk_at dksJ17_getChar_1 0 rfl rfl)
theorem dJ17_getChar_27 : decode cJ17_getChar 27 = .ok (.athrow, 1) := dk_191 (dk_at dksJ17_getChar_1 3 rfl rfl)
theorem dJ17_getChar_28 : decode cJ17_getChar 28 = .ok (.iload_n 1, 1) := dk_27 (dk_at dksJ17_getChar_1 4 rfl rfl)
theorem dJ17_getChar_29 : decode cJ17_getChar 29 = .ok (.iconst 1, 1) := dk_4 (dk_at dksJ17_getChar_1 5 rfl rfl)
theorem dJ17_getChar_30 : decode cJ17_getChar 30 = .ok (.ishl, 1) := dk_120 (dk_at dksJ17_getChar_1 6 rfl rfl)
theorem dJ17_getChar_31 : decode cJ17_getChar 31 = .ok (.istore_n 1, 1) := dk_60 (dk_at dksJ17_getChar_1 7 rfl rfl)
theorem dJ17_getChar_32 : decode cJ17_getChar 32 = .ok (.aload_n 0, 1) := dk_42 (dk_at dksJ17_getChar_1 8 rfl rfl)
theorem dJ17_getChar_33 : decode cJ17_getChar 33 = .ok (.iload_n 1, 1) := dk_27 (dk_at dksJ17_getChar_1 9 rfl rfl)
theorem dJ17_getChar_34 : decode cJ17_getChar 34 = .ok (.iinc 1 1, 3) := dk_132 1 1 (dk_at dksJ17_getChar_1 10 rfl rfl)
theorem dJ17_getChar_37 : decode cJ17_getChar 37 = .ok (.baload, 1) := dk_51 (dk_at dksJ17_getChar_1 13 rfl rfl)
theorem dJ17_getChar_38 : decode cJ17_getChar 38 = .ok (.sipush 255, 3) := dk_17 0 255 (dk_at dksJ17_getChar_1 14 rfl rfl)
theorem dJ17_getChar_41 : decode cJ17_getChar 41 = .ok (.iand, 1) := dk_126 (dk_at dksJ17_getChar_1 17 rfl rfl)
theorem dJ17_getChar_42 : decode cJ17_getChar 42 = .ok (.getstatic 59, 3) := dk_178 0 59 (dk_at dksJ17_getChar_1 18 rfl rfl)
theorem dJ17_getChar_45 : decode cJ17_getChar 45 = .ok (.ishl, 1) := dk_120 (dk_at dksJ17_getChar_1 21 rfl rfl)
theorem dJ17_getChar_46 : decode cJ17_getChar 46 = .ok (.aload_n 0, 1) := dk_42 (dk_at dksJ17_getChar_1 22 rfl rfl)
theorem dJ17_getChar_47 : decode cJ17_getChar 47 = .ok (.iload_n 1, 1) := dk_27 (dk_at dksJ17_getChar_1 23 rfl rfl)
theorem dJ17_getChar_48 : decode cJ17_getChar 48 = .ok (.baload, 1) := dk_51 (dk_at dksJ17_getChar_2 0 rfl rfl)
theorem dJ17_getChar_49 : decode cJ17_getChar 49 = .ok (.sipush 255, 3) := dk_17 0 255 (dk_at dksJ17_getChar_2 1 rfl rfl)
theorem dJ17_getChar_52 : decode cJ17_getChar 52 = .ok (.iand, 1) := dk_126 (dk_at dksJ17_getChar_2 4 rfl rfl)
theorem dJ17_getChar_53 : decode cJ17_getChar 53 = .ok (.getstatic 63, 3) := dk_178 0 63 (dk_at dksJ17_getChar_2 5 rfl rfl)
theorem dJ17_getChar_56 : decode cJ17_getChar 56 = .ok (.ishl, 1) := dk_120 (dk_at dksJ17_getChar_2 8 rfl rfl)
theorem dJ17_getChar_57 : decode cJ17_getChar 57 = .ok (.ior, 1) := dk_128 (dk_at dksJ17_getChar_2 9 rfl rfl)
theorem dJ17_getChar_58 : decode cJ17_getChar 58 = .ok (.i2c, 1) := dk_146 (dk_at dksJ17_getChar_2 10 rfl rfl)
theorem dJ17_getChar_59 : decode cJ17_getChar 59 = .ok (.ireturn, 1) := dk_172 (dk_at dksJ17_getChar_2 11 rfl rfl)
abbrev cJ17_coderFromArrayLen : ByteArray := prog_36_method_15_code
def yJ17_coderFromArrayLen : MethodName := ⟨RJ17, "coderFromArrayLen", "([BI)B"⟩
def dkwJ17_coderFromArrayLen_0 : List UInt8 := [27, 42, 190, 100, 16, 31, 124, 145, 172]
abbrev dktJ17_coderFromArrayLen_0 : List UInt8 := dkwJ17_coderFromArrayLen_0 ++ []
theorem dksJ17_coderFromArrayLen_0 : cJ17_coderFromArrayLen.data.toList.drop 0 = dktJ17_coderFromArrayLen_0 := by decide +kernel
theorem dJ17_coderFromArrayLen_0 : decode cJ17_coderFromArrayLen 0 = .ok (.iload_n 1, 1) := dk_27 (dk_at dksJ17_coderFromArrayLen_0 0 rfl rfl)
theorem dJ17_coderFromArrayLen_1 : decode cJ17_coderFromArrayLen 1 = .ok (.aload_n 0, 1) := dk_42 (dk_at dksJ17_coderFromArrayLen_0 1 rfl rfl)
theorem dJ17_coderFromArrayLen_2 : decode cJ17_coderFromArrayLen 2 = .ok (.arraylength, 1) := dk_190 (dk_at dksJ17_coderFromArrayLen_0 2 rfl rfl)
theorem dJ17_coderFromArrayLen_3 : decode cJ17_coderFromArrayLen 3 = .ok (.isub, 1) := dk_100 (dk_at dksJ17_coderFromArrayLen_0 3 rfl rfl)
theorem dJ17_coderFromArrayLen_4 : decode cJ17_coderFromArrayLen 4 = .ok (.bipush 31, 2) := dk_16 31 (dk_at dksJ17_coderFromArrayLen_0 4 rfl rfl)
theorem dJ17_coderFromArrayLen_6 : decode cJ17_coderFromArrayLen 6 = .ok (.iushr, 1) := dk_124 (dk_at dksJ17_coderFromArrayLen_0 6 rfl rfl)
theorem dJ17_coderFromArrayLen_7 : decode cJ17_coderFromArrayLen 7 = .ok (.i2b, 1) := dk_145 (dk_at dksJ17_coderFromArrayLen_0 7 rfl rfl)
theorem dJ17_coderFromArrayLen_8 : decode cJ17_coderFromArrayLen 8 = .ok (.ireturn, 1) := dk_172 (dk_at dksJ17_coderFromArrayLen_0 8 rfl rfl)
theorem q116 : (Jvm.Cond.initialized "java/lang/StringUTF16") ∈ lw_all := lw_g (lw_at lw_m1 27 rfl) rfl
theorem q882 : (Jvm.Cond.static ({ cls := "java/lang/StringUTF16", name := "newBytesFor", desc := "(I)[B" } : Jvm.MethodName)) ∈ lw_all := lw_g (lw_at lw_m4 73 rfl) rfl
theorem q883 : (Jvm.Cond.code ({ cls := "java/lang/StringUTF16", name := "newBytesFor", desc := "(I)[B" } : Jvm.MethodName) prog_36_method_2_code (1 : Nat) (Option.some (Jvm.ClassFile.FieldType.array Jvm.ClassFile.FieldType.byte))) ∈ lw_all := lw_g (lw_at lw_m4 74 rfl) rfl
theorem q884 : (Jvm.Cond.methodLink "java/lang/StringUTF16" (11 : Nat) ({ cls := "java/lang/StringUTF16", name := "newBytesLength", desc := "(I)I" } : Jvm.MethodName)) ∈ lw_all := lw_g (lw_at lw_m4 75 rfl) rfl
theorem q885 : (Jvm.Cond.static ({ cls := "java/lang/StringUTF16", name := "newBytesLength", desc := "(I)I" } : Jvm.MethodName)) ∈ lw_all := lw_g (lw_at lw_m4 76 rfl) rfl
theorem q886 : (Jvm.Cond.code ({ cls := "java/lang/StringUTF16", name := "newBytesLength", desc := "(I)I" } : Jvm.MethodName) prog_36_method_3_code (1 : Nat) (Option.some Jvm.ClassFile.FieldType.int)) ∈ lw_all := lw_g (lw_at lw_m4 77 rfl) rfl
theorem q887 : (Jvm.Cond.constant "java/lang/StringUTF16" (20 : Nat) (1073741823 : Int32)) ∈ lw_all := lw_g (lw_at lw_m4 78 rfl) rfl
theorem q944 : (Jvm.Cond.static ({ cls := "java/lang/StringUTF16", name := "inflate", desc := "([BI[BII)V" } : Jvm.MethodName)) ∈ lw_all := lw_g (lw_at lw_m4 135 rfl) rfl
theorem q945 : (Jvm.Cond.code ({ cls := "java/lang/StringUTF16", name := "inflate", desc := "([BI[BII)V" } : Jvm.MethodName) prog_36_method_86_code (6 : Nat) (Option.none : Option Jvm.ClassFile.FieldType)) ∈ lw_all := lw_g (lw_at lw_m4 136 rfl) rfl
theorem q946 : (Jvm.Cond.methodLink "java/lang/StringUTF16" (173 : Nat) ({ cls := "java/lang/StringUTF16", name := "checkBoundsOffCount", desc := "(II[B)V" } : Jvm.MethodName)) ∈ lw_all := lw_g (lw_at lw_m4 137 rfl) rfl
theorem q947 : (Jvm.Cond.static ({ cls := "java/lang/StringUTF16", name := "checkBoundsOffCount", desc := "(II[B)V" } : Jvm.MethodName)) ∈ lw_all := lw_g (lw_at lw_m4 138 rfl) rfl
theorem q948 : (Jvm.Cond.code ({ cls := "java/lang/StringUTF16", name := "checkBoundsOffCount", desc := "(II[B)V" } : Jvm.MethodName) prog_36_method_94_code (3 : Nat) (Option.none : Option Jvm.ClassFile.FieldType)) ∈ lw_all := lw_g (lw_at lw_m4 139 rfl) rfl
theorem q949 : (Jvm.Cond.methodLink "java/lang/StringUTF16" (48 : Nat) ({ cls := "java/lang/StringUTF16", name := "length", desc := "([B)I" } : Jvm.MethodName)) ∈ lw_all := lw_g (lw_at lw_m4 140 rfl) rfl
theorem q950 : (Jvm.Cond.static ({ cls := "java/lang/StringUTF16", name := "length", desc := "([B)I" } : Jvm.MethodName)) ∈ lw_all := lw_g (lw_at lw_m4 141 rfl) rfl
theorem q951 : (Jvm.Cond.code ({ cls := "java/lang/StringUTF16", name := "length", desc := "([B)I" } : Jvm.MethodName) prog_36_method_6_code (1 : Nat) (Option.some Jvm.ClassFile.FieldType.int)) ∈ lw_all := lw_g (lw_at lw_m4 142 rfl) rfl
theorem q952 : (Jvm.Cond.methodLink "java/lang/StringUTF16" (419 : Nat) ({ cls := "java/lang/String", name := "checkBoundsOffCount", desc := "(III)I" } : Jvm.MethodName)) ∈ lw_all := lw_g (lw_at lw_m4 143 rfl) rfl
theorem q960 : (Jvm.Cond.methodLink "java/lang/StringUTF16" (111 : Nat) ({ cls := "java/lang/StringUTF16", name := "putChar", desc := "([BII)V" } : Jvm.MethodName)) ∈ lw_all := lw_g (lw_at lw_m4 151 rfl) rfl
theorem q961 : (Jvm.Cond.static ({ cls := "java/lang/StringUTF16", name := "putChar", desc := "([BII)V" } : Jvm.MethodName)) ∈ lw_all := lw_g (lw_at lw_m4 152 rfl) rfl
theorem q962 : (Jvm.Cond.code ({ cls := "java/lang/StringUTF16", name := "putChar", desc := "([BII)V" } : Jvm.MethodName) prog_36_method_4_code (3 : Nat) (Option.none : Option Jvm.ClassFile.FieldType)) ∈ lw_all := lw_g (lw_at lw_m4 153 rfl) rfl
theorem q963 : (Jvm.Cond.fieldLink "java/lang/StringUTF16" (44 : Nat) "java/lang/StringUTF16" "$assertionsDisabled" "Z") ∈ lw_all := lw_g (lw_at lw_m4 154 rfl) rfl
theorem q964 : (Jvm.Cond.laysStatic "java/lang/StringUTF16" "$assertionsDisabled" "Z") ∈ lw_tbl := lw_at lw_m4 155 rfl
theorem q965 : (Jvm.Cond.fieldLink "java/lang/StringUTF16" (59 : Nat) "java/lang/StringUTF16" "HI_BYTE_SHIFT" "I") ∈ lw_all := lw_g (lw_at lw_m4 156 rfl) rfl
theorem q966 : (Jvm.Cond.laysStatic "java/lang/StringUTF16" "HI_BYTE_SHIFT" "I") ∈ lw_tbl := lw_at lw_m4 157 rfl
theorem q967 : (Jvm.Cond.fieldLink "java/lang/StringUTF16" (63 : Nat) "java/lang/StringUTF16" "LO_BYTE_SHIFT" "I") ∈ lw_all := lw_g (lw_at lw_m4 158 rfl) rfl
theorem q968 : (Jvm.Cond.laysStatic "java/lang/StringUTF16" "LO_BYTE_SHIFT" "I") ∈ lw_tbl := lw_at lw_m4 159 rfl
theorem q970 : (Jvm.Cond.static ({ cls := "java/lang/StringUTF16", name := "putCharSB", desc := "([BII)V" } : Jvm.MethodName)) ∈ lw_all := lw_g (lw_at lw_m4 161 rfl) rfl
theorem q971 : (Jvm.Cond.code ({ cls := "java/lang/StringUTF16", name := "putCharSB", desc := "([BII)V" } : Jvm.MethodName) prog_36_method_71_code (3 : Nat) (Option.none : Option Jvm.ClassFile.FieldType)) ∈ lw_all := lw_g (lw_at lw_m4 162 rfl) rfl
theorem q972 : (Jvm.Cond.methodLink "java/lang/StringUTF16" (67 : Nat) ({ cls := "java/lang/StringUTF16", name := "checkIndex", desc := "(I[B)V" } : Jvm.MethodName)) ∈ lw_all := lw_g (lw_at lw_m4 163 rfl) rfl
theorem q973 : (Jvm.Cond.static ({ cls := "java/lang/StringUTF16", name := "checkIndex", desc := "(I[B)V" } : Jvm.MethodName)) ∈ lw_all := lw_g (lw_at lw_m4 164 rfl) rfl
theorem q974 : (Jvm.Cond.code ({ cls := "java/lang/StringUTF16", name := "checkIndex", desc := "(I[B)V" } : Jvm.MethodName) prog_36_method_91_code (2 : Nat) (Option.none : Option Jvm.ClassFile.FieldType)) ∈ lw_all := lw_g (lw_at lw_m4 165 rfl) rfl
theorem q975 : (Jvm.Cond.methodLink "java/lang/StringUTF16" (414 : Nat) ({ cls := "java/lang/String", name := "checkIndex", desc := "(II)V" } : Jvm.MethodName)) ∈ lw_all := lw_g (lw_at lw_m4 166 rfl) rfl
theorem q1016 : (Jvm.Cond.static ({ cls := "java/lang/StringUTF16", name := "compress", desc := "([BII)[B" } : Jvm.MethodName)) ∈ lw_all := lw_g (lw_at lw_m4 207 rfl) rfl
theorem q1017 : (Jvm.Cond.code ({ cls := "java/lang/StringUTF16", name := "compress", desc := "([BII)[B" } : Jvm.MethodName) prog_36_method_17_code (6 : Nat) (Option.some (Jvm.ClassFile.FieldType.array Jvm.ClassFile.FieldType.byte))) ∈ lw_all := lw_g (lw_at lw_m4 208 rfl) rfl
theorem q1018 : (Jvm.Cond.methodLink "java/lang/StringUTF16" (123 : Nat) ({ cls := "java/lang/StringUTF16", name := "compress", desc := "([BI[BII)I" } : Jvm.MethodName)) ∈ lw_all := lw_g (lw_at lw_m4 209 rfl) rfl
theorem q1019 : (Jvm.Cond.static ({ cls := "java/lang/StringUTF16", name := "compress", desc := "([BI[BII)I" } : Jvm.MethodName)) ∈ lw_all := lw_g (lw_at lw_m4 210 rfl) rfl
theorem q1020 : (Jvm.Cond.code ({ cls := "java/lang/StringUTF16", name := "compress", desc := "([BI[BII)I" } : Jvm.MethodName) prog_36_method_22_code (7 : Nat) (Option.some Jvm.ClassFile.FieldType.int)) ∈ lw_all := lw_g (lw_at lw_m4 211 rfl) rfl
theorem q1021 : (Jvm.Cond.methodLink "java/lang/StringUTF16" (71 : Nat) ({ cls := "java/lang/StringUTF16", name := "getChar", desc := "([BI)C" } : Jvm.MethodName)) ∈ lw_all := lw_g (lw_at lw_m4 212 rfl) rfl
theorem q1022 : (Jvm.Cond.static ({ cls := "java/lang/StringUTF16", name := "getChar", desc := "([BI)C" } : Jvm.MethodName)) ∈ lw_all := lw_g (lw_at lw_m4 213 rfl) rfl
theorem q1023 : (Jvm.Cond.code ({ cls := "java/lang/StringUTF16", name := "getChar", desc := "([BI)C" } : Jvm.MethodName) prog_36_method_5_code (2 : Nat) (Option.some Jvm.ClassFile.FieldType.char)) ∈ lw_all := lw_g (lw_at lw_m4 214 rfl) rfl
theorem q1024 : (Jvm.Cond.methodLink "java/lang/StringUTF16" (126 : Nat) ({ cls := "java/util/Arrays", name := "copyOfRange", desc := "([BII)[B" } : Jvm.MethodName)) ∈ lw_all := lw_g (lw_at lw_m4 215 rfl) rfl
theorem q1026 : (Jvm.Cond.static ({ cls := "java/lang/StringUTF16", name := "coderFromArrayLen", desc := "([BI)B" } : Jvm.MethodName)) ∈ lw_all := lw_g (lw_at lw_m4 217 rfl) rfl
theorem q1027 : (Jvm.Cond.code ({ cls := "java/lang/StringUTF16", name := "coderFromArrayLen", desc := "([BI)B" } : Jvm.MethodName) prog_36_method_15_code (2 : Nat) (Option.some Jvm.ClassFile.FieldType.byte)) ∈ lw_all := lw_g (lw_at lw_m4 218 rfl) rfl
/-! java/lang/StringLatin1 -/
set_option maxRecDepth 100000
def RJ18 : String := "java/lang/StringLatin1"
abbrev cJ18_canEncode : ByteArray := prog_35_method_3_code
def yJ18_canEncode : MethodName := ⟨RJ18, "canEncode", "(C)Z"⟩
def dkwJ18_canEncode_0 : List UInt8 := [26, 17, 0, 255, 163, 0, 7, 4, 167, 0, 4, 3, 172]
abbrev dktJ18_canEncode_0 : List UInt8 := dkwJ18_canEncode_0 ++ []
theorem dksJ18_canEncode_0 : cJ18_canEncode.data.toList.drop 0 = dktJ18_canEncode_0 := by decide +kernel
theorem dJ18_canEncode_0 : decode cJ18_canEncode 0 = .ok (.iload_n 0, 1) := dk_26 (dk_at dksJ18_canEncode_0 0 rfl rfl)
theorem dJ18_canEncode_1 : decode cJ18_canEncode 1 = .ok (.sipush 255, 3) := dk_17 0 255 (dk_at dksJ18_canEncode_0 1 rfl rfl)
theorem dJ18_canEncode_4 : decode cJ18_canEncode 4 = .ok (.if_icmp .gt 7, 3) := dk_163 0 7 (dk_at dksJ18_canEncode_0 4 rfl rfl)
theorem dJ18_canEncode_7 : decode cJ18_canEncode 7 = .ok (.iconst 1, 1) := dk_4 (dk_at dksJ18_canEncode_0 7 rfl rfl)
theorem dJ18_canEncode_8 : decode cJ18_canEncode 8 = .ok (.goto 4, 3) := dk_167 0 4 (dk_at dksJ18_canEncode_0 8 rfl rfl)
theorem dJ18_canEncode_11 : decode cJ18_canEncode 11 = .ok (.iconst 0, 1) := dk_3 (dk_at dksJ18_canEncode_0 11 rfl rfl)
theorem dJ18_canEncode_12 : decode cJ18_canEncode 12 = .ok (.ireturn, 1) := dk_172 (dk_at dksJ18_canEncode_0 12 rfl rfl)
abbrev cJ18_inflate : ByteArray := prog_35_method_50_code
def yJ18_inflate : MethodName := ⟨RJ18, "inflate", "([BI[BII)V"⟩
def dkwJ18_inflate_0 : List UInt8 := [42, 27, 44, 29, 21, 4, 184, 0, 240, 177]
abbrev dktJ18_inflate_0 : List UInt8 := dkwJ18_inflate_0 ++ []
theorem dksJ18_inflate_0 : cJ18_inflate.data.toList.drop 0 = dktJ18_inflate_0 := by decide +kernel
theorem dJ18_inflate_0 : decode cJ18_inflate 0 = .ok (.aload_n 0, 1) := dk_42 (dk_at dksJ18_inflate_0 0 rfl rfl)
theorem dJ18_inflate_1 : decode cJ18_inflate 1 = .ok (.iload_n 1, 1) := dk_27 (dk_at dksJ18_inflate_0 1 rfl rfl)
theorem dJ18_inflate_2 : decode cJ18_inflate 2 = .ok (.aload_n 2, 1) := dk_44 (dk_at dksJ18_inflate_0 2 rfl rfl)
theorem dJ18_inflate_3 : decode cJ18_inflate 3 = .ok (.iload_n 3, 1) := dk_29 (dk_at dksJ18_inflate_0 3 rfl rfl)
theorem dJ18_inflate_4 : decode cJ18_inflate 4 = .ok (.iload 4, 2) := dk_21 4 (dk_at dksJ18_inflate_0 4 rfl rfl)
theorem dJ18_inflate_6 : decode cJ18_inflate 6 = .ok (.invokestatic 240, 3) := dk_184 0 240 (dk_at dksJ18_inflate_0 6 rfl rfl)
theorem dJ18_inflate_9 : decode cJ18_inflate 9 = .ok (.return_, 1) := dk_177 (dk_at dksJ18_inflate_0 9 rfl rfl)
abbrev cJ18_equals : ByteArray := prog_35_method_13_code
def yJ18_equals : MethodName := ⟨RJ18, "equals", "([B[B)Z"⟩
def dkwJ18_equals_1 : List UInt8 := [3, 172, 132, 2, 1, 167, 255, 236, 4, 172, 3, 172]
abbrev dktJ18_equals_1 : List UInt8 := dkwJ18_equals_1 ++ []
def dkwJ18_equals_0 : List UInt8 := [42, 190, 43, 190, 160, 0, 30, 3, 61, 28, 42, 190, 162, 0, 20, 42, 28, 51, 43, 28, 51, 159, 0, 5]
abbrev dktJ18_equals_0 : List UInt8 := dkwJ18_equals_0 ++ dktJ18_equals_1
theorem dksJ18_equals_0 : cJ18_equals.data.toList.drop 0 = dktJ18_equals_0 := by decide +kernel
theorem dksJ18_equals_1 : cJ18_equals.data.toList.drop 24 = dktJ18_equals_1 := dk_seg dksJ18_equals_0 24 rfl rfl
theorem dJ18_equals_0 : decode cJ18_equals 0 = .ok (.aload_n 0, 1) := dk_42 (dk_at dksJ18_equals_0 0 rfl rfl)
theorem dJ18_equals_1 : decode cJ18_equals 1 = .ok (.arraylength, 1) := dk_190 (dk_at dksJ18_equals_0 1 rfl rfl)
theorem dJ18_equals_2 : decode cJ18_equals 2 = .ok (.aload_n 1, 1) := dk_43 (dk_at dksJ18_equals_0 2 rfl rfl)
theorem dJ18_equals_3 : decode cJ18_equals 3 = .ok (.arraylength, 1) := dk_190 (dk_at dksJ18_equals_0 3 rfl rfl)
theorem dJ18_equals_4 : decode cJ18_equals 4 = .ok (.if_icmp .ne 30, 3) := dk_160 0 30 (dk_at dksJ18_equals_0 4 rfl rfl)
theorem dJ18_equals_7 : decode cJ18_equals 7 = .ok (.iconst 0, 1) := dk_3 (dk_at dksJ18_equals_0 7 rfl rfl)
theorem dJ18_equals_8 : decode cJ18_equals 8 = .ok (.istore_n 2, 1) := dk_61 (dk_at dksJ18_equals_0 8 rfl rfl)
theorem dJ18_equals_9 : decode cJ18_equals 9 = .ok (.iload_n 2, 1) := dk_28 (dk_at dksJ18_equals_0 9 rfl rfl)
theorem dJ18_equals_10 : decode cJ18_equals 10 = .ok (.aload_n 0, 1) := dk_42 (dk_at dksJ18_equals_0 10 rfl rfl)
theorem dJ18_equals_11 : decode cJ18_equals 11 = .ok (.arraylength, 1) := dk_190 (dk_at dksJ18_equals_0 11 rfl rfl)
theorem dJ18_equals_12 : decode cJ18_equals 12 = .ok (.if_icmp .ge 20, 3) := dk_162 0 20 (dk_at dksJ18_equals_0 12 rfl rfl)
theorem dJ18_equals_15 : decode cJ18_equals 15 = .ok (.aload_n 0, 1) := dk_42 (dk_at dksJ18_equals_0 15 rfl rfl)
theorem dJ18_equals_16 : decode cJ18_equals 16 = .ok (.iload_n 2, 1) := dk_28 (dk_at dksJ18_equals_0 16 rfl rfl)
theorem dJ18_equals_17 : decode cJ18_equals 17 = .ok (.baload, 1) := dk_51 (dk_at dksJ18_equals_0 17 rfl rfl)
theorem dJ18_equals_18 : decode cJ18_equals 18 = .ok (.aload_n 1, 1) := dk_43 (dk_at dksJ18_equals_0 18 rfl rfl)
theorem dJ18_equals_19 : decode cJ18_equals 19 = .ok (.iload_n 2, 1) := dk_28 (dk_at dksJ18_equals_0 19 rfl rfl)
theorem dJ18_equals_20 : decode cJ18_equals 20 = .ok (.baload, 1) := dk_51 (dk_at dksJ18_equals_0 20 rfl rfl)
theorem dJ18_equals_21 : decode cJ18_equals 21 = .ok (.if_icmp .eq 5, 3) := dk_159 0 5 (dk_at dksJ18_equals_0 21 rfl rfl)
theorem dJ18_equals_24 : decode cJ18_equals 24 = .ok (.iconst 0, 1) := dk_3 (dk_at dksJ18_equals_1 0 rfl rfl)
theorem dJ18_equals_25 : decode cJ18_equals 25 = .ok (.ireturn, 1) := dk_172 (dk_at dksJ18_equals_1 1 rfl rfl)
theorem dJ18_equals_26 : decode cJ18_equals 26 = .ok (.iinc 2 1, 3) := dk_132 2 1 (dk_at dksJ18_equals_1 2 rfl rfl)
theorem dJ18_equals_29 : decode cJ18_equals 29 = .ok (.goto (-20), 3) := dk_167 255 236 (dk_at dksJ18_equals_1 5 rfl rfl)
theorem dJ18_equals_32 : decode cJ18_equals 32 = .ok (.iconst 1, 1) := dk_4 (dk_at dksJ18_equals_1 8 rfl rfl)
theorem dJ18_equals_33 : decode cJ18_equals 33 = .ok (.ireturn, 1) := dk_172 (dk_at dksJ18_equals_1 9 rfl rfl)
theorem dJ18_equals_34 : decode cJ18_equals 34 = .ok (.iconst 0, 1) := dk_3 (dk_at dksJ18_equals_1 10 rfl rfl)
theorem dJ18_equals_35 : decode cJ18_equals 35 = .ok (.ireturn, 1) := dk_172 (dk_at dksJ18_equals_1 11 rfl rfl)
theorem q117 : (Jvm.Cond.initialized "java/lang/StringLatin1") ∈ lw_all := lw_g (lw_at lw_m1 28 rfl) rfl
theorem q934 : (Jvm.Cond.static ({ cls := "java/lang/StringLatin1", name := "canEncode", desc := "(C)Z" } : Jvm.MethodName)) ∈ lw_all := lw_g (lw_at lw_m4 125 rfl) rfl
theorem q935 : (Jvm.Cond.code ({ cls := "java/lang/StringLatin1", name := "canEncode", desc := "(C)Z" } : Jvm.MethodName) prog_35_method_3_code (1 : Nat) (Option.some Jvm.ClassFile.FieldType.boolean)) ∈ lw_all := lw_g (lw_at lw_m4 126 rfl) rfl
theorem q941 : (Jvm.Cond.static ({ cls := "java/lang/StringLatin1", name := "inflate", desc := "([BI[BII)V" } : Jvm.MethodName)) ∈ lw_all := lw_g (lw_at lw_m4 132 rfl) rfl
theorem q942 : (Jvm.Cond.code ({ cls := "java/lang/StringLatin1", name := "inflate", desc := "([BI[BII)V" } : Jvm.MethodName) prog_35_method_50_code (5 : Nat) (Option.none : Option Jvm.ClassFile.FieldType)) ∈ lw_all := lw_g (lw_at lw_m4 133 rfl) rfl
theorem q943 : (Jvm.Cond.methodLink "java/lang/StringLatin1" (240 : Nat) ({ cls := "java/lang/StringUTF16", name := "inflate", desc := "([BI[BII)V" } : Jvm.MethodName)) ∈ lw_all := lw_g (lw_at lw_m4 134 rfl) rfl
theorem q1048 : (Jvm.Cond.static ({ cls := "java/lang/StringLatin1", name := "equals", desc := "([B[B)Z" } : Jvm.MethodName)) ∈ lw_all := lw_g (lw_at lw_m4 239 rfl) rfl
theorem q1049 : (Jvm.Cond.code ({ cls := "java/lang/StringLatin1", name := "equals", desc := "([B[B)Z" } : Jvm.MethodName) prog_35_method_13_code (3 : Nat) (Option.some Jvm.ClassFile.FieldType.boolean)) ∈ lw_all := lw_g (lw_at lw_m5 0 rfl) rfl
/-! java/lang/ClassCastException -/
set_option maxRecDepth 100000
def RJ19 : String := "java/lang/ClassCastException"
def TJ19 : u_T := fun k => match k with
  | 0 => ("java/lang/Throwable", "backtrace", "Ljava/lang/Object;", false)
  | 1 => ("java/lang/Throwable", "detailMessage", "Ljava/lang/String;", false)
  | 2 => ("java/lang/Throwable", "cause", "Ljava/lang/Throwable;", false)
  | 3 => ("java/lang/Throwable", "stackTrace", "[Ljava/lang/StackTraceElement;", false)
  | 4 => ("java/lang/Throwable", "depth", "I", false)
  | _ => ("java/lang/Throwable", "suppressedExceptions", "Ljava/util/List;", false)
def tyJ19 : Nat → FieldType := fun k => match k with
  | 0 => .object "java/lang/Object"
  | 1 => .object "java/lang/String"
  | 2 => .object "java/lang/Throwable"
  | 3 => .array (.object "java/lang/StackTraceElement")
  | 4 => .int
  | _ => .object "java/util/List"
abbrev wsJ190 : List Cond := u_ws RJ19 TJ19 6
theorem nmJ19 : ∀ a, a < 6 → ∀ b, b < 6 → a ≠ b → (TJ19 a).2.1 ≠ (TJ19 b).2.1 := by decide +kernel
theorem tyJ19_ok : ∀ k, k < 6 → parseFieldDescriptor (TJ19 k).2.2.1 = some (tyJ19 k) := by decide +kernel
abbrev cJ19_init : ByteArray := prog_24_method_2_code
def yJ19_init : MethodName := ⟨RJ19, "<init>", "(Ljava/lang/String;)V"⟩
def dkwJ19_init_0 : List UInt8 := [42, 43, 183, 0, 7, 177]
abbrev dktJ19_init_0 : List UInt8 := dkwJ19_init_0 ++ []
theorem dksJ19_init_0 : cJ19_init.data.toList.drop 0 = dktJ19_init_0 := by decide +kernel
theorem dJ19_init_0 : decode cJ19_init 0 = .ok (.aload_n 0, 1) := dk_42 (dk_at dksJ19_init_0 0 rfl rfl)
theorem dJ19_init_1 : decode cJ19_init 1 = .ok (.aload_n 1, 1) := dk_43 (dk_at dksJ19_init_0 1 rfl rfl)
theorem dJ19_init_2 : decode cJ19_init 2 = .ok (.invokespecial 7, 3) := dk_183 0 7 (dk_at dksJ19_init_0 2 rfl rfl)
theorem dJ19_init_5 : decode cJ19_init 5 = .ok (.return_, 1) := dk_177 (dk_at dksJ19_init_0 5 rfl rfl)
theorem q126 : (Jvm.Cond.initialized "java/lang/ClassCastException") ∈ lw_all := lw_g (lw_at lw_m1 37 rfl) rfl
theorem q325 : (Jvm.Cond.selects "java/lang/ClassCastException" ({ cls := "java/lang/Throwable", name := "fillInStackTrace", desc := "()Ljava/lang/Throwable;" } : Jvm.MethodName) ({ cls := "java/lang/Throwable", name := "fillInStackTrace", desc := "()Ljava/lang/Throwable;" } : Jvm.MethodName)) ∈ lw_all := lw_g (lw_at lw_m1 236 rfl) rfl
theorem q700 : (Jvm.Cond.selects "java/lang/ClassCastException" ({ cls := "java/lang/Object", name := "getClass", desc := "()Ljava/lang/Class;" } : Jvm.MethodName) ({ cls := "java/lang/Object", name := "getClass", desc := "()Ljava/lang/Class;" } : Jvm.MethodName)) ∈ lw_all := lw_g (lw_at lw_m3 131 rfl) rfl
theorem q1271 : (Jvm.Cond.instantiable "java/lang/ClassCastException" (6 : Nat)) ∈ lw_all := lw_g (lw_at lw_m5 222 rfl) rfl
theorem q1272 : (Jvm.Cond.instanceMethod ({ cls := "java/lang/ClassCastException", name := "<init>", desc := "(Ljava/lang/String;)V" } : Jvm.MethodName)) ∈ lw_all := lw_g (lw_at lw_m5 223 rfl) rfl
theorem q1273 : (Jvm.Cond.code ({ cls := "java/lang/ClassCastException", name := "<init>", desc := "(Ljava/lang/String;)V" } : Jvm.MethodName) prog_24_method_2_code (2 : Nat) (Option.none : Option Jvm.ClassFile.FieldType)) ∈ lw_all := lw_g (lw_at lw_m5 224 rfl) rfl
theorem q1274 : (Jvm.Cond.methodLink "java/lang/ClassCastException" (7 : Nat) ({ cls := "java/lang/RuntimeException", name := "<init>", desc := "(Ljava/lang/String;)V" } : Jvm.MethodName)) ∈ lw_all := lw_g (lw_at lw_m5 225 rfl) rfl
theorem q1275 : (Jvm.Cond.lays "java/lang/ClassCastException" "java/lang/Throwable" "backtrace" "Ljava/lang/Object;") ∈ lw_all := lw_g (lw_at lw_m5 226 rfl) rfl
theorem q1276 : (Jvm.Cond.lays "java/lang/ClassCastException" "java/lang/Throwable" "detailMessage" "Ljava/lang/String;") ∈ lw_all := lw_g (lw_at lw_m5 227 rfl) rfl
theorem q1277 : (Jvm.Cond.lays "java/lang/ClassCastException" "java/lang/Throwable" "cause" "Ljava/lang/Throwable;") ∈ lw_all := lw_g (lw_at lw_m5 228 rfl) rfl
theorem q1278 : (Jvm.Cond.lays "java/lang/ClassCastException" "java/lang/Throwable" "stackTrace" "[Ljava/lang/StackTraceElement;") ∈ lw_all := lw_g (lw_at lw_m5 229 rfl) rfl
theorem q1279 : (Jvm.Cond.lays "java/lang/ClassCastException" "java/lang/Throwable" "depth" "I") ∈ lw_all := lw_g (lw_at lw_m5 230 rfl) rfl
theorem q1280 : (Jvm.Cond.lays "java/lang/ClassCastException" "java/lang/Throwable" "suppressedExceptions" "Ljava/util/List;") ∈ lw_all := lw_g (lw_at lw_m5 231 rfl) rfl
theorem q1281 : (Jvm.Cond.superclass "java/lang/ClassCastException" "java/lang/RuntimeException") ∈ lw_all := lw_g (lw_at lw_m5 232 rfl) rfl
theorem q1282 : (Jvm.Cond.castable "java/lang/ClassCastException" "java/lang/ClassCastException") ∈ lw_tbl := lw_at lw_m5 233 rfl
theorem q1283 : (Jvm.Cond.selects "java/lang/ClassCastException" ({ cls := "java/lang/Throwable", name := "fillInStackTrace", desc := "(I)Ljava/lang/Throwable;" } : Jvm.MethodName) ({ cls := "java/lang/Throwable", name := "fillInStackTrace", desc := "(I)Ljava/lang/Throwable;" } : Jvm.MethodName)) ∈ lw_all := lw_g (lw_at lw_m5 234 rfl) rfl
theorem q1922 : (Jvm.Cond.castable "java/lang/ClassCastException" "java/lang/Object") ∈ lw_tbl := lw_at lw_m8 153 rfl
theorem in_J19 : ∀ w ∈ wsJ190, w ∈ lw_all := lw_in wsJ190 [1275, 1276, 1277, 1278, 1279, 1280] (by decide +kernel) (by decide +kernel)
/-! java/util/ArrayList -/
set_option maxRecDepth 100000
def RJ2 : String := "java/util/ArrayList"
def TJ2 : u_T := fun k => match k with
  | 0 => ("java/util/AbstractList", "modCount", "I", false)
  | 1 => ("java/util/ArrayList", "elementData", "[Ljava/lang/Object;", false)
  | _ => ("java/util/ArrayList", "size", "I", false)
def tyJ2 : Nat → FieldType := fun k => match k with
  | 0 => .int
  | 1 => .array (.object "java/lang/Object")
  | _ => .int
abbrev wsJ20 : List Cond := u_ws RJ2 TJ2 3
theorem nmJ2 : ∀ a, a < 3 → ∀ b, b < 3 → a ≠ b → (TJ2 a).2.1 ≠ (TJ2 b).2.1 := by decide +kernel
theorem tyJ2_ok : ∀ k, k < 3 → parseFieldDescriptor (TJ2 k).2.2.1 = some (tyJ2 k) := by decide +kernel
abbrev cJ2_init : ByteArray := prog_43_method_2_code
def yJ2_init : MethodName := ⟨RJ2, "<init>", "()V"⟩
def dkwJ2_init_0 : List UInt8 := [42, 183, 0, 1, 42, 178, 0, 39, 181, 0, 9, 177]
abbrev dktJ2_init_0 : List UInt8 := dkwJ2_init_0 ++ []
theorem dksJ2_init_0 : cJ2_init.data.toList.drop 0 = dktJ2_init_0 := by decide +kernel
theorem dJ2_init_0 : decode cJ2_init 0 = .ok (.aload_n 0, 1) := dk_42 (dk_at dksJ2_init_0 0 rfl rfl)
theorem dJ2_init_1 : decode cJ2_init 1 = .ok (.invokespecial 1, 3) := dk_183 0 1 (dk_at dksJ2_init_0 1 rfl rfl)
theorem dJ2_init_4 : decode cJ2_init 4 = .ok (.aload_n 0, 1) := dk_42 (dk_at dksJ2_init_0 4 rfl rfl)
theorem dJ2_init_5 : decode cJ2_init 5 = .ok (.getstatic 39, 3) := dk_178 0 39 (dk_at dksJ2_init_0 5 rfl rfl)
theorem dJ2_init_8 : decode cJ2_init 8 = .ok (.putfield 9, 3) := dk_181 0 9 (dk_at dksJ2_init_0 8 rfl rfl)
theorem dJ2_init_11 : decode cJ2_init 11 = .ok (.return_, 1) := dk_177 (dk_at dksJ2_init_0 11 rfl rfl)
abbrev cJ2_size : ByteArray := prog_43_method_8_code
def yJ2_size : MethodName := ⟨RJ2, "size", "()I"⟩
theorem dJ2_size_0 : decode cJ2_size 0 = .ok (.aload_n 0, 1) := by decide +kernel
theorem dJ2_size_1 : decode cJ2_size 1 = .ok (.getfield 48, 3) := by decide +kernel
theorem dJ2_size_4 : decode cJ2_size 4 = .ok (.ireturn, 1) := by decide +kernel
abbrev cJ2_add : ByteArray := prog_43_method_25_code
def yJ2_add : MethodName := ⟨RJ2, "add", "(Ljava/lang/Object;)Z"⟩
def dkwJ2_add_1 : List UInt8 := [172]
abbrev dktJ2_add_1 : List UInt8 := dkwJ2_add_1 ++ []
def dkwJ2_add_0 : List UInt8 := [42, 89, 180, 0, 63, 4, 96, 181, 0, 63, 42, 43, 42, 180, 0, 9, 42, 180, 0, 48, 182, 0, 131, 4]
abbrev dktJ2_add_0 : List UInt8 := dkwJ2_add_0 ++ dktJ2_add_1
theorem dksJ2_add_0 : cJ2_add.data.toList.drop 0 = dktJ2_add_0 := by decide +kernel
theorem dksJ2_add_1 : cJ2_add.data.toList.drop 24 = dktJ2_add_1 := dk_seg dksJ2_add_0 24 rfl rfl
theorem dJ2_add_0 : decode cJ2_add 0 = .ok (.aload_n 0, 1) := dk_42 (dk_at dksJ2_add_0 0 rfl rfl)
theorem dJ2_add_1 : decode cJ2_add 1 = .ok (.dup, 1) := dk_89 (dk_at dksJ2_add_0 1 rfl rfl)
theorem dJ2_add_2 : decode cJ2_add 2 = .ok (.getfield 63, 3) := dk_180 0 63 (dk_at dksJ2_add_0 2 rfl rfl)
theorem dJ2_add_5 : decode cJ2_add 5 = .ok (.iconst 1, 1) := dk_4 (dk_at dksJ2_add_0 5 rfl rfl)
theorem dJ2_add_6 : decode cJ2_add 6 = .ok (.iadd, 1) := dk_96 (dk_at dksJ2_add_0 6 rfl rfl)
theorem dJ2_add_7 : decode cJ2_add 7 = .ok (.putfield 63, 3) := dk_181 0 63 (dk_at dksJ2_add_0 7 rfl rfl)
theorem dJ2_add_10 : decode cJ2_add 10 = .ok (.aload_n 0, 1) := dk_42 (dk_at dksJ2_add_0 10 rfl rfl)
theorem dJ2_add_11 : decode cJ2_add 11 = .ok (.aload_n 1, 1) := dk_43 (dk_at dksJ2_add_0 11 rfl rfl)
theorem dJ2_add_12 : decode cJ2_add 12 = .ok (.aload_n 0, 1) := dk_42 (dk_at dksJ2_add_0 12 rfl rfl)
theorem dJ2_add_13 : decode cJ2_add 13 = .ok (.getfield 9, 3) := dk_180 0 9 (dk_at dksJ2_add_0 13 rfl rfl)
theorem dJ2_add_16 : decode cJ2_add 16 = .ok (.aload_n 0, 1) := dk_42 (dk_at dksJ2_add_0 16 rfl rfl)
theorem dJ2_add_17 : decode cJ2_add 17 = .ok (.getfield 48, 3) := dk_180 0 48 (dk_at dksJ2_add_0 17 rfl rfl)
theorem dJ2_add_20 : decode cJ2_add 20 = .ok (.invokevirtual 131, 3) := dk_182 0 131 (dk_at dksJ2_add_0 20 rfl rfl)
theorem dJ2_add_23 : decode cJ2_add 23 = .ok (.iconst 1, 1) := dk_4 (dk_at dksJ2_add_0 23 rfl rfl)
theorem dJ2_add_24 : decode cJ2_add 24 = .ok (.ireturn, 1) := dk_172 (dk_at dksJ2_add_1 0 rfl rfl)
abbrev cJ2_add_2 : ByteArray := prog_43_method_24_code
def yJ2_add_2 : MethodName := ⟨RJ2, "add", "(Ljava/lang/Object;[Ljava/lang/Object;I)V"⟩
def dkwJ2_add_2_0 : List UInt8 := [29, 44, 190, 160, 0, 8, 42, 182, 0, 129, 77, 44, 29, 43, 83, 42, 29, 4, 96, 181, 0, 48, 177]
abbrev dktJ2_add_2_0 : List UInt8 := dkwJ2_add_2_0 ++ []
theorem dksJ2_add_2_0 : cJ2_add_2.data.toList.drop 0 = dktJ2_add_2_0 := by decide +kernel
theorem dJ2_add_2_0 : decode cJ2_add_2 0 = .ok (.iload_n 3, 1) := dk_29 (dk_at dksJ2_add_2_0 0 rfl rfl)
theorem dJ2_add_2_1 : decode cJ2_add_2 1 = .ok (.aload_n 2, 1) := dk_44 (dk_at dksJ2_add_2_0 1 rfl rfl)
theorem dJ2_add_2_2 : decode cJ2_add_2 2 = .ok (.arraylength, 1) := dk_190 (dk_at dksJ2_add_2_0 2 rfl rfl)
theorem dJ2_add_2_3 : decode cJ2_add_2 3 = .ok (.if_icmp .ne 8, 3) := dk_160 0 8 (dk_at dksJ2_add_2_0 3 rfl rfl)
theorem dJ2_add_2_6 : decode cJ2_add_2 6 = .ok (.aload_n 0, 1) := dk_42 (dk_at dksJ2_add_2_0 6 rfl rfl)
theorem dJ2_add_2_7 : decode cJ2_add_2 7 = .ok (.invokevirtual 129, 3) := dk_182 0 129 (dk_at dksJ2_add_2_0 7 rfl rfl)
theorem dJ2_add_2_10 : decode cJ2_add_2 10 = .ok (.astore_n 2, 1) := dk_77 (dk_at dksJ2_add_2_0 10 rfl rfl)
theorem dJ2_add_2_11 : decode cJ2_add_2 11 = .ok (.aload_n 2, 1) := dk_44 (dk_at dksJ2_add_2_0 11 rfl rfl)
theorem dJ2_add_2_12 : decode cJ2_add_2 12 = .ok (.iload_n 3, 1) := dk_29 (dk_at dksJ2_add_2_0 12 rfl rfl)
theorem dJ2_add_2_13 : decode cJ2_add_2 13 = .ok (.aload_n 1, 1) := dk_43 (dk_at dksJ2_add_2_0 13 rfl rfl)
theorem dJ2_add_2_14 : decode cJ2_add_2 14 = .ok (.aastore, 1) := dk_83 (dk_at dksJ2_add_2_0 14 rfl rfl)
theorem dJ2_add_2_15 : decode cJ2_add_2 15 = .ok (.aload_n 0, 1) := dk_42 (dk_at dksJ2_add_2_0 15 rfl rfl)
theorem dJ2_add_2_16 : decode cJ2_add_2 16 = .ok (.iload_n 3, 1) := dk_29 (dk_at dksJ2_add_2_0 16 rfl rfl)
theorem dJ2_add_2_17 : decode cJ2_add_2 17 = .ok (.iconst 1, 1) := dk_4 (dk_at dksJ2_add_2_0 17 rfl rfl)
theorem dJ2_add_2_18 : decode cJ2_add_2 18 = .ok (.iadd, 1) := dk_96 (dk_at dksJ2_add_2_0 18 rfl rfl)
theorem dJ2_add_2_19 : decode cJ2_add_2 19 = .ok (.putfield 48, 3) := dk_181 0 48 (dk_at dksJ2_add_2_0 19 rfl rfl)
theorem dJ2_add_2_22 : decode cJ2_add_2 22 = .ok (.return_, 1) := dk_177 (dk_at dksJ2_add_2_0 22 rfl rfl)
abbrev cJ2_grow : ByteArray := prog_43_method_7_code
def yJ2_grow : MethodName := ⟨RJ2, "grow", "()[Ljava/lang/Object;"⟩
def dkwJ2_grow_0 : List UInt8 := [42, 42, 180, 0, 48, 4, 96, 182, 0, 69, 176]
abbrev dktJ2_grow_0 : List UInt8 := dkwJ2_grow_0 ++ []
theorem dksJ2_grow_0 : cJ2_grow.data.toList.drop 0 = dktJ2_grow_0 := by decide +kernel
theorem dJ2_grow_0 : decode cJ2_grow 0 = .ok (.aload_n 0, 1) := dk_42 (dk_at dksJ2_grow_0 0 rfl rfl)
theorem dJ2_grow_1 : decode cJ2_grow 1 = .ok (.aload_n 0, 1) := dk_42 (dk_at dksJ2_grow_0 1 rfl rfl)
theorem dJ2_grow_2 : decode cJ2_grow 2 = .ok (.getfield 48, 3) := dk_180 0 48 (dk_at dksJ2_grow_0 2 rfl rfl)
theorem dJ2_grow_5 : decode cJ2_grow 5 = .ok (.iconst 1, 1) := dk_4 (dk_at dksJ2_grow_0 5 rfl rfl)
theorem dJ2_grow_6 : decode cJ2_grow 6 = .ok (.iadd, 1) := dk_96 (dk_at dksJ2_grow_0 6 rfl rfl)
theorem dJ2_grow_7 : decode cJ2_grow 7 = .ok (.invokevirtual 69, 3) := dk_182 0 69 (dk_at dksJ2_grow_0 7 rfl rfl)
theorem dJ2_grow_10 : decode cJ2_grow 10 = .ok (.areturn, 1) := dk_176 (dk_at dksJ2_grow_0 10 rfl rfl)
abbrev cJ2_grow_2 : ByteArray := prog_43_method_6_code
def yJ2_grow_2 : MethodName := ⟨RJ2, "grow", "(I)[Ljava/lang/Object;"⟩
def dkwJ2_grow_2_2 : List UInt8 := [27, 184, 0, 79, 189, 0, 7, 90, 181, 0, 9, 176]
abbrev dktJ2_grow_2_2 : List UInt8 := dkwJ2_grow_2_2 ++ []
def dkwJ2_grow_2_1 : List UInt8 := [28, 4, 122, 184, 0, 73, 62, 42, 42, 180, 0, 9, 29, 184, 0, 66, 90, 181, 0, 9, 176, 42, 16, 10]
abbrev dktJ2_grow_2_1 : List UInt8 := dkwJ2_grow_2_1 ++ dktJ2_grow_2_2
def dkwJ2_grow_2_0 : List UInt8 := [42, 180, 0, 9, 190, 61, 28, 157, 0, 13, 42, 180, 0, 9, 178, 0, 39, 165, 0, 28, 28, 27, 28, 100]
abbrev dktJ2_grow_2_0 : List UInt8 := dkwJ2_grow_2_0 ++ dktJ2_grow_2_1
theorem dksJ2_grow_2_0 : cJ2_grow_2.data.toList.drop 0 = dktJ2_grow_2_0 := by decide +kernel
theorem dksJ2_grow_2_1 : cJ2_grow_2.data.toList.drop 24 = dktJ2_grow_2_1 := dk_seg dksJ2_grow_2_0 24 rfl rfl
theorem dksJ2_grow_2_2 : cJ2_grow_2.data.toList.drop 48 = dktJ2_grow_2_2 := dk_seg dksJ2_grow_2_1 24 rfl rfl
theorem dJ2_grow_2_0 : decode cJ2_grow_2 0 = .ok (.aload_n 0, 1) := dk_42 (dk_at dksJ2_grow_2_0 0 rfl rfl)
theorem dJ2_grow_2_1 : decode cJ2_grow_2 1 = .ok (.getfield 9, 3) := dk_180 0 9 (dk_at dksJ2_grow_2_0 1 rfl rfl)
theorem dJ2_grow_2_4 : decode cJ2_grow_2 4 = .ok (.arraylength, 1) := dk_190 (dk_at dksJ2_grow_2_0 4 rfl rfl)
theorem dJ2_grow_2_5 : decode cJ2_grow_2 5 = .ok (.istore_n 2, 1) := dk_61 (dk_at dksJ2_grow_2_0 5 rfl rfl)
theorem dJ2_grow_2_6 : decode cJ2_grow_2 6 = .ok (.iload_n 2, 1) := dk_28 (dk_at dksJ2_grow_2_0 6 rfl rfl)
theorem dJ2_grow_2_7 : decode cJ2_grow_2 7 = .ok (.ifCond .gt 13, 3) := dk_157 0 13 (dk_at dksJ2_grow_2_0 7 rfl rfl)
theorem dJ2_grow_2_10 : decode cJ2_grow_2 10 = .ok (.aload_n 0, 1) := dk_42 (dk_at dksJ2_grow_2_0 10 rfl rfl)
theorem dJ2_grow_2_11 : decode cJ2_grow_2 11 = .ok (.getfield 9, 3) := dk_180 0 9 (dk_at dksJ2_grow_2_0 11 rfl rfl)
theorem dJ2_grow_2_14 : decode cJ2_grow_2 14 = .ok (.getstatic 39, 3) := dk_178 0 39 (dk_at dksJ2_grow_2_0 14 rfl rfl)
theorem dJ2_grow_2_17 : decode cJ2_grow_2 17 = .ok (.if_acmp .eq 28, 3) := dk_165 0 28 (dk_at dksJ2_grow_2_0 17 rfl rfl)
theorem dJ2_grow_2_20 : decode cJ2_grow_2 20 = .ok (.iload_n 2, 1) := dk_28 (dk_at dksJ2_grow_2_0 20 rfl rfl)
theorem dJ2_grow_2_21 : decode cJ2_grow_2 21 = .ok (.iload_n 1, 1) := dk_27 (dk_at dksJ2_grow_2_0 21 rfl rfl)
theorem dJ2_grow_2_22 : decode cJ2_grow_2 22 = .ok (.iload_n 2, 1) := dk_28 (dk_at dksJ2_grow_2_0 22 rfl rfl)
theorem dJ2_grow_2_23 : decode cJ2_grow_2 23 = .ok (.isub, 1) := dk_100 (dk_at dksJ2_grow_2_0 23 rfl rfl)
theorem dJ2_grow_2_24 : decode cJ2_grow_2 24 = .ok (.iload_n 2, 1) := dk_28 (dk_at dksJ2_grow_2_1 0 rfl rfl)
theorem dJ2_grow_2_25 : decode cJ2_grow_2 25 = .ok (.iconst 1, 1) := dk_4 (dk_at dksJ2_grow_2_1 1 rfl rfl)
theorem dJ2_grow_2_26 : decode cJ2_grow_2 26 = .ok (.ishr, 1) := dk_122 (dk_at dksJ2_grow_2_1 2 rfl rfl)
theorem dJ2_grow_2_27 : decode cJ2_grow_2 27 = .ok (.invokestatic 73, 3) := dk_184 0 73 (dk_at dksJ2_grow_2_1 3 rfl rfl)
theorem dJ2_grow_2_30 : decode cJ2_grow_2 30 = .ok (.istore_n 3, 1) := dk_62 (dk_at dksJ2_grow_2_1 6 rfl rfl)
theorem dJ2_grow_2_31 : decode cJ2_grow_2 31 = .ok (.aload_n 0, 1) := dk_42 (dk_at dksJ2_grow_2_1 7 rfl rfl)
theorem dJ2_grow_2_32 : decode cJ2_grow_2 32 = .ok (.aload_n 0, 1) := dk_42 (dk_at dksJ2_grow_2_1 8 rfl rfl)
theorem dJ2_grow_2_33 : decode cJ2_grow_2 33 = .ok (.getfield 9, 3) := dk_180 0 9 (dk_at dksJ2_grow_2_1 9 rfl rfl)
theorem dJ2_grow_2_36 : decode cJ2_grow_2 36 = .ok (.iload_n 3, 1) := dk_29 (dk_at dksJ2_grow_2_1 12 rfl rfl)
theorem dJ2_grow_2_37 : decode cJ2_grow_2 37 = .ok (.invokestatic 66, 3) := dk_184 0 66 (dk_at dksJ2_grow_2_1 13 rfl rfl)
theorem dJ2_grow_2_40 : decode cJ2_grow_2 40 = .ok (.dup_x1, 1) := dk_90 (dk_at dksJ2_grow_2_1 16 rfl rfl)
theorem dJ2_grow_2_41 : decode cJ2_grow_2 41 = .ok (.putfield 9, 3) := dk_181 0 9 (dk_at dksJ2_grow_2_1 17 rfl rfl)
theorem dJ2_grow_2_44 : decode cJ2_grow_2 44 = .ok (.areturn, 1) := dk_176 (dk_at dksJ2_grow_2_1 20 rfl rfl)
theorem dJ2_grow_2_45 : decode cJ2_grow_2 45 = .ok (.aload_n 0, 1) := dk_42 (dk_at dksJ2_grow_2_1 21 rfl rfl)
theorem dJ2_grow_2_46 : decode cJ2_grow_2 46 = .ok (.bipush 10, 2) := dk_16 10 (dk_at dksJ2_grow_2_1 22 rfl rfl)
theorem dJ2_grow_2_48 : decode cJ2_grow_2 48 = .ok (.iload_n 1, 1) := dk_27 (dk_at dksJ2_grow_2_2 0 rfl rfl)
theorem dJ2_grow_2_49 : decode cJ2_grow_2 49 = .ok (.invokestatic 79, 3) := dk_184 0 79 (dk_at dksJ2_grow_2_2 1 rfl rfl)
theorem dJ2_grow_2_52 : decode cJ2_grow_2 52 = .ok (.anewarray 7, 3) := dk_189 0 7 (dk_at dksJ2_grow_2_2 4 rfl rfl)
theorem dJ2_grow_2_55 : decode cJ2_grow_2 55 = .ok (.dup_x1, 1) := dk_90 (dk_at dksJ2_grow_2_2 7 rfl rfl)
theorem dJ2_grow_2_56 : decode cJ2_grow_2 56 = .ok (.putfield 9, 3) := dk_181 0 9 (dk_at dksJ2_grow_2_2 8 rfl rfl)
theorem dJ2_grow_2_59 : decode cJ2_grow_2 59 = .ok (.areturn, 1) := dk_176 (dk_at dksJ2_grow_2_2 11 rfl rfl)
abbrev cJ2_get : ByteArray := prog_43_method_20_code
def yJ2_get : MethodName := ⟨RJ2, "get", "(I)Ljava/lang/Object;"⟩
def dkwJ2_get_0 : List UInt8 := [27, 42, 180, 0, 48, 184, 0, 118, 87, 42, 27, 182, 0, 123, 176]
abbrev dktJ2_get_0 : List UInt8 := dkwJ2_get_0 ++ []
theorem dksJ2_get_0 : cJ2_get.data.toList.drop 0 = dktJ2_get_0 := by decide +kernel
theorem dJ2_get_0 : decode cJ2_get 0 = .ok (.iload_n 1, 1) := dk_27 (dk_at dksJ2_get_0 0 rfl rfl)
theorem dJ2_get_1 : decode cJ2_get 1 = .ok (.aload_n 0, 1) := dk_42 (dk_at dksJ2_get_0 1 rfl rfl)
theorem dJ2_get_2 : decode cJ2_get 2 = .ok (.getfield 48, 3) := dk_180 0 48 (dk_at dksJ2_get_0 2 rfl rfl)
theorem dJ2_get_5 : decode cJ2_get 5 = .ok (.invokestatic 118, 3) := dk_184 0 118 (dk_at dksJ2_get_0 5 rfl rfl)
theorem dJ2_get_8 : decode cJ2_get 8 = .ok (.pop, 1) := dk_87 (dk_at dksJ2_get_0 8 rfl rfl)
theorem dJ2_get_9 : decode cJ2_get 9 = .ok (.aload_n 0, 1) := dk_42 (dk_at dksJ2_get_0 9 rfl rfl)
theorem dJ2_get_10 : decode cJ2_get 10 = .ok (.iload_n 1, 1) := dk_27 (dk_at dksJ2_get_0 10 rfl rfl)
theorem dJ2_get_11 : decode cJ2_get 11 = .ok (.invokevirtual 123, 3) := dk_182 0 123 (dk_at dksJ2_get_0 11 rfl rfl)
theorem dJ2_get_14 : decode cJ2_get 14 = .ok (.areturn, 1) := dk_176 (dk_at dksJ2_get_0 14 rfl rfl)
abbrev cJ2_elementData : ByteArray := prog_43_method_18_code
def yJ2_elementData : MethodName := ⟨RJ2, "elementData", "(I)Ljava/lang/Object;"⟩
def dkwJ2_elementData_0 : List UInt8 := [42, 180, 0, 9, 27, 50, 176]
abbrev dktJ2_elementData_0 : List UInt8 := dkwJ2_elementData_0 ++ []
theorem dksJ2_elementData_0 : cJ2_elementData.data.toList.drop 0 = dktJ2_elementData_0 := by decide +kernel
theorem dJ2_elementData_0 : decode cJ2_elementData 0 = .ok (.aload_n 0, 1) := dk_42 (dk_at dksJ2_elementData_0 0 rfl rfl)
theorem dJ2_elementData_1 : decode cJ2_elementData 1 = .ok (.getfield 9, 3) := dk_180 0 9 (dk_at dksJ2_elementData_0 1 rfl rfl)
theorem dJ2_elementData_4 : decode cJ2_elementData 4 = .ok (.iload_n 1, 1) := dk_27 (dk_at dksJ2_elementData_0 4 rfl rfl)
theorem dJ2_elementData_5 : decode cJ2_elementData 5 = .ok (.aaload, 1) := dk_50 (dk_at dksJ2_elementData_0 5 rfl rfl)
theorem dJ2_elementData_6 : decode cJ2_elementData 6 = .ok (.areturn, 1) := dk_176 (dk_at dksJ2_elementData_0 6 rfl rfl)
theorem q94 : (Jvm.Cond.initialized "java/util/ArrayList") ∈ lw_all := lw_g (lw_at lw_m1 5 rfl) rfl
theorem q168 : (Jvm.Cond.instantiable "java/util/ArrayList" (3 : Nat)) ∈ lw_all := lw_g (lw_at lw_m1 79 rfl) rfl
theorem q170 : (Jvm.Cond.instanceMethod ({ cls := "java/util/ArrayList", name := "<init>", desc := "()V" } : Jvm.MethodName)) ∈ lw_all := lw_g (lw_at lw_m1 81 rfl) rfl
theorem q171 : (Jvm.Cond.code ({ cls := "java/util/ArrayList", name := "<init>", desc := "()V" } : Jvm.MethodName) prog_43_method_2_code (1 : Nat) (Option.none : Option Jvm.ClassFile.FieldType)) ∈ lw_all := lw_g (lw_at lw_m1 82 rfl) rfl
theorem q172 : (Jvm.Cond.methodLink "java/util/ArrayList" (1 : Nat) ({ cls := "java/util/AbstractList", name := "<init>", desc := "()V" } : Jvm.MethodName)) ∈ lw_all := lw_g (lw_at lw_m1 83 rfl) rfl
theorem q179 : (Jvm.Cond.fieldLink "java/util/ArrayList" (39 : Nat) "java/util/ArrayList" "DEFAULTCAPACITY_EMPTY_ELEMENTDATA" "[Ljava/lang/Object;") ∈ lw_all := lw_g (lw_at lw_m1 90 rfl) rfl
theorem q180 : (Jvm.Cond.laysStatic "java/util/ArrayList" "DEFAULTCAPACITY_EMPTY_ELEMENTDATA" "[Ljava/lang/Object;") ∈ lw_tbl := lw_at lw_m1 91 rfl
theorem q181 : (Jvm.Cond.fieldLink "java/util/ArrayList" (9 : Nat) "java/util/ArrayList" "elementData" "[Ljava/lang/Object;") ∈ lw_all := lw_g (lw_at lw_m1 92 rfl) rfl
theorem q182 : (Jvm.Cond.fieldLink "java/util/ArrayList" (48 : Nat) "java/util/ArrayList" "size" "I") ∈ lw_all := lw_g (lw_at lw_m1 93 rfl) rfl
theorem q184 : (Jvm.Cond.fieldLink "java/util/ArrayList" (63 : Nat) "java/util/ArrayList" "modCount" "I") ∈ lw_all := lw_g (lw_at lw_m1 95 rfl) rfl
theorem q185 : (Jvm.Cond.sameField "java/util/ArrayList" "java/util/AbstractList" "modCount" "I") ∈ lw_all := lw_g (lw_at lw_m1 96 rfl) rfl
theorem q186 : (Jvm.Cond.lays "java/util/ArrayList" "java/util/ArrayList" "elementData" "[Ljava/lang/Object;") ∈ lw_all := lw_g (lw_at lw_m1 97 rfl) rfl
theorem q187 : (Jvm.Cond.soleField "java/util/ArrayList" "elementData") ∈ lw_all := lw_g (lw_at lw_m1 98 rfl) rfl
theorem q188 : (Jvm.Cond.lays "java/util/ArrayList" "java/util/ArrayList" "size" "I") ∈ lw_all := lw_g (lw_at lw_m1 99 rfl) rfl
theorem q189 : (Jvm.Cond.soleField "java/util/ArrayList" "size") ∈ lw_all := lw_g (lw_at lw_m1 100 rfl) rfl
theorem q190 : (Jvm.Cond.lays "java/util/ArrayList" "java/util/AbstractList" "modCount" "I") ∈ lw_all := lw_g (lw_at lw_m1 101 rfl) rfl
theorem q192 : (Jvm.Cond.superclass "java/util/ArrayList" "java/util/AbstractList") ∈ lw_all := lw_g (lw_at lw_m1 103 rfl) rfl
theorem q614 : (Jvm.Cond.castable "java/util/ArrayList" "java/util/List") ∈ lw_tbl := lw_at lw_m3 45 rfl
theorem q615 : (Jvm.Cond.selects "java/util/ArrayList" ({ cls := "java/util/List", name := "size", desc := "()I" } : Jvm.MethodName) ({ cls := "java/util/ArrayList", name := "size", desc := "()I" } : Jvm.MethodName)) ∈ lw_all := lw_g (lw_at lw_m3 46 rfl) rfl
theorem q616 : (Jvm.Cond.unhidden "java/util/ArrayList" "size" "()I") ∈ lw_tbl := lw_at lw_m3 47 rfl
theorem q617 : (Jvm.Cond.instanceMethod ({ cls := "java/util/ArrayList", name := "size", desc := "()I" } : Jvm.MethodName)) ∈ lw_all := lw_g (lw_at lw_m3 48 rfl) rfl
theorem q618 : (Jvm.Cond.publicMethod ({ cls := "java/util/ArrayList", name := "size", desc := "()I" } : Jvm.MethodName)) ∈ lw_tbl := lw_at lw_m3 49 rfl
theorem q619 : (Jvm.Cond.code ({ cls := "java/util/ArrayList", name := "size", desc := "()I" } : Jvm.MethodName) prog_43_method_8_code (1 : Nat) (Option.some Jvm.ClassFile.FieldType.int)) ∈ lw_all := lw_g (lw_at lw_m3 50 rfl) rfl
theorem q651 : (Jvm.Cond.selects "java/util/ArrayList" ({ cls := "java/util/List", name := "add", desc := "(Ljava/lang/Object;)Z" } : Jvm.MethodName) ({ cls := "java/util/ArrayList", name := "add", desc := "(Ljava/lang/Object;)Z" } : Jvm.MethodName)) ∈ lw_all := lw_g (lw_at lw_m3 82 rfl) rfl
theorem q652 : (Jvm.Cond.unhidden "java/util/ArrayList" "add" "(Ljava/lang/Object;)Z") ∈ lw_tbl := lw_at lw_m3 83 rfl
theorem q653 : (Jvm.Cond.instanceMethod ({ cls := "java/util/ArrayList", name := "add", desc := "(Ljava/lang/Object;)Z" } : Jvm.MethodName)) ∈ lw_all := lw_g (lw_at lw_m3 84 rfl) rfl
theorem q654 : (Jvm.Cond.publicMethod ({ cls := "java/util/ArrayList", name := "add", desc := "(Ljava/lang/Object;)Z" } : Jvm.MethodName)) ∈ lw_tbl := lw_at lw_m3 85 rfl
theorem q655 : (Jvm.Cond.code ({ cls := "java/util/ArrayList", name := "add", desc := "(Ljava/lang/Object;)Z" } : Jvm.MethodName) prog_43_method_25_code (2 : Nat) (Option.some Jvm.ClassFile.FieldType.boolean)) ∈ lw_all := lw_g (lw_at lw_m3 86 rfl) rfl
theorem q656 : (Jvm.Cond.methodLink "java/util/ArrayList" (131 : Nat) ({ cls := "java/util/ArrayList", name := "add", desc := "(Ljava/lang/Object;[Ljava/lang/Object;I)V" } : Jvm.MethodName)) ∈ lw_all := lw_g (lw_at lw_m3 87 rfl) rfl
theorem q657 : (Jvm.Cond.privateMethod ({ cls := "java/util/ArrayList", name := "add", desc := "(Ljava/lang/Object;[Ljava/lang/Object;I)V" } : Jvm.MethodName)) ∈ lw_tbl := lw_at lw_m3 88 rfl
theorem q658 : (Jvm.Cond.instanceMethod ({ cls := "java/util/ArrayList", name := "add", desc := "(Ljava/lang/Object;[Ljava/lang/Object;I)V" } : Jvm.MethodName)) ∈ lw_all := lw_g (lw_at lw_m3 89 rfl) rfl
theorem q659 : (Jvm.Cond.code ({ cls := "java/util/ArrayList", name := "add", desc := "(Ljava/lang/Object;[Ljava/lang/Object;I)V" } : Jvm.MethodName) prog_43_method_24_code (4 : Nat) (Option.none : Option Jvm.ClassFile.FieldType)) ∈ lw_all := lw_g (lw_at lw_m3 90 rfl) rfl
theorem q660 : (Jvm.Cond.methodLink "java/util/ArrayList" (129 : Nat) ({ cls := "java/util/ArrayList", name := "grow", desc := "()[Ljava/lang/Object;" } : Jvm.MethodName)) ∈ lw_all := lw_g (lw_at lw_m3 91 rfl) rfl
theorem q661 : (Jvm.Cond.privateMethod ({ cls := "java/util/ArrayList", name := "grow", desc := "()[Ljava/lang/Object;" } : Jvm.MethodName)) ∈ lw_tbl := lw_at lw_m3 92 rfl
theorem q662 : (Jvm.Cond.instanceMethod ({ cls := "java/util/ArrayList", name := "grow", desc := "()[Ljava/lang/Object;" } : Jvm.MethodName)) ∈ lw_all := lw_g (lw_at lw_m3 93 rfl) rfl
theorem q663 : (Jvm.Cond.code ({ cls := "java/util/ArrayList", name := "grow", desc := "()[Ljava/lang/Object;" } : Jvm.MethodName) prog_43_method_7_code (1 : Nat) (Option.some (Jvm.ClassFile.FieldType.array (Jvm.ClassFile.FieldType.object "java/lang/Object")))) ∈ lw_all := lw_g (lw_at lw_m3 94 rfl) rfl
theorem q664 : (Jvm.Cond.methodLink "java/util/ArrayList" (69 : Nat) ({ cls := "java/util/ArrayList", name := "grow", desc := "(I)[Ljava/lang/Object;" } : Jvm.MethodName)) ∈ lw_all := lw_g (lw_at lw_m3 95 rfl) rfl
theorem q665 : (Jvm.Cond.privateMethod ({ cls := "java/util/ArrayList", name := "grow", desc := "(I)[Ljava/lang/Object;" } : Jvm.MethodName)) ∈ lw_tbl := lw_at lw_m3 96 rfl
theorem q666 : (Jvm.Cond.instanceMethod ({ cls := "java/util/ArrayList", name := "grow", desc := "(I)[Ljava/lang/Object;" } : Jvm.MethodName)) ∈ lw_all := lw_g (lw_at lw_m3 97 rfl) rfl
theorem q667 : (Jvm.Cond.code ({ cls := "java/util/ArrayList", name := "grow", desc := "(I)[Ljava/lang/Object;" } : Jvm.MethodName) prog_43_method_6_code (4 : Nat) (Option.some (Jvm.ClassFile.FieldType.array (Jvm.ClassFile.FieldType.object "java/lang/Object")))) ∈ lw_all := lw_g (lw_at lw_m3 98 rfl) rfl
theorem q668 : (Jvm.Cond.methodLink "java/util/ArrayList" (73 : Nat) ({ cls := "jdk/internal/util/ArraysSupport", name := "newLength", desc := "(III)I" } : Jvm.MethodName)) ∈ lw_all := lw_g (lw_at lw_m3 99 rfl) rfl
theorem q678 : (Jvm.Cond.methodLink "java/util/ArrayList" (66 : Nat) ({ cls := "java/util/Arrays", name := "copyOf", desc := "([Ljava/lang/Object;I)[Ljava/lang/Object;" } : Jvm.MethodName)) ∈ lw_all := lw_g (lw_at lw_m3 109 rfl) rfl
theorem q703 : (Jvm.Cond.selects "java/util/ArrayList" ({ cls := "java/lang/Object", name := "getClass", desc := "()Ljava/lang/Class;" } : Jvm.MethodName) ({ cls := "java/lang/Object", name := "getClass", desc := "()Ljava/lang/Class;" } : Jvm.MethodName)) ∈ lw_all := lw_g (lw_at lw_m3 134 rfl) rfl
theorem q715 : (Jvm.Cond.methodLink "java/util/ArrayList" (79 : Nat) ({ cls := "java/lang/Math", name := "max", desc := "(II)I" } : Jvm.MethodName)) ∈ lw_all := lw_g (lw_at lw_m3 146 rfl) rfl
theorem q716 : (Jvm.Cond.classLink "java/util/ArrayList" (7 : Nat) "java/lang/Object") ∈ lw_all := lw_g (lw_at lw_m3 147 rfl) rfl
theorem q737 : (Jvm.Cond.selects "java/util/ArrayList" ({ cls := "java/util/List", name := "get", desc := "(I)Ljava/lang/Object;" } : Jvm.MethodName) ({ cls := "java/util/ArrayList", name := "get", desc := "(I)Ljava/lang/Object;" } : Jvm.MethodName)) ∈ lw_all := lw_g (lw_at lw_m3 168 rfl) rfl
theorem q738 : (Jvm.Cond.unhidden "java/util/ArrayList" "get" "(I)Ljava/lang/Object;") ∈ lw_tbl := lw_at lw_m3 169 rfl
theorem q739 : (Jvm.Cond.instanceMethod ({ cls := "java/util/ArrayList", name := "get", desc := "(I)Ljava/lang/Object;" } : Jvm.MethodName)) ∈ lw_all := lw_g (lw_at lw_m3 170 rfl) rfl
theorem q740 : (Jvm.Cond.publicMethod ({ cls := "java/util/ArrayList", name := "get", desc := "(I)Ljava/lang/Object;" } : Jvm.MethodName)) ∈ lw_tbl := lw_at lw_m3 171 rfl
theorem q741 : (Jvm.Cond.code ({ cls := "java/util/ArrayList", name := "get", desc := "(I)Ljava/lang/Object;" } : Jvm.MethodName) prog_43_method_20_code (2 : Nat) (Option.some (Jvm.ClassFile.FieldType.object "java/lang/Object"))) ∈ lw_all := lw_g (lw_at lw_m3 172 rfl) rfl
theorem q742 : (Jvm.Cond.methodLink "java/util/ArrayList" (118 : Nat) ({ cls := "java/util/Objects", name := "checkIndex", desc := "(II)I" } : Jvm.MethodName)) ∈ lw_all := lw_g (lw_at lw_m3 173 rfl) rfl
theorem q748 : (Jvm.Cond.methodLink "java/util/ArrayList" (123 : Nat) ({ cls := "java/util/ArrayList", name := "elementData", desc := "(I)Ljava/lang/Object;" } : Jvm.MethodName)) ∈ lw_all := lw_g (lw_at lw_m3 179 rfl) rfl
theorem q749 : (Jvm.Cond.instanceMethod ({ cls := "java/util/ArrayList", name := "elementData", desc := "(I)Ljava/lang/Object;" } : Jvm.MethodName)) ∈ lw_all := lw_g (lw_at lw_m3 180 rfl) rfl
theorem q750 : (Jvm.Cond.selects "java/util/ArrayList" ({ cls := "java/util/ArrayList", name := "elementData", desc := "(I)Ljava/lang/Object;" } : Jvm.MethodName) ({ cls := "java/util/ArrayList", name := "elementData", desc := "(I)Ljava/lang/Object;" } : Jvm.MethodName)) ∈ lw_all := lw_g (lw_at lw_m3 181 rfl) rfl
theorem q751 : (Jvm.Cond.code ({ cls := "java/util/ArrayList", name := "elementData", desc := "(I)Ljava/lang/Object;" } : Jvm.MethodName) prog_43_method_18_code (2 : Nat) (Option.some (Jvm.ClassFile.FieldType.object "java/lang/Object"))) ∈ lw_all := lw_g (lw_at lw_m3 182 rfl) rfl
theorem q1907 : (Jvm.Cond.castable "java/util/ArrayList" "java/lang/Object") ∈ lw_tbl := lw_at lw_m8 138 rfl
theorem in_J2 : ∀ w ∈ wsJ20, w ∈ lw_all := lw_in wsJ20 [190, 186, 188] (by decide +kernel) (by decide +kernel)
/-! java/lang/Object -/
set_option maxRecDepth 100000
def RJ20 : String := "java/lang/Object"
abbrev cJ20_init : ByteArray := object_method_1_code
def yJ20_init : MethodName := ⟨RJ20, "<init>", "()V"⟩
theorem dJ20_init_0 : decode cJ20_init 0 = .ok (.return_, 1) := by decide +kernel
theorem q133 : (Jvm.Cond.instanceMethod ({ cls := "java/lang/Object", name := "<init>", desc := "()V" } : Jvm.MethodName)) ∈ lw_all := lw_g (lw_at lw_m1 44 rfl) rfl
theorem q134 : (Jvm.Cond.code ({ cls := "java/lang/Object", name := "<init>", desc := "()V" } : Jvm.MethodName) object_method_1_code (1 : Nat) (Option.none : Option Jvm.ClassFile.FieldType)) ∈ lw_all := lw_g (lw_at lw_m1 45 rfl) rfl
theorem q682 : (Jvm.Cond.instanceMethod ({ cls := "java/lang/Object", name := "getClass", desc := "()Ljava/lang/Class;" } : Jvm.MethodName)) ∈ lw_all := lw_g (lw_at lw_m3 113 rfl) rfl
theorem q683 : (Jvm.Cond.sameMethod "java/lang/Object" "java/lang/Object" "getClass" "()Ljava/lang/Class;") ∈ lw_all := lw_g (lw_at lw_m3 114 rfl) rfl
theorem q704 : (Jvm.Cond.native ({ cls := "java/lang/Object", name := "getClass", desc := "()Ljava/lang/Class;" } : Jvm.MethodName)) ∈ lw_all := lw_g (lw_at lw_m3 135 rfl) rfl
theorem q923 : (Jvm.Cond.native ({ cls := "java/lang/Object", name := "clone", desc := "()Ljava/lang/Object;" } : Jvm.MethodName)) ∈ lw_all := lw_g (lw_at lw_m4 114 rfl) rfl
theorem q924 : (Jvm.Cond.instanceMethod ({ cls := "java/lang/Object", name := "clone", desc := "()Ljava/lang/Object;" } : Jvm.MethodName)) ∈ lw_all := lw_g (lw_at lw_m4 115 rfl) rfl
theorem q1899 : (Jvm.Cond.initialized "java/lang/Object") ∈ lw_all := lw_g (lw_at lw_m8 130 rfl) rfl
theorem q1926 : (Jvm.Cond.declares ({ cls := "java/lang/Object", name := "getClass", desc := "()Ljava/lang/Class;" } : Jvm.MethodName)) ∈ lw_tbl := lw_at lw_m8 157 rfl
/-! java/lang/Throwable -/
set_option maxRecDepth 100000
def RJ3 : String := "java/lang/Throwable"
def TJ3 : u_T := fun k => match k with
  | 0 => ("java/lang/Throwable", "cause", "Ljava/lang/Throwable;", false)
  | 1 => ("java/lang/Throwable", "stackTrace", "[Ljava/lang/StackTraceElement;", false)
  | 2 => ("java/lang/Throwable", "suppressedExceptions", "Ljava/util/List;", false)
  | 3 => ("java/lang/Throwable", "detailMessage", "Ljava/lang/String;", false)
  | _ => ("java/lang/Throwable", "backtrace", "Ljava/lang/Object;", false)
def tyJ3 : Nat → FieldType := fun k => match k with
  | 0 => .object "java/lang/Throwable"
  | 1 => .array (.object "java/lang/StackTraceElement")
  | 2 => .object "java/util/List"
  | 3 => .object "java/lang/String"
  | _ => .object "java/lang/Object"
abbrev wsJ30 : List Cond := u_ws RJ3 TJ3 5
theorem nmJ3 : ∀ a, a < 5 → ∀ b, b < 5 → a ≠ b → (TJ3 a).2.1 ≠ (TJ3 b).2.1 := by decide +kernel
theorem tyJ3_ok : ∀ k, k < 5 → parseFieldDescriptor (TJ3 k).2.2.1 = some (tyJ3 k) := by decide +kernel
abbrev cJ3_init : ByteArray := prog_38_method_1_code
def yJ3_init : MethodName := ⟨RJ3, "<init>", "()V"⟩
def dkwJ3_init_1 : List UInt8 := [182, 0, 27, 87, 177]
abbrev dktJ3_init_1 : List UInt8 := dkwJ3_init_1 ++ []
def dkwJ3_init_0 : List UInt8 := [42, 183, 0, 1, 42, 42, 181, 0, 7, 42, 178, 0, 13, 181, 0, 17, 42, 178, 0, 20, 181, 0, 24, 42]
abbrev dktJ3_init_0 : List UInt8 := dkwJ3_init_0 ++ dktJ3_init_1
theorem dksJ3_init_0 : cJ3_init.data.toList.drop 0 = dktJ3_init_0 := by decide +kernel
theorem dksJ3_init_1 : cJ3_init.data.toList.drop 24 = dktJ3_init_1 := dk_seg dksJ3_init_0 24 rfl rfl
theorem dJ3_init_0 : decode cJ3_init 0 = .ok (.aload_n 0, 1) := dk_42 (dk_at dksJ3_init_0 0 rfl rfl)
theorem dJ3_init_1 : decode cJ3_init 1 = .ok (.invokespecial 1, 3) := dk_183 0 1 (dk_at dksJ3_init_0 1 rfl rfl)
theorem dJ3_init_4 : decode cJ3_init 4 = .ok (.aload_n 0, 1) := dk_42 (dk_at dksJ3_init_0 4 rfl rfl)
theorem dJ3_init_5 : decode cJ3_init 5 = .ok (.aload_n 0, 1) := dk_42 (dk_at dksJ3_init_0 5 rfl rfl)
theorem dJ3_init_6 : decode cJ3_init 6 = .ok (.putfield 7, 3) := dk_181 0 7 (dk_at dksJ3_init_0 6 rfl rfl)
theorem dJ3_init_9 : decode cJ3_init 9 = .ok (.aload_n 0, 1) := dk_42 (dk_at dksJ3_init_0 9 rfl rfl)
theorem dJ3_init_10 : decode cJ3_init 10 = .ok (.getstatic 13, 3) := dk_178 0 13 (dk_at dksJ3_init_0 10 rfl rfl)
theorem dJ3_init_13 : decode cJ3_init 13 = .ok (.putfield 17, 3) := dk_181 0 17 (dk_at dksJ3_init_0 13 rfl rfl)
theorem dJ3_init_16 : decode cJ3_init 16 = .ok (.aload_n 0, 1) := dk_42 (dk_at dksJ3_init_0 16 rfl rfl)
theorem dJ3_init_17 : decode cJ3_init 17 = .ok (.getstatic 20, 3) := dk_178 0 20 (dk_at dksJ3_init_0 17 rfl rfl)
theorem dJ3_init_20 : decode cJ3_init 20 = .ok (.putfield 24, 3) := dk_181 0 24 (dk_at dksJ3_init_0 20 rfl rfl)
theorem dJ3_init_23 : decode cJ3_init 23 = .ok (.aload_n 0, 1) := dk_42 (dk_at dksJ3_init_0 23 rfl rfl)
theorem dJ3_init_24 : decode cJ3_init 24 = .ok (.invokevirtual 27, 3) := dk_182 0 27 (dk_at dksJ3_init_1 0 rfl rfl)
theorem dJ3_init_27 : decode cJ3_init 27 = .ok (.pop, 1) := dk_87 (dk_at dksJ3_init_1 3 rfl rfl)
theorem dJ3_init_28 : decode cJ3_init 28 = .ok (.return_, 1) := dk_177 (dk_at dksJ3_init_1 4 rfl rfl)
abbrev cJ3_init_2 : ByteArray := prog_38_method_5_code
def yJ3_init_2 : MethodName := ⟨RJ3, "<init>", "(Ljava/lang/String;Ljava/lang/Throwable;ZZ)V"⟩
def dkwJ3_init_2_2 : List UInt8 := [44, 181, 0, 7, 29, 154, 0, 8, 42, 1, 181, 0, 24, 177]
abbrev dktJ3_init_2_2 : List UInt8 := dkwJ3_init_2_2 ++ []
def dkwJ3_init_2_1 : List UInt8 := [21, 4, 153, 0, 11, 42, 182, 0, 27, 87, 167, 0, 8, 42, 1, 181, 0, 17, 42, 43, 181, 0, 31, 42]
abbrev dktJ3_init_2_1 : List UInt8 := dkwJ3_init_2_1 ++ dktJ3_init_2_2
def dkwJ3_init_2_0 : List UInt8 := [42, 183, 0, 1, 42, 42, 181, 0, 7, 42, 178, 0, 13, 181, 0, 17, 42, 178, 0, 20, 181, 0, 24]
abbrev dktJ3_init_2_0 : List UInt8 := dkwJ3_init_2_0 ++ dktJ3_init_2_1
theorem dksJ3_init_2_0 : cJ3_init_2.data.toList.drop 0 = dktJ3_init_2_0 := by decide +kernel
theorem dksJ3_init_2_1 : cJ3_init_2.data.toList.drop 23 = dktJ3_init_2_1 := dk_seg dksJ3_init_2_0 23 rfl rfl
theorem dksJ3_init_2_2 : cJ3_init_2.data.toList.drop 47 = dktJ3_init_2_2 := dk_seg dksJ3_init_2_1 24 rfl rfl
theorem dJ3_init_2_0 : decode cJ3_init_2 0 = .ok (.aload_n 0, 1) := dk_42 (dk_at dksJ3_init_2_0 0 rfl rfl)
theorem dJ3_init_2_1 : decode cJ3_init_2 1 = .ok (.invokespecial 1, 3) := dk_183 0 1 (dk_at dksJ3_init_2_0 1 rfl rfl)
theorem dJ3_init_2_4 : decode cJ3_init_2 4 = .ok (.aload_n 0, 1) := dk_42 (dk_at dksJ3_init_2_0 4 rfl rfl)
theorem dJ3_init_2_5 : decode cJ3_init_2 5 = .ok (.aload_n 0, 1) := dk_42 (dk_at dksJ3_init_2_0 5 rfl rfl)
theorem dJ3_init_2_6 : decode cJ3_init_2 6 = .ok (.putfield 7, 3) := dk_181 0 7 (dk_at dksJ3_init_2_0 6 rfl rfl)
theorem dJ3_init_2_9 : decode cJ3_init_2 9 = .ok (.aload_n 0, 1) := dk_42 (dk_at dksJ3_init_2_0 9 rfl rfl)
theorem dJ3_init_2_10 : decode cJ3_init_2 10 = .ok (.getstatic 13, 3) := dk_178 0 13 (dk_at dksJ3_init_2_0 10 rfl rfl)
theorem dJ3_init_2_13 : decode cJ3_init_2 13 = .ok (.putfield 17, 3) := dk_181 0 17 (dk_at dksJ3_init_2_0 13 rfl rfl)
theorem dJ3_init_2_16 : decode cJ3_init_2 16 = .ok (.aload_n 0, 1) := dk_42 (dk_at dksJ3_init_2_0 16 rfl rfl)
theorem dJ3_init_2_17 : decode cJ3_init_2 17 = .ok (.getstatic 20, 3) := dk_178 0 20 (dk_at dksJ3_init_2_0 17 rfl rfl)
theorem dJ3_init_2_20 : decode cJ3_init_2 20 = .ok (.putfield 24, 3) := dk_181 0 24 (dk_at dksJ3_init_2_0 20 rfl rfl)
theorem dJ3_init_2_23 : decode cJ3_init_2 23 = .ok (.iload 4, 2) := dk_21 4 (dk_at dksJ3_init_2_1 0 rfl rfl)
theorem dJ3_init_2_25 : decode cJ3_init_2 25 = .ok (.ifCond .eq 11, 3) := dk_153 0 11 (dk_at dksJ3_init_2_1 2 rfl rfl)
theorem dJ3_init_2_28 : decode cJ3_init_2 28 = .ok (.aload_n 0, 1) := dk_42 (dk_at dksJ3_init_2_1 5 rfl rfl)
theorem dJ3_init_2_29 : decode cJ3_init_2 29 = .ok (.invokevirtual 27, 3) := dk_182 0 27 (dk_at dksJ3_init_2_1 6 rfl rfl)
theorem dJ3_init_2_32 : decode cJ3_init_2 32 = .ok (.pop, 1) := dk_87 (dk_at dksJ3_init_2_1 9 rfl rfl)
theorem dJ3_init_2_33 : decode cJ3_init_2 33 = .ok (.goto 8, 3) := dk_167 0 8 (dk_at dksJ3_init_2_1 10 rfl rfl)
theorem dJ3_init_2_36 : decode cJ3_init_2 36 = .ok (.aload_n 0, 1) := dk_42 (dk_at dksJ3_init_2_1 13 rfl rfl)
theorem dJ3_init_2_37 : decode cJ3_init_2 37 = .ok (.aconst_null, 1) := dk_1 (dk_at dksJ3_init_2_1 14 rfl rfl)
theorem dJ3_init_2_38 : decode cJ3_init_2 38 = .ok (.putfield 17, 3) := dk_181 0 17 (dk_at dksJ3_init_2_1 15 rfl rfl)
theorem dJ3_init_2_41 : decode cJ3_init_2 41 = .ok (.aload_n 0, 1) := dk_42 (dk_at dksJ3_init_2_1 18 rfl rfl)
theorem dJ3_init_2_42 : decode cJ3_init_2 42 = .ok (.aload_n 1, 1) := dk_43 (dk_at dksJ3_init_2_1 19 rfl rfl)
theorem dJ3_init_2_43 : decode cJ3_init_2 43 = .ok (.putfield 31, 3) := dk_181 0 31 (dk_at dksJ3_init_2_1 20 rfl rfl)
theorem dJ3_init_2_46 : decode cJ3_init_2 46 = .ok (.aload_n 0, 1) := dk_42 (dk_at dksJ3_init_2_1 23 rfl rfl)
theorem dJ3_init_2_47 : decode cJ3_init_2 47 = .ok (.aload_n 2, 1) := dk_44 (dk_at dksJ3_init_2_2 0 rfl rfl)
theorem dJ3_init_2_48 : decode cJ3_init_2 48 = .ok (.putfield 7, 3) := dk_181 0 7 (dk_at dksJ3_init_2_2 1 rfl rfl)
theorem dJ3_init_2_51 : decode cJ3_init_2 51 = .ok (.iload_n 3, 1) := dk_29 (dk_at dksJ3_init_2_2 4 rfl rfl)
theorem dJ3_init_2_52 : decode cJ3_init_2 52 = .ok (.ifCond .ne 8, 3) := dk_154 0 8 (dk_at dksJ3_init_2_2 5 rfl rfl)
theorem dJ3_init_2_55 : decode cJ3_init_2 55 = .ok (.aload_n 0, 1) := dk_42 (dk_at dksJ3_init_2_2 8 rfl rfl)
theorem dJ3_init_2_56 : decode cJ3_init_2 56 = .ok (.aconst_null, 1) := dk_1 (dk_at dksJ3_init_2_2 9 rfl rfl)
theorem dJ3_init_2_57 : decode cJ3_init_2 57 = .ok (.putfield 24, 3) := dk_181 0 24 (dk_at dksJ3_init_2_2 10 rfl rfl)
theorem dJ3_init_2_60 : decode cJ3_init_2 60 = .ok (.return_, 1) := dk_177 (dk_at dksJ3_init_2_2 13 rfl rfl)
abbrev cJ3_init_3 : ByteArray := prog_38_method_2_code
def yJ3_init_3 : MethodName := ⟨RJ3, "<init>", "(Ljava/lang/String;)V"⟩
def dkwJ3_init_3_1 : List UInt8 := [182, 0, 27, 87, 42, 43, 181, 0, 31, 177]
abbrev dktJ3_init_3_1 : List UInt8 := dkwJ3_init_3_1 ++ []
def dkwJ3_init_3_0 : List UInt8 := [42, 183, 0, 1, 42, 42, 181, 0, 7, 42, 178, 0, 13, 181, 0, 17, 42, 178, 0, 20, 181, 0, 24, 42]
abbrev dktJ3_init_3_0 : List UInt8 := dkwJ3_init_3_0 ++ dktJ3_init_3_1
theorem dksJ3_init_3_0 : cJ3_init_3.data.toList.drop 0 = dktJ3_init_3_0 := by decide +kernel
theorem dksJ3_init_3_1 : cJ3_init_3.data.toList.drop 24 = dktJ3_init_3_1 := dk_seg dksJ3_init_3_0 24 rfl rfl
theorem dJ3_init_3_0 : decode cJ3_init_3 0 = .ok (.aload_n 0, 1) := dk_42 (dk_at dksJ3_init_3_0 0 rfl rfl)
theorem dJ3_init_3_1 : decode cJ3_init_3 1 = .ok (.invokespecial 1, 3) := dk_183 0 1 (dk_at dksJ3_init_3_0 1 rfl rfl)
theorem dJ3_init_3_4 : decode cJ3_init_3 4 = .ok (.aload_n 0, 1) := dk_42 (dk_at dksJ3_init_3_0 4 rfl rfl)
theorem dJ3_init_3_5 : decode cJ3_init_3 5 = .ok (.aload_n 0, 1) := dk_42 (dk_at dksJ3_init_3_0 5 rfl rfl)
theorem dJ3_init_3_6 : decode cJ3_init_3 6 = .ok (.putfield 7, 3) := dk_181 0 7 (dk_at dksJ3_init_3_0 6 rfl rfl)
theorem dJ3_init_3_9 : decode cJ3_init_3 9 = .ok (.aload_n 0, 1) := dk_42 (dk_at dksJ3_init_3_0 9 rfl rfl)
theorem dJ3_init_3_10 : decode cJ3_init_3 10 = .ok (.getstatic 13, 3) := dk_178 0 13 (dk_at dksJ3_init_3_0 10 rfl rfl)
theorem dJ3_init_3_13 : decode cJ3_init_3 13 = .ok (.putfield 17, 3) := dk_181 0 17 (dk_at dksJ3_init_3_0 13 rfl rfl)
theorem dJ3_init_3_16 : decode cJ3_init_3 16 = .ok (.aload_n 0, 1) := dk_42 (dk_at dksJ3_init_3_0 16 rfl rfl)
theorem dJ3_init_3_17 : decode cJ3_init_3 17 = .ok (.getstatic 20, 3) := dk_178 0 20 (dk_at dksJ3_init_3_0 17 rfl rfl)
theorem dJ3_init_3_20 : decode cJ3_init_3 20 = .ok (.putfield 24, 3) := dk_181 0 24 (dk_at dksJ3_init_3_0 20 rfl rfl)
theorem dJ3_init_3_23 : decode cJ3_init_3 23 = .ok (.aload_n 0, 1) := dk_42 (dk_at dksJ3_init_3_0 23 rfl rfl)
theorem dJ3_init_3_24 : decode cJ3_init_3 24 = .ok (.invokevirtual 27, 3) := dk_182 0 27 (dk_at dksJ3_init_3_1 0 rfl rfl)
theorem dJ3_init_3_27 : decode cJ3_init_3 27 = .ok (.pop, 1) := dk_87 (dk_at dksJ3_init_3_1 3 rfl rfl)
theorem dJ3_init_3_28 : decode cJ3_init_3 28 = .ok (.aload_n 0, 1) := dk_42 (dk_at dksJ3_init_3_1 4 rfl rfl)
theorem dJ3_init_3_29 : decode cJ3_init_3 29 = .ok (.aload_n 1, 1) := dk_43 (dk_at dksJ3_init_3_1 5 rfl rfl)
theorem dJ3_init_3_30 : decode cJ3_init_3 30 = .ok (.putfield 31, 3) := dk_181 0 31 (dk_at dksJ3_init_3_1 6 rfl rfl)
theorem dJ3_init_3_33 : decode cJ3_init_3 33 = .ok (.return_, 1) := dk_177 (dk_at dksJ3_init_3_1 9 rfl rfl)
theorem q97 : (Jvm.Cond.initialized "java/lang/Throwable") ∈ lw_all := lw_g (lw_at lw_m1 8 rfl) rfl
theorem q297 : (Jvm.Cond.declares ({ cls := "java/lang/Throwable", name := "<init>", desc := "()V" } : Jvm.MethodName)) ∈ lw_tbl := lw_at lw_m1 208 rfl
theorem q298 : (Jvm.Cond.declares ({ cls := "java/lang/Throwable", name := "<init>", desc := "(Ljava/lang/String;)V" } : Jvm.MethodName)) ∈ lw_tbl := lw_at lw_m1 209 rfl
theorem q302 : (Jvm.Cond.lays "java/lang/Throwable" "java/lang/Throwable" "cause" "Ljava/lang/Throwable;") ∈ lw_all := lw_g (lw_at lw_m1 213 rfl) rfl
theorem q304 : (Jvm.Cond.lays "java/lang/Throwable" "java/lang/Throwable" "stackTrace" "[Ljava/lang/StackTraceElement;") ∈ lw_all := lw_g (lw_at lw_m1 215 rfl) rfl
theorem q306 : (Jvm.Cond.lays "java/lang/Throwable" "java/lang/Throwable" "suppressedExceptions" "Ljava/util/List;") ∈ lw_all := lw_g (lw_at lw_m1 217 rfl) rfl
theorem q308 : (Jvm.Cond.lays "java/lang/Throwable" "java/lang/Throwable" "detailMessage" "Ljava/lang/String;") ∈ lw_all := lw_g (lw_at lw_m1 219 rfl) rfl
theorem q310 : (Jvm.Cond.lays "java/lang/Throwable" "java/lang/Throwable" "backtrace" "Ljava/lang/Object;") ∈ lw_all := lw_g (lw_at lw_m1 221 rfl) rfl
theorem q311 : (Jvm.Cond.fieldLink "java/lang/Throwable" (198 : Nat) "java/lang/Throwable" "backtrace" "Ljava/lang/Object;") ∈ lw_all := lw_g (lw_at lw_m1 222 rfl) rfl
theorem q312 : (Jvm.Cond.superclass "java/lang/Throwable" "java/lang/Object") ∈ lw_all := lw_g (lw_at lw_m1 223 rfl) rfl
theorem q313 : (Jvm.Cond.instanceMethod ({ cls := "java/lang/Throwable", name := "<init>", desc := "()V" } : Jvm.MethodName)) ∈ lw_all := lw_g (lw_at lw_m1 224 rfl) rfl
theorem q314 : (Jvm.Cond.code ({ cls := "java/lang/Throwable", name := "<init>", desc := "()V" } : Jvm.MethodName) prog_38_method_1_code (1 : Nat) (Option.none : Option Jvm.ClassFile.FieldType)) ∈ lw_all := lw_g (lw_at lw_m1 225 rfl) rfl
theorem q315 : (Jvm.Cond.methodLink "java/lang/Throwable" (1 : Nat) ({ cls := "java/lang/Object", name := "<init>", desc := "()V" } : Jvm.MethodName)) ∈ lw_all := lw_g (lw_at lw_m1 226 rfl) rfl
theorem q316 : (Jvm.Cond.fieldLink "java/lang/Throwable" (13 : Nat) "java/lang/Throwable" "UNASSIGNED_STACK" "[Ljava/lang/StackTraceElement;") ∈ lw_all := lw_g (lw_at lw_m1 227 rfl) rfl
theorem q317 : (Jvm.Cond.laysStatic "java/lang/Throwable" "UNASSIGNED_STACK" "[Ljava/lang/StackTraceElement;") ∈ lw_tbl := lw_at lw_m1 228 rfl
theorem q318 : (Jvm.Cond.fieldLink "java/lang/Throwable" (20 : Nat) "java/lang/Throwable" "SUPPRESSED_SENTINEL" "Ljava/util/List;") ∈ lw_all := lw_g (lw_at lw_m1 229 rfl) rfl
theorem q319 : (Jvm.Cond.laysStatic "java/lang/Throwable" "SUPPRESSED_SENTINEL" "Ljava/util/List;") ∈ lw_tbl := lw_at lw_m1 230 rfl
theorem q320 : (Jvm.Cond.methodLink "java/lang/Throwable" (27 : Nat) ({ cls := "java/lang/Throwable", name := "fillInStackTrace", desc := "()Ljava/lang/Throwable;" } : Jvm.MethodName)) ∈ lw_all := lw_g (lw_at lw_m1 231 rfl) rfl
theorem q321 : (Jvm.Cond.instanceMethod ({ cls := "java/lang/Throwable", name := "fillInStackTrace", desc := "()Ljava/lang/Throwable;" } : Jvm.MethodName)) ∈ lw_all := lw_g (lw_at lw_m1 232 rfl) rfl
theorem q322 : (Jvm.Cond.sameMethod "java/lang/Throwable" "java/lang/Throwable" "fillInStackTrace" "()Ljava/lang/Throwable;") ∈ lw_all := lw_g (lw_at lw_m1 233 rfl) rfl
theorem q326 : (Jvm.Cond.codeSync ({ cls := "java/lang/Throwable", name := "fillInStackTrace", desc := "()Ljava/lang/Throwable;" } : Jvm.MethodName) prog_38_method_18_code (1 : Nat) (Option.some (Jvm.ClassFile.FieldType.object "java/lang/Throwable"))) ∈ lw_all := lw_g (lw_at lw_m1 237 rfl) rfl
theorem q327 : (Jvm.Cond.methodLink "java/lang/Throwable" (202 : Nat) ({ cls := "java/lang/Throwable", name := "fillInStackTrace", desc := "(I)Ljava/lang/Throwable;" } : Jvm.MethodName)) ∈ lw_all := lw_g (lw_at lw_m1 238 rfl) rfl
theorem q328 : (Jvm.Cond.privateMethod ({ cls := "java/lang/Throwable", name := "fillInStackTrace", desc := "(I)Ljava/lang/Throwable;" } : Jvm.MethodName)) ∈ lw_tbl := lw_at lw_m1 239 rfl
theorem q329 : (Jvm.Cond.instanceMethod ({ cls := "java/lang/Throwable", name := "fillInStackTrace", desc := "(I)Ljava/lang/Throwable;" } : Jvm.MethodName)) ∈ lw_all := lw_g (lw_at lw_m2 0 rfl) rfl
theorem q330 : (Jvm.Cond.instantiable "java/lang/Throwable" (6 : Nat)) ∈ lw_all := lw_g (lw_at lw_m2 1 rfl) rfl
theorem q331 : (Jvm.Cond.native ({ cls := "java/lang/Throwable", name := "fillInStackTrace", desc := "(I)Ljava/lang/Throwable;" } : Jvm.MethodName)) ∈ lw_all := lw_g (lw_at lw_m2 2 rfl) rfl
theorem q339 : (Jvm.Cond.instanceMethod ({ cls := "java/lang/Throwable", name := "<init>", desc := "(Ljava/lang/String;Ljava/lang/Throwable;ZZ)V" } : Jvm.MethodName)) ∈ lw_all := lw_g (lw_at lw_m2 10 rfl) rfl
theorem q340 : (Jvm.Cond.code ({ cls := "java/lang/Throwable", name := "<init>", desc := "(Ljava/lang/String;Ljava/lang/Throwable;ZZ)V" } : Jvm.MethodName) prog_38_method_5_code (5 : Nat) (Option.none : Option Jvm.ClassFile.FieldType)) ∈ lw_all := lw_g (lw_at lw_m2 11 rfl) rfl
theorem q343 : (Jvm.Cond.fieldLink "java/lang/Throwable" (198 : Nat) "java/lang/Throwable" "backtrace" "Ljava/lang/Object;") ∈ lw_all := lw_g (lw_at lw_m2 14 rfl) rfl
theorem q344 : (Jvm.Cond.fieldLink "java/lang/Throwable" (31 : Nat) "java/lang/Throwable" "detailMessage" "Ljava/lang/String;") ∈ lw_all := lw_g (lw_at lw_m2 15 rfl) rfl
theorem q345 : (Jvm.Cond.fieldLink "java/lang/Throwable" (7 : Nat) "java/lang/Throwable" "cause" "Ljava/lang/Throwable;") ∈ lw_all := lw_g (lw_at lw_m2 16 rfl) rfl
theorem q346 : (Jvm.Cond.fieldLink "java/lang/Throwable" (17 : Nat) "java/lang/Throwable" "stackTrace" "[Ljava/lang/StackTraceElement;") ∈ lw_all := lw_g (lw_at lw_m2 17 rfl) rfl
theorem q347 : (Jvm.Cond.fieldLink "java/lang/Throwable" (24 : Nat) "java/lang/Throwable" "suppressedExceptions" "Ljava/util/List;") ∈ lw_all := lw_g (lw_at lw_m2 18 rfl) rfl
theorem q350 : (Jvm.Cond.soleField "java/lang/Throwable" "backtrace") ∈ lw_all := lw_g (lw_at lw_m2 21 rfl) rfl
theorem q351 : (Jvm.Cond.soleField "java/lang/Throwable" "detailMessage") ∈ lw_all := lw_g (lw_at lw_m2 22 rfl) rfl
theorem q352 : (Jvm.Cond.soleField "java/lang/Throwable" "cause") ∈ lw_all := lw_g (lw_at lw_m2 23 rfl) rfl
theorem q353 : (Jvm.Cond.soleField "java/lang/Throwable" "stackTrace") ∈ lw_all := lw_g (lw_at lw_m2 24 rfl) rfl
theorem q355 : (Jvm.Cond.soleField "java/lang/Throwable" "depth") ∈ lw_all := lw_g (lw_at lw_m2 26 rfl) rfl
theorem q356 : (Jvm.Cond.soleField "java/lang/Throwable" "suppressedExceptions") ∈ lw_all := lw_g (lw_at lw_m2 27 rfl) rfl
theorem q411 : (Jvm.Cond.instanceMethod ({ cls := "java/lang/Throwable", name := "<init>", desc := "(Ljava/lang/String;)V" } : Jvm.MethodName)) ∈ lw_all := lw_g (lw_at lw_m2 82 rfl) rfl
theorem q412 : (Jvm.Cond.code ({ cls := "java/lang/Throwable", name := "<init>", desc := "(Ljava/lang/String;)V" } : Jvm.MethodName) prog_38_method_2_code (2 : Nat) (Option.none : Option Jvm.ClassFile.FieldType)) ∈ lw_all := lw_g (lw_at lw_m2 83 rfl) rfl
theorem q1892 : (Jvm.Cond.sameMethod "java/lang/Throwable" "java/lang/Throwable" "fillInStackTrace" "(I)Ljava/lang/Throwable;") ∈ lw_all := lw_g (lw_at lw_m8 123 rfl) rfl
theorem q1923 : (Jvm.Cond.castable "java/lang/Throwable" "java/lang/Object") ∈ lw_tbl := lw_at lw_m8 154 rfl
theorem in_J3 : ∀ w ∈ wsJ30, w ∈ lw_all := lw_in wsJ30 [302, 304, 306, 308, 310] (by decide +kernel) (by decide +kernel)
/-! java/lang/Exception -/
set_option maxRecDepth 100000
def RJ4 : String := "java/lang/Exception"
abbrev cJ4_init : ByteArray := prog_27_method_5_code
def yJ4_init : MethodName := ⟨RJ4, "<init>", "(Ljava/lang/String;Ljava/lang/Throwable;ZZ)V"⟩
def dkwJ4_init_0 : List UInt8 := [42, 43, 44, 29, 21, 4, 183, 0, 16, 177]
abbrev dktJ4_init_0 : List UInt8 := dkwJ4_init_0 ++ []
theorem dksJ4_init_0 : cJ4_init.data.toList.drop 0 = dktJ4_init_0 := by decide +kernel
theorem dJ4_init_0 : decode cJ4_init 0 = .ok (.aload_n 0, 1) := dk_42 (dk_at dksJ4_init_0 0 rfl rfl)
theorem dJ4_init_1 : decode cJ4_init 1 = .ok (.aload_n 1, 1) := dk_43 (dk_at dksJ4_init_0 1 rfl rfl)
theorem dJ4_init_2 : decode cJ4_init 2 = .ok (.aload_n 2, 1) := dk_44 (dk_at dksJ4_init_0 2 rfl rfl)
theorem dJ4_init_3 : decode cJ4_init 3 = .ok (.iload_n 3, 1) := dk_29 (dk_at dksJ4_init_0 3 rfl rfl)
theorem dJ4_init_4 : decode cJ4_init 4 = .ok (.iload 4, 2) := dk_21 4 (dk_at dksJ4_init_0 4 rfl rfl)
theorem dJ4_init_6 : decode cJ4_init 6 = .ok (.invokespecial 16, 3) := dk_183 0 16 (dk_at dksJ4_init_0 6 rfl rfl)
theorem dJ4_init_9 : decode cJ4_init 9 = .ok (.return_, 1) := dk_177 (dk_at dksJ4_init_0 9 rfl rfl)
abbrev cJ4_init_2 : ByteArray := prog_27_method_2_code
def yJ4_init_2 : MethodName := ⟨RJ4, "<init>", "(Ljava/lang/String;)V"⟩
def dkwJ4_init_2_0 : List UInt8 := [42, 43, 183, 0, 7, 177]
abbrev dktJ4_init_2_0 : List UInt8 := dkwJ4_init_2_0 ++ []
theorem dksJ4_init_2_0 : cJ4_init_2.data.toList.drop 0 = dktJ4_init_2_0 := by decide +kernel
theorem dJ4_init_2_0 : decode cJ4_init_2 0 = .ok (.aload_n 0, 1) := dk_42 (dk_at dksJ4_init_2_0 0 rfl rfl)
theorem dJ4_init_2_1 : decode cJ4_init_2 1 = .ok (.aload_n 1, 1) := dk_43 (dk_at dksJ4_init_2_0 1 rfl rfl)
theorem dJ4_init_2_2 : decode cJ4_init_2 2 = .ok (.invokespecial 7, 3) := dk_183 0 7 (dk_at dksJ4_init_2_0 2 rfl rfl)
theorem dJ4_init_2_5 : decode cJ4_init_2 5 = .ok (.return_, 1) := dk_177 (dk_at dksJ4_init_2_0 5 rfl rfl)
theorem q98 : (Jvm.Cond.initialized "java/lang/Exception") ∈ lw_all := lw_g (lw_at lw_m1 9 rfl) rfl
theorem q295 : (Jvm.Cond.declares ({ cls := "java/lang/Exception", name := "<init>", desc := "()V" } : Jvm.MethodName)) ∈ lw_tbl := lw_at lw_m1 206 rfl
theorem q296 : (Jvm.Cond.declares ({ cls := "java/lang/Exception", name := "<init>", desc := "(Ljava/lang/String;)V" } : Jvm.MethodName)) ∈ lw_tbl := lw_at lw_m1 207 rfl
theorem q336 : (Jvm.Cond.instanceMethod ({ cls := "java/lang/Exception", name := "<init>", desc := "(Ljava/lang/String;Ljava/lang/Throwable;ZZ)V" } : Jvm.MethodName)) ∈ lw_all := lw_g (lw_at lw_m2 7 rfl) rfl
theorem q337 : (Jvm.Cond.code ({ cls := "java/lang/Exception", name := "<init>", desc := "(Ljava/lang/String;Ljava/lang/Throwable;ZZ)V" } : Jvm.MethodName) prog_27_method_5_code (5 : Nat) (Option.none : Option Jvm.ClassFile.FieldType)) ∈ lw_all := lw_g (lw_at lw_m2 8 rfl) rfl
theorem q338 : (Jvm.Cond.methodLink "java/lang/Exception" (16 : Nat) ({ cls := "java/lang/Throwable", name := "<init>", desc := "(Ljava/lang/String;Ljava/lang/Throwable;ZZ)V" } : Jvm.MethodName)) ∈ lw_all := lw_g (lw_at lw_m2 9 rfl) rfl
theorem q408 : (Jvm.Cond.instanceMethod ({ cls := "java/lang/Exception", name := "<init>", desc := "(Ljava/lang/String;)V" } : Jvm.MethodName)) ∈ lw_all := lw_g (lw_at lw_m2 79 rfl) rfl
theorem q409 : (Jvm.Cond.code ({ cls := "java/lang/Exception", name := "<init>", desc := "(Ljava/lang/String;)V" } : Jvm.MethodName) prog_27_method_2_code (2 : Nat) (Option.none : Option Jvm.ClassFile.FieldType)) ∈ lw_all := lw_g (lw_at lw_m2 80 rfl) rfl
theorem q410 : (Jvm.Cond.methodLink "java/lang/Exception" (7 : Nat) ({ cls := "java/lang/Throwable", name := "<init>", desc := "(Ljava/lang/String;)V" } : Jvm.MethodName)) ∈ lw_all := lw_g (lw_at lw_m2 81 rfl) rfl
/-! java/lang/RuntimeException -/
set_option maxRecDepth 100000
def RJ5 : String := "java/lang/RuntimeException"
abbrev cJ5_init : ByteArray := prog_32_method_2_code
def yJ5_init : MethodName := ⟨RJ5, "<init>", "(Ljava/lang/String;)V"⟩
def dkwJ5_init_0 : List UInt8 := [42, 43, 183, 0, 7, 177]
abbrev dktJ5_init_0 : List UInt8 := dkwJ5_init_0 ++ []
theorem dksJ5_init_0 : cJ5_init.data.toList.drop 0 = dktJ5_init_0 := by decide +kernel
theorem dJ5_init_0 : decode cJ5_init 0 = .ok (.aload_n 0, 1) := dk_42 (dk_at dksJ5_init_0 0 rfl rfl)
theorem dJ5_init_1 : decode cJ5_init 1 = .ok (.aload_n 1, 1) := dk_43 (dk_at dksJ5_init_0 1 rfl rfl)
theorem dJ5_init_2 : decode cJ5_init 2 = .ok (.invokespecial 7, 3) := dk_183 0 7 (dk_at dksJ5_init_0 2 rfl rfl)
theorem dJ5_init_5 : decode cJ5_init 5 = .ok (.return_, 1) := dk_177 (dk_at dksJ5_init_0 5 rfl rfl)
theorem q101 : (Jvm.Cond.initialized "java/lang/RuntimeException") ∈ lw_all := lw_g (lw_at lw_m1 12 rfl) rfl
theorem q405 : (Jvm.Cond.instanceMethod ({ cls := "java/lang/RuntimeException", name := "<init>", desc := "(Ljava/lang/String;)V" } : Jvm.MethodName)) ∈ lw_all := lw_g (lw_at lw_m2 76 rfl) rfl
theorem q406 : (Jvm.Cond.code ({ cls := "java/lang/RuntimeException", name := "<init>", desc := "(Ljava/lang/String;)V" } : Jvm.MethodName) prog_32_method_2_code (2 : Nat) (Option.none : Option Jvm.ClassFile.FieldType)) ∈ lw_all := lw_g (lw_at lw_m2 77 rfl) rfl
theorem q407 : (Jvm.Cond.methodLink "java/lang/RuntimeException" (7 : Nat) ({ cls := "java/lang/Exception", name := "<init>", desc := "(Ljava/lang/String;)V" } : Jvm.MethodName)) ∈ lw_all := lw_g (lw_at lw_m2 78 rfl) rfl
theorem q423 : (Jvm.Cond.declares ({ cls := "java/lang/RuntimeException", name := "<init>", desc := "()V" } : Jvm.MethodName)) ∈ lw_tbl := lw_at lw_m2 94 rfl
theorem q424 : (Jvm.Cond.declares ({ cls := "java/lang/RuntimeException", name := "<init>", desc := "(Ljava/lang/String;)V" } : Jvm.MethodName)) ∈ lw_tbl := lw_at lw_m2 95 rfl
/-! java/lang/IndexOutOfBoundsException -/
set_option maxRecDepth 100000
def RJ6 : String := "java/lang/IndexOutOfBoundsException"
abbrev cJ6_init : ByteArray := prog_28_method_2_code
def yJ6_init : MethodName := ⟨RJ6, "<init>", "(Ljava/lang/String;)V"⟩
def dkwJ6_init_0 : List UInt8 := [42, 43, 183, 0, 7, 177]
abbrev dktJ6_init_0 : List UInt8 := dkwJ6_init_0 ++ []
theorem dksJ6_init_0 : cJ6_init.data.toList.drop 0 = dktJ6_init_0 := by decide +kernel
theorem dJ6_init_0 : decode cJ6_init 0 = .ok (.aload_n 0, 1) := dk_42 (dk_at dksJ6_init_0 0 rfl rfl)
theorem dJ6_init_1 : decode cJ6_init 1 = .ok (.aload_n 1, 1) := dk_43 (dk_at dksJ6_init_0 1 rfl rfl)
theorem dJ6_init_2 : decode cJ6_init 2 = .ok (.invokespecial 7, 3) := dk_183 0 7 (dk_at dksJ6_init_0 2 rfl rfl)
theorem dJ6_init_5 : decode cJ6_init 5 = .ok (.return_, 1) := dk_177 (dk_at dksJ6_init_0 5 rfl rfl)
theorem q102 : (Jvm.Cond.initialized "java/lang/IndexOutOfBoundsException") ∈ lw_all := lw_g (lw_at lw_m1 13 rfl) rfl
theorem q402 : (Jvm.Cond.instanceMethod ({ cls := "java/lang/IndexOutOfBoundsException", name := "<init>", desc := "(Ljava/lang/String;)V" } : Jvm.MethodName)) ∈ lw_all := lw_g (lw_at lw_m2 73 rfl) rfl
theorem q403 : (Jvm.Cond.code ({ cls := "java/lang/IndexOutOfBoundsException", name := "<init>", desc := "(Ljava/lang/String;)V" } : Jvm.MethodName) prog_28_method_2_code (2 : Nat) (Option.none : Option Jvm.ClassFile.FieldType)) ∈ lw_all := lw_g (lw_at lw_m2 74 rfl) rfl
theorem q404 : (Jvm.Cond.methodLink "java/lang/IndexOutOfBoundsException" (7 : Nat) ({ cls := "java/lang/RuntimeException", name := "<init>", desc := "(Ljava/lang/String;)V" } : Jvm.MethodName)) ∈ lw_all := lw_g (lw_at lw_m2 75 rfl) rfl
theorem q421 : (Jvm.Cond.declares ({ cls := "java/lang/IndexOutOfBoundsException", name := "<init>", desc := "()V" } : Jvm.MethodName)) ∈ lw_tbl := lw_at lw_m2 92 rfl
theorem q422 : (Jvm.Cond.declares ({ cls := "java/lang/IndexOutOfBoundsException", name := "<init>", desc := "(Ljava/lang/String;)V" } : Jvm.MethodName)) ∈ lw_tbl := lw_at lw_m2 93 rfl
/-! java/lang/ArrayIndexOutOfBoundsException -/
set_option maxRecDepth 100000
def RJ7 : String := "java/lang/ArrayIndexOutOfBoundsException"
def TJ7 : u_T := fun k => match k with
  | 0 => ("java/lang/Throwable", "backtrace", "Ljava/lang/Object;", false)
  | 1 => ("java/lang/Throwable", "detailMessage", "Ljava/lang/String;", false)
  | 2 => ("java/lang/Throwable", "cause", "Ljava/lang/Throwable;", false)
  | 3 => ("java/lang/Throwable", "stackTrace", "[Ljava/lang/StackTraceElement;", false)
  | 4 => ("java/lang/Throwable", "depth", "I", false)
  | _ => ("java/lang/Throwable", "suppressedExceptions", "Ljava/util/List;", false)
def tyJ7 : Nat → FieldType := fun k => match k with
  | 0 => .object "java/lang/Object"
  | 1 => .object "java/lang/String"
  | 2 => .object "java/lang/Throwable"
  | 3 => .array (.object "java/lang/StackTraceElement")
  | 4 => .int
  | _ => .object "java/util/List"
abbrev wsJ70 : List Cond := u_ws RJ7 TJ7 6
theorem nmJ7 : ∀ a, a < 6 → ∀ b, b < 6 → a ≠ b → (TJ7 a).2.1 ≠ (TJ7 b).2.1 := by decide +kernel
theorem tyJ7_ok : ∀ k, k < 6 → parseFieldDescriptor (TJ7 k).2.2.1 = some (tyJ7 k) := by decide +kernel
abbrev cJ7_init : ByteArray := prog_22_method_2_code
def yJ7_init : MethodName := ⟨RJ7, "<init>", "(Ljava/lang/String;)V"⟩
def dkwJ7_init_0 : List UInt8 := [42, 43, 183, 0, 7, 177]
abbrev dktJ7_init_0 : List UInt8 := dkwJ7_init_0 ++ []
theorem dksJ7_init_0 : cJ7_init.data.toList.drop 0 = dktJ7_init_0 := by decide +kernel
theorem dJ7_init_0 : decode cJ7_init 0 = .ok (.aload_n 0, 1) := dk_42 (dk_at dksJ7_init_0 0 rfl rfl)
theorem dJ7_init_1 : decode cJ7_init 1 = .ok (.aload_n 1, 1) := dk_43 (dk_at dksJ7_init_0 1 rfl rfl)
theorem dJ7_init_2 : decode cJ7_init 2 = .ok (.invokespecial 7, 3) := dk_183 0 7 (dk_at dksJ7_init_0 2 rfl rfl)
theorem dJ7_init_5 : decode cJ7_init 5 = .ok (.return_, 1) := dk_177 (dk_at dksJ7_init_0 5 rfl rfl)
theorem q103 : (Jvm.Cond.initialized "java/lang/ArrayIndexOutOfBoundsException") ∈ lw_all := lw_g (lw_at lw_m1 14 rfl) rfl
theorem q324 : (Jvm.Cond.selects "java/lang/ArrayIndexOutOfBoundsException" ({ cls := "java/lang/Throwable", name := "fillInStackTrace", desc := "()Ljava/lang/Throwable;" } : Jvm.MethodName) ({ cls := "java/lang/Throwable", name := "fillInStackTrace", desc := "()Ljava/lang/Throwable;" } : Jvm.MethodName)) ∈ lw_all := lw_g (lw_at lw_m1 235 rfl) rfl
theorem q398 : (Jvm.Cond.instantiable "java/lang/ArrayIndexOutOfBoundsException" (6 : Nat)) ∈ lw_all := lw_g (lw_at lw_m2 69 rfl) rfl
theorem q399 : (Jvm.Cond.instanceMethod ({ cls := "java/lang/ArrayIndexOutOfBoundsException", name := "<init>", desc := "(Ljava/lang/String;)V" } : Jvm.MethodName)) ∈ lw_all := lw_g (lw_at lw_m2 70 rfl) rfl
theorem q400 : (Jvm.Cond.code ({ cls := "java/lang/ArrayIndexOutOfBoundsException", name := "<init>", desc := "(Ljava/lang/String;)V" } : Jvm.MethodName) prog_22_method_2_code (2 : Nat) (Option.none : Option Jvm.ClassFile.FieldType)) ∈ lw_all := lw_g (lw_at lw_m2 71 rfl) rfl
theorem q401 : (Jvm.Cond.methodLink "java/lang/ArrayIndexOutOfBoundsException" (7 : Nat) ({ cls := "java/lang/IndexOutOfBoundsException", name := "<init>", desc := "(Ljava/lang/String;)V" } : Jvm.MethodName)) ∈ lw_all := lw_g (lw_at lw_m2 72 rfl) rfl
theorem q413 : (Jvm.Cond.lays "java/lang/ArrayIndexOutOfBoundsException" "java/lang/Throwable" "backtrace" "Ljava/lang/Object;") ∈ lw_all := lw_g (lw_at lw_m2 84 rfl) rfl
theorem q414 : (Jvm.Cond.lays "java/lang/ArrayIndexOutOfBoundsException" "java/lang/Throwable" "detailMessage" "Ljava/lang/String;") ∈ lw_all := lw_g (lw_at lw_m2 85 rfl) rfl
theorem q415 : (Jvm.Cond.lays "java/lang/ArrayIndexOutOfBoundsException" "java/lang/Throwable" "cause" "Ljava/lang/Throwable;") ∈ lw_all := lw_g (lw_at lw_m2 86 rfl) rfl
theorem q416 : (Jvm.Cond.lays "java/lang/ArrayIndexOutOfBoundsException" "java/lang/Throwable" "stackTrace" "[Ljava/lang/StackTraceElement;") ∈ lw_all := lw_g (lw_at lw_m2 87 rfl) rfl
theorem q417 : (Jvm.Cond.lays "java/lang/ArrayIndexOutOfBoundsException" "java/lang/Throwable" "depth" "I") ∈ lw_all := lw_g (lw_at lw_m2 88 rfl) rfl
theorem q418 : (Jvm.Cond.lays "java/lang/ArrayIndexOutOfBoundsException" "java/lang/Throwable" "suppressedExceptions" "Ljava/util/List;") ∈ lw_all := lw_g (lw_at lw_m2 89 rfl) rfl
theorem q419 : (Jvm.Cond.superclass "java/lang/ArrayIndexOutOfBoundsException" "java/lang/IndexOutOfBoundsException") ∈ lw_all := lw_g (lw_at lw_m2 90 rfl) rfl
theorem q420 : (Jvm.Cond.castable "java/lang/ArrayIndexOutOfBoundsException" "java/lang/ArrayIndexOutOfBoundsException") ∈ lw_tbl := lw_at lw_m2 91 rfl
theorem q425 : (Jvm.Cond.selects "java/lang/ArrayIndexOutOfBoundsException" ({ cls := "java/lang/Throwable", name := "fillInStackTrace", desc := "(I)Ljava/lang/Throwable;" } : Jvm.MethodName) ({ cls := "java/lang/Throwable", name := "fillInStackTrace", desc := "(I)Ljava/lang/Throwable;" } : Jvm.MethodName)) ∈ lw_all := lw_g (lw_at lw_m2 96 rfl) rfl
theorem q699 : (Jvm.Cond.selects "java/lang/ArrayIndexOutOfBoundsException" ({ cls := "java/lang/Object", name := "getClass", desc := "()Ljava/lang/Class;" } : Jvm.MethodName) ({ cls := "java/lang/Object", name := "getClass", desc := "()Ljava/lang/Class;" } : Jvm.MethodName)) ∈ lw_all := lw_g (lw_at lw_m3 130 rfl) rfl
theorem q1901 : (Jvm.Cond.castable "java/lang/ArrayIndexOutOfBoundsException" "java/lang/IndexOutOfBoundsException") ∈ lw_tbl := lw_at lw_m8 132 rfl
theorem q1911 : (Jvm.Cond.castable "java/lang/ArrayIndexOutOfBoundsException" "java/lang/Object") ∈ lw_tbl := lw_at lw_m8 142 rfl
theorem in_J7 : ∀ w ∈ wsJ70, w ∈ lw_all := lw_in wsJ70 [413, 414, 415, 416, 417, 418] (by decide +kernel) (by decide +kernel)
/-! java/lang/String -/
set_option maxRecDepth 100000
def RJ8 : String := "java/lang/String"
def TJ8 : u_T := fun k => match k with
  | 0 => ("java/lang/String", "value", "[B", true)
  | 1 => ("java/lang/String", "coder", "B", true)
  | 2 => ("java/lang/String", "hash", "I", false)
  | _ => ("java/lang/String", "hashIsZero", "Z", false)
def tyJ8 : Nat → FieldType := fun k => match k with
  | 0 => .array .byte
  | 1 => .byte
  | 2 => .int
  | _ => .boolean
abbrev wsJ80 : List Cond := u_ws RJ8 TJ8 4
theorem nmJ8 : ∀ a, a < 4 → ∀ b, b < 4 → a ≠ b → (TJ8 a).2.1 ≠ (TJ8 b).2.1 := by decide +kernel
theorem tyJ8_ok : ∀ k, k < 4 → parseFieldDescriptor (TJ8 k).2.2.1 = some (tyJ8 k) := by decide +kernel
abbrev cJ8_checkBoundsOffCount : ByteArray := prog_33_method_157_code
def yJ8_checkBoundsOffCount : MethodName := ⟨RJ8, "checkBoundsOffCount", "(III)I"⟩
def dkwJ8_checkBoundsOffCount_0 : List UInt8 := [26, 27, 28, 178, 4, 29, 184, 4, 41, 172]
abbrev dktJ8_checkBoundsOffCount_0 : List UInt8 := dkwJ8_checkBoundsOffCount_0 ++ []
theorem dksJ8_checkBoundsOffCount_0 : cJ8_checkBoundsOffCount.data.toList.drop 0 = dktJ8_checkBoundsOffCount_0 := by decide +kernel
theorem dJ8_checkBoundsOffCount_0 : decode cJ8_checkBoundsOffCount 0 = .ok (.iload_n 0, 1) := dk_26 (dk_at dksJ8_checkBoundsOffCount_0 0 rfl rfl)
theorem dJ8_checkBoundsOffCount_1 : decode cJ8_checkBoundsOffCount 1 = .ok (.iload_n 1, 1) := dk_27 (dk_at dksJ8_checkBoundsOffCount_0 1 rfl rfl)
theorem dJ8_checkBoundsOffCount_2 : decode cJ8_checkBoundsOffCount 2 = .ok (.iload_n 2, 1) := dk_28 (dk_at dksJ8_checkBoundsOffCount_0 2 rfl rfl)
theorem dJ8_checkBoundsOffCount_3 : decode cJ8_checkBoundsOffCount 3 = .ok (.getstatic 1053, 3) := dk_178 4 29 (dk_at dksJ8_checkBoundsOffCount_0 3 rfl rfl)
theorem dJ8_checkBoundsOffCount_6 : decode cJ8_checkBoundsOffCount 6 = .ok (.invokestatic 1065, 3) := dk_184 4 41 (dk_at dksJ8_checkBoundsOffCount_0 6 rfl rfl)
theorem dJ8_checkBoundsOffCount_9 : decode cJ8_checkBoundsOffCount 9 = .ok (.ireturn, 1) := dk_172 (dk_at dksJ8_checkBoundsOffCount_0 9 rfl rfl)
abbrev cJ8_checkIndex : ByteArray := prog_33_method_155_code
def yJ8_checkIndex : MethodName := ⟨RJ8, "checkIndex", "(II)V"⟩
def dkwJ8_checkIndex_0 : List UInt8 := [26, 27, 178, 4, 29, 184, 4, 35, 87, 177]
abbrev dktJ8_checkIndex_0 : List UInt8 := dkwJ8_checkIndex_0 ++ []
theorem dksJ8_checkIndex_0 : cJ8_checkIndex.data.toList.drop 0 = dktJ8_checkIndex_0 := by decide +kernel
theorem dJ8_checkIndex_0 : decode cJ8_checkIndex 0 = .ok (.iload_n 0, 1) := dk_26 (dk_at dksJ8_checkIndex_0 0 rfl rfl)
theorem dJ8_checkIndex_1 : decode cJ8_checkIndex 1 = .ok (.iload_n 1, 1) := dk_27 (dk_at dksJ8_checkIndex_0 1 rfl rfl)
theorem dJ8_checkIndex_2 : decode cJ8_checkIndex 2 = .ok (.getstatic 1053, 3) := dk_178 4 29 (dk_at dksJ8_checkIndex_0 2 rfl rfl)
theorem dJ8_checkIndex_5 : decode cJ8_checkIndex 5 = .ok (.invokestatic 1059, 3) := dk_184 4 35 (dk_at dksJ8_checkIndex_0 5 rfl rfl)
theorem dJ8_checkIndex_8 : decode cJ8_checkIndex 8 = .ok (.pop, 1) := dk_87 (dk_at dksJ8_checkIndex_0 8 rfl rfl)
theorem dJ8_checkIndex_9 : decode cJ8_checkIndex 9 = .ok (.return_, 1) := dk_177 (dk_at dksJ8_checkIndex_0 9 rfl rfl)
abbrev cJ8_init : ByteArray := prog_33_method_53_code
def yJ8_init : MethodName := ⟨RJ8, "<init>", "(Ljava/lang/StringBuilder;)V"⟩
def dkwJ8_init_0 : List UInt8 := [42, 43, 1, 183, 1, 233, 177]
abbrev dktJ8_init_0 : List UInt8 := dkwJ8_init_0 ++ []
theorem dksJ8_init_0 : cJ8_init.data.toList.drop 0 = dktJ8_init_0 := by decide +kernel
theorem dJ8_init_0 : decode cJ8_init 0 = .ok (.aload_n 0, 1) := dk_42 (dk_at dksJ8_init_0 0 rfl rfl)
theorem dJ8_init_1 : decode cJ8_init 1 = .ok (.aload_n 1, 1) := dk_43 (dk_at dksJ8_init_0 1 rfl rfl)
theorem dJ8_init_2 : decode cJ8_init 2 = .ok (.aconst_null, 1) := dk_1 (dk_at dksJ8_init_0 2 rfl rfl)
theorem dJ8_init_3 : decode cJ8_init 3 = .ok (.invokespecial 489, 3) := dk_183 1 233 (dk_at dksJ8_init_0 3 rfl rfl)
theorem dJ8_init_6 : decode cJ8_init 6 = .ok (.return_, 1) := dk_177 (dk_at dksJ8_init_0 6 rfl rfl)
abbrev cJ8_init_2 : ByteArray := prog_33_method_150_code
def yJ8_init_2 : MethodName := ⟨RJ8, "<init>", "(Ljava/lang/AbstractStringBuilder;Ljava/lang/Void;)V"⟩
def dkwJ8_init_2_4 : List UInt8 := [181, 0, 9, 177]
abbrev dktJ8_init_2_4 : List UInt8 := dkwJ8_init_2_4 ++ []
def dkwJ8_init_2_3 : List UInt8 := [184, 0, 47, 181, 0, 15, 177, 42, 4, 181, 0, 15, 42, 45, 3, 21, 4, 4, 120, 184, 0, 54]
abbrev dktJ8_init_2_3 : List UInt8 := dkwJ8_init_2_3 ++ dktJ8_init_2_4
def dkwJ8_init_2_2 : List UInt8 := [180, 4, 24, 153, 0, 28, 42, 45, 3, 21, 4, 184, 4, 27, 181, 0, 9, 42, 42, 180, 0, 9, 21, 4]
abbrev dktJ8_init_2_2 : List UInt8 := dkwJ8_init_2_2 ++ dktJ8_init_2_3
def dkwJ8_init_2_1 : List UInt8 := [181, 0, 15, 42, 45, 3, 21, 4, 184, 0, 54, 181, 0, 9, 167, 0, 59, 178, 0, 38, 153, 0, 35, 43]
abbrev dktJ8_init_2_1 : List UInt8 := dkwJ8_init_2_1 ++ dktJ8_init_2_2
def dkwJ8_init_2_0 : List UInt8 := [42, 183, 0, 1, 43, 182, 2, 40, 78, 43, 182, 2, 37, 54, 4, 43, 182, 4, 23, 153, 0, 22, 42, 3]
abbrev dktJ8_init_2_0 : List UInt8 := dkwJ8_init_2_0 ++ dktJ8_init_2_1
theorem dksJ8_init_2_0 : cJ8_init_2.data.toList.drop 0 = dktJ8_init_2_0 := by decide +kernel
theorem dksJ8_init_2_1 : cJ8_init_2.data.toList.drop 24 = dktJ8_init_2_1 := dk_seg dksJ8_init_2_0 24 rfl rfl
theorem dksJ8_init_2_2 : cJ8_init_2.data.toList.drop 48 = dktJ8_init_2_2 := dk_seg dksJ8_init_2_1 24 rfl rfl
theorem dksJ8_init_2_3 : cJ8_init_2.data.toList.drop 72 = dktJ8_init_2_3 := dk_seg dksJ8_init_2_2 24 rfl rfl
theorem dksJ8_init_2_4 : cJ8_init_2.data.toList.drop 94 = dktJ8_init_2_4 := dk_seg dksJ8_init_2_3 22 rfl rfl
theorem dJ8_init_2_0 : decode cJ8_init_2 0 = .ok (.aload_n 0, 1) := dk_42 (dk_at dksJ8_init_2_0 0 rfl rfl)
theorem dJ8_init_2_1 : decode cJ8_init_2 1 = .ok (.invokespecial 1, 3) := dk_183 0 1 (dk_at dksJ8_init_2_0 1 rfl rfl)
theorem dJ8_init_2_4 : decode cJ8_init_2 4 = .ok (.aload_n 1, 1) := dk_43 (dk_at dksJ8_init_2_0 4 rfl rfl)
theorem dJ8_init_2_5 : decode cJ8_init_2 5 = .ok (.invokevirtual 552, 3) := dk_182 2 40 (dk_at dksJ8_init_2_0 5 rfl rfl)
theorem dJ8_init_2_8 : decode cJ8_init_2 8 = .ok (.astore_n 3, 1) := dk_78 (dk_at dksJ8_init_2_0 8 rfl rfl)
theorem dJ8_init_2_9 : decode cJ8_init_2 9 = .ok (.aload_n 1, 1) := dk_43 (dk_at dksJ8_init_2_0 9 rfl rfl)
theorem dJ8_init_2_10 : decode cJ8_init_2 10 = .ok (.invokevirtual 549, 3) := dk_182 2 37 (dk_at dksJ8_init_2_0 10 rfl rfl)
theorem dJ8_init_2_13 : decode cJ8_init_2 13 = .ok (.istore 4, 2) := dk_54 4 (dk_at dksJ8_init_2_0 13 rfl rfl)
theorem dJ8_init_2_15 : decode cJ8_init_2 15 = .ok (.aload_n 1, 1) := dk_43 (dk_at dksJ8_init_2_0 15 rfl rfl)
theorem dJ8_init_2_16 : decode cJ8_init_2 16 = .ok (.invokevirtual 1047, 3) := dk_182 4 23 (dk_at dksJ8_init_2_0 16 rfl rfl)
theorem dJ8_init_2_19 : decode cJ8_init_2 19 = .ok (.ifCond .eq 22, 3) := dk_153 0 22 (dk_at dksJ8_init_2_0 19 rfl rfl)
theorem dJ8_init_2_22 : decode cJ8_init_2 22 = .ok (.aload_n 0, 1) := dk_42 (dk_at dksJ8_init_2_0 22 rfl rfl)
theorem dJ8_init_2_23 : decode cJ8_init_2 23 = .ok (.iconst 0, 1) := dk_3 (dk_at dksJ8_init_2_0 23 rfl rfl)
theorem dJ8_init_2_24 : decode cJ8_init_2 24 = .ok (.putfield 15, 3) := dk_181 0 15 (dk_at dksJ8_init_2_1 0 rfl rfl)
theorem dJ8_init_2_27 : decode cJ8_init_2 27 = .ok (.aload_n 0, 1) := dk_42 (dk_at dksJ8_init_2_1 3 rfl rfl)
theorem dJ8_init_2_28 : decode cJ8_init_2 28 = .ok (.aload_n 3, 1) := dk_45 (dk_at dksJ8_init_2_1 4 rfl rfl)
theorem dJ8_init_2_29 : decode cJ8_init_2 29 = .ok (.iconst 0, 1) := dk_3 (dk_at dksJ8_init_2_1 5 rfl rfl)
theorem dJ8_init_2_30 : decode cJ8_init_2 30 = .ok (.iload 4, 2) := dk_21 4 (dk_at dksJ8_init_2_1 6 rfl rfl)
theorem dJ8_init_2_32 : decode cJ8_init_2 32 = .ok (.invokestatic 54, 3) := dk_184 0 54 (dk_at dksJ8_init_2_1 8 rfl rfl)
theorem dJ8_init_2_35 : decode cJ8_init_2 35 = .ok (.putfield 9, 3) := dk_181 0 9 (dk_at dksJ8_init_2_1 11 rfl rfl)
theorem dJ8_init_2_38 : decode cJ8_init_2 38 = .ok (.goto 59, 3) := dk_167 0 59 (dk_at dksJ8_init_2_1 14 rfl rfl)
theorem dJ8_init_2_41 : decode cJ8_init_2 41 = .ok (.getstatic 38, 3) := dk_178 0 38 (dk_at dksJ8_init_2_1 17 rfl rfl)
theorem dJ8_init_2_44 : decode cJ8_init_2 44 = .ok (.ifCond .eq 35, 3) := dk_153 0 35 (dk_at dksJ8_init_2_1 20 rfl rfl)
theorem dJ8_init_2_47 : decode cJ8_init_2 47 = .ok (.aload_n 1, 1) := dk_43 (dk_at dksJ8_init_2_1 23 rfl rfl)
theorem dJ8_init_2_48 : decode cJ8_init_2 48 = .ok (.getfield 1048, 3) := dk_180 4 24 (dk_at dksJ8_init_2_2 0 rfl rfl)
theorem dJ8_init_2_51 : decode cJ8_init_2 51 = .ok (.ifCond .eq 28, 3) := dk_153 0 28 (dk_at dksJ8_init_2_2 3 rfl rfl)
theorem dJ8_init_2_54 : decode cJ8_init_2 54 = .ok (.aload_n 0, 1) := dk_42 (dk_at dksJ8_init_2_2 6 rfl rfl)
theorem dJ8_init_2_55 : decode cJ8_init_2 55 = .ok (.aload_n 3, 1) := dk_45 (dk_at dksJ8_init_2_2 7 rfl rfl)
theorem dJ8_init_2_56 : decode cJ8_init_2 56 = .ok (.iconst 0, 1) := dk_3 (dk_at dksJ8_init_2_2 8 rfl rfl)
theorem dJ8_init_2_57 : decode cJ8_init_2 57 = .ok (.iload 4, 2) := dk_21 4 (dk_at dksJ8_init_2_2 9 rfl rfl)
theorem dJ8_init_2_59 : decode cJ8_init_2 59 = .ok (.invokestatic 1051, 3) := dk_184 4 27 (dk_at dksJ8_init_2_2 11 rfl rfl)
theorem dJ8_init_2_62 : decode cJ8_init_2 62 = .ok (.putfield 9, 3) := dk_181 0 9 (dk_at dksJ8_init_2_2 14 rfl rfl)
theorem dJ8_init_2_65 : decode cJ8_init_2 65 = .ok (.aload_n 0, 1) := dk_42 (dk_at dksJ8_init_2_2 17 rfl rfl)
theorem dJ8_init_2_66 : decode cJ8_init_2 66 = .ok (.aload_n 0, 1) := dk_42 (dk_at dksJ8_init_2_2 18 rfl rfl)
theorem dJ8_init_2_67 : decode cJ8_init_2 67 = .ok (.getfield 9, 3) := dk_180 0 9 (dk_at dksJ8_init_2_2 19 rfl rfl)
theorem dJ8_init_2_70 : decode cJ8_init_2 70 = .ok (.iload 4, 2) := dk_21 4 (dk_at dksJ8_init_2_2 22 rfl rfl)
theorem dJ8_init_2_72 : decode cJ8_init_2 72 = .ok (.invokestatic 47, 3) := dk_184 0 47 (dk_at dksJ8_init_2_3 0 rfl rfl)
theorem dJ8_init_2_75 : decode cJ8_init_2 75 = .ok (.putfield 15, 3) := dk_181 0 15 (dk_at dksJ8_init_2_3 3 rfl rfl)
theorem dJ8_init_2_78 : decode cJ8_init_2 78 = .ok (.return_, 1) := dk_177 (dk_at dksJ8_init_2_3 6 rfl rfl)
theorem dJ8_init_2_79 : decode cJ8_init_2 79 = .ok (.aload_n 0, 1) := dk_42 (dk_at dksJ8_init_2_3 7 rfl rfl)
theorem dJ8_init_2_80 : decode cJ8_init_2 80 = .ok (.iconst 1, 1) := dk_4 (dk_at dksJ8_init_2_3 8 rfl rfl)
theorem dJ8_init_2_81 : decode cJ8_init_2 81 = .ok (.putfield 15, 3) := dk_181 0 15 (dk_at dksJ8_init_2_3 9 rfl rfl)
theorem dJ8_init_2_84 : decode cJ8_init_2 84 = .ok (.aload_n 0, 1) := dk_42 (dk_at dksJ8_init_2_3 12 rfl rfl)
theorem dJ8_init_2_85 : decode cJ8_init_2 85 = .ok (.aload_n 3, 1) := dk_45 (dk_at dksJ8_init_2_3 13 rfl rfl)
theorem dJ8_init_2_86 : decode cJ8_init_2 86 = .ok (.iconst 0, 1) := dk_3 (dk_at dksJ8_init_2_3 14 rfl rfl)
theorem dJ8_init_2_87 : decode cJ8_init_2 87 = .ok (.iload 4, 2) := dk_21 4 (dk_at dksJ8_init_2_3 15 rfl rfl)
theorem dJ8_init_2_89 : decode cJ8_init_2 89 = .ok (.iconst 1, 1) := dk_4 (dk_at dksJ8_init_2_3 17 rfl rfl)
theorem dJ8_init_2_90 : decode cJ8_init_2 90 = .ok (.ishl, 1) := dk_120 (dk_at dksJ8_init_2_3 18 rfl rfl)
theorem dJ8_init_2_91 : decode cJ8_init_2 91 = .ok (.invokestatic 54, 3) := dk_184 0 54 (dk_at dksJ8_init_2_3 19 rfl rfl)
theorem dJ8_init_2_94 : decode cJ8_init_2 94 = .ok (.putfield 9, 3) := dk_181 0 9 (dk_at dksJ8_init_2_4 0 rfl rfl)
theorem dJ8_init_2_97 : decode cJ8_init_2 97 = .ok (.return_, 1) := dk_177 (dk_at dksJ8_init_2_4 3 rfl rfl)
abbrev cJ8_equals : ByteArray := prog_33_method_66_code
def yJ8_equals : MethodName := ⟨RJ8, "equals", "(Ljava/lang/Object;)Z"⟩
def dkwJ8_equals_2 : List UInt8 := [184, 2, 29, 153, 0, 7, 4, 167, 0, 4, 3, 172]
abbrev dktJ8_equals_2 : List UInt8 := dkwJ8_equals_2 ++ []
def dkwJ8_equals_1 : List UInt8 := [153, 0, 14, 42, 180, 0, 15, 44, 180, 0, 15, 160, 0, 21, 42, 180, 0, 9, 44, 180, 0, 9]
abbrev dktJ8_equals_1 : List UInt8 := dkwJ8_equals_1 ++ dktJ8_equals_2
def dkwJ8_equals_0 : List UInt8 := [42, 43, 166, 0, 5, 4, 172, 43, 193, 0, 10, 153, 0, 43, 43, 192, 0, 10, 77, 178, 0, 38]
abbrev dktJ8_equals_0 : List UInt8 := dkwJ8_equals_0 ++ dktJ8_equals_1
theorem dksJ8_equals_0 : cJ8_equals.data.toList.drop 0 = dktJ8_equals_0 := by decide +kernel
theorem dksJ8_equals_1 : cJ8_equals.data.toList.drop 22 = dktJ8_equals_1 := dk_seg dksJ8_equals_0 22 rfl rfl
theorem dksJ8_equals_2 : cJ8_equals.data.toList.drop 44 = dktJ8_equals_2 := dk_seg dksJ8_equals_1 22 rfl rfl
theorem dJ8_equals_0 : decode cJ8_equals 0 = .ok (.aload_n 0, 1) := dk_42 (dk_at dksJ8_equals_0 0 rfl rfl)
theorem dJ8_equals_1 : decode cJ8_equals 1 = .ok (.aload_n 1, 1) := dk_43 (dk_at dksJ8_equals_0 1 rfl rfl)
theorem dJ8_equals_2 : decode cJ8_equals 2 = .ok (.if_acmp .ne 5, 3) := dk_166 0 5 (dk_at dksJ8_equals_0 2 rfl rfl)
theorem dJ8_equals_5 : decode cJ8_equals 5 = .ok (.iconst 1, 1) := dk_4 (dk_at dksJ8_equals_0 5 rfl rfl)
theorem dJ8_equals_6 : decode cJ8_equals 6 = .ok (.ireturn, 1) := dk_172 (dk_at dksJ8_equals_0 6 rfl rfl)
theorem dJ8_equals_7 : decode cJ8_equals 7 = .ok (.aload_n 1, 1) := dk_43 (dk_at dksJ8_equals_0 7 rfl rfl)
theorem dJ8_equals_8 : decode cJ8_equals 8 = .ok (.instanceof 10, 3) := dk_193 0 10 (dk_at dksJ8_equals_0 8 rfl rfl)
theorem dJ8_equals_11 : decode cJ8_equals 11 = .ok (.ifCond .eq 43, 3) := dk_153 0 43 (dk_at dksJ8_equals_0 11 rfl rfl)
theorem dJ8_equals_14 : decode cJ8_equals 14 = .ok (.aload_n 1, 1) := dk_43 (dk_at dksJ8_equals_0 14 rfl rfl)
theorem dJ8_equals_15 : decode cJ8_equals 15 = .ok (.checkcast 10, 3) := dk_192 0 10 (dk_at dksJ8_equals_0 15 rfl rfl)
theorem dJ8_equals_18 : decode cJ8_equals 18 = .ok (.astore_n 2, 1) := dk_77 (dk_at dksJ8_equals_0 18 rfl rfl)
theorem dJ8_equals_19 : decode cJ8_equals 19 = .ok (.getstatic 38, 3) := dk_178 0 38 (dk_at dksJ8_equals_0 19 rfl rfl)
theorem dJ8_equals_22 : decode cJ8_equals 22 = .ok (.ifCond .eq 14, 3) := dk_153 0 14 (dk_at dksJ8_equals_1 0 rfl rfl)
theorem dJ8_equals_25 : decode cJ8_equals 25 = .ok (.aload_n 0, 1) := dk_42 (dk_at dksJ8_equals_1 3 rfl rfl)
theorem dJ8_equals_26 : decode cJ8_equals 26 = .ok (.getfield 15, 3) := dk_180 0 15 (dk_at dksJ8_equals_1 4 rfl rfl)
theorem dJ8_equals_29 : decode cJ8_equals 29 = .ok (.aload_n 2, 1) := dk_44 (dk_at dksJ8_equals_1 7 rfl rfl)
theorem dJ8_equals_30 : decode cJ8_equals 30 = .ok (.getfield 15, 3) := dk_180 0 15 (dk_at dksJ8_equals_1 8 rfl rfl)
theorem dJ8_equals_33 : decode cJ8_equals 33 = .ok (.if_icmp .ne 21, 3) := dk_160 0 21 (dk_at dksJ8_equals_1 11 rfl rfl)
theorem dJ8_equals_36 : decode cJ8_equals 36 = .ok (.aload_n 0, 1) := dk_42 (dk_at dksJ8_equals_1 14 rfl rfl)
theorem dJ8_equals_37 : decode cJ8_equals 37 = .ok (.getfield 9, 3) := dk_180 0 9 (dk_at dksJ8_equals_1 15 rfl rfl)
theorem dJ8_equals_40 : decode cJ8_equals 40 = .ok (.aload_n 2, 1) := dk_44 (dk_at dksJ8_equals_1 18 rfl rfl)
theorem dJ8_equals_41 : decode cJ8_equals 41 = .ok (.getfield 9, 3) := dk_180 0 9 (dk_at dksJ8_equals_1 19 rfl rfl)
theorem dJ8_equals_44 : decode cJ8_equals 44 = .ok (.invokestatic 541, 3) := dk_184 2 29 (dk_at dksJ8_equals_2 0 rfl rfl)
theorem dJ8_equals_47 : decode cJ8_equals 47 = .ok (.ifCond .eq 7, 3) := dk_153 0 7 (dk_at dksJ8_equals_2 3 rfl rfl)
theorem dJ8_equals_50 : decode cJ8_equals 50 = .ok (.iconst 1, 1) := dk_4 (dk_at dksJ8_equals_2 6 rfl rfl)
theorem dJ8_equals_51 : decode cJ8_equals 51 = .ok (.goto 4, 3) := dk_167 0 4 (dk_at dksJ8_equals_2 7 rfl rfl)
theorem dJ8_equals_54 : decode cJ8_equals 54 = .ok (.iconst 0, 1) := dk_3 (dk_at dksJ8_equals_2 10 rfl rfl)
theorem dJ8_equals_55 : decode cJ8_equals 55 = .ok (.ireturn, 1) := dk_172 (dk_at dksJ8_equals_2 11 rfl rfl)
theorem q104 : (Jvm.Cond.initialized "java/lang/String") ∈ lw_all := lw_g (lw_at lw_m1 15 rfl) rfl
theorem q426 : (Jvm.Cond.instantiable "java/lang/String" (4 : Nat)) ∈ lw_all := lw_g (lw_at lw_m2 97 rfl) rfl
theorem q427 : (Jvm.Cond.laysFinal "java/lang/String" "java/lang/String" "value" "[B") ∈ lw_all := lw_g (lw_at lw_m2 98 rfl) rfl
theorem q428 : (Jvm.Cond.soleField "java/lang/String" "value") ∈ lw_all := lw_g (lw_at lw_m2 99 rfl) rfl
theorem q429 : (Jvm.Cond.laysFinal "java/lang/String" "java/lang/String" "coder" "B") ∈ lw_all := lw_g (lw_at lw_m2 100 rfl) rfl
theorem q430 : (Jvm.Cond.soleField "java/lang/String" "coder") ∈ lw_all := lw_g (lw_at lw_m2 101 rfl) rfl
theorem q701 : (Jvm.Cond.selects "java/lang/String" ({ cls := "java/lang/Object", name := "getClass", desc := "()Ljava/lang/Class;" } : Jvm.MethodName) ({ cls := "java/lang/Object", name := "getClass", desc := "()Ljava/lang/Class;" } : Jvm.MethodName)) ∈ lw_all := lw_g (lw_at lw_m3 132 rfl) rfl
theorem q880 : (Jvm.Cond.laysStatic "java/lang/String" "COMPACT_STRINGS" "Z") ∈ lw_tbl := lw_at lw_m4 71 rfl
theorem q890 : (Jvm.Cond.fieldLink "java/lang/String" (1048 : Nat) "java/lang/AbstractStringBuilder" "maybeLatin1" "Z") ∈ lw_all := lw_g (lw_at lw_m4 81 rfl) rfl
theorem q953 : (Jvm.Cond.static ({ cls := "java/lang/String", name := "checkBoundsOffCount", desc := "(III)I" } : Jvm.MethodName)) ∈ lw_all := lw_g (lw_at lw_m4 144 rfl) rfl
theorem q954 : (Jvm.Cond.code ({ cls := "java/lang/String", name := "checkBoundsOffCount", desc := "(III)I" } : Jvm.MethodName) prog_33_method_157_code (3 : Nat) (Option.some Jvm.ClassFile.FieldType.int)) ∈ lw_all := lw_g (lw_at lw_m4 145 rfl) rfl
theorem q955 : (Jvm.Cond.fieldLink "java/lang/String" (1053 : Nat) "jdk/internal/util/Preconditions" "SIOOBE_FORMATTER" "Ljava/util/function/BiFunction;") ∈ lw_all := lw_g (lw_at lw_m4 146 rfl) rfl
theorem q957 : (Jvm.Cond.methodLink "java/lang/String" (1065 : Nat) ({ cls := "jdk/internal/util/Preconditions", name := "checkFromIndexSize", desc := "(IIILjava/util/function/BiFunction;)I" } : Jvm.MethodName)) ∈ lw_all := lw_g (lw_at lw_m4 148 rfl) rfl
theorem q976 : (Jvm.Cond.static ({ cls := "java/lang/String", name := "checkIndex", desc := "(II)V" } : Jvm.MethodName)) ∈ lw_all := lw_g (lw_at lw_m4 167 rfl) rfl
theorem q977 : (Jvm.Cond.code ({ cls := "java/lang/String", name := "checkIndex", desc := "(II)V" } : Jvm.MethodName) prog_33_method_155_code (2 : Nat) (Option.none : Option Jvm.ClassFile.FieldType)) ∈ lw_all := lw_g (lw_at lw_m4 168 rfl) rfl
theorem q978 : (Jvm.Cond.methodLink "java/lang/String" (1059 : Nat) ({ cls := "jdk/internal/util/Preconditions", name := "checkIndex", desc := "(IILjava/util/function/BiFunction;)I" } : Jvm.MethodName)) ∈ lw_all := lw_g (lw_at lw_m4 169 rfl) rfl
theorem q985 : (Jvm.Cond.instanceMethod ({ cls := "java/lang/String", name := "<init>", desc := "(Ljava/lang/StringBuilder;)V" } : Jvm.MethodName)) ∈ lw_all := lw_g (lw_at lw_m4 176 rfl) rfl
theorem q986 : (Jvm.Cond.code ({ cls := "java/lang/String", name := "<init>", desc := "(Ljava/lang/StringBuilder;)V" } : Jvm.MethodName) prog_33_method_53_code (2 : Nat) (Option.none : Option Jvm.ClassFile.FieldType)) ∈ lw_all := lw_g (lw_at lw_m4 177 rfl) rfl
theorem q987 : (Jvm.Cond.methodLink "java/lang/String" (489 : Nat) ({ cls := "java/lang/String", name := "<init>", desc := "(Ljava/lang/AbstractStringBuilder;Ljava/lang/Void;)V" } : Jvm.MethodName)) ∈ lw_all := lw_g (lw_at lw_m4 178 rfl) rfl
theorem q988 : (Jvm.Cond.instanceMethod ({ cls := "java/lang/String", name := "<init>", desc := "(Ljava/lang/AbstractStringBuilder;Ljava/lang/Void;)V" } : Jvm.MethodName)) ∈ lw_all := lw_g (lw_at lw_m4 179 rfl) rfl
theorem q989 : (Jvm.Cond.code ({ cls := "java/lang/String", name := "<init>", desc := "(Ljava/lang/AbstractStringBuilder;Ljava/lang/Void;)V" } : Jvm.MethodName) prog_33_method_150_code (5 : Nat) (Option.none : Option Jvm.ClassFile.FieldType)) ∈ lw_all := lw_g (lw_at lw_m4 180 rfl) rfl
theorem q990 : (Jvm.Cond.methodLink "java/lang/String" (1 : Nat) ({ cls := "java/lang/Object", name := "<init>", desc := "()V" } : Jvm.MethodName)) ∈ lw_all := lw_g (lw_at lw_m4 181 rfl) rfl
theorem q991 : (Jvm.Cond.methodLink "java/lang/String" (552 : Nat) ({ cls := "java/lang/AbstractStringBuilder", name := "getValue", desc := "()[B" } : Jvm.MethodName)) ∈ lw_all := lw_g (lw_at lw_m4 182 rfl) rfl
theorem q996 : (Jvm.Cond.methodLink "java/lang/String" (549 : Nat) ({ cls := "java/lang/AbstractStringBuilder", name := "length", desc := "()I" } : Jvm.MethodName)) ∈ lw_all := lw_g (lw_at lw_m4 187 rfl) rfl
theorem q1004 : (Jvm.Cond.methodLink "java/lang/String" (1047 : Nat) ({ cls := "java/lang/AbstractStringBuilder", name := "isLatin1", desc := "()Z" } : Jvm.MethodName)) ∈ lw_all := lw_g (lw_at lw_m4 195 rfl) rfl
theorem q1005 : (Jvm.Cond.methodLink "java/lang/String" (54 : Nat) ({ cls := "java/util/Arrays", name := "copyOfRange", desc := "([BII)[B" } : Jvm.MethodName)) ∈ lw_all := lw_g (lw_at lw_m4 196 rfl) rfl
theorem q1014 : (Jvm.Cond.fieldLink "java/lang/String" (38 : Nat) "java/lang/String" "COMPACT_STRINGS" "Z") ∈ lw_all := lw_g (lw_at lw_m4 205 rfl) rfl
theorem q1015 : (Jvm.Cond.methodLink "java/lang/String" (1051 : Nat) ({ cls := "java/lang/StringUTF16", name := "compress", desc := "([BII)[B" } : Jvm.MethodName)) ∈ lw_all := lw_g (lw_at lw_m4 206 rfl) rfl
theorem q1025 : (Jvm.Cond.methodLink "java/lang/String" (47 : Nat) ({ cls := "java/lang/StringUTF16", name := "coderFromArrayLen", desc := "([BI)B" } : Jvm.MethodName)) ∈ lw_all := lw_g (lw_at lw_m4 216 rfl) rfl
theorem q1028 : (Jvm.Cond.fieldLink "java/lang/String" (9 : Nat) "java/lang/String" "value" "[B") ∈ lw_all := lw_g (lw_at lw_m4 219 rfl) rfl
theorem q1029 : (Jvm.Cond.fieldLink "java/lang/String" (15 : Nat) "java/lang/String" "coder" "B") ∈ lw_all := lw_g (lw_at lw_m4 220 rfl) rfl
theorem q1030 : (Jvm.Cond.lays "java/lang/String" "java/lang/String" "hash" "I") ∈ lw_all := lw_g (lw_at lw_m4 221 rfl) rfl
theorem q1031 : (Jvm.Cond.soleField "java/lang/String" "hash") ∈ lw_all := lw_g (lw_at lw_m4 222 rfl) rfl
theorem q1032 : (Jvm.Cond.lays "java/lang/String" "java/lang/String" "hashIsZero" "Z") ∈ lw_all := lw_g (lw_at lw_m4 223 rfl) rfl
theorem q1033 : (Jvm.Cond.soleField "java/lang/String" "hashIsZero") ∈ lw_all := lw_g (lw_at lw_m4 224 rfl) rfl
theorem q1034 : (Jvm.Cond.superclass "java/lang/String" "java/lang/Object") ∈ lw_all := lw_g (lw_at lw_m4 225 rfl) rfl
theorem q1043 : (Jvm.Cond.instanceMethod ({ cls := "java/lang/String", name := "equals", desc := "(Ljava/lang/Object;)Z" } : Jvm.MethodName)) ∈ lw_all := lw_g (lw_at lw_m4 234 rfl) rfl
theorem q1044 : (Jvm.Cond.selects "java/lang/String" ({ cls := "java/lang/String", name := "equals", desc := "(Ljava/lang/Object;)Z" } : Jvm.MethodName) ({ cls := "java/lang/String", name := "equals", desc := "(Ljava/lang/Object;)Z" } : Jvm.MethodName)) ∈ lw_all := lw_g (lw_at lw_m4 235 rfl) rfl
theorem q1045 : (Jvm.Cond.code ({ cls := "java/lang/String", name := "equals", desc := "(Ljava/lang/Object;)Z" } : Jvm.MethodName) prog_33_method_66_code (3 : Nat) (Option.some Jvm.ClassFile.FieldType.boolean)) ∈ lw_all := lw_g (lw_at lw_m4 236 rfl) rfl
theorem q1046 : (Jvm.Cond.classLink "java/lang/String" (10 : Nat) "java/lang/String") ∈ lw_all := lw_g (lw_at lw_m4 237 rfl) rfl
theorem q1047 : (Jvm.Cond.methodLink "java/lang/String" (541 : Nat) ({ cls := "java/lang/StringLatin1", name := "equals", desc := "([B[B)Z" } : Jvm.MethodName)) ∈ lw_all := lw_g (lw_at lw_m4 238 rfl) rfl
theorem q1905 : (Jvm.Cond.castable "java/lang/String" "java/lang/Object") ∈ lw_tbl := lw_at lw_m8 136 rfl
theorem in_J8 : ∀ w ∈ wsJ80, w ∈ lw_all := lw_in wsJ80 [427, 429, 1030, 1032] (by decide +kernel) (by decide +kernel)
/-! java/lang/Math -/
set_option maxRecDepth 100000
def RJ9 : String := "java/lang/Math"
abbrev cJ9_abs : ByteArray := prog_31_method_59_code
def yJ9_abs : MethodName := ⟨RJ9, "abs", "(I)I"⟩
def dkwJ9_abs_0 : List UInt8 := [26, 156, 0, 8, 26, 116, 167, 0, 4, 26, 172]
abbrev dktJ9_abs_0 : List UInt8 := dkwJ9_abs_0 ++ []
theorem dksJ9_abs_0 : cJ9_abs.data.toList.drop 0 = dktJ9_abs_0 := by decide +kernel
theorem dJ9_abs_0 : decode cJ9_abs 0 = .ok (.iload_n 0, 1) := dk_26 (dk_at dksJ9_abs_0 0 rfl rfl)
theorem dJ9_abs_1 : decode cJ9_abs 1 = .ok (.ifCond .ge 8, 3) := dk_156 0 8 (dk_at dksJ9_abs_0 1 rfl rfl)
theorem dJ9_abs_4 : decode cJ9_abs 4 = .ok (.iload_n 0, 1) := dk_26 (dk_at dksJ9_abs_0 4 rfl rfl)
theorem dJ9_abs_5 : decode cJ9_abs 5 = .ok (.ineg, 1) := dk_116 (dk_at dksJ9_abs_0 5 rfl rfl)
theorem dJ9_abs_6 : decode cJ9_abs 6 = .ok (.goto 4, 3) := dk_167 0 4 (dk_at dksJ9_abs_0 6 rfl rfl)
theorem dJ9_abs_9 : decode cJ9_abs 9 = .ok (.iload_n 0, 1) := dk_26 (dk_at dksJ9_abs_0 9 rfl rfl)
theorem dJ9_abs_10 : decode cJ9_abs 10 = .ok (.ireturn, 1) := dk_172 (dk_at dksJ9_abs_0 10 rfl rfl)
abbrev cJ9_max : ByteArray := prog_31_method_65_code
def yJ9_max : MethodName := ⟨RJ9, "max", "(II)I"⟩
def dkwJ9_max_0 : List UInt8 := [26, 27, 161, 0, 7, 26, 167, 0, 4, 27, 172]
abbrev dktJ9_max_0 : List UInt8 := dkwJ9_max_0 ++ []
theorem dksJ9_max_0 : cJ9_max.data.toList.drop 0 = dktJ9_max_0 := by decide +kernel
theorem dJ9_max_0 : decode cJ9_max 0 = .ok (.iload_n 0, 1) := dk_26 (dk_at dksJ9_max_0 0 rfl rfl)
theorem dJ9_max_1 : decode cJ9_max 1 = .ok (.iload_n 1, 1) := dk_27 (dk_at dksJ9_max_0 1 rfl rfl)
theorem dJ9_max_2 : decode cJ9_max 2 = .ok (.if_icmp .lt 7, 3) := dk_161 0 7 (dk_at dksJ9_max_0 2 rfl rfl)
theorem dJ9_max_5 : decode cJ9_max 5 = .ok (.iload_n 0, 1) := dk_26 (dk_at dksJ9_max_0 5 rfl rfl)
theorem dJ9_max_6 : decode cJ9_max 6 = .ok (.goto 4, 3) := dk_167 0 4 (dk_at dksJ9_max_0 6 rfl rfl)
theorem dJ9_max_9 : decode cJ9_max 9 = .ok (.iload_n 1, 1) := dk_27 (dk_at dksJ9_max_0 9 rfl rfl)
theorem dJ9_max_10 : decode cJ9_max 10 = .ok (.ireturn, 1) := dk_172 (dk_at dksJ9_max_0 10 rfl rfl)
abbrev cJ9_min : ByteArray := prog_31_method_69_code
def yJ9_min : MethodName := ⟨RJ9, "min", "(II)I"⟩
def dkwJ9_min_0 : List UInt8 := [26, 27, 163, 0, 7, 26, 167, 0, 4, 27, 172]
abbrev dktJ9_min_0 : List UInt8 := dkwJ9_min_0 ++ []
theorem dksJ9_min_0 : cJ9_min.data.toList.drop 0 = dktJ9_min_0 := by decide +kernel
theorem dJ9_min_0 : decode cJ9_min 0 = .ok (.iload_n 0, 1) := dk_26 (dk_at dksJ9_min_0 0 rfl rfl)
theorem dJ9_min_1 : decode cJ9_min 1 = .ok (.iload_n 1, 1) := dk_27 (dk_at dksJ9_min_0 1 rfl rfl)
theorem dJ9_min_2 : decode cJ9_min 2 = .ok (.if_icmp .gt 7, 3) := dk_163 0 7 (dk_at dksJ9_min_0 2 rfl rfl)
theorem dJ9_min_5 : decode cJ9_min 5 = .ok (.iload_n 0, 1) := dk_26 (dk_at dksJ9_min_0 5 rfl rfl)
theorem dJ9_min_6 : decode cJ9_min 6 = .ok (.goto 4, 3) := dk_167 0 4 (dk_at dksJ9_min_0 6 rfl rfl)
theorem dJ9_min_9 : decode cJ9_min 9 = .ok (.iload_n 1, 1) := dk_27 (dk_at dksJ9_min_0 9 rfl rfl)
theorem dJ9_min_10 : decode cJ9_min 10 = .ok (.ireturn, 1) := dk_172 (dk_at dksJ9_min_0 10 rfl rfl)
theorem q106 : (Jvm.Cond.initialized "java/lang/Math") ∈ lw_all := lw_g (lw_at lw_m1 17 rfl) rfl
theorem q592 : (Jvm.Cond.static ({ cls := "java/lang/Math", name := "abs", desc := "(I)I" } : Jvm.MethodName)) ∈ lw_all := lw_g (lw_at lw_m3 23 rfl) rfl
theorem q593 : (Jvm.Cond.code ({ cls := "java/lang/Math", name := "abs", desc := "(I)I" } : Jvm.MethodName) prog_31_method_59_code (1 : Nat) (Option.some Jvm.ClassFile.FieldType.int)) ∈ lw_all := lw_g (lw_at lw_m3 24 rfl) rfl
theorem q672 : (Jvm.Cond.static ({ cls := "java/lang/Math", name := "max", desc := "(II)I" } : Jvm.MethodName)) ∈ lw_all := lw_g (lw_at lw_m3 103 rfl) rfl
theorem q673 : (Jvm.Cond.code ({ cls := "java/lang/Math", name := "max", desc := "(II)I" } : Jvm.MethodName) prog_31_method_65_code (2 : Nat) (Option.some Jvm.ClassFile.FieldType.int)) ∈ lw_all := lw_g (lw_at lw_m3 104 rfl) rfl
theorem q712 : (Jvm.Cond.static ({ cls := "java/lang/Math", name := "min", desc := "(II)I" } : Jvm.MethodName)) ∈ lw_all := lw_g (lw_at lw_m3 143 rfl) rfl
theorem q713 : (Jvm.Cond.code ({ cls := "java/lang/Math", name := "min", desc := "(II)I" } : Jvm.MethodName) prog_31_method_69_code (2 : Nat) (Option.some Jvm.ClassFile.FieldType.int)) ∈ lw_all := lw_g (lw_at lw_m3 144 rfl) rfl
theorem q89 : (Jvm.Cond.initialized "TableArmsLaw") ∈ lw_all := lw_g (lw_at lw_m1 0 rfl) rfl
set_option maxRecDepth 100000
theorem q127 : (Jvm.Cond.classLink "TableArmsLaw" (7 : Nat) "TableArms") ∈ lw_all := lw_g (lw_at lw_m1 38 rfl) rfl
theorem q129 : (Jvm.Cond.methodLink "TableArmsLaw" (9 : Nat) ({ cls := "TableArms", name := "<init>", desc := "()V" } : Jvm.MethodName)) ∈ lw_all := lw_g (lw_at lw_m1 40 rfl) rfl
theorem q276 : (Jvm.Cond.methodLink "TableArmsLaw" (13 : Nat) ({ cls := "TableArms", name := "sheet", desc := "(III)I" } : Jvm.MethodName)) ∈ lw_all := lw_g (lw_at lw_m1 187 rfl) rfl
theorem q381 : (Jvm.Cond.methodLink "TableArmsLaw" (18 : Nat) ({ cls := "TableArms", name := "set", desc := "(III)I" } : Jvm.MethodName)) ∈ lw_all := lw_g (lw_at lw_m2 52 rfl) rfl
theorem q393 : (Jvm.Cond.methodLink "TableArmsLaw" (22 : Nat) ({ cls := "TableArms", name := "copy", desc := "(IIIII)I" } : Jvm.MethodName)) ∈ lw_all := lw_g (lw_at lw_m2 64 rfl) rfl
theorem q434 : (Jvm.Cond.methodLink "TableArmsLaw" (27 : Nat) ({ cls := "TableArms", name := "drop", desc := "(I)I" } : Jvm.MethodName)) ∈ lw_all := lw_g (lw_at lw_m2 105 rfl) rfl
theorem q438 : (Jvm.Cond.methodLink "TableArmsLaw" (32 : Nat) ({ cls := "TableArms", name := "thing", desc := "(III)I" } : Jvm.MethodName)) ∈ lw_all := lw_g (lw_at lw_m2 109 rfl) rfl
theorem q460 : (Jvm.Cond.methodLink "TableArmsLaw" (36 : Nat) ({ cls := "TableArms", name := "where", desc := "(II)I" } : Jvm.MethodName)) ∈ lw_all := lw_g (lw_at lw_m2 131 rfl) rfl
theorem q485 : (Jvm.Cond.methodLink "TableArmsLaw" (41 : Nat) ({ cls := "TableArms", name := "pile", desc := "(II)I" } : Jvm.MethodName)) ∈ lw_all := lw_g (lw_at lw_m2 156 rfl) rfl
theorem q490 : (Jvm.Cond.methodLink "TableArmsLaw" (45 : Nat) ({ cls := "TableArms", name := "reach", desc := "(II)I" } : Jvm.MethodName)) ∈ lw_all := lw_g (lw_at lw_m2 161 rfl) rfl
theorem q498 : (Jvm.Cond.methodLink "TableArmsLaw" (49 : Nat) ({ cls := "TableArms", name := "move", desc := "(III)I" } : Jvm.MethodName)) ∈ lw_all := lw_g (lw_at lw_m2 169 rfl) rfl
theorem q543 : (Jvm.Cond.methodLink "TableArmsLaw" (53 : Nat) ({ cls := "TableArms", name := "keep", desc := "()I" } : Jvm.MethodName)) ∈ lw_all := lw_g (lw_at lw_m2 214 rfl) rfl
theorem q552 : (Jvm.Cond.methodLink "TableArmsLaw" (58 : Nat) ({ cls := "TableArms", name := "back", desc := "(I)I" } : Jvm.MethodName)) ∈ lw_all := lw_g (lw_at lw_m2 223 rfl) rfl
theorem q560 : (Jvm.Cond.methodLink "TableArmsLaw" (62 : Nat) ({ cls := "TableArms", name := "same", desc := "(II)I" } : Jvm.MethodName)) ∈ lw_all := lw_g (lw_at lw_m2 231 rfl) rfl
theorem q568 : (Jvm.Cond.methodLink "TableArmsLaw" (66 : Nat) ({ cls := "TableArms", name := "order", desc := "(I)I" } : Jvm.MethodName)) ∈ lw_all := lw_g (lw_at lw_m2 239 rfl) rfl
theorem q605 : (Jvm.Cond.methodLink "TableArmsLaw" (70 : Nat) ({ cls := "TableArms", name := "lesson", desc := "(IIII)I" } : Jvm.MethodName)) ∈ lw_all := lw_g (lw_at lw_m3 36 rfl) rfl
theorem q717 : (Jvm.Cond.methodLink "TableArmsLaw" (75 : Nat) ({ cls := "TableArms", name := "lessons", desc := "(III)I" } : Jvm.MethodName)) ∈ lw_all := lw_g (lw_at lw_m3 148 rfl) rfl
theorem q729 : (Jvm.Cond.methodLink "TableArmsLaw" (79 : Nat) ({ cls := "TableArms", name := "unteach", desc := "(I)I" } : Jvm.MethodName)) ∈ lw_all := lw_g (lw_at lw_m3 160 rfl) rfl
theorem q752 : (Jvm.Cond.methodLink "TableArmsLaw" (83 : Nat) ({ cls := "TableArms", name := "fits", desc := "(I)I" } : Jvm.MethodName)) ∈ lw_all := lw_g (lw_at lw_m3 183 rfl) rfl
theorem q764 : (Jvm.Cond.methodLink "TableArmsLaw" (87 : Nat) ({ cls := "TableArms", name := "barred", desc := "(II)I" } : Jvm.MethodName)) ∈ lw_all := lw_g (lw_at lw_m3 195 rfl) rfl
theorem q772 : (Jvm.Cond.methodLink "TableArmsLaw" (91 : Nat) ({ cls := "TableArms", name := "question", desc := "(I)I" } : Jvm.MethodName)) ∈ lw_all := lw_g (lw_at lw_m3 203 rfl) rfl
theorem q780 : (Jvm.Cond.methodLink "TableArmsLaw" (95 : Nat) ({ cls := "TableArms", name := "quarrel", desc := "()I" } : Jvm.MethodName)) ∈ lw_all := lw_g (lw_at lw_m3 211 rfl) rfl
theorem q790 : (Jvm.Cond.methodLink "TableArmsLaw" (99 : Nat) ({ cls := "TableArms", name := "plan", desc := "(II)I" } : Jvm.MethodName)) ∈ lw_all := lw_g (lw_at lw_m3 221 rfl) rfl
theorem q806 : (Jvm.Cond.methodLink "TableArmsLaw" (105 : Nat) ({ cls := "TableArms", name := "feed", desc := "(JI)I" } : Jvm.MethodName)) ∈ lw_all := lw_g (lw_at lw_m3 237 rfl) rfl
theorem q811 : (Jvm.Cond.methodLink "TableArmsLaw" (110 : Nat) ({ cls := "TableArms", name := "nevers", desc := "()I" } : Jvm.MethodName)) ∈ lw_all := lw_g (lw_at lw_m4 2 rfl) rfl
theorem q1123 : (Jvm.Cond.methodLink "TableArmsLaw" (114 : Nat) ({ cls := "TableArms", name := "fault", desc := "()I" } : Jvm.MethodName)) ∈ lw_all := lw_g (lw_at lw_m5 74 rfl) rfl
theorem q1127 : (Jvm.Cond.methodLink "TableArmsLaw" (118 : Nat) ({ cls := "TableArms", name := "broken", desc := "()I" } : Jvm.MethodName)) ∈ lw_all := lw_g (lw_at lw_m5 78 rfl) rfl
theorem q1143 : (Jvm.Cond.methodLink "TableArmsLaw" (122 : Nat) ({ cls := "TableArms", name := "let", desc := "(III)I" } : Jvm.MethodName)) ∈ lw_all := lw_g (lw_at lw_m5 94 rfl) rfl
theorem q1151 : (Jvm.Cond.methodLink "TableArmsLaw" (126 : Nat) ({ cls := "TableArms", name := "ways", desc := "(IIII)I" } : Jvm.MethodName)) ∈ lw_all := lw_g (lw_at lw_m5 102 rfl) rfl
theorem q1167 : (Jvm.Cond.methodLink "TableArmsLaw" (130 : Nat) ({ cls := "TableArms", name := "kind", desc := "(I)I" } : Jvm.MethodName)) ∈ lw_all := lw_g (lw_at lw_m5 118 rfl) rfl
theorem q1266 : (Jvm.Cond.methodLink "TableArmsLaw" (134 : Nat) ({ cls := "TableArms", name := "as", desc := "(II)I" } : Jvm.MethodName)) ∈ lw_all := lw_g (lw_at lw_m5 217 rfl) rfl
theorem q1294 : (Jvm.Cond.methodLink "TableArmsLaw" (138 : Nat) ({ cls := "TableArms", name := "ask", desc := "(II)I" } : Jvm.MethodName)) ∈ lw_all := lw_g (lw_at lw_m6 5 rfl) rfl
theorem q1383 : (Jvm.Cond.methodLink "TableArmsLaw" (142 : Nat) ({ cls := "TableArms", name := "trace", desc := "(I)I" } : Jvm.MethodName)) ∈ lw_all := lw_g (lw_at lw_m6 94 rfl) rfl
theorem q1387 : (Jvm.Cond.methodLink "TableArmsLaw" (146 : Nat) ({ cls := "TableArms", name := "count", desc := "(I)I" } : Jvm.MethodName)) ∈ lw_all := lw_g (lw_at lw_m6 98 rfl) rfl
theorem q1391 : (Jvm.Cond.methodLink "TableArmsLaw" (150 : Nat) ({ cls := "TableArms", name := "status", desc := "()I" } : Jvm.MethodName)) ∈ lw_all := lw_g (lw_at lw_m6 102 rfl) rfl
theorem q1395 : (Jvm.Cond.classLink "TableArmsLaw" (10 : Nat) "TableArmsModel") ∈ lw_all := lw_g (lw_at lw_m6 106 rfl) rfl
theorem q1397 : (Jvm.Cond.methodLink "TableArmsLaw" (12 : Nat) ({ cls := "TableArmsModel", name := "<init>", desc := "()V" } : Jvm.MethodName)) ∈ lw_all := lw_g (lw_at lw_m6 108 rfl) rfl
theorem q1504 : (Jvm.Cond.methodLink "TableArmsLaw" (69 : Nat) ({ cls := "TableArmsModel", name := "order", desc := "(I)I" } : Jvm.MethodName)) ∈ lw_all := lw_g (lw_at lw_m6 215 rfl) rfl
theorem q1593 : (Jvm.Cond.methodLink "TableArmsLaw" (35 : Nat) ({ cls := "TableArmsModel", name := "thing", desc := "(III)I" } : Jvm.MethodName)) ∈ lw_all := lw_g (lw_at lw_m7 64 rfl) rfl
theorem q1604 : (Jvm.Cond.methodLink "TableArmsLaw" (40 : Nat) ({ cls := "TableArmsModel", name := "where", desc := "(II)I" } : Jvm.MethodName)) ∈ lw_all := lw_g (lw_at lw_m7 75 rfl) rfl
theorem q1613 : (Jvm.Cond.methodLink "TableArmsLaw" (44 : Nat) ({ cls := "TableArmsModel", name := "pile", desc := "(II)I" } : Jvm.MethodName)) ∈ lw_all := lw_g (lw_at lw_m7 84 rfl) rfl
theorem q1617 : (Jvm.Cond.methodLink "TableArmsLaw" (48 : Nat) ({ cls := "TableArmsModel", name := "reach", desc := "(II)I" } : Jvm.MethodName)) ∈ lw_all := lw_g (lw_at lw_m7 88 rfl) rfl
theorem q1625 : (Jvm.Cond.methodLink "TableArmsLaw" (52 : Nat) ({ cls := "TableArmsModel", name := "move", desc := "(III)I" } : Jvm.MethodName)) ∈ lw_all := lw_g (lw_at lw_m7 96 rfl) rfl
theorem q1639 : (Jvm.Cond.methodLink "TableArmsLaw" (57 : Nat) ({ cls := "TableArmsModel", name := "keep", desc := "()I" } : Jvm.MethodName)) ∈ lw_all := lw_g (lw_at lw_m7 110 rfl) rfl
theorem q1643 : (Jvm.Cond.methodLink "TableArmsLaw" (61 : Nat) ({ cls := "TableArmsModel", name := "back", desc := "(I)I" } : Jvm.MethodName)) ∈ lw_all := lw_g (lw_at lw_m7 114 rfl) rfl
theorem q1651 : (Jvm.Cond.methodLink "TableArmsLaw" (65 : Nat) ({ cls := "TableArmsModel", name := "same", desc := "(II)I" } : Jvm.MethodName)) ∈ lw_all := lw_g (lw_at lw_m7 122 rfl) rfl
theorem q1659 : (Jvm.Cond.methodLink "TableArmsLaw" (74 : Nat) ({ cls := "TableArmsModel", name := "lesson", desc := "(IIII)I" } : Jvm.MethodName)) ∈ lw_all := lw_g (lw_at lw_m7 130 rfl) rfl
theorem q1668 : (Jvm.Cond.methodLink "TableArmsLaw" (78 : Nat) ({ cls := "TableArmsModel", name := "lessons", desc := "(III)I" } : Jvm.MethodName)) ∈ lw_all := lw_g (lw_at lw_m7 139 rfl) rfl
theorem q1685 : (Jvm.Cond.methodLink "TableArmsLaw" (82 : Nat) ({ cls := "TableArmsModel", name := "unteach", desc := "(I)I" } : Jvm.MethodName)) ∈ lw_all := lw_g (lw_at lw_m7 156 rfl) rfl
theorem q1689 : (Jvm.Cond.methodLink "TableArmsLaw" (86 : Nat) ({ cls := "TableArmsModel", name := "fits", desc := "(I)I" } : Jvm.MethodName)) ∈ lw_all := lw_g (lw_at lw_m7 160 rfl) rfl
theorem q1705 : (Jvm.Cond.methodLink "TableArmsLaw" (90 : Nat) ({ cls := "TableArmsModel", name := "barred", desc := "(II)I" } : Jvm.MethodName)) ∈ lw_all := lw_g (lw_at lw_m7 176 rfl) rfl
theorem q1709 : (Jvm.Cond.methodLink "TableArmsLaw" (94 : Nat) ({ cls := "TableArmsModel", name := "question", desc := "(I)I" } : Jvm.MethodName)) ∈ lw_all := lw_g (lw_at lw_m7 180 rfl) rfl
theorem q1717 : (Jvm.Cond.methodLink "TableArmsLaw" (98 : Nat) ({ cls := "TableArmsModel", name := "quarrel", desc := "()I" } : Jvm.MethodName)) ∈ lw_all := lw_g (lw_at lw_m7 188 rfl) rfl
theorem q1724 : (Jvm.Cond.methodLink "TableArmsLaw" (102 : Nat) ({ cls := "TableArmsModel", name := "plan", desc := "(II)I" } : Jvm.MethodName)) ∈ lw_all := lw_g (lw_at lw_m7 195 rfl) rfl
theorem q1740 : (Jvm.Cond.methodLink "TableArmsLaw" (17 : Nat) ({ cls := "TableArmsModel", name := "sheet", desc := "(III)I" } : Jvm.MethodName)) ∈ lw_all := lw_g (lw_at lw_m7 211 rfl) rfl
theorem q1745 : (Jvm.Cond.methodLink "TableArmsLaw" (21 : Nat) ({ cls := "TableArmsModel", name := "set", desc := "(III)I" } : Jvm.MethodName)) ∈ lw_all := lw_g (lw_at lw_m7 216 rfl) rfl
theorem q1749 : (Jvm.Cond.methodLink "TableArmsLaw" (26 : Nat) ({ cls := "TableArmsModel", name := "copy", desc := "(IIIII)I" } : Jvm.MethodName)) ∈ lw_all := lw_g (lw_at lw_m7 220 rfl) rfl
theorem q1753 : (Jvm.Cond.methodLink "TableArmsLaw" (31 : Nat) ({ cls := "TableArmsModel", name := "drop", desc := "(I)I" } : Jvm.MethodName)) ∈ lw_all := lw_g (lw_at lw_m7 224 rfl) rfl
theorem q1757 : (Jvm.Cond.methodLink "TableArmsLaw" (109 : Nat) ({ cls := "TableArmsModel", name := "feed", desc := "(JI)I" } : Jvm.MethodName)) ∈ lw_all := lw_g (lw_at lw_m7 228 rfl) rfl
theorem q1761 : (Jvm.Cond.methodLink "TableArmsLaw" (113 : Nat) ({ cls := "TableArmsModel", name := "nevers", desc := "()I" } : Jvm.MethodName)) ∈ lw_all := lw_g (lw_at lw_m7 232 rfl) rfl
theorem q1814 : (Jvm.Cond.methodLink "TableArmsLaw" (117 : Nat) ({ cls := "TableArmsModel", name := "fault", desc := "()I" } : Jvm.MethodName)) ∈ lw_all := lw_g (lw_at lw_m8 45 rfl) rfl
theorem q1818 : (Jvm.Cond.methodLink "TableArmsLaw" (121 : Nat) ({ cls := "TableArmsModel", name := "broken", desc := "()I" } : Jvm.MethodName)) ∈ lw_all := lw_g (lw_at lw_m8 49 rfl) rfl
theorem q1830 : (Jvm.Cond.methodLink "TableArmsLaw" (125 : Nat) ({ cls := "TableArmsModel", name := "let", desc := "(III)I" } : Jvm.MethodName)) ∈ lw_all := lw_g (lw_at lw_m8 61 rfl) rfl
theorem q1838 : (Jvm.Cond.methodLink "TableArmsLaw" (129 : Nat) ({ cls := "TableArmsModel", name := "ways", desc := "(IIII)I" } : Jvm.MethodName)) ∈ lw_all := lw_g (lw_at lw_m8 69 rfl) rfl
theorem q1843 : (Jvm.Cond.methodLink "TableArmsLaw" (133 : Nat) ({ cls := "TableArmsModel", name := "kind", desc := "(I)I" } : Jvm.MethodName)) ∈ lw_all := lw_g (lw_at lw_m8 74 rfl) rfl
theorem q1851 : (Jvm.Cond.methodLink "TableArmsLaw" (137 : Nat) ({ cls := "TableArmsModel", name := "as", desc := "(II)I" } : Jvm.MethodName)) ∈ lw_all := lw_g (lw_at lw_m8 82 rfl) rfl
theorem q1859 : (Jvm.Cond.methodLink "TableArmsLaw" (141 : Nat) ({ cls := "TableArmsModel", name := "ask", desc := "(II)I" } : Jvm.MethodName)) ∈ lw_all := lw_g (lw_at lw_m8 90 rfl) rfl
theorem q1879 : (Jvm.Cond.methodLink "TableArmsLaw" (145 : Nat) ({ cls := "TableArmsModel", name := "trace", desc := "(I)I" } : Jvm.MethodName)) ∈ lw_all := lw_g (lw_at lw_m8 110 rfl) rfl
theorem q1883 : (Jvm.Cond.methodLink "TableArmsLaw" (149 : Nat) ({ cls := "TableArmsModel", name := "count", desc := "(I)I" } : Jvm.MethodName)) ∈ lw_all := lw_g (lw_at lw_m8 114 rfl) rfl
theorem q1887 : (Jvm.Cond.methodLink "TableArmsLaw" (153 : Nat) ({ cls := "TableArmsModel", name := "status", desc := "()I" } : Jvm.MethodName)) ∈ lw_all := lw_g (lw_at lw_m8 118 rfl) rfl
theorem q1891 : (Jvm.Cond.constantLong "TableArmsLaw" (103 : Nat) (4294967295 : Int64)) ∈ lw_all := lw_g (lw_at lw_m8 122 rfl) rfl
theorem q922 : (Jvm.Cond.sameMethod "[B" "java/lang/Object" "clone" "()Ljava/lang/Object;") ∈ lw_all := lw_g (lw_at lw_m4 113 rfl) rfl
set_option maxRecDepth 100000
theorem q925 : (Jvm.Cond.selects "[B" ({ cls := "[B", name := "clone", desc := "()Ljava/lang/Object;" } : Jvm.MethodName) ({ cls := "java/lang/Object", name := "clone", desc := "()Ljava/lang/Object;" } : Jvm.MethodName)) ∈ lw_all := lw_g (lw_at lw_m4 116 rfl) rfl
theorem q926 : (Jvm.Cond.castable "[B" "java/lang/Cloneable") ∈ lw_tbl := lw_at lw_m4 117 rfl
theorem q1930 : (Jvm.Cond.castable "[B" "java/lang/Object") ∈ lw_tbl := lw_at lw_m8 161 rfl
theorem q1928 : (Jvm.Cond.castable "[I" "java/lang/Object") ∈ lw_tbl := lw_at lw_m8 159 rfl
set_option maxRecDepth 100000
theorem q1927 : (Jvm.Cond.castable "[LTableArms$Sheet;" "java/lang/Object") ∈ lw_tbl := lw_at lw_m8 158 rfl
set_option maxRecDepth 100000
theorem q1929 : (Jvm.Cond.castable "[LTableArms$Table;" "java/lang/Object") ∈ lw_tbl := lw_at lw_m8 160 rfl
set_option maxRecDepth 100000
theorem q1924 : (Jvm.Cond.sameMethod "[Ljava/lang/Object;" "java/lang/Object" "getClass" "()Ljava/lang/Class;") ∈ lw_all := lw_g (lw_at lw_m8 155 rfl) rfl
set_option maxRecDepth 100000
theorem q1925 : (Jvm.Cond.selects "[Ljava/lang/Object;" ({ cls := "java/lang/Object", name := "getClass", desc := "()Ljava/lang/Class;" } : Jvm.MethodName) ({ cls := "java/lang/Object", name := "getClass", desc := "()Ljava/lang/Class;" } : Jvm.MethodName)) ∈ lw_all := lw_g (lw_at lw_m8 156 rfl) rfl
theorem q1932 : (Jvm.Cond.castable "[Ljava/lang/Object;" "java/lang/Object") ∈ lw_tbl := lw_at lw_m8 163 rfl
theorem q1933 : (Jvm.Cond.castable "[Ljava/lang/String;" "java/lang/Object") ∈ lw_tbl := lw_at lw_m8 164 rfl
set_option maxRecDepth 100000
theorem q1931 : (Jvm.Cond.castable "[Z" "java/lang/Object") ∈ lw_tbl := lw_at lw_m8 162 rfl
set_option maxRecDepth 100000
theorem q105 : (Jvm.Cond.initialized "java/lang/System") ∈ lw_all := lw_g (lw_at lw_m1 16 rfl) rfl
set_option maxRecDepth 100000
theorem q432 : (Jvm.Cond.static ({ cls := "java/lang/System", name := "arraycopy", desc := "(Ljava/lang/Object;ILjava/lang/Object;II)V" } : Jvm.MethodName)) ∈ lw_all := lw_g (lw_at lw_m2 103 rfl) rfl
theorem q433 : (Jvm.Cond.native ({ cls := "java/lang/System", name := "arraycopy", desc := "(Ljava/lang/Object;ILjava/lang/Object;II)V" } : Jvm.MethodName)) ∈ lw_all := lw_g (lw_at lw_m2 104 rfl) rfl
theorem q612 : (Jvm.Cond.interfaceMethod "java/util/List" "java/util/List" "size" "()I") ∈ lw_tbl := lw_at lw_m3 43 rfl
set_option maxRecDepth 100000
theorem q613 : (Jvm.Cond.declares ({ cls := "java/util/List", name := "size", desc := "()I" } : Jvm.MethodName)) ∈ lw_tbl := lw_at lw_m3 44 rfl
theorem q649 : (Jvm.Cond.interfaceMethod "java/util/List" "java/util/List" "add" "(Ljava/lang/Object;)Z") ∈ lw_tbl := lw_at lw_m3 80 rfl
theorem q650 : (Jvm.Cond.declares ({ cls := "java/util/List", name := "add", desc := "(Ljava/lang/Object;)Z" } : Jvm.MethodName)) ∈ lw_tbl := lw_at lw_m3 81 rfl
theorem q735 : (Jvm.Cond.interfaceMethod "java/util/List" "java/util/List" "get" "(I)Ljava/lang/Object;") ∈ lw_tbl := lw_at lw_m3 166 rfl
theorem q736 : (Jvm.Cond.declares ({ cls := "java/util/List", name := "get", desc := "(I)Ljava/lang/Object;" } : Jvm.MethodName)) ∈ lw_tbl := lw_at lw_m3 167 rfl
theorem q136 : (Jvm.Cond.arrayOver (Jvm.ClassFile.FieldType.object "TableArms$Sheet")) ∈ lw_tbl := lw_at lw_m1 47 rfl
set_option maxRecDepth 100000
theorem q165 : (Jvm.Cond.arrayClass Jvm.ClassFile.FieldType.int) ∈ lw_all := lw_g (lw_at lw_m1 76 rfl) rfl
theorem q166 : (Jvm.Cond.arrayOver (Jvm.ClassFile.FieldType.object "TableArms$Table")) ∈ lw_tbl := lw_at lw_m1 77 rfl
theorem q208 : (Jvm.Cond.arrayClass Jvm.ClassFile.FieldType.byte) ∈ lw_all := lw_g (lw_at lw_m1 119 rfl) rfl
theorem q275 : (Jvm.Cond.arrayClass Jvm.ClassFile.FieldType.boolean) ∈ lw_all := lw_g (lw_at lw_m1 186 rfl) rfl
theorem q709 : (Jvm.Cond.arrayOver (Jvm.ClassFile.FieldType.object "java/lang/Object")) ∈ lw_tbl := lw_at lw_m3 140 rfl
theorem q1938 : (Jvm.Cond.arrayOver (Jvm.ClassFile.FieldType.object "java/lang/String")) ∈ lw_tbl := lw_at lw_m8 169 rfl
/-! the law's own entry -/
set_option maxRecDepth 100000
abbrev cL_law : ByteArray := code
def dkwL_law_47 : List UInt8 := [167, 251, 76, 4, 172]
abbrev dktL_law_47 : List UInt8 := dkwL_law_47 ++ []
def dkwL_law_46 : List UInt8 := [182, 0, 149, 159, 0, 18, 3, 172, 43, 182, 0, 150, 44, 182, 0, 153, 159, 0, 5, 3, 172, 132, 3, 6]
abbrev dktL_law_46 : List UInt8 := dkwL_law_46 ++ dktL_law_47
def dkwL_law_45 : List UInt8 := [182, 0, 145, 159, 0, 41, 3, 172, 43, 42, 29, 4, 96, 46, 182, 0, 146, 44, 42, 29, 4, 96, 46]
abbrev dktL_law_45 : List UInt8 := dkwL_law_45 ++ dktL_law_46
def dkwL_law_44 : List UInt8 := [182, 0, 141, 159, 0, 64, 3, 172, 43, 42, 29, 4, 96, 46, 182, 0, 142, 44, 42, 29, 4, 96, 46]
abbrev dktL_law_44 : List UInt8 := dkwL_law_44 ++ dktL_law_45
def dkwL_law_43 : List UInt8 := [29, 4, 96, 46, 42, 29, 5, 96, 46, 182, 0, 138, 44, 42, 29, 4, 96, 46, 42, 29, 5, 96, 46]
abbrev dktL_law_43 : List UInt8 := dkwL_law_43 ++ dktL_law_44
def dkwL_law_42 : List UInt8 := [182, 0, 134, 44, 42, 29, 4, 96, 46, 42, 29, 5, 96, 46, 182, 0, 137, 159, 0, 97, 3, 172, 43, 42]
abbrev dktL_law_42 : List UInt8 := dkwL_law_42 ++ dktL_law_43
def dkwL_law_41 : List UInt8 := [29, 4, 96, 46, 182, 0, 133, 159, 0, 130, 3, 172, 43, 42, 29, 4, 96, 46, 42, 29, 5, 96, 46]
abbrev dktL_law_41 : List UInt8 := dkwL_law_41 ++ dktL_law_42
def dkwL_law_40 : List UInt8 := [42, 29, 7, 96, 46, 182, 0, 129, 159, 0, 153, 3, 172, 43, 42, 29, 4, 96, 46, 182, 0, 130, 44, 42]
abbrev dktL_law_40 : List UInt8 := dkwL_law_40 ++ dktL_law_41
def dkwL_law_39 : List UInt8 := [42, 29, 7, 96, 46, 182, 0, 126, 44, 42, 29, 4, 96, 46, 42, 29, 5, 96, 46, 42, 29, 6, 96, 46]
abbrev dktL_law_39 : List UInt8 := dkwL_law_39 ++ dktL_law_40
def dkwL_law_38 : List UInt8 := [182, 0, 125, 159, 0, 206, 3, 172, 43, 42, 29, 4, 96, 46, 42, 29, 5, 96, 46, 42, 29, 6, 96, 46]
abbrev dktL_law_38 : List UInt8 := dkwL_law_38 ++ dktL_law_39
def dkwL_law_37 : List UInt8 := [29, 6, 96, 46, 182, 0, 122, 44, 42, 29, 4, 96, 46, 42, 29, 5, 96, 46, 42, 29, 6, 96, 46]
abbrev dktL_law_37 : List UInt8 := dkwL_law_37 ++ dktL_law_38
def dkwL_law_36 : List UInt8 := [182, 0, 118, 44, 182, 0, 121, 159, 0, 249, 3, 172, 43, 42, 29, 4, 96, 46, 42, 29, 5, 96, 46, 42]
abbrev dktL_law_36 : List UInt8 := dkwL_law_36 ++ dktL_law_37
def dkwL_law_35 : List UInt8 := [44, 182, 0, 113, 159, 1, 19, 3, 172, 43, 182, 0, 114, 44, 182, 0, 117, 159, 1, 6, 3, 172, 43]
abbrev dktL_law_35 : List UInt8 := dkwL_law_35 ++ dktL_law_36
def dkwL_law_34 : List UInt8 := [46, 133, 20, 0, 103, 127, 129, 42, 29, 6, 96, 46, 182, 0, 109, 159, 1, 32, 3, 172, 43, 182, 0, 110]
abbrev dktL_law_34 : List UInt8 := dkwL_law_34 ++ dktL_law_35
def dkwL_law_33 : List UInt8 := [127, 129, 42, 29, 6, 96, 46, 182, 0, 105, 44, 42, 29, 4, 96, 46, 133, 16, 32, 121, 42, 29, 5, 96]
abbrev dktL_law_33 : List UInt8 := dkwL_law_33 ++ dktL_law_34
def dkwL_law_32 : List UInt8 := [159, 1, 95, 3, 172, 43, 42, 29, 4, 96, 46, 133, 16, 32, 121, 42, 29, 5, 96, 46, 133, 20, 0, 103]
abbrev dktL_law_32 : List UInt8 := dkwL_law_32 ++ dktL_law_33
def dkwL_law_31 : List UInt8 := [42, 29, 5, 96, 46, 182, 0, 99, 44, 42, 29, 4, 96, 46, 42, 29, 5, 96, 46, 182, 0, 102]
abbrev dktL_law_31 : List UInt8 := dkwL_law_31 ++ dktL_law_32
def dkwL_law_30 : List UInt8 := [159, 1, 141, 3, 172, 43, 182, 0, 95, 44, 182, 0, 98, 159, 1, 128, 3, 172, 43, 42, 29, 4, 96, 46]
abbrev dktL_law_30 : List UInt8 := dkwL_law_30 ++ dktL_law_31
def dkwL_law_29 : List UInt8 := [159, 1, 164, 3, 172, 43, 42, 29, 4, 96, 46, 182, 0, 91, 44, 42, 29, 4, 96, 46, 182, 0, 94]
abbrev dktL_law_29 : List UInt8 := dkwL_law_29 ++ dktL_law_30
def dkwL_law_28 : List UInt8 := [46, 42, 29, 5, 96, 46, 182, 0, 87, 44, 42, 29, 4, 96, 46, 42, 29, 5, 96, 46, 182, 0, 90]
abbrev dktL_law_28 : List UInt8 := dkwL_law_28 ++ dktL_law_29
def dkwL_law_27 : List UInt8 := [96, 46, 182, 0, 83, 44, 42, 29, 4, 96, 46, 182, 0, 86, 159, 1, 197, 3, 172, 43, 42, 29, 4, 96]
abbrev dktL_law_27 : List UInt8 := dkwL_law_27 ++ dktL_law_28
def dkwL_law_26 : List UInt8 := [4, 96, 46, 182, 0, 79, 44, 42, 29, 4, 96, 46, 182, 0, 82, 159, 1, 220, 3, 172, 43, 42, 29, 4]
abbrev dktL_law_26 : List UInt8 := dkwL_law_26 ++ dktL_law_27
def dkwL_law_25 : List UInt8 := [4, 96, 46, 42, 29, 5, 96, 46, 42, 29, 6, 96, 46, 182, 0, 78, 159, 1, 243, 3, 172, 43, 42, 29]
abbrev dktL_law_25 : List UInt8 := dkwL_law_25 ++ dktL_law_26
def dkwL_law_24 : List UInt8 := [3, 172, 43, 42, 29, 4, 96, 46, 42, 29, 5, 96, 46, 42, 29, 6, 96, 46, 182, 0, 75, 44, 42, 29]
abbrev dktL_law_24 : List UInt8 := dkwL_law_24 ++ dktL_law_25
def dkwL_law_23 : List UInt8 := [4, 96, 46, 42, 29, 5, 96, 46, 42, 29, 6, 96, 46, 42, 29, 7, 96, 46, 182, 0, 74, 159, 2, 30]
abbrev dktL_law_23 : List UInt8 := dkwL_law_23 ++ dktL_law_24
def dkwL_law_22 : List UInt8 := [4, 96, 46, 42, 29, 5, 96, 46, 42, 29, 6, 96, 46, 42, 29, 7, 96, 46, 182, 0, 70, 44, 42, 29]
abbrev dktL_law_22 : List UInt8 := dkwL_law_22 ++ dktL_law_23
def dkwL_law_21 : List UInt8 := [29, 4, 96, 46, 182, 0, 66, 44, 42, 29, 4, 96, 46, 182, 0, 69, 159, 2, 83, 3, 172, 43, 42, 29]
abbrev dktL_law_21 : List UInt8 := dkwL_law_21 ++ dktL_law_22
def dkwL_law_20 : List UInt8 := [182, 0, 62, 44, 42, 29, 4, 96, 46, 42, 29, 5, 96, 46, 182, 0, 65, 159, 2, 106, 3, 172, 43, 42]
abbrev dktL_law_20 : List UInt8 := dkwL_law_20 ++ dktL_law_21
def dkwL_law_19 : List UInt8 := [29, 4, 96, 46, 182, 0, 61, 159, 2, 139, 3, 172, 43, 42, 29, 4, 96, 46, 42, 29, 5, 96, 46]
abbrev dktL_law_19 : List UInt8 := dkwL_law_19 ++ dktL_law_20
def dkwL_law_18 : List UInt8 := [43, 182, 0, 53, 44, 182, 0, 57, 159, 2, 162, 3, 172, 43, 42, 29, 4, 96, 46, 182, 0, 58, 44, 42]
abbrev dktL_law_18 : List UInt8 := dkwL_law_18 ++ dktL_law_19
def dkwL_law_17 : List UInt8 := [44, 42, 29, 4, 96, 46, 42, 29, 5, 96, 46, 42, 29, 6, 96, 46, 182, 0, 52, 159, 2, 175, 3, 172]
abbrev dktL_law_17 : List UInt8 := dkwL_law_17 ++ dktL_law_18
def dkwL_law_16 : List UInt8 := [159, 2, 218, 3, 172, 43, 42, 29, 4, 96, 46, 42, 29, 5, 96, 46, 42, 29, 6, 96, 46, 182, 0, 49]
abbrev dktL_law_16 : List UInt8 := dkwL_law_16 ++ dktL_law_17
def dkwL_law_15 : List UInt8 := [42, 29, 5, 96, 46, 182, 0, 45, 44, 42, 29, 4, 96, 46, 42, 29, 5, 96, 46, 182, 0, 48]
abbrev dktL_law_15 : List UInt8 := dkwL_law_15 ++ dktL_law_16
def dkwL_law_14 : List UInt8 := [42, 29, 4, 96, 46, 42, 29, 5, 96, 46, 182, 0, 44, 159, 2, 251, 3, 172, 43, 42, 29, 4, 96, 46]
abbrev dktL_law_14 : List UInt8 := dkwL_law_14 ++ dktL_law_15
def dkwL_law_13 : List UInt8 := [46, 182, 0, 40, 159, 3, 28, 3, 172, 43, 42, 29, 4, 96, 46, 42, 29, 5, 96, 46, 182, 0, 41, 44]
abbrev dktL_law_13 : List UInt8 := dkwL_law_13 ++ dktL_law_14
def dkwL_law_12 : List UInt8 := [43, 42, 29, 4, 96, 46, 42, 29, 5, 96, 46, 182, 0, 36, 44, 42, 29, 4, 96, 46, 42, 29, 5, 96]
abbrev dktL_law_12 : List UInt8 := dkwL_law_12 ++ dktL_law_13
def dkwL_law_11 : List UInt8 := [44, 42, 29, 4, 96, 46, 42, 29, 5, 96, 46, 42, 29, 6, 96, 46, 182, 0, 35, 159, 3, 61, 3, 172]
abbrev dktL_law_11 : List UInt8 := dkwL_law_11 ++ dktL_law_12
def dkwL_law_10 : List UInt8 := [159, 3, 104, 3, 172, 43, 42, 29, 4, 96, 46, 42, 29, 5, 96, 46, 42, 29, 6, 96, 46, 182, 0, 32]
abbrev dktL_law_10 : List UInt8 := dkwL_law_10 ++ dktL_law_11
def dkwL_law_9 : List UInt8 := [159, 3, 127, 3, 172, 43, 42, 29, 4, 96, 46, 182, 0, 27, 44, 42, 29, 4, 96, 46, 182, 0, 31]
abbrev dktL_law_9 : List UInt8 := dkwL_law_9 ++ dktL_law_10
def dkwL_law_8 : List UInt8 := [46, 42, 29, 5, 96, 46, 42, 29, 6, 96, 46, 42, 29, 7, 96, 46, 42, 29, 8, 96, 46, 182, 0, 26]
abbrev dktL_law_8 : List UInt8 := dkwL_law_8 ++ dktL_law_9
def dkwL_law_7 : List UInt8 := [46, 42, 29, 6, 96, 46, 42, 29, 7, 96, 46, 42, 29, 8, 96, 46, 182, 0, 22, 44, 42, 29, 4, 96]
abbrev dktL_law_7 : List UInt8 := dkwL_law_7 ++ dktL_law_8
def dkwL_law_6 : List UInt8 := [46, 42, 29, 6, 96, 46, 182, 0, 21, 159, 3, 190, 3, 172, 43, 42, 29, 4, 96, 46, 42, 29, 5, 96]
abbrev dktL_law_6 : List UInt8 := dkwL_law_6 ++ dktL_law_7
def dkwL_law_5 : List UInt8 := [46, 42, 29, 5, 96, 46, 42, 29, 6, 96, 46, 182, 0, 18, 44, 42, 29, 4, 96, 46, 42, 29, 5, 96]
abbrev dktL_law_5 : List UInt8 := dkwL_law_5 ++ dktL_law_6
def dkwL_law_4 : List UInt8 := [46, 42, 29, 5, 96, 46, 42, 29, 6, 96, 46, 182, 0, 17, 159, 3, 233, 3, 172, 43, 42, 29, 4, 96]
abbrev dktL_law_4 : List UInt8 := dkwL_law_4 ++ dktL_law_5
def dkwL_law_3 : List UInt8 := [43, 42, 29, 4, 96, 46, 42, 29, 5, 96, 46, 42, 29, 6, 96, 46, 182, 0, 13, 44, 42, 29, 4, 96]
abbrev dktL_law_3 : List UInt8 := dkwL_law_3 ++ dktL_law_4
def dkwL_law_2 : List UInt8 := [170, 0, 0, 0, 0, 4, 162, 0, 0, 0, 0, 0, 0, 0, 32, 0, 0, 0, 147, 0, 0, 0, 190, 0, 0, 0, 233, 0, 0, 1, 40, 0, 0, 1, 63, 0, 0, 1, 106, 0, 0, 1, 139, 0, 0, 1, 172, 0, 0, 1, 205, 0, 0, 1, 248, 0, 0, 2, 5, 0, 0, 2, 28, 0, 0, 2, 61, 0, 0, 2, 84, 0, 0, 2, 137, 0, 0, 2, 180, 0, 0, 2, 203, 0, 0, 2, 226, 0, 0, 3, 3, 0, 0, 3, 26, 0, 0, 3, 39, 0, 0, 3, 72, 0, 0, 3, 135, 0, 0, 3, 148, 0, 0, 3, 161, 0, 0, 3, 174, 0, 0, 3, 217, 0, 0, 4, 14, 0, 0, 4, 37, 0, 0, 4, 70, 0, 0, 4, 103, 0, 0, 4, 126, 0, 0, 4, 149]
abbrev dktL_law_2 : List UInt8 := dkwL_law_2 ++ dktL_law_3
def dkwL_law_1 : List UInt8 := [163, 4, 177, 42, 29, 46, 16, 63, 126]
abbrev dktL_law_1 : List UInt8 := dkwL_law_1 ++ dktL_law_2
def dkwL_law_0 : List UInt8 := [187, 0, 7, 89, 183, 0, 9, 76, 187, 0, 10, 89, 183, 0, 12, 77, 3, 62, 29, 42, 190, 16, 6, 100]
abbrev dktL_law_0 : List UInt8 := dkwL_law_0 ++ dktL_law_1
theorem dksL_law_0 : cL_law.data.toList.drop 0 = dktL_law_0 := by decide +kernel
theorem dksL_law_1 : cL_law.data.toList.drop 24 = dktL_law_1 := dk_seg dksL_law_0 24 rfl rfl
theorem dksL_law_2 : cL_law.data.toList.drop 33 = dktL_law_2 := dk_seg dksL_law_1 9 rfl rfl
theorem dksL_law_3 : cL_law.data.toList.drop 180 = dktL_law_3 := dk_seg dksL_law_2 147 rfl rfl
theorem dksL_law_4 : cL_law.data.toList.drop 204 = dktL_law_4 := dk_seg dksL_law_3 24 rfl rfl
theorem dksL_law_5 : cL_law.data.toList.drop 228 = dktL_law_5 := dk_seg dksL_law_4 24 rfl rfl
theorem dksL_law_6 : cL_law.data.toList.drop 252 = dktL_law_6 := dk_seg dksL_law_5 24 rfl rfl
theorem dksL_law_7 : cL_law.data.toList.drop 276 = dktL_law_7 := dk_seg dksL_law_6 24 rfl rfl
theorem dksL_law_8 : cL_law.data.toList.drop 300 = dktL_law_8 := dk_seg dksL_law_7 24 rfl rfl
theorem dksL_law_9 : cL_law.data.toList.drop 324 = dktL_law_9 := dk_seg dksL_law_8 24 rfl rfl
theorem dksL_law_10 : cL_law.data.toList.drop 347 = dktL_law_10 := dk_seg dksL_law_9 23 rfl rfl
theorem dksL_law_11 : cL_law.data.toList.drop 371 = dktL_law_11 := dk_seg dksL_law_10 24 rfl rfl
theorem dksL_law_12 : cL_law.data.toList.drop 395 = dktL_law_12 := dk_seg dksL_law_11 24 rfl rfl
theorem dksL_law_13 : cL_law.data.toList.drop 419 = dktL_law_13 := dk_seg dksL_law_12 24 rfl rfl
theorem dksL_law_14 : cL_law.data.toList.drop 443 = dktL_law_14 := dk_seg dksL_law_13 24 rfl rfl
theorem dksL_law_15 : cL_law.data.toList.drop 467 = dktL_law_15 := dk_seg dksL_law_14 24 rfl rfl
theorem dksL_law_16 : cL_law.data.toList.drop 489 = dktL_law_16 := dk_seg dksL_law_15 22 rfl rfl
theorem dksL_law_17 : cL_law.data.toList.drop 513 = dktL_law_17 := dk_seg dksL_law_16 24 rfl rfl
theorem dksL_law_18 : cL_law.data.toList.drop 537 = dktL_law_18 := dk_seg dksL_law_17 24 rfl rfl
theorem dksL_law_19 : cL_law.data.toList.drop 561 = dktL_law_19 := dk_seg dksL_law_18 24 rfl rfl
theorem dksL_law_20 : cL_law.data.toList.drop 584 = dktL_law_20 := dk_seg dksL_law_19 23 rfl rfl
theorem dksL_law_21 : cL_law.data.toList.drop 608 = dktL_law_21 := dk_seg dksL_law_20 24 rfl rfl
theorem dksL_law_22 : cL_law.data.toList.drop 632 = dktL_law_22 := dk_seg dksL_law_21 24 rfl rfl
theorem dksL_law_23 : cL_law.data.toList.drop 656 = dktL_law_23 := dk_seg dksL_law_22 24 rfl rfl
theorem dksL_law_24 : cL_law.data.toList.drop 680 = dktL_law_24 := dk_seg dksL_law_23 24 rfl rfl
theorem dksL_law_25 : cL_law.data.toList.drop 704 = dktL_law_25 := dk_seg dksL_law_24 24 rfl rfl
theorem dksL_law_26 : cL_law.data.toList.drop 728 = dktL_law_26 := dk_seg dksL_law_25 24 rfl rfl
theorem dksL_law_27 : cL_law.data.toList.drop 752 = dktL_law_27 := dk_seg dksL_law_26 24 rfl rfl
theorem dksL_law_28 : cL_law.data.toList.drop 776 = dktL_law_28 := dk_seg dksL_law_27 24 rfl rfl
theorem dksL_law_29 : cL_law.data.toList.drop 799 = dktL_law_29 := dk_seg dksL_law_28 23 rfl rfl
theorem dksL_law_30 : cL_law.data.toList.drop 822 = dktL_law_30 := dk_seg dksL_law_29 23 rfl rfl
theorem dksL_law_31 : cL_law.data.toList.drop 846 = dktL_law_31 := dk_seg dksL_law_30 24 rfl rfl
theorem dksL_law_32 : cL_law.data.toList.drop 868 = dktL_law_32 := dk_seg dksL_law_31 22 rfl rfl
theorem dksL_law_33 : cL_law.data.toList.drop 892 = dktL_law_33 := dk_seg dksL_law_32 24 rfl rfl
theorem dksL_law_34 : cL_law.data.toList.drop 916 = dktL_law_34 := dk_seg dksL_law_33 24 rfl rfl
theorem dksL_law_35 : cL_law.data.toList.drop 940 = dktL_law_35 := dk_seg dksL_law_34 24 rfl rfl
theorem dksL_law_36 : cL_law.data.toList.drop 963 = dktL_law_36 := dk_seg dksL_law_35 23 rfl rfl
theorem dksL_law_37 : cL_law.data.toList.drop 987 = dktL_law_37 := dk_seg dksL_law_36 24 rfl rfl
theorem dksL_law_38 : cL_law.data.toList.drop 1010 = dktL_law_38 := dk_seg dksL_law_37 23 rfl rfl
theorem dksL_law_39 : cL_law.data.toList.drop 1034 = dktL_law_39 := dk_seg dksL_law_38 24 rfl rfl
theorem dksL_law_40 : cL_law.data.toList.drop 1058 = dktL_law_40 := dk_seg dksL_law_39 24 rfl rfl
theorem dksL_law_41 : cL_law.data.toList.drop 1082 = dktL_law_41 := dk_seg dksL_law_40 24 rfl rfl
theorem dksL_law_42 : cL_law.data.toList.drop 1105 = dktL_law_42 := dk_seg dksL_law_41 23 rfl rfl
theorem dksL_law_43 : cL_law.data.toList.drop 1129 = dktL_law_43 := dk_seg dksL_law_42 24 rfl rfl
theorem dksL_law_44 : cL_law.data.toList.drop 1152 = dktL_law_44 := dk_seg dksL_law_43 23 rfl rfl
theorem dksL_law_45 : cL_law.data.toList.drop 1175 = dktL_law_45 := dk_seg dksL_law_44 23 rfl rfl
theorem dksL_law_46 : cL_law.data.toList.drop 1198 = dktL_law_46 := dk_seg dksL_law_45 23 rfl rfl
theorem dksL_law_47 : cL_law.data.toList.drop 1222 = dktL_law_47 := dk_seg dksL_law_46 24 rfl rfl
theorem dL_law_0 : decode cL_law 0 = .ok (.new 7, 3) := dk_187 0 7 (dk_at dksL_law_0 0 rfl rfl)
theorem dL_law_3 : decode cL_law 3 = .ok (.dup, 1) := dk_89 (dk_at dksL_law_0 3 rfl rfl)
theorem dL_law_4 : decode cL_law 4 = .ok (.invokespecial 9, 3) := dk_183 0 9 (dk_at dksL_law_0 4 rfl rfl)
theorem dL_law_7 : decode cL_law 7 = .ok (.astore_n 1, 1) := dk_76 (dk_at dksL_law_0 7 rfl rfl)
theorem dL_law_8 : decode cL_law 8 = .ok (.new 10, 3) := dk_187 0 10 (dk_at dksL_law_0 8 rfl rfl)
theorem dL_law_11 : decode cL_law 11 = .ok (.dup, 1) := dk_89 (dk_at dksL_law_0 11 rfl rfl)
theorem dL_law_12 : decode cL_law 12 = .ok (.invokespecial 12, 3) := dk_183 0 12 (dk_at dksL_law_0 12 rfl rfl)
theorem dL_law_15 : decode cL_law 15 = .ok (.astore_n 2, 1) := dk_77 (dk_at dksL_law_0 15 rfl rfl)
theorem dL_law_16 : decode cL_law 16 = .ok (.iconst 0, 1) := dk_3 (dk_at dksL_law_0 16 rfl rfl)
theorem dL_law_17 : decode cL_law 17 = .ok (.istore_n 3, 1) := dk_62 (dk_at dksL_law_0 17 rfl rfl)
theorem dL_law_18 : decode cL_law 18 = .ok (.iload_n 3, 1) := dk_29 (dk_at dksL_law_0 18 rfl rfl)
theorem dL_law_19 : decode cL_law 19 = .ok (.aload_n 0, 1) := dk_42 (dk_at dksL_law_0 19 rfl rfl)
theorem dL_law_20 : decode cL_law 20 = .ok (.arraylength, 1) := dk_190 (dk_at dksL_law_0 20 rfl rfl)
theorem dL_law_21 : decode cL_law 21 = .ok (.bipush 6, 2) := dk_16 6 (dk_at dksL_law_0 21 rfl rfl)
theorem dL_law_23 : decode cL_law 23 = .ok (.isub, 1) := dk_100 (dk_at dksL_law_0 23 rfl rfl)
theorem dL_law_24 : decode cL_law 24 = .ok (.if_icmp .gt 1201, 3) := dk_163 4 177 (dk_at dksL_law_1 0 rfl rfl)
theorem dL_law_27 : decode cL_law 27 = .ok (.aload_n 0, 1) := dk_42 (dk_at dksL_law_1 3 rfl rfl)
theorem dL_law_28 : decode cL_law 28 = .ok (.iload_n 3, 1) := dk_29 (dk_at dksL_law_1 4 rfl rfl)
theorem dL_law_29 : decode cL_law 29 = .ok (.iaload, 1) := dk_46 (dk_at dksL_law_1 5 rfl rfl)
theorem dL_law_30 : decode cL_law 30 = .ok (.bipush 63, 2) := dk_16 63 (dk_at dksL_law_1 6 rfl rfl)
theorem dL_law_32 : decode cL_law 32 = .ok (.iand, 1) := dk_126 (dk_at dksL_law_1 8 rfl rfl)
theorem dL_law_33 : decode cL_law 33 = .ok (.tableswitch 1186 0 32 #[147, 190, 233, 296, 319, 362, 395, 428, 461, 504, 517, 540, 573, 596, 649, 692, 715, 738, 771, 794, 807, 840, 903, 916, 929, 942, 985, 1038, 1061, 1094, 1127, 1150, 1173], 147) := by decide +kernel
theorem dL_law_180 : decode cL_law 180 = .ok (.aload_n 1, 1) := dk_43 (dk_at dksL_law_3 0 rfl rfl)
theorem dL_law_181 : decode cL_law 181 = .ok (.aload_n 0, 1) := dk_42 (dk_at dksL_law_3 1 rfl rfl)
theorem dL_law_182 : decode cL_law 182 = .ok (.iload_n 3, 1) := dk_29 (dk_at dksL_law_3 2 rfl rfl)
theorem dL_law_183 : decode cL_law 183 = .ok (.iconst 1, 1) := dk_4 (dk_at dksL_law_3 3 rfl rfl)
theorem dL_law_184 : decode cL_law 184 = .ok (.iadd, 1) := dk_96 (dk_at dksL_law_3 4 rfl rfl)
theorem dL_law_185 : decode cL_law 185 = .ok (.iaload, 1) := dk_46 (dk_at dksL_law_3 5 rfl rfl)
theorem dL_law_186 : decode cL_law 186 = .ok (.aload_n 0, 1) := dk_42 (dk_at dksL_law_3 6 rfl rfl)
theorem dL_law_187 : decode cL_law 187 = .ok (.iload_n 3, 1) := dk_29 (dk_at dksL_law_3 7 rfl rfl)
theorem dL_law_188 : decode cL_law 188 = .ok (.iconst 2, 1) := dk_5 (dk_at dksL_law_3 8 rfl rfl)
theorem dL_law_189 : decode cL_law 189 = .ok (.iadd, 1) := dk_96 (dk_at dksL_law_3 9 rfl rfl)
theorem dL_law_190 : decode cL_law 190 = .ok (.iaload, 1) := dk_46 (dk_at dksL_law_3 10 rfl rfl)
theorem dL_law_191 : decode cL_law 191 = .ok (.aload_n 0, 1) := dk_42 (dk_at dksL_law_3 11 rfl rfl)
theorem dL_law_192 : decode cL_law 192 = .ok (.iload_n 3, 1) := dk_29 (dk_at dksL_law_3 12 rfl rfl)
theorem dL_law_193 : decode cL_law 193 = .ok (.iconst 3, 1) := dk_6 (dk_at dksL_law_3 13 rfl rfl)
theorem dL_law_194 : decode cL_law 194 = .ok (.iadd, 1) := dk_96 (dk_at dksL_law_3 14 rfl rfl)
theorem dL_law_195 : decode cL_law 195 = .ok (.iaload, 1) := dk_46 (dk_at dksL_law_3 15 rfl rfl)
theorem dL_law_196 : decode cL_law 196 = .ok (.invokevirtual 13, 3) := dk_182 0 13 (dk_at dksL_law_3 16 rfl rfl)
theorem dL_law_199 : decode cL_law 199 = .ok (.aload_n 2, 1) := dk_44 (dk_at dksL_law_3 19 rfl rfl)
theorem dL_law_200 : decode cL_law 200 = .ok (.aload_n 0, 1) := dk_42 (dk_at dksL_law_3 20 rfl rfl)
theorem dL_law_201 : decode cL_law 201 = .ok (.iload_n 3, 1) := dk_29 (dk_at dksL_law_3 21 rfl rfl)
theorem dL_law_202 : decode cL_law 202 = .ok (.iconst 1, 1) := dk_4 (dk_at dksL_law_3 22 rfl rfl)
theorem dL_law_203 : decode cL_law 203 = .ok (.iadd, 1) := dk_96 (dk_at dksL_law_3 23 rfl rfl)
theorem dL_law_204 : decode cL_law 204 = .ok (.iaload, 1) := dk_46 (dk_at dksL_law_4 0 rfl rfl)
theorem dL_law_205 : decode cL_law 205 = .ok (.aload_n 0, 1) := dk_42 (dk_at dksL_law_4 1 rfl rfl)
theorem dL_law_206 : decode cL_law 206 = .ok (.iload_n 3, 1) := dk_29 (dk_at dksL_law_4 2 rfl rfl)
theorem dL_law_207 : decode cL_law 207 = .ok (.iconst 2, 1) := dk_5 (dk_at dksL_law_4 3 rfl rfl)
theorem dL_law_208 : decode cL_law 208 = .ok (.iadd, 1) := dk_96 (dk_at dksL_law_4 4 rfl rfl)
theorem dL_law_209 : decode cL_law 209 = .ok (.iaload, 1) := dk_46 (dk_at dksL_law_4 5 rfl rfl)
theorem dL_law_210 : decode cL_law 210 = .ok (.aload_n 0, 1) := dk_42 (dk_at dksL_law_4 6 rfl rfl)
theorem dL_law_211 : decode cL_law 211 = .ok (.iload_n 3, 1) := dk_29 (dk_at dksL_law_4 7 rfl rfl)
theorem dL_law_212 : decode cL_law 212 = .ok (.iconst 3, 1) := dk_6 (dk_at dksL_law_4 8 rfl rfl)
theorem dL_law_213 : decode cL_law 213 = .ok (.iadd, 1) := dk_96 (dk_at dksL_law_4 9 rfl rfl)
theorem dL_law_214 : decode cL_law 214 = .ok (.iaload, 1) := dk_46 (dk_at dksL_law_4 10 rfl rfl)
theorem dL_law_215 : decode cL_law 215 = .ok (.invokevirtual 17, 3) := dk_182 0 17 (dk_at dksL_law_4 11 rfl rfl)
theorem dL_law_218 : decode cL_law 218 = .ok (.if_icmp .eq 1001, 3) := dk_159 3 233 (dk_at dksL_law_4 14 rfl rfl)
theorem dL_law_221 : decode cL_law 221 = .ok (.iconst 0, 1) := dk_3 (dk_at dksL_law_4 17 rfl rfl)
theorem dL_law_222 : decode cL_law 222 = .ok (.ireturn, 1) := dk_172 (dk_at dksL_law_4 18 rfl rfl)
theorem dL_law_223 : decode cL_law 223 = .ok (.aload_n 1, 1) := dk_43 (dk_at dksL_law_4 19 rfl rfl)
theorem dL_law_224 : decode cL_law 224 = .ok (.aload_n 0, 1) := dk_42 (dk_at dksL_law_4 20 rfl rfl)
theorem dL_law_225 : decode cL_law 225 = .ok (.iload_n 3, 1) := dk_29 (dk_at dksL_law_4 21 rfl rfl)
theorem dL_law_226 : decode cL_law 226 = .ok (.iconst 1, 1) := dk_4 (dk_at dksL_law_4 22 rfl rfl)
theorem dL_law_227 : decode cL_law 227 = .ok (.iadd, 1) := dk_96 (dk_at dksL_law_4 23 rfl rfl)
theorem dL_law_228 : decode cL_law 228 = .ok (.iaload, 1) := dk_46 (dk_at dksL_law_5 0 rfl rfl)
theorem dL_law_229 : decode cL_law 229 = .ok (.aload_n 0, 1) := dk_42 (dk_at dksL_law_5 1 rfl rfl)
theorem dL_law_230 : decode cL_law 230 = .ok (.iload_n 3, 1) := dk_29 (dk_at dksL_law_5 2 rfl rfl)
theorem dL_law_231 : decode cL_law 231 = .ok (.iconst 2, 1) := dk_5 (dk_at dksL_law_5 3 rfl rfl)
theorem dL_law_232 : decode cL_law 232 = .ok (.iadd, 1) := dk_96 (dk_at dksL_law_5 4 rfl rfl)
theorem dL_law_233 : decode cL_law 233 = .ok (.iaload, 1) := dk_46 (dk_at dksL_law_5 5 rfl rfl)
theorem dL_law_234 : decode cL_law 234 = .ok (.aload_n 0, 1) := dk_42 (dk_at dksL_law_5 6 rfl rfl)
theorem dL_law_235 : decode cL_law 235 = .ok (.iload_n 3, 1) := dk_29 (dk_at dksL_law_5 7 rfl rfl)
theorem dL_law_236 : decode cL_law 236 = .ok (.iconst 3, 1) := dk_6 (dk_at dksL_law_5 8 rfl rfl)
theorem dL_law_237 : decode cL_law 237 = .ok (.iadd, 1) := dk_96 (dk_at dksL_law_5 9 rfl rfl)
theorem dL_law_238 : decode cL_law 238 = .ok (.iaload, 1) := dk_46 (dk_at dksL_law_5 10 rfl rfl)
theorem dL_law_239 : decode cL_law 239 = .ok (.invokevirtual 18, 3) := dk_182 0 18 (dk_at dksL_law_5 11 rfl rfl)
theorem dL_law_242 : decode cL_law 242 = .ok (.aload_n 2, 1) := dk_44 (dk_at dksL_law_5 14 rfl rfl)
theorem dL_law_243 : decode cL_law 243 = .ok (.aload_n 0, 1) := dk_42 (dk_at dksL_law_5 15 rfl rfl)
theorem dL_law_244 : decode cL_law 244 = .ok (.iload_n 3, 1) := dk_29 (dk_at dksL_law_5 16 rfl rfl)
theorem dL_law_245 : decode cL_law 245 = .ok (.iconst 1, 1) := dk_4 (dk_at dksL_law_5 17 rfl rfl)
theorem dL_law_246 : decode cL_law 246 = .ok (.iadd, 1) := dk_96 (dk_at dksL_law_5 18 rfl rfl)
theorem dL_law_247 : decode cL_law 247 = .ok (.iaload, 1) := dk_46 (dk_at dksL_law_5 19 rfl rfl)
theorem dL_law_248 : decode cL_law 248 = .ok (.aload_n 0, 1) := dk_42 (dk_at dksL_law_5 20 rfl rfl)
theorem dL_law_249 : decode cL_law 249 = .ok (.iload_n 3, 1) := dk_29 (dk_at dksL_law_5 21 rfl rfl)
theorem dL_law_250 : decode cL_law 250 = .ok (.iconst 2, 1) := dk_5 (dk_at dksL_law_5 22 rfl rfl)
theorem dL_law_251 : decode cL_law 251 = .ok (.iadd, 1) := dk_96 (dk_at dksL_law_5 23 rfl rfl)
theorem dL_law_252 : decode cL_law 252 = .ok (.iaload, 1) := dk_46 (dk_at dksL_law_6 0 rfl rfl)
theorem dL_law_253 : decode cL_law 253 = .ok (.aload_n 0, 1) := dk_42 (dk_at dksL_law_6 1 rfl rfl)
theorem dL_law_254 : decode cL_law 254 = .ok (.iload_n 3, 1) := dk_29 (dk_at dksL_law_6 2 rfl rfl)
theorem dL_law_255 : decode cL_law 255 = .ok (.iconst 3, 1) := dk_6 (dk_at dksL_law_6 3 rfl rfl)
theorem dL_law_256 : decode cL_law 256 = .ok (.iadd, 1) := dk_96 (dk_at dksL_law_6 4 rfl rfl)
theorem dL_law_257 : decode cL_law 257 = .ok (.iaload, 1) := dk_46 (dk_at dksL_law_6 5 rfl rfl)
theorem dL_law_258 : decode cL_law 258 = .ok (.invokevirtual 21, 3) := dk_182 0 21 (dk_at dksL_law_6 6 rfl rfl)
theorem dL_law_261 : decode cL_law 261 = .ok (.if_icmp .eq 958, 3) := dk_159 3 190 (dk_at dksL_law_6 9 rfl rfl)
theorem dL_law_264 : decode cL_law 264 = .ok (.iconst 0, 1) := dk_3 (dk_at dksL_law_6 12 rfl rfl)
theorem dL_law_265 : decode cL_law 265 = .ok (.ireturn, 1) := dk_172 (dk_at dksL_law_6 13 rfl rfl)
theorem dL_law_266 : decode cL_law 266 = .ok (.aload_n 1, 1) := dk_43 (dk_at dksL_law_6 14 rfl rfl)
theorem dL_law_267 : decode cL_law 267 = .ok (.aload_n 0, 1) := dk_42 (dk_at dksL_law_6 15 rfl rfl)
theorem dL_law_268 : decode cL_law 268 = .ok (.iload_n 3, 1) := dk_29 (dk_at dksL_law_6 16 rfl rfl)
theorem dL_law_269 : decode cL_law 269 = .ok (.iconst 1, 1) := dk_4 (dk_at dksL_law_6 17 rfl rfl)
theorem dL_law_270 : decode cL_law 270 = .ok (.iadd, 1) := dk_96 (dk_at dksL_law_6 18 rfl rfl)
theorem dL_law_271 : decode cL_law 271 = .ok (.iaload, 1) := dk_46 (dk_at dksL_law_6 19 rfl rfl)
theorem dL_law_272 : decode cL_law 272 = .ok (.aload_n 0, 1) := dk_42 (dk_at dksL_law_6 20 rfl rfl)
theorem dL_law_273 : decode cL_law 273 = .ok (.iload_n 3, 1) := dk_29 (dk_at dksL_law_6 21 rfl rfl)
theorem dL_law_274 : decode cL_law 274 = .ok (.iconst 2, 1) := dk_5 (dk_at dksL_law_6 22 rfl rfl)
theorem dL_law_275 : decode cL_law 275 = .ok (.iadd, 1) := dk_96 (dk_at dksL_law_6 23 rfl rfl)
theorem dL_law_276 : decode cL_law 276 = .ok (.iaload, 1) := dk_46 (dk_at dksL_law_7 0 rfl rfl)
theorem dL_law_277 : decode cL_law 277 = .ok (.aload_n 0, 1) := dk_42 (dk_at dksL_law_7 1 rfl rfl)
theorem dL_law_278 : decode cL_law 278 = .ok (.iload_n 3, 1) := dk_29 (dk_at dksL_law_7 2 rfl rfl)
theorem dL_law_279 : decode cL_law 279 = .ok (.iconst 3, 1) := dk_6 (dk_at dksL_law_7 3 rfl rfl)
theorem dL_law_280 : decode cL_law 280 = .ok (.iadd, 1) := dk_96 (dk_at dksL_law_7 4 rfl rfl)
theorem dL_law_281 : decode cL_law 281 = .ok (.iaload, 1) := dk_46 (dk_at dksL_law_7 5 rfl rfl)
theorem dL_law_282 : decode cL_law 282 = .ok (.aload_n 0, 1) := dk_42 (dk_at dksL_law_7 6 rfl rfl)
theorem dL_law_283 : decode cL_law 283 = .ok (.iload_n 3, 1) := dk_29 (dk_at dksL_law_7 7 rfl rfl)
theorem dL_law_284 : decode cL_law 284 = .ok (.iconst 4, 1) := dk_7 (dk_at dksL_law_7 8 rfl rfl)
theorem dL_law_285 : decode cL_law 285 = .ok (.iadd, 1) := dk_96 (dk_at dksL_law_7 9 rfl rfl)
theorem dL_law_286 : decode cL_law 286 = .ok (.iaload, 1) := dk_46 (dk_at dksL_law_7 10 rfl rfl)
theorem dL_law_287 : decode cL_law 287 = .ok (.aload_n 0, 1) := dk_42 (dk_at dksL_law_7 11 rfl rfl)
theorem dL_law_288 : decode cL_law 288 = .ok (.iload_n 3, 1) := dk_29 (dk_at dksL_law_7 12 rfl rfl)
theorem dL_law_289 : decode cL_law 289 = .ok (.iconst 5, 1) := dk_8 (dk_at dksL_law_7 13 rfl rfl)
theorem dL_law_290 : decode cL_law 290 = .ok (.iadd, 1) := dk_96 (dk_at dksL_law_7 14 rfl rfl)
theorem dL_law_291 : decode cL_law 291 = .ok (.iaload, 1) := dk_46 (dk_at dksL_law_7 15 rfl rfl)
theorem dL_law_292 : decode cL_law 292 = .ok (.invokevirtual 22, 3) := dk_182 0 22 (dk_at dksL_law_7 16 rfl rfl)
theorem dL_law_295 : decode cL_law 295 = .ok (.aload_n 2, 1) := dk_44 (dk_at dksL_law_7 19 rfl rfl)
theorem dL_law_296 : decode cL_law 296 = .ok (.aload_n 0, 1) := dk_42 (dk_at dksL_law_7 20 rfl rfl)
theorem dL_law_297 : decode cL_law 297 = .ok (.iload_n 3, 1) := dk_29 (dk_at dksL_law_7 21 rfl rfl)
theorem dL_law_298 : decode cL_law 298 = .ok (.iconst 1, 1) := dk_4 (dk_at dksL_law_7 22 rfl rfl)
theorem dL_law_299 : decode cL_law 299 = .ok (.iadd, 1) := dk_96 (dk_at dksL_law_7 23 rfl rfl)
theorem dL_law_300 : decode cL_law 300 = .ok (.iaload, 1) := dk_46 (dk_at dksL_law_8 0 rfl rfl)
theorem dL_law_301 : decode cL_law 301 = .ok (.aload_n 0, 1) := dk_42 (dk_at dksL_law_8 1 rfl rfl)
theorem dL_law_302 : decode cL_law 302 = .ok (.iload_n 3, 1) := dk_29 (dk_at dksL_law_8 2 rfl rfl)
theorem dL_law_303 : decode cL_law 303 = .ok (.iconst 2, 1) := dk_5 (dk_at dksL_law_8 3 rfl rfl)
theorem dL_law_304 : decode cL_law 304 = .ok (.iadd, 1) := dk_96 (dk_at dksL_law_8 4 rfl rfl)
theorem dL_law_305 : decode cL_law 305 = .ok (.iaload, 1) := dk_46 (dk_at dksL_law_8 5 rfl rfl)
theorem dL_law_306 : decode cL_law 306 = .ok (.aload_n 0, 1) := dk_42 (dk_at dksL_law_8 6 rfl rfl)
theorem dL_law_307 : decode cL_law 307 = .ok (.iload_n 3, 1) := dk_29 (dk_at dksL_law_8 7 rfl rfl)
theorem dL_law_308 : decode cL_law 308 = .ok (.iconst 3, 1) := dk_6 (dk_at dksL_law_8 8 rfl rfl)
theorem dL_law_309 : decode cL_law 309 = .ok (.iadd, 1) := dk_96 (dk_at dksL_law_8 9 rfl rfl)
theorem dL_law_310 : decode cL_law 310 = .ok (.iaload, 1) := dk_46 (dk_at dksL_law_8 10 rfl rfl)
theorem dL_law_311 : decode cL_law 311 = .ok (.aload_n 0, 1) := dk_42 (dk_at dksL_law_8 11 rfl rfl)
theorem dL_law_312 : decode cL_law 312 = .ok (.iload_n 3, 1) := dk_29 (dk_at dksL_law_8 12 rfl rfl)
theorem dL_law_313 : decode cL_law 313 = .ok (.iconst 4, 1) := dk_7 (dk_at dksL_law_8 13 rfl rfl)
theorem dL_law_314 : decode cL_law 314 = .ok (.iadd, 1) := dk_96 (dk_at dksL_law_8 14 rfl rfl)
theorem dL_law_315 : decode cL_law 315 = .ok (.iaload, 1) := dk_46 (dk_at dksL_law_8 15 rfl rfl)
theorem dL_law_316 : decode cL_law 316 = .ok (.aload_n 0, 1) := dk_42 (dk_at dksL_law_8 16 rfl rfl)
theorem dL_law_317 : decode cL_law 317 = .ok (.iload_n 3, 1) := dk_29 (dk_at dksL_law_8 17 rfl rfl)
theorem dL_law_318 : decode cL_law 318 = .ok (.iconst 5, 1) := dk_8 (dk_at dksL_law_8 18 rfl rfl)
theorem dL_law_319 : decode cL_law 319 = .ok (.iadd, 1) := dk_96 (dk_at dksL_law_8 19 rfl rfl)
theorem dL_law_320 : decode cL_law 320 = .ok (.iaload, 1) := dk_46 (dk_at dksL_law_8 20 rfl rfl)
theorem dL_law_321 : decode cL_law 321 = .ok (.invokevirtual 26, 3) := dk_182 0 26 (dk_at dksL_law_8 21 rfl rfl)
theorem dL_law_324 : decode cL_law 324 = .ok (.if_icmp .eq 895, 3) := dk_159 3 127 (dk_at dksL_law_9 0 rfl rfl)
theorem dL_law_327 : decode cL_law 327 = .ok (.iconst 0, 1) := dk_3 (dk_at dksL_law_9 3 rfl rfl)
theorem dL_law_328 : decode cL_law 328 = .ok (.ireturn, 1) := dk_172 (dk_at dksL_law_9 4 rfl rfl)
theorem dL_law_329 : decode cL_law 329 = .ok (.aload_n 1, 1) := dk_43 (dk_at dksL_law_9 5 rfl rfl)
theorem dL_law_330 : decode cL_law 330 = .ok (.aload_n 0, 1) := dk_42 (dk_at dksL_law_9 6 rfl rfl)
theorem dL_law_331 : decode cL_law 331 = .ok (.iload_n 3, 1) := dk_29 (dk_at dksL_law_9 7 rfl rfl)
theorem dL_law_332 : decode cL_law 332 = .ok (.iconst 1, 1) := dk_4 (dk_at dksL_law_9 8 rfl rfl)
theorem dL_law_333 : decode cL_law 333 = .ok (.iadd, 1) := dk_96 (dk_at dksL_law_9 9 rfl rfl)
theorem dL_law_334 : decode cL_law 334 = .ok (.iaload, 1) := dk_46 (dk_at dksL_law_9 10 rfl rfl)
theorem dL_law_335 : decode cL_law 335 = .ok (.invokevirtual 27, 3) := dk_182 0 27 (dk_at dksL_law_9 11 rfl rfl)
theorem dL_law_338 : decode cL_law 338 = .ok (.aload_n 2, 1) := dk_44 (dk_at dksL_law_9 14 rfl rfl)
theorem dL_law_339 : decode cL_law 339 = .ok (.aload_n 0, 1) := dk_42 (dk_at dksL_law_9 15 rfl rfl)
theorem dL_law_340 : decode cL_law 340 = .ok (.iload_n 3, 1) := dk_29 (dk_at dksL_law_9 16 rfl rfl)
theorem dL_law_341 : decode cL_law 341 = .ok (.iconst 1, 1) := dk_4 (dk_at dksL_law_9 17 rfl rfl)
theorem dL_law_342 : decode cL_law 342 = .ok (.iadd, 1) := dk_96 (dk_at dksL_law_9 18 rfl rfl)
theorem dL_law_343 : decode cL_law 343 = .ok (.iaload, 1) := dk_46 (dk_at dksL_law_9 19 rfl rfl)
theorem dL_law_344 : decode cL_law 344 = .ok (.invokevirtual 31, 3) := dk_182 0 31 (dk_at dksL_law_9 20 rfl rfl)
theorem dL_law_347 : decode cL_law 347 = .ok (.if_icmp .eq 872, 3) := dk_159 3 104 (dk_at dksL_law_10 0 rfl rfl)
theorem dL_law_350 : decode cL_law 350 = .ok (.iconst 0, 1) := dk_3 (dk_at dksL_law_10 3 rfl rfl)
theorem dL_law_351 : decode cL_law 351 = .ok (.ireturn, 1) := dk_172 (dk_at dksL_law_10 4 rfl rfl)
theorem dL_law_352 : decode cL_law 352 = .ok (.aload_n 1, 1) := dk_43 (dk_at dksL_law_10 5 rfl rfl)
theorem dL_law_353 : decode cL_law 353 = .ok (.aload_n 0, 1) := dk_42 (dk_at dksL_law_10 6 rfl rfl)
theorem dL_law_354 : decode cL_law 354 = .ok (.iload_n 3, 1) := dk_29 (dk_at dksL_law_10 7 rfl rfl)
theorem dL_law_355 : decode cL_law 355 = .ok (.iconst 1, 1) := dk_4 (dk_at dksL_law_10 8 rfl rfl)
theorem dL_law_356 : decode cL_law 356 = .ok (.iadd, 1) := dk_96 (dk_at dksL_law_10 9 rfl rfl)
theorem dL_law_357 : decode cL_law 357 = .ok (.iaload, 1) := dk_46 (dk_at dksL_law_10 10 rfl rfl)
theorem dL_law_358 : decode cL_law 358 = .ok (.aload_n 0, 1) := dk_42 (dk_at dksL_law_10 11 rfl rfl)
theorem dL_law_359 : decode cL_law 359 = .ok (.iload_n 3, 1) := dk_29 (dk_at dksL_law_10 12 rfl rfl)
theorem dL_law_360 : decode cL_law 360 = .ok (.iconst 2, 1) := dk_5 (dk_at dksL_law_10 13 rfl rfl)
theorem dL_law_361 : decode cL_law 361 = .ok (.iadd, 1) := dk_96 (dk_at dksL_law_10 14 rfl rfl)
theorem dL_law_362 : decode cL_law 362 = .ok (.iaload, 1) := dk_46 (dk_at dksL_law_10 15 rfl rfl)
theorem dL_law_363 : decode cL_law 363 = .ok (.aload_n 0, 1) := dk_42 (dk_at dksL_law_10 16 rfl rfl)
theorem dL_law_364 : decode cL_law 364 = .ok (.iload_n 3, 1) := dk_29 (dk_at dksL_law_10 17 rfl rfl)
theorem dL_law_365 : decode cL_law 365 = .ok (.iconst 3, 1) := dk_6 (dk_at dksL_law_10 18 rfl rfl)
theorem dL_law_366 : decode cL_law 366 = .ok (.iadd, 1) := dk_96 (dk_at dksL_law_10 19 rfl rfl)
theorem dL_law_367 : decode cL_law 367 = .ok (.iaload, 1) := dk_46 (dk_at dksL_law_10 20 rfl rfl)
theorem dL_law_368 : decode cL_law 368 = .ok (.invokevirtual 32, 3) := dk_182 0 32 (dk_at dksL_law_10 21 rfl rfl)
theorem dL_law_371 : decode cL_law 371 = .ok (.aload_n 2, 1) := dk_44 (dk_at dksL_law_11 0 rfl rfl)
theorem dL_law_372 : decode cL_law 372 = .ok (.aload_n 0, 1) := dk_42 (dk_at dksL_law_11 1 rfl rfl)
theorem dL_law_373 : decode cL_law 373 = .ok (.iload_n 3, 1) := dk_29 (dk_at dksL_law_11 2 rfl rfl)
theorem dL_law_374 : decode cL_law 374 = .ok (.iconst 1, 1) := dk_4 (dk_at dksL_law_11 3 rfl rfl)
theorem dL_law_375 : decode cL_law 375 = .ok (.iadd, 1) := dk_96 (dk_at dksL_law_11 4 rfl rfl)
theorem dL_law_376 : decode cL_law 376 = .ok (.iaload, 1) := dk_46 (dk_at dksL_law_11 5 rfl rfl)
theorem dL_law_377 : decode cL_law 377 = .ok (.aload_n 0, 1) := dk_42 (dk_at dksL_law_11 6 rfl rfl)
theorem dL_law_378 : decode cL_law 378 = .ok (.iload_n 3, 1) := dk_29 (dk_at dksL_law_11 7 rfl rfl)
theorem dL_law_379 : decode cL_law 379 = .ok (.iconst 2, 1) := dk_5 (dk_at dksL_law_11 8 rfl rfl)
theorem dL_law_380 : decode cL_law 380 = .ok (.iadd, 1) := dk_96 (dk_at dksL_law_11 9 rfl rfl)
theorem dL_law_381 : decode cL_law 381 = .ok (.iaload, 1) := dk_46 (dk_at dksL_law_11 10 rfl rfl)
theorem dL_law_382 : decode cL_law 382 = .ok (.aload_n 0, 1) := dk_42 (dk_at dksL_law_11 11 rfl rfl)
theorem dL_law_383 : decode cL_law 383 = .ok (.iload_n 3, 1) := dk_29 (dk_at dksL_law_11 12 rfl rfl)
theorem dL_law_384 : decode cL_law 384 = .ok (.iconst 3, 1) := dk_6 (dk_at dksL_law_11 13 rfl rfl)
theorem dL_law_385 : decode cL_law 385 = .ok (.iadd, 1) := dk_96 (dk_at dksL_law_11 14 rfl rfl)
theorem dL_law_386 : decode cL_law 386 = .ok (.iaload, 1) := dk_46 (dk_at dksL_law_11 15 rfl rfl)
theorem dL_law_387 : decode cL_law 387 = .ok (.invokevirtual 35, 3) := dk_182 0 35 (dk_at dksL_law_11 16 rfl rfl)
theorem dL_law_390 : decode cL_law 390 = .ok (.if_icmp .eq 829, 3) := dk_159 3 61 (dk_at dksL_law_11 19 rfl rfl)
theorem dL_law_393 : decode cL_law 393 = .ok (.iconst 0, 1) := dk_3 (dk_at dksL_law_11 22 rfl rfl)
theorem dL_law_394 : decode cL_law 394 = .ok (.ireturn, 1) := dk_172 (dk_at dksL_law_11 23 rfl rfl)
theorem dL_law_395 : decode cL_law 395 = .ok (.aload_n 1, 1) := dk_43 (dk_at dksL_law_12 0 rfl rfl)
theorem dL_law_396 : decode cL_law 396 = .ok (.aload_n 0, 1) := dk_42 (dk_at dksL_law_12 1 rfl rfl)
theorem dL_law_397 : decode cL_law 397 = .ok (.iload_n 3, 1) := dk_29 (dk_at dksL_law_12 2 rfl rfl)
theorem dL_law_398 : decode cL_law 398 = .ok (.iconst 1, 1) := dk_4 (dk_at dksL_law_12 3 rfl rfl)
theorem dL_law_399 : decode cL_law 399 = .ok (.iadd, 1) := dk_96 (dk_at dksL_law_12 4 rfl rfl)
theorem dL_law_400 : decode cL_law 400 = .ok (.iaload, 1) := dk_46 (dk_at dksL_law_12 5 rfl rfl)
theorem dL_law_401 : decode cL_law 401 = .ok (.aload_n 0, 1) := dk_42 (dk_at dksL_law_12 6 rfl rfl)
theorem dL_law_402 : decode cL_law 402 = .ok (.iload_n 3, 1) := dk_29 (dk_at dksL_law_12 7 rfl rfl)
theorem dL_law_403 : decode cL_law 403 = .ok (.iconst 2, 1) := dk_5 (dk_at dksL_law_12 8 rfl rfl)
theorem dL_law_404 : decode cL_law 404 = .ok (.iadd, 1) := dk_96 (dk_at dksL_law_12 9 rfl rfl)
theorem dL_law_405 : decode cL_law 405 = .ok (.iaload, 1) := dk_46 (dk_at dksL_law_12 10 rfl rfl)
theorem dL_law_406 : decode cL_law 406 = .ok (.invokevirtual 36, 3) := dk_182 0 36 (dk_at dksL_law_12 11 rfl rfl)
theorem dL_law_409 : decode cL_law 409 = .ok (.aload_n 2, 1) := dk_44 (dk_at dksL_law_12 14 rfl rfl)
theorem dL_law_410 : decode cL_law 410 = .ok (.aload_n 0, 1) := dk_42 (dk_at dksL_law_12 15 rfl rfl)
theorem dL_law_411 : decode cL_law 411 = .ok (.iload_n 3, 1) := dk_29 (dk_at dksL_law_12 16 rfl rfl)
theorem dL_law_412 : decode cL_law 412 = .ok (.iconst 1, 1) := dk_4 (dk_at dksL_law_12 17 rfl rfl)
theorem dL_law_413 : decode cL_law 413 = .ok (.iadd, 1) := dk_96 (dk_at dksL_law_12 18 rfl rfl)
theorem dL_law_414 : decode cL_law 414 = .ok (.iaload, 1) := dk_46 (dk_at dksL_law_12 19 rfl rfl)
theorem dL_law_415 : decode cL_law 415 = .ok (.aload_n 0, 1) := dk_42 (dk_at dksL_law_12 20 rfl rfl)
theorem dL_law_416 : decode cL_law 416 = .ok (.iload_n 3, 1) := dk_29 (dk_at dksL_law_12 21 rfl rfl)
theorem dL_law_417 : decode cL_law 417 = .ok (.iconst 2, 1) := dk_5 (dk_at dksL_law_12 22 rfl rfl)
theorem dL_law_418 : decode cL_law 418 = .ok (.iadd, 1) := dk_96 (dk_at dksL_law_12 23 rfl rfl)
theorem dL_law_419 : decode cL_law 419 = .ok (.iaload, 1) := dk_46 (dk_at dksL_law_13 0 rfl rfl)
theorem dL_law_420 : decode cL_law 420 = .ok (.invokevirtual 40, 3) := dk_182 0 40 (dk_at dksL_law_13 1 rfl rfl)
theorem dL_law_423 : decode cL_law 423 = .ok (.if_icmp .eq 796, 3) := dk_159 3 28 (dk_at dksL_law_13 4 rfl rfl)
theorem dL_law_426 : decode cL_law 426 = .ok (.iconst 0, 1) := dk_3 (dk_at dksL_law_13 7 rfl rfl)
theorem dL_law_427 : decode cL_law 427 = .ok (.ireturn, 1) := dk_172 (dk_at dksL_law_13 8 rfl rfl)
theorem dL_law_428 : decode cL_law 428 = .ok (.aload_n 1, 1) := dk_43 (dk_at dksL_law_13 9 rfl rfl)
theorem dL_law_429 : decode cL_law 429 = .ok (.aload_n 0, 1) := dk_42 (dk_at dksL_law_13 10 rfl rfl)
theorem dL_law_430 : decode cL_law 430 = .ok (.iload_n 3, 1) := dk_29 (dk_at dksL_law_13 11 rfl rfl)
theorem dL_law_431 : decode cL_law 431 = .ok (.iconst 1, 1) := dk_4 (dk_at dksL_law_13 12 rfl rfl)
theorem dL_law_432 : decode cL_law 432 = .ok (.iadd, 1) := dk_96 (dk_at dksL_law_13 13 rfl rfl)
theorem dL_law_433 : decode cL_law 433 = .ok (.iaload, 1) := dk_46 (dk_at dksL_law_13 14 rfl rfl)
theorem dL_law_434 : decode cL_law 434 = .ok (.aload_n 0, 1) := dk_42 (dk_at dksL_law_13 15 rfl rfl)
theorem dL_law_435 : decode cL_law 435 = .ok (.iload_n 3, 1) := dk_29 (dk_at dksL_law_13 16 rfl rfl)
theorem dL_law_436 : decode cL_law 436 = .ok (.iconst 2, 1) := dk_5 (dk_at dksL_law_13 17 rfl rfl)
theorem dL_law_437 : decode cL_law 437 = .ok (.iadd, 1) := dk_96 (dk_at dksL_law_13 18 rfl rfl)
theorem dL_law_438 : decode cL_law 438 = .ok (.iaload, 1) := dk_46 (dk_at dksL_law_13 19 rfl rfl)
theorem dL_law_439 : decode cL_law 439 = .ok (.invokevirtual 41, 3) := dk_182 0 41 (dk_at dksL_law_13 20 rfl rfl)
theorem dL_law_442 : decode cL_law 442 = .ok (.aload_n 2, 1) := dk_44 (dk_at dksL_law_13 23 rfl rfl)
theorem dL_law_443 : decode cL_law 443 = .ok (.aload_n 0, 1) := dk_42 (dk_at dksL_law_14 0 rfl rfl)
theorem dL_law_444 : decode cL_law 444 = .ok (.iload_n 3, 1) := dk_29 (dk_at dksL_law_14 1 rfl rfl)
theorem dL_law_445 : decode cL_law 445 = .ok (.iconst 1, 1) := dk_4 (dk_at dksL_law_14 2 rfl rfl)
theorem dL_law_446 : decode cL_law 446 = .ok (.iadd, 1) := dk_96 (dk_at dksL_law_14 3 rfl rfl)
theorem dL_law_447 : decode cL_law 447 = .ok (.iaload, 1) := dk_46 (dk_at dksL_law_14 4 rfl rfl)
theorem dL_law_448 : decode cL_law 448 = .ok (.aload_n 0, 1) := dk_42 (dk_at dksL_law_14 5 rfl rfl)
theorem dL_law_449 : decode cL_law 449 = .ok (.iload_n 3, 1) := dk_29 (dk_at dksL_law_14 6 rfl rfl)
theorem dL_law_450 : decode cL_law 450 = .ok (.iconst 2, 1) := dk_5 (dk_at dksL_law_14 7 rfl rfl)
theorem dL_law_451 : decode cL_law 451 = .ok (.iadd, 1) := dk_96 (dk_at dksL_law_14 8 rfl rfl)
theorem dL_law_452 : decode cL_law 452 = .ok (.iaload, 1) := dk_46 (dk_at dksL_law_14 9 rfl rfl)
theorem dL_law_453 : decode cL_law 453 = .ok (.invokevirtual 44, 3) := dk_182 0 44 (dk_at dksL_law_14 10 rfl rfl)
theorem dL_law_456 : decode cL_law 456 = .ok (.if_icmp .eq 763, 3) := dk_159 2 251 (dk_at dksL_law_14 13 rfl rfl)
theorem dL_law_459 : decode cL_law 459 = .ok (.iconst 0, 1) := dk_3 (dk_at dksL_law_14 16 rfl rfl)
theorem dL_law_460 : decode cL_law 460 = .ok (.ireturn, 1) := dk_172 (dk_at dksL_law_14 17 rfl rfl)
theorem dL_law_461 : decode cL_law 461 = .ok (.aload_n 1, 1) := dk_43 (dk_at dksL_law_14 18 rfl rfl)
theorem dL_law_462 : decode cL_law 462 = .ok (.aload_n 0, 1) := dk_42 (dk_at dksL_law_14 19 rfl rfl)
theorem dL_law_463 : decode cL_law 463 = .ok (.iload_n 3, 1) := dk_29 (dk_at dksL_law_14 20 rfl rfl)
theorem dL_law_464 : decode cL_law 464 = .ok (.iconst 1, 1) := dk_4 (dk_at dksL_law_14 21 rfl rfl)
theorem dL_law_465 : decode cL_law 465 = .ok (.iadd, 1) := dk_96 (dk_at dksL_law_14 22 rfl rfl)
theorem dL_law_466 : decode cL_law 466 = .ok (.iaload, 1) := dk_46 (dk_at dksL_law_14 23 rfl rfl)
theorem dL_law_467 : decode cL_law 467 = .ok (.aload_n 0, 1) := dk_42 (dk_at dksL_law_15 0 rfl rfl)
theorem dL_law_468 : decode cL_law 468 = .ok (.iload_n 3, 1) := dk_29 (dk_at dksL_law_15 1 rfl rfl)
theorem dL_law_469 : decode cL_law 469 = .ok (.iconst 2, 1) := dk_5 (dk_at dksL_law_15 2 rfl rfl)
theorem dL_law_470 : decode cL_law 470 = .ok (.iadd, 1) := dk_96 (dk_at dksL_law_15 3 rfl rfl)
theorem dL_law_471 : decode cL_law 471 = .ok (.iaload, 1) := dk_46 (dk_at dksL_law_15 4 rfl rfl)
theorem dL_law_472 : decode cL_law 472 = .ok (.invokevirtual 45, 3) := dk_182 0 45 (dk_at dksL_law_15 5 rfl rfl)
theorem dL_law_475 : decode cL_law 475 = .ok (.aload_n 2, 1) := dk_44 (dk_at dksL_law_15 8 rfl rfl)
theorem dL_law_476 : decode cL_law 476 = .ok (.aload_n 0, 1) := dk_42 (dk_at dksL_law_15 9 rfl rfl)
theorem dL_law_477 : decode cL_law 477 = .ok (.iload_n 3, 1) := dk_29 (dk_at dksL_law_15 10 rfl rfl)
theorem dL_law_478 : decode cL_law 478 = .ok (.iconst 1, 1) := dk_4 (dk_at dksL_law_15 11 rfl rfl)
theorem dL_law_479 : decode cL_law 479 = .ok (.iadd, 1) := dk_96 (dk_at dksL_law_15 12 rfl rfl)
theorem dL_law_480 : decode cL_law 480 = .ok (.iaload, 1) := dk_46 (dk_at dksL_law_15 13 rfl rfl)
theorem dL_law_481 : decode cL_law 481 = .ok (.aload_n 0, 1) := dk_42 (dk_at dksL_law_15 14 rfl rfl)
theorem dL_law_482 : decode cL_law 482 = .ok (.iload_n 3, 1) := dk_29 (dk_at dksL_law_15 15 rfl rfl)
theorem dL_law_483 : decode cL_law 483 = .ok (.iconst 2, 1) := dk_5 (dk_at dksL_law_15 16 rfl rfl)
theorem dL_law_484 : decode cL_law 484 = .ok (.iadd, 1) := dk_96 (dk_at dksL_law_15 17 rfl rfl)
theorem dL_law_485 : decode cL_law 485 = .ok (.iaload, 1) := dk_46 (dk_at dksL_law_15 18 rfl rfl)
theorem dL_law_486 : decode cL_law 486 = .ok (.invokevirtual 48, 3) := dk_182 0 48 (dk_at dksL_law_15 19 rfl rfl)
theorem dL_law_489 : decode cL_law 489 = .ok (.if_icmp .eq 730, 3) := dk_159 2 218 (dk_at dksL_law_16 0 rfl rfl)
theorem dL_law_492 : decode cL_law 492 = .ok (.iconst 0, 1) := dk_3 (dk_at dksL_law_16 3 rfl rfl)
theorem dL_law_493 : decode cL_law 493 = .ok (.ireturn, 1) := dk_172 (dk_at dksL_law_16 4 rfl rfl)
theorem dL_law_494 : decode cL_law 494 = .ok (.aload_n 1, 1) := dk_43 (dk_at dksL_law_16 5 rfl rfl)
theorem dL_law_495 : decode cL_law 495 = .ok (.aload_n 0, 1) := dk_42 (dk_at dksL_law_16 6 rfl rfl)
theorem dL_law_496 : decode cL_law 496 = .ok (.iload_n 3, 1) := dk_29 (dk_at dksL_law_16 7 rfl rfl)
theorem dL_law_497 : decode cL_law 497 = .ok (.iconst 1, 1) := dk_4 (dk_at dksL_law_16 8 rfl rfl)
theorem dL_law_498 : decode cL_law 498 = .ok (.iadd, 1) := dk_96 (dk_at dksL_law_16 9 rfl rfl)
theorem dL_law_499 : decode cL_law 499 = .ok (.iaload, 1) := dk_46 (dk_at dksL_law_16 10 rfl rfl)
theorem dL_law_500 : decode cL_law 500 = .ok (.aload_n 0, 1) := dk_42 (dk_at dksL_law_16 11 rfl rfl)
theorem dL_law_501 : decode cL_law 501 = .ok (.iload_n 3, 1) := dk_29 (dk_at dksL_law_16 12 rfl rfl)
theorem dL_law_502 : decode cL_law 502 = .ok (.iconst 2, 1) := dk_5 (dk_at dksL_law_16 13 rfl rfl)
theorem dL_law_503 : decode cL_law 503 = .ok (.iadd, 1) := dk_96 (dk_at dksL_law_16 14 rfl rfl)
theorem dL_law_504 : decode cL_law 504 = .ok (.iaload, 1) := dk_46 (dk_at dksL_law_16 15 rfl rfl)
theorem dL_law_505 : decode cL_law 505 = .ok (.aload_n 0, 1) := dk_42 (dk_at dksL_law_16 16 rfl rfl)
theorem dL_law_506 : decode cL_law 506 = .ok (.iload_n 3, 1) := dk_29 (dk_at dksL_law_16 17 rfl rfl)
theorem dL_law_507 : decode cL_law 507 = .ok (.iconst 3, 1) := dk_6 (dk_at dksL_law_16 18 rfl rfl)
theorem dL_law_508 : decode cL_law 508 = .ok (.iadd, 1) := dk_96 (dk_at dksL_law_16 19 rfl rfl)
theorem dL_law_509 : decode cL_law 509 = .ok (.iaload, 1) := dk_46 (dk_at dksL_law_16 20 rfl rfl)
theorem dL_law_510 : decode cL_law 510 = .ok (.invokevirtual 49, 3) := dk_182 0 49 (dk_at dksL_law_16 21 rfl rfl)
theorem dL_law_513 : decode cL_law 513 = .ok (.aload_n 2, 1) := dk_44 (dk_at dksL_law_17 0 rfl rfl)
theorem dL_law_514 : decode cL_law 514 = .ok (.aload_n 0, 1) := dk_42 (dk_at dksL_law_17 1 rfl rfl)
theorem dL_law_515 : decode cL_law 515 = .ok (.iload_n 3, 1) := dk_29 (dk_at dksL_law_17 2 rfl rfl)
theorem dL_law_516 : decode cL_law 516 = .ok (.iconst 1, 1) := dk_4 (dk_at dksL_law_17 3 rfl rfl)
theorem dL_law_517 : decode cL_law 517 = .ok (.iadd, 1) := dk_96 (dk_at dksL_law_17 4 rfl rfl)
theorem dL_law_518 : decode cL_law 518 = .ok (.iaload, 1) := dk_46 (dk_at dksL_law_17 5 rfl rfl)
theorem dL_law_519 : decode cL_law 519 = .ok (.aload_n 0, 1) := dk_42 (dk_at dksL_law_17 6 rfl rfl)
theorem dL_law_520 : decode cL_law 520 = .ok (.iload_n 3, 1) := dk_29 (dk_at dksL_law_17 7 rfl rfl)
theorem dL_law_521 : decode cL_law 521 = .ok (.iconst 2, 1) := dk_5 (dk_at dksL_law_17 8 rfl rfl)
theorem dL_law_522 : decode cL_law 522 = .ok (.iadd, 1) := dk_96 (dk_at dksL_law_17 9 rfl rfl)
theorem dL_law_523 : decode cL_law 523 = .ok (.iaload, 1) := dk_46 (dk_at dksL_law_17 10 rfl rfl)
theorem dL_law_524 : decode cL_law 524 = .ok (.aload_n 0, 1) := dk_42 (dk_at dksL_law_17 11 rfl rfl)
theorem dL_law_525 : decode cL_law 525 = .ok (.iload_n 3, 1) := dk_29 (dk_at dksL_law_17 12 rfl rfl)
theorem dL_law_526 : decode cL_law 526 = .ok (.iconst 3, 1) := dk_6 (dk_at dksL_law_17 13 rfl rfl)
theorem dL_law_527 : decode cL_law 527 = .ok (.iadd, 1) := dk_96 (dk_at dksL_law_17 14 rfl rfl)
theorem dL_law_528 : decode cL_law 528 = .ok (.iaload, 1) := dk_46 (dk_at dksL_law_17 15 rfl rfl)
theorem dL_law_529 : decode cL_law 529 = .ok (.invokevirtual 52, 3) := dk_182 0 52 (dk_at dksL_law_17 16 rfl rfl)
theorem dL_law_532 : decode cL_law 532 = .ok (.if_icmp .eq 687, 3) := dk_159 2 175 (dk_at dksL_law_17 19 rfl rfl)
theorem dL_law_535 : decode cL_law 535 = .ok (.iconst 0, 1) := dk_3 (dk_at dksL_law_17 22 rfl rfl)
theorem dL_law_536 : decode cL_law 536 = .ok (.ireturn, 1) := dk_172 (dk_at dksL_law_17 23 rfl rfl)
theorem dL_law_537 : decode cL_law 537 = .ok (.aload_n 1, 1) := dk_43 (dk_at dksL_law_18 0 rfl rfl)
theorem dL_law_538 : decode cL_law 538 = .ok (.invokevirtual 53, 3) := dk_182 0 53 (dk_at dksL_law_18 1 rfl rfl)
theorem dL_law_541 : decode cL_law 541 = .ok (.aload_n 2, 1) := dk_44 (dk_at dksL_law_18 4 rfl rfl)
theorem dL_law_542 : decode cL_law 542 = .ok (.invokevirtual 57, 3) := dk_182 0 57 (dk_at dksL_law_18 5 rfl rfl)
theorem dL_law_545 : decode cL_law 545 = .ok (.if_icmp .eq 674, 3) := dk_159 2 162 (dk_at dksL_law_18 8 rfl rfl)
theorem dL_law_548 : decode cL_law 548 = .ok (.iconst 0, 1) := dk_3 (dk_at dksL_law_18 11 rfl rfl)
theorem dL_law_549 : decode cL_law 549 = .ok (.ireturn, 1) := dk_172 (dk_at dksL_law_18 12 rfl rfl)
theorem dL_law_550 : decode cL_law 550 = .ok (.aload_n 1, 1) := dk_43 (dk_at dksL_law_18 13 rfl rfl)
theorem dL_law_551 : decode cL_law 551 = .ok (.aload_n 0, 1) := dk_42 (dk_at dksL_law_18 14 rfl rfl)
theorem dL_law_552 : decode cL_law 552 = .ok (.iload_n 3, 1) := dk_29 (dk_at dksL_law_18 15 rfl rfl)
theorem dL_law_553 : decode cL_law 553 = .ok (.iconst 1, 1) := dk_4 (dk_at dksL_law_18 16 rfl rfl)
theorem dL_law_554 : decode cL_law 554 = .ok (.iadd, 1) := dk_96 (dk_at dksL_law_18 17 rfl rfl)
theorem dL_law_555 : decode cL_law 555 = .ok (.iaload, 1) := dk_46 (dk_at dksL_law_18 18 rfl rfl)
theorem dL_law_556 : decode cL_law 556 = .ok (.invokevirtual 58, 3) := dk_182 0 58 (dk_at dksL_law_18 19 rfl rfl)
theorem dL_law_559 : decode cL_law 559 = .ok (.aload_n 2, 1) := dk_44 (dk_at dksL_law_18 22 rfl rfl)
theorem dL_law_560 : decode cL_law 560 = .ok (.aload_n 0, 1) := dk_42 (dk_at dksL_law_18 23 rfl rfl)
theorem dL_law_561 : decode cL_law 561 = .ok (.iload_n 3, 1) := dk_29 (dk_at dksL_law_19 0 rfl rfl)
theorem dL_law_562 : decode cL_law 562 = .ok (.iconst 1, 1) := dk_4 (dk_at dksL_law_19 1 rfl rfl)
theorem dL_law_563 : decode cL_law 563 = .ok (.iadd, 1) := dk_96 (dk_at dksL_law_19 2 rfl rfl)
theorem dL_law_564 : decode cL_law 564 = .ok (.iaload, 1) := dk_46 (dk_at dksL_law_19 3 rfl rfl)
theorem dL_law_565 : decode cL_law 565 = .ok (.invokevirtual 61, 3) := dk_182 0 61 (dk_at dksL_law_19 4 rfl rfl)
theorem dL_law_568 : decode cL_law 568 = .ok (.if_icmp .eq 651, 3) := dk_159 2 139 (dk_at dksL_law_19 7 rfl rfl)
theorem dL_law_571 : decode cL_law 571 = .ok (.iconst 0, 1) := dk_3 (dk_at dksL_law_19 10 rfl rfl)
theorem dL_law_572 : decode cL_law 572 = .ok (.ireturn, 1) := dk_172 (dk_at dksL_law_19 11 rfl rfl)
theorem dL_law_573 : decode cL_law 573 = .ok (.aload_n 1, 1) := dk_43 (dk_at dksL_law_19 12 rfl rfl)
theorem dL_law_574 : decode cL_law 574 = .ok (.aload_n 0, 1) := dk_42 (dk_at dksL_law_19 13 rfl rfl)
theorem dL_law_575 : decode cL_law 575 = .ok (.iload_n 3, 1) := dk_29 (dk_at dksL_law_19 14 rfl rfl)
theorem dL_law_576 : decode cL_law 576 = .ok (.iconst 1, 1) := dk_4 (dk_at dksL_law_19 15 rfl rfl)
theorem dL_law_577 : decode cL_law 577 = .ok (.iadd, 1) := dk_96 (dk_at dksL_law_19 16 rfl rfl)
theorem dL_law_578 : decode cL_law 578 = .ok (.iaload, 1) := dk_46 (dk_at dksL_law_19 17 rfl rfl)
theorem dL_law_579 : decode cL_law 579 = .ok (.aload_n 0, 1) := dk_42 (dk_at dksL_law_19 18 rfl rfl)
theorem dL_law_580 : decode cL_law 580 = .ok (.iload_n 3, 1) := dk_29 (dk_at dksL_law_19 19 rfl rfl)
theorem dL_law_581 : decode cL_law 581 = .ok (.iconst 2, 1) := dk_5 (dk_at dksL_law_19 20 rfl rfl)
theorem dL_law_582 : decode cL_law 582 = .ok (.iadd, 1) := dk_96 (dk_at dksL_law_19 21 rfl rfl)
theorem dL_law_583 : decode cL_law 583 = .ok (.iaload, 1) := dk_46 (dk_at dksL_law_19 22 rfl rfl)
theorem dL_law_584 : decode cL_law 584 = .ok (.invokevirtual 62, 3) := dk_182 0 62 (dk_at dksL_law_20 0 rfl rfl)
theorem dL_law_587 : decode cL_law 587 = .ok (.aload_n 2, 1) := dk_44 (dk_at dksL_law_20 3 rfl rfl)
theorem dL_law_588 : decode cL_law 588 = .ok (.aload_n 0, 1) := dk_42 (dk_at dksL_law_20 4 rfl rfl)
theorem dL_law_589 : decode cL_law 589 = .ok (.iload_n 3, 1) := dk_29 (dk_at dksL_law_20 5 rfl rfl)
theorem dL_law_590 : decode cL_law 590 = .ok (.iconst 1, 1) := dk_4 (dk_at dksL_law_20 6 rfl rfl)
theorem dL_law_591 : decode cL_law 591 = .ok (.iadd, 1) := dk_96 (dk_at dksL_law_20 7 rfl rfl)
theorem dL_law_592 : decode cL_law 592 = .ok (.iaload, 1) := dk_46 (dk_at dksL_law_20 8 rfl rfl)
theorem dL_law_593 : decode cL_law 593 = .ok (.aload_n 0, 1) := dk_42 (dk_at dksL_law_20 9 rfl rfl)
theorem dL_law_594 : decode cL_law 594 = .ok (.iload_n 3, 1) := dk_29 (dk_at dksL_law_20 10 rfl rfl)
theorem dL_law_595 : decode cL_law 595 = .ok (.iconst 2, 1) := dk_5 (dk_at dksL_law_20 11 rfl rfl)
theorem dL_law_596 : decode cL_law 596 = .ok (.iadd, 1) := dk_96 (dk_at dksL_law_20 12 rfl rfl)
theorem dL_law_597 : decode cL_law 597 = .ok (.iaload, 1) := dk_46 (dk_at dksL_law_20 13 rfl rfl)
theorem dL_law_598 : decode cL_law 598 = .ok (.invokevirtual 65, 3) := dk_182 0 65 (dk_at dksL_law_20 14 rfl rfl)
theorem dL_law_601 : decode cL_law 601 = .ok (.if_icmp .eq 618, 3) := dk_159 2 106 (dk_at dksL_law_20 17 rfl rfl)
theorem dL_law_604 : decode cL_law 604 = .ok (.iconst 0, 1) := dk_3 (dk_at dksL_law_20 20 rfl rfl)
theorem dL_law_605 : decode cL_law 605 = .ok (.ireturn, 1) := dk_172 (dk_at dksL_law_20 21 rfl rfl)
theorem dL_law_606 : decode cL_law 606 = .ok (.aload_n 1, 1) := dk_43 (dk_at dksL_law_20 22 rfl rfl)
theorem dL_law_607 : decode cL_law 607 = .ok (.aload_n 0, 1) := dk_42 (dk_at dksL_law_20 23 rfl rfl)
theorem dL_law_608 : decode cL_law 608 = .ok (.iload_n 3, 1) := dk_29 (dk_at dksL_law_21 0 rfl rfl)
theorem dL_law_609 : decode cL_law 609 = .ok (.iconst 1, 1) := dk_4 (dk_at dksL_law_21 1 rfl rfl)
theorem dL_law_610 : decode cL_law 610 = .ok (.iadd, 1) := dk_96 (dk_at dksL_law_21 2 rfl rfl)
theorem dL_law_611 : decode cL_law 611 = .ok (.iaload, 1) := dk_46 (dk_at dksL_law_21 3 rfl rfl)
theorem dL_law_612 : decode cL_law 612 = .ok (.invokevirtual 66, 3) := dk_182 0 66 (dk_at dksL_law_21 4 rfl rfl)
theorem dL_law_615 : decode cL_law 615 = .ok (.aload_n 2, 1) := dk_44 (dk_at dksL_law_21 7 rfl rfl)
theorem dL_law_616 : decode cL_law 616 = .ok (.aload_n 0, 1) := dk_42 (dk_at dksL_law_21 8 rfl rfl)
theorem dL_law_617 : decode cL_law 617 = .ok (.iload_n 3, 1) := dk_29 (dk_at dksL_law_21 9 rfl rfl)
theorem dL_law_618 : decode cL_law 618 = .ok (.iconst 1, 1) := dk_4 (dk_at dksL_law_21 10 rfl rfl)
theorem dL_law_619 : decode cL_law 619 = .ok (.iadd, 1) := dk_96 (dk_at dksL_law_21 11 rfl rfl)
theorem dL_law_620 : decode cL_law 620 = .ok (.iaload, 1) := dk_46 (dk_at dksL_law_21 12 rfl rfl)
theorem dL_law_621 : decode cL_law 621 = .ok (.invokevirtual 69, 3) := dk_182 0 69 (dk_at dksL_law_21 13 rfl rfl)
theorem dL_law_624 : decode cL_law 624 = .ok (.if_icmp .eq 595, 3) := dk_159 2 83 (dk_at dksL_law_21 16 rfl rfl)
theorem dL_law_627 : decode cL_law 627 = .ok (.iconst 0, 1) := dk_3 (dk_at dksL_law_21 19 rfl rfl)
theorem dL_law_628 : decode cL_law 628 = .ok (.ireturn, 1) := dk_172 (dk_at dksL_law_21 20 rfl rfl)
theorem dL_law_629 : decode cL_law 629 = .ok (.aload_n 1, 1) := dk_43 (dk_at dksL_law_21 21 rfl rfl)
theorem dL_law_630 : decode cL_law 630 = .ok (.aload_n 0, 1) := dk_42 (dk_at dksL_law_21 22 rfl rfl)
theorem dL_law_631 : decode cL_law 631 = .ok (.iload_n 3, 1) := dk_29 (dk_at dksL_law_21 23 rfl rfl)
theorem dL_law_632 : decode cL_law 632 = .ok (.iconst 1, 1) := dk_4 (dk_at dksL_law_22 0 rfl rfl)
theorem dL_law_633 : decode cL_law 633 = .ok (.iadd, 1) := dk_96 (dk_at dksL_law_22 1 rfl rfl)
theorem dL_law_634 : decode cL_law 634 = .ok (.iaload, 1) := dk_46 (dk_at dksL_law_22 2 rfl rfl)
theorem dL_law_635 : decode cL_law 635 = .ok (.aload_n 0, 1) := dk_42 (dk_at dksL_law_22 3 rfl rfl)
theorem dL_law_636 : decode cL_law 636 = .ok (.iload_n 3, 1) := dk_29 (dk_at dksL_law_22 4 rfl rfl)
theorem dL_law_637 : decode cL_law 637 = .ok (.iconst 2, 1) := dk_5 (dk_at dksL_law_22 5 rfl rfl)
theorem dL_law_638 : decode cL_law 638 = .ok (.iadd, 1) := dk_96 (dk_at dksL_law_22 6 rfl rfl)
theorem dL_law_639 : decode cL_law 639 = .ok (.iaload, 1) := dk_46 (dk_at dksL_law_22 7 rfl rfl)
theorem dL_law_640 : decode cL_law 640 = .ok (.aload_n 0, 1) := dk_42 (dk_at dksL_law_22 8 rfl rfl)
theorem dL_law_641 : decode cL_law 641 = .ok (.iload_n 3, 1) := dk_29 (dk_at dksL_law_22 9 rfl rfl)
theorem dL_law_642 : decode cL_law 642 = .ok (.iconst 3, 1) := dk_6 (dk_at dksL_law_22 10 rfl rfl)
theorem dL_law_643 : decode cL_law 643 = .ok (.iadd, 1) := dk_96 (dk_at dksL_law_22 11 rfl rfl)
theorem dL_law_644 : decode cL_law 644 = .ok (.iaload, 1) := dk_46 (dk_at dksL_law_22 12 rfl rfl)
theorem dL_law_645 : decode cL_law 645 = .ok (.aload_n 0, 1) := dk_42 (dk_at dksL_law_22 13 rfl rfl)
theorem dL_law_646 : decode cL_law 646 = .ok (.iload_n 3, 1) := dk_29 (dk_at dksL_law_22 14 rfl rfl)
theorem dL_law_647 : decode cL_law 647 = .ok (.iconst 4, 1) := dk_7 (dk_at dksL_law_22 15 rfl rfl)
theorem dL_law_648 : decode cL_law 648 = .ok (.iadd, 1) := dk_96 (dk_at dksL_law_22 16 rfl rfl)
theorem dL_law_649 : decode cL_law 649 = .ok (.iaload, 1) := dk_46 (dk_at dksL_law_22 17 rfl rfl)
theorem dL_law_650 : decode cL_law 650 = .ok (.invokevirtual 70, 3) := dk_182 0 70 (dk_at dksL_law_22 18 rfl rfl)
theorem dL_law_653 : decode cL_law 653 = .ok (.aload_n 2, 1) := dk_44 (dk_at dksL_law_22 21 rfl rfl)
theorem dL_law_654 : decode cL_law 654 = .ok (.aload_n 0, 1) := dk_42 (dk_at dksL_law_22 22 rfl rfl)
theorem dL_law_655 : decode cL_law 655 = .ok (.iload_n 3, 1) := dk_29 (dk_at dksL_law_22 23 rfl rfl)
theorem dL_law_656 : decode cL_law 656 = .ok (.iconst 1, 1) := dk_4 (dk_at dksL_law_23 0 rfl rfl)
theorem dL_law_657 : decode cL_law 657 = .ok (.iadd, 1) := dk_96 (dk_at dksL_law_23 1 rfl rfl)
theorem dL_law_658 : decode cL_law 658 = .ok (.iaload, 1) := dk_46 (dk_at dksL_law_23 2 rfl rfl)
theorem dL_law_659 : decode cL_law 659 = .ok (.aload_n 0, 1) := dk_42 (dk_at dksL_law_23 3 rfl rfl)
theorem dL_law_660 : decode cL_law 660 = .ok (.iload_n 3, 1) := dk_29 (dk_at dksL_law_23 4 rfl rfl)
theorem dL_law_661 : decode cL_law 661 = .ok (.iconst 2, 1) := dk_5 (dk_at dksL_law_23 5 rfl rfl)
theorem dL_law_662 : decode cL_law 662 = .ok (.iadd, 1) := dk_96 (dk_at dksL_law_23 6 rfl rfl)
theorem dL_law_663 : decode cL_law 663 = .ok (.iaload, 1) := dk_46 (dk_at dksL_law_23 7 rfl rfl)
theorem dL_law_664 : decode cL_law 664 = .ok (.aload_n 0, 1) := dk_42 (dk_at dksL_law_23 8 rfl rfl)
theorem dL_law_665 : decode cL_law 665 = .ok (.iload_n 3, 1) := dk_29 (dk_at dksL_law_23 9 rfl rfl)
theorem dL_law_666 : decode cL_law 666 = .ok (.iconst 3, 1) := dk_6 (dk_at dksL_law_23 10 rfl rfl)
theorem dL_law_667 : decode cL_law 667 = .ok (.iadd, 1) := dk_96 (dk_at dksL_law_23 11 rfl rfl)
theorem dL_law_668 : decode cL_law 668 = .ok (.iaload, 1) := dk_46 (dk_at dksL_law_23 12 rfl rfl)
theorem dL_law_669 : decode cL_law 669 = .ok (.aload_n 0, 1) := dk_42 (dk_at dksL_law_23 13 rfl rfl)
theorem dL_law_670 : decode cL_law 670 = .ok (.iload_n 3, 1) := dk_29 (dk_at dksL_law_23 14 rfl rfl)
theorem dL_law_671 : decode cL_law 671 = .ok (.iconst 4, 1) := dk_7 (dk_at dksL_law_23 15 rfl rfl)
theorem dL_law_672 : decode cL_law 672 = .ok (.iadd, 1) := dk_96 (dk_at dksL_law_23 16 rfl rfl)
theorem dL_law_673 : decode cL_law 673 = .ok (.iaload, 1) := dk_46 (dk_at dksL_law_23 17 rfl rfl)
theorem dL_law_674 : decode cL_law 674 = .ok (.invokevirtual 74, 3) := dk_182 0 74 (dk_at dksL_law_23 18 rfl rfl)
theorem dL_law_677 : decode cL_law 677 = .ok (.if_icmp .eq 542, 3) := dk_159 2 30 (dk_at dksL_law_23 21 rfl rfl)
theorem dL_law_680 : decode cL_law 680 = .ok (.iconst 0, 1) := dk_3 (dk_at dksL_law_24 0 rfl rfl)
theorem dL_law_681 : decode cL_law 681 = .ok (.ireturn, 1) := dk_172 (dk_at dksL_law_24 1 rfl rfl)
theorem dL_law_682 : decode cL_law 682 = .ok (.aload_n 1, 1) := dk_43 (dk_at dksL_law_24 2 rfl rfl)
theorem dL_law_683 : decode cL_law 683 = .ok (.aload_n 0, 1) := dk_42 (dk_at dksL_law_24 3 rfl rfl)
theorem dL_law_684 : decode cL_law 684 = .ok (.iload_n 3, 1) := dk_29 (dk_at dksL_law_24 4 rfl rfl)
theorem dL_law_685 : decode cL_law 685 = .ok (.iconst 1, 1) := dk_4 (dk_at dksL_law_24 5 rfl rfl)
theorem dL_law_686 : decode cL_law 686 = .ok (.iadd, 1) := dk_96 (dk_at dksL_law_24 6 rfl rfl)
theorem dL_law_687 : decode cL_law 687 = .ok (.iaload, 1) := dk_46 (dk_at dksL_law_24 7 rfl rfl)
theorem dL_law_688 : decode cL_law 688 = .ok (.aload_n 0, 1) := dk_42 (dk_at dksL_law_24 8 rfl rfl)
theorem dL_law_689 : decode cL_law 689 = .ok (.iload_n 3, 1) := dk_29 (dk_at dksL_law_24 9 rfl rfl)
theorem dL_law_690 : decode cL_law 690 = .ok (.iconst 2, 1) := dk_5 (dk_at dksL_law_24 10 rfl rfl)
theorem dL_law_691 : decode cL_law 691 = .ok (.iadd, 1) := dk_96 (dk_at dksL_law_24 11 rfl rfl)
theorem dL_law_692 : decode cL_law 692 = .ok (.iaload, 1) := dk_46 (dk_at dksL_law_24 12 rfl rfl)
theorem dL_law_693 : decode cL_law 693 = .ok (.aload_n 0, 1) := dk_42 (dk_at dksL_law_24 13 rfl rfl)
theorem dL_law_694 : decode cL_law 694 = .ok (.iload_n 3, 1) := dk_29 (dk_at dksL_law_24 14 rfl rfl)
theorem dL_law_695 : decode cL_law 695 = .ok (.iconst 3, 1) := dk_6 (dk_at dksL_law_24 15 rfl rfl)
theorem dL_law_696 : decode cL_law 696 = .ok (.iadd, 1) := dk_96 (dk_at dksL_law_24 16 rfl rfl)
theorem dL_law_697 : decode cL_law 697 = .ok (.iaload, 1) := dk_46 (dk_at dksL_law_24 17 rfl rfl)
theorem dL_law_698 : decode cL_law 698 = .ok (.invokevirtual 75, 3) := dk_182 0 75 (dk_at dksL_law_24 18 rfl rfl)
theorem dL_law_701 : decode cL_law 701 = .ok (.aload_n 2, 1) := dk_44 (dk_at dksL_law_24 21 rfl rfl)
theorem dL_law_702 : decode cL_law 702 = .ok (.aload_n 0, 1) := dk_42 (dk_at dksL_law_24 22 rfl rfl)
theorem dL_law_703 : decode cL_law 703 = .ok (.iload_n 3, 1) := dk_29 (dk_at dksL_law_24 23 rfl rfl)
theorem dL_law_704 : decode cL_law 704 = .ok (.iconst 1, 1) := dk_4 (dk_at dksL_law_25 0 rfl rfl)
theorem dL_law_705 : decode cL_law 705 = .ok (.iadd, 1) := dk_96 (dk_at dksL_law_25 1 rfl rfl)
theorem dL_law_706 : decode cL_law 706 = .ok (.iaload, 1) := dk_46 (dk_at dksL_law_25 2 rfl rfl)
theorem dL_law_707 : decode cL_law 707 = .ok (.aload_n 0, 1) := dk_42 (dk_at dksL_law_25 3 rfl rfl)
theorem dL_law_708 : decode cL_law 708 = .ok (.iload_n 3, 1) := dk_29 (dk_at dksL_law_25 4 rfl rfl)
theorem dL_law_709 : decode cL_law 709 = .ok (.iconst 2, 1) := dk_5 (dk_at dksL_law_25 5 rfl rfl)
theorem dL_law_710 : decode cL_law 710 = .ok (.iadd, 1) := dk_96 (dk_at dksL_law_25 6 rfl rfl)
theorem dL_law_711 : decode cL_law 711 = .ok (.iaload, 1) := dk_46 (dk_at dksL_law_25 7 rfl rfl)
theorem dL_law_712 : decode cL_law 712 = .ok (.aload_n 0, 1) := dk_42 (dk_at dksL_law_25 8 rfl rfl)
theorem dL_law_713 : decode cL_law 713 = .ok (.iload_n 3, 1) := dk_29 (dk_at dksL_law_25 9 rfl rfl)
theorem dL_law_714 : decode cL_law 714 = .ok (.iconst 3, 1) := dk_6 (dk_at dksL_law_25 10 rfl rfl)
theorem dL_law_715 : decode cL_law 715 = .ok (.iadd, 1) := dk_96 (dk_at dksL_law_25 11 rfl rfl)
theorem dL_law_716 : decode cL_law 716 = .ok (.iaload, 1) := dk_46 (dk_at dksL_law_25 12 rfl rfl)
theorem dL_law_717 : decode cL_law 717 = .ok (.invokevirtual 78, 3) := dk_182 0 78 (dk_at dksL_law_25 13 rfl rfl)
theorem dL_law_720 : decode cL_law 720 = .ok (.if_icmp .eq 499, 3) := dk_159 1 243 (dk_at dksL_law_25 16 rfl rfl)
theorem dL_law_723 : decode cL_law 723 = .ok (.iconst 0, 1) := dk_3 (dk_at dksL_law_25 19 rfl rfl)
theorem dL_law_724 : decode cL_law 724 = .ok (.ireturn, 1) := dk_172 (dk_at dksL_law_25 20 rfl rfl)
theorem dL_law_725 : decode cL_law 725 = .ok (.aload_n 1, 1) := dk_43 (dk_at dksL_law_25 21 rfl rfl)
theorem dL_law_726 : decode cL_law 726 = .ok (.aload_n 0, 1) := dk_42 (dk_at dksL_law_25 22 rfl rfl)
theorem dL_law_727 : decode cL_law 727 = .ok (.iload_n 3, 1) := dk_29 (dk_at dksL_law_25 23 rfl rfl)
theorem dL_law_728 : decode cL_law 728 = .ok (.iconst 1, 1) := dk_4 (dk_at dksL_law_26 0 rfl rfl)
theorem dL_law_729 : decode cL_law 729 = .ok (.iadd, 1) := dk_96 (dk_at dksL_law_26 1 rfl rfl)
theorem dL_law_730 : decode cL_law 730 = .ok (.iaload, 1) := dk_46 (dk_at dksL_law_26 2 rfl rfl)
theorem dL_law_731 : decode cL_law 731 = .ok (.invokevirtual 79, 3) := dk_182 0 79 (dk_at dksL_law_26 3 rfl rfl)
theorem dL_law_734 : decode cL_law 734 = .ok (.aload_n 2, 1) := dk_44 (dk_at dksL_law_26 6 rfl rfl)
theorem dL_law_735 : decode cL_law 735 = .ok (.aload_n 0, 1) := dk_42 (dk_at dksL_law_26 7 rfl rfl)
theorem dL_law_736 : decode cL_law 736 = .ok (.iload_n 3, 1) := dk_29 (dk_at dksL_law_26 8 rfl rfl)
theorem dL_law_737 : decode cL_law 737 = .ok (.iconst 1, 1) := dk_4 (dk_at dksL_law_26 9 rfl rfl)
theorem dL_law_738 : decode cL_law 738 = .ok (.iadd, 1) := dk_96 (dk_at dksL_law_26 10 rfl rfl)
theorem dL_law_739 : decode cL_law 739 = .ok (.iaload, 1) := dk_46 (dk_at dksL_law_26 11 rfl rfl)
theorem dL_law_740 : decode cL_law 740 = .ok (.invokevirtual 82, 3) := dk_182 0 82 (dk_at dksL_law_26 12 rfl rfl)
theorem dL_law_743 : decode cL_law 743 = .ok (.if_icmp .eq 476, 3) := dk_159 1 220 (dk_at dksL_law_26 15 rfl rfl)
theorem dL_law_746 : decode cL_law 746 = .ok (.iconst 0, 1) := dk_3 (dk_at dksL_law_26 18 rfl rfl)
theorem dL_law_747 : decode cL_law 747 = .ok (.ireturn, 1) := dk_172 (dk_at dksL_law_26 19 rfl rfl)
theorem dL_law_748 : decode cL_law 748 = .ok (.aload_n 1, 1) := dk_43 (dk_at dksL_law_26 20 rfl rfl)
theorem dL_law_749 : decode cL_law 749 = .ok (.aload_n 0, 1) := dk_42 (dk_at dksL_law_26 21 rfl rfl)
theorem dL_law_750 : decode cL_law 750 = .ok (.iload_n 3, 1) := dk_29 (dk_at dksL_law_26 22 rfl rfl)
theorem dL_law_751 : decode cL_law 751 = .ok (.iconst 1, 1) := dk_4 (dk_at dksL_law_26 23 rfl rfl)
theorem dL_law_752 : decode cL_law 752 = .ok (.iadd, 1) := dk_96 (dk_at dksL_law_27 0 rfl rfl)
theorem dL_law_753 : decode cL_law 753 = .ok (.iaload, 1) := dk_46 (dk_at dksL_law_27 1 rfl rfl)
theorem dL_law_754 : decode cL_law 754 = .ok (.invokevirtual 83, 3) := dk_182 0 83 (dk_at dksL_law_27 2 rfl rfl)
theorem dL_law_757 : decode cL_law 757 = .ok (.aload_n 2, 1) := dk_44 (dk_at dksL_law_27 5 rfl rfl)
theorem dL_law_758 : decode cL_law 758 = .ok (.aload_n 0, 1) := dk_42 (dk_at dksL_law_27 6 rfl rfl)
theorem dL_law_759 : decode cL_law 759 = .ok (.iload_n 3, 1) := dk_29 (dk_at dksL_law_27 7 rfl rfl)
theorem dL_law_760 : decode cL_law 760 = .ok (.iconst 1, 1) := dk_4 (dk_at dksL_law_27 8 rfl rfl)
theorem dL_law_761 : decode cL_law 761 = .ok (.iadd, 1) := dk_96 (dk_at dksL_law_27 9 rfl rfl)
theorem dL_law_762 : decode cL_law 762 = .ok (.iaload, 1) := dk_46 (dk_at dksL_law_27 10 rfl rfl)
theorem dL_law_763 : decode cL_law 763 = .ok (.invokevirtual 86, 3) := dk_182 0 86 (dk_at dksL_law_27 11 rfl rfl)
theorem dL_law_766 : decode cL_law 766 = .ok (.if_icmp .eq 453, 3) := dk_159 1 197 (dk_at dksL_law_27 14 rfl rfl)
theorem dL_law_769 : decode cL_law 769 = .ok (.iconst 0, 1) := dk_3 (dk_at dksL_law_27 17 rfl rfl)
theorem dL_law_770 : decode cL_law 770 = .ok (.ireturn, 1) := dk_172 (dk_at dksL_law_27 18 rfl rfl)
theorem dL_law_771 : decode cL_law 771 = .ok (.aload_n 1, 1) := dk_43 (dk_at dksL_law_27 19 rfl rfl)
theorem dL_law_772 : decode cL_law 772 = .ok (.aload_n 0, 1) := dk_42 (dk_at dksL_law_27 20 rfl rfl)
theorem dL_law_773 : decode cL_law 773 = .ok (.iload_n 3, 1) := dk_29 (dk_at dksL_law_27 21 rfl rfl)
theorem dL_law_774 : decode cL_law 774 = .ok (.iconst 1, 1) := dk_4 (dk_at dksL_law_27 22 rfl rfl)
theorem dL_law_775 : decode cL_law 775 = .ok (.iadd, 1) := dk_96 (dk_at dksL_law_27 23 rfl rfl)
theorem dL_law_776 : decode cL_law 776 = .ok (.iaload, 1) := dk_46 (dk_at dksL_law_28 0 rfl rfl)
theorem dL_law_777 : decode cL_law 777 = .ok (.aload_n 0, 1) := dk_42 (dk_at dksL_law_28 1 rfl rfl)
theorem dL_law_778 : decode cL_law 778 = .ok (.iload_n 3, 1) := dk_29 (dk_at dksL_law_28 2 rfl rfl)
theorem dL_law_779 : decode cL_law 779 = .ok (.iconst 2, 1) := dk_5 (dk_at dksL_law_28 3 rfl rfl)
theorem dL_law_780 : decode cL_law 780 = .ok (.iadd, 1) := dk_96 (dk_at dksL_law_28 4 rfl rfl)
theorem dL_law_781 : decode cL_law 781 = .ok (.iaload, 1) := dk_46 (dk_at dksL_law_28 5 rfl rfl)
theorem dL_law_782 : decode cL_law 782 = .ok (.invokevirtual 87, 3) := dk_182 0 87 (dk_at dksL_law_28 6 rfl rfl)
theorem dL_law_785 : decode cL_law 785 = .ok (.aload_n 2, 1) := dk_44 (dk_at dksL_law_28 9 rfl rfl)
theorem dL_law_786 : decode cL_law 786 = .ok (.aload_n 0, 1) := dk_42 (dk_at dksL_law_28 10 rfl rfl)
theorem dL_law_787 : decode cL_law 787 = .ok (.iload_n 3, 1) := dk_29 (dk_at dksL_law_28 11 rfl rfl)
theorem dL_law_788 : decode cL_law 788 = .ok (.iconst 1, 1) := dk_4 (dk_at dksL_law_28 12 rfl rfl)
theorem dL_law_789 : decode cL_law 789 = .ok (.iadd, 1) := dk_96 (dk_at dksL_law_28 13 rfl rfl)
theorem dL_law_790 : decode cL_law 790 = .ok (.iaload, 1) := dk_46 (dk_at dksL_law_28 14 rfl rfl)
theorem dL_law_791 : decode cL_law 791 = .ok (.aload_n 0, 1) := dk_42 (dk_at dksL_law_28 15 rfl rfl)
theorem dL_law_792 : decode cL_law 792 = .ok (.iload_n 3, 1) := dk_29 (dk_at dksL_law_28 16 rfl rfl)
theorem dL_law_793 : decode cL_law 793 = .ok (.iconst 2, 1) := dk_5 (dk_at dksL_law_28 17 rfl rfl)
theorem dL_law_794 : decode cL_law 794 = .ok (.iadd, 1) := dk_96 (dk_at dksL_law_28 18 rfl rfl)
theorem dL_law_795 : decode cL_law 795 = .ok (.iaload, 1) := dk_46 (dk_at dksL_law_28 19 rfl rfl)
theorem dL_law_796 : decode cL_law 796 = .ok (.invokevirtual 90, 3) := dk_182 0 90 (dk_at dksL_law_28 20 rfl rfl)
theorem dL_law_799 : decode cL_law 799 = .ok (.if_icmp .eq 420, 3) := dk_159 1 164 (dk_at dksL_law_29 0 rfl rfl)
theorem dL_law_802 : decode cL_law 802 = .ok (.iconst 0, 1) := dk_3 (dk_at dksL_law_29 3 rfl rfl)
theorem dL_law_803 : decode cL_law 803 = .ok (.ireturn, 1) := dk_172 (dk_at dksL_law_29 4 rfl rfl)
theorem dL_law_804 : decode cL_law 804 = .ok (.aload_n 1, 1) := dk_43 (dk_at dksL_law_29 5 rfl rfl)
theorem dL_law_805 : decode cL_law 805 = .ok (.aload_n 0, 1) := dk_42 (dk_at dksL_law_29 6 rfl rfl)
theorem dL_law_806 : decode cL_law 806 = .ok (.iload_n 3, 1) := dk_29 (dk_at dksL_law_29 7 rfl rfl)
theorem dL_law_807 : decode cL_law 807 = .ok (.iconst 1, 1) := dk_4 (dk_at dksL_law_29 8 rfl rfl)
theorem dL_law_808 : decode cL_law 808 = .ok (.iadd, 1) := dk_96 (dk_at dksL_law_29 9 rfl rfl)
theorem dL_law_809 : decode cL_law 809 = .ok (.iaload, 1) := dk_46 (dk_at dksL_law_29 10 rfl rfl)
theorem dL_law_810 : decode cL_law 810 = .ok (.invokevirtual 91, 3) := dk_182 0 91 (dk_at dksL_law_29 11 rfl rfl)
theorem dL_law_813 : decode cL_law 813 = .ok (.aload_n 2, 1) := dk_44 (dk_at dksL_law_29 14 rfl rfl)
theorem dL_law_814 : decode cL_law 814 = .ok (.aload_n 0, 1) := dk_42 (dk_at dksL_law_29 15 rfl rfl)
theorem dL_law_815 : decode cL_law 815 = .ok (.iload_n 3, 1) := dk_29 (dk_at dksL_law_29 16 rfl rfl)
theorem dL_law_816 : decode cL_law 816 = .ok (.iconst 1, 1) := dk_4 (dk_at dksL_law_29 17 rfl rfl)
theorem dL_law_817 : decode cL_law 817 = .ok (.iadd, 1) := dk_96 (dk_at dksL_law_29 18 rfl rfl)
theorem dL_law_818 : decode cL_law 818 = .ok (.iaload, 1) := dk_46 (dk_at dksL_law_29 19 rfl rfl)
theorem dL_law_819 : decode cL_law 819 = .ok (.invokevirtual 94, 3) := dk_182 0 94 (dk_at dksL_law_29 20 rfl rfl)
theorem dL_law_822 : decode cL_law 822 = .ok (.if_icmp .eq 397, 3) := dk_159 1 141 (dk_at dksL_law_30 0 rfl rfl)
theorem dL_law_825 : decode cL_law 825 = .ok (.iconst 0, 1) := dk_3 (dk_at dksL_law_30 3 rfl rfl)
theorem dL_law_826 : decode cL_law 826 = .ok (.ireturn, 1) := dk_172 (dk_at dksL_law_30 4 rfl rfl)
theorem dL_law_827 : decode cL_law 827 = .ok (.aload_n 1, 1) := dk_43 (dk_at dksL_law_30 5 rfl rfl)
theorem dL_law_828 : decode cL_law 828 = .ok (.invokevirtual 95, 3) := dk_182 0 95 (dk_at dksL_law_30 6 rfl rfl)
theorem dL_law_831 : decode cL_law 831 = .ok (.aload_n 2, 1) := dk_44 (dk_at dksL_law_30 9 rfl rfl)
theorem dL_law_832 : decode cL_law 832 = .ok (.invokevirtual 98, 3) := dk_182 0 98 (dk_at dksL_law_30 10 rfl rfl)
theorem dL_law_835 : decode cL_law 835 = .ok (.if_icmp .eq 384, 3) := dk_159 1 128 (dk_at dksL_law_30 13 rfl rfl)
theorem dL_law_838 : decode cL_law 838 = .ok (.iconst 0, 1) := dk_3 (dk_at dksL_law_30 16 rfl rfl)
theorem dL_law_839 : decode cL_law 839 = .ok (.ireturn, 1) := dk_172 (dk_at dksL_law_30 17 rfl rfl)
theorem dL_law_840 : decode cL_law 840 = .ok (.aload_n 1, 1) := dk_43 (dk_at dksL_law_30 18 rfl rfl)
theorem dL_law_841 : decode cL_law 841 = .ok (.aload_n 0, 1) := dk_42 (dk_at dksL_law_30 19 rfl rfl)
theorem dL_law_842 : decode cL_law 842 = .ok (.iload_n 3, 1) := dk_29 (dk_at dksL_law_30 20 rfl rfl)
theorem dL_law_843 : decode cL_law 843 = .ok (.iconst 1, 1) := dk_4 (dk_at dksL_law_30 21 rfl rfl)
theorem dL_law_844 : decode cL_law 844 = .ok (.iadd, 1) := dk_96 (dk_at dksL_law_30 22 rfl rfl)
theorem dL_law_845 : decode cL_law 845 = .ok (.iaload, 1) := dk_46 (dk_at dksL_law_30 23 rfl rfl)
theorem dL_law_846 : decode cL_law 846 = .ok (.aload_n 0, 1) := dk_42 (dk_at dksL_law_31 0 rfl rfl)
theorem dL_law_847 : decode cL_law 847 = .ok (.iload_n 3, 1) := dk_29 (dk_at dksL_law_31 1 rfl rfl)
theorem dL_law_848 : decode cL_law 848 = .ok (.iconst 2, 1) := dk_5 (dk_at dksL_law_31 2 rfl rfl)
theorem dL_law_849 : decode cL_law 849 = .ok (.iadd, 1) := dk_96 (dk_at dksL_law_31 3 rfl rfl)
theorem dL_law_850 : decode cL_law 850 = .ok (.iaload, 1) := dk_46 (dk_at dksL_law_31 4 rfl rfl)
theorem dL_law_851 : decode cL_law 851 = .ok (.invokevirtual 99, 3) := dk_182 0 99 (dk_at dksL_law_31 5 rfl rfl)
theorem dL_law_854 : decode cL_law 854 = .ok (.aload_n 2, 1) := dk_44 (dk_at dksL_law_31 8 rfl rfl)
theorem dL_law_855 : decode cL_law 855 = .ok (.aload_n 0, 1) := dk_42 (dk_at dksL_law_31 9 rfl rfl)
theorem dL_law_856 : decode cL_law 856 = .ok (.iload_n 3, 1) := dk_29 (dk_at dksL_law_31 10 rfl rfl)
theorem dL_law_857 : decode cL_law 857 = .ok (.iconst 1, 1) := dk_4 (dk_at dksL_law_31 11 rfl rfl)
theorem dL_law_858 : decode cL_law 858 = .ok (.iadd, 1) := dk_96 (dk_at dksL_law_31 12 rfl rfl)
theorem dL_law_859 : decode cL_law 859 = .ok (.iaload, 1) := dk_46 (dk_at dksL_law_31 13 rfl rfl)
theorem dL_law_860 : decode cL_law 860 = .ok (.aload_n 0, 1) := dk_42 (dk_at dksL_law_31 14 rfl rfl)
theorem dL_law_861 : decode cL_law 861 = .ok (.iload_n 3, 1) := dk_29 (dk_at dksL_law_31 15 rfl rfl)
theorem dL_law_862 : decode cL_law 862 = .ok (.iconst 2, 1) := dk_5 (dk_at dksL_law_31 16 rfl rfl)
theorem dL_law_863 : decode cL_law 863 = .ok (.iadd, 1) := dk_96 (dk_at dksL_law_31 17 rfl rfl)
theorem dL_law_864 : decode cL_law 864 = .ok (.iaload, 1) := dk_46 (dk_at dksL_law_31 18 rfl rfl)
theorem dL_law_865 : decode cL_law 865 = .ok (.invokevirtual 102, 3) := dk_182 0 102 (dk_at dksL_law_31 19 rfl rfl)
theorem dL_law_868 : decode cL_law 868 = .ok (.if_icmp .eq 351, 3) := dk_159 1 95 (dk_at dksL_law_32 0 rfl rfl)
theorem dL_law_871 : decode cL_law 871 = .ok (.iconst 0, 1) := dk_3 (dk_at dksL_law_32 3 rfl rfl)
theorem dL_law_872 : decode cL_law 872 = .ok (.ireturn, 1) := dk_172 (dk_at dksL_law_32 4 rfl rfl)
theorem dL_law_873 : decode cL_law 873 = .ok (.aload_n 1, 1) := dk_43 (dk_at dksL_law_32 5 rfl rfl)
theorem dL_law_874 : decode cL_law 874 = .ok (.aload_n 0, 1) := dk_42 (dk_at dksL_law_32 6 rfl rfl)
theorem dL_law_875 : decode cL_law 875 = .ok (.iload_n 3, 1) := dk_29 (dk_at dksL_law_32 7 rfl rfl)
theorem dL_law_876 : decode cL_law 876 = .ok (.iconst 1, 1) := dk_4 (dk_at dksL_law_32 8 rfl rfl)
theorem dL_law_877 : decode cL_law 877 = .ok (.iadd, 1) := dk_96 (dk_at dksL_law_32 9 rfl rfl)
theorem dL_law_878 : decode cL_law 878 = .ok (.iaload, 1) := dk_46 (dk_at dksL_law_32 10 rfl rfl)
theorem dL_law_879 : decode cL_law 879 = .ok (.i2l, 1) := dk_133 (dk_at dksL_law_32 11 rfl rfl)
theorem dL_law_880 : decode cL_law 880 = .ok (.bipush 32, 2) := dk_16 32 (dk_at dksL_law_32 12 rfl rfl)
theorem dL_law_882 : decode cL_law 882 = .ok (.lshl, 1) := dk_121 (dk_at dksL_law_32 14 rfl rfl)
theorem dL_law_883 : decode cL_law 883 = .ok (.aload_n 0, 1) := dk_42 (dk_at dksL_law_32 15 rfl rfl)
theorem dL_law_884 : decode cL_law 884 = .ok (.iload_n 3, 1) := dk_29 (dk_at dksL_law_32 16 rfl rfl)
theorem dL_law_885 : decode cL_law 885 = .ok (.iconst 2, 1) := dk_5 (dk_at dksL_law_32 17 rfl rfl)
theorem dL_law_886 : decode cL_law 886 = .ok (.iadd, 1) := dk_96 (dk_at dksL_law_32 18 rfl rfl)
theorem dL_law_887 : decode cL_law 887 = .ok (.iaload, 1) := dk_46 (dk_at dksL_law_32 19 rfl rfl)
theorem dL_law_888 : decode cL_law 888 = .ok (.i2l, 1) := dk_133 (dk_at dksL_law_32 20 rfl rfl)
theorem dL_law_889 : decode cL_law 889 = .ok (.ldc2_w 103, 3) := dk_20 0 103 (dk_at dksL_law_32 21 rfl rfl)
theorem dL_law_892 : decode cL_law 892 = .ok (.land, 1) := dk_127 (dk_at dksL_law_33 0 rfl rfl)
theorem dL_law_893 : decode cL_law 893 = .ok (.lor, 1) := dk_129 (dk_at dksL_law_33 1 rfl rfl)
theorem dL_law_894 : decode cL_law 894 = .ok (.aload_n 0, 1) := dk_42 (dk_at dksL_law_33 2 rfl rfl)
theorem dL_law_895 : decode cL_law 895 = .ok (.iload_n 3, 1) := dk_29 (dk_at dksL_law_33 3 rfl rfl)
theorem dL_law_896 : decode cL_law 896 = .ok (.iconst 3, 1) := dk_6 (dk_at dksL_law_33 4 rfl rfl)
theorem dL_law_897 : decode cL_law 897 = .ok (.iadd, 1) := dk_96 (dk_at dksL_law_33 5 rfl rfl)
theorem dL_law_898 : decode cL_law 898 = .ok (.iaload, 1) := dk_46 (dk_at dksL_law_33 6 rfl rfl)
theorem dL_law_899 : decode cL_law 899 = .ok (.invokevirtual 105, 3) := dk_182 0 105 (dk_at dksL_law_33 7 rfl rfl)
theorem dL_law_902 : decode cL_law 902 = .ok (.aload_n 2, 1) := dk_44 (dk_at dksL_law_33 10 rfl rfl)
theorem dL_law_903 : decode cL_law 903 = .ok (.aload_n 0, 1) := dk_42 (dk_at dksL_law_33 11 rfl rfl)
theorem dL_law_904 : decode cL_law 904 = .ok (.iload_n 3, 1) := dk_29 (dk_at dksL_law_33 12 rfl rfl)
theorem dL_law_905 : decode cL_law 905 = .ok (.iconst 1, 1) := dk_4 (dk_at dksL_law_33 13 rfl rfl)
theorem dL_law_906 : decode cL_law 906 = .ok (.iadd, 1) := dk_96 (dk_at dksL_law_33 14 rfl rfl)
theorem dL_law_907 : decode cL_law 907 = .ok (.iaload, 1) := dk_46 (dk_at dksL_law_33 15 rfl rfl)
theorem dL_law_908 : decode cL_law 908 = .ok (.i2l, 1) := dk_133 (dk_at dksL_law_33 16 rfl rfl)
theorem dL_law_909 : decode cL_law 909 = .ok (.bipush 32, 2) := dk_16 32 (dk_at dksL_law_33 17 rfl rfl)
theorem dL_law_911 : decode cL_law 911 = .ok (.lshl, 1) := dk_121 (dk_at dksL_law_33 19 rfl rfl)
theorem dL_law_912 : decode cL_law 912 = .ok (.aload_n 0, 1) := dk_42 (dk_at dksL_law_33 20 rfl rfl)
theorem dL_law_913 : decode cL_law 913 = .ok (.iload_n 3, 1) := dk_29 (dk_at dksL_law_33 21 rfl rfl)
theorem dL_law_914 : decode cL_law 914 = .ok (.iconst 2, 1) := dk_5 (dk_at dksL_law_33 22 rfl rfl)
theorem dL_law_915 : decode cL_law 915 = .ok (.iadd, 1) := dk_96 (dk_at dksL_law_33 23 rfl rfl)
theorem dL_law_916 : decode cL_law 916 = .ok (.iaload, 1) := dk_46 (dk_at dksL_law_34 0 rfl rfl)
theorem dL_law_917 : decode cL_law 917 = .ok (.i2l, 1) := dk_133 (dk_at dksL_law_34 1 rfl rfl)
theorem dL_law_918 : decode cL_law 918 = .ok (.ldc2_w 103, 3) := dk_20 0 103 (dk_at dksL_law_34 2 rfl rfl)
theorem dL_law_921 : decode cL_law 921 = .ok (.land, 1) := dk_127 (dk_at dksL_law_34 5 rfl rfl)
theorem dL_law_922 : decode cL_law 922 = .ok (.lor, 1) := dk_129 (dk_at dksL_law_34 6 rfl rfl)
theorem dL_law_923 : decode cL_law 923 = .ok (.aload_n 0, 1) := dk_42 (dk_at dksL_law_34 7 rfl rfl)
theorem dL_law_924 : decode cL_law 924 = .ok (.iload_n 3, 1) := dk_29 (dk_at dksL_law_34 8 rfl rfl)
theorem dL_law_925 : decode cL_law 925 = .ok (.iconst 3, 1) := dk_6 (dk_at dksL_law_34 9 rfl rfl)
theorem dL_law_926 : decode cL_law 926 = .ok (.iadd, 1) := dk_96 (dk_at dksL_law_34 10 rfl rfl)
theorem dL_law_927 : decode cL_law 927 = .ok (.iaload, 1) := dk_46 (dk_at dksL_law_34 11 rfl rfl)
theorem dL_law_928 : decode cL_law 928 = .ok (.invokevirtual 109, 3) := dk_182 0 109 (dk_at dksL_law_34 12 rfl rfl)
theorem dL_law_931 : decode cL_law 931 = .ok (.if_icmp .eq 288, 3) := dk_159 1 32 (dk_at dksL_law_34 15 rfl rfl)
theorem dL_law_934 : decode cL_law 934 = .ok (.iconst 0, 1) := dk_3 (dk_at dksL_law_34 18 rfl rfl)
theorem dL_law_935 : decode cL_law 935 = .ok (.ireturn, 1) := dk_172 (dk_at dksL_law_34 19 rfl rfl)
theorem dL_law_936 : decode cL_law 936 = .ok (.aload_n 1, 1) := dk_43 (dk_at dksL_law_34 20 rfl rfl)
theorem dL_law_937 : decode cL_law 937 = .ok (.invokevirtual 110, 3) := dk_182 0 110 (dk_at dksL_law_34 21 rfl rfl)
theorem dL_law_940 : decode cL_law 940 = .ok (.aload_n 2, 1) := dk_44 (dk_at dksL_law_35 0 rfl rfl)
theorem dL_law_941 : decode cL_law 941 = .ok (.invokevirtual 113, 3) := dk_182 0 113 (dk_at dksL_law_35 1 rfl rfl)
theorem dL_law_944 : decode cL_law 944 = .ok (.if_icmp .eq 275, 3) := dk_159 1 19 (dk_at dksL_law_35 4 rfl rfl)
theorem dL_law_947 : decode cL_law 947 = .ok (.iconst 0, 1) := dk_3 (dk_at dksL_law_35 7 rfl rfl)
theorem dL_law_948 : decode cL_law 948 = .ok (.ireturn, 1) := dk_172 (dk_at dksL_law_35 8 rfl rfl)
theorem dL_law_949 : decode cL_law 949 = .ok (.aload_n 1, 1) := dk_43 (dk_at dksL_law_35 9 rfl rfl)
theorem dL_law_950 : decode cL_law 950 = .ok (.invokevirtual 114, 3) := dk_182 0 114 (dk_at dksL_law_35 10 rfl rfl)
theorem dL_law_953 : decode cL_law 953 = .ok (.aload_n 2, 1) := dk_44 (dk_at dksL_law_35 13 rfl rfl)
theorem dL_law_954 : decode cL_law 954 = .ok (.invokevirtual 117, 3) := dk_182 0 117 (dk_at dksL_law_35 14 rfl rfl)
theorem dL_law_957 : decode cL_law 957 = .ok (.if_icmp .eq 262, 3) := dk_159 1 6 (dk_at dksL_law_35 17 rfl rfl)
theorem dL_law_960 : decode cL_law 960 = .ok (.iconst 0, 1) := dk_3 (dk_at dksL_law_35 20 rfl rfl)
theorem dL_law_961 : decode cL_law 961 = .ok (.ireturn, 1) := dk_172 (dk_at dksL_law_35 21 rfl rfl)
theorem dL_law_962 : decode cL_law 962 = .ok (.aload_n 1, 1) := dk_43 (dk_at dksL_law_35 22 rfl rfl)
theorem dL_law_963 : decode cL_law 963 = .ok (.invokevirtual 118, 3) := dk_182 0 118 (dk_at dksL_law_36 0 rfl rfl)
theorem dL_law_966 : decode cL_law 966 = .ok (.aload_n 2, 1) := dk_44 (dk_at dksL_law_36 3 rfl rfl)
theorem dL_law_967 : decode cL_law 967 = .ok (.invokevirtual 121, 3) := dk_182 0 121 (dk_at dksL_law_36 4 rfl rfl)
theorem dL_law_970 : decode cL_law 970 = .ok (.if_icmp .eq 249, 3) := dk_159 0 249 (dk_at dksL_law_36 7 rfl rfl)
theorem dL_law_973 : decode cL_law 973 = .ok (.iconst 0, 1) := dk_3 (dk_at dksL_law_36 10 rfl rfl)
theorem dL_law_974 : decode cL_law 974 = .ok (.ireturn, 1) := dk_172 (dk_at dksL_law_36 11 rfl rfl)
theorem dL_law_975 : decode cL_law 975 = .ok (.aload_n 1, 1) := dk_43 (dk_at dksL_law_36 12 rfl rfl)
theorem dL_law_976 : decode cL_law 976 = .ok (.aload_n 0, 1) := dk_42 (dk_at dksL_law_36 13 rfl rfl)
theorem dL_law_977 : decode cL_law 977 = .ok (.iload_n 3, 1) := dk_29 (dk_at dksL_law_36 14 rfl rfl)
theorem dL_law_978 : decode cL_law 978 = .ok (.iconst 1, 1) := dk_4 (dk_at dksL_law_36 15 rfl rfl)
theorem dL_law_979 : decode cL_law 979 = .ok (.iadd, 1) := dk_96 (dk_at dksL_law_36 16 rfl rfl)
theorem dL_law_980 : decode cL_law 980 = .ok (.iaload, 1) := dk_46 (dk_at dksL_law_36 17 rfl rfl)
theorem dL_law_981 : decode cL_law 981 = .ok (.aload_n 0, 1) := dk_42 (dk_at dksL_law_36 18 rfl rfl)
theorem dL_law_982 : decode cL_law 982 = .ok (.iload_n 3, 1) := dk_29 (dk_at dksL_law_36 19 rfl rfl)
theorem dL_law_983 : decode cL_law 983 = .ok (.iconst 2, 1) := dk_5 (dk_at dksL_law_36 20 rfl rfl)
theorem dL_law_984 : decode cL_law 984 = .ok (.iadd, 1) := dk_96 (dk_at dksL_law_36 21 rfl rfl)
theorem dL_law_985 : decode cL_law 985 = .ok (.iaload, 1) := dk_46 (dk_at dksL_law_36 22 rfl rfl)
theorem dL_law_986 : decode cL_law 986 = .ok (.aload_n 0, 1) := dk_42 (dk_at dksL_law_36 23 rfl rfl)
theorem dL_law_987 : decode cL_law 987 = .ok (.iload_n 3, 1) := dk_29 (dk_at dksL_law_37 0 rfl rfl)
theorem dL_law_988 : decode cL_law 988 = .ok (.iconst 3, 1) := dk_6 (dk_at dksL_law_37 1 rfl rfl)
theorem dL_law_989 : decode cL_law 989 = .ok (.iadd, 1) := dk_96 (dk_at dksL_law_37 2 rfl rfl)
theorem dL_law_990 : decode cL_law 990 = .ok (.iaload, 1) := dk_46 (dk_at dksL_law_37 3 rfl rfl)
theorem dL_law_991 : decode cL_law 991 = .ok (.invokevirtual 122, 3) := dk_182 0 122 (dk_at dksL_law_37 4 rfl rfl)
theorem dL_law_994 : decode cL_law 994 = .ok (.aload_n 2, 1) := dk_44 (dk_at dksL_law_37 7 rfl rfl)
theorem dL_law_995 : decode cL_law 995 = .ok (.aload_n 0, 1) := dk_42 (dk_at dksL_law_37 8 rfl rfl)
theorem dL_law_996 : decode cL_law 996 = .ok (.iload_n 3, 1) := dk_29 (dk_at dksL_law_37 9 rfl rfl)
theorem dL_law_997 : decode cL_law 997 = .ok (.iconst 1, 1) := dk_4 (dk_at dksL_law_37 10 rfl rfl)
theorem dL_law_998 : decode cL_law 998 = .ok (.iadd, 1) := dk_96 (dk_at dksL_law_37 11 rfl rfl)
theorem dL_law_999 : decode cL_law 999 = .ok (.iaload, 1) := dk_46 (dk_at dksL_law_37 12 rfl rfl)
theorem dL_law_1000 : decode cL_law 1000 = .ok (.aload_n 0, 1) := dk_42 (dk_at dksL_law_37 13 rfl rfl)
theorem dL_law_1001 : decode cL_law 1001 = .ok (.iload_n 3, 1) := dk_29 (dk_at dksL_law_37 14 rfl rfl)
theorem dL_law_1002 : decode cL_law 1002 = .ok (.iconst 2, 1) := dk_5 (dk_at dksL_law_37 15 rfl rfl)
theorem dL_law_1003 : decode cL_law 1003 = .ok (.iadd, 1) := dk_96 (dk_at dksL_law_37 16 rfl rfl)
theorem dL_law_1004 : decode cL_law 1004 = .ok (.iaload, 1) := dk_46 (dk_at dksL_law_37 17 rfl rfl)
theorem dL_law_1005 : decode cL_law 1005 = .ok (.aload_n 0, 1) := dk_42 (dk_at dksL_law_37 18 rfl rfl)
theorem dL_law_1006 : decode cL_law 1006 = .ok (.iload_n 3, 1) := dk_29 (dk_at dksL_law_37 19 rfl rfl)
theorem dL_law_1007 : decode cL_law 1007 = .ok (.iconst 3, 1) := dk_6 (dk_at dksL_law_37 20 rfl rfl)
theorem dL_law_1008 : decode cL_law 1008 = .ok (.iadd, 1) := dk_96 (dk_at dksL_law_37 21 rfl rfl)
theorem dL_law_1009 : decode cL_law 1009 = .ok (.iaload, 1) := dk_46 (dk_at dksL_law_37 22 rfl rfl)
theorem dL_law_1010 : decode cL_law 1010 = .ok (.invokevirtual 125, 3) := dk_182 0 125 (dk_at dksL_law_38 0 rfl rfl)
theorem dL_law_1013 : decode cL_law 1013 = .ok (.if_icmp .eq 206, 3) := dk_159 0 206 (dk_at dksL_law_38 3 rfl rfl)
theorem dL_law_1016 : decode cL_law 1016 = .ok (.iconst 0, 1) := dk_3 (dk_at dksL_law_38 6 rfl rfl)
theorem dL_law_1017 : decode cL_law 1017 = .ok (.ireturn, 1) := dk_172 (dk_at dksL_law_38 7 rfl rfl)
theorem dL_law_1018 : decode cL_law 1018 = .ok (.aload_n 1, 1) := dk_43 (dk_at dksL_law_38 8 rfl rfl)
theorem dL_law_1019 : decode cL_law 1019 = .ok (.aload_n 0, 1) := dk_42 (dk_at dksL_law_38 9 rfl rfl)
theorem dL_law_1020 : decode cL_law 1020 = .ok (.iload_n 3, 1) := dk_29 (dk_at dksL_law_38 10 rfl rfl)
theorem dL_law_1021 : decode cL_law 1021 = .ok (.iconst 1, 1) := dk_4 (dk_at dksL_law_38 11 rfl rfl)
theorem dL_law_1022 : decode cL_law 1022 = .ok (.iadd, 1) := dk_96 (dk_at dksL_law_38 12 rfl rfl)
theorem dL_law_1023 : decode cL_law 1023 = .ok (.iaload, 1) := dk_46 (dk_at dksL_law_38 13 rfl rfl)
theorem dL_law_1024 : decode cL_law 1024 = .ok (.aload_n 0, 1) := dk_42 (dk_at dksL_law_38 14 rfl rfl)
theorem dL_law_1025 : decode cL_law 1025 = .ok (.iload_n 3, 1) := dk_29 (dk_at dksL_law_38 15 rfl rfl)
theorem dL_law_1026 : decode cL_law 1026 = .ok (.iconst 2, 1) := dk_5 (dk_at dksL_law_38 16 rfl rfl)
theorem dL_law_1027 : decode cL_law 1027 = .ok (.iadd, 1) := dk_96 (dk_at dksL_law_38 17 rfl rfl)
theorem dL_law_1028 : decode cL_law 1028 = .ok (.iaload, 1) := dk_46 (dk_at dksL_law_38 18 rfl rfl)
theorem dL_law_1029 : decode cL_law 1029 = .ok (.aload_n 0, 1) := dk_42 (dk_at dksL_law_38 19 rfl rfl)
theorem dL_law_1030 : decode cL_law 1030 = .ok (.iload_n 3, 1) := dk_29 (dk_at dksL_law_38 20 rfl rfl)
theorem dL_law_1031 : decode cL_law 1031 = .ok (.iconst 3, 1) := dk_6 (dk_at dksL_law_38 21 rfl rfl)
theorem dL_law_1032 : decode cL_law 1032 = .ok (.iadd, 1) := dk_96 (dk_at dksL_law_38 22 rfl rfl)
theorem dL_law_1033 : decode cL_law 1033 = .ok (.iaload, 1) := dk_46 (dk_at dksL_law_38 23 rfl rfl)
theorem dL_law_1034 : decode cL_law 1034 = .ok (.aload_n 0, 1) := dk_42 (dk_at dksL_law_39 0 rfl rfl)
theorem dL_law_1035 : decode cL_law 1035 = .ok (.iload_n 3, 1) := dk_29 (dk_at dksL_law_39 1 rfl rfl)
theorem dL_law_1036 : decode cL_law 1036 = .ok (.iconst 4, 1) := dk_7 (dk_at dksL_law_39 2 rfl rfl)
theorem dL_law_1037 : decode cL_law 1037 = .ok (.iadd, 1) := dk_96 (dk_at dksL_law_39 3 rfl rfl)
theorem dL_law_1038 : decode cL_law 1038 = .ok (.iaload, 1) := dk_46 (dk_at dksL_law_39 4 rfl rfl)
theorem dL_law_1039 : decode cL_law 1039 = .ok (.invokevirtual 126, 3) := dk_182 0 126 (dk_at dksL_law_39 5 rfl rfl)
theorem dL_law_1042 : decode cL_law 1042 = .ok (.aload_n 2, 1) := dk_44 (dk_at dksL_law_39 8 rfl rfl)
theorem dL_law_1043 : decode cL_law 1043 = .ok (.aload_n 0, 1) := dk_42 (dk_at dksL_law_39 9 rfl rfl)
theorem dL_law_1044 : decode cL_law 1044 = .ok (.iload_n 3, 1) := dk_29 (dk_at dksL_law_39 10 rfl rfl)
theorem dL_law_1045 : decode cL_law 1045 = .ok (.iconst 1, 1) := dk_4 (dk_at dksL_law_39 11 rfl rfl)
theorem dL_law_1046 : decode cL_law 1046 = .ok (.iadd, 1) := dk_96 (dk_at dksL_law_39 12 rfl rfl)
theorem dL_law_1047 : decode cL_law 1047 = .ok (.iaload, 1) := dk_46 (dk_at dksL_law_39 13 rfl rfl)
theorem dL_law_1048 : decode cL_law 1048 = .ok (.aload_n 0, 1) := dk_42 (dk_at dksL_law_39 14 rfl rfl)
theorem dL_law_1049 : decode cL_law 1049 = .ok (.iload_n 3, 1) := dk_29 (dk_at dksL_law_39 15 rfl rfl)
theorem dL_law_1050 : decode cL_law 1050 = .ok (.iconst 2, 1) := dk_5 (dk_at dksL_law_39 16 rfl rfl)
theorem dL_law_1051 : decode cL_law 1051 = .ok (.iadd, 1) := dk_96 (dk_at dksL_law_39 17 rfl rfl)
theorem dL_law_1052 : decode cL_law 1052 = .ok (.iaload, 1) := dk_46 (dk_at dksL_law_39 18 rfl rfl)
theorem dL_law_1053 : decode cL_law 1053 = .ok (.aload_n 0, 1) := dk_42 (dk_at dksL_law_39 19 rfl rfl)
theorem dL_law_1054 : decode cL_law 1054 = .ok (.iload_n 3, 1) := dk_29 (dk_at dksL_law_39 20 rfl rfl)
theorem dL_law_1055 : decode cL_law 1055 = .ok (.iconst 3, 1) := dk_6 (dk_at dksL_law_39 21 rfl rfl)
theorem dL_law_1056 : decode cL_law 1056 = .ok (.iadd, 1) := dk_96 (dk_at dksL_law_39 22 rfl rfl)
theorem dL_law_1057 : decode cL_law 1057 = .ok (.iaload, 1) := dk_46 (dk_at dksL_law_39 23 rfl rfl)
theorem dL_law_1058 : decode cL_law 1058 = .ok (.aload_n 0, 1) := dk_42 (dk_at dksL_law_40 0 rfl rfl)
theorem dL_law_1059 : decode cL_law 1059 = .ok (.iload_n 3, 1) := dk_29 (dk_at dksL_law_40 1 rfl rfl)
theorem dL_law_1060 : decode cL_law 1060 = .ok (.iconst 4, 1) := dk_7 (dk_at dksL_law_40 2 rfl rfl)
theorem dL_law_1061 : decode cL_law 1061 = .ok (.iadd, 1) := dk_96 (dk_at dksL_law_40 3 rfl rfl)
theorem dL_law_1062 : decode cL_law 1062 = .ok (.iaload, 1) := dk_46 (dk_at dksL_law_40 4 rfl rfl)
theorem dL_law_1063 : decode cL_law 1063 = .ok (.invokevirtual 129, 3) := dk_182 0 129 (dk_at dksL_law_40 5 rfl rfl)
theorem dL_law_1066 : decode cL_law 1066 = .ok (.if_icmp .eq 153, 3) := dk_159 0 153 (dk_at dksL_law_40 8 rfl rfl)
theorem dL_law_1069 : decode cL_law 1069 = .ok (.iconst 0, 1) := dk_3 (dk_at dksL_law_40 11 rfl rfl)
theorem dL_law_1070 : decode cL_law 1070 = .ok (.ireturn, 1) := dk_172 (dk_at dksL_law_40 12 rfl rfl)
theorem dL_law_1071 : decode cL_law 1071 = .ok (.aload_n 1, 1) := dk_43 (dk_at dksL_law_40 13 rfl rfl)
theorem dL_law_1072 : decode cL_law 1072 = .ok (.aload_n 0, 1) := dk_42 (dk_at dksL_law_40 14 rfl rfl)
theorem dL_law_1073 : decode cL_law 1073 = .ok (.iload_n 3, 1) := dk_29 (dk_at dksL_law_40 15 rfl rfl)
theorem dL_law_1074 : decode cL_law 1074 = .ok (.iconst 1, 1) := dk_4 (dk_at dksL_law_40 16 rfl rfl)
theorem dL_law_1075 : decode cL_law 1075 = .ok (.iadd, 1) := dk_96 (dk_at dksL_law_40 17 rfl rfl)
theorem dL_law_1076 : decode cL_law 1076 = .ok (.iaload, 1) := dk_46 (dk_at dksL_law_40 18 rfl rfl)
theorem dL_law_1077 : decode cL_law 1077 = .ok (.invokevirtual 130, 3) := dk_182 0 130 (dk_at dksL_law_40 19 rfl rfl)
theorem dL_law_1080 : decode cL_law 1080 = .ok (.aload_n 2, 1) := dk_44 (dk_at dksL_law_40 22 rfl rfl)
theorem dL_law_1081 : decode cL_law 1081 = .ok (.aload_n 0, 1) := dk_42 (dk_at dksL_law_40 23 rfl rfl)
theorem dL_law_1082 : decode cL_law 1082 = .ok (.iload_n 3, 1) := dk_29 (dk_at dksL_law_41 0 rfl rfl)
theorem dL_law_1083 : decode cL_law 1083 = .ok (.iconst 1, 1) := dk_4 (dk_at dksL_law_41 1 rfl rfl)
theorem dL_law_1084 : decode cL_law 1084 = .ok (.iadd, 1) := dk_96 (dk_at dksL_law_41 2 rfl rfl)
theorem dL_law_1085 : decode cL_law 1085 = .ok (.iaload, 1) := dk_46 (dk_at dksL_law_41 3 rfl rfl)
theorem dL_law_1086 : decode cL_law 1086 = .ok (.invokevirtual 133, 3) := dk_182 0 133 (dk_at dksL_law_41 4 rfl rfl)
theorem dL_law_1089 : decode cL_law 1089 = .ok (.if_icmp .eq 130, 3) := dk_159 0 130 (dk_at dksL_law_41 7 rfl rfl)
theorem dL_law_1092 : decode cL_law 1092 = .ok (.iconst 0, 1) := dk_3 (dk_at dksL_law_41 10 rfl rfl)
theorem dL_law_1093 : decode cL_law 1093 = .ok (.ireturn, 1) := dk_172 (dk_at dksL_law_41 11 rfl rfl)
theorem dL_law_1094 : decode cL_law 1094 = .ok (.aload_n 1, 1) := dk_43 (dk_at dksL_law_41 12 rfl rfl)
theorem dL_law_1095 : decode cL_law 1095 = .ok (.aload_n 0, 1) := dk_42 (dk_at dksL_law_41 13 rfl rfl)
theorem dL_law_1096 : decode cL_law 1096 = .ok (.iload_n 3, 1) := dk_29 (dk_at dksL_law_41 14 rfl rfl)
theorem dL_law_1097 : decode cL_law 1097 = .ok (.iconst 1, 1) := dk_4 (dk_at dksL_law_41 15 rfl rfl)
theorem dL_law_1098 : decode cL_law 1098 = .ok (.iadd, 1) := dk_96 (dk_at dksL_law_41 16 rfl rfl)
theorem dL_law_1099 : decode cL_law 1099 = .ok (.iaload, 1) := dk_46 (dk_at dksL_law_41 17 rfl rfl)
theorem dL_law_1100 : decode cL_law 1100 = .ok (.aload_n 0, 1) := dk_42 (dk_at dksL_law_41 18 rfl rfl)
theorem dL_law_1101 : decode cL_law 1101 = .ok (.iload_n 3, 1) := dk_29 (dk_at dksL_law_41 19 rfl rfl)
theorem dL_law_1102 : decode cL_law 1102 = .ok (.iconst 2, 1) := dk_5 (dk_at dksL_law_41 20 rfl rfl)
theorem dL_law_1103 : decode cL_law 1103 = .ok (.iadd, 1) := dk_96 (dk_at dksL_law_41 21 rfl rfl)
theorem dL_law_1104 : decode cL_law 1104 = .ok (.iaload, 1) := dk_46 (dk_at dksL_law_41 22 rfl rfl)
theorem dL_law_1105 : decode cL_law 1105 = .ok (.invokevirtual 134, 3) := dk_182 0 134 (dk_at dksL_law_42 0 rfl rfl)
theorem dL_law_1108 : decode cL_law 1108 = .ok (.aload_n 2, 1) := dk_44 (dk_at dksL_law_42 3 rfl rfl)
theorem dL_law_1109 : decode cL_law 1109 = .ok (.aload_n 0, 1) := dk_42 (dk_at dksL_law_42 4 rfl rfl)
theorem dL_law_1110 : decode cL_law 1110 = .ok (.iload_n 3, 1) := dk_29 (dk_at dksL_law_42 5 rfl rfl)
theorem dL_law_1111 : decode cL_law 1111 = .ok (.iconst 1, 1) := dk_4 (dk_at dksL_law_42 6 rfl rfl)
theorem dL_law_1112 : decode cL_law 1112 = .ok (.iadd, 1) := dk_96 (dk_at dksL_law_42 7 rfl rfl)
theorem dL_law_1113 : decode cL_law 1113 = .ok (.iaload, 1) := dk_46 (dk_at dksL_law_42 8 rfl rfl)
theorem dL_law_1114 : decode cL_law 1114 = .ok (.aload_n 0, 1) := dk_42 (dk_at dksL_law_42 9 rfl rfl)
theorem dL_law_1115 : decode cL_law 1115 = .ok (.iload_n 3, 1) := dk_29 (dk_at dksL_law_42 10 rfl rfl)
theorem dL_law_1116 : decode cL_law 1116 = .ok (.iconst 2, 1) := dk_5 (dk_at dksL_law_42 11 rfl rfl)
theorem dL_law_1117 : decode cL_law 1117 = .ok (.iadd, 1) := dk_96 (dk_at dksL_law_42 12 rfl rfl)
theorem dL_law_1118 : decode cL_law 1118 = .ok (.iaload, 1) := dk_46 (dk_at dksL_law_42 13 rfl rfl)
theorem dL_law_1119 : decode cL_law 1119 = .ok (.invokevirtual 137, 3) := dk_182 0 137 (dk_at dksL_law_42 14 rfl rfl)
theorem dL_law_1122 : decode cL_law 1122 = .ok (.if_icmp .eq 97, 3) := dk_159 0 97 (dk_at dksL_law_42 17 rfl rfl)
theorem dL_law_1125 : decode cL_law 1125 = .ok (.iconst 0, 1) := dk_3 (dk_at dksL_law_42 20 rfl rfl)
theorem dL_law_1126 : decode cL_law 1126 = .ok (.ireturn, 1) := dk_172 (dk_at dksL_law_42 21 rfl rfl)
theorem dL_law_1127 : decode cL_law 1127 = .ok (.aload_n 1, 1) := dk_43 (dk_at dksL_law_42 22 rfl rfl)
theorem dL_law_1128 : decode cL_law 1128 = .ok (.aload_n 0, 1) := dk_42 (dk_at dksL_law_42 23 rfl rfl)
theorem dL_law_1129 : decode cL_law 1129 = .ok (.iload_n 3, 1) := dk_29 (dk_at dksL_law_43 0 rfl rfl)
theorem dL_law_1130 : decode cL_law 1130 = .ok (.iconst 1, 1) := dk_4 (dk_at dksL_law_43 1 rfl rfl)
theorem dL_law_1131 : decode cL_law 1131 = .ok (.iadd, 1) := dk_96 (dk_at dksL_law_43 2 rfl rfl)
theorem dL_law_1132 : decode cL_law 1132 = .ok (.iaload, 1) := dk_46 (dk_at dksL_law_43 3 rfl rfl)
theorem dL_law_1133 : decode cL_law 1133 = .ok (.aload_n 0, 1) := dk_42 (dk_at dksL_law_43 4 rfl rfl)
theorem dL_law_1134 : decode cL_law 1134 = .ok (.iload_n 3, 1) := dk_29 (dk_at dksL_law_43 5 rfl rfl)
theorem dL_law_1135 : decode cL_law 1135 = .ok (.iconst 2, 1) := dk_5 (dk_at dksL_law_43 6 rfl rfl)
theorem dL_law_1136 : decode cL_law 1136 = .ok (.iadd, 1) := dk_96 (dk_at dksL_law_43 7 rfl rfl)
theorem dL_law_1137 : decode cL_law 1137 = .ok (.iaload, 1) := dk_46 (dk_at dksL_law_43 8 rfl rfl)
theorem dL_law_1138 : decode cL_law 1138 = .ok (.invokevirtual 138, 3) := dk_182 0 138 (dk_at dksL_law_43 9 rfl rfl)
theorem dL_law_1141 : decode cL_law 1141 = .ok (.aload_n 2, 1) := dk_44 (dk_at dksL_law_43 12 rfl rfl)
theorem dL_law_1142 : decode cL_law 1142 = .ok (.aload_n 0, 1) := dk_42 (dk_at dksL_law_43 13 rfl rfl)
theorem dL_law_1143 : decode cL_law 1143 = .ok (.iload_n 3, 1) := dk_29 (dk_at dksL_law_43 14 rfl rfl)
theorem dL_law_1144 : decode cL_law 1144 = .ok (.iconst 1, 1) := dk_4 (dk_at dksL_law_43 15 rfl rfl)
theorem dL_law_1145 : decode cL_law 1145 = .ok (.iadd, 1) := dk_96 (dk_at dksL_law_43 16 rfl rfl)
theorem dL_law_1146 : decode cL_law 1146 = .ok (.iaload, 1) := dk_46 (dk_at dksL_law_43 17 rfl rfl)
theorem dL_law_1147 : decode cL_law 1147 = .ok (.aload_n 0, 1) := dk_42 (dk_at dksL_law_43 18 rfl rfl)
theorem dL_law_1148 : decode cL_law 1148 = .ok (.iload_n 3, 1) := dk_29 (dk_at dksL_law_43 19 rfl rfl)
theorem dL_law_1149 : decode cL_law 1149 = .ok (.iconst 2, 1) := dk_5 (dk_at dksL_law_43 20 rfl rfl)
theorem dL_law_1150 : decode cL_law 1150 = .ok (.iadd, 1) := dk_96 (dk_at dksL_law_43 21 rfl rfl)
theorem dL_law_1151 : decode cL_law 1151 = .ok (.iaload, 1) := dk_46 (dk_at dksL_law_43 22 rfl rfl)
theorem dL_law_1152 : decode cL_law 1152 = .ok (.invokevirtual 141, 3) := dk_182 0 141 (dk_at dksL_law_44 0 rfl rfl)
theorem dL_law_1155 : decode cL_law 1155 = .ok (.if_icmp .eq 64, 3) := dk_159 0 64 (dk_at dksL_law_44 3 rfl rfl)
theorem dL_law_1158 : decode cL_law 1158 = .ok (.iconst 0, 1) := dk_3 (dk_at dksL_law_44 6 rfl rfl)
theorem dL_law_1159 : decode cL_law 1159 = .ok (.ireturn, 1) := dk_172 (dk_at dksL_law_44 7 rfl rfl)
theorem dL_law_1160 : decode cL_law 1160 = .ok (.aload_n 1, 1) := dk_43 (dk_at dksL_law_44 8 rfl rfl)
theorem dL_law_1161 : decode cL_law 1161 = .ok (.aload_n 0, 1) := dk_42 (dk_at dksL_law_44 9 rfl rfl)
theorem dL_law_1162 : decode cL_law 1162 = .ok (.iload_n 3, 1) := dk_29 (dk_at dksL_law_44 10 rfl rfl)
theorem dL_law_1163 : decode cL_law 1163 = .ok (.iconst 1, 1) := dk_4 (dk_at dksL_law_44 11 rfl rfl)
theorem dL_law_1164 : decode cL_law 1164 = .ok (.iadd, 1) := dk_96 (dk_at dksL_law_44 12 rfl rfl)
theorem dL_law_1165 : decode cL_law 1165 = .ok (.iaload, 1) := dk_46 (dk_at dksL_law_44 13 rfl rfl)
theorem dL_law_1166 : decode cL_law 1166 = .ok (.invokevirtual 142, 3) := dk_182 0 142 (dk_at dksL_law_44 14 rfl rfl)
theorem dL_law_1169 : decode cL_law 1169 = .ok (.aload_n 2, 1) := dk_44 (dk_at dksL_law_44 17 rfl rfl)
theorem dL_law_1170 : decode cL_law 1170 = .ok (.aload_n 0, 1) := dk_42 (dk_at dksL_law_44 18 rfl rfl)
theorem dL_law_1171 : decode cL_law 1171 = .ok (.iload_n 3, 1) := dk_29 (dk_at dksL_law_44 19 rfl rfl)
theorem dL_law_1172 : decode cL_law 1172 = .ok (.iconst 1, 1) := dk_4 (dk_at dksL_law_44 20 rfl rfl)
theorem dL_law_1173 : decode cL_law 1173 = .ok (.iadd, 1) := dk_96 (dk_at dksL_law_44 21 rfl rfl)
theorem dL_law_1174 : decode cL_law 1174 = .ok (.iaload, 1) := dk_46 (dk_at dksL_law_44 22 rfl rfl)
theorem dL_law_1175 : decode cL_law 1175 = .ok (.invokevirtual 145, 3) := dk_182 0 145 (dk_at dksL_law_45 0 rfl rfl)
theorem dL_law_1178 : decode cL_law 1178 = .ok (.if_icmp .eq 41, 3) := dk_159 0 41 (dk_at dksL_law_45 3 rfl rfl)
theorem dL_law_1181 : decode cL_law 1181 = .ok (.iconst 0, 1) := dk_3 (dk_at dksL_law_45 6 rfl rfl)
theorem dL_law_1182 : decode cL_law 1182 = .ok (.ireturn, 1) := dk_172 (dk_at dksL_law_45 7 rfl rfl)
theorem dL_law_1183 : decode cL_law 1183 = .ok (.aload_n 1, 1) := dk_43 (dk_at dksL_law_45 8 rfl rfl)
theorem dL_law_1184 : decode cL_law 1184 = .ok (.aload_n 0, 1) := dk_42 (dk_at dksL_law_45 9 rfl rfl)
theorem dL_law_1185 : decode cL_law 1185 = .ok (.iload_n 3, 1) := dk_29 (dk_at dksL_law_45 10 rfl rfl)
theorem dL_law_1186 : decode cL_law 1186 = .ok (.iconst 1, 1) := dk_4 (dk_at dksL_law_45 11 rfl rfl)
theorem dL_law_1187 : decode cL_law 1187 = .ok (.iadd, 1) := dk_96 (dk_at dksL_law_45 12 rfl rfl)
theorem dL_law_1188 : decode cL_law 1188 = .ok (.iaload, 1) := dk_46 (dk_at dksL_law_45 13 rfl rfl)
theorem dL_law_1189 : decode cL_law 1189 = .ok (.invokevirtual 146, 3) := dk_182 0 146 (dk_at dksL_law_45 14 rfl rfl)
theorem dL_law_1192 : decode cL_law 1192 = .ok (.aload_n 2, 1) := dk_44 (dk_at dksL_law_45 17 rfl rfl)
theorem dL_law_1193 : decode cL_law 1193 = .ok (.aload_n 0, 1) := dk_42 (dk_at dksL_law_45 18 rfl rfl)
theorem dL_law_1194 : decode cL_law 1194 = .ok (.iload_n 3, 1) := dk_29 (dk_at dksL_law_45 19 rfl rfl)
theorem dL_law_1195 : decode cL_law 1195 = .ok (.iconst 1, 1) := dk_4 (dk_at dksL_law_45 20 rfl rfl)
theorem dL_law_1196 : decode cL_law 1196 = .ok (.iadd, 1) := dk_96 (dk_at dksL_law_45 21 rfl rfl)
theorem dL_law_1197 : decode cL_law 1197 = .ok (.iaload, 1) := dk_46 (dk_at dksL_law_45 22 rfl rfl)
theorem dL_law_1198 : decode cL_law 1198 = .ok (.invokevirtual 149, 3) := dk_182 0 149 (dk_at dksL_law_46 0 rfl rfl)
theorem dL_law_1201 : decode cL_law 1201 = .ok (.if_icmp .eq 18, 3) := dk_159 0 18 (dk_at dksL_law_46 3 rfl rfl)
theorem dL_law_1204 : decode cL_law 1204 = .ok (.iconst 0, 1) := dk_3 (dk_at dksL_law_46 6 rfl rfl)
theorem dL_law_1205 : decode cL_law 1205 = .ok (.ireturn, 1) := dk_172 (dk_at dksL_law_46 7 rfl rfl)
theorem dL_law_1206 : decode cL_law 1206 = .ok (.aload_n 1, 1) := dk_43 (dk_at dksL_law_46 8 rfl rfl)
theorem dL_law_1207 : decode cL_law 1207 = .ok (.invokevirtual 150, 3) := dk_182 0 150 (dk_at dksL_law_46 9 rfl rfl)
theorem dL_law_1210 : decode cL_law 1210 = .ok (.aload_n 2, 1) := dk_44 (dk_at dksL_law_46 12 rfl rfl)
theorem dL_law_1211 : decode cL_law 1211 = .ok (.invokevirtual 153, 3) := dk_182 0 153 (dk_at dksL_law_46 13 rfl rfl)
theorem dL_law_1214 : decode cL_law 1214 = .ok (.if_icmp .eq 5, 3) := dk_159 0 5 (dk_at dksL_law_46 16 rfl rfl)
theorem dL_law_1217 : decode cL_law 1217 = .ok (.iconst 0, 1) := dk_3 (dk_at dksL_law_46 19 rfl rfl)
theorem dL_law_1218 : decode cL_law 1218 = .ok (.ireturn, 1) := dk_172 (dk_at dksL_law_46 20 rfl rfl)
theorem dL_law_1219 : decode cL_law 1219 = .ok (.iinc 3 6, 3) := dk_132 3 6 (dk_at dksL_law_46 21 rfl rfl)
theorem dL_law_1222 : decode cL_law 1222 = .ok (.goto (-1204), 3) := dk_167 251 76 (dk_at dksL_law_47 0 rfl rfl)
theorem dL_law_1225 : decode cL_law 1225 = .ok (.iconst 1, 1) := dk_4 (dk_at dksL_law_47 3 rfl rfl)
theorem dL_law_1226 : decode cL_law 1226 = .ok (.ireturn, 1) := dk_172 (dk_at dksL_law_47 4 rfl rfl)
