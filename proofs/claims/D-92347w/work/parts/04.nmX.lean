/-! TableArms -/
set_option maxRecDepth 100000
def RX0 : String := "TableArms"
def TX0 : u_T := fun k => match k with
  | 0 => ("TableArms", "sheets", "[LTableArms$Sheet;", true)
  | 1 => ("TableArms", "things", "I", false)
  | 2 => ("TableArms", "sorts", "[I", true)
  | 3 => ("TableArms", "weights", "[I", true)
  | 4 => ("TableArms", "table", "LTableArms$Table;", true)
  | 5 => ("TableArms", "kept", "[LTableArms$Table;", true)
  | 6 => ("TableArms", "keptMany", "I", false)
  | 7 => ("TableArms", "tried", "LTableArms$Table;", true)
  | 8 => ("TableArms", "gone", "[LTableArms$Table;", true)
  | 9 => ("TableArms", "given", "[LTableArms$Table;", true)
  | 10 => ("TableArms", "reaches", "[I", true)
  | 11 => ("TableArms", "lessons", "Ljava/util/List;", true)
  | 12 => ("TableArms", "tape", "[B", true)
  | 13 => ("TableArms", "taped", "I", false)
  | 14 => ("TableArms", "faultKind", "I", false)
  | 15 => ("TableArms", "nevers", "Ljava/util/List;", true)
  | 16 => ("TableArms", "trail", "LTableArms$Trail;", false)
  | 17 => ("TableArms", "status", "I", false)
  | 18 => ("TableArms", "fitting", "[Z", true)
  | _ => ("TableArms", "ticks", "[I", true)
def tyX0 : Nat → FieldType := fun k => match k with
  | 0 => .array (.object "TableArms$Sheet")
  | 1 => .int
  | 2 => .array .int
  | 3 => .array .int
  | 4 => .object "TableArms$Table"
  | 5 => .array (.object "TableArms$Table")
  | 6 => .int
  | 7 => .object "TableArms$Table"
  | 8 => .array (.object "TableArms$Table")
  | 9 => .array (.object "TableArms$Table")
  | 10 => .array .int
  | 11 => .object "java/util/List"
  | 12 => .array .byte
  | 13 => .int
  | 14 => .int
  | 15 => .object "java/util/List"
  | 16 => .object "TableArms$Trail"
  | 17 => .int
  | 18 => .array .boolean
  | _ => .array .int
abbrev wsX00 : List Cond := u_ws RX0 TX0 20
set_option maxRecDepth 100000 in
theorem nmX0 : ∀ a, a < 20 → ∀ b, b < 20 → a ≠ b → (TX0 a).2.1 ≠ (TX0 b).2.1 := by decide +kernel
set_option maxRecDepth 100000 in
theorem tyX0_ok : ∀ k, k < 20 → parseFieldDescriptor (TX0 k).2.2.1 = some (tyX0 k) := by decide +kernel
abbrev cX0_init : ByteArray := prog_1_method_5_code
def yX0_init : MethodName := ⟨RX0, "<init>", "()V"⟩
def dkwX0_init_8 : List UInt8 := [27, 187, 0, 18, 89, 183, 0, 68, 83, 132, 1, 1, 167, 255, 234, 177]
abbrev dktX0_init_8 : List UInt8 := dkwX0_init_8 ++ []
def dkwX0_init_7 : List UInt8 := [181, 0, 106, 42, 17, 0, 144, 188, 10, 181, 0, 110, 3, 60, 27, 16, 96, 162, 0, 22, 42, 180, 0, 79]
abbrev dktX0_init_7 : List UInt8 := dkwX0_init_7 ++ dktX0_init_8
def dkwX0_init_6 : List UInt8 := [183, 0, 87, 181, 0, 96, 42, 187, 0, 99, 89, 183, 0, 101, 181, 0, 102, 42, 16, 96, 188, 4]
abbrev dktX0_init_6 : List UInt8 := dkwX0_init_6 ++ dktX0_init_7
def dkwX0_init_5 : List UInt8 := [187, 0, 85, 89, 183, 0, 87, 181, 0, 88, 42, 17, 1, 44, 188, 8, 181, 0, 92, 42, 187, 0, 85, 89]
abbrev dktX0_init_5 : List UInt8 := dkwX0_init_5 ++ dktX0_init_6
def dkwX0_init_4 : List UInt8 := [181, 0, 79, 42, 5, 188, 10, 89, 3, 17, 0, 255, 79, 89, 4, 17, 0, 255, 79, 181, 0, 82, 42]
abbrev dktX0_init_4 : List UInt8 := dkwX0_init_4 ++ dktX0_init_5
def dkwX0_init_3 : List UInt8 := [89, 183, 0, 68, 83, 89, 4, 187, 0, 18, 89, 183, 0, 68, 83, 181, 0, 76, 42, 16, 96, 189, 0, 18]
abbrev dktX0_init_3 : List UInt8 := dkwX0_init_3 ++ dktX0_init_4
def dkwX0_init_2 : List UInt8 := [181, 0, 69, 42, 187, 0, 18, 89, 183, 0, 68, 181, 0, 73, 42, 5, 189, 0, 18, 89, 3, 187, 0, 18]
abbrev dktX0_init_2 : List UInt8 := dkwX0_init_2 ++ dktX0_init_3
def dkwX0_init_1 : List UInt8 := [188, 10, 181, 0, 65, 42, 187, 0, 18, 89, 183, 0, 68, 181, 0, 13, 42, 16, 8, 189, 0, 18]
abbrev dktX0_init_1 : List UInt8 := dkwX0_init_1 ++ dktX0_init_2
def dkwX0_init_0 : List UInt8 := [42, 183, 0, 54, 42, 16, 8, 189, 0, 59, 181, 0, 61, 42, 16, 6, 188, 10, 181, 0, 7, 42, 16, 6]
abbrev dktX0_init_0 : List UInt8 := dkwX0_init_0 ++ dktX0_init_1
theorem dksX0_init_0 : cX0_init.data.toList.drop 0 = dktX0_init_0 := by decide +kernel
theorem dksX0_init_1 : cX0_init.data.toList.drop 24 = dktX0_init_1 := dk_seg dksX0_init_0 24 rfl rfl
theorem dksX0_init_2 : cX0_init.data.toList.drop 46 = dktX0_init_2 := dk_seg dksX0_init_1 22 rfl rfl
theorem dksX0_init_3 : cX0_init.data.toList.drop 70 = dktX0_init_3 := dk_seg dksX0_init_2 24 rfl rfl
theorem dksX0_init_4 : cX0_init.data.toList.drop 94 = dktX0_init_4 := dk_seg dksX0_init_3 24 rfl rfl
theorem dksX0_init_5 : cX0_init.data.toList.drop 117 = dktX0_init_5 := dk_seg dksX0_init_4 23 rfl rfl
theorem dksX0_init_6 : cX0_init.data.toList.drop 141 = dktX0_init_6 := dk_seg dksX0_init_5 24 rfl rfl
theorem dksX0_init_7 : cX0_init.data.toList.drop 163 = dktX0_init_7 := dk_seg dksX0_init_6 22 rfl rfl
theorem dksX0_init_8 : cX0_init.data.toList.drop 187 = dktX0_init_8 := dk_seg dksX0_init_7 24 rfl rfl
theorem dX0_init_0 : decode cX0_init 0 = .ok (.aload_n 0, 1) := dk_42 (dk_at dksX0_init_0 0 rfl rfl)
theorem dX0_init_1 : decode cX0_init 1 = .ok (.invokespecial 54, 3) := dk_183 0 54 (dk_at dksX0_init_0 1 rfl rfl)
theorem dX0_init_4 : decode cX0_init 4 = .ok (.aload_n 0, 1) := dk_42 (dk_at dksX0_init_0 4 rfl rfl)
theorem dX0_init_5 : decode cX0_init 5 = .ok (.bipush 8, 2) := dk_16 8 (dk_at dksX0_init_0 5 rfl rfl)
theorem dX0_init_7 : decode cX0_init 7 = .ok (.anewarray 59, 3) := dk_189 0 59 (dk_at dksX0_init_0 7 rfl rfl)
theorem dX0_init_10 : decode cX0_init 10 = .ok (.putfield 61, 3) := dk_181 0 61 (dk_at dksX0_init_0 10 rfl rfl)
theorem dX0_init_13 : decode cX0_init 13 = .ok (.aload_n 0, 1) := dk_42 (dk_at dksX0_init_0 13 rfl rfl)
theorem dX0_init_14 : decode cX0_init 14 = .ok (.bipush 6, 2) := dk_16 6 (dk_at dksX0_init_0 14 rfl rfl)
theorem dX0_init_16 : decode cX0_init 16 = .ok (.newarray .int, 2) := dk_188_10 (dk_at dksX0_init_0 16 rfl rfl)
theorem dX0_init_18 : decode cX0_init 18 = .ok (.putfield 7, 3) := dk_181 0 7 (dk_at dksX0_init_0 18 rfl rfl)
theorem dX0_init_21 : decode cX0_init 21 = .ok (.aload_n 0, 1) := dk_42 (dk_at dksX0_init_0 21 rfl rfl)
theorem dX0_init_22 : decode cX0_init 22 = .ok (.bipush 6, 2) := dk_16 6 (dk_at dksX0_init_0 22 rfl rfl)
theorem dX0_init_24 : decode cX0_init 24 = .ok (.newarray .int, 2) := dk_188_10 (dk_at dksX0_init_1 0 rfl rfl)
theorem dX0_init_26 : decode cX0_init 26 = .ok (.putfield 65, 3) := dk_181 0 65 (dk_at dksX0_init_1 2 rfl rfl)
theorem dX0_init_29 : decode cX0_init 29 = .ok (.aload_n 0, 1) := dk_42 (dk_at dksX0_init_1 5 rfl rfl)
theorem dX0_init_30 : decode cX0_init 30 = .ok (.new 18, 3) := dk_187 0 18 (dk_at dksX0_init_1 6 rfl rfl)
theorem dX0_init_33 : decode cX0_init 33 = .ok (.dup, 1) := dk_89 (dk_at dksX0_init_1 9 rfl rfl)
theorem dX0_init_34 : decode cX0_init 34 = .ok (.invokespecial 68, 3) := dk_183 0 68 (dk_at dksX0_init_1 10 rfl rfl)
theorem dX0_init_37 : decode cX0_init 37 = .ok (.putfield 13, 3) := dk_181 0 13 (dk_at dksX0_init_1 13 rfl rfl)
theorem dX0_init_40 : decode cX0_init 40 = .ok (.aload_n 0, 1) := dk_42 (dk_at dksX0_init_1 16 rfl rfl)
theorem dX0_init_41 : decode cX0_init 41 = .ok (.bipush 8, 2) := dk_16 8 (dk_at dksX0_init_1 17 rfl rfl)
theorem dX0_init_43 : decode cX0_init 43 = .ok (.anewarray 18, 3) := dk_189 0 18 (dk_at dksX0_init_1 19 rfl rfl)
theorem dX0_init_46 : decode cX0_init 46 = .ok (.putfield 69, 3) := dk_181 0 69 (dk_at dksX0_init_2 0 rfl rfl)
theorem dX0_init_49 : decode cX0_init 49 = .ok (.aload_n 0, 1) := dk_42 (dk_at dksX0_init_2 3 rfl rfl)
theorem dX0_init_50 : decode cX0_init 50 = .ok (.new 18, 3) := dk_187 0 18 (dk_at dksX0_init_2 4 rfl rfl)
theorem dX0_init_53 : decode cX0_init 53 = .ok (.dup, 1) := dk_89 (dk_at dksX0_init_2 7 rfl rfl)
theorem dX0_init_54 : decode cX0_init 54 = .ok (.invokespecial 68, 3) := dk_183 0 68 (dk_at dksX0_init_2 8 rfl rfl)
theorem dX0_init_57 : decode cX0_init 57 = .ok (.putfield 73, 3) := dk_181 0 73 (dk_at dksX0_init_2 11 rfl rfl)
theorem dX0_init_60 : decode cX0_init 60 = .ok (.aload_n 0, 1) := dk_42 (dk_at dksX0_init_2 14 rfl rfl)
theorem dX0_init_61 : decode cX0_init 61 = .ok (.iconst 2, 1) := dk_5 (dk_at dksX0_init_2 15 rfl rfl)
theorem dX0_init_62 : decode cX0_init 62 = .ok (.anewarray 18, 3) := dk_189 0 18 (dk_at dksX0_init_2 16 rfl rfl)
theorem dX0_init_65 : decode cX0_init 65 = .ok (.dup, 1) := dk_89 (dk_at dksX0_init_2 19 rfl rfl)
theorem dX0_init_66 : decode cX0_init 66 = .ok (.iconst 0, 1) := dk_3 (dk_at dksX0_init_2 20 rfl rfl)
theorem dX0_init_67 : decode cX0_init 67 = .ok (.new 18, 3) := dk_187 0 18 (dk_at dksX0_init_2 21 rfl rfl)
theorem dX0_init_70 : decode cX0_init 70 = .ok (.dup, 1) := dk_89 (dk_at dksX0_init_3 0 rfl rfl)
theorem dX0_init_71 : decode cX0_init 71 = .ok (.invokespecial 68, 3) := dk_183 0 68 (dk_at dksX0_init_3 1 rfl rfl)
theorem dX0_init_74 : decode cX0_init 74 = .ok (.aastore, 1) := dk_83 (dk_at dksX0_init_3 4 rfl rfl)
theorem dX0_init_75 : decode cX0_init 75 = .ok (.dup, 1) := dk_89 (dk_at dksX0_init_3 5 rfl rfl)
theorem dX0_init_76 : decode cX0_init 76 = .ok (.iconst 1, 1) := dk_4 (dk_at dksX0_init_3 6 rfl rfl)
theorem dX0_init_77 : decode cX0_init 77 = .ok (.new 18, 3) := dk_187 0 18 (dk_at dksX0_init_3 7 rfl rfl)
theorem dX0_init_80 : decode cX0_init 80 = .ok (.dup, 1) := dk_89 (dk_at dksX0_init_3 10 rfl rfl)
theorem dX0_init_81 : decode cX0_init 81 = .ok (.invokespecial 68, 3) := dk_183 0 68 (dk_at dksX0_init_3 11 rfl rfl)
theorem dX0_init_84 : decode cX0_init 84 = .ok (.aastore, 1) := dk_83 (dk_at dksX0_init_3 14 rfl rfl)
theorem dX0_init_85 : decode cX0_init 85 = .ok (.putfield 76, 3) := dk_181 0 76 (dk_at dksX0_init_3 15 rfl rfl)
theorem dX0_init_88 : decode cX0_init 88 = .ok (.aload_n 0, 1) := dk_42 (dk_at dksX0_init_3 18 rfl rfl)
theorem dX0_init_89 : decode cX0_init 89 = .ok (.bipush 96, 2) := dk_16 96 (dk_at dksX0_init_3 19 rfl rfl)
theorem dX0_init_91 : decode cX0_init 91 = .ok (.anewarray 18, 3) := dk_189 0 18 (dk_at dksX0_init_3 21 rfl rfl)
theorem dX0_init_94 : decode cX0_init 94 = .ok (.putfield 79, 3) := dk_181 0 79 (dk_at dksX0_init_4 0 rfl rfl)
theorem dX0_init_97 : decode cX0_init 97 = .ok (.aload_n 0, 1) := dk_42 (dk_at dksX0_init_4 3 rfl rfl)
theorem dX0_init_98 : decode cX0_init 98 = .ok (.iconst 2, 1) := dk_5 (dk_at dksX0_init_4 4 rfl rfl)
theorem dX0_init_99 : decode cX0_init 99 = .ok (.newarray .int, 2) := dk_188_10 (dk_at dksX0_init_4 5 rfl rfl)
theorem dX0_init_101 : decode cX0_init 101 = .ok (.dup, 1) := dk_89 (dk_at dksX0_init_4 7 rfl rfl)
theorem dX0_init_102 : decode cX0_init 102 = .ok (.iconst 0, 1) := dk_3 (dk_at dksX0_init_4 8 rfl rfl)
theorem dX0_init_103 : decode cX0_init 103 = .ok (.sipush 255, 3) := dk_17 0 255 (dk_at dksX0_init_4 9 rfl rfl)
theorem dX0_init_106 : decode cX0_init 106 = .ok (.iastore, 1) := dk_79 (dk_at dksX0_init_4 12 rfl rfl)
theorem dX0_init_107 : decode cX0_init 107 = .ok (.dup, 1) := dk_89 (dk_at dksX0_init_4 13 rfl rfl)
theorem dX0_init_108 : decode cX0_init 108 = .ok (.iconst 1, 1) := dk_4 (dk_at dksX0_init_4 14 rfl rfl)
theorem dX0_init_109 : decode cX0_init 109 = .ok (.sipush 255, 3) := dk_17 0 255 (dk_at dksX0_init_4 15 rfl rfl)
theorem dX0_init_112 : decode cX0_init 112 = .ok (.iastore, 1) := dk_79 (dk_at dksX0_init_4 18 rfl rfl)
theorem dX0_init_113 : decode cX0_init 113 = .ok (.putfield 82, 3) := dk_181 0 82 (dk_at dksX0_init_4 19 rfl rfl)
theorem dX0_init_116 : decode cX0_init 116 = .ok (.aload_n 0, 1) := dk_42 (dk_at dksX0_init_4 22 rfl rfl)
theorem dX0_init_117 : decode cX0_init 117 = .ok (.new 85, 3) := dk_187 0 85 (dk_at dksX0_init_5 0 rfl rfl)
theorem dX0_init_120 : decode cX0_init 120 = .ok (.dup, 1) := dk_89 (dk_at dksX0_init_5 3 rfl rfl)
theorem dX0_init_121 : decode cX0_init 121 = .ok (.invokespecial 87, 3) := dk_183 0 87 (dk_at dksX0_init_5 4 rfl rfl)
theorem dX0_init_124 : decode cX0_init 124 = .ok (.putfield 88, 3) := dk_181 0 88 (dk_at dksX0_init_5 7 rfl rfl)
theorem dX0_init_127 : decode cX0_init 127 = .ok (.aload_n 0, 1) := dk_42 (dk_at dksX0_init_5 10 rfl rfl)
theorem dX0_init_128 : decode cX0_init 128 = .ok (.sipush 300, 3) := dk_17 1 44 (dk_at dksX0_init_5 11 rfl rfl)
theorem dX0_init_131 : decode cX0_init 131 = .ok (.newarray .byte, 2) := dk_188_8 (dk_at dksX0_init_5 14 rfl rfl)
theorem dX0_init_133 : decode cX0_init 133 = .ok (.putfield 92, 3) := dk_181 0 92 (dk_at dksX0_init_5 16 rfl rfl)
theorem dX0_init_136 : decode cX0_init 136 = .ok (.aload_n 0, 1) := dk_42 (dk_at dksX0_init_5 19 rfl rfl)
theorem dX0_init_137 : decode cX0_init 137 = .ok (.new 85, 3) := dk_187 0 85 (dk_at dksX0_init_5 20 rfl rfl)
theorem dX0_init_140 : decode cX0_init 140 = .ok (.dup, 1) := dk_89 (dk_at dksX0_init_5 23 rfl rfl)
theorem dX0_init_141 : decode cX0_init 141 = .ok (.invokespecial 87, 3) := dk_183 0 87 (dk_at dksX0_init_6 0 rfl rfl)
theorem dX0_init_144 : decode cX0_init 144 = .ok (.putfield 96, 3) := dk_181 0 96 (dk_at dksX0_init_6 3 rfl rfl)
theorem dX0_init_147 : decode cX0_init 147 = .ok (.aload_n 0, 1) := dk_42 (dk_at dksX0_init_6 6 rfl rfl)
theorem dX0_init_148 : decode cX0_init 148 = .ok (.new 99, 3) := dk_187 0 99 (dk_at dksX0_init_6 7 rfl rfl)
theorem dX0_init_151 : decode cX0_init 151 = .ok (.dup, 1) := dk_89 (dk_at dksX0_init_6 10 rfl rfl)
theorem dX0_init_152 : decode cX0_init 152 = .ok (.invokespecial 101, 3) := dk_183 0 101 (dk_at dksX0_init_6 11 rfl rfl)
theorem dX0_init_155 : decode cX0_init 155 = .ok (.putfield 102, 3) := dk_181 0 102 (dk_at dksX0_init_6 14 rfl rfl)
theorem dX0_init_158 : decode cX0_init 158 = .ok (.aload_n 0, 1) := dk_42 (dk_at dksX0_init_6 17 rfl rfl)
theorem dX0_init_159 : decode cX0_init 159 = .ok (.bipush 96, 2) := dk_16 96 (dk_at dksX0_init_6 18 rfl rfl)
theorem dX0_init_161 : decode cX0_init 161 = .ok (.newarray .boolean, 2) := dk_188_4 (dk_at dksX0_init_6 20 rfl rfl)
theorem dX0_init_163 : decode cX0_init 163 = .ok (.putfield 106, 3) := dk_181 0 106 (dk_at dksX0_init_7 0 rfl rfl)
theorem dX0_init_166 : decode cX0_init 166 = .ok (.aload_n 0, 1) := dk_42 (dk_at dksX0_init_7 3 rfl rfl)
theorem dX0_init_167 : decode cX0_init 167 = .ok (.sipush 144, 3) := dk_17 0 144 (dk_at dksX0_init_7 4 rfl rfl)
theorem dX0_init_170 : decode cX0_init 170 = .ok (.newarray .int, 2) := dk_188_10 (dk_at dksX0_init_7 7 rfl rfl)
theorem dX0_init_172 : decode cX0_init 172 = .ok (.putfield 110, 3) := dk_181 0 110 (dk_at dksX0_init_7 9 rfl rfl)
theorem dX0_init_175 : decode cX0_init 175 = .ok (.iconst 0, 1) := dk_3 (dk_at dksX0_init_7 12 rfl rfl)
theorem dX0_init_176 : decode cX0_init 176 = .ok (.istore_n 1, 1) := dk_60 (dk_at dksX0_init_7 13 rfl rfl)
theorem dX0_init_177 : decode cX0_init 177 = .ok (.iload_n 1, 1) := dk_27 (dk_at dksX0_init_7 14 rfl rfl)
theorem dX0_init_178 : decode cX0_init 178 = .ok (.bipush 96, 2) := dk_16 96 (dk_at dksX0_init_7 15 rfl rfl)
theorem dX0_init_180 : decode cX0_init 180 = .ok (.if_icmp .ge 22, 3) := dk_162 0 22 (dk_at dksX0_init_7 17 rfl rfl)
theorem dX0_init_183 : decode cX0_init 183 = .ok (.aload_n 0, 1) := dk_42 (dk_at dksX0_init_7 20 rfl rfl)
theorem dX0_init_184 : decode cX0_init 184 = .ok (.getfield 79, 3) := dk_180 0 79 (dk_at dksX0_init_7 21 rfl rfl)
theorem dX0_init_187 : decode cX0_init 187 = .ok (.iload_n 1, 1) := dk_27 (dk_at dksX0_init_8 0 rfl rfl)
theorem dX0_init_188 : decode cX0_init 188 = .ok (.new 18, 3) := dk_187 0 18 (dk_at dksX0_init_8 1 rfl rfl)
theorem dX0_init_191 : decode cX0_init 191 = .ok (.dup, 1) := dk_89 (dk_at dksX0_init_8 4 rfl rfl)
theorem dX0_init_192 : decode cX0_init 192 = .ok (.invokespecial 68, 3) := dk_183 0 68 (dk_at dksX0_init_8 5 rfl rfl)
theorem dX0_init_195 : decode cX0_init 195 = .ok (.aastore, 1) := dk_83 (dk_at dksX0_init_8 8 rfl rfl)
theorem dX0_init_196 : decode cX0_init 196 = .ok (.iinc 1 1, 3) := dk_132 1 1 (dk_at dksX0_init_8 9 rfl rfl)
theorem dX0_init_199 : decode cX0_init 199 = .ok (.goto (-22), 3) := dk_167 255 234 (dk_at dksX0_init_8 12 rfl rfl)
theorem dX0_init_202 : decode cX0_init 202 = .ok (.return_, 1) := dk_177 (dk_at dksX0_init_8 15 rfl rfl)
abbrev cX0_sheet : ByteArray := prog_1_method_11_code
def yX0_sheet : MethodName := ⟨RX0, "sheet", "(III)I"⟩
def dkwX0_sheet_3 : List UInt8 := [172]
abbrev dktX0_sheet_3 : List UInt8 := dkwX0_sheet_3 ++ []
def dkwX0_sheet_2 : List UInt8 := [187, 0, 59, 89, 28, 29, 183, 0, 142, 83, 42, 29, 182, 0, 145, 172, 58, 4, 42, 25, 4, 182, 0, 148]
abbrev dktX0_sheet_2 : List UInt8 := dkwX0_sheet_2 ++ dktX0_sheet_3
def dkwX0_sheet_1 : List UInt8 := [164, 0, 6, 18, 141, 172, 29, 155, 0, 7, 4, 167, 0, 4, 3, 7, 184, 0, 132, 42, 180, 0, 61, 27]
abbrev dktX0_sheet_1 : List UInt8 := dkwX0_sheet_1 ++ dktX0_sheet_2
def dkwX0_sheet_0 : List UInt8 := [27, 184, 0, 136, 153, 0, 21, 28, 133, 9, 20, 0, 139, 184, 0, 128, 153, 0, 9, 29, 16, 40]
abbrev dktX0_sheet_0 : List UInt8 := dkwX0_sheet_0 ++ dktX0_sheet_1
theorem dksX0_sheet_0 : cX0_sheet.data.toList.drop 0 = dktX0_sheet_0 := by decide +kernel
theorem dksX0_sheet_1 : cX0_sheet.data.toList.drop 22 = dktX0_sheet_1 := dk_seg dksX0_sheet_0 22 rfl rfl
theorem dksX0_sheet_2 : cX0_sheet.data.toList.drop 46 = dktX0_sheet_2 := dk_seg dksX0_sheet_1 24 rfl rfl
theorem dksX0_sheet_3 : cX0_sheet.data.toList.drop 70 = dktX0_sheet_3 := dk_seg dksX0_sheet_2 24 rfl rfl
theorem dX0_sheet_0 : decode cX0_sheet 0 = .ok (.iload_n 1, 1) := dk_27 (dk_at dksX0_sheet_0 0 rfl rfl)
theorem dX0_sheet_1 : decode cX0_sheet 1 = .ok (.invokestatic 136, 3) := dk_184 0 136 (dk_at dksX0_sheet_0 1 rfl rfl)
theorem dX0_sheet_4 : decode cX0_sheet 4 = .ok (.ifCond .eq 21, 3) := dk_153 0 21 (dk_at dksX0_sheet_0 4 rfl rfl)
theorem dX0_sheet_7 : decode cX0_sheet 7 = .ok (.iload_n 2, 1) := dk_28 (dk_at dksX0_sheet_0 7 rfl rfl)
theorem dX0_sheet_8 : decode cX0_sheet 8 = .ok (.i2l, 1) := dk_133 (dk_at dksX0_sheet_0 8 rfl rfl)
theorem dX0_sheet_9 : decode cX0_sheet 9 = .ok (.lconst 0, 1) := dk_9 (dk_at dksX0_sheet_0 9 rfl rfl)
theorem dX0_sheet_10 : decode cX0_sheet 10 = .ok (.ldc2_w 139, 3) := dk_20 0 139 (dk_at dksX0_sheet_0 10 rfl rfl)
theorem dX0_sheet_13 : decode cX0_sheet 13 = .ok (.invokestatic 128, 3) := dk_184 0 128 (dk_at dksX0_sheet_0 13 rfl rfl)
theorem dX0_sheet_16 : decode cX0_sheet 16 = .ok (.ifCond .eq 9, 3) := dk_153 0 9 (dk_at dksX0_sheet_0 16 rfl rfl)
theorem dX0_sheet_19 : decode cX0_sheet 19 = .ok (.iload_n 3, 1) := dk_29 (dk_at dksX0_sheet_0 19 rfl rfl)
theorem dX0_sheet_20 : decode cX0_sheet 20 = .ok (.bipush 40, 2) := dk_16 40 (dk_at dksX0_sheet_0 20 rfl rfl)
theorem dX0_sheet_22 : decode cX0_sheet 22 = .ok (.if_icmp .le 6, 3) := dk_164 0 6 (dk_at dksX0_sheet_1 0 rfl rfl)
theorem dX0_sheet_25 : decode cX0_sheet 25 = .ok (.ldc 141, 2) := dk_18 141 (dk_at dksX0_sheet_1 3 rfl rfl)
theorem dX0_sheet_27 : decode cX0_sheet 27 = .ok (.ireturn, 1) := dk_172 (dk_at dksX0_sheet_1 5 rfl rfl)
theorem dX0_sheet_28 : decode cX0_sheet 28 = .ok (.iload_n 3, 1) := dk_29 (dk_at dksX0_sheet_1 6 rfl rfl)
theorem dX0_sheet_29 : decode cX0_sheet 29 = .ok (.ifCond .lt 7, 3) := dk_155 0 7 (dk_at dksX0_sheet_1 7 rfl rfl)
theorem dX0_sheet_32 : decode cX0_sheet 32 = .ok (.iconst 1, 1) := dk_4 (dk_at dksX0_sheet_1 10 rfl rfl)
theorem dX0_sheet_33 : decode cX0_sheet 33 = .ok (.goto 4, 3) := dk_167 0 4 (dk_at dksX0_sheet_1 11 rfl rfl)
theorem dX0_sheet_36 : decode cX0_sheet 36 = .ok (.iconst 0, 1) := dk_3 (dk_at dksX0_sheet_1 14 rfl rfl)
theorem dX0_sheet_37 : decode cX0_sheet 37 = .ok (.iconst 4, 1) := dk_7 (dk_at dksX0_sheet_1 15 rfl rfl)
theorem dX0_sheet_38 : decode cX0_sheet 38 = .ok (.invokestatic 132, 3) := dk_184 0 132 (dk_at dksX0_sheet_1 16 rfl rfl)
theorem dX0_sheet_41 : decode cX0_sheet 41 = .ok (.aload_n 0, 1) := dk_42 (dk_at dksX0_sheet_1 19 rfl rfl)
theorem dX0_sheet_42 : decode cX0_sheet 42 = .ok (.getfield 61, 3) := dk_180 0 61 (dk_at dksX0_sheet_1 20 rfl rfl)
theorem dX0_sheet_45 : decode cX0_sheet 45 = .ok (.iload_n 1, 1) := dk_27 (dk_at dksX0_sheet_1 23 rfl rfl)
theorem dX0_sheet_46 : decode cX0_sheet 46 = .ok (.new 59, 3) := dk_187 0 59 (dk_at dksX0_sheet_2 0 rfl rfl)
theorem dX0_sheet_49 : decode cX0_sheet 49 = .ok (.dup, 1) := dk_89 (dk_at dksX0_sheet_2 3 rfl rfl)
theorem dX0_sheet_50 : decode cX0_sheet 50 = .ok (.iload_n 2, 1) := dk_28 (dk_at dksX0_sheet_2 4 rfl rfl)
theorem dX0_sheet_51 : decode cX0_sheet 51 = .ok (.iload_n 3, 1) := dk_29 (dk_at dksX0_sheet_2 5 rfl rfl)
theorem dX0_sheet_52 : decode cX0_sheet 52 = .ok (.invokespecial 142, 3) := dk_183 0 142 (dk_at dksX0_sheet_2 6 rfl rfl)
theorem dX0_sheet_55 : decode cX0_sheet 55 = .ok (.aastore, 1) := dk_83 (dk_at dksX0_sheet_2 9 rfl rfl)
theorem dX0_sheet_56 : decode cX0_sheet 56 = .ok (.aload_n 0, 1) := dk_42 (dk_at dksX0_sheet_2 10 rfl rfl)
theorem dX0_sheet_57 : decode cX0_sheet 57 = .ok (.iload_n 3, 1) := dk_29 (dk_at dksX0_sheet_2 11 rfl rfl)
theorem dX0_sheet_58 : decode cX0_sheet 58 = .ok (.invokevirtual 145, 3) := dk_182 0 145 (dk_at dksX0_sheet_2 12 rfl rfl)
theorem dX0_sheet_61 : decode cX0_sheet 61 = .ok (.ireturn, 1) := dk_172 (dk_at dksX0_sheet_2 15 rfl rfl)
theorem dX0_sheet_62 : decode cX0_sheet 62 = .ok (.astore 4, 2) := dk_58 4 (dk_at dksX0_sheet_2 16 rfl rfl)
theorem dX0_sheet_64 : decode cX0_sheet 64 = .ok (.aload_n 0, 1) := dk_42 (dk_at dksX0_sheet_2 18 rfl rfl)
theorem dX0_sheet_65 : decode cX0_sheet 65 = .ok (.aload 4, 2) := dk_25 4 (dk_at dksX0_sheet_2 19 rfl rfl)
theorem dX0_sheet_67 : decode cX0_sheet 67 = .ok (.invokevirtual 148, 3) := dk_182 0 148 (dk_at dksX0_sheet_2 21 rfl rfl)
theorem dX0_sheet_70 : decode cX0_sheet 70 = .ok (.ireturn, 1) := dk_172 (dk_at dksX0_sheet_3 0 rfl rfl)
abbrev cX0_isSheet : ByteArray := prog_1_method_9_code
def yX0_isSheet : MethodName := ⟨RX0, "isSheet", "(I)Z"⟩
def dkwX0_isSheet_0 : List UInt8 := [26, 133, 9, 20, 0, 126, 184, 0, 128, 172]
abbrev dktX0_isSheet_0 : List UInt8 := dkwX0_isSheet_0 ++ []
theorem dksX0_isSheet_0 : cX0_isSheet.data.toList.drop 0 = dktX0_isSheet_0 := by decide +kernel
theorem dX0_isSheet_0 : decode cX0_isSheet 0 = .ok (.iload_n 0, 1) := dk_26 (dk_at dksX0_isSheet_0 0 rfl rfl)
theorem dX0_isSheet_1 : decode cX0_isSheet 1 = .ok (.i2l, 1) := dk_133 (dk_at dksX0_isSheet_0 1 rfl rfl)
theorem dX0_isSheet_2 : decode cX0_isSheet 2 = .ok (.lconst 0, 1) := dk_9 (dk_at dksX0_isSheet_0 2 rfl rfl)
theorem dX0_isSheet_3 : decode cX0_isSheet 3 = .ok (.ldc2_w 126, 3) := dk_20 0 126 (dk_at dksX0_isSheet_0 3 rfl rfl)
theorem dX0_isSheet_6 : decode cX0_isSheet 6 = .ok (.invokestatic 128, 3) := dk_184 0 128 (dk_at dksX0_isSheet_0 6 rfl rfl)
theorem dX0_isSheet_9 : decode cX0_isSheet 9 = .ok (.ireturn, 1) := dk_172 (dk_at dksX0_isSheet_0 9 rfl rfl)
abbrev cX0_isIn : ByteArray := prog_1_method_1_code
def yX0_isIn : MethodName := ⟨RX0, "isIn", "(JJJ)Z"⟩
def dkwX0_isIn_0 : List UInt8 := [30, 32, 148, 155, 0, 14, 30, 22, 4, 148, 157, 0, 7, 4, 167, 0, 4, 3, 172]
abbrev dktX0_isIn_0 : List UInt8 := dkwX0_isIn_0 ++ []
theorem dksX0_isIn_0 : cX0_isIn.data.toList.drop 0 = dktX0_isIn_0 := by decide +kernel
theorem dX0_isIn_0 : decode cX0_isIn 0 = .ok (.lload_n 0, 1) := dk_30 (dk_at dksX0_isIn_0 0 rfl rfl)
theorem dX0_isIn_1 : decode cX0_isIn 1 = .ok (.lload_n 2, 1) := dk_32 (dk_at dksX0_isIn_0 1 rfl rfl)
theorem dX0_isIn_2 : decode cX0_isIn 2 = .ok (.lcmp, 1) := dk_148 (dk_at dksX0_isIn_0 2 rfl rfl)
theorem dX0_isIn_3 : decode cX0_isIn 3 = .ok (.ifCond .lt 14, 3) := dk_155 0 14 (dk_at dksX0_isIn_0 3 rfl rfl)
theorem dX0_isIn_6 : decode cX0_isIn 6 = .ok (.lload_n 0, 1) := dk_30 (dk_at dksX0_isIn_0 6 rfl rfl)
theorem dX0_isIn_7 : decode cX0_isIn 7 = .ok (.lload 4, 2) := dk_22 4 (dk_at dksX0_isIn_0 7 rfl rfl)
theorem dX0_isIn_9 : decode cX0_isIn 9 = .ok (.lcmp, 1) := dk_148 (dk_at dksX0_isIn_0 9 rfl rfl)
theorem dX0_isIn_10 : decode cX0_isIn 10 = .ok (.ifCond .gt 7, 3) := dk_157 0 7 (dk_at dksX0_isIn_0 10 rfl rfl)
theorem dX0_isIn_13 : decode cX0_isIn 13 = .ok (.iconst 1, 1) := dk_4 (dk_at dksX0_isIn_0 13 rfl rfl)
theorem dX0_isIn_14 : decode cX0_isIn 14 = .ok (.goto 4, 3) := dk_167 0 4 (dk_at dksX0_isIn_0 14 rfl rfl)
theorem dX0_isIn_17 : decode cX0_isIn 17 = .ok (.iconst 0, 1) := dk_3 (dk_at dksX0_isIn_0 17 rfl rfl)
theorem dX0_isIn_18 : decode cX0_isIn 18 = .ok (.ireturn, 1) := dk_172 (dk_at dksX0_isIn_0 18 rfl rfl)
abbrev cX0_must : ByteArray := prog_1_method_8_code
def yX0_must : MethodName := ⟨RX0, "must", "(ZI)V"⟩
def dkwX0_must_0 : List UInt8 := [26, 154, 0, 12, 187, 0, 114, 89, 27, 183, 0, 123, 191, 177]
abbrev dktX0_must_0 : List UInt8 := dkwX0_must_0 ++ []
theorem dksX0_must_0 : cX0_must.data.toList.drop 0 = dktX0_must_0 := by decide +kernel
theorem dX0_must_0 : decode cX0_must 0 = .ok (.iload_n 0, 1) := dk_26 (dk_at dksX0_must_0 0 rfl rfl)
theorem dX0_must_1 : decode cX0_must 1 = .ok (.ifCond .ne 12, 3) := dk_154 0 12 (dk_at dksX0_must_0 1 rfl rfl)
theorem dX0_must_4 : decode cX0_must 4 = .ok (.new 114, 3) := dk_187 0 114 (dk_at dksX0_must_0 4 rfl rfl)
theorem dX0_must_7 : decode cX0_must 7 = .ok (.dup, 1) := dk_89 (dk_at dksX0_must_0 7 rfl rfl)
theorem dX0_must_8 : decode cX0_must 8 = .ok (.iload_n 1, 1) := dk_27 (dk_at dksX0_must_0 8 rfl rfl)
theorem dX0_must_9 : decode cX0_must 9 = .ok (.invokespecial 123, 3) := dk_183 0 123 (dk_at dksX0_must_0 9 rfl rfl)
theorem dX0_must_12 : decode cX0_must 12 = .ok (.athrow, 1) := dk_191 (dk_at dksX0_must_0 12 rfl rfl)
theorem dX0_must_13 : decode cX0_must 13 = .ok (.return_, 1) := dk_177 (dk_at dksX0_must_0 13 rfl rfl)
abbrev cX0_well : ByteArray := prog_1_method_7_code
def yX0_well : MethodName := ⟨RX0, "well", "(I)I"⟩
def dkwX0_well_0 : List UInt8 := [42, 3, 181, 0, 119, 27, 172]
abbrev dktX0_well_0 : List UInt8 := dkwX0_well_0 ++ []
theorem dksX0_well_0 : cX0_well.data.toList.drop 0 = dktX0_well_0 := by decide +kernel
theorem dX0_well_0 : decode cX0_well 0 = .ok (.aload_n 0, 1) := dk_42 (dk_at dksX0_well_0 0 rfl rfl)
theorem dX0_well_1 : decode cX0_well 1 = .ok (.iconst 0, 1) := dk_3 (dk_at dksX0_well_0 1 rfl rfl)
theorem dX0_well_2 : decode cX0_well 2 = .ok (.putfield 119, 3) := dk_181 0 119 (dk_at dksX0_well_0 2 rfl rfl)
theorem dX0_well_5 : decode cX0_well 5 = .ok (.iload_n 1, 1) := dk_27 (dk_at dksX0_well_0 5 rfl rfl)
theorem dX0_well_6 : decode cX0_well 6 = .ok (.ireturn, 1) := dk_172 (dk_at dksX0_well_0 6 rfl rfl)
abbrev cX0_found : ByteArray := prog_1_method_6_code
def yX0_found : MethodName := ⟨RX0, "found", "(LTableArms$Finding;)I"⟩
def dkwX0_found_0 : List UInt8 := [42, 43, 180, 0, 113, 181, 0, 119, 18, 122, 43, 180, 0, 113, 100, 172]
abbrev dktX0_found_0 : List UInt8 := dkwX0_found_0 ++ []
theorem dksX0_found_0 : cX0_found.data.toList.drop 0 = dktX0_found_0 := by decide +kernel
theorem dX0_found_0 : decode cX0_found 0 = .ok (.aload_n 0, 1) := dk_42 (dk_at dksX0_found_0 0 rfl rfl)
theorem dX0_found_1 : decode cX0_found 1 = .ok (.aload_n 1, 1) := dk_43 (dk_at dksX0_found_0 1 rfl rfl)
theorem dX0_found_2 : decode cX0_found 2 = .ok (.getfield 113, 3) := dk_180 0 113 (dk_at dksX0_found_0 2 rfl rfl)
theorem dX0_found_5 : decode cX0_found 5 = .ok (.putfield 119, 3) := dk_181 0 119 (dk_at dksX0_found_0 5 rfl rfl)
theorem dX0_found_8 : decode cX0_found 8 = .ok (.ldc 122, 2) := dk_18 122 (dk_at dksX0_found_0 8 rfl rfl)
theorem dX0_found_10 : decode cX0_found 10 = .ok (.aload_n 1, 1) := dk_43 (dk_at dksX0_found_0 10 rfl rfl)
theorem dX0_found_11 : decode cX0_found 11 = .ok (.getfield 113, 3) := dk_180 0 113 (dk_at dksX0_found_0 11 rfl rfl)
theorem dX0_found_14 : decode cX0_found 14 = .ok (.isub, 1) := dk_100 (dk_at dksX0_found_0 14 rfl rfl)
theorem dX0_found_15 : decode cX0_found 15 = .ok (.ireturn, 1) := dk_172 (dk_at dksX0_found_0 15 rfl rfl)
abbrev cX0_set : ByteArray := prog_1_method_12_code
def yX0_set : MethodName := ⟨RX0, "set", "(III)I"⟩
def dkwX0_set_3 : List UInt8 := [172]
abbrev dktX0_set_3 : List UInt8 := dkwX0_set_3 ++ []
def dkwX0_set_2 : List UInt8 := [182, 0, 159, 79, 42, 25, 4, 180, 0, 156, 28, 46, 182, 0, 145, 172, 58, 4, 42, 25, 4, 182, 0, 148]
abbrev dktX0_set_2 : List UInt8 := dkwX0_set_2 ++ dktX0_set_3
def dkwX0_set_1 : List UInt8 := [180, 0, 156, 190, 4, 100, 133, 184, 0, 128, 5, 184, 0, 132, 25, 4, 180, 0, 156, 28, 25, 4, 29]
abbrev dktX0_set_1 : List UInt8 := dkwX0_set_1 ++ dktX0_set_2
def dkwX0_set_0 : List UInt8 := [27, 184, 0, 136, 154, 0, 6, 18, 141, 172, 42, 27, 182, 0, 152, 58, 4, 28, 133, 9, 25, 4]
abbrev dktX0_set_0 : List UInt8 := dkwX0_set_0 ++ dktX0_set_1
theorem dksX0_set_0 : cX0_set.data.toList.drop 0 = dktX0_set_0 := by decide +kernel
theorem dksX0_set_1 : cX0_set.data.toList.drop 22 = dktX0_set_1 := dk_seg dksX0_set_0 22 rfl rfl
theorem dksX0_set_2 : cX0_set.data.toList.drop 45 = dktX0_set_2 := dk_seg dksX0_set_1 23 rfl rfl
theorem dksX0_set_3 : cX0_set.data.toList.drop 69 = dktX0_set_3 := dk_seg dksX0_set_2 24 rfl rfl
theorem dX0_set_0 : decode cX0_set 0 = .ok (.iload_n 1, 1) := dk_27 (dk_at dksX0_set_0 0 rfl rfl)
theorem dX0_set_1 : decode cX0_set 1 = .ok (.invokestatic 136, 3) := dk_184 0 136 (dk_at dksX0_set_0 1 rfl rfl)
theorem dX0_set_4 : decode cX0_set 4 = .ok (.ifCond .ne 6, 3) := dk_154 0 6 (dk_at dksX0_set_0 4 rfl rfl)
theorem dX0_set_7 : decode cX0_set 7 = .ok (.ldc 141, 2) := dk_18 141 (dk_at dksX0_set_0 7 rfl rfl)
theorem dX0_set_9 : decode cX0_set 9 = .ok (.ireturn, 1) := dk_172 (dk_at dksX0_set_0 9 rfl rfl)
theorem dX0_set_10 : decode cX0_set 10 = .ok (.aload_n 0, 1) := dk_42 (dk_at dksX0_set_0 10 rfl rfl)
theorem dX0_set_11 : decode cX0_set 11 = .ok (.iload_n 1, 1) := dk_27 (dk_at dksX0_set_0 11 rfl rfl)
theorem dX0_set_12 : decode cX0_set 12 = .ok (.invokevirtual 152, 3) := dk_182 0 152 (dk_at dksX0_set_0 12 rfl rfl)
theorem dX0_set_15 : decode cX0_set 15 = .ok (.astore 4, 2) := dk_58 4 (dk_at dksX0_set_0 15 rfl rfl)
theorem dX0_set_17 : decode cX0_set 17 = .ok (.iload_n 2, 1) := dk_28 (dk_at dksX0_set_0 17 rfl rfl)
theorem dX0_set_18 : decode cX0_set 18 = .ok (.i2l, 1) := dk_133 (dk_at dksX0_set_0 18 rfl rfl)
theorem dX0_set_19 : decode cX0_set 19 = .ok (.lconst 0, 1) := dk_9 (dk_at dksX0_set_0 19 rfl rfl)
theorem dX0_set_20 : decode cX0_set 20 = .ok (.aload 4, 2) := dk_25 4 (dk_at dksX0_set_0 20 rfl rfl)
theorem dX0_set_22 : decode cX0_set 22 = .ok (.getfield 156, 3) := dk_180 0 156 (dk_at dksX0_set_1 0 rfl rfl)
theorem dX0_set_25 : decode cX0_set 25 = .ok (.arraylength, 1) := dk_190 (dk_at dksX0_set_1 3 rfl rfl)
theorem dX0_set_26 : decode cX0_set 26 = .ok (.iconst 1, 1) := dk_4 (dk_at dksX0_set_1 4 rfl rfl)
theorem dX0_set_27 : decode cX0_set 27 = .ok (.isub, 1) := dk_100 (dk_at dksX0_set_1 5 rfl rfl)
theorem dX0_set_28 : decode cX0_set 28 = .ok (.i2l, 1) := dk_133 (dk_at dksX0_set_1 6 rfl rfl)
theorem dX0_set_29 : decode cX0_set 29 = .ok (.invokestatic 128, 3) := dk_184 0 128 (dk_at dksX0_set_1 7 rfl rfl)
theorem dX0_set_32 : decode cX0_set 32 = .ok (.iconst 2, 1) := dk_5 (dk_at dksX0_set_1 10 rfl rfl)
theorem dX0_set_33 : decode cX0_set 33 = .ok (.invokestatic 132, 3) := dk_184 0 132 (dk_at dksX0_set_1 11 rfl rfl)
theorem dX0_set_36 : decode cX0_set 36 = .ok (.aload 4, 2) := dk_25 4 (dk_at dksX0_set_1 14 rfl rfl)
theorem dX0_set_38 : decode cX0_set 38 = .ok (.getfield 156, 3) := dk_180 0 156 (dk_at dksX0_set_1 16 rfl rfl)
theorem dX0_set_41 : decode cX0_set 41 = .ok (.iload_n 2, 1) := dk_28 (dk_at dksX0_set_1 19 rfl rfl)
theorem dX0_set_42 : decode cX0_set 42 = .ok (.aload 4, 2) := dk_25 4 (dk_at dksX0_set_1 20 rfl rfl)
theorem dX0_set_44 : decode cX0_set 44 = .ok (.iload_n 3, 1) := dk_29 (dk_at dksX0_set_1 22 rfl rfl)
theorem dX0_set_45 : decode cX0_set 45 = .ok (.invokevirtual 159, 3) := dk_182 0 159 (dk_at dksX0_set_2 0 rfl rfl)
theorem dX0_set_48 : decode cX0_set 48 = .ok (.iastore, 1) := dk_79 (dk_at dksX0_set_2 3 rfl rfl)
theorem dX0_set_49 : decode cX0_set 49 = .ok (.aload_n 0, 1) := dk_42 (dk_at dksX0_set_2 4 rfl rfl)
theorem dX0_set_50 : decode cX0_set 50 = .ok (.aload 4, 2) := dk_25 4 (dk_at dksX0_set_2 5 rfl rfl)
theorem dX0_set_52 : decode cX0_set 52 = .ok (.getfield 156, 3) := dk_180 0 156 (dk_at dksX0_set_2 7 rfl rfl)
theorem dX0_set_55 : decode cX0_set 55 = .ok (.iload_n 2, 1) := dk_28 (dk_at dksX0_set_2 10 rfl rfl)
theorem dX0_set_56 : decode cX0_set 56 = .ok (.iaload, 1) := dk_46 (dk_at dksX0_set_2 11 rfl rfl)
theorem dX0_set_57 : decode cX0_set 57 = .ok (.invokevirtual 145, 3) := dk_182 0 145 (dk_at dksX0_set_2 12 rfl rfl)
theorem dX0_set_60 : decode cX0_set 60 = .ok (.ireturn, 1) := dk_172 (dk_at dksX0_set_2 15 rfl rfl)
theorem dX0_set_61 : decode cX0_set 61 = .ok (.astore 4, 2) := dk_58 4 (dk_at dksX0_set_2 16 rfl rfl)
theorem dX0_set_63 : decode cX0_set 63 = .ok (.aload_n 0, 1) := dk_42 (dk_at dksX0_set_2 18 rfl rfl)
theorem dX0_set_64 : decode cX0_set 64 = .ok (.aload 4, 2) := dk_25 4 (dk_at dksX0_set_2 19 rfl rfl)
theorem dX0_set_66 : decode cX0_set 66 = .ok (.invokevirtual 148, 3) := dk_182 0 148 (dk_at dksX0_set_2 21 rfl rfl)
theorem dX0_set_69 : decode cX0_set 69 = .ok (.ireturn, 1) := dk_172 (dk_at dksX0_set_3 0 rfl rfl)
abbrev cX0_sheetAt : ByteArray := prog_1_method_10_code
def yX0_sheetAt : MethodName := ⟨RX0, "sheetAt", "(I)LTableArms$Sheet;"⟩
def dkwX0_sheetAt_1 : List UInt8 := [176]
abbrev dktX0_sheetAt_1 : List UInt8 := dkwX0_sheetAt_1 ++ []
def dkwX0_sheetAt_0 : List UInt8 := [42, 180, 0, 61, 27, 50, 198, 0, 7, 4, 167, 0, 4, 3, 4, 184, 0, 132, 42, 180, 0, 61, 27, 50]
abbrev dktX0_sheetAt_0 : List UInt8 := dkwX0_sheetAt_0 ++ dktX0_sheetAt_1
theorem dksX0_sheetAt_0 : cX0_sheetAt.data.toList.drop 0 = dktX0_sheetAt_0 := by decide +kernel
theorem dksX0_sheetAt_1 : cX0_sheetAt.data.toList.drop 24 = dktX0_sheetAt_1 := dk_seg dksX0_sheetAt_0 24 rfl rfl
theorem dX0_sheetAt_0 : decode cX0_sheetAt 0 = .ok (.aload_n 0, 1) := dk_42 (dk_at dksX0_sheetAt_0 0 rfl rfl)
theorem dX0_sheetAt_1 : decode cX0_sheetAt 1 = .ok (.getfield 61, 3) := dk_180 0 61 (dk_at dksX0_sheetAt_0 1 rfl rfl)
theorem dX0_sheetAt_4 : decode cX0_sheetAt 4 = .ok (.iload_n 1, 1) := dk_27 (dk_at dksX0_sheetAt_0 4 rfl rfl)
theorem dX0_sheetAt_5 : decode cX0_sheetAt 5 = .ok (.aaload, 1) := dk_50 (dk_at dksX0_sheetAt_0 5 rfl rfl)
theorem dX0_sheetAt_6 : decode cX0_sheetAt 6 = .ok (.ifnull 7, 3) := dk_198 0 7 (dk_at dksX0_sheetAt_0 6 rfl rfl)
theorem dX0_sheetAt_9 : decode cX0_sheetAt 9 = .ok (.iconst 1, 1) := dk_4 (dk_at dksX0_sheetAt_0 9 rfl rfl)
theorem dX0_sheetAt_10 : decode cX0_sheetAt 10 = .ok (.goto 4, 3) := dk_167 0 4 (dk_at dksX0_sheetAt_0 10 rfl rfl)
theorem dX0_sheetAt_13 : decode cX0_sheetAt 13 = .ok (.iconst 0, 1) := dk_3 (dk_at dksX0_sheetAt_0 13 rfl rfl)
theorem dX0_sheetAt_14 : decode cX0_sheetAt 14 = .ok (.iconst 1, 1) := dk_4 (dk_at dksX0_sheetAt_0 14 rfl rfl)
theorem dX0_sheetAt_15 : decode cX0_sheetAt 15 = .ok (.invokestatic 132, 3) := dk_184 0 132 (dk_at dksX0_sheetAt_0 15 rfl rfl)
theorem dX0_sheetAt_18 : decode cX0_sheetAt 18 = .ok (.aload_n 0, 1) := dk_42 (dk_at dksX0_sheetAt_0 18 rfl rfl)
theorem dX0_sheetAt_19 : decode cX0_sheetAt 19 = .ok (.getfield 61, 3) := dk_180 0 61 (dk_at dksX0_sheetAt_0 19 rfl rfl)
theorem dX0_sheetAt_22 : decode cX0_sheetAt 22 = .ok (.iload_n 1, 1) := dk_27 (dk_at dksX0_sheetAt_0 22 rfl rfl)
theorem dX0_sheetAt_23 : decode cX0_sheetAt 23 = .ok (.aaload, 1) := dk_50 (dk_at dksX0_sheetAt_0 23 rfl rfl)
theorem dX0_sheetAt_24 : decode cX0_sheetAt 24 = .ok (.areturn, 1) := dk_176 (dk_at dksX0_sheetAt_1 0 rfl rfl)
abbrev cX0_copy : ByteArray := prog_1_method_13_code
def yX0_copy : MethodName := ⟨RX0, "copy", "(IIIII)I"⟩
def dkwX0_copy_4 : List UInt8 := [25, 6, 182, 0, 148, 172]
abbrev dktX0_copy_4 : List UInt8 := dkwX0_copy_4 ++ []
def dkwX0_copy_3 : List UInt8 := [167, 0, 14, 58, 8, 187, 0, 114, 89, 5, 183, 0, 123, 191, 42, 21, 5, 182, 0, 145, 172, 58, 6, 42]
abbrev dktX0_copy_3 : List UInt8 := dkwX0_copy_3 ++ dktX0_copy_4
def dkwX0_copy_2 : List UInt8 := [3, 8, 184, 0, 132, 25, 6, 180, 0, 156, 28, 25, 7, 180, 0, 156, 21, 4, 21, 5, 184, 0, 165]
abbrev dktX0_copy_2 : List UInt8 := dkwX0_copy_2 ++ dktX0_copy_3
def dkwX0_copy_1 : List UInt8 := [42, 29, 182, 0, 152, 58, 7, 25, 6, 180, 0, 162, 25, 7, 180, 0, 162, 160, 0, 7, 4, 167, 0, 4]
abbrev dktX0_copy_1 : List UInt8 := dkwX0_copy_1 ++ dktX0_copy_2
def dkwX0_copy_0 : List UInt8 := [27, 184, 0, 136, 153, 0, 10, 29, 184, 0, 136, 154, 0, 6, 18, 141, 172, 42, 27, 182, 0, 152, 58, 6]
abbrev dktX0_copy_0 : List UInt8 := dkwX0_copy_0 ++ dktX0_copy_1
theorem dksX0_copy_0 : cX0_copy.data.toList.drop 0 = dktX0_copy_0 := by decide +kernel
theorem dksX0_copy_1 : cX0_copy.data.toList.drop 24 = dktX0_copy_1 := dk_seg dksX0_copy_0 24 rfl rfl
theorem dksX0_copy_2 : cX0_copy.data.toList.drop 48 = dktX0_copy_2 := dk_seg dksX0_copy_1 24 rfl rfl
theorem dksX0_copy_3 : cX0_copy.data.toList.drop 71 = dktX0_copy_3 := dk_seg dksX0_copy_2 23 rfl rfl
theorem dksX0_copy_4 : cX0_copy.data.toList.drop 95 = dktX0_copy_4 := dk_seg dksX0_copy_3 24 rfl rfl
theorem dX0_copy_0 : decode cX0_copy 0 = .ok (.iload_n 1, 1) := dk_27 (dk_at dksX0_copy_0 0 rfl rfl)
theorem dX0_copy_1 : decode cX0_copy 1 = .ok (.invokestatic 136, 3) := dk_184 0 136 (dk_at dksX0_copy_0 1 rfl rfl)
theorem dX0_copy_4 : decode cX0_copy 4 = .ok (.ifCond .eq 10, 3) := dk_153 0 10 (dk_at dksX0_copy_0 4 rfl rfl)
theorem dX0_copy_7 : decode cX0_copy 7 = .ok (.iload_n 3, 1) := dk_29 (dk_at dksX0_copy_0 7 rfl rfl)
theorem dX0_copy_8 : decode cX0_copy 8 = .ok (.invokestatic 136, 3) := dk_184 0 136 (dk_at dksX0_copy_0 8 rfl rfl)
theorem dX0_copy_11 : decode cX0_copy 11 = .ok (.ifCond .ne 6, 3) := dk_154 0 6 (dk_at dksX0_copy_0 11 rfl rfl)
theorem dX0_copy_14 : decode cX0_copy 14 = .ok (.ldc 141, 2) := dk_18 141 (dk_at dksX0_copy_0 14 rfl rfl)
theorem dX0_copy_16 : decode cX0_copy 16 = .ok (.ireturn, 1) := dk_172 (dk_at dksX0_copy_0 16 rfl rfl)
theorem dX0_copy_17 : decode cX0_copy 17 = .ok (.aload_n 0, 1) := dk_42 (dk_at dksX0_copy_0 17 rfl rfl)
theorem dX0_copy_18 : decode cX0_copy 18 = .ok (.iload_n 1, 1) := dk_27 (dk_at dksX0_copy_0 18 rfl rfl)
theorem dX0_copy_19 : decode cX0_copy 19 = .ok (.invokevirtual 152, 3) := dk_182 0 152 (dk_at dksX0_copy_0 19 rfl rfl)
theorem dX0_copy_22 : decode cX0_copy 22 = .ok (.astore 6, 2) := dk_58 6 (dk_at dksX0_copy_0 22 rfl rfl)
theorem dX0_copy_24 : decode cX0_copy 24 = .ok (.aload_n 0, 1) := dk_42 (dk_at dksX0_copy_1 0 rfl rfl)
theorem dX0_copy_25 : decode cX0_copy 25 = .ok (.iload_n 3, 1) := dk_29 (dk_at dksX0_copy_1 1 rfl rfl)
theorem dX0_copy_26 : decode cX0_copy 26 = .ok (.invokevirtual 152, 3) := dk_182 0 152 (dk_at dksX0_copy_1 2 rfl rfl)
theorem dX0_copy_29 : decode cX0_copy 29 = .ok (.astore 7, 2) := dk_58 7 (dk_at dksX0_copy_1 5 rfl rfl)
theorem dX0_copy_31 : decode cX0_copy 31 = .ok (.aload 6, 2) := dk_25 6 (dk_at dksX0_copy_1 7 rfl rfl)
theorem dX0_copy_33 : decode cX0_copy 33 = .ok (.getfield 162, 3) := dk_180 0 162 (dk_at dksX0_copy_1 9 rfl rfl)
theorem dX0_copy_36 : decode cX0_copy 36 = .ok (.aload 7, 2) := dk_25 7 (dk_at dksX0_copy_1 12 rfl rfl)
theorem dX0_copy_38 : decode cX0_copy 38 = .ok (.getfield 162, 3) := dk_180 0 162 (dk_at dksX0_copy_1 14 rfl rfl)
theorem dX0_copy_41 : decode cX0_copy 41 = .ok (.if_icmp .ne 7, 3) := dk_160 0 7 (dk_at dksX0_copy_1 17 rfl rfl)
theorem dX0_copy_44 : decode cX0_copy 44 = .ok (.iconst 1, 1) := dk_4 (dk_at dksX0_copy_1 20 rfl rfl)
theorem dX0_copy_45 : decode cX0_copy 45 = .ok (.goto 4, 3) := dk_167 0 4 (dk_at dksX0_copy_1 21 rfl rfl)
theorem dX0_copy_48 : decode cX0_copy 48 = .ok (.iconst 0, 1) := dk_3 (dk_at dksX0_copy_2 0 rfl rfl)
theorem dX0_copy_49 : decode cX0_copy 49 = .ok (.iconst 5, 1) := dk_8 (dk_at dksX0_copy_2 1 rfl rfl)
theorem dX0_copy_50 : decode cX0_copy 50 = .ok (.invokestatic 132, 3) := dk_184 0 132 (dk_at dksX0_copy_2 2 rfl rfl)
theorem dX0_copy_53 : decode cX0_copy 53 = .ok (.aload 6, 2) := dk_25 6 (dk_at dksX0_copy_2 5 rfl rfl)
theorem dX0_copy_55 : decode cX0_copy 55 = .ok (.getfield 156, 3) := dk_180 0 156 (dk_at dksX0_copy_2 7 rfl rfl)
theorem dX0_copy_58 : decode cX0_copy 58 = .ok (.iload_n 2, 1) := dk_28 (dk_at dksX0_copy_2 10 rfl rfl)
theorem dX0_copy_59 : decode cX0_copy 59 = .ok (.aload 7, 2) := dk_25 7 (dk_at dksX0_copy_2 11 rfl rfl)
theorem dX0_copy_61 : decode cX0_copy 61 = .ok (.getfield 156, 3) := dk_180 0 156 (dk_at dksX0_copy_2 13 rfl rfl)
theorem dX0_copy_64 : decode cX0_copy 64 = .ok (.iload 4, 2) := dk_21 4 (dk_at dksX0_copy_2 16 rfl rfl)
theorem dX0_copy_66 : decode cX0_copy 66 = .ok (.iload 5, 2) := dk_21 5 (dk_at dksX0_copy_2 18 rfl rfl)
theorem dX0_copy_68 : decode cX0_copy 68 = .ok (.invokestatic 165, 3) := dk_184 0 165 (dk_at dksX0_copy_2 20 rfl rfl)
theorem dX0_copy_71 : decode cX0_copy 71 = .ok (.goto 14, 3) := dk_167 0 14 (dk_at dksX0_copy_3 0 rfl rfl)
theorem dX0_copy_74 : decode cX0_copy 74 = .ok (.astore 8, 2) := dk_58 8 (dk_at dksX0_copy_3 3 rfl rfl)
theorem dX0_copy_76 : decode cX0_copy 76 = .ok (.new 114, 3) := dk_187 0 114 (dk_at dksX0_copy_3 5 rfl rfl)
theorem dX0_copy_79 : decode cX0_copy 79 = .ok (.dup, 1) := dk_89 (dk_at dksX0_copy_3 8 rfl rfl)
theorem dX0_copy_80 : decode cX0_copy 80 = .ok (.iconst 2, 1) := dk_5 (dk_at dksX0_copy_3 9 rfl rfl)
theorem dX0_copy_81 : decode cX0_copy 81 = .ok (.invokespecial 123, 3) := dk_183 0 123 (dk_at dksX0_copy_3 10 rfl rfl)
theorem dX0_copy_84 : decode cX0_copy 84 = .ok (.athrow, 1) := dk_191 (dk_at dksX0_copy_3 13 rfl rfl)
theorem dX0_copy_85 : decode cX0_copy 85 = .ok (.aload_n 0, 1) := dk_42 (dk_at dksX0_copy_3 14 rfl rfl)
theorem dX0_copy_86 : decode cX0_copy 86 = .ok (.iload 5, 2) := dk_21 5 (dk_at dksX0_copy_3 15 rfl rfl)
theorem dX0_copy_88 : decode cX0_copy 88 = .ok (.invokevirtual 145, 3) := dk_182 0 145 (dk_at dksX0_copy_3 17 rfl rfl)
theorem dX0_copy_91 : decode cX0_copy 91 = .ok (.ireturn, 1) := dk_172 (dk_at dksX0_copy_3 20 rfl rfl)
theorem dX0_copy_92 : decode cX0_copy 92 = .ok (.astore 6, 2) := dk_58 6 (dk_at dksX0_copy_3 21 rfl rfl)
theorem dX0_copy_94 : decode cX0_copy 94 = .ok (.aload_n 0, 1) := dk_42 (dk_at dksX0_copy_3 23 rfl rfl)
theorem dX0_copy_95 : decode cX0_copy 95 = .ok (.aload 6, 2) := dk_25 6 (dk_at dksX0_copy_4 0 rfl rfl)
theorem dX0_copy_97 : decode cX0_copy 97 = .ok (.invokevirtual 148, 3) := dk_182 0 148 (dk_at dksX0_copy_4 2 rfl rfl)
theorem dX0_copy_100 : decode cX0_copy 100 = .ok (.ireturn, 1) := dk_172 (dk_at dksX0_copy_4 5 rfl rfl)
abbrev cX0_drop : ByteArray := prog_1_method_14_code
def yX0_drop : MethodName := ⟨RX0, "drop", "(I)I"⟩
def dkwX0_drop_1 : List UInt8 := [27, 1, 83, 42, 28, 182, 0, 145, 172, 77, 42, 44, 182, 0, 148, 172]
abbrev dktX0_drop_1 : List UInt8 := dkwX0_drop_1 ++ []
def dkwX0_drop_0 : List UInt8 := [27, 184, 0, 136, 154, 0, 6, 18, 141, 172, 42, 27, 182, 0, 152, 180, 0, 156, 190, 61, 42, 180, 0, 61]
abbrev dktX0_drop_0 : List UInt8 := dkwX0_drop_0 ++ dktX0_drop_1
theorem dksX0_drop_0 : cX0_drop.data.toList.drop 0 = dktX0_drop_0 := by decide +kernel
theorem dksX0_drop_1 : cX0_drop.data.toList.drop 24 = dktX0_drop_1 := dk_seg dksX0_drop_0 24 rfl rfl
theorem dX0_drop_0 : decode cX0_drop 0 = .ok (.iload_n 1, 1) := dk_27 (dk_at dksX0_drop_0 0 rfl rfl)
theorem dX0_drop_1 : decode cX0_drop 1 = .ok (.invokestatic 136, 3) := dk_184 0 136 (dk_at dksX0_drop_0 1 rfl rfl)
theorem dX0_drop_4 : decode cX0_drop 4 = .ok (.ifCond .ne 6, 3) := dk_154 0 6 (dk_at dksX0_drop_0 4 rfl rfl)
theorem dX0_drop_7 : decode cX0_drop 7 = .ok (.ldc 141, 2) := dk_18 141 (dk_at dksX0_drop_0 7 rfl rfl)
theorem dX0_drop_9 : decode cX0_drop 9 = .ok (.ireturn, 1) := dk_172 (dk_at dksX0_drop_0 9 rfl rfl)
theorem dX0_drop_10 : decode cX0_drop 10 = .ok (.aload_n 0, 1) := dk_42 (dk_at dksX0_drop_0 10 rfl rfl)
theorem dX0_drop_11 : decode cX0_drop 11 = .ok (.iload_n 1, 1) := dk_27 (dk_at dksX0_drop_0 11 rfl rfl)
theorem dX0_drop_12 : decode cX0_drop 12 = .ok (.invokevirtual 152, 3) := dk_182 0 152 (dk_at dksX0_drop_0 12 rfl rfl)
theorem dX0_drop_15 : decode cX0_drop 15 = .ok (.getfield 156, 3) := dk_180 0 156 (dk_at dksX0_drop_0 15 rfl rfl)
theorem dX0_drop_18 : decode cX0_drop 18 = .ok (.arraylength, 1) := dk_190 (dk_at dksX0_drop_0 18 rfl rfl)
theorem dX0_drop_19 : decode cX0_drop 19 = .ok (.istore_n 2, 1) := dk_61 (dk_at dksX0_drop_0 19 rfl rfl)
theorem dX0_drop_20 : decode cX0_drop 20 = .ok (.aload_n 0, 1) := dk_42 (dk_at dksX0_drop_0 20 rfl rfl)
theorem dX0_drop_21 : decode cX0_drop 21 = .ok (.getfield 61, 3) := dk_180 0 61 (dk_at dksX0_drop_0 21 rfl rfl)
theorem dX0_drop_24 : decode cX0_drop 24 = .ok (.iload_n 1, 1) := dk_27 (dk_at dksX0_drop_1 0 rfl rfl)
theorem dX0_drop_25 : decode cX0_drop 25 = .ok (.aconst_null, 1) := dk_1 (dk_at dksX0_drop_1 1 rfl rfl)
theorem dX0_drop_26 : decode cX0_drop 26 = .ok (.aastore, 1) := dk_83 (dk_at dksX0_drop_1 2 rfl rfl)
theorem dX0_drop_27 : decode cX0_drop 27 = .ok (.aload_n 0, 1) := dk_42 (dk_at dksX0_drop_1 3 rfl rfl)
theorem dX0_drop_28 : decode cX0_drop 28 = .ok (.iload_n 2, 1) := dk_28 (dk_at dksX0_drop_1 4 rfl rfl)
theorem dX0_drop_29 : decode cX0_drop 29 = .ok (.invokevirtual 145, 3) := dk_182 0 145 (dk_at dksX0_drop_1 5 rfl rfl)
theorem dX0_drop_32 : decode cX0_drop 32 = .ok (.ireturn, 1) := dk_172 (dk_at dksX0_drop_1 8 rfl rfl)
theorem dX0_drop_33 : decode cX0_drop 33 = .ok (.astore_n 2, 1) := dk_77 (dk_at dksX0_drop_1 9 rfl rfl)
theorem dX0_drop_34 : decode cX0_drop 34 = .ok (.aload_n 0, 1) := dk_42 (dk_at dksX0_drop_1 10 rfl rfl)
theorem dX0_drop_35 : decode cX0_drop 35 = .ok (.aload_n 2, 1) := dk_44 (dk_at dksX0_drop_1 11 rfl rfl)
theorem dX0_drop_36 : decode cX0_drop 36 = .ok (.invokevirtual 148, 3) := dk_182 0 148 (dk_at dksX0_drop_1 12 rfl rfl)
theorem dX0_drop_39 : decode cX0_drop 39 = .ok (.ireturn, 1) := dk_172 (dk_at dksX0_drop_1 15 rfl rfl)
abbrev cX0_thing : ByteArray := prog_1_method_18_code
def yX0_thing : MethodName := ⟨RX0, "thing", "(III)I"⟩
def dkwX0_thing_5 : List UInt8 := [172]
abbrev dktX0_thing_5 : List UInt8 := dkwX0_thing_5 ++ []
def dkwX0_thing_4 : List UInt8 := [180, 0, 173, 29, 182, 0, 187, 132, 4, 1, 167, 255, 229, 42, 89, 180, 0, 173, 90, 4, 96, 181, 0, 173]
abbrev dktX0_thing_4 : List UInt8 := dkwX0_thing_4 ++ dktX0_thing_5
def dkwX0_thing_3 : List UInt8 := [182, 0, 187, 3, 54, 4, 21, 4, 42, 180, 0, 190, 162, 0, 24, 42, 180, 0, 69, 21, 4, 50, 42]
abbrev dktX0_thing_3 : List UInt8 := dkwX0_thing_3 ++ dktX0_thing_4
def dkwX0_thing_2 : List UInt8 := [180, 0, 173, 27, 79, 42, 180, 0, 65, 42, 180, 0, 173, 28, 79, 42, 180, 0, 13, 42, 180, 0, 173, 29]
abbrev dktX0_thing_2 : List UInt8 := dkwX0_thing_2 ++ dktX0_thing_3
def dkwX0_thing_1 : List UInt8 := [154, 0, 6, 18, 141, 172, 42, 180, 0, 173, 16, 6, 160, 0, 6, 18, 186, 172, 42, 180, 0, 7, 42]
abbrev dktX0_thing_1 : List UInt8 := dkwX0_thing_1 ++ dktX0_thing_2
def dkwX0_thing_0 : List UInt8 := [27, 184, 0, 178, 153, 0, 22, 28, 133, 10, 20, 0, 181, 184, 0, 128, 153, 0, 10, 29, 184, 0, 183]
abbrev dktX0_thing_0 : List UInt8 := dkwX0_thing_0 ++ dktX0_thing_1
theorem dksX0_thing_0 : cX0_thing.data.toList.drop 0 = dktX0_thing_0 := by decide +kernel
theorem dksX0_thing_1 : cX0_thing.data.toList.drop 23 = dktX0_thing_1 := dk_seg dksX0_thing_0 23 rfl rfl
theorem dksX0_thing_2 : cX0_thing.data.toList.drop 46 = dktX0_thing_2 := dk_seg dksX0_thing_1 23 rfl rfl
theorem dksX0_thing_3 : cX0_thing.data.toList.drop 70 = dktX0_thing_3 := dk_seg dksX0_thing_2 24 rfl rfl
theorem dksX0_thing_4 : cX0_thing.data.toList.drop 93 = dktX0_thing_4 := dk_seg dksX0_thing_3 23 rfl rfl
theorem dksX0_thing_5 : cX0_thing.data.toList.drop 117 = dktX0_thing_5 := dk_seg dksX0_thing_4 24 rfl rfl
theorem dX0_thing_0 : decode cX0_thing 0 = .ok (.iload_n 1, 1) := dk_27 (dk_at dksX0_thing_0 0 rfl rfl)
theorem dX0_thing_1 : decode cX0_thing 1 = .ok (.invokestatic 178, 3) := dk_184 0 178 (dk_at dksX0_thing_0 1 rfl rfl)
theorem dX0_thing_4 : decode cX0_thing 4 = .ok (.ifCond .eq 22, 3) := dk_153 0 22 (dk_at dksX0_thing_0 4 rfl rfl)
theorem dX0_thing_7 : decode cX0_thing 7 = .ok (.iload_n 2, 1) := dk_28 (dk_at dksX0_thing_0 7 rfl rfl)
theorem dX0_thing_8 : decode cX0_thing 8 = .ok (.i2l, 1) := dk_133 (dk_at dksX0_thing_0 8 rfl rfl)
theorem dX0_thing_9 : decode cX0_thing 9 = .ok (.lconst 1, 1) := dk_10 (dk_at dksX0_thing_0 9 rfl rfl)
theorem dX0_thing_10 : decode cX0_thing 10 = .ok (.ldc2_w 181, 3) := dk_20 0 181 (dk_at dksX0_thing_0 10 rfl rfl)
theorem dX0_thing_13 : decode cX0_thing 13 = .ok (.invokestatic 128, 3) := dk_184 0 128 (dk_at dksX0_thing_0 13 rfl rfl)
theorem dX0_thing_16 : decode cX0_thing 16 = .ok (.ifCond .eq 10, 3) := dk_153 0 10 (dk_at dksX0_thing_0 16 rfl rfl)
theorem dX0_thing_19 : decode cX0_thing 19 = .ok (.iload_n 3, 1) := dk_29 (dk_at dksX0_thing_0 19 rfl rfl)
theorem dX0_thing_20 : decode cX0_thing 20 = .ok (.invokestatic 183, 3) := dk_184 0 183 (dk_at dksX0_thing_0 20 rfl rfl)
theorem dX0_thing_23 : decode cX0_thing 23 = .ok (.ifCond .ne 6, 3) := dk_154 0 6 (dk_at dksX0_thing_1 0 rfl rfl)
theorem dX0_thing_26 : decode cX0_thing 26 = .ok (.ldc 141, 2) := dk_18 141 (dk_at dksX0_thing_1 3 rfl rfl)
theorem dX0_thing_28 : decode cX0_thing 28 = .ok (.ireturn, 1) := dk_172 (dk_at dksX0_thing_1 5 rfl rfl)
theorem dX0_thing_29 : decode cX0_thing 29 = .ok (.aload_n 0, 1) := dk_42 (dk_at dksX0_thing_1 6 rfl rfl)
theorem dX0_thing_30 : decode cX0_thing 30 = .ok (.getfield 173, 3) := dk_180 0 173 (dk_at dksX0_thing_1 7 rfl rfl)
theorem dX0_thing_33 : decode cX0_thing 33 = .ok (.bipush 6, 2) := dk_16 6 (dk_at dksX0_thing_1 10 rfl rfl)
theorem dX0_thing_35 : decode cX0_thing 35 = .ok (.if_icmp .ne 6, 3) := dk_160 0 6 (dk_at dksX0_thing_1 12 rfl rfl)
theorem dX0_thing_38 : decode cX0_thing 38 = .ok (.ldc 186, 2) := dk_18 186 (dk_at dksX0_thing_1 15 rfl rfl)
theorem dX0_thing_40 : decode cX0_thing 40 = .ok (.ireturn, 1) := dk_172 (dk_at dksX0_thing_1 17 rfl rfl)
theorem dX0_thing_41 : decode cX0_thing 41 = .ok (.aload_n 0, 1) := dk_42 (dk_at dksX0_thing_1 18 rfl rfl)
theorem dX0_thing_42 : decode cX0_thing 42 = .ok (.getfield 7, 3) := dk_180 0 7 (dk_at dksX0_thing_1 19 rfl rfl)
theorem dX0_thing_45 : decode cX0_thing 45 = .ok (.aload_n 0, 1) := dk_42 (dk_at dksX0_thing_1 22 rfl rfl)
theorem dX0_thing_46 : decode cX0_thing 46 = .ok (.getfield 173, 3) := dk_180 0 173 (dk_at dksX0_thing_2 0 rfl rfl)
theorem dX0_thing_49 : decode cX0_thing 49 = .ok (.iload_n 1, 1) := dk_27 (dk_at dksX0_thing_2 3 rfl rfl)
theorem dX0_thing_50 : decode cX0_thing 50 = .ok (.iastore, 1) := dk_79 (dk_at dksX0_thing_2 4 rfl rfl)
theorem dX0_thing_51 : decode cX0_thing 51 = .ok (.aload_n 0, 1) := dk_42 (dk_at dksX0_thing_2 5 rfl rfl)
theorem dX0_thing_52 : decode cX0_thing 52 = .ok (.getfield 65, 3) := dk_180 0 65 (dk_at dksX0_thing_2 6 rfl rfl)
theorem dX0_thing_55 : decode cX0_thing 55 = .ok (.aload_n 0, 1) := dk_42 (dk_at dksX0_thing_2 9 rfl rfl)
theorem dX0_thing_56 : decode cX0_thing 56 = .ok (.getfield 173, 3) := dk_180 0 173 (dk_at dksX0_thing_2 10 rfl rfl)
theorem dX0_thing_59 : decode cX0_thing 59 = .ok (.iload_n 2, 1) := dk_28 (dk_at dksX0_thing_2 13 rfl rfl)
theorem dX0_thing_60 : decode cX0_thing 60 = .ok (.iastore, 1) := dk_79 (dk_at dksX0_thing_2 14 rfl rfl)
theorem dX0_thing_61 : decode cX0_thing 61 = .ok (.aload_n 0, 1) := dk_42 (dk_at dksX0_thing_2 15 rfl rfl)
theorem dX0_thing_62 : decode cX0_thing 62 = .ok (.getfield 13, 3) := dk_180 0 13 (dk_at dksX0_thing_2 16 rfl rfl)
theorem dX0_thing_65 : decode cX0_thing 65 = .ok (.aload_n 0, 1) := dk_42 (dk_at dksX0_thing_2 19 rfl rfl)
theorem dX0_thing_66 : decode cX0_thing 66 = .ok (.getfield 173, 3) := dk_180 0 173 (dk_at dksX0_thing_2 20 rfl rfl)
theorem dX0_thing_69 : decode cX0_thing 69 = .ok (.iload_n 3, 1) := dk_29 (dk_at dksX0_thing_2 23 rfl rfl)
theorem dX0_thing_70 : decode cX0_thing 70 = .ok (.invokevirtual 187, 3) := dk_182 0 187 (dk_at dksX0_thing_3 0 rfl rfl)
theorem dX0_thing_73 : decode cX0_thing 73 = .ok (.iconst 0, 1) := dk_3 (dk_at dksX0_thing_3 3 rfl rfl)
theorem dX0_thing_74 : decode cX0_thing 74 = .ok (.istore 4, 2) := dk_54 4 (dk_at dksX0_thing_3 4 rfl rfl)
theorem dX0_thing_76 : decode cX0_thing 76 = .ok (.iload 4, 2) := dk_21 4 (dk_at dksX0_thing_3 6 rfl rfl)
theorem dX0_thing_78 : decode cX0_thing 78 = .ok (.aload_n 0, 1) := dk_42 (dk_at dksX0_thing_3 8 rfl rfl)
theorem dX0_thing_79 : decode cX0_thing 79 = .ok (.getfield 190, 3) := dk_180 0 190 (dk_at dksX0_thing_3 9 rfl rfl)
theorem dX0_thing_82 : decode cX0_thing 82 = .ok (.if_icmp .ge 24, 3) := dk_162 0 24 (dk_at dksX0_thing_3 12 rfl rfl)
theorem dX0_thing_85 : decode cX0_thing 85 = .ok (.aload_n 0, 1) := dk_42 (dk_at dksX0_thing_3 15 rfl rfl)
theorem dX0_thing_86 : decode cX0_thing 86 = .ok (.getfield 69, 3) := dk_180 0 69 (dk_at dksX0_thing_3 16 rfl rfl)
theorem dX0_thing_89 : decode cX0_thing 89 = .ok (.iload 4, 2) := dk_21 4 (dk_at dksX0_thing_3 19 rfl rfl)
theorem dX0_thing_91 : decode cX0_thing 91 = .ok (.aaload, 1) := dk_50 (dk_at dksX0_thing_3 21 rfl rfl)
theorem dX0_thing_92 : decode cX0_thing 92 = .ok (.aload_n 0, 1) := dk_42 (dk_at dksX0_thing_3 22 rfl rfl)
theorem dX0_thing_93 : decode cX0_thing 93 = .ok (.getfield 173, 3) := dk_180 0 173 (dk_at dksX0_thing_4 0 rfl rfl)
theorem dX0_thing_96 : decode cX0_thing 96 = .ok (.iload_n 3, 1) := dk_29 (dk_at dksX0_thing_4 3 rfl rfl)
theorem dX0_thing_97 : decode cX0_thing 97 = .ok (.invokevirtual 187, 3) := dk_182 0 187 (dk_at dksX0_thing_4 4 rfl rfl)
theorem dX0_thing_100 : decode cX0_thing 100 = .ok (.iinc 4 1, 3) := dk_132 4 1 (dk_at dksX0_thing_4 7 rfl rfl)
theorem dX0_thing_103 : decode cX0_thing 103 = .ok (.goto (-27), 3) := dk_167 255 229 (dk_at dksX0_thing_4 10 rfl rfl)
theorem dX0_thing_106 : decode cX0_thing 106 = .ok (.aload_n 0, 1) := dk_42 (dk_at dksX0_thing_4 13 rfl rfl)
theorem dX0_thing_107 : decode cX0_thing 107 = .ok (.dup, 1) := dk_89 (dk_at dksX0_thing_4 14 rfl rfl)
theorem dX0_thing_108 : decode cX0_thing 108 = .ok (.getfield 173, 3) := dk_180 0 173 (dk_at dksX0_thing_4 15 rfl rfl)
theorem dX0_thing_111 : decode cX0_thing 111 = .ok (.dup_x1, 1) := dk_90 (dk_at dksX0_thing_4 18 rfl rfl)
theorem dX0_thing_112 : decode cX0_thing 112 = .ok (.iconst 1, 1) := dk_4 (dk_at dksX0_thing_4 19 rfl rfl)
theorem dX0_thing_113 : decode cX0_thing 113 = .ok (.iadd, 1) := dk_96 (dk_at dksX0_thing_4 20 rfl rfl)
theorem dX0_thing_114 : decode cX0_thing 114 = .ok (.putfield 173, 3) := dk_181 0 173 (dk_at dksX0_thing_4 21 rfl rfl)
theorem dX0_thing_117 : decode cX0_thing 117 = .ok (.ireturn, 1) := dk_172 (dk_at dksX0_thing_5 0 rfl rfl)
abbrev cX0_isSort : ByteArray := prog_1_method_17_code
def yX0_isSort : MethodName := ⟨RX0, "isSort", "(I)Z"⟩
def dkwX0_isSort_0 : List UInt8 := [26, 133, 9, 20, 0, 176, 184, 0, 128, 172]
abbrev dktX0_isSort_0 : List UInt8 := dkwX0_isSort_0 ++ []
theorem dksX0_isSort_0 : cX0_isSort.data.toList.drop 0 = dktX0_isSort_0 := by decide +kernel
theorem dX0_isSort_0 : decode cX0_isSort 0 = .ok (.iload_n 0, 1) := dk_26 (dk_at dksX0_isSort_0 0 rfl rfl)
theorem dX0_isSort_1 : decode cX0_isSort 1 = .ok (.i2l, 1) := dk_133 (dk_at dksX0_isSort_0 1 rfl rfl)
theorem dX0_isSort_2 : decode cX0_isSort 2 = .ok (.lconst 0, 1) := dk_9 (dk_at dksX0_isSort_0 2 rfl rfl)
theorem dX0_isSort_3 : decode cX0_isSort 3 = .ok (.ldc2_w 176, 3) := dk_20 0 176 (dk_at dksX0_isSort_0 3 rfl rfl)
theorem dX0_isSort_6 : decode cX0_isSort 6 = .ok (.invokestatic 128, 3) := dk_184 0 128 (dk_at dksX0_isSort_0 6 rfl rfl)
theorem dX0_isSort_9 : decode cX0_isSort 9 = .ok (.ireturn, 1) := dk_172 (dk_at dksX0_isSort_0 9 rfl rfl)
abbrev cX0_isCell : ByteArray := prog_1_method_15_code
def yX0_isCell : MethodName := ⟨RX0, "isCell", "(I)Z"⟩
def dkwX0_isCell_0 : List UInt8 := [26, 133, 9, 20, 0, 126, 184, 0, 128, 172]
abbrev dktX0_isCell_0 : List UInt8 := dkwX0_isCell_0 ++ []
theorem dksX0_isCell_0 : cX0_isCell.data.toList.drop 0 = dktX0_isCell_0 := by decide +kernel
theorem dX0_isCell_0 : decode cX0_isCell 0 = .ok (.iload_n 0, 1) := dk_26 (dk_at dksX0_isCell_0 0 rfl rfl)
theorem dX0_isCell_1 : decode cX0_isCell 1 = .ok (.i2l, 1) := dk_133 (dk_at dksX0_isCell_0 1 rfl rfl)
theorem dX0_isCell_2 : decode cX0_isCell 2 = .ok (.lconst 0, 1) := dk_9 (dk_at dksX0_isCell_0 2 rfl rfl)
theorem dX0_isCell_3 : decode cX0_isCell 3 = .ok (.ldc2_w 126, 3) := dk_20 0 126 (dk_at dksX0_isCell_0 3 rfl rfl)
theorem dX0_isCell_6 : decode cX0_isCell 6 = .ok (.invokestatic 128, 3) := dk_184 0 128 (dk_at dksX0_isCell_0 6 rfl rfl)
theorem dX0_isCell_9 : decode cX0_isCell 9 = .ok (.ireturn, 1) := dk_172 (dk_at dksX0_isCell_0 9 rfl rfl)
abbrev cX0_where : ByteArray := prog_1_method_19_code
def yX0_where : MethodName := ⟨RX0, "where", "(II)I"⟩
def dkwX0_where_5 : List UInt8 := [4, 167, 0, 4, 3, 172, 42, 180, 0, 13, 180, 0, 206, 27, 46, 172, 18, 141, 172]
abbrev dktX0_where_5 : List UInt8 := dkwX0_where_5 ++ []
def dkwX0_where_4 : List UInt8 := [18, 202, 172, 42, 180, 0, 13, 180, 0, 199, 27, 46, 172, 42, 180, 0, 13, 27, 182, 0, 203, 153, 0, 7]
abbrev dktX0_where_4 : List UInt8 := dkwX0_where_4 ++ dktX0_where_5
def dkwX0_where_3 : List UInt8 := [180, 0, 13, 180, 0, 199, 27, 46, 18, 202, 160, 0, 14, 42, 180, 0, 13, 27, 182, 0, 22, 167, 0, 5]
abbrev dktX0_where_3 : List UInt8 := dkwX0_where_3 ++ dktX0_where_4
def dkwX0_where_2 : List UInt8 := [42, 180, 0, 7, 27, 46, 172, 42, 180, 0, 65, 27, 46, 172, 42, 180, 0, 13, 27, 182, 0, 196, 172, 42]
abbrev dktX0_where_2 : List UInt8 := dkwX0_where_2 ++ dktX0_where_3
def dkwX0_where_1 : List UInt8 := [170, 0, 0, 0, 0, 0, 0, 132, 0, 0, 0, 0, 0, 0, 0, 6, 0, 0, 0, 44, 0, 0, 0, 51, 0, 0, 0, 58, 0, 0, 0, 67, 0, 0, 0, 95, 0, 0, 0, 105, 0, 0, 0, 122]
abbrev dktX0_where_1 : List UInt8 := dkwX0_where_1 ++ dktX0_where_2
def dkwX0_where_0 : List UInt8 := [42, 27, 182, 0, 193, 154, 0, 6, 18, 141, 172, 28]
abbrev dktX0_where_0 : List UInt8 := dkwX0_where_0 ++ dktX0_where_1
theorem dksX0_where_0 : cX0_where.data.toList.drop 0 = dktX0_where_0 := by decide +kernel
theorem dksX0_where_1 : cX0_where.data.toList.drop 12 = dktX0_where_1 := dk_seg dksX0_where_0 12 rfl rfl
theorem dksX0_where_2 : cX0_where.data.toList.drop 56 = dktX0_where_2 := dk_seg dksX0_where_1 44 rfl rfl
theorem dksX0_where_3 : cX0_where.data.toList.drop 80 = dktX0_where_3 := dk_seg dksX0_where_2 24 rfl rfl
theorem dksX0_where_4 : cX0_where.data.toList.drop 104 = dktX0_where_4 := dk_seg dksX0_where_3 24 rfl rfl
theorem dksX0_where_5 : cX0_where.data.toList.drop 128 = dktX0_where_5 := dk_seg dksX0_where_4 24 rfl rfl
theorem dX0_where_0 : decode cX0_where 0 = .ok (.aload_n 0, 1) := dk_42 (dk_at dksX0_where_0 0 rfl rfl)
theorem dX0_where_1 : decode cX0_where 1 = .ok (.iload_n 1, 1) := dk_27 (dk_at dksX0_where_0 1 rfl rfl)
theorem dX0_where_2 : decode cX0_where 2 = .ok (.invokevirtual 193, 3) := dk_182 0 193 (dk_at dksX0_where_0 2 rfl rfl)
theorem dX0_where_5 : decode cX0_where 5 = .ok (.ifCond .ne 6, 3) := dk_154 0 6 (dk_at dksX0_where_0 5 rfl rfl)
theorem dX0_where_8 : decode cX0_where 8 = .ok (.ldc 141, 2) := dk_18 141 (dk_at dksX0_where_0 8 rfl rfl)
theorem dX0_where_10 : decode cX0_where 10 = .ok (.ireturn, 1) := dk_172 (dk_at dksX0_where_0 10 rfl rfl)
theorem dX0_where_11 : decode cX0_where 11 = .ok (.iload_n 2, 1) := dk_28 (dk_at dksX0_where_0 11 rfl rfl)
theorem dX0_where_12 : decode cX0_where 12 = .ok (.tableswitch 132 0 6 #[44, 51, 58, 67, 95, 105, 122], 44) := by decide +kernel
theorem dX0_where_56 : decode cX0_where 56 = .ok (.aload_n 0, 1) := dk_42 (dk_at dksX0_where_2 0 rfl rfl)
theorem dX0_where_57 : decode cX0_where 57 = .ok (.getfield 7, 3) := dk_180 0 7 (dk_at dksX0_where_2 1 rfl rfl)
theorem dX0_where_60 : decode cX0_where 60 = .ok (.iload_n 1, 1) := dk_27 (dk_at dksX0_where_2 4 rfl rfl)
theorem dX0_where_61 : decode cX0_where 61 = .ok (.iaload, 1) := dk_46 (dk_at dksX0_where_2 5 rfl rfl)
theorem dX0_where_62 : decode cX0_where 62 = .ok (.ireturn, 1) := dk_172 (dk_at dksX0_where_2 6 rfl rfl)
theorem dX0_where_63 : decode cX0_where 63 = .ok (.aload_n 0, 1) := dk_42 (dk_at dksX0_where_2 7 rfl rfl)
theorem dX0_where_64 : decode cX0_where 64 = .ok (.getfield 65, 3) := dk_180 0 65 (dk_at dksX0_where_2 8 rfl rfl)
theorem dX0_where_67 : decode cX0_where 67 = .ok (.iload_n 1, 1) := dk_27 (dk_at dksX0_where_2 11 rfl rfl)
theorem dX0_where_68 : decode cX0_where 68 = .ok (.iaload, 1) := dk_46 (dk_at dksX0_where_2 12 rfl rfl)
theorem dX0_where_69 : decode cX0_where 69 = .ok (.ireturn, 1) := dk_172 (dk_at dksX0_where_2 13 rfl rfl)
theorem dX0_where_70 : decode cX0_where 70 = .ok (.aload_n 0, 1) := dk_42 (dk_at dksX0_where_2 14 rfl rfl)
theorem dX0_where_71 : decode cX0_where 71 = .ok (.getfield 13, 3) := dk_180 0 13 (dk_at dksX0_where_2 15 rfl rfl)
theorem dX0_where_74 : decode cX0_where 74 = .ok (.iload_n 1, 1) := dk_27 (dk_at dksX0_where_2 18 rfl rfl)
theorem dX0_where_75 : decode cX0_where 75 = .ok (.invokevirtual 196, 3) := dk_182 0 196 (dk_at dksX0_where_2 19 rfl rfl)
theorem dX0_where_78 : decode cX0_where 78 = .ok (.ireturn, 1) := dk_172 (dk_at dksX0_where_2 22 rfl rfl)
theorem dX0_where_79 : decode cX0_where 79 = .ok (.aload_n 0, 1) := dk_42 (dk_at dksX0_where_2 23 rfl rfl)
theorem dX0_where_80 : decode cX0_where 80 = .ok (.getfield 13, 3) := dk_180 0 13 (dk_at dksX0_where_3 0 rfl rfl)
theorem dX0_where_83 : decode cX0_where 83 = .ok (.getfield 199, 3) := dk_180 0 199 (dk_at dksX0_where_3 3 rfl rfl)
theorem dX0_where_86 : decode cX0_where 86 = .ok (.iload_n 1, 1) := dk_27 (dk_at dksX0_where_3 6 rfl rfl)
theorem dX0_where_87 : decode cX0_where 87 = .ok (.iaload, 1) := dk_46 (dk_at dksX0_where_3 7 rfl rfl)
theorem dX0_where_88 : decode cX0_where 88 = .ok (.ldc 202, 2) := dk_18 202 (dk_at dksX0_where_3 8 rfl rfl)
theorem dX0_where_90 : decode cX0_where 90 = .ok (.if_icmp .ne 14, 3) := dk_160 0 14 (dk_at dksX0_where_3 10 rfl rfl)
theorem dX0_where_93 : decode cX0_where 93 = .ok (.aload_n 0, 1) := dk_42 (dk_at dksX0_where_3 13 rfl rfl)
theorem dX0_where_94 : decode cX0_where 94 = .ok (.getfield 13, 3) := dk_180 0 13 (dk_at dksX0_where_3 14 rfl rfl)
theorem dX0_where_97 : decode cX0_where 97 = .ok (.iload_n 1, 1) := dk_27 (dk_at dksX0_where_3 17 rfl rfl)
theorem dX0_where_98 : decode cX0_where 98 = .ok (.invokevirtual 22, 3) := dk_182 0 22 (dk_at dksX0_where_3 18 rfl rfl)
theorem dX0_where_101 : decode cX0_where 101 = .ok (.goto 5, 3) := dk_167 0 5 (dk_at dksX0_where_3 21 rfl rfl)
theorem dX0_where_104 : decode cX0_where 104 = .ok (.ldc 202, 2) := dk_18 202 (dk_at dksX0_where_4 0 rfl rfl)
theorem dX0_where_106 : decode cX0_where 106 = .ok (.ireturn, 1) := dk_172 (dk_at dksX0_where_4 2 rfl rfl)
theorem dX0_where_107 : decode cX0_where 107 = .ok (.aload_n 0, 1) := dk_42 (dk_at dksX0_where_4 3 rfl rfl)
theorem dX0_where_108 : decode cX0_where 108 = .ok (.getfield 13, 3) := dk_180 0 13 (dk_at dksX0_where_4 4 rfl rfl)
theorem dX0_where_111 : decode cX0_where 111 = .ok (.getfield 199, 3) := dk_180 0 199 (dk_at dksX0_where_4 7 rfl rfl)
theorem dX0_where_114 : decode cX0_where 114 = .ok (.iload_n 1, 1) := dk_27 (dk_at dksX0_where_4 10 rfl rfl)
theorem dX0_where_115 : decode cX0_where 115 = .ok (.iaload, 1) := dk_46 (dk_at dksX0_where_4 11 rfl rfl)
theorem dX0_where_116 : decode cX0_where 116 = .ok (.ireturn, 1) := dk_172 (dk_at dksX0_where_4 12 rfl rfl)
theorem dX0_where_117 : decode cX0_where 117 = .ok (.aload_n 0, 1) := dk_42 (dk_at dksX0_where_4 13 rfl rfl)
theorem dX0_where_118 : decode cX0_where 118 = .ok (.getfield 13, 3) := dk_180 0 13 (dk_at dksX0_where_4 14 rfl rfl)
theorem dX0_where_121 : decode cX0_where 121 = .ok (.iload_n 1, 1) := dk_27 (dk_at dksX0_where_4 17 rfl rfl)
theorem dX0_where_122 : decode cX0_where 122 = .ok (.invokevirtual 203, 3) := dk_182 0 203 (dk_at dksX0_where_4 18 rfl rfl)
theorem dX0_where_125 : decode cX0_where 125 = .ok (.ifCond .eq 7, 3) := dk_153 0 7 (dk_at dksX0_where_4 21 rfl rfl)
theorem dX0_where_128 : decode cX0_where 128 = .ok (.iconst 1, 1) := dk_4 (dk_at dksX0_where_5 0 rfl rfl)
theorem dX0_where_129 : decode cX0_where 129 = .ok (.goto 4, 3) := dk_167 0 4 (dk_at dksX0_where_5 1 rfl rfl)
theorem dX0_where_132 : decode cX0_where 132 = .ok (.iconst 0, 1) := dk_3 (dk_at dksX0_where_5 4 rfl rfl)
theorem dX0_where_133 : decode cX0_where 133 = .ok (.ireturn, 1) := dk_172 (dk_at dksX0_where_5 5 rfl rfl)
theorem dX0_where_134 : decode cX0_where 134 = .ok (.aload_n 0, 1) := dk_42 (dk_at dksX0_where_5 6 rfl rfl)
theorem dX0_where_135 : decode cX0_where 135 = .ok (.getfield 13, 3) := dk_180 0 13 (dk_at dksX0_where_5 7 rfl rfl)
theorem dX0_where_138 : decode cX0_where 138 = .ok (.getfield 206, 3) := dk_180 0 206 (dk_at dksX0_where_5 10 rfl rfl)
theorem dX0_where_141 : decode cX0_where 141 = .ok (.iload_n 1, 1) := dk_27 (dk_at dksX0_where_5 13 rfl rfl)
theorem dX0_where_142 : decode cX0_where 142 = .ok (.iaload, 1) := dk_46 (dk_at dksX0_where_5 14 rfl rfl)
theorem dX0_where_143 : decode cX0_where 143 = .ok (.ireturn, 1) := dk_172 (dk_at dksX0_where_5 15 rfl rfl)
theorem dX0_where_144 : decode cX0_where 144 = .ok (.ldc 141, 2) := dk_18 141 (dk_at dksX0_where_5 16 rfl rfl)
theorem dX0_where_146 : decode cX0_where 146 = .ok (.ireturn, 1) := dk_172 (dk_at dksX0_where_5 18 rfl rfl)
abbrev cX0_isThing : ByteArray := prog_1_method_16_code
def yX0_isThing : MethodName := ⟨RX0, "isThing", "(I)Z"⟩
def dkwX0_isThing_0 : List UInt8 := [27, 133, 9, 42, 180, 0, 173, 4, 100, 133, 184, 0, 128, 172]
abbrev dktX0_isThing_0 : List UInt8 := dkwX0_isThing_0 ++ []
theorem dksX0_isThing_0 : cX0_isThing.data.toList.drop 0 = dktX0_isThing_0 := by decide +kernel
theorem dX0_isThing_0 : decode cX0_isThing 0 = .ok (.iload_n 1, 1) := dk_27 (dk_at dksX0_isThing_0 0 rfl rfl)
theorem dX0_isThing_1 : decode cX0_isThing 1 = .ok (.i2l, 1) := dk_133 (dk_at dksX0_isThing_0 1 rfl rfl)
theorem dX0_isThing_2 : decode cX0_isThing 2 = .ok (.lconst 0, 1) := dk_9 (dk_at dksX0_isThing_0 2 rfl rfl)
theorem dX0_isThing_3 : decode cX0_isThing 3 = .ok (.aload_n 0, 1) := dk_42 (dk_at dksX0_isThing_0 3 rfl rfl)
theorem dX0_isThing_4 : decode cX0_isThing 4 = .ok (.getfield 173, 3) := dk_180 0 173 (dk_at dksX0_isThing_0 4 rfl rfl)
theorem dX0_isThing_7 : decode cX0_isThing 7 = .ok (.iconst 1, 1) := dk_4 (dk_at dksX0_isThing_0 7 rfl rfl)
theorem dX0_isThing_8 : decode cX0_isThing 8 = .ok (.isub, 1) := dk_100 (dk_at dksX0_isThing_0 8 rfl rfl)
theorem dX0_isThing_9 : decode cX0_isThing 9 = .ok (.i2l, 1) := dk_133 (dk_at dksX0_isThing_0 9 rfl rfl)
theorem dX0_isThing_10 : decode cX0_isThing 10 = .ok (.invokestatic 128, 3) := dk_184 0 128 (dk_at dksX0_isThing_0 10 rfl rfl)
theorem dX0_isThing_13 : decode cX0_isThing 13 = .ok (.ireturn, 1) := dk_172 (dk_at dksX0_isThing_0 13 rfl rfl)
abbrev cX0_pile : ByteArray := prog_1_method_20_code
def yX0_pile : MethodName := ⟨RX0, "pile", "(II)I"⟩
def dkwX0_pile_2 : List UInt8 := [42, 180, 0, 13, 27, 28, 182, 0, 28, 167, 0, 5, 18, 202, 172]
abbrev dktX0_pile_2 : List UInt8 := dkwX0_pile_2 ++ []
def dkwX0_pile_1 : List UInt8 := [180, 0, 13, 180, 0, 25, 27, 46, 167, 0, 30, 28, 42, 180, 0, 13, 180, 0, 25, 27, 46, 162, 0, 15]
abbrev dktX0_pile_1 : List UInt8 := dkwX0_pile_1 ++ dktX0_pile_2
def dkwX0_pile_0 : List UInt8 := [27, 184, 0, 183, 153, 0, 8, 28, 2, 162, 0, 8, 18, 141, 167, 0, 47, 28, 2, 160, 0, 15, 42]
abbrev dktX0_pile_0 : List UInt8 := dkwX0_pile_0 ++ dktX0_pile_1
theorem dksX0_pile_0 : cX0_pile.data.toList.drop 0 = dktX0_pile_0 := by decide +kernel
theorem dksX0_pile_1 : cX0_pile.data.toList.drop 23 = dktX0_pile_1 := dk_seg dksX0_pile_0 23 rfl rfl
theorem dksX0_pile_2 : cX0_pile.data.toList.drop 47 = dktX0_pile_2 := dk_seg dksX0_pile_1 24 rfl rfl
theorem dX0_pile_0 : decode cX0_pile 0 = .ok (.iload_n 1, 1) := dk_27 (dk_at dksX0_pile_0 0 rfl rfl)
theorem dX0_pile_1 : decode cX0_pile 1 = .ok (.invokestatic 183, 3) := dk_184 0 183 (dk_at dksX0_pile_0 1 rfl rfl)
theorem dX0_pile_4 : decode cX0_pile 4 = .ok (.ifCond .eq 8, 3) := dk_153 0 8 (dk_at dksX0_pile_0 4 rfl rfl)
theorem dX0_pile_7 : decode cX0_pile 7 = .ok (.iload_n 2, 1) := dk_28 (dk_at dksX0_pile_0 7 rfl rfl)
theorem dX0_pile_8 : decode cX0_pile 8 = .ok (.iconst (-1), 1) := dk_2 (dk_at dksX0_pile_0 8 rfl rfl)
theorem dX0_pile_9 : decode cX0_pile 9 = .ok (.if_icmp .ge 8, 3) := dk_162 0 8 (dk_at dksX0_pile_0 9 rfl rfl)
theorem dX0_pile_12 : decode cX0_pile 12 = .ok (.ldc 141, 2) := dk_18 141 (dk_at dksX0_pile_0 12 rfl rfl)
theorem dX0_pile_14 : decode cX0_pile 14 = .ok (.goto 47, 3) := dk_167 0 47 (dk_at dksX0_pile_0 14 rfl rfl)
theorem dX0_pile_17 : decode cX0_pile 17 = .ok (.iload_n 2, 1) := dk_28 (dk_at dksX0_pile_0 17 rfl rfl)
theorem dX0_pile_18 : decode cX0_pile 18 = .ok (.iconst (-1), 1) := dk_2 (dk_at dksX0_pile_0 18 rfl rfl)
theorem dX0_pile_19 : decode cX0_pile 19 = .ok (.if_icmp .ne 15, 3) := dk_160 0 15 (dk_at dksX0_pile_0 19 rfl rfl)
theorem dX0_pile_22 : decode cX0_pile 22 = .ok (.aload_n 0, 1) := dk_42 (dk_at dksX0_pile_0 22 rfl rfl)
theorem dX0_pile_23 : decode cX0_pile 23 = .ok (.getfield 13, 3) := dk_180 0 13 (dk_at dksX0_pile_1 0 rfl rfl)
theorem dX0_pile_26 : decode cX0_pile 26 = .ok (.getfield 25, 3) := dk_180 0 25 (dk_at dksX0_pile_1 3 rfl rfl)
theorem dX0_pile_29 : decode cX0_pile 29 = .ok (.iload_n 1, 1) := dk_27 (dk_at dksX0_pile_1 6 rfl rfl)
theorem dX0_pile_30 : decode cX0_pile 30 = .ok (.iaload, 1) := dk_46 (dk_at dksX0_pile_1 7 rfl rfl)
theorem dX0_pile_31 : decode cX0_pile 31 = .ok (.goto 30, 3) := dk_167 0 30 (dk_at dksX0_pile_1 8 rfl rfl)
theorem dX0_pile_34 : decode cX0_pile 34 = .ok (.iload_n 2, 1) := dk_28 (dk_at dksX0_pile_1 11 rfl rfl)
theorem dX0_pile_35 : decode cX0_pile 35 = .ok (.aload_n 0, 1) := dk_42 (dk_at dksX0_pile_1 12 rfl rfl)
theorem dX0_pile_36 : decode cX0_pile 36 = .ok (.getfield 13, 3) := dk_180 0 13 (dk_at dksX0_pile_1 13 rfl rfl)
theorem dX0_pile_39 : decode cX0_pile 39 = .ok (.getfield 25, 3) := dk_180 0 25 (dk_at dksX0_pile_1 16 rfl rfl)
theorem dX0_pile_42 : decode cX0_pile 42 = .ok (.iload_n 1, 1) := dk_27 (dk_at dksX0_pile_1 19 rfl rfl)
theorem dX0_pile_43 : decode cX0_pile 43 = .ok (.iaload, 1) := dk_46 (dk_at dksX0_pile_1 20 rfl rfl)
theorem dX0_pile_44 : decode cX0_pile 44 = .ok (.if_icmp .ge 15, 3) := dk_162 0 15 (dk_at dksX0_pile_1 21 rfl rfl)
theorem dX0_pile_47 : decode cX0_pile 47 = .ok (.aload_n 0, 1) := dk_42 (dk_at dksX0_pile_2 0 rfl rfl)
theorem dX0_pile_48 : decode cX0_pile 48 = .ok (.getfield 13, 3) := dk_180 0 13 (dk_at dksX0_pile_2 1 rfl rfl)
theorem dX0_pile_51 : decode cX0_pile 51 = .ok (.iload_n 1, 1) := dk_27 (dk_at dksX0_pile_2 4 rfl rfl)
theorem dX0_pile_52 : decode cX0_pile 52 = .ok (.iload_n 2, 1) := dk_28 (dk_at dksX0_pile_2 5 rfl rfl)
theorem dX0_pile_53 : decode cX0_pile 53 = .ok (.invokevirtual 28, 3) := dk_182 0 28 (dk_at dksX0_pile_2 6 rfl rfl)
theorem dX0_pile_56 : decode cX0_pile 56 = .ok (.goto 5, 3) := dk_167 0 5 (dk_at dksX0_pile_2 9 rfl rfl)
theorem dX0_pile_59 : decode cX0_pile 59 = .ok (.ldc 202, 2) := dk_18 202 (dk_at dksX0_pile_2 12 rfl rfl)
theorem dX0_pile_61 : decode cX0_pile 61 = .ok (.ireturn, 1) := dk_172 (dk_at dksX0_pile_2 14 rfl rfl)
abbrev cX0_reach : ByteArray := prog_1_method_22_code
def yX0_reach : MethodName := ⟨RX0, "reach", "(II)I"⟩
def dkwX0_reach_1 : List UInt8 := [180, 0, 82, 27, 46, 62, 42, 180, 0, 82, 27, 28, 79, 29, 172]
abbrev dktX0_reach_1 : List UInt8 := dkwX0_reach_1 ++ []
def dkwX0_reach_0 : List UInt8 := [27, 184, 0, 209, 153, 0, 15, 28, 133, 9, 20, 0, 212, 184, 0, 128, 154, 0, 6, 18, 141, 172, 42]
abbrev dktX0_reach_0 : List UInt8 := dkwX0_reach_0 ++ dktX0_reach_1
theorem dksX0_reach_0 : cX0_reach.data.toList.drop 0 = dktX0_reach_0 := by decide +kernel
theorem dksX0_reach_1 : cX0_reach.data.toList.drop 23 = dktX0_reach_1 := dk_seg dksX0_reach_0 23 rfl rfl
theorem dX0_reach_0 : decode cX0_reach 0 = .ok (.iload_n 1, 1) := dk_27 (dk_at dksX0_reach_0 0 rfl rfl)
theorem dX0_reach_1 : decode cX0_reach 1 = .ok (.invokestatic 209, 3) := dk_184 0 209 (dk_at dksX0_reach_0 1 rfl rfl)
theorem dX0_reach_4 : decode cX0_reach 4 = .ok (.ifCond .eq 15, 3) := dk_153 0 15 (dk_at dksX0_reach_0 4 rfl rfl)
theorem dX0_reach_7 : decode cX0_reach 7 = .ok (.iload_n 2, 1) := dk_28 (dk_at dksX0_reach_0 7 rfl rfl)
theorem dX0_reach_8 : decode cX0_reach 8 = .ok (.i2l, 1) := dk_133 (dk_at dksX0_reach_0 8 rfl rfl)
theorem dX0_reach_9 : decode cX0_reach 9 = .ok (.lconst 0, 1) := dk_9 (dk_at dksX0_reach_0 9 rfl rfl)
theorem dX0_reach_10 : decode cX0_reach 10 = .ok (.ldc2_w 212, 3) := dk_20 0 212 (dk_at dksX0_reach_0 10 rfl rfl)
theorem dX0_reach_13 : decode cX0_reach 13 = .ok (.invokestatic 128, 3) := dk_184 0 128 (dk_at dksX0_reach_0 13 rfl rfl)
theorem dX0_reach_16 : decode cX0_reach 16 = .ok (.ifCond .ne 6, 3) := dk_154 0 6 (dk_at dksX0_reach_0 16 rfl rfl)
theorem dX0_reach_19 : decode cX0_reach 19 = .ok (.ldc 141, 2) := dk_18 141 (dk_at dksX0_reach_0 19 rfl rfl)
theorem dX0_reach_21 : decode cX0_reach 21 = .ok (.ireturn, 1) := dk_172 (dk_at dksX0_reach_0 21 rfl rfl)
theorem dX0_reach_22 : decode cX0_reach 22 = .ok (.aload_n 0, 1) := dk_42 (dk_at dksX0_reach_0 22 rfl rfl)
theorem dX0_reach_23 : decode cX0_reach 23 = .ok (.getfield 82, 3) := dk_180 0 82 (dk_at dksX0_reach_1 0 rfl rfl)
theorem dX0_reach_26 : decode cX0_reach 26 = .ok (.iload_n 1, 1) := dk_27 (dk_at dksX0_reach_1 3 rfl rfl)
theorem dX0_reach_27 : decode cX0_reach 27 = .ok (.iaload, 1) := dk_46 (dk_at dksX0_reach_1 4 rfl rfl)
theorem dX0_reach_28 : decode cX0_reach 28 = .ok (.istore_n 3, 1) := dk_62 (dk_at dksX0_reach_1 5 rfl rfl)
theorem dX0_reach_29 : decode cX0_reach 29 = .ok (.aload_n 0, 1) := dk_42 (dk_at dksX0_reach_1 6 rfl rfl)
theorem dX0_reach_30 : decode cX0_reach 30 = .ok (.getfield 82, 3) := dk_180 0 82 (dk_at dksX0_reach_1 7 rfl rfl)
theorem dX0_reach_33 : decode cX0_reach 33 = .ok (.iload_n 1, 1) := dk_27 (dk_at dksX0_reach_1 10 rfl rfl)
theorem dX0_reach_34 : decode cX0_reach 34 = .ok (.iload_n 2, 1) := dk_28 (dk_at dksX0_reach_1 11 rfl rfl)
theorem dX0_reach_35 : decode cX0_reach 35 = .ok (.iastore, 1) := dk_79 (dk_at dksX0_reach_1 12 rfl rfl)
theorem dX0_reach_36 : decode cX0_reach 36 = .ok (.iload_n 3, 1) := dk_29 (dk_at dksX0_reach_1 13 rfl rfl)
theorem dX0_reach_37 : decode cX0_reach 37 = .ok (.ireturn, 1) := dk_172 (dk_at dksX0_reach_1 14 rfl rfl)
abbrev cX0_isArm : ByteArray := prog_1_method_21_code
def yX0_isArm : MethodName := ⟨RX0, "isArm", "(I)Z"⟩
def dkwX0_isArm_0 : List UInt8 := [26, 133, 9, 10, 184, 0, 128, 172]
abbrev dktX0_isArm_0 : List UInt8 := dkwX0_isArm_0 ++ []
theorem dksX0_isArm_0 : cX0_isArm.data.toList.drop 0 = dktX0_isArm_0 := by decide +kernel
theorem dX0_isArm_0 : decode cX0_isArm 0 = .ok (.iload_n 0, 1) := dk_26 (dk_at dksX0_isArm_0 0 rfl rfl)
theorem dX0_isArm_1 : decode cX0_isArm 1 = .ok (.i2l, 1) := dk_133 (dk_at dksX0_isArm_0 1 rfl rfl)
theorem dX0_isArm_2 : decode cX0_isArm 2 = .ok (.lconst 0, 1) := dk_9 (dk_at dksX0_isArm_0 2 rfl rfl)
theorem dX0_isArm_3 : decode cX0_isArm 3 = .ok (.lconst 1, 1) := dk_10 (dk_at dksX0_isArm_0 3 rfl rfl)
theorem dX0_isArm_4 : decode cX0_isArm 4 = .ok (.invokestatic 128, 3) := dk_184 0 128 (dk_at dksX0_isArm_0 4 rfl rfl)
theorem dX0_isArm_7 : decode cX0_isArm 7 = .ok (.ireturn, 1) := dk_172 (dk_at dksX0_isArm_0 7 rfl rfl)
abbrev cX0_move : ByteArray := prog_1_method_28_code
def yX0_move : MethodName := ⟨RX0, "move", "(III)I"⟩
def dkwX0_move_2 : List UInt8 := [28, 29, 184, 0, 243, 4, 172]
abbrev dktX0_move_2 : List UInt8 := dkwX0_move_2 ++ []
def dkwX0_move_1 : List UInt8 := [153, 0, 17, 42, 42, 180, 0, 13, 27, 28, 29, 182, 0, 238, 154, 0, 6, 18, 242, 172, 42, 180, 0, 13]
abbrev dktX0_move_1 : List UInt8 := dkwX0_move_1 ++ dktX0_move_2
def dkwX0_move_0 : List UInt8 := [42, 27, 28, 29, 182, 0, 230, 154, 0, 6, 18, 141, 172, 42, 42, 180, 0, 13, 28, 29, 182, 0, 234]
abbrev dktX0_move_0 : List UInt8 := dkwX0_move_0 ++ dktX0_move_1
theorem dksX0_move_0 : cX0_move.data.toList.drop 0 = dktX0_move_0 := by decide +kernel
theorem dksX0_move_1 : cX0_move.data.toList.drop 23 = dktX0_move_1 := dk_seg dksX0_move_0 23 rfl rfl
theorem dksX0_move_2 : cX0_move.data.toList.drop 47 = dktX0_move_2 := dk_seg dksX0_move_1 24 rfl rfl
theorem dX0_move_0 : decode cX0_move 0 = .ok (.aload_n 0, 1) := dk_42 (dk_at dksX0_move_0 0 rfl rfl)
theorem dX0_move_1 : decode cX0_move 1 = .ok (.iload_n 1, 1) := dk_27 (dk_at dksX0_move_0 1 rfl rfl)
theorem dX0_move_2 : decode cX0_move 2 = .ok (.iload_n 2, 1) := dk_28 (dk_at dksX0_move_0 2 rfl rfl)
theorem dX0_move_3 : decode cX0_move 3 = .ok (.iload_n 3, 1) := dk_29 (dk_at dksX0_move_0 3 rfl rfl)
theorem dX0_move_4 : decode cX0_move 4 = .ok (.invokevirtual 230, 3) := dk_182 0 230 (dk_at dksX0_move_0 4 rfl rfl)
theorem dX0_move_7 : decode cX0_move 7 = .ok (.ifCond .ne 6, 3) := dk_154 0 6 (dk_at dksX0_move_0 7 rfl rfl)
theorem dX0_move_10 : decode cX0_move 10 = .ok (.ldc 141, 2) := dk_18 141 (dk_at dksX0_move_0 10 rfl rfl)
theorem dX0_move_12 : decode cX0_move 12 = .ok (.ireturn, 1) := dk_172 (dk_at dksX0_move_0 12 rfl rfl)
theorem dX0_move_13 : decode cX0_move 13 = .ok (.aload_n 0, 1) := dk_42 (dk_at dksX0_move_0 13 rfl rfl)
theorem dX0_move_14 : decode cX0_move 14 = .ok (.aload_n 0, 1) := dk_42 (dk_at dksX0_move_0 14 rfl rfl)
theorem dX0_move_15 : decode cX0_move 15 = .ok (.getfield 13, 3) := dk_180 0 13 (dk_at dksX0_move_0 15 rfl rfl)
theorem dX0_move_18 : decode cX0_move 18 = .ok (.iload_n 2, 1) := dk_28 (dk_at dksX0_move_0 18 rfl rfl)
theorem dX0_move_19 : decode cX0_move 19 = .ok (.iload_n 3, 1) := dk_29 (dk_at dksX0_move_0 19 rfl rfl)
theorem dX0_move_20 : decode cX0_move 20 = .ok (.invokevirtual 234, 3) := dk_182 0 234 (dk_at dksX0_move_0 20 rfl rfl)
theorem dX0_move_23 : decode cX0_move 23 = .ok (.ifCond .eq 17, 3) := dk_153 0 17 (dk_at dksX0_move_1 0 rfl rfl)
theorem dX0_move_26 : decode cX0_move 26 = .ok (.aload_n 0, 1) := dk_42 (dk_at dksX0_move_1 3 rfl rfl)
theorem dX0_move_27 : decode cX0_move 27 = .ok (.aload_n 0, 1) := dk_42 (dk_at dksX0_move_1 4 rfl rfl)
theorem dX0_move_28 : decode cX0_move 28 = .ok (.getfield 13, 3) := dk_180 0 13 (dk_at dksX0_move_1 5 rfl rfl)
theorem dX0_move_31 : decode cX0_move 31 = .ok (.iload_n 1, 1) := dk_27 (dk_at dksX0_move_1 8 rfl rfl)
theorem dX0_move_32 : decode cX0_move 32 = .ok (.iload_n 2, 1) := dk_28 (dk_at dksX0_move_1 9 rfl rfl)
theorem dX0_move_33 : decode cX0_move 33 = .ok (.iload_n 3, 1) := dk_29 (dk_at dksX0_move_1 10 rfl rfl)
theorem dX0_move_34 : decode cX0_move 34 = .ok (.invokevirtual 238, 3) := dk_182 0 238 (dk_at dksX0_move_1 11 rfl rfl)
theorem dX0_move_37 : decode cX0_move 37 = .ok (.ifCond .ne 6, 3) := dk_154 0 6 (dk_at dksX0_move_1 14 rfl rfl)
theorem dX0_move_40 : decode cX0_move 40 = .ok (.ldc 242, 2) := dk_18 242 (dk_at dksX0_move_1 17 rfl rfl)
theorem dX0_move_42 : decode cX0_move 42 = .ok (.ireturn, 1) := dk_172 (dk_at dksX0_move_1 19 rfl rfl)
theorem dX0_move_43 : decode cX0_move 43 = .ok (.aload_n 0, 1) := dk_42 (dk_at dksX0_move_1 20 rfl rfl)
theorem dX0_move_44 : decode cX0_move 44 = .ok (.getfield 13, 3) := dk_180 0 13 (dk_at dksX0_move_1 21 rfl rfl)
theorem dX0_move_47 : decode cX0_move 47 = .ok (.iload_n 2, 1) := dk_28 (dk_at dksX0_move_2 0 rfl rfl)
theorem dX0_move_48 : decode cX0_move 48 = .ok (.iload_n 3, 1) := dk_29 (dk_at dksX0_move_2 1 rfl rfl)
theorem dX0_move_49 : decode cX0_move 49 = .ok (.invokestatic 243, 3) := dk_184 0 243 (dk_at dksX0_move_2 2 rfl rfl)
theorem dX0_move_52 : decode cX0_move 52 = .ok (.iconst 1, 1) := dk_4 (dk_at dksX0_move_2 5 rfl rfl)
theorem dX0_move_53 : decode cX0_move 53 = .ok (.ireturn, 1) := dk_172 (dk_at dksX0_move_2 6 rfl rfl)
abbrev cX0_isMove : ByteArray := prog_1_method_27_code
def yX0_isMove : MethodName := ⟨RX0, "isMove", "(III)Z"⟩
def dkwX0_isMove_1 : List UInt8 := [167, 0, 4, 3, 172]
abbrev dktX0_isMove_1 : List UInt8 := dkwX0_isMove_1 ++ []
def dkwX0_isMove_0 : List UInt8 := [27, 184, 0, 209, 153, 0, 23, 42, 28, 182, 0, 193, 153, 0, 15, 42, 29, 182, 0, 227, 153, 0, 7, 4]
abbrev dktX0_isMove_0 : List UInt8 := dkwX0_isMove_0 ++ dktX0_isMove_1
theorem dksX0_isMove_0 : cX0_isMove.data.toList.drop 0 = dktX0_isMove_0 := by decide +kernel
theorem dksX0_isMove_1 : cX0_isMove.data.toList.drop 24 = dktX0_isMove_1 := dk_seg dksX0_isMove_0 24 rfl rfl
theorem dX0_isMove_0 : decode cX0_isMove 0 = .ok (.iload_n 1, 1) := dk_27 (dk_at dksX0_isMove_0 0 rfl rfl)
theorem dX0_isMove_1 : decode cX0_isMove 1 = .ok (.invokestatic 209, 3) := dk_184 0 209 (dk_at dksX0_isMove_0 1 rfl rfl)
theorem dX0_isMove_4 : decode cX0_isMove 4 = .ok (.ifCond .eq 23, 3) := dk_153 0 23 (dk_at dksX0_isMove_0 4 rfl rfl)
theorem dX0_isMove_7 : decode cX0_isMove 7 = .ok (.aload_n 0, 1) := dk_42 (dk_at dksX0_isMove_0 7 rfl rfl)
theorem dX0_isMove_8 : decode cX0_isMove 8 = .ok (.iload_n 2, 1) := dk_28 (dk_at dksX0_isMove_0 8 rfl rfl)
theorem dX0_isMove_9 : decode cX0_isMove 9 = .ok (.invokevirtual 193, 3) := dk_182 0 193 (dk_at dksX0_isMove_0 9 rfl rfl)
theorem dX0_isMove_12 : decode cX0_isMove 12 = .ok (.ifCond .eq 15, 3) := dk_153 0 15 (dk_at dksX0_isMove_0 12 rfl rfl)
theorem dX0_isMove_15 : decode cX0_isMove 15 = .ok (.aload_n 0, 1) := dk_42 (dk_at dksX0_isMove_0 15 rfl rfl)
theorem dX0_isMove_16 : decode cX0_isMove 16 = .ok (.iload_n 3, 1) := dk_29 (dk_at dksX0_isMove_0 16 rfl rfl)
theorem dX0_isMove_17 : decode cX0_isMove 17 = .ok (.invokevirtual 227, 3) := dk_182 0 227 (dk_at dksX0_isMove_0 17 rfl rfl)
theorem dX0_isMove_20 : decode cX0_isMove 20 = .ok (.ifCond .eq 7, 3) := dk_153 0 7 (dk_at dksX0_isMove_0 20 rfl rfl)
theorem dX0_isMove_23 : decode cX0_isMove 23 = .ok (.iconst 1, 1) := dk_4 (dk_at dksX0_isMove_0 23 rfl rfl)
theorem dX0_isMove_24 : decode cX0_isMove 24 = .ok (.goto 4, 3) := dk_167 0 4 (dk_at dksX0_isMove_1 0 rfl rfl)
theorem dX0_isMove_27 : decode cX0_isMove 27 = .ok (.iconst 0, 1) := dk_3 (dk_at dksX0_isMove_1 3 rfl rfl)
theorem dX0_isMove_28 : decode cX0_isMove 28 = .ok (.ireturn, 1) := dk_172 (dk_at dksX0_isMove_1 4 rfl rfl)
abbrev cX0_isTo : ByteArray := prog_1_method_23_code
def yX0_isTo : MethodName := ⟨RX0, "isTo", "(I)Z"⟩
def dkwX0_isTo_1 : List UInt8 := [16, 8, 100, 46, 5, 160, 0, 7, 4, 167, 0, 4, 3, 172]
abbrev dktX0_isTo_1 : List UInt8 := dkwX0_isTo_1 ++ []
def dkwX0_isTo_0 : List UInt8 := [27, 184, 0, 183, 154, 0, 27, 42, 27, 16, 8, 100, 182, 0, 193, 153, 0, 20, 42, 180, 0, 7, 27]
abbrev dktX0_isTo_0 : List UInt8 := dkwX0_isTo_0 ++ dktX0_isTo_1
theorem dksX0_isTo_0 : cX0_isTo.data.toList.drop 0 = dktX0_isTo_0 := by decide +kernel
theorem dksX0_isTo_1 : cX0_isTo.data.toList.drop 23 = dktX0_isTo_1 := dk_seg dksX0_isTo_0 23 rfl rfl
theorem dX0_isTo_0 : decode cX0_isTo 0 = .ok (.iload_n 1, 1) := dk_27 (dk_at dksX0_isTo_0 0 rfl rfl)
theorem dX0_isTo_1 : decode cX0_isTo 1 = .ok (.invokestatic 183, 3) := dk_184 0 183 (dk_at dksX0_isTo_0 1 rfl rfl)
theorem dX0_isTo_4 : decode cX0_isTo 4 = .ok (.ifCond .ne 27, 3) := dk_154 0 27 (dk_at dksX0_isTo_0 4 rfl rfl)
theorem dX0_isTo_7 : decode cX0_isTo 7 = .ok (.aload_n 0, 1) := dk_42 (dk_at dksX0_isTo_0 7 rfl rfl)
theorem dX0_isTo_8 : decode cX0_isTo 8 = .ok (.iload_n 1, 1) := dk_27 (dk_at dksX0_isTo_0 8 rfl rfl)
theorem dX0_isTo_9 : decode cX0_isTo 9 = .ok (.bipush 8, 2) := dk_16 8 (dk_at dksX0_isTo_0 9 rfl rfl)
theorem dX0_isTo_11 : decode cX0_isTo 11 = .ok (.isub, 1) := dk_100 (dk_at dksX0_isTo_0 11 rfl rfl)
theorem dX0_isTo_12 : decode cX0_isTo 12 = .ok (.invokevirtual 193, 3) := dk_182 0 193 (dk_at dksX0_isTo_0 12 rfl rfl)
theorem dX0_isTo_15 : decode cX0_isTo 15 = .ok (.ifCond .eq 20, 3) := dk_153 0 20 (dk_at dksX0_isTo_0 15 rfl rfl)
theorem dX0_isTo_18 : decode cX0_isTo 18 = .ok (.aload_n 0, 1) := dk_42 (dk_at dksX0_isTo_0 18 rfl rfl)
theorem dX0_isTo_19 : decode cX0_isTo 19 = .ok (.getfield 7, 3) := dk_180 0 7 (dk_at dksX0_isTo_0 19 rfl rfl)
theorem dX0_isTo_22 : decode cX0_isTo 22 = .ok (.iload_n 1, 1) := dk_27 (dk_at dksX0_isTo_0 22 rfl rfl)
theorem dX0_isTo_23 : decode cX0_isTo 23 = .ok (.bipush 8, 2) := dk_16 8 (dk_at dksX0_isTo_1 0 rfl rfl)
theorem dX0_isTo_25 : decode cX0_isTo 25 = .ok (.isub, 1) := dk_100 (dk_at dksX0_isTo_1 2 rfl rfl)
theorem dX0_isTo_26 : decode cX0_isTo 26 = .ok (.iaload, 1) := dk_46 (dk_at dksX0_isTo_1 3 rfl rfl)
theorem dX0_isTo_27 : decode cX0_isTo 27 = .ok (.iconst 2, 1) := dk_5 (dk_at dksX0_isTo_1 4 rfl rfl)
theorem dX0_isTo_28 : decode cX0_isTo 28 = .ok (.if_icmp .ne 7, 3) := dk_160 0 7 (dk_at dksX0_isTo_1 5 rfl rfl)
theorem dX0_isTo_31 : decode cX0_isTo 31 = .ok (.iconst 1, 1) := dk_4 (dk_at dksX0_isTo_1 8 rfl rfl)
theorem dX0_isTo_32 : decode cX0_isTo 32 = .ok (.goto 4, 3) := dk_167 0 4 (dk_at dksX0_isTo_1 9 rfl rfl)
theorem dX0_isTo_35 : decode cX0_isTo 35 = .ok (.iconst 0, 1) := dk_3 (dk_at dksX0_isTo_1 12 rfl rfl)
theorem dX0_isTo_36 : decode cX0_isTo 36 = .ok (.ireturn, 1) := dk_172 (dk_at dksX0_isTo_1 13 rfl rfl)
abbrev cX0_can : ByteArray := prog_1_method_24_code
def yX0_can : MethodName := ⟨RX0, "can", "(LTableArms$Table;II)Z"⟩
def dkwX0_can_2 : List UInt8 := [100, 159, 0, 7, 4, 167, 0, 4, 3, 172]
abbrev dktX0_can_2 : List UInt8 := dkwX0_can_2 ++ []
def dkwX0_can_1 : List UInt8 := [159, 0, 32, 43, 28, 29, 16, 8, 100, 182, 0, 217, 153, 0, 20, 43, 180, 0, 199, 28, 46, 29, 16, 8]
abbrev dktX0_can_1 : List UInt8 := dkwX0_can_1 ++ dktX0_can_2
def dkwX0_can_0 : List UInt8 := [43, 28, 182, 0, 214, 154, 0, 5, 3, 172, 29, 16, 8, 161, 0, 38, 42, 180, 0, 7, 28, 46, 5]
abbrev dktX0_can_0 : List UInt8 := dkwX0_can_0 ++ dktX0_can_1
theorem dksX0_can_0 : cX0_can.data.toList.drop 0 = dktX0_can_0 := by decide +kernel
theorem dksX0_can_1 : cX0_can.data.toList.drop 23 = dktX0_can_1 := dk_seg dksX0_can_0 23 rfl rfl
theorem dksX0_can_2 : cX0_can.data.toList.drop 47 = dktX0_can_2 := dk_seg dksX0_can_1 24 rfl rfl
theorem dX0_can_0 : decode cX0_can 0 = .ok (.aload_n 1, 1) := dk_43 (dk_at dksX0_can_0 0 rfl rfl)
theorem dX0_can_1 : decode cX0_can 1 = .ok (.iload_n 2, 1) := dk_28 (dk_at dksX0_can_0 1 rfl rfl)
theorem dX0_can_2 : decode cX0_can 2 = .ok (.invokevirtual 214, 3) := dk_182 0 214 (dk_at dksX0_can_0 2 rfl rfl)
theorem dX0_can_5 : decode cX0_can 5 = .ok (.ifCond .ne 5, 3) := dk_154 0 5 (dk_at dksX0_can_0 5 rfl rfl)
theorem dX0_can_8 : decode cX0_can 8 = .ok (.iconst 0, 1) := dk_3 (dk_at dksX0_can_0 8 rfl rfl)
theorem dX0_can_9 : decode cX0_can 9 = .ok (.ireturn, 1) := dk_172 (dk_at dksX0_can_0 9 rfl rfl)
theorem dX0_can_10 : decode cX0_can 10 = .ok (.iload_n 3, 1) := dk_29 (dk_at dksX0_can_0 10 rfl rfl)
theorem dX0_can_11 : decode cX0_can 11 = .ok (.bipush 8, 2) := dk_16 8 (dk_at dksX0_can_0 11 rfl rfl)
theorem dX0_can_13 : decode cX0_can 13 = .ok (.if_icmp .lt 38, 3) := dk_161 0 38 (dk_at dksX0_can_0 13 rfl rfl)
theorem dX0_can_16 : decode cX0_can 16 = .ok (.aload_n 0, 1) := dk_42 (dk_at dksX0_can_0 16 rfl rfl)
theorem dX0_can_17 : decode cX0_can 17 = .ok (.getfield 7, 3) := dk_180 0 7 (dk_at dksX0_can_0 17 rfl rfl)
theorem dX0_can_20 : decode cX0_can 20 = .ok (.iload_n 2, 1) := dk_28 (dk_at dksX0_can_0 20 rfl rfl)
theorem dX0_can_21 : decode cX0_can 21 = .ok (.iaload, 1) := dk_46 (dk_at dksX0_can_0 21 rfl rfl)
theorem dX0_can_22 : decode cX0_can 22 = .ok (.iconst 2, 1) := dk_5 (dk_at dksX0_can_0 22 rfl rfl)
theorem dX0_can_23 : decode cX0_can 23 = .ok (.if_icmp .eq 32, 3) := dk_159 0 32 (dk_at dksX0_can_1 0 rfl rfl)
theorem dX0_can_26 : decode cX0_can 26 = .ok (.aload_n 1, 1) := dk_43 (dk_at dksX0_can_1 3 rfl rfl)
theorem dX0_can_27 : decode cX0_can 27 = .ok (.iload_n 2, 1) := dk_28 (dk_at dksX0_can_1 4 rfl rfl)
theorem dX0_can_28 : decode cX0_can 28 = .ok (.iload_n 3, 1) := dk_29 (dk_at dksX0_can_1 5 rfl rfl)
theorem dX0_can_29 : decode cX0_can 29 = .ok (.bipush 8, 2) := dk_16 8 (dk_at dksX0_can_1 6 rfl rfl)
theorem dX0_can_31 : decode cX0_can 31 = .ok (.isub, 1) := dk_100 (dk_at dksX0_can_1 8 rfl rfl)
theorem dX0_can_32 : decode cX0_can 32 = .ok (.invokevirtual 217, 3) := dk_182 0 217 (dk_at dksX0_can_1 9 rfl rfl)
theorem dX0_can_35 : decode cX0_can 35 = .ok (.ifCond .eq 20, 3) := dk_153 0 20 (dk_at dksX0_can_1 12 rfl rfl)
theorem dX0_can_38 : decode cX0_can 38 = .ok (.aload_n 1, 1) := dk_43 (dk_at dksX0_can_1 15 rfl rfl)
theorem dX0_can_39 : decode cX0_can 39 = .ok (.getfield 199, 3) := dk_180 0 199 (dk_at dksX0_can_1 16 rfl rfl)
theorem dX0_can_42 : decode cX0_can 42 = .ok (.iload_n 2, 1) := dk_28 (dk_at dksX0_can_1 19 rfl rfl)
theorem dX0_can_43 : decode cX0_can 43 = .ok (.iaload, 1) := dk_46 (dk_at dksX0_can_1 20 rfl rfl)
theorem dX0_can_44 : decode cX0_can 44 = .ok (.iload_n 3, 1) := dk_29 (dk_at dksX0_can_1 21 rfl rfl)
theorem dX0_can_45 : decode cX0_can 45 = .ok (.bipush 8, 2) := dk_16 8 (dk_at dksX0_can_1 22 rfl rfl)
theorem dX0_can_47 : decode cX0_can 47 = .ok (.isub, 1) := dk_100 (dk_at dksX0_can_2 0 rfl rfl)
theorem dX0_can_48 : decode cX0_can 48 = .ok (.if_icmp .eq 7, 3) := dk_159 0 7 (dk_at dksX0_can_2 1 rfl rfl)
theorem dX0_can_51 : decode cX0_can 51 = .ok (.iconst 1, 1) := dk_4 (dk_at dksX0_can_2 4 rfl rfl)
theorem dX0_can_52 : decode cX0_can 52 = .ok (.goto 4, 3) := dk_167 0 4 (dk_at dksX0_can_2 5 rfl rfl)
theorem dX0_can_55 : decode cX0_can 55 = .ok (.iconst 0, 1) := dk_3 (dk_at dksX0_can_2 8 rfl rfl)
theorem dX0_can_56 : decode cX0_can 56 = .ok (.ireturn, 1) := dk_172 (dk_at dksX0_can_2 9 rfl rfl)
abbrev cX0_isReached : ByteArray := prog_1_method_25_code
def yX0_isReached : MethodName := ⟨RX0, "isReached", "(LTableArms$Table;III)Z"⟩
def dkwX0_isReached_2 : List UInt8 := [21, 5, 122, 4, 126, 4, 160, 0, 7, 4, 167, 0, 4, 3, 172]
abbrev dktX0_isReached_2 : List UInt8 := dkwX0_isReached_2 ++ []
def dkwX0_isReached_1 : List UInt8 := [180, 0, 82, 28, 46, 43, 29, 182, 0, 196, 122, 4, 126, 4, 160, 0, 22, 42, 180, 0, 82, 28, 46]
abbrev dktX0_isReached_1 : List UInt8 := dkwX0_isReached_1 ++ dktX0_isReached_2
def dkwX0_isReached_0 : List UInt8 := [21, 4, 16, 8, 162, 0, 8, 21, 4, 167, 0, 12, 43, 21, 4, 16, 8, 100, 182, 0, 196, 54, 5, 42]
abbrev dktX0_isReached_0 : List UInt8 := dkwX0_isReached_0 ++ dktX0_isReached_1
theorem dksX0_isReached_0 : cX0_isReached.data.toList.drop 0 = dktX0_isReached_0 := by decide +kernel
theorem dksX0_isReached_1 : cX0_isReached.data.toList.drop 24 = dktX0_isReached_1 := dk_seg dksX0_isReached_0 24 rfl rfl
theorem dksX0_isReached_2 : cX0_isReached.data.toList.drop 47 = dktX0_isReached_2 := dk_seg dksX0_isReached_1 23 rfl rfl
theorem dX0_isReached_0 : decode cX0_isReached 0 = .ok (.iload 4, 2) := dk_21 4 (dk_at dksX0_isReached_0 0 rfl rfl)
theorem dX0_isReached_2 : decode cX0_isReached 2 = .ok (.bipush 8, 2) := dk_16 8 (dk_at dksX0_isReached_0 2 rfl rfl)
theorem dX0_isReached_4 : decode cX0_isReached 4 = .ok (.if_icmp .ge 8, 3) := dk_162 0 8 (dk_at dksX0_isReached_0 4 rfl rfl)
theorem dX0_isReached_7 : decode cX0_isReached 7 = .ok (.iload 4, 2) := dk_21 4 (dk_at dksX0_isReached_0 7 rfl rfl)
theorem dX0_isReached_9 : decode cX0_isReached 9 = .ok (.goto 12, 3) := dk_167 0 12 (dk_at dksX0_isReached_0 9 rfl rfl)
theorem dX0_isReached_12 : decode cX0_isReached 12 = .ok (.aload_n 1, 1) := dk_43 (dk_at dksX0_isReached_0 12 rfl rfl)
theorem dX0_isReached_13 : decode cX0_isReached 13 = .ok (.iload 4, 2) := dk_21 4 (dk_at dksX0_isReached_0 13 rfl rfl)
theorem dX0_isReached_15 : decode cX0_isReached 15 = .ok (.bipush 8, 2) := dk_16 8 (dk_at dksX0_isReached_0 15 rfl rfl)
theorem dX0_isReached_17 : decode cX0_isReached 17 = .ok (.isub, 1) := dk_100 (dk_at dksX0_isReached_0 17 rfl rfl)
theorem dX0_isReached_18 : decode cX0_isReached 18 = .ok (.invokevirtual 196, 3) := dk_182 0 196 (dk_at dksX0_isReached_0 18 rfl rfl)
theorem dX0_isReached_21 : decode cX0_isReached 21 = .ok (.istore 5, 2) := dk_54 5 (dk_at dksX0_isReached_0 21 rfl rfl)
theorem dX0_isReached_23 : decode cX0_isReached 23 = .ok (.aload_n 0, 1) := dk_42 (dk_at dksX0_isReached_0 23 rfl rfl)
theorem dX0_isReached_24 : decode cX0_isReached 24 = .ok (.getfield 82, 3) := dk_180 0 82 (dk_at dksX0_isReached_1 0 rfl rfl)
theorem dX0_isReached_27 : decode cX0_isReached 27 = .ok (.iload_n 2, 1) := dk_28 (dk_at dksX0_isReached_1 3 rfl rfl)
theorem dX0_isReached_28 : decode cX0_isReached 28 = .ok (.iaload, 1) := dk_46 (dk_at dksX0_isReached_1 4 rfl rfl)
theorem dX0_isReached_29 : decode cX0_isReached 29 = .ok (.aload_n 1, 1) := dk_43 (dk_at dksX0_isReached_1 5 rfl rfl)
theorem dX0_isReached_30 : decode cX0_isReached 30 = .ok (.iload_n 3, 1) := dk_29 (dk_at dksX0_isReached_1 6 rfl rfl)
theorem dX0_isReached_31 : decode cX0_isReached 31 = .ok (.invokevirtual 196, 3) := dk_182 0 196 (dk_at dksX0_isReached_1 7 rfl rfl)
theorem dX0_isReached_34 : decode cX0_isReached 34 = .ok (.ishr, 1) := dk_122 (dk_at dksX0_isReached_1 10 rfl rfl)
theorem dX0_isReached_35 : decode cX0_isReached 35 = .ok (.iconst 1, 1) := dk_4 (dk_at dksX0_isReached_1 11 rfl rfl)
theorem dX0_isReached_36 : decode cX0_isReached 36 = .ok (.iand, 1) := dk_126 (dk_at dksX0_isReached_1 12 rfl rfl)
theorem dX0_isReached_37 : decode cX0_isReached 37 = .ok (.iconst 1, 1) := dk_4 (dk_at dksX0_isReached_1 13 rfl rfl)
theorem dX0_isReached_38 : decode cX0_isReached 38 = .ok (.if_icmp .ne 22, 3) := dk_160 0 22 (dk_at dksX0_isReached_1 14 rfl rfl)
theorem dX0_isReached_41 : decode cX0_isReached 41 = .ok (.aload_n 0, 1) := dk_42 (dk_at dksX0_isReached_1 17 rfl rfl)
theorem dX0_isReached_42 : decode cX0_isReached 42 = .ok (.getfield 82, 3) := dk_180 0 82 (dk_at dksX0_isReached_1 18 rfl rfl)
theorem dX0_isReached_45 : decode cX0_isReached 45 = .ok (.iload_n 2, 1) := dk_28 (dk_at dksX0_isReached_1 21 rfl rfl)
theorem dX0_isReached_46 : decode cX0_isReached 46 = .ok (.iaload, 1) := dk_46 (dk_at dksX0_isReached_1 22 rfl rfl)
theorem dX0_isReached_47 : decode cX0_isReached 47 = .ok (.iload 5, 2) := dk_21 5 (dk_at dksX0_isReached_2 0 rfl rfl)
theorem dX0_isReached_49 : decode cX0_isReached 49 = .ok (.ishr, 1) := dk_122 (dk_at dksX0_isReached_2 2 rfl rfl)
theorem dX0_isReached_50 : decode cX0_isReached 50 = .ok (.iconst 1, 1) := dk_4 (dk_at dksX0_isReached_2 3 rfl rfl)
theorem dX0_isReached_51 : decode cX0_isReached 51 = .ok (.iand, 1) := dk_126 (dk_at dksX0_isReached_2 4 rfl rfl)
theorem dX0_isReached_52 : decode cX0_isReached 52 = .ok (.iconst 1, 1) := dk_4 (dk_at dksX0_isReached_2 5 rfl rfl)
theorem dX0_isReached_53 : decode cX0_isReached 53 = .ok (.if_icmp .ne 7, 3) := dk_160 0 7 (dk_at dksX0_isReached_2 6 rfl rfl)
theorem dX0_isReached_56 : decode cX0_isReached 56 = .ok (.iconst 1, 1) := dk_4 (dk_at dksX0_isReached_2 9 rfl rfl)
theorem dX0_isReached_57 : decode cX0_isReached 57 = .ok (.goto 4, 3) := dk_167 0 4 (dk_at dksX0_isReached_2 10 rfl rfl)
theorem dX0_isReached_60 : decode cX0_isReached 60 = .ok (.iconst 0, 1) := dk_3 (dk_at dksX0_isReached_2 13 rfl rfl)
theorem dX0_isReached_61 : decode cX0_isReached 61 = .ok (.ireturn, 1) := dk_172 (dk_at dksX0_isReached_2 14 rfl rfl)
abbrev cX0_carry : ByteArray := prog_1_method_26_code
def yX0_carry : MethodName := ⟨RX0, "carry", "(LTableArms$Table;II)V"⟩
def dkwX0_carry_1 : List UInt8 := [177]
abbrev dktX0_carry_1 : List UInt8 := dkwX0_carry_1 ++ []
def dkwX0_carry_0 : List UInt8 := [28, 16, 8, 162, 0, 12, 42, 27, 28, 182, 0, 221, 167, 0, 12, 42, 27, 28, 16, 8, 100, 182, 0, 224]
abbrev dktX0_carry_0 : List UInt8 := dkwX0_carry_0 ++ dktX0_carry_1
theorem dksX0_carry_0 : cX0_carry.data.toList.drop 0 = dktX0_carry_0 := by decide +kernel
theorem dksX0_carry_1 : cX0_carry.data.toList.drop 24 = dktX0_carry_1 := dk_seg dksX0_carry_0 24 rfl rfl
theorem dX0_carry_0 : decode cX0_carry 0 = .ok (.iload_n 2, 1) := dk_28 (dk_at dksX0_carry_0 0 rfl rfl)
theorem dX0_carry_1 : decode cX0_carry 1 = .ok (.bipush 8, 2) := dk_16 8 (dk_at dksX0_carry_0 1 rfl rfl)
theorem dX0_carry_3 : decode cX0_carry 3 = .ok (.if_icmp .ge 12, 3) := dk_162 0 12 (dk_at dksX0_carry_0 3 rfl rfl)
theorem dX0_carry_6 : decode cX0_carry 6 = .ok (.aload_n 0, 1) := dk_42 (dk_at dksX0_carry_0 6 rfl rfl)
theorem dX0_carry_7 : decode cX0_carry 7 = .ok (.iload_n 1, 1) := dk_27 (dk_at dksX0_carry_0 7 rfl rfl)
theorem dX0_carry_8 : decode cX0_carry 8 = .ok (.iload_n 2, 1) := dk_28 (dk_at dksX0_carry_0 8 rfl rfl)
theorem dX0_carry_9 : decode cX0_carry 9 = .ok (.invokevirtual 221, 3) := dk_182 0 221 (dk_at dksX0_carry_0 9 rfl rfl)
theorem dX0_carry_12 : decode cX0_carry 12 = .ok (.goto 12, 3) := dk_167 0 12 (dk_at dksX0_carry_0 12 rfl rfl)
theorem dX0_carry_15 : decode cX0_carry 15 = .ok (.aload_n 0, 1) := dk_42 (dk_at dksX0_carry_0 15 rfl rfl)
theorem dX0_carry_16 : decode cX0_carry 16 = .ok (.iload_n 1, 1) := dk_27 (dk_at dksX0_carry_0 16 rfl rfl)
theorem dX0_carry_17 : decode cX0_carry 17 = .ok (.iload_n 2, 1) := dk_28 (dk_at dksX0_carry_0 17 rfl rfl)
theorem dX0_carry_18 : decode cX0_carry 18 = .ok (.bipush 8, 2) := dk_16 8 (dk_at dksX0_carry_0 18 rfl rfl)
theorem dX0_carry_20 : decode cX0_carry 20 = .ok (.isub, 1) := dk_100 (dk_at dksX0_carry_0 20 rfl rfl)
theorem dX0_carry_21 : decode cX0_carry 21 = .ok (.invokevirtual 224, 3) := dk_182 0 224 (dk_at dksX0_carry_0 21 rfl rfl)
theorem dX0_carry_24 : decode cX0_carry 24 = .ok (.return_, 1) := dk_177 (dk_at dksX0_carry_1 0 rfl rfl)
abbrev cX0_keep : ByteArray := prog_1_method_29_code
def yX0_keep : MethodName := ⟨RX0, "keep", "()I"⟩
def dkwX0_keep_2 : List UInt8 := [180, 0, 190, 90, 4, 96, 181, 0, 190, 172]
abbrev dktX0_keep_2 : List UInt8 := dkwX0_keep_2 ++ []
def dkwX0_keep_1 : List UInt8 := [183, 0, 68, 83, 42, 180, 0, 69, 42, 180, 0, 190, 50, 42, 180, 0, 13, 182, 0, 247, 42, 89]
abbrev dktX0_keep_1 : List UInt8 := dkwX0_keep_1 ++ dktX0_keep_2
def dkwX0_keep_0 : List UInt8 := [42, 180, 0, 190, 16, 8, 160, 0, 6, 18, 186, 172, 42, 180, 0, 69, 42, 180, 0, 190, 187, 0, 18, 89]
abbrev dktX0_keep_0 : List UInt8 := dkwX0_keep_0 ++ dktX0_keep_1
theorem dksX0_keep_0 : cX0_keep.data.toList.drop 0 = dktX0_keep_0 := by decide +kernel
theorem dksX0_keep_1 : cX0_keep.data.toList.drop 24 = dktX0_keep_1 := dk_seg dksX0_keep_0 24 rfl rfl
theorem dksX0_keep_2 : cX0_keep.data.toList.drop 46 = dktX0_keep_2 := dk_seg dksX0_keep_1 22 rfl rfl
theorem dX0_keep_0 : decode cX0_keep 0 = .ok (.aload_n 0, 1) := dk_42 (dk_at dksX0_keep_0 0 rfl rfl)
theorem dX0_keep_1 : decode cX0_keep 1 = .ok (.getfield 190, 3) := dk_180 0 190 (dk_at dksX0_keep_0 1 rfl rfl)
theorem dX0_keep_4 : decode cX0_keep 4 = .ok (.bipush 8, 2) := dk_16 8 (dk_at dksX0_keep_0 4 rfl rfl)
theorem dX0_keep_6 : decode cX0_keep 6 = .ok (.if_icmp .ne 6, 3) := dk_160 0 6 (dk_at dksX0_keep_0 6 rfl rfl)
theorem dX0_keep_9 : decode cX0_keep 9 = .ok (.ldc 186, 2) := dk_18 186 (dk_at dksX0_keep_0 9 rfl rfl)
theorem dX0_keep_11 : decode cX0_keep 11 = .ok (.ireturn, 1) := dk_172 (dk_at dksX0_keep_0 11 rfl rfl)
theorem dX0_keep_12 : decode cX0_keep 12 = .ok (.aload_n 0, 1) := dk_42 (dk_at dksX0_keep_0 12 rfl rfl)
theorem dX0_keep_13 : decode cX0_keep 13 = .ok (.getfield 69, 3) := dk_180 0 69 (dk_at dksX0_keep_0 13 rfl rfl)
theorem dX0_keep_16 : decode cX0_keep 16 = .ok (.aload_n 0, 1) := dk_42 (dk_at dksX0_keep_0 16 rfl rfl)
theorem dX0_keep_17 : decode cX0_keep 17 = .ok (.getfield 190, 3) := dk_180 0 190 (dk_at dksX0_keep_0 17 rfl rfl)
theorem dX0_keep_20 : decode cX0_keep 20 = .ok (.new 18, 3) := dk_187 0 18 (dk_at dksX0_keep_0 20 rfl rfl)
theorem dX0_keep_23 : decode cX0_keep 23 = .ok (.dup, 1) := dk_89 (dk_at dksX0_keep_0 23 rfl rfl)
theorem dX0_keep_24 : decode cX0_keep 24 = .ok (.invokespecial 68, 3) := dk_183 0 68 (dk_at dksX0_keep_1 0 rfl rfl)
theorem dX0_keep_27 : decode cX0_keep 27 = .ok (.aastore, 1) := dk_83 (dk_at dksX0_keep_1 3 rfl rfl)
theorem dX0_keep_28 : decode cX0_keep 28 = .ok (.aload_n 0, 1) := dk_42 (dk_at dksX0_keep_1 4 rfl rfl)
theorem dX0_keep_29 : decode cX0_keep 29 = .ok (.getfield 69, 3) := dk_180 0 69 (dk_at dksX0_keep_1 5 rfl rfl)
theorem dX0_keep_32 : decode cX0_keep 32 = .ok (.aload_n 0, 1) := dk_42 (dk_at dksX0_keep_1 8 rfl rfl)
theorem dX0_keep_33 : decode cX0_keep 33 = .ok (.getfield 190, 3) := dk_180 0 190 (dk_at dksX0_keep_1 9 rfl rfl)
theorem dX0_keep_36 : decode cX0_keep 36 = .ok (.aaload, 1) := dk_50 (dk_at dksX0_keep_1 12 rfl rfl)
theorem dX0_keep_37 : decode cX0_keep 37 = .ok (.aload_n 0, 1) := dk_42 (dk_at dksX0_keep_1 13 rfl rfl)
theorem dX0_keep_38 : decode cX0_keep 38 = .ok (.getfield 13, 3) := dk_180 0 13 (dk_at dksX0_keep_1 14 rfl rfl)
theorem dX0_keep_41 : decode cX0_keep 41 = .ok (.invokevirtual 247, 3) := dk_182 0 247 (dk_at dksX0_keep_1 17 rfl rfl)
theorem dX0_keep_44 : decode cX0_keep 44 = .ok (.aload_n 0, 1) := dk_42 (dk_at dksX0_keep_1 20 rfl rfl)
theorem dX0_keep_45 : decode cX0_keep 45 = .ok (.dup, 1) := dk_89 (dk_at dksX0_keep_1 21 rfl rfl)
theorem dX0_keep_46 : decode cX0_keep 46 = .ok (.getfield 190, 3) := dk_180 0 190 (dk_at dksX0_keep_2 0 rfl rfl)
theorem dX0_keep_49 : decode cX0_keep 49 = .ok (.dup_x1, 1) := dk_90 (dk_at dksX0_keep_2 3 rfl rfl)
theorem dX0_keep_50 : decode cX0_keep 50 = .ok (.iconst 1, 1) := dk_4 (dk_at dksX0_keep_2 4 rfl rfl)
theorem dX0_keep_51 : decode cX0_keep 51 = .ok (.iadd, 1) := dk_96 (dk_at dksX0_keep_2 5 rfl rfl)
theorem dX0_keep_52 : decode cX0_keep 52 = .ok (.putfield 190, 3) := dk_181 0 190 (dk_at dksX0_keep_2 6 rfl rfl)
theorem dX0_keep_55 : decode cX0_keep 55 = .ok (.ireturn, 1) := dk_172 (dk_at dksX0_keep_2 9 rfl rfl)
abbrev cX0_back : ByteArray := prog_1_method_31_code
def yX0_back : MethodName := ⟨RX0, "back", "(I)I"⟩
def dkwX0_back_1 : List UInt8 := [4, 172]
abbrev dktX0_back_1 : List UInt8 := dkwX0_back_1 ++ []
def dkwX0_back_0 : List UInt8 := [42, 27, 182, 0, 251, 154, 0, 6, 18, 141, 172, 42, 180, 0, 13, 42, 180, 0, 69, 27, 50, 182, 0, 247]
abbrev dktX0_back_0 : List UInt8 := dkwX0_back_0 ++ dktX0_back_1
theorem dksX0_back_0 : cX0_back.data.toList.drop 0 = dktX0_back_0 := by decide +kernel
theorem dksX0_back_1 : cX0_back.data.toList.drop 24 = dktX0_back_1 := dk_seg dksX0_back_0 24 rfl rfl
theorem dX0_back_0 : decode cX0_back 0 = .ok (.aload_n 0, 1) := dk_42 (dk_at dksX0_back_0 0 rfl rfl)
theorem dX0_back_1 : decode cX0_back 1 = .ok (.iload_n 1, 1) := dk_27 (dk_at dksX0_back_0 1 rfl rfl)
theorem dX0_back_2 : decode cX0_back 2 = .ok (.invokevirtual 251, 3) := dk_182 0 251 (dk_at dksX0_back_0 2 rfl rfl)
theorem dX0_back_5 : decode cX0_back 5 = .ok (.ifCond .ne 6, 3) := dk_154 0 6 (dk_at dksX0_back_0 5 rfl rfl)
theorem dX0_back_8 : decode cX0_back 8 = .ok (.ldc 141, 2) := dk_18 141 (dk_at dksX0_back_0 8 rfl rfl)
theorem dX0_back_10 : decode cX0_back 10 = .ok (.ireturn, 1) := dk_172 (dk_at dksX0_back_0 10 rfl rfl)
theorem dX0_back_11 : decode cX0_back 11 = .ok (.aload_n 0, 1) := dk_42 (dk_at dksX0_back_0 11 rfl rfl)
theorem dX0_back_12 : decode cX0_back 12 = .ok (.getfield 13, 3) := dk_180 0 13 (dk_at dksX0_back_0 12 rfl rfl)
theorem dX0_back_15 : decode cX0_back 15 = .ok (.aload_n 0, 1) := dk_42 (dk_at dksX0_back_0 15 rfl rfl)
theorem dX0_back_16 : decode cX0_back 16 = .ok (.getfield 69, 3) := dk_180 0 69 (dk_at dksX0_back_0 16 rfl rfl)
theorem dX0_back_19 : decode cX0_back 19 = .ok (.iload_n 1, 1) := dk_27 (dk_at dksX0_back_0 19 rfl rfl)
theorem dX0_back_20 : decode cX0_back 20 = .ok (.aaload, 1) := dk_50 (dk_at dksX0_back_0 20 rfl rfl)
theorem dX0_back_21 : decode cX0_back 21 = .ok (.invokevirtual 247, 3) := dk_182 0 247 (dk_at dksX0_back_0 21 rfl rfl)
theorem dX0_back_24 : decode cX0_back 24 = .ok (.iconst 1, 1) := dk_4 (dk_at dksX0_back_1 0 rfl rfl)
theorem dX0_back_25 : decode cX0_back 25 = .ok (.ireturn, 1) := dk_172 (dk_at dksX0_back_1 1 rfl rfl)
abbrev cX0_isKept : ByteArray := prog_1_method_30_code
def yX0_isKept : MethodName := ⟨RX0, "isKept", "(I)Z"⟩
def dkwX0_isKept_0 : List UInt8 := [27, 133, 9, 42, 180, 0, 190, 4, 100, 133, 184, 0, 128, 172]
abbrev dktX0_isKept_0 : List UInt8 := dkwX0_isKept_0 ++ []
theorem dksX0_isKept_0 : cX0_isKept.data.toList.drop 0 = dktX0_isKept_0 := by decide +kernel
theorem dX0_isKept_0 : decode cX0_isKept 0 = .ok (.iload_n 1, 1) := dk_27 (dk_at dksX0_isKept_0 0 rfl rfl)
theorem dX0_isKept_1 : decode cX0_isKept 1 = .ok (.i2l, 1) := dk_133 (dk_at dksX0_isKept_0 1 rfl rfl)
theorem dX0_isKept_2 : decode cX0_isKept 2 = .ok (.lconst 0, 1) := dk_9 (dk_at dksX0_isKept_0 2 rfl rfl)
theorem dX0_isKept_3 : decode cX0_isKept 3 = .ok (.aload_n 0, 1) := dk_42 (dk_at dksX0_isKept_0 3 rfl rfl)
theorem dX0_isKept_4 : decode cX0_isKept 4 = .ok (.getfield 190, 3) := dk_180 0 190 (dk_at dksX0_isKept_0 4 rfl rfl)
theorem dX0_isKept_7 : decode cX0_isKept 7 = .ok (.iconst 1, 1) := dk_4 (dk_at dksX0_isKept_0 7 rfl rfl)
theorem dX0_isKept_8 : decode cX0_isKept 8 = .ok (.isub, 1) := dk_100 (dk_at dksX0_isKept_0 8 rfl rfl)
theorem dX0_isKept_9 : decode cX0_isKept 9 = .ok (.i2l, 1) := dk_133 (dk_at dksX0_isKept_0 9 rfl rfl)
theorem dX0_isKept_10 : decode cX0_isKept 10 = .ok (.invokestatic 128, 3) := dk_184 0 128 (dk_at dksX0_isKept_0 10 rfl rfl)
theorem dX0_isKept_13 : decode cX0_isKept 13 = .ok (.ireturn, 1) := dk_172 (dk_at dksX0_isKept_0 13 rfl rfl)
abbrev cX0_same : ByteArray := prog_1_method_32_code
def yX0_same : MethodName := ⟨RX0, "same", "(II)I"⟩
def dkwX0_same_3 : List UInt8 := [42, 180, 0, 173, 182, 0, 254, 153, 0, 7, 4, 167, 0, 4, 3, 172]
abbrev dktX0_same_3 : List UInt8 := dkwX0_same_3 ++ []
def dkwX0_same_2 : List UInt8 := [180, 0, 69, 27, 50, 28, 18, 202, 160, 0, 10, 42, 180, 0, 13, 167, 0, 9, 42, 180, 0, 69, 28, 50]
abbrev dktX0_same_2 : List UInt8 := dkwX0_same_2 ++ dktX0_same_3
def dkwX0_same_1 : List UInt8 := [182, 0, 251, 154, 0, 6, 18, 141, 172, 27, 18, 202, 160, 0, 10, 42, 180, 0, 13, 167, 0, 9, 42]
abbrev dktX0_same_1 : List UInt8 := dkwX0_same_1 ++ dktX0_same_2
def dkwX0_same_0 : List UInt8 := [27, 18, 202, 159, 0, 11, 42, 27, 182, 0, 251, 153, 0, 17, 28, 18, 202, 159, 0, 14, 42, 28]
abbrev dktX0_same_0 : List UInt8 := dkwX0_same_0 ++ dktX0_same_1
theorem dksX0_same_0 : cX0_same.data.toList.drop 0 = dktX0_same_0 := by decide +kernel
theorem dksX0_same_1 : cX0_same.data.toList.drop 22 = dktX0_same_1 := dk_seg dksX0_same_0 22 rfl rfl
theorem dksX0_same_2 : cX0_same.data.toList.drop 45 = dktX0_same_2 := dk_seg dksX0_same_1 23 rfl rfl
theorem dksX0_same_3 : cX0_same.data.toList.drop 69 = dktX0_same_3 := dk_seg dksX0_same_2 24 rfl rfl
theorem dX0_same_0 : decode cX0_same 0 = .ok (.iload_n 1, 1) := dk_27 (dk_at dksX0_same_0 0 rfl rfl)
theorem dX0_same_1 : decode cX0_same 1 = .ok (.ldc 202, 2) := dk_18 202 (dk_at dksX0_same_0 1 rfl rfl)
theorem dX0_same_3 : decode cX0_same 3 = .ok (.if_icmp .eq 11, 3) := dk_159 0 11 (dk_at dksX0_same_0 3 rfl rfl)
theorem dX0_same_6 : decode cX0_same 6 = .ok (.aload_n 0, 1) := dk_42 (dk_at dksX0_same_0 6 rfl rfl)
theorem dX0_same_7 : decode cX0_same 7 = .ok (.iload_n 1, 1) := dk_27 (dk_at dksX0_same_0 7 rfl rfl)
theorem dX0_same_8 : decode cX0_same 8 = .ok (.invokevirtual 251, 3) := dk_182 0 251 (dk_at dksX0_same_0 8 rfl rfl)
theorem dX0_same_11 : decode cX0_same 11 = .ok (.ifCond .eq 17, 3) := dk_153 0 17 (dk_at dksX0_same_0 11 rfl rfl)
theorem dX0_same_14 : decode cX0_same 14 = .ok (.iload_n 2, 1) := dk_28 (dk_at dksX0_same_0 14 rfl rfl)
theorem dX0_same_15 : decode cX0_same 15 = .ok (.ldc 202, 2) := dk_18 202 (dk_at dksX0_same_0 15 rfl rfl)
theorem dX0_same_17 : decode cX0_same 17 = .ok (.if_icmp .eq 14, 3) := dk_159 0 14 (dk_at dksX0_same_0 17 rfl rfl)
theorem dX0_same_20 : decode cX0_same 20 = .ok (.aload_n 0, 1) := dk_42 (dk_at dksX0_same_0 20 rfl rfl)
theorem dX0_same_21 : decode cX0_same 21 = .ok (.iload_n 2, 1) := dk_28 (dk_at dksX0_same_0 21 rfl rfl)
theorem dX0_same_22 : decode cX0_same 22 = .ok (.invokevirtual 251, 3) := dk_182 0 251 (dk_at dksX0_same_1 0 rfl rfl)
theorem dX0_same_25 : decode cX0_same 25 = .ok (.ifCond .ne 6, 3) := dk_154 0 6 (dk_at dksX0_same_1 3 rfl rfl)
theorem dX0_same_28 : decode cX0_same 28 = .ok (.ldc 141, 2) := dk_18 141 (dk_at dksX0_same_1 6 rfl rfl)
theorem dX0_same_30 : decode cX0_same 30 = .ok (.ireturn, 1) := dk_172 (dk_at dksX0_same_1 8 rfl rfl)
theorem dX0_same_31 : decode cX0_same 31 = .ok (.iload_n 1, 1) := dk_27 (dk_at dksX0_same_1 9 rfl rfl)
theorem dX0_same_32 : decode cX0_same 32 = .ok (.ldc 202, 2) := dk_18 202 (dk_at dksX0_same_1 10 rfl rfl)
theorem dX0_same_34 : decode cX0_same 34 = .ok (.if_icmp .ne 10, 3) := dk_160 0 10 (dk_at dksX0_same_1 12 rfl rfl)
theorem dX0_same_37 : decode cX0_same 37 = .ok (.aload_n 0, 1) := dk_42 (dk_at dksX0_same_1 15 rfl rfl)
theorem dX0_same_38 : decode cX0_same 38 = .ok (.getfield 13, 3) := dk_180 0 13 (dk_at dksX0_same_1 16 rfl rfl)
theorem dX0_same_41 : decode cX0_same 41 = .ok (.goto 9, 3) := dk_167 0 9 (dk_at dksX0_same_1 19 rfl rfl)
theorem dX0_same_44 : decode cX0_same 44 = .ok (.aload_n 0, 1) := dk_42 (dk_at dksX0_same_1 22 rfl rfl)
theorem dX0_same_45 : decode cX0_same 45 = .ok (.getfield 69, 3) := dk_180 0 69 (dk_at dksX0_same_2 0 rfl rfl)
theorem dX0_same_48 : decode cX0_same 48 = .ok (.iload_n 1, 1) := dk_27 (dk_at dksX0_same_2 3 rfl rfl)
theorem dX0_same_49 : decode cX0_same 49 = .ok (.aaload, 1) := dk_50 (dk_at dksX0_same_2 4 rfl rfl)
theorem dX0_same_50 : decode cX0_same 50 = .ok (.iload_n 2, 1) := dk_28 (dk_at dksX0_same_2 5 rfl rfl)
theorem dX0_same_51 : decode cX0_same 51 = .ok (.ldc 202, 2) := dk_18 202 (dk_at dksX0_same_2 6 rfl rfl)
theorem dX0_same_53 : decode cX0_same 53 = .ok (.if_icmp .ne 10, 3) := dk_160 0 10 (dk_at dksX0_same_2 8 rfl rfl)
theorem dX0_same_56 : decode cX0_same 56 = .ok (.aload_n 0, 1) := dk_42 (dk_at dksX0_same_2 11 rfl rfl)
theorem dX0_same_57 : decode cX0_same 57 = .ok (.getfield 13, 3) := dk_180 0 13 (dk_at dksX0_same_2 12 rfl rfl)
theorem dX0_same_60 : decode cX0_same 60 = .ok (.goto 9, 3) := dk_167 0 9 (dk_at dksX0_same_2 15 rfl rfl)
theorem dX0_same_63 : decode cX0_same 63 = .ok (.aload_n 0, 1) := dk_42 (dk_at dksX0_same_2 18 rfl rfl)
theorem dX0_same_64 : decode cX0_same 64 = .ok (.getfield 69, 3) := dk_180 0 69 (dk_at dksX0_same_2 19 rfl rfl)
theorem dX0_same_67 : decode cX0_same 67 = .ok (.iload_n 2, 1) := dk_28 (dk_at dksX0_same_2 22 rfl rfl)
theorem dX0_same_68 : decode cX0_same 68 = .ok (.aaload, 1) := dk_50 (dk_at dksX0_same_2 23 rfl rfl)
theorem dX0_same_69 : decode cX0_same 69 = .ok (.aload_n 0, 1) := dk_42 (dk_at dksX0_same_3 0 rfl rfl)
theorem dX0_same_70 : decode cX0_same 70 = .ok (.getfield 173, 3) := dk_180 0 173 (dk_at dksX0_same_3 1 rfl rfl)
theorem dX0_same_73 : decode cX0_same 73 = .ok (.invokevirtual 254, 3) := dk_182 0 254 (dk_at dksX0_same_3 4 rfl rfl)
theorem dX0_same_76 : decode cX0_same 76 = .ok (.ifCond .eq 7, 3) := dk_153 0 7 (dk_at dksX0_same_3 7 rfl rfl)
theorem dX0_same_79 : decode cX0_same 79 = .ok (.iconst 1, 1) := dk_4 (dk_at dksX0_same_3 10 rfl rfl)
theorem dX0_same_80 : decode cX0_same 80 = .ok (.goto 4, 3) := dk_167 0 4 (dk_at dksX0_same_3 11 rfl rfl)
theorem dX0_same_83 : decode cX0_same 83 = .ok (.iconst 0, 1) := dk_3 (dk_at dksX0_same_3 14 rfl rfl)
theorem dX0_same_84 : decode cX0_same 84 = .ok (.ireturn, 1) := dk_172 (dk_at dksX0_same_3 15 rfl rfl)
abbrev cX0_order : ByteArray := prog_1_method_40_code
def yX0_order : MethodName := ⟨RX0, "order", "(I)I"⟩
def dkwX0_order_1 : List UInt8 := [160, 0, 8, 18, 242, 167, 0, 4, 28, 172]
abbrev dktX0_order_1 : List UInt8 := dkwX0_order_1 ++ []
def dkwX0_order_0 : List UInt8 := [27, 184, 1, 24, 154, 0, 6, 18, 141, 172, 42, 42, 180, 0, 13, 27, 182, 1, 27, 61, 28, 18, 202]
abbrev dktX0_order_0 : List UInt8 := dkwX0_order_0 ++ dktX0_order_1
theorem dksX0_order_0 : cX0_order.data.toList.drop 0 = dktX0_order_0 := by decide +kernel
theorem dksX0_order_1 : cX0_order.data.toList.drop 23 = dktX0_order_1 := dk_seg dksX0_order_0 23 rfl rfl
theorem dX0_order_0 : decode cX0_order 0 = .ok (.iload_n 1, 1) := dk_27 (dk_at dksX0_order_0 0 rfl rfl)
theorem dX0_order_1 : decode cX0_order 1 = .ok (.invokestatic 280, 3) := dk_184 1 24 (dk_at dksX0_order_0 1 rfl rfl)
theorem dX0_order_4 : decode cX0_order 4 = .ok (.ifCond .ne 6, 3) := dk_154 0 6 (dk_at dksX0_order_0 4 rfl rfl)
theorem dX0_order_7 : decode cX0_order 7 = .ok (.ldc 141, 2) := dk_18 141 (dk_at dksX0_order_0 7 rfl rfl)
theorem dX0_order_9 : decode cX0_order 9 = .ok (.ireturn, 1) := dk_172 (dk_at dksX0_order_0 9 rfl rfl)
theorem dX0_order_10 : decode cX0_order 10 = .ok (.aload_n 0, 1) := dk_42 (dk_at dksX0_order_0 10 rfl rfl)
theorem dX0_order_11 : decode cX0_order 11 = .ok (.aload_n 0, 1) := dk_42 (dk_at dksX0_order_0 11 rfl rfl)
theorem dX0_order_12 : decode cX0_order 12 = .ok (.getfield 13, 3) := dk_180 0 13 (dk_at dksX0_order_0 12 rfl rfl)
theorem dX0_order_15 : decode cX0_order 15 = .ok (.iload_n 1, 1) := dk_27 (dk_at dksX0_order_0 15 rfl rfl)
theorem dX0_order_16 : decode cX0_order 16 = .ok (.invokevirtual 283, 3) := dk_182 1 27 (dk_at dksX0_order_0 16 rfl rfl)
theorem dX0_order_19 : decode cX0_order 19 = .ok (.istore_n 2, 1) := dk_61 (dk_at dksX0_order_0 19 rfl rfl)
theorem dX0_order_20 : decode cX0_order 20 = .ok (.iload_n 2, 1) := dk_28 (dk_at dksX0_order_0 20 rfl rfl)
theorem dX0_order_21 : decode cX0_order 21 = .ok (.ldc 202, 2) := dk_18 202 (dk_at dksX0_order_0 21 rfl rfl)
theorem dX0_order_23 : decode cX0_order 23 = .ok (.if_icmp .ne 8, 3) := dk_160 0 8 (dk_at dksX0_order_1 0 rfl rfl)
theorem dX0_order_26 : decode cX0_order 26 = .ok (.ldc 242, 2) := dk_18 242 (dk_at dksX0_order_1 3 rfl rfl)
theorem dX0_order_28 : decode cX0_order 28 = .ok (.goto 4, 3) := dk_167 0 4 (dk_at dksX0_order_1 5 rfl rfl)
theorem dX0_order_31 : decode cX0_order 31 = .ok (.iload_n 2, 1) := dk_28 (dk_at dksX0_order_1 8 rfl rfl)
theorem dX0_order_32 : decode cX0_order 32 = .ok (.ireturn, 1) := dk_172 (dk_at dksX0_order_1 9 rfl rfl)
abbrev cX0_isOrder : ByteArray := prog_1_method_39_code
def yX0_isOrder : MethodName := ⟨RX0, "isOrder", "(I)Z"⟩
def dkwX0_isOrder_0 : List UInt8 := [26, 133, 9, 20, 1, 22, 184, 0, 128, 172]
abbrev dktX0_isOrder_0 : List UInt8 := dkwX0_isOrder_0 ++ []
theorem dksX0_isOrder_0 : cX0_isOrder.data.toList.drop 0 = dktX0_isOrder_0 := by decide +kernel
theorem dX0_isOrder_0 : decode cX0_isOrder 0 = .ok (.iload_n 0, 1) := dk_26 (dk_at dksX0_isOrder_0 0 rfl rfl)
theorem dX0_isOrder_1 : decode cX0_isOrder 1 = .ok (.i2l, 1) := dk_133 (dk_at dksX0_isOrder_0 1 rfl rfl)
theorem dX0_isOrder_2 : decode cX0_isOrder 2 = .ok (.lconst 0, 1) := dk_9 (dk_at dksX0_isOrder_0 2 rfl rfl)
theorem dX0_isOrder_3 : decode cX0_isOrder 3 = .ok (.ldc2_w 278, 3) := dk_20 1 22 (dk_at dksX0_isOrder_0 3 rfl rfl)
theorem dX0_isOrder_6 : decode cX0_isOrder 6 = .ok (.invokestatic 128, 3) := dk_184 0 128 (dk_at dksX0_isOrder_0 6 rfl rfl)
theorem dX0_isOrder_9 : decode cX0_isOrder 9 = .ok (.ireturn, 1) := dk_172 (dk_at dksX0_isOrder_0 9 rfl rfl)
abbrev cX0_done : ByteArray := prog_1_method_38_code
def yX0_done : MethodName := ⟨RX0, "done", "(LTableArms$Table;I)I"⟩
def dkwX0_done_7 : List UInt8 := [153, 0, 8, 18, 202, 167, 0, 5, 21, 6, 172]
abbrev dktX0_done_7 : List UInt8 := dkwX0_done_7 ++ []
def dkwX0_done_6 : List UInt8 := [167, 0, 18, 21, 7, 158, 0, 12, 21, 6, 154, 0, 7, 4, 167, 0, 4, 3, 54, 8, 21, 8]
abbrev dktX0_done_6 : List UInt8 := dkwX0_done_6 ++ dktX0_done_7
def dkwX0_done_5 : List UInt8 := [132, 8, 1, 167, 255, 165, 28, 5, 112, 154, 0, 16, 21, 6, 154, 0, 7, 4, 167, 0, 22, 3]
abbrev dktX0_done_5 : List UInt8 := dkwX0_done_5 ++ dktX0_done_6
def dkwX0_done_4 : List UInt8 := [182, 1, 19, 153, 0, 7, 4, 167, 0, 4, 3, 96, 54, 6, 28, 5, 112, 154, 0, 6, 167, 0, 9]
abbrev dktX0_done_4 : List UInt8 := dkwX0_done_4 ++ dktX0_done_5
def dkwX0_done_3 : List UInt8 := [21, 8, 182, 0, 214, 154, 0, 6, 167, 0, 39, 132, 7, 1, 21, 6, 42, 43, 21, 8, 21, 4, 21, 5]
abbrev dktX0_done_3 : List UInt8 := dkwX0_done_3 ++ dktX0_done_4
def dkwX0_done_2 : List UInt8 := [160, 0, 71, 42, 43, 21, 8, 21, 4, 21, 5, 182, 1, 16, 154, 0, 57, 28, 5, 112, 154, 0, 15, 43]
abbrev dktX0_done_2 : List UInt8 := dkwX0_done_2 ++ dktX0_done_3
def dkwX0_done_1 : List UInt8 := [54, 7, 3, 54, 8, 21, 8, 42, 180, 0, 173, 162, 0, 88, 42, 180, 0, 7, 21, 8, 46, 29]
abbrev dktX0_done_1 : List UInt8 := dkwX0_done_1 ++ dktX0_done_2
def dkwX0_done_0 : List UInt8 := [28, 5, 108, 7, 112, 62, 28, 16, 8, 108, 6, 112, 54, 4, 28, 16, 24, 108, 54, 5, 3, 54, 6, 3]
abbrev dktX0_done_0 : List UInt8 := dkwX0_done_0 ++ dktX0_done_1
theorem dksX0_done_0 : cX0_done.data.toList.drop 0 = dktX0_done_0 := by decide +kernel
theorem dksX0_done_1 : cX0_done.data.toList.drop 24 = dktX0_done_1 := dk_seg dksX0_done_0 24 rfl rfl
theorem dksX0_done_2 : cX0_done.data.toList.drop 46 = dktX0_done_2 := dk_seg dksX0_done_1 22 rfl rfl
theorem dksX0_done_3 : cX0_done.data.toList.drop 70 = dktX0_done_3 := dk_seg dksX0_done_2 24 rfl rfl
theorem dksX0_done_4 : cX0_done.data.toList.drop 94 = dktX0_done_4 := dk_seg dksX0_done_3 24 rfl rfl
theorem dksX0_done_5 : cX0_done.data.toList.drop 117 = dktX0_done_5 := dk_seg dksX0_done_4 23 rfl rfl
theorem dksX0_done_6 : cX0_done.data.toList.drop 139 = dktX0_done_6 := dk_seg dksX0_done_5 22 rfl rfl
theorem dksX0_done_7 : cX0_done.data.toList.drop 161 = dktX0_done_7 := dk_seg dksX0_done_6 22 rfl rfl
theorem dX0_done_0 : decode cX0_done 0 = .ok (.iload_n 2, 1) := dk_28 (dk_at dksX0_done_0 0 rfl rfl)
theorem dX0_done_1 : decode cX0_done 1 = .ok (.iconst 2, 1) := dk_5 (dk_at dksX0_done_0 1 rfl rfl)
theorem dX0_done_2 : decode cX0_done 2 = .ok (.idiv, 1) := dk_108 (dk_at dksX0_done_0 2 rfl rfl)
theorem dX0_done_3 : decode cX0_done 3 = .ok (.iconst 4, 1) := dk_7 (dk_at dksX0_done_0 3 rfl rfl)
theorem dX0_done_4 : decode cX0_done 4 = .ok (.irem, 1) := dk_112 (dk_at dksX0_done_0 4 rfl rfl)
theorem dX0_done_5 : decode cX0_done 5 = .ok (.istore_n 3, 1) := dk_62 (dk_at dksX0_done_0 5 rfl rfl)
theorem dX0_done_6 : decode cX0_done 6 = .ok (.iload_n 2, 1) := dk_28 (dk_at dksX0_done_0 6 rfl rfl)
theorem dX0_done_7 : decode cX0_done 7 = .ok (.bipush 8, 2) := dk_16 8 (dk_at dksX0_done_0 7 rfl rfl)
theorem dX0_done_9 : decode cX0_done 9 = .ok (.idiv, 1) := dk_108 (dk_at dksX0_done_0 9 rfl rfl)
theorem dX0_done_10 : decode cX0_done 10 = .ok (.iconst 3, 1) := dk_6 (dk_at dksX0_done_0 10 rfl rfl)
theorem dX0_done_11 : decode cX0_done 11 = .ok (.irem, 1) := dk_112 (dk_at dksX0_done_0 11 rfl rfl)
theorem dX0_done_12 : decode cX0_done 12 = .ok (.istore 4, 2) := dk_54 4 (dk_at dksX0_done_0 12 rfl rfl)
theorem dX0_done_14 : decode cX0_done 14 = .ok (.iload_n 2, 1) := dk_28 (dk_at dksX0_done_0 14 rfl rfl)
theorem dX0_done_15 : decode cX0_done 15 = .ok (.bipush 24, 2) := dk_16 24 (dk_at dksX0_done_0 15 rfl rfl)
theorem dX0_done_17 : decode cX0_done 17 = .ok (.idiv, 1) := dk_108 (dk_at dksX0_done_0 17 rfl rfl)
theorem dX0_done_18 : decode cX0_done 18 = .ok (.istore 5, 2) := dk_54 5 (dk_at dksX0_done_0 18 rfl rfl)
theorem dX0_done_20 : decode cX0_done 20 = .ok (.iconst 0, 1) := dk_3 (dk_at dksX0_done_0 20 rfl rfl)
theorem dX0_done_21 : decode cX0_done 21 = .ok (.istore 6, 2) := dk_54 6 (dk_at dksX0_done_0 21 rfl rfl)
theorem dX0_done_23 : decode cX0_done 23 = .ok (.iconst 0, 1) := dk_3 (dk_at dksX0_done_0 23 rfl rfl)
theorem dX0_done_24 : decode cX0_done 24 = .ok (.istore 7, 2) := dk_54 7 (dk_at dksX0_done_1 0 rfl rfl)
theorem dX0_done_26 : decode cX0_done 26 = .ok (.iconst 0, 1) := dk_3 (dk_at dksX0_done_1 2 rfl rfl)
theorem dX0_done_27 : decode cX0_done 27 = .ok (.istore 8, 2) := dk_54 8 (dk_at dksX0_done_1 3 rfl rfl)
theorem dX0_done_29 : decode cX0_done 29 = .ok (.iload 8, 2) := dk_21 8 (dk_at dksX0_done_1 5 rfl rfl)
theorem dX0_done_31 : decode cX0_done 31 = .ok (.aload_n 0, 1) := dk_42 (dk_at dksX0_done_1 7 rfl rfl)
theorem dX0_done_32 : decode cX0_done 32 = .ok (.getfield 173, 3) := dk_180 0 173 (dk_at dksX0_done_1 8 rfl rfl)
theorem dX0_done_35 : decode cX0_done 35 = .ok (.if_icmp .ge 88, 3) := dk_162 0 88 (dk_at dksX0_done_1 11 rfl rfl)
theorem dX0_done_38 : decode cX0_done 38 = .ok (.aload_n 0, 1) := dk_42 (dk_at dksX0_done_1 14 rfl rfl)
theorem dX0_done_39 : decode cX0_done 39 = .ok (.getfield 7, 3) := dk_180 0 7 (dk_at dksX0_done_1 15 rfl rfl)
theorem dX0_done_42 : decode cX0_done 42 = .ok (.iload 8, 2) := dk_21 8 (dk_at dksX0_done_1 18 rfl rfl)
theorem dX0_done_44 : decode cX0_done 44 = .ok (.iaload, 1) := dk_46 (dk_at dksX0_done_1 20 rfl rfl)
theorem dX0_done_45 : decode cX0_done 45 = .ok (.iload_n 3, 1) := dk_29 (dk_at dksX0_done_1 21 rfl rfl)
theorem dX0_done_46 : decode cX0_done 46 = .ok (.if_icmp .ne 71, 3) := dk_160 0 71 (dk_at dksX0_done_2 0 rfl rfl)
theorem dX0_done_49 : decode cX0_done 49 = .ok (.aload_n 0, 1) := dk_42 (dk_at dksX0_done_2 3 rfl rfl)
theorem dX0_done_50 : decode cX0_done 50 = .ok (.aload_n 1, 1) := dk_43 (dk_at dksX0_done_2 4 rfl rfl)
theorem dX0_done_51 : decode cX0_done 51 = .ok (.iload 8, 2) := dk_21 8 (dk_at dksX0_done_2 5 rfl rfl)
theorem dX0_done_53 : decode cX0_done 53 = .ok (.iload 4, 2) := dk_21 4 (dk_at dksX0_done_2 7 rfl rfl)
theorem dX0_done_55 : decode cX0_done 55 = .ok (.iload 5, 2) := dk_21 5 (dk_at dksX0_done_2 9 rfl rfl)
theorem dX0_done_57 : decode cX0_done 57 = .ok (.invokevirtual 272, 3) := dk_182 1 16 (dk_at dksX0_done_2 11 rfl rfl)
theorem dX0_done_60 : decode cX0_done 60 = .ok (.ifCond .ne 57, 3) := dk_154 0 57 (dk_at dksX0_done_2 14 rfl rfl)
theorem dX0_done_63 : decode cX0_done 63 = .ok (.iload_n 2, 1) := dk_28 (dk_at dksX0_done_2 17 rfl rfl)
theorem dX0_done_64 : decode cX0_done 64 = .ok (.iconst 2, 1) := dk_5 (dk_at dksX0_done_2 18 rfl rfl)
theorem dX0_done_65 : decode cX0_done 65 = .ok (.irem, 1) := dk_112 (dk_at dksX0_done_2 19 rfl rfl)
theorem dX0_done_66 : decode cX0_done 66 = .ok (.ifCond .ne 15, 3) := dk_154 0 15 (dk_at dksX0_done_2 20 rfl rfl)
theorem dX0_done_69 : decode cX0_done 69 = .ok (.aload_n 1, 1) := dk_43 (dk_at dksX0_done_2 23 rfl rfl)
theorem dX0_done_70 : decode cX0_done 70 = .ok (.iload 8, 2) := dk_21 8 (dk_at dksX0_done_3 0 rfl rfl)
theorem dX0_done_72 : decode cX0_done 72 = .ok (.invokevirtual 214, 3) := dk_182 0 214 (dk_at dksX0_done_3 2 rfl rfl)
theorem dX0_done_75 : decode cX0_done 75 = .ok (.ifCond .ne 6, 3) := dk_154 0 6 (dk_at dksX0_done_3 5 rfl rfl)
theorem dX0_done_78 : decode cX0_done 78 = .ok (.goto 39, 3) := dk_167 0 39 (dk_at dksX0_done_3 8 rfl rfl)
theorem dX0_done_81 : decode cX0_done 81 = .ok (.iinc 7 1, 3) := dk_132 7 1 (dk_at dksX0_done_3 11 rfl rfl)
theorem dX0_done_84 : decode cX0_done 84 = .ok (.iload 6, 2) := dk_21 6 (dk_at dksX0_done_3 14 rfl rfl)
theorem dX0_done_86 : decode cX0_done 86 = .ok (.aload_n 0, 1) := dk_42 (dk_at dksX0_done_3 16 rfl rfl)
theorem dX0_done_87 : decode cX0_done 87 = .ok (.aload_n 1, 1) := dk_43 (dk_at dksX0_done_3 17 rfl rfl)
theorem dX0_done_88 : decode cX0_done 88 = .ok (.iload 8, 2) := dk_21 8 (dk_at dksX0_done_3 18 rfl rfl)
theorem dX0_done_90 : decode cX0_done 90 = .ok (.iload 4, 2) := dk_21 4 (dk_at dksX0_done_3 20 rfl rfl)
theorem dX0_done_92 : decode cX0_done 92 = .ok (.iload 5, 2) := dk_21 5 (dk_at dksX0_done_3 22 rfl rfl)
theorem dX0_done_94 : decode cX0_done 94 = .ok (.invokevirtual 275, 3) := dk_182 1 19 (dk_at dksX0_done_4 0 rfl rfl)
theorem dX0_done_97 : decode cX0_done 97 = .ok (.ifCond .eq 7, 3) := dk_153 0 7 (dk_at dksX0_done_4 3 rfl rfl)
theorem dX0_done_100 : decode cX0_done 100 = .ok (.iconst 1, 1) := dk_4 (dk_at dksX0_done_4 6 rfl rfl)
theorem dX0_done_101 : decode cX0_done 101 = .ok (.goto 4, 3) := dk_167 0 4 (dk_at dksX0_done_4 7 rfl rfl)
theorem dX0_done_104 : decode cX0_done 104 = .ok (.iconst 0, 1) := dk_3 (dk_at dksX0_done_4 10 rfl rfl)
theorem dX0_done_105 : decode cX0_done 105 = .ok (.iadd, 1) := dk_96 (dk_at dksX0_done_4 11 rfl rfl)
theorem dX0_done_106 : decode cX0_done 106 = .ok (.istore 6, 2) := dk_54 6 (dk_at dksX0_done_4 12 rfl rfl)
theorem dX0_done_108 : decode cX0_done 108 = .ok (.iload_n 2, 1) := dk_28 (dk_at dksX0_done_4 14 rfl rfl)
theorem dX0_done_109 : decode cX0_done 109 = .ok (.iconst 2, 1) := dk_5 (dk_at dksX0_done_4 15 rfl rfl)
theorem dX0_done_110 : decode cX0_done 110 = .ok (.irem, 1) := dk_112 (dk_at dksX0_done_4 16 rfl rfl)
theorem dX0_done_111 : decode cX0_done 111 = .ok (.ifCond .ne 6, 3) := dk_154 0 6 (dk_at dksX0_done_4 17 rfl rfl)
theorem dX0_done_114 : decode cX0_done 114 = .ok (.goto 9, 3) := dk_167 0 9 (dk_at dksX0_done_4 20 rfl rfl)
theorem dX0_done_117 : decode cX0_done 117 = .ok (.iinc 8 1, 3) := dk_132 8 1 (dk_at dksX0_done_5 0 rfl rfl)
theorem dX0_done_120 : decode cX0_done 120 = .ok (.goto (-91), 3) := dk_167 255 165 (dk_at dksX0_done_5 3 rfl rfl)
theorem dX0_done_123 : decode cX0_done 123 = .ok (.iload_n 2, 1) := dk_28 (dk_at dksX0_done_5 6 rfl rfl)
theorem dX0_done_124 : decode cX0_done 124 = .ok (.iconst 2, 1) := dk_5 (dk_at dksX0_done_5 7 rfl rfl)
theorem dX0_done_125 : decode cX0_done 125 = .ok (.irem, 1) := dk_112 (dk_at dksX0_done_5 8 rfl rfl)
theorem dX0_done_126 : decode cX0_done 126 = .ok (.ifCond .ne 16, 3) := dk_154 0 16 (dk_at dksX0_done_5 9 rfl rfl)
theorem dX0_done_129 : decode cX0_done 129 = .ok (.iload 6, 2) := dk_21 6 (dk_at dksX0_done_5 12 rfl rfl)
theorem dX0_done_131 : decode cX0_done 131 = .ok (.ifCond .ne 7, 3) := dk_154 0 7 (dk_at dksX0_done_5 14 rfl rfl)
theorem dX0_done_134 : decode cX0_done 134 = .ok (.iconst 1, 1) := dk_4 (dk_at dksX0_done_5 17 rfl rfl)
theorem dX0_done_135 : decode cX0_done 135 = .ok (.goto 22, 3) := dk_167 0 22 (dk_at dksX0_done_5 18 rfl rfl)
theorem dX0_done_138 : decode cX0_done 138 = .ok (.iconst 0, 1) := dk_3 (dk_at dksX0_done_5 21 rfl rfl)
theorem dX0_done_139 : decode cX0_done 139 = .ok (.goto 18, 3) := dk_167 0 18 (dk_at dksX0_done_6 0 rfl rfl)
theorem dX0_done_142 : decode cX0_done 142 = .ok (.iload 7, 2) := dk_21 7 (dk_at dksX0_done_6 3 rfl rfl)
theorem dX0_done_144 : decode cX0_done 144 = .ok (.ifCond .le 12, 3) := dk_158 0 12 (dk_at dksX0_done_6 5 rfl rfl)
theorem dX0_done_147 : decode cX0_done 147 = .ok (.iload 6, 2) := dk_21 6 (dk_at dksX0_done_6 8 rfl rfl)
theorem dX0_done_149 : decode cX0_done 149 = .ok (.ifCond .ne 7, 3) := dk_154 0 7 (dk_at dksX0_done_6 10 rfl rfl)
theorem dX0_done_152 : decode cX0_done 152 = .ok (.iconst 1, 1) := dk_4 (dk_at dksX0_done_6 13 rfl rfl)
theorem dX0_done_153 : decode cX0_done 153 = .ok (.goto 4, 3) := dk_167 0 4 (dk_at dksX0_done_6 14 rfl rfl)
theorem dX0_done_156 : decode cX0_done 156 = .ok (.iconst 0, 1) := dk_3 (dk_at dksX0_done_6 17 rfl rfl)
theorem dX0_done_157 : decode cX0_done 157 = .ok (.istore 8, 2) := dk_54 8 (dk_at dksX0_done_6 18 rfl rfl)
theorem dX0_done_159 : decode cX0_done 159 = .ok (.iload 8, 2) := dk_21 8 (dk_at dksX0_done_6 20 rfl rfl)
theorem dX0_done_161 : decode cX0_done 161 = .ok (.ifCond .eq 8, 3) := dk_153 0 8 (dk_at dksX0_done_7 0 rfl rfl)
theorem dX0_done_164 : decode cX0_done 164 = .ok (.ldc 202, 2) := dk_18 202 (dk_at dksX0_done_7 3 rfl rfl)
theorem dX0_done_166 : decode cX0_done 166 = .ok (.goto 5, 3) := dk_167 0 5 (dk_at dksX0_done_7 5 rfl rfl)
theorem dX0_done_169 : decode cX0_done 169 = .ok (.iload 6, 2) := dk_21 6 (dk_at dksX0_done_7 8 rfl rfl)
theorem dX0_done_171 : decode cX0_done 171 = .ok (.ireturn, 1) := dk_172 (dk_at dksX0_done_7 10 rfl rfl)
abbrev cX0_isAsTold : ByteArray := prog_1_method_34_code
def yX0_isAsTold : MethodName := ⟨RX0, "isAsTold", "(LTableArms$Table;III)Z"⟩
def dkwX0_isAsTold_4 : List UInt8 := [43, 180, 0, 17, 28, 46, 21, 4, 182, 1, 5, 153, 0, 7, 4, 167, 0, 4, 3, 172]
abbrev dktX0_isAsTold_4 : List UInt8 := dkwX0_isAsTold_4 ++ []
def dkwX0_isAsTold_3 : List UInt8 := [4, 100, 182, 0, 28, 46, 21, 4, 160, 0, 7, 4, 167, 0, 4, 3, 172, 21, 5, 154, 0, 23, 42, 43]
abbrev dktX0_isAsTold_3 : List UInt8 := dkwX0_isAsTold_3 ++ dktX0_isAsTold_4
def dkwX0_isAsTold_2 : List UInt8 := [54, 5, 29, 154, 0, 38, 21, 5, 158, 0, 31, 42, 180, 0, 7, 43, 43, 180, 0, 17, 28, 46, 21, 5]
abbrev dktX0_isAsTold_2 : List UInt8 := dkwX0_isAsTold_2 ++ dktX0_isAsTold_3
def dkwX0_isAsTold_1 : List UInt8 := [167, 0, 4, 3, 172, 43, 180, 0, 199, 28, 46, 18, 202, 159, 0, 5, 3, 172, 43, 28, 182, 0, 22]
abbrev dktX0_isAsTold_1 : List UInt8 := dkwX0_isAsTold_1 ++ dktX0_isAsTold_2
def dkwX0_isAsTold_0 : List UInt8 := [29, 4, 160, 0, 26, 43, 180, 0, 199, 28, 46, 18, 202, 159, 0, 13, 21, 4, 5, 160, 0, 7, 4]
abbrev dktX0_isAsTold_0 : List UInt8 := dkwX0_isAsTold_0 ++ dktX0_isAsTold_1
theorem dksX0_isAsTold_0 : cX0_isAsTold.data.toList.drop 0 = dktX0_isAsTold_0 := by decide +kernel
theorem dksX0_isAsTold_1 : cX0_isAsTold.data.toList.drop 23 = dktX0_isAsTold_1 := dk_seg dksX0_isAsTold_0 23 rfl rfl
theorem dksX0_isAsTold_2 : cX0_isAsTold.data.toList.drop 46 = dktX0_isAsTold_2 := dk_seg dksX0_isAsTold_1 23 rfl rfl
theorem dksX0_isAsTold_3 : cX0_isAsTold.data.toList.drop 70 = dktX0_isAsTold_3 := dk_seg dksX0_isAsTold_2 24 rfl rfl
theorem dksX0_isAsTold_4 : cX0_isAsTold.data.toList.drop 94 = dktX0_isAsTold_4 := dk_seg dksX0_isAsTold_3 24 rfl rfl
theorem dX0_isAsTold_0 : decode cX0_isAsTold 0 = .ok (.iload_n 3, 1) := dk_29 (dk_at dksX0_isAsTold_0 0 rfl rfl)
theorem dX0_isAsTold_1 : decode cX0_isAsTold 1 = .ok (.iconst 1, 1) := dk_4 (dk_at dksX0_isAsTold_0 1 rfl rfl)
theorem dX0_isAsTold_2 : decode cX0_isAsTold 2 = .ok (.if_icmp .ne 26, 3) := dk_160 0 26 (dk_at dksX0_isAsTold_0 2 rfl rfl)
theorem dX0_isAsTold_5 : decode cX0_isAsTold 5 = .ok (.aload_n 1, 1) := dk_43 (dk_at dksX0_isAsTold_0 5 rfl rfl)
theorem dX0_isAsTold_6 : decode cX0_isAsTold 6 = .ok (.getfield 199, 3) := dk_180 0 199 (dk_at dksX0_isAsTold_0 6 rfl rfl)
theorem dX0_isAsTold_9 : decode cX0_isAsTold 9 = .ok (.iload_n 2, 1) := dk_28 (dk_at dksX0_isAsTold_0 9 rfl rfl)
theorem dX0_isAsTold_10 : decode cX0_isAsTold 10 = .ok (.iaload, 1) := dk_46 (dk_at dksX0_isAsTold_0 10 rfl rfl)
theorem dX0_isAsTold_11 : decode cX0_isAsTold 11 = .ok (.ldc 202, 2) := dk_18 202 (dk_at dksX0_isAsTold_0 11 rfl rfl)
theorem dX0_isAsTold_13 : decode cX0_isAsTold 13 = .ok (.if_icmp .eq 13, 3) := dk_159 0 13 (dk_at dksX0_isAsTold_0 13 rfl rfl)
theorem dX0_isAsTold_16 : decode cX0_isAsTold 16 = .ok (.iload 4, 2) := dk_21 4 (dk_at dksX0_isAsTold_0 16 rfl rfl)
theorem dX0_isAsTold_18 : decode cX0_isAsTold 18 = .ok (.iconst 2, 1) := dk_5 (dk_at dksX0_isAsTold_0 18 rfl rfl)
theorem dX0_isAsTold_19 : decode cX0_isAsTold 19 = .ok (.if_icmp .ne 7, 3) := dk_160 0 7 (dk_at dksX0_isAsTold_0 19 rfl rfl)
theorem dX0_isAsTold_22 : decode cX0_isAsTold 22 = .ok (.iconst 1, 1) := dk_4 (dk_at dksX0_isAsTold_0 22 rfl rfl)
theorem dX0_isAsTold_23 : decode cX0_isAsTold 23 = .ok (.goto 4, 3) := dk_167 0 4 (dk_at dksX0_isAsTold_1 0 rfl rfl)
theorem dX0_isAsTold_26 : decode cX0_isAsTold 26 = .ok (.iconst 0, 1) := dk_3 (dk_at dksX0_isAsTold_1 3 rfl rfl)
theorem dX0_isAsTold_27 : decode cX0_isAsTold 27 = .ok (.ireturn, 1) := dk_172 (dk_at dksX0_isAsTold_1 4 rfl rfl)
theorem dX0_isAsTold_28 : decode cX0_isAsTold 28 = .ok (.aload_n 1, 1) := dk_43 (dk_at dksX0_isAsTold_1 5 rfl rfl)
theorem dX0_isAsTold_29 : decode cX0_isAsTold 29 = .ok (.getfield 199, 3) := dk_180 0 199 (dk_at dksX0_isAsTold_1 6 rfl rfl)
theorem dX0_isAsTold_32 : decode cX0_isAsTold 32 = .ok (.iload_n 2, 1) := dk_28 (dk_at dksX0_isAsTold_1 9 rfl rfl)
theorem dX0_isAsTold_33 : decode cX0_isAsTold 33 = .ok (.iaload, 1) := dk_46 (dk_at dksX0_isAsTold_1 10 rfl rfl)
theorem dX0_isAsTold_34 : decode cX0_isAsTold 34 = .ok (.ldc 202, 2) := dk_18 202 (dk_at dksX0_isAsTold_1 11 rfl rfl)
theorem dX0_isAsTold_36 : decode cX0_isAsTold 36 = .ok (.if_icmp .eq 5, 3) := dk_159 0 5 (dk_at dksX0_isAsTold_1 13 rfl rfl)
theorem dX0_isAsTold_39 : decode cX0_isAsTold 39 = .ok (.iconst 0, 1) := dk_3 (dk_at dksX0_isAsTold_1 16 rfl rfl)
theorem dX0_isAsTold_40 : decode cX0_isAsTold 40 = .ok (.ireturn, 1) := dk_172 (dk_at dksX0_isAsTold_1 17 rfl rfl)
theorem dX0_isAsTold_41 : decode cX0_isAsTold 41 = .ok (.aload_n 1, 1) := dk_43 (dk_at dksX0_isAsTold_1 18 rfl rfl)
theorem dX0_isAsTold_42 : decode cX0_isAsTold 42 = .ok (.iload_n 2, 1) := dk_28 (dk_at dksX0_isAsTold_1 19 rfl rfl)
theorem dX0_isAsTold_43 : decode cX0_isAsTold 43 = .ok (.invokevirtual 22, 3) := dk_182 0 22 (dk_at dksX0_isAsTold_1 20 rfl rfl)
theorem dX0_isAsTold_46 : decode cX0_isAsTold 46 = .ok (.istore 5, 2) := dk_54 5 (dk_at dksX0_isAsTold_2 0 rfl rfl)
theorem dX0_isAsTold_48 : decode cX0_isAsTold 48 = .ok (.iload_n 3, 1) := dk_29 (dk_at dksX0_isAsTold_2 2 rfl rfl)
theorem dX0_isAsTold_49 : decode cX0_isAsTold 49 = .ok (.ifCond .ne 38, 3) := dk_154 0 38 (dk_at dksX0_isAsTold_2 3 rfl rfl)
theorem dX0_isAsTold_52 : decode cX0_isAsTold 52 = .ok (.iload 5, 2) := dk_21 5 (dk_at dksX0_isAsTold_2 6 rfl rfl)
theorem dX0_isAsTold_54 : decode cX0_isAsTold 54 = .ok (.ifCond .le 31, 3) := dk_158 0 31 (dk_at dksX0_isAsTold_2 8 rfl rfl)
theorem dX0_isAsTold_57 : decode cX0_isAsTold 57 = .ok (.aload_n 0, 1) := dk_42 (dk_at dksX0_isAsTold_2 11 rfl rfl)
theorem dX0_isAsTold_58 : decode cX0_isAsTold 58 = .ok (.getfield 7, 3) := dk_180 0 7 (dk_at dksX0_isAsTold_2 12 rfl rfl)
theorem dX0_isAsTold_61 : decode cX0_isAsTold 61 = .ok (.aload_n 1, 1) := dk_43 (dk_at dksX0_isAsTold_2 15 rfl rfl)
theorem dX0_isAsTold_62 : decode cX0_isAsTold 62 = .ok (.aload_n 1, 1) := dk_43 (dk_at dksX0_isAsTold_2 16 rfl rfl)
theorem dX0_isAsTold_63 : decode cX0_isAsTold 63 = .ok (.getfield 17, 3) := dk_180 0 17 (dk_at dksX0_isAsTold_2 17 rfl rfl)
theorem dX0_isAsTold_66 : decode cX0_isAsTold 66 = .ok (.iload_n 2, 1) := dk_28 (dk_at dksX0_isAsTold_2 20 rfl rfl)
theorem dX0_isAsTold_67 : decode cX0_isAsTold 67 = .ok (.iaload, 1) := dk_46 (dk_at dksX0_isAsTold_2 21 rfl rfl)
theorem dX0_isAsTold_68 : decode cX0_isAsTold 68 = .ok (.iload 5, 2) := dk_21 5 (dk_at dksX0_isAsTold_2 22 rfl rfl)
theorem dX0_isAsTold_70 : decode cX0_isAsTold 70 = .ok (.iconst 1, 1) := dk_4 (dk_at dksX0_isAsTold_3 0 rfl rfl)
theorem dX0_isAsTold_71 : decode cX0_isAsTold 71 = .ok (.isub, 1) := dk_100 (dk_at dksX0_isAsTold_3 1 rfl rfl)
theorem dX0_isAsTold_72 : decode cX0_isAsTold 72 = .ok (.invokevirtual 28, 3) := dk_182 0 28 (dk_at dksX0_isAsTold_3 2 rfl rfl)
theorem dX0_isAsTold_75 : decode cX0_isAsTold 75 = .ok (.iaload, 1) := dk_46 (dk_at dksX0_isAsTold_3 5 rfl rfl)
theorem dX0_isAsTold_76 : decode cX0_isAsTold 76 = .ok (.iload 4, 2) := dk_21 4 (dk_at dksX0_isAsTold_3 6 rfl rfl)
theorem dX0_isAsTold_78 : decode cX0_isAsTold 78 = .ok (.if_icmp .ne 7, 3) := dk_160 0 7 (dk_at dksX0_isAsTold_3 8 rfl rfl)
theorem dX0_isAsTold_81 : decode cX0_isAsTold 81 = .ok (.iconst 1, 1) := dk_4 (dk_at dksX0_isAsTold_3 11 rfl rfl)
theorem dX0_isAsTold_82 : decode cX0_isAsTold 82 = .ok (.goto 4, 3) := dk_167 0 4 (dk_at dksX0_isAsTold_3 12 rfl rfl)
theorem dX0_isAsTold_85 : decode cX0_isAsTold 85 = .ok (.iconst 0, 1) := dk_3 (dk_at dksX0_isAsTold_3 15 rfl rfl)
theorem dX0_isAsTold_86 : decode cX0_isAsTold 86 = .ok (.ireturn, 1) := dk_172 (dk_at dksX0_isAsTold_3 16 rfl rfl)
theorem dX0_isAsTold_87 : decode cX0_isAsTold 87 = .ok (.iload 5, 2) := dk_21 5 (dk_at dksX0_isAsTold_3 17 rfl rfl)
theorem dX0_isAsTold_89 : decode cX0_isAsTold 89 = .ok (.ifCond .ne 23, 3) := dk_154 0 23 (dk_at dksX0_isAsTold_3 19 rfl rfl)
theorem dX0_isAsTold_92 : decode cX0_isAsTold 92 = .ok (.aload_n 0, 1) := dk_42 (dk_at dksX0_isAsTold_3 22 rfl rfl)
theorem dX0_isAsTold_93 : decode cX0_isAsTold 93 = .ok (.aload_n 1, 1) := dk_43 (dk_at dksX0_isAsTold_3 23 rfl rfl)
theorem dX0_isAsTold_94 : decode cX0_isAsTold 94 = .ok (.aload_n 1, 1) := dk_43 (dk_at dksX0_isAsTold_4 0 rfl rfl)
theorem dX0_isAsTold_95 : decode cX0_isAsTold 95 = .ok (.getfield 17, 3) := dk_180 0 17 (dk_at dksX0_isAsTold_4 1 rfl rfl)
theorem dX0_isAsTold_98 : decode cX0_isAsTold 98 = .ok (.iload_n 2, 1) := dk_28 (dk_at dksX0_isAsTold_4 4 rfl rfl)
theorem dX0_isAsTold_99 : decode cX0_isAsTold 99 = .ok (.iaload, 1) := dk_46 (dk_at dksX0_isAsTold_4 5 rfl rfl)
theorem dX0_isAsTold_100 : decode cX0_isAsTold 100 = .ok (.iload 4, 2) := dk_21 4 (dk_at dksX0_isAsTold_4 6 rfl rfl)
theorem dX0_isAsTold_102 : decode cX0_isAsTold 102 = .ok (.invokevirtual 261, 3) := dk_182 1 5 (dk_at dksX0_isAsTold_4 8 rfl rfl)
theorem dX0_isAsTold_105 : decode cX0_isAsTold 105 = .ok (.ifCond .eq 7, 3) := dk_153 0 7 (dk_at dksX0_isAsTold_4 11 rfl rfl)
theorem dX0_isAsTold_108 : decode cX0_isAsTold 108 = .ok (.iconst 1, 1) := dk_4 (dk_at dksX0_isAsTold_4 14 rfl rfl)
theorem dX0_isAsTold_109 : decode cX0_isAsTold 109 = .ok (.goto 4, 3) := dk_167 0 4 (dk_at dksX0_isAsTold_4 15 rfl rfl)
theorem dX0_isAsTold_112 : decode cX0_isAsTold 112 = .ok (.iconst 0, 1) := dk_3 (dk_at dksX0_isAsTold_4 18 rfl rfl)
theorem dX0_isAsTold_113 : decode cX0_isAsTold 113 = .ok (.ireturn, 1) := dk_172 (dk_at dksX0_isAsTold_4 19 rfl rfl)
abbrev cX0_hasNear : ByteArray := prog_1_method_33_code
def yX0_hasNear : MethodName := ⟨RX0, "hasNear", "(LTableArms$Table;II)Z"⟩
def dkwX0_hasNear_2 : List UInt8 := [160, 0, 5, 4, 172, 132, 5, 1, 167, 255, 213, 132, 4, 1, 167, 255, 197, 3, 172]
abbrev dktX0_hasNear_2 : List UInt8 := dkwX0_hasNear_2 ++ []
def dkwX0_hasNear_1 : List UInt8 := [43, 180, 0, 25, 21, 4, 46, 162, 0, 28, 42, 180, 0, 7, 43, 21, 4, 21, 5, 182, 0, 28, 46, 29]
abbrev dktX0_hasNear_1 : List UInt8 := dkwX0_hasNear_1 ++ dktX0_hasNear_2
def dkwX0_hasNear_0 : List UInt8 := [3, 54, 4, 21, 4, 16, 8, 162, 0, 58, 3, 54, 5, 28, 21, 4, 184, 1, 2, 153, 0, 40, 21, 5]
abbrev dktX0_hasNear_0 : List UInt8 := dkwX0_hasNear_0 ++ dktX0_hasNear_1
theorem dksX0_hasNear_0 : cX0_hasNear.data.toList.drop 0 = dktX0_hasNear_0 := by decide +kernel
theorem dksX0_hasNear_1 : cX0_hasNear.data.toList.drop 24 = dktX0_hasNear_1 := dk_seg dksX0_hasNear_0 24 rfl rfl
theorem dksX0_hasNear_2 : cX0_hasNear.data.toList.drop 48 = dktX0_hasNear_2 := dk_seg dksX0_hasNear_1 24 rfl rfl
theorem dX0_hasNear_0 : decode cX0_hasNear 0 = .ok (.iconst 0, 1) := dk_3 (dk_at dksX0_hasNear_0 0 rfl rfl)
theorem dX0_hasNear_1 : decode cX0_hasNear 1 = .ok (.istore 4, 2) := dk_54 4 (dk_at dksX0_hasNear_0 1 rfl rfl)
theorem dX0_hasNear_3 : decode cX0_hasNear 3 = .ok (.iload 4, 2) := dk_21 4 (dk_at dksX0_hasNear_0 3 rfl rfl)
theorem dX0_hasNear_5 : decode cX0_hasNear 5 = .ok (.bipush 8, 2) := dk_16 8 (dk_at dksX0_hasNear_0 5 rfl rfl)
theorem dX0_hasNear_7 : decode cX0_hasNear 7 = .ok (.if_icmp .ge 58, 3) := dk_162 0 58 (dk_at dksX0_hasNear_0 7 rfl rfl)
theorem dX0_hasNear_10 : decode cX0_hasNear 10 = .ok (.iconst 0, 1) := dk_3 (dk_at dksX0_hasNear_0 10 rfl rfl)
theorem dX0_hasNear_11 : decode cX0_hasNear 11 = .ok (.istore 5, 2) := dk_54 5 (dk_at dksX0_hasNear_0 11 rfl rfl)
theorem dX0_hasNear_13 : decode cX0_hasNear 13 = .ok (.iload_n 2, 1) := dk_28 (dk_at dksX0_hasNear_0 13 rfl rfl)
theorem dX0_hasNear_14 : decode cX0_hasNear 14 = .ok (.iload 4, 2) := dk_21 4 (dk_at dksX0_hasNear_0 14 rfl rfl)
theorem dX0_hasNear_16 : decode cX0_hasNear 16 = .ok (.invokestatic 258, 3) := dk_184 1 2 (dk_at dksX0_hasNear_0 16 rfl rfl)
theorem dX0_hasNear_19 : decode cX0_hasNear 19 = .ok (.ifCond .eq 40, 3) := dk_153 0 40 (dk_at dksX0_hasNear_0 19 rfl rfl)
theorem dX0_hasNear_22 : decode cX0_hasNear 22 = .ok (.iload 5, 2) := dk_21 5 (dk_at dksX0_hasNear_0 22 rfl rfl)
theorem dX0_hasNear_24 : decode cX0_hasNear 24 = .ok (.aload_n 1, 1) := dk_43 (dk_at dksX0_hasNear_1 0 rfl rfl)
theorem dX0_hasNear_25 : decode cX0_hasNear 25 = .ok (.getfield 25, 3) := dk_180 0 25 (dk_at dksX0_hasNear_1 1 rfl rfl)
theorem dX0_hasNear_28 : decode cX0_hasNear 28 = .ok (.iload 4, 2) := dk_21 4 (dk_at dksX0_hasNear_1 4 rfl rfl)
theorem dX0_hasNear_30 : decode cX0_hasNear 30 = .ok (.iaload, 1) := dk_46 (dk_at dksX0_hasNear_1 6 rfl rfl)
theorem dX0_hasNear_31 : decode cX0_hasNear 31 = .ok (.if_icmp .ge 28, 3) := dk_162 0 28 (dk_at dksX0_hasNear_1 7 rfl rfl)
theorem dX0_hasNear_34 : decode cX0_hasNear 34 = .ok (.aload_n 0, 1) := dk_42 (dk_at dksX0_hasNear_1 10 rfl rfl)
theorem dX0_hasNear_35 : decode cX0_hasNear 35 = .ok (.getfield 7, 3) := dk_180 0 7 (dk_at dksX0_hasNear_1 11 rfl rfl)
theorem dX0_hasNear_38 : decode cX0_hasNear 38 = .ok (.aload_n 1, 1) := dk_43 (dk_at dksX0_hasNear_1 14 rfl rfl)
theorem dX0_hasNear_39 : decode cX0_hasNear 39 = .ok (.iload 4, 2) := dk_21 4 (dk_at dksX0_hasNear_1 15 rfl rfl)
theorem dX0_hasNear_41 : decode cX0_hasNear 41 = .ok (.iload 5, 2) := dk_21 5 (dk_at dksX0_hasNear_1 17 rfl rfl)
theorem dX0_hasNear_43 : decode cX0_hasNear 43 = .ok (.invokevirtual 28, 3) := dk_182 0 28 (dk_at dksX0_hasNear_1 19 rfl rfl)
theorem dX0_hasNear_46 : decode cX0_hasNear 46 = .ok (.iaload, 1) := dk_46 (dk_at dksX0_hasNear_1 22 rfl rfl)
theorem dX0_hasNear_47 : decode cX0_hasNear 47 = .ok (.iload_n 3, 1) := dk_29 (dk_at dksX0_hasNear_1 23 rfl rfl)
theorem dX0_hasNear_48 : decode cX0_hasNear 48 = .ok (.if_icmp .ne 5, 3) := dk_160 0 5 (dk_at dksX0_hasNear_2 0 rfl rfl)
theorem dX0_hasNear_51 : decode cX0_hasNear 51 = .ok (.iconst 1, 1) := dk_4 (dk_at dksX0_hasNear_2 3 rfl rfl)
theorem dX0_hasNear_52 : decode cX0_hasNear 52 = .ok (.ireturn, 1) := dk_172 (dk_at dksX0_hasNear_2 4 rfl rfl)
theorem dX0_hasNear_53 : decode cX0_hasNear 53 = .ok (.iinc 5 1, 3) := dk_132 5 1 (dk_at dksX0_hasNear_2 5 rfl rfl)
theorem dX0_hasNear_56 : decode cX0_hasNear 56 = .ok (.goto (-43), 3) := dk_167 255 213 (dk_at dksX0_hasNear_2 8 rfl rfl)
theorem dX0_hasNear_59 : decode cX0_hasNear 59 = .ok (.iinc 4 1, 3) := dk_132 4 1 (dk_at dksX0_hasNear_2 11 rfl rfl)
theorem dX0_hasNear_62 : decode cX0_hasNear 62 = .ok (.goto (-59), 3) := dk_167 255 197 (dk_at dksX0_hasNear_2 14 rfl rfl)
theorem dX0_hasNear_65 : decode cX0_hasNear 65 = .ok (.iconst 0, 1) := dk_3 (dk_at dksX0_hasNear_2 17 rfl rfl)
theorem dX0_hasNear_66 : decode cX0_hasNear 66 = .ok (.ireturn, 1) := dk_172 (dk_at dksX0_hasNear_2 18 rfl rfl)
abbrev cX0_isNeighbour : ByteArray := prog_1_method_2_code
def yX0_isNeighbour : MethodName := ⟨RX0, "isNeighbour", "(II)Z"⟩
def dkwX0_isNeighbour_1 : List UInt8 := [96, 4, 160, 0, 7, 4, 167, 0, 4, 3, 172]
abbrev dktX0_isNeighbour_1 : List UInt8 := dkwX0_isNeighbour_1 ++ []
def dkwX0_isNeighbour_0 : List UInt8 := [26, 7, 112, 27, 7, 112, 100, 184, 0, 1, 61, 26, 7, 108, 27, 7, 108, 100, 184, 0, 1, 62, 28, 29]
abbrev dktX0_isNeighbour_0 : List UInt8 := dkwX0_isNeighbour_0 ++ dktX0_isNeighbour_1
theorem dksX0_isNeighbour_0 : cX0_isNeighbour.data.toList.drop 0 = dktX0_isNeighbour_0 := by decide +kernel
theorem dksX0_isNeighbour_1 : cX0_isNeighbour.data.toList.drop 24 = dktX0_isNeighbour_1 := dk_seg dksX0_isNeighbour_0 24 rfl rfl
theorem dX0_isNeighbour_0 : decode cX0_isNeighbour 0 = .ok (.iload_n 0, 1) := dk_26 (dk_at dksX0_isNeighbour_0 0 rfl rfl)
theorem dX0_isNeighbour_1 : decode cX0_isNeighbour 1 = .ok (.iconst 4, 1) := dk_7 (dk_at dksX0_isNeighbour_0 1 rfl rfl)
theorem dX0_isNeighbour_2 : decode cX0_isNeighbour 2 = .ok (.irem, 1) := dk_112 (dk_at dksX0_isNeighbour_0 2 rfl rfl)
theorem dX0_isNeighbour_3 : decode cX0_isNeighbour 3 = .ok (.iload_n 1, 1) := dk_27 (dk_at dksX0_isNeighbour_0 3 rfl rfl)
theorem dX0_isNeighbour_4 : decode cX0_isNeighbour 4 = .ok (.iconst 4, 1) := dk_7 (dk_at dksX0_isNeighbour_0 4 rfl rfl)
theorem dX0_isNeighbour_5 : decode cX0_isNeighbour 5 = .ok (.irem, 1) := dk_112 (dk_at dksX0_isNeighbour_0 5 rfl rfl)
theorem dX0_isNeighbour_6 : decode cX0_isNeighbour 6 = .ok (.isub, 1) := dk_100 (dk_at dksX0_isNeighbour_0 6 rfl rfl)
theorem dX0_isNeighbour_7 : decode cX0_isNeighbour 7 = .ok (.invokestatic 1, 3) := dk_184 0 1 (dk_at dksX0_isNeighbour_0 7 rfl rfl)
theorem dX0_isNeighbour_10 : decode cX0_isNeighbour 10 = .ok (.istore_n 2, 1) := dk_61 (dk_at dksX0_isNeighbour_0 10 rfl rfl)
theorem dX0_isNeighbour_11 : decode cX0_isNeighbour 11 = .ok (.iload_n 0, 1) := dk_26 (dk_at dksX0_isNeighbour_0 11 rfl rfl)
theorem dX0_isNeighbour_12 : decode cX0_isNeighbour 12 = .ok (.iconst 4, 1) := dk_7 (dk_at dksX0_isNeighbour_0 12 rfl rfl)
theorem dX0_isNeighbour_13 : decode cX0_isNeighbour 13 = .ok (.idiv, 1) := dk_108 (dk_at dksX0_isNeighbour_0 13 rfl rfl)
theorem dX0_isNeighbour_14 : decode cX0_isNeighbour 14 = .ok (.iload_n 1, 1) := dk_27 (dk_at dksX0_isNeighbour_0 14 rfl rfl)
theorem dX0_isNeighbour_15 : decode cX0_isNeighbour 15 = .ok (.iconst 4, 1) := dk_7 (dk_at dksX0_isNeighbour_0 15 rfl rfl)
theorem dX0_isNeighbour_16 : decode cX0_isNeighbour 16 = .ok (.idiv, 1) := dk_108 (dk_at dksX0_isNeighbour_0 16 rfl rfl)
theorem dX0_isNeighbour_17 : decode cX0_isNeighbour 17 = .ok (.isub, 1) := dk_100 (dk_at dksX0_isNeighbour_0 17 rfl rfl)
theorem dX0_isNeighbour_18 : decode cX0_isNeighbour 18 = .ok (.invokestatic 1, 3) := dk_184 0 1 (dk_at dksX0_isNeighbour_0 18 rfl rfl)
theorem dX0_isNeighbour_21 : decode cX0_isNeighbour 21 = .ok (.istore_n 3, 1) := dk_62 (dk_at dksX0_isNeighbour_0 21 rfl rfl)
theorem dX0_isNeighbour_22 : decode cX0_isNeighbour 22 = .ok (.iload_n 2, 1) := dk_28 (dk_at dksX0_isNeighbour_0 22 rfl rfl)
theorem dX0_isNeighbour_23 : decode cX0_isNeighbour 23 = .ok (.iload_n 3, 1) := dk_29 (dk_at dksX0_isNeighbour_0 23 rfl rfl)
theorem dX0_isNeighbour_24 : decode cX0_isNeighbour 24 = .ok (.iadd, 1) := dk_96 (dk_at dksX0_isNeighbour_1 0 rfl rfl)
theorem dX0_isNeighbour_25 : decode cX0_isNeighbour 25 = .ok (.iconst 1, 1) := dk_4 (dk_at dksX0_isNeighbour_1 1 rfl rfl)
theorem dX0_isNeighbour_26 : decode cX0_isNeighbour 26 = .ok (.if_icmp .ne 7, 3) := dk_160 0 7 (dk_at dksX0_isNeighbour_1 2 rfl rfl)
theorem dX0_isNeighbour_29 : decode cX0_isNeighbour 29 = .ok (.iconst 1, 1) := dk_4 (dk_at dksX0_isNeighbour_1 5 rfl rfl)
theorem dX0_isNeighbour_30 : decode cX0_isNeighbour 30 = .ok (.goto 4, 3) := dk_167 0 4 (dk_at dksX0_isNeighbour_1 6 rfl rfl)
theorem dX0_isNeighbour_33 : decode cX0_isNeighbour 33 = .ok (.iconst 0, 1) := dk_3 (dk_at dksX0_isNeighbour_1 9 rfl rfl)
theorem dX0_isNeighbour_34 : decode cX0_isNeighbour 34 = .ok (.ireturn, 1) := dk_172 (dk_at dksX0_isNeighbour_1 10 rfl rfl)
abbrev cX0_isPut : ByteArray := prog_1_method_37_code
def yX0_isPut : MethodName := ⟨RX0, "isPut", "(LTableArms$Table;III)Z"⟩
def dkwX0_isPut_1 : List UInt8 := [182, 0, 234, 154, 0, 5, 3, 172, 43, 28, 21, 5, 184, 0, 243, 4, 172]
abbrev dktX0_isPut_1 : List UInt8 := dkwX0_isPut_1 ++ []
def dkwX0_isPut_0 : List UInt8 := [42, 43, 28, 29, 21, 4, 182, 1, 12, 54, 5, 21, 5, 18, 202, 159, 0, 14, 42, 43, 28, 21, 5]
abbrev dktX0_isPut_0 : List UInt8 := dkwX0_isPut_0 ++ dktX0_isPut_1
theorem dksX0_isPut_0 : cX0_isPut.data.toList.drop 0 = dktX0_isPut_0 := by decide +kernel
theorem dksX0_isPut_1 : cX0_isPut.data.toList.drop 23 = dktX0_isPut_1 := dk_seg dksX0_isPut_0 23 rfl rfl
theorem dX0_isPut_0 : decode cX0_isPut 0 = .ok (.aload_n 0, 1) := dk_42 (dk_at dksX0_isPut_0 0 rfl rfl)
theorem dX0_isPut_1 : decode cX0_isPut 1 = .ok (.aload_n 1, 1) := dk_43 (dk_at dksX0_isPut_0 1 rfl rfl)
theorem dX0_isPut_2 : decode cX0_isPut 2 = .ok (.iload_n 2, 1) := dk_28 (dk_at dksX0_isPut_0 2 rfl rfl)
theorem dX0_isPut_3 : decode cX0_isPut 3 = .ok (.iload_n 3, 1) := dk_29 (dk_at dksX0_isPut_0 3 rfl rfl)
theorem dX0_isPut_4 : decode cX0_isPut 4 = .ok (.iload 4, 2) := dk_21 4 (dk_at dksX0_isPut_0 4 rfl rfl)
theorem dX0_isPut_6 : decode cX0_isPut 6 = .ok (.invokevirtual 268, 3) := dk_182 1 12 (dk_at dksX0_isPut_0 6 rfl rfl)
theorem dX0_isPut_9 : decode cX0_isPut 9 = .ok (.istore 5, 2) := dk_54 5 (dk_at dksX0_isPut_0 9 rfl rfl)
theorem dX0_isPut_11 : decode cX0_isPut 11 = .ok (.iload 5, 2) := dk_21 5 (dk_at dksX0_isPut_0 11 rfl rfl)
theorem dX0_isPut_13 : decode cX0_isPut 13 = .ok (.ldc 202, 2) := dk_18 202 (dk_at dksX0_isPut_0 13 rfl rfl)
theorem dX0_isPut_15 : decode cX0_isPut 15 = .ok (.if_icmp .eq 14, 3) := dk_159 0 14 (dk_at dksX0_isPut_0 15 rfl rfl)
theorem dX0_isPut_18 : decode cX0_isPut 18 = .ok (.aload_n 0, 1) := dk_42 (dk_at dksX0_isPut_0 18 rfl rfl)
theorem dX0_isPut_19 : decode cX0_isPut 19 = .ok (.aload_n 1, 1) := dk_43 (dk_at dksX0_isPut_0 19 rfl rfl)
theorem dX0_isPut_20 : decode cX0_isPut 20 = .ok (.iload_n 2, 1) := dk_28 (dk_at dksX0_isPut_0 20 rfl rfl)
theorem dX0_isPut_21 : decode cX0_isPut 21 = .ok (.iload 5, 2) := dk_21 5 (dk_at dksX0_isPut_0 21 rfl rfl)
theorem dX0_isPut_23 : decode cX0_isPut 23 = .ok (.invokevirtual 234, 3) := dk_182 0 234 (dk_at dksX0_isPut_1 0 rfl rfl)
theorem dX0_isPut_26 : decode cX0_isPut 26 = .ok (.ifCond .ne 5, 3) := dk_154 0 5 (dk_at dksX0_isPut_1 3 rfl rfl)
theorem dX0_isPut_29 : decode cX0_isPut 29 = .ok (.iconst 0, 1) := dk_3 (dk_at dksX0_isPut_1 6 rfl rfl)
theorem dX0_isPut_30 : decode cX0_isPut 30 = .ok (.ireturn, 1) := dk_172 (dk_at dksX0_isPut_1 7 rfl rfl)
theorem dX0_isPut_31 : decode cX0_isPut 31 = .ok (.aload_n 1, 1) := dk_43 (dk_at dksX0_isPut_1 8 rfl rfl)
theorem dX0_isPut_32 : decode cX0_isPut 32 = .ok (.iload_n 2, 1) := dk_28 (dk_at dksX0_isPut_1 9 rfl rfl)
theorem dX0_isPut_33 : decode cX0_isPut 33 = .ok (.iload 5, 2) := dk_21 5 (dk_at dksX0_isPut_1 10 rfl rfl)
theorem dX0_isPut_35 : decode cX0_isPut 35 = .ok (.invokestatic 243, 3) := dk_184 0 243 (dk_at dksX0_isPut_1 12 rfl rfl)
theorem dX0_isPut_38 : decode cX0_isPut 38 = .ok (.iconst 1, 1) := dk_4 (dk_at dksX0_isPut_1 15 rfl rfl)
theorem dX0_isPut_39 : decode cX0_isPut 39 = .ok (.ireturn, 1) := dk_172 (dk_at dksX0_isPut_1 16 rfl rfl)
abbrev cX0_goal : ByteArray := prog_1_method_35_code
def yX0_goal : MethodName := ⟨RX0, "goal", "(LTableArms$Table;III)I"⟩
def dkwX0_goal_5 : List UInt8 := [184, 1, 8, 172, 132, 5, 1, 167, 255, 135, 18, 202, 172]
abbrev dktX0_goal_5 : List UInt8 := dkwX0_goal_5 ++ []
def dkwX0_goal_4 : List UInt8 := [160, 0, 27, 43, 180, 0, 199, 21, 5, 46, 18, 202, 160, 0, 15, 43, 43, 180, 0, 17, 21, 5, 46]
abbrev dktX0_goal_4 : List UInt8 := dkwX0_goal_4 ++ dktX0_goal_5
def dkwX0_goal_3 : List UInt8 := [153, 0, 21, 43, 180, 0, 206, 21, 5, 46, 18, 202, 160, 0, 9, 16, 8, 21, 5, 96, 172, 29, 5]
abbrev dktX0_goal_3 : List UInt8 := dkwX0_goal_3 ++ dktX0_goal_4
def dkwX0_goal_2 : List UInt8 := [180, 0, 17, 21, 5, 46, 172, 29, 4, 160, 0, 36, 21, 4, 5, 160, 0, 30, 43, 21, 5, 182, 0, 203]
abbrev dktX0_goal_2 : List UInt8 := dkwX0_goal_2 ++ dktX0_goal_3
def dkwX0_goal_1 : List UInt8 := [46, 21, 4, 159, 0, 6, 167, 0, 91, 29, 154, 0, 20, 43, 21, 5, 182, 0, 203, 153, 0, 11, 43]
abbrev dktX0_goal_1 : List UInt8 := dkwX0_goal_1 ++ dktX0_goal_2
def dkwX0_goal_0 : List UInt8 := [3, 54, 5, 21, 5, 42, 180, 0, 173, 162, 0, 118, 21, 5, 28, 159, 0, 106, 42, 180, 0, 7, 21, 5]
abbrev dktX0_goal_0 : List UInt8 := dkwX0_goal_0 ++ dktX0_goal_1
theorem dksX0_goal_0 : cX0_goal.data.toList.drop 0 = dktX0_goal_0 := by decide +kernel
theorem dksX0_goal_1 : cX0_goal.data.toList.drop 24 = dktX0_goal_1 := dk_seg dksX0_goal_0 24 rfl rfl
theorem dksX0_goal_2 : cX0_goal.data.toList.drop 47 = dktX0_goal_2 := dk_seg dksX0_goal_1 23 rfl rfl
theorem dksX0_goal_3 : cX0_goal.data.toList.drop 71 = dktX0_goal_3 := dk_seg dksX0_goal_2 24 rfl rfl
theorem dksX0_goal_4 : cX0_goal.data.toList.drop 94 = dktX0_goal_4 := dk_seg dksX0_goal_3 23 rfl rfl
theorem dksX0_goal_5 : cX0_goal.data.toList.drop 117 = dktX0_goal_5 := dk_seg dksX0_goal_4 23 rfl rfl
theorem dX0_goal_0 : decode cX0_goal 0 = .ok (.iconst 0, 1) := dk_3 (dk_at dksX0_goal_0 0 rfl rfl)
theorem dX0_goal_1 : decode cX0_goal 1 = .ok (.istore 5, 2) := dk_54 5 (dk_at dksX0_goal_0 1 rfl rfl)
theorem dX0_goal_3 : decode cX0_goal 3 = .ok (.iload 5, 2) := dk_21 5 (dk_at dksX0_goal_0 3 rfl rfl)
theorem dX0_goal_5 : decode cX0_goal 5 = .ok (.aload_n 0, 1) := dk_42 (dk_at dksX0_goal_0 5 rfl rfl)
theorem dX0_goal_6 : decode cX0_goal 6 = .ok (.getfield 173, 3) := dk_180 0 173 (dk_at dksX0_goal_0 6 rfl rfl)
theorem dX0_goal_9 : decode cX0_goal 9 = .ok (.if_icmp .ge 118, 3) := dk_162 0 118 (dk_at dksX0_goal_0 9 rfl rfl)
theorem dX0_goal_12 : decode cX0_goal 12 = .ok (.iload 5, 2) := dk_21 5 (dk_at dksX0_goal_0 12 rfl rfl)
theorem dX0_goal_14 : decode cX0_goal 14 = .ok (.iload_n 2, 1) := dk_28 (dk_at dksX0_goal_0 14 rfl rfl)
theorem dX0_goal_15 : decode cX0_goal 15 = .ok (.if_icmp .eq 106, 3) := dk_159 0 106 (dk_at dksX0_goal_0 15 rfl rfl)
theorem dX0_goal_18 : decode cX0_goal 18 = .ok (.aload_n 0, 1) := dk_42 (dk_at dksX0_goal_0 18 rfl rfl)
theorem dX0_goal_19 : decode cX0_goal 19 = .ok (.getfield 7, 3) := dk_180 0 7 (dk_at dksX0_goal_0 19 rfl rfl)
theorem dX0_goal_22 : decode cX0_goal 22 = .ok (.iload 5, 2) := dk_21 5 (dk_at dksX0_goal_0 22 rfl rfl)
theorem dX0_goal_24 : decode cX0_goal 24 = .ok (.iaload, 1) := dk_46 (dk_at dksX0_goal_1 0 rfl rfl)
theorem dX0_goal_25 : decode cX0_goal 25 = .ok (.iload 4, 2) := dk_21 4 (dk_at dksX0_goal_1 1 rfl rfl)
theorem dX0_goal_27 : decode cX0_goal 27 = .ok (.if_icmp .eq 6, 3) := dk_159 0 6 (dk_at dksX0_goal_1 3 rfl rfl)
theorem dX0_goal_30 : decode cX0_goal 30 = .ok (.goto 91, 3) := dk_167 0 91 (dk_at dksX0_goal_1 6 rfl rfl)
theorem dX0_goal_33 : decode cX0_goal 33 = .ok (.iload_n 3, 1) := dk_29 (dk_at dksX0_goal_1 9 rfl rfl)
theorem dX0_goal_34 : decode cX0_goal 34 = .ok (.ifCond .ne 20, 3) := dk_154 0 20 (dk_at dksX0_goal_1 10 rfl rfl)
theorem dX0_goal_37 : decode cX0_goal 37 = .ok (.aload_n 1, 1) := dk_43 (dk_at dksX0_goal_1 13 rfl rfl)
theorem dX0_goal_38 : decode cX0_goal 38 = .ok (.iload 5, 2) := dk_21 5 (dk_at dksX0_goal_1 14 rfl rfl)
theorem dX0_goal_40 : decode cX0_goal 40 = .ok (.invokevirtual 203, 3) := dk_182 0 203 (dk_at dksX0_goal_1 16 rfl rfl)
theorem dX0_goal_43 : decode cX0_goal 43 = .ok (.ifCond .eq 11, 3) := dk_153 0 11 (dk_at dksX0_goal_1 19 rfl rfl)
theorem dX0_goal_46 : decode cX0_goal 46 = .ok (.aload_n 1, 1) := dk_43 (dk_at dksX0_goal_1 22 rfl rfl)
theorem dX0_goal_47 : decode cX0_goal 47 = .ok (.getfield 17, 3) := dk_180 0 17 (dk_at dksX0_goal_2 0 rfl rfl)
theorem dX0_goal_50 : decode cX0_goal 50 = .ok (.iload 5, 2) := dk_21 5 (dk_at dksX0_goal_2 3 rfl rfl)
theorem dX0_goal_52 : decode cX0_goal 52 = .ok (.iaload, 1) := dk_46 (dk_at dksX0_goal_2 5 rfl rfl)
theorem dX0_goal_53 : decode cX0_goal 53 = .ok (.ireturn, 1) := dk_172 (dk_at dksX0_goal_2 6 rfl rfl)
theorem dX0_goal_54 : decode cX0_goal 54 = .ok (.iload_n 3, 1) := dk_29 (dk_at dksX0_goal_2 7 rfl rfl)
theorem dX0_goal_55 : decode cX0_goal 55 = .ok (.iconst 1, 1) := dk_4 (dk_at dksX0_goal_2 8 rfl rfl)
theorem dX0_goal_56 : decode cX0_goal 56 = .ok (.if_icmp .ne 36, 3) := dk_160 0 36 (dk_at dksX0_goal_2 9 rfl rfl)
theorem dX0_goal_59 : decode cX0_goal 59 = .ok (.iload 4, 2) := dk_21 4 (dk_at dksX0_goal_2 12 rfl rfl)
theorem dX0_goal_61 : decode cX0_goal 61 = .ok (.iconst 2, 1) := dk_5 (dk_at dksX0_goal_2 14 rfl rfl)
theorem dX0_goal_62 : decode cX0_goal 62 = .ok (.if_icmp .ne 30, 3) := dk_160 0 30 (dk_at dksX0_goal_2 15 rfl rfl)
theorem dX0_goal_65 : decode cX0_goal 65 = .ok (.aload_n 1, 1) := dk_43 (dk_at dksX0_goal_2 18 rfl rfl)
theorem dX0_goal_66 : decode cX0_goal 66 = .ok (.iload 5, 2) := dk_21 5 (dk_at dksX0_goal_2 19 rfl rfl)
theorem dX0_goal_68 : decode cX0_goal 68 = .ok (.invokevirtual 203, 3) := dk_182 0 203 (dk_at dksX0_goal_2 21 rfl rfl)
theorem dX0_goal_71 : decode cX0_goal 71 = .ok (.ifCond .eq 21, 3) := dk_153 0 21 (dk_at dksX0_goal_3 0 rfl rfl)
theorem dX0_goal_74 : decode cX0_goal 74 = .ok (.aload_n 1, 1) := dk_43 (dk_at dksX0_goal_3 3 rfl rfl)
theorem dX0_goal_75 : decode cX0_goal 75 = .ok (.getfield 206, 3) := dk_180 0 206 (dk_at dksX0_goal_3 4 rfl rfl)
theorem dX0_goal_78 : decode cX0_goal 78 = .ok (.iload 5, 2) := dk_21 5 (dk_at dksX0_goal_3 7 rfl rfl)
theorem dX0_goal_80 : decode cX0_goal 80 = .ok (.iaload, 1) := dk_46 (dk_at dksX0_goal_3 9 rfl rfl)
theorem dX0_goal_81 : decode cX0_goal 81 = .ok (.ldc 202, 2) := dk_18 202 (dk_at dksX0_goal_3 10 rfl rfl)
theorem dX0_goal_83 : decode cX0_goal 83 = .ok (.if_icmp .ne 9, 3) := dk_160 0 9 (dk_at dksX0_goal_3 12 rfl rfl)
theorem dX0_goal_86 : decode cX0_goal 86 = .ok (.bipush 8, 2) := dk_16 8 (dk_at dksX0_goal_3 15 rfl rfl)
theorem dX0_goal_88 : decode cX0_goal 88 = .ok (.iload 5, 2) := dk_21 5 (dk_at dksX0_goal_3 17 rfl rfl)
theorem dX0_goal_90 : decode cX0_goal 90 = .ok (.iadd, 1) := dk_96 (dk_at dksX0_goal_3 19 rfl rfl)
theorem dX0_goal_91 : decode cX0_goal 91 = .ok (.ireturn, 1) := dk_172 (dk_at dksX0_goal_3 20 rfl rfl)
theorem dX0_goal_92 : decode cX0_goal 92 = .ok (.iload_n 3, 1) := dk_29 (dk_at dksX0_goal_3 21 rfl rfl)
theorem dX0_goal_93 : decode cX0_goal 93 = .ok (.iconst 2, 1) := dk_5 (dk_at dksX0_goal_3 22 rfl rfl)
theorem dX0_goal_94 : decode cX0_goal 94 = .ok (.if_icmp .ne 27, 3) := dk_160 0 27 (dk_at dksX0_goal_4 0 rfl rfl)
theorem dX0_goal_97 : decode cX0_goal 97 = .ok (.aload_n 1, 1) := dk_43 (dk_at dksX0_goal_4 3 rfl rfl)
theorem dX0_goal_98 : decode cX0_goal 98 = .ok (.getfield 199, 3) := dk_180 0 199 (dk_at dksX0_goal_4 4 rfl rfl)
theorem dX0_goal_101 : decode cX0_goal 101 = .ok (.iload 5, 2) := dk_21 5 (dk_at dksX0_goal_4 7 rfl rfl)
theorem dX0_goal_103 : decode cX0_goal 103 = .ok (.iaload, 1) := dk_46 (dk_at dksX0_goal_4 9 rfl rfl)
theorem dX0_goal_104 : decode cX0_goal 104 = .ok (.ldc 202, 2) := dk_18 202 (dk_at dksX0_goal_4 10 rfl rfl)
theorem dX0_goal_106 : decode cX0_goal 106 = .ok (.if_icmp .ne 15, 3) := dk_160 0 15 (dk_at dksX0_goal_4 12 rfl rfl)
theorem dX0_goal_109 : decode cX0_goal 109 = .ok (.aload_n 1, 1) := dk_43 (dk_at dksX0_goal_4 15 rfl rfl)
theorem dX0_goal_110 : decode cX0_goal 110 = .ok (.aload_n 1, 1) := dk_43 (dk_at dksX0_goal_4 16 rfl rfl)
theorem dX0_goal_111 : decode cX0_goal 111 = .ok (.getfield 17, 3) := dk_180 0 17 (dk_at dksX0_goal_4 17 rfl rfl)
theorem dX0_goal_114 : decode cX0_goal 114 = .ok (.iload 5, 2) := dk_21 5 (dk_at dksX0_goal_4 20 rfl rfl)
theorem dX0_goal_116 : decode cX0_goal 116 = .ok (.iaload, 1) := dk_46 (dk_at dksX0_goal_4 22 rfl rfl)
theorem dX0_goal_117 : decode cX0_goal 117 = .ok (.invokestatic 264, 3) := dk_184 1 8 (dk_at dksX0_goal_5 0 rfl rfl)
theorem dX0_goal_120 : decode cX0_goal 120 = .ok (.ireturn, 1) := dk_172 (dk_at dksX0_goal_5 3 rfl rfl)
theorem dX0_goal_121 : decode cX0_goal 121 = .ok (.iinc 5 1, 3) := dk_132 5 1 (dk_at dksX0_goal_5 4 rfl rfl)
theorem dX0_goal_124 : decode cX0_goal 124 = .ok (.goto (-121), 3) := dk_167 255 135 (dk_at dksX0_goal_5 7 rfl rfl)
theorem dX0_goal_127 : decode cX0_goal 127 = .ok (.ldc 202, 2) := dk_18 202 (dk_at dksX0_goal_5 10 rfl rfl)
theorem dX0_goal_129 : decode cX0_goal 129 = .ok (.ireturn, 1) := dk_172 (dk_at dksX0_goal_5 12 rfl rfl)
abbrev cX0_besideOf : ByteArray := prog_1_method_36_code
def yX0_besideOf : MethodName := ⟨RX0, "besideOf", "(LTableArms$Table;I)I"⟩
def dkwX0_besideOf_1 : List UInt8 := [154, 0, 5, 28, 172, 132, 2, 1, 167, 255, 228, 18, 202, 172]
abbrev dktX0_besideOf_1 : List UInt8 := dkwX0_besideOf_1 ++ []
def dkwX0_besideOf_0 : List UInt8 := [3, 61, 28, 16, 8, 162, 0, 28, 27, 28, 184, 1, 2, 153, 0, 14, 42, 180, 0, 25, 28, 46]
abbrev dktX0_besideOf_0 : List UInt8 := dkwX0_besideOf_0 ++ dktX0_besideOf_1
theorem dksX0_besideOf_0 : cX0_besideOf.data.toList.drop 0 = dktX0_besideOf_0 := by decide +kernel
theorem dksX0_besideOf_1 : cX0_besideOf.data.toList.drop 22 = dktX0_besideOf_1 := dk_seg dksX0_besideOf_0 22 rfl rfl
theorem dX0_besideOf_0 : decode cX0_besideOf 0 = .ok (.iconst 0, 1) := dk_3 (dk_at dksX0_besideOf_0 0 rfl rfl)
theorem dX0_besideOf_1 : decode cX0_besideOf 1 = .ok (.istore_n 2, 1) := dk_61 (dk_at dksX0_besideOf_0 1 rfl rfl)
theorem dX0_besideOf_2 : decode cX0_besideOf 2 = .ok (.iload_n 2, 1) := dk_28 (dk_at dksX0_besideOf_0 2 rfl rfl)
theorem dX0_besideOf_3 : decode cX0_besideOf 3 = .ok (.bipush 8, 2) := dk_16 8 (dk_at dksX0_besideOf_0 3 rfl rfl)
theorem dX0_besideOf_5 : decode cX0_besideOf 5 = .ok (.if_icmp .ge 28, 3) := dk_162 0 28 (dk_at dksX0_besideOf_0 5 rfl rfl)
theorem dX0_besideOf_8 : decode cX0_besideOf 8 = .ok (.iload_n 1, 1) := dk_27 (dk_at dksX0_besideOf_0 8 rfl rfl)
theorem dX0_besideOf_9 : decode cX0_besideOf 9 = .ok (.iload_n 2, 1) := dk_28 (dk_at dksX0_besideOf_0 9 rfl rfl)
theorem dX0_besideOf_10 : decode cX0_besideOf 10 = .ok (.invokestatic 258, 3) := dk_184 1 2 (dk_at dksX0_besideOf_0 10 rfl rfl)
theorem dX0_besideOf_13 : decode cX0_besideOf 13 = .ok (.ifCond .eq 14, 3) := dk_153 0 14 (dk_at dksX0_besideOf_0 13 rfl rfl)
theorem dX0_besideOf_16 : decode cX0_besideOf 16 = .ok (.aload_n 0, 1) := dk_42 (dk_at dksX0_besideOf_0 16 rfl rfl)
theorem dX0_besideOf_17 : decode cX0_besideOf 17 = .ok (.getfield 25, 3) := dk_180 0 25 (dk_at dksX0_besideOf_0 17 rfl rfl)
theorem dX0_besideOf_20 : decode cX0_besideOf 20 = .ok (.iload_n 2, 1) := dk_28 (dk_at dksX0_besideOf_0 20 rfl rfl)
theorem dX0_besideOf_21 : decode cX0_besideOf 21 = .ok (.iaload, 1) := dk_46 (dk_at dksX0_besideOf_0 21 rfl rfl)
theorem dX0_besideOf_22 : decode cX0_besideOf 22 = .ok (.ifCond .ne 5, 3) := dk_154 0 5 (dk_at dksX0_besideOf_1 0 rfl rfl)
theorem dX0_besideOf_25 : decode cX0_besideOf 25 = .ok (.iload_n 2, 1) := dk_28 (dk_at dksX0_besideOf_1 3 rfl rfl)
theorem dX0_besideOf_26 : decode cX0_besideOf 26 = .ok (.ireturn, 1) := dk_172 (dk_at dksX0_besideOf_1 4 rfl rfl)
theorem dX0_besideOf_27 : decode cX0_besideOf 27 = .ok (.iinc 2 1, 3) := dk_132 2 1 (dk_at dksX0_besideOf_1 5 rfl rfl)
theorem dX0_besideOf_30 : decode cX0_besideOf 30 = .ok (.goto (-28), 3) := dk_167 255 228 (dk_at dksX0_besideOf_1 8 rfl rfl)
theorem dX0_besideOf_33 : decode cX0_besideOf 33 = .ok (.ldc 202, 2) := dk_18 202 (dk_at dksX0_besideOf_1 11 rfl rfl)
theorem dX0_besideOf_35 : decode cX0_besideOf 35 = .ok (.ireturn, 1) := dk_172 (dk_at dksX0_besideOf_1 13 rfl rfl)
abbrev cX0_lesson : ByteArray := prog_1_method_41_code
def yX0_lesson : MethodName := ⟨RX0, "lesson", "(IIII)I"⟩
def dkwX0_lesson_4 : List UInt8 := [185, 1, 32, 1, 0, 4, 100, 172]
abbrev dktX0_lesson_4 : List UInt8 := dkwX0_lesson_4 ++ []
def dkwX0_lesson_3 : List UInt8 := [4, 160, 0, 7, 4, 167, 0, 4, 3, 21, 4, 183, 1, 40, 185, 1, 43, 2, 0, 87, 42, 180, 0, 88]
abbrev dktX0_lesson_3 : List UInt8 := dkwX0_lesson_3 ++ dktX0_lesson_4
def dkwX0_lesson_2 : List UInt8 := [185, 1, 32, 1, 0, 16, 8, 160, 0, 6, 18, 186, 172, 42, 180, 0, 88, 187, 1, 38, 89, 27, 28, 29]
abbrev dktX0_lesson_2 : List UInt8 := dkwX0_lesson_2 ++ dktX0_lesson_3
def dkwX0_lesson_1 : List UInt8 := [153, 0, 16, 21, 4, 133, 9, 20, 1, 30, 184, 0, 128, 154, 0, 6, 18, 141, 172, 42, 180, 0, 88]
abbrev dktX0_lesson_1 : List UInt8 := dkwX0_lesson_1 ++ dktX0_lesson_2
def dkwX0_lesson_0 : List UInt8 := [42, 27, 182, 0, 251, 153, 0, 34, 42, 28, 182, 0, 251, 153, 0, 26, 29, 133, 9, 10, 184, 0, 128]
abbrev dktX0_lesson_0 : List UInt8 := dkwX0_lesson_0 ++ dktX0_lesson_1
theorem dksX0_lesson_0 : cX0_lesson.data.toList.drop 0 = dktX0_lesson_0 := by decide +kernel
theorem dksX0_lesson_1 : cX0_lesson.data.toList.drop 23 = dktX0_lesson_1 := dk_seg dksX0_lesson_0 23 rfl rfl
theorem dksX0_lesson_2 : cX0_lesson.data.toList.drop 46 = dktX0_lesson_2 := dk_seg dksX0_lesson_1 23 rfl rfl
theorem dksX0_lesson_3 : cX0_lesson.data.toList.drop 70 = dktX0_lesson_3 := dk_seg dksX0_lesson_2 24 rfl rfl
theorem dksX0_lesson_4 : cX0_lesson.data.toList.drop 94 = dktX0_lesson_4 := dk_seg dksX0_lesson_3 24 rfl rfl
theorem dX0_lesson_0 : decode cX0_lesson 0 = .ok (.aload_n 0, 1) := dk_42 (dk_at dksX0_lesson_0 0 rfl rfl)
theorem dX0_lesson_1 : decode cX0_lesson 1 = .ok (.iload_n 1, 1) := dk_27 (dk_at dksX0_lesson_0 1 rfl rfl)
theorem dX0_lesson_2 : decode cX0_lesson 2 = .ok (.invokevirtual 251, 3) := dk_182 0 251 (dk_at dksX0_lesson_0 2 rfl rfl)
theorem dX0_lesson_5 : decode cX0_lesson 5 = .ok (.ifCond .eq 34, 3) := dk_153 0 34 (dk_at dksX0_lesson_0 5 rfl rfl)
theorem dX0_lesson_8 : decode cX0_lesson 8 = .ok (.aload_n 0, 1) := dk_42 (dk_at dksX0_lesson_0 8 rfl rfl)
theorem dX0_lesson_9 : decode cX0_lesson 9 = .ok (.iload_n 2, 1) := dk_28 (dk_at dksX0_lesson_0 9 rfl rfl)
theorem dX0_lesson_10 : decode cX0_lesson 10 = .ok (.invokevirtual 251, 3) := dk_182 0 251 (dk_at dksX0_lesson_0 10 rfl rfl)
theorem dX0_lesson_13 : decode cX0_lesson 13 = .ok (.ifCond .eq 26, 3) := dk_153 0 26 (dk_at dksX0_lesson_0 13 rfl rfl)
theorem dX0_lesson_16 : decode cX0_lesson 16 = .ok (.iload_n 3, 1) := dk_29 (dk_at dksX0_lesson_0 16 rfl rfl)
theorem dX0_lesson_17 : decode cX0_lesson 17 = .ok (.i2l, 1) := dk_133 (dk_at dksX0_lesson_0 17 rfl rfl)
theorem dX0_lesson_18 : decode cX0_lesson 18 = .ok (.lconst 0, 1) := dk_9 (dk_at dksX0_lesson_0 18 rfl rfl)
theorem dX0_lesson_19 : decode cX0_lesson 19 = .ok (.lconst 1, 1) := dk_10 (dk_at dksX0_lesson_0 19 rfl rfl)
theorem dX0_lesson_20 : decode cX0_lesson 20 = .ok (.invokestatic 128, 3) := dk_184 0 128 (dk_at dksX0_lesson_0 20 rfl rfl)
theorem dX0_lesson_23 : decode cX0_lesson 23 = .ok (.ifCond .eq 16, 3) := dk_153 0 16 (dk_at dksX0_lesson_1 0 rfl rfl)
theorem dX0_lesson_26 : decode cX0_lesson 26 = .ok (.iload 4, 2) := dk_21 4 (dk_at dksX0_lesson_1 3 rfl rfl)
theorem dX0_lesson_28 : decode cX0_lesson 28 = .ok (.i2l, 1) := dk_133 (dk_at dksX0_lesson_1 5 rfl rfl)
theorem dX0_lesson_29 : decode cX0_lesson 29 = .ok (.lconst 0, 1) := dk_9 (dk_at dksX0_lesson_1 6 rfl rfl)
theorem dX0_lesson_30 : decode cX0_lesson 30 = .ok (.ldc2_w 286, 3) := dk_20 1 30 (dk_at dksX0_lesson_1 7 rfl rfl)
theorem dX0_lesson_33 : decode cX0_lesson 33 = .ok (.invokestatic 128, 3) := dk_184 0 128 (dk_at dksX0_lesson_1 10 rfl rfl)
theorem dX0_lesson_36 : decode cX0_lesson 36 = .ok (.ifCond .ne 6, 3) := dk_154 0 6 (dk_at dksX0_lesson_1 13 rfl rfl)
theorem dX0_lesson_39 : decode cX0_lesson 39 = .ok (.ldc 141, 2) := dk_18 141 (dk_at dksX0_lesson_1 16 rfl rfl)
theorem dX0_lesson_41 : decode cX0_lesson 41 = .ok (.ireturn, 1) := dk_172 (dk_at dksX0_lesson_1 18 rfl rfl)
theorem dX0_lesson_42 : decode cX0_lesson 42 = .ok (.aload_n 0, 1) := dk_42 (dk_at dksX0_lesson_1 19 rfl rfl)
theorem dX0_lesson_43 : decode cX0_lesson 43 = .ok (.getfield 88, 3) := dk_180 0 88 (dk_at dksX0_lesson_1 20 rfl rfl)
theorem dX0_lesson_46 : decode cX0_lesson 46 = .ok (.invokeinterface 288 1, 5) := by decide +kernel
theorem dX0_lesson_51 : decode cX0_lesson 51 = .ok (.bipush 8, 2) := dk_16 8 (dk_at dksX0_lesson_2 5 rfl rfl)
theorem dX0_lesson_53 : decode cX0_lesson 53 = .ok (.if_icmp .ne 6, 3) := dk_160 0 6 (dk_at dksX0_lesson_2 7 rfl rfl)
theorem dX0_lesson_56 : decode cX0_lesson 56 = .ok (.ldc 186, 2) := dk_18 186 (dk_at dksX0_lesson_2 10 rfl rfl)
theorem dX0_lesson_58 : decode cX0_lesson 58 = .ok (.ireturn, 1) := dk_172 (dk_at dksX0_lesson_2 12 rfl rfl)
theorem dX0_lesson_59 : decode cX0_lesson 59 = .ok (.aload_n 0, 1) := dk_42 (dk_at dksX0_lesson_2 13 rfl rfl)
theorem dX0_lesson_60 : decode cX0_lesson 60 = .ok (.getfield 88, 3) := dk_180 0 88 (dk_at dksX0_lesson_2 14 rfl rfl)
theorem dX0_lesson_63 : decode cX0_lesson 63 = .ok (.new 294, 3) := dk_187 1 38 (dk_at dksX0_lesson_2 17 rfl rfl)
theorem dX0_lesson_66 : decode cX0_lesson 66 = .ok (.dup, 1) := dk_89 (dk_at dksX0_lesson_2 20 rfl rfl)
theorem dX0_lesson_67 : decode cX0_lesson 67 = .ok (.iload_n 1, 1) := dk_27 (dk_at dksX0_lesson_2 21 rfl rfl)
theorem dX0_lesson_68 : decode cX0_lesson 68 = .ok (.iload_n 2, 1) := dk_28 (dk_at dksX0_lesson_2 22 rfl rfl)
theorem dX0_lesson_69 : decode cX0_lesson 69 = .ok (.iload_n 3, 1) := dk_29 (dk_at dksX0_lesson_2 23 rfl rfl)
theorem dX0_lesson_70 : decode cX0_lesson 70 = .ok (.iconst 1, 1) := dk_4 (dk_at dksX0_lesson_3 0 rfl rfl)
theorem dX0_lesson_71 : decode cX0_lesson 71 = .ok (.if_icmp .ne 7, 3) := dk_160 0 7 (dk_at dksX0_lesson_3 1 rfl rfl)
theorem dX0_lesson_74 : decode cX0_lesson 74 = .ok (.iconst 1, 1) := dk_4 (dk_at dksX0_lesson_3 4 rfl rfl)
theorem dX0_lesson_75 : decode cX0_lesson 75 = .ok (.goto 4, 3) := dk_167 0 4 (dk_at dksX0_lesson_3 5 rfl rfl)
theorem dX0_lesson_78 : decode cX0_lesson 78 = .ok (.iconst 0, 1) := dk_3 (dk_at dksX0_lesson_3 8 rfl rfl)
theorem dX0_lesson_79 : decode cX0_lesson 79 = .ok (.iload 4, 2) := dk_21 4 (dk_at dksX0_lesson_3 9 rfl rfl)
theorem dX0_lesson_81 : decode cX0_lesson 81 = .ok (.invokespecial 296, 3) := dk_183 1 40 (dk_at dksX0_lesson_3 11 rfl rfl)
theorem dX0_lesson_84 : decode cX0_lesson 84 = .ok (.invokeinterface 299 2, 5) := by decide +kernel
theorem dX0_lesson_89 : decode cX0_lesson 89 = .ok (.pop, 1) := dk_87 (dk_at dksX0_lesson_3 19 rfl rfl)
theorem dX0_lesson_90 : decode cX0_lesson 90 = .ok (.aload_n 0, 1) := dk_42 (dk_at dksX0_lesson_3 20 rfl rfl)
theorem dX0_lesson_91 : decode cX0_lesson 91 = .ok (.getfield 88, 3) := dk_180 0 88 (dk_at dksX0_lesson_3 21 rfl rfl)
theorem dX0_lesson_94 : decode cX0_lesson 94 = .ok (.invokeinterface 288 1, 5) := by decide +kernel
theorem dX0_lesson_99 : decode cX0_lesson 99 = .ok (.iconst 1, 1) := dk_4 (dk_at dksX0_lesson_4 5 rfl rfl)
theorem dX0_lesson_100 : decode cX0_lesson 100 = .ok (.isub, 1) := dk_100 (dk_at dksX0_lesson_4 6 rfl rfl)
theorem dX0_lesson_101 : decode cX0_lesson 101 = .ok (.ireturn, 1) := dk_172 (dk_at dksX0_lesson_4 7 rfl rfl)
abbrev cX0_lessons : ByteArray := prog_1_method_42_code
def yX0_lessons : MethodName := ⟨RX0, "lessons", "(III)I"⟩
def dkwX0_lessons_4 : List UInt8 := [132, 6, 4, 167, 255, 202, 42, 21, 5, 182, 0, 145, 172, 58, 4, 42, 25, 4, 182, 0, 148, 172]
abbrev dktX0_lessons_4 : List UInt8 := dkwX0_lessons_4 ++ []
def dkwX0_lessons_3 : List UInt8 := [46, 25, 4, 21, 6, 6, 96, 46, 182, 1, 53, 155, 0, 7, 4, 167, 0, 4, 3, 96, 54, 5]
abbrev dktX0_lessons_3 : List UInt8 := dkwX0_lessons_3 ++ dktX0_lessons_4
def dkwX0_lessons_2 : List UInt8 := [162, 0, 52, 21, 5, 42, 25, 4, 21, 6, 46, 25, 4, 21, 6, 4, 96, 46, 25, 4, 21, 6, 5, 96]
abbrev dktX0_lessons_2 : List UInt8 := dkwX0_lessons_2 ++ dktX0_lessons_3
def dkwX0_lessons_1 : List UInt8 := [182, 0, 152, 28, 7, 29, 104, 182, 1, 49, 58, 4, 3, 54, 5, 3, 54, 6, 21, 6, 25, 4, 190]
abbrev dktX0_lessons_1 : List UInt8 := dkwX0_lessons_1 ++ dktX0_lessons_2
def dkwX0_lessons_0 : List UInt8 := [27, 184, 0, 136, 153, 0, 15, 29, 133, 10, 20, 1, 47, 184, 0, 128, 154, 0, 6, 18, 141, 172, 42, 27]
abbrev dktX0_lessons_0 : List UInt8 := dkwX0_lessons_0 ++ dktX0_lessons_1
theorem dksX0_lessons_0 : cX0_lessons.data.toList.drop 0 = dktX0_lessons_0 := by decide +kernel
theorem dksX0_lessons_1 : cX0_lessons.data.toList.drop 24 = dktX0_lessons_1 := dk_seg dksX0_lessons_0 24 rfl rfl
theorem dksX0_lessons_2 : cX0_lessons.data.toList.drop 47 = dktX0_lessons_2 := dk_seg dksX0_lessons_1 23 rfl rfl
theorem dksX0_lessons_3 : cX0_lessons.data.toList.drop 71 = dktX0_lessons_3 := dk_seg dksX0_lessons_2 24 rfl rfl
theorem dksX0_lessons_4 : cX0_lessons.data.toList.drop 93 = dktX0_lessons_4 := dk_seg dksX0_lessons_3 22 rfl rfl
theorem dX0_lessons_0 : decode cX0_lessons 0 = .ok (.iload_n 1, 1) := dk_27 (dk_at dksX0_lessons_0 0 rfl rfl)
theorem dX0_lessons_1 : decode cX0_lessons 1 = .ok (.invokestatic 136, 3) := dk_184 0 136 (dk_at dksX0_lessons_0 1 rfl rfl)
theorem dX0_lessons_4 : decode cX0_lessons 4 = .ok (.ifCond .eq 15, 3) := dk_153 0 15 (dk_at dksX0_lessons_0 4 rfl rfl)
theorem dX0_lessons_7 : decode cX0_lessons 7 = .ok (.iload_n 3, 1) := dk_29 (dk_at dksX0_lessons_0 7 rfl rfl)
theorem dX0_lessons_8 : decode cX0_lessons 8 = .ok (.i2l, 1) := dk_133 (dk_at dksX0_lessons_0 8 rfl rfl)
theorem dX0_lessons_9 : decode cX0_lessons 9 = .ok (.lconst 1, 1) := dk_10 (dk_at dksX0_lessons_0 9 rfl rfl)
theorem dX0_lessons_10 : decode cX0_lessons 10 = .ok (.ldc2_w 303, 3) := dk_20 1 47 (dk_at dksX0_lessons_0 10 rfl rfl)
theorem dX0_lessons_13 : decode cX0_lessons 13 = .ok (.invokestatic 128, 3) := dk_184 0 128 (dk_at dksX0_lessons_0 13 rfl rfl)
theorem dX0_lessons_16 : decode cX0_lessons 16 = .ok (.ifCond .ne 6, 3) := dk_154 0 6 (dk_at dksX0_lessons_0 16 rfl rfl)
theorem dX0_lessons_19 : decode cX0_lessons 19 = .ok (.ldc 141, 2) := dk_18 141 (dk_at dksX0_lessons_0 19 rfl rfl)
theorem dX0_lessons_21 : decode cX0_lessons 21 = .ok (.ireturn, 1) := dk_172 (dk_at dksX0_lessons_0 21 rfl rfl)
theorem dX0_lessons_22 : decode cX0_lessons 22 = .ok (.aload_n 0, 1) := dk_42 (dk_at dksX0_lessons_0 22 rfl rfl)
theorem dX0_lessons_23 : decode cX0_lessons 23 = .ok (.iload_n 1, 1) := dk_27 (dk_at dksX0_lessons_0 23 rfl rfl)
theorem dX0_lessons_24 : decode cX0_lessons 24 = .ok (.invokevirtual 152, 3) := dk_182 0 152 (dk_at dksX0_lessons_1 0 rfl rfl)
theorem dX0_lessons_27 : decode cX0_lessons 27 = .ok (.iload_n 2, 1) := dk_28 (dk_at dksX0_lessons_1 3 rfl rfl)
theorem dX0_lessons_28 : decode cX0_lessons 28 = .ok (.iconst 4, 1) := dk_7 (dk_at dksX0_lessons_1 4 rfl rfl)
theorem dX0_lessons_29 : decode cX0_lessons 29 = .ok (.iload_n 3, 1) := dk_29 (dk_at dksX0_lessons_1 5 rfl rfl)
theorem dX0_lessons_30 : decode cX0_lessons 30 = .ok (.imul, 1) := dk_104 (dk_at dksX0_lessons_1 6 rfl rfl)
theorem dX0_lessons_31 : decode cX0_lessons 31 = .ok (.invokevirtual 305, 3) := dk_182 1 49 (dk_at dksX0_lessons_1 7 rfl rfl)
theorem dX0_lessons_34 : decode cX0_lessons 34 = .ok (.astore 4, 2) := dk_58 4 (dk_at dksX0_lessons_1 10 rfl rfl)
theorem dX0_lessons_36 : decode cX0_lessons 36 = .ok (.iconst 0, 1) := dk_3 (dk_at dksX0_lessons_1 12 rfl rfl)
theorem dX0_lessons_37 : decode cX0_lessons 37 = .ok (.istore 5, 2) := dk_54 5 (dk_at dksX0_lessons_1 13 rfl rfl)
theorem dX0_lessons_39 : decode cX0_lessons 39 = .ok (.iconst 0, 1) := dk_3 (dk_at dksX0_lessons_1 15 rfl rfl)
theorem dX0_lessons_40 : decode cX0_lessons 40 = .ok (.istore 6, 2) := dk_54 6 (dk_at dksX0_lessons_1 16 rfl rfl)
theorem dX0_lessons_42 : decode cX0_lessons 42 = .ok (.iload 6, 2) := dk_21 6 (dk_at dksX0_lessons_1 18 rfl rfl)
theorem dX0_lessons_44 : decode cX0_lessons 44 = .ok (.aload 4, 2) := dk_25 4 (dk_at dksX0_lessons_1 20 rfl rfl)
theorem dX0_lessons_46 : decode cX0_lessons 46 = .ok (.arraylength, 1) := dk_190 (dk_at dksX0_lessons_1 22 rfl rfl)
theorem dX0_lessons_47 : decode cX0_lessons 47 = .ok (.if_icmp .ge 52, 3) := dk_162 0 52 (dk_at dksX0_lessons_2 0 rfl rfl)
theorem dX0_lessons_50 : decode cX0_lessons 50 = .ok (.iload 5, 2) := dk_21 5 (dk_at dksX0_lessons_2 3 rfl rfl)
theorem dX0_lessons_52 : decode cX0_lessons 52 = .ok (.aload_n 0, 1) := dk_42 (dk_at dksX0_lessons_2 5 rfl rfl)
theorem dX0_lessons_53 : decode cX0_lessons 53 = .ok (.aload 4, 2) := dk_25 4 (dk_at dksX0_lessons_2 6 rfl rfl)
theorem dX0_lessons_55 : decode cX0_lessons 55 = .ok (.iload 6, 2) := dk_21 6 (dk_at dksX0_lessons_2 8 rfl rfl)
theorem dX0_lessons_57 : decode cX0_lessons 57 = .ok (.iaload, 1) := dk_46 (dk_at dksX0_lessons_2 10 rfl rfl)
theorem dX0_lessons_58 : decode cX0_lessons 58 = .ok (.aload 4, 2) := dk_25 4 (dk_at dksX0_lessons_2 11 rfl rfl)
theorem dX0_lessons_60 : decode cX0_lessons 60 = .ok (.iload 6, 2) := dk_21 6 (dk_at dksX0_lessons_2 13 rfl rfl)
theorem dX0_lessons_62 : decode cX0_lessons 62 = .ok (.iconst 1, 1) := dk_4 (dk_at dksX0_lessons_2 15 rfl rfl)
theorem dX0_lessons_63 : decode cX0_lessons 63 = .ok (.iadd, 1) := dk_96 (dk_at dksX0_lessons_2 16 rfl rfl)
theorem dX0_lessons_64 : decode cX0_lessons 64 = .ok (.iaload, 1) := dk_46 (dk_at dksX0_lessons_2 17 rfl rfl)
theorem dX0_lessons_65 : decode cX0_lessons 65 = .ok (.aload 4, 2) := dk_25 4 (dk_at dksX0_lessons_2 18 rfl rfl)
theorem dX0_lessons_67 : decode cX0_lessons 67 = .ok (.iload 6, 2) := dk_21 6 (dk_at dksX0_lessons_2 20 rfl rfl)
theorem dX0_lessons_69 : decode cX0_lessons 69 = .ok (.iconst 2, 1) := dk_5 (dk_at dksX0_lessons_2 22 rfl rfl)
theorem dX0_lessons_70 : decode cX0_lessons 70 = .ok (.iadd, 1) := dk_96 (dk_at dksX0_lessons_2 23 rfl rfl)
theorem dX0_lessons_71 : decode cX0_lessons 71 = .ok (.iaload, 1) := dk_46 (dk_at dksX0_lessons_3 0 rfl rfl)
theorem dX0_lessons_72 : decode cX0_lessons 72 = .ok (.aload 4, 2) := dk_25 4 (dk_at dksX0_lessons_3 1 rfl rfl)
theorem dX0_lessons_74 : decode cX0_lessons 74 = .ok (.iload 6, 2) := dk_21 6 (dk_at dksX0_lessons_3 3 rfl rfl)
theorem dX0_lessons_76 : decode cX0_lessons 76 = .ok (.iconst 3, 1) := dk_6 (dk_at dksX0_lessons_3 5 rfl rfl)
theorem dX0_lessons_77 : decode cX0_lessons 77 = .ok (.iadd, 1) := dk_96 (dk_at dksX0_lessons_3 6 rfl rfl)
theorem dX0_lessons_78 : decode cX0_lessons 78 = .ok (.iaload, 1) := dk_46 (dk_at dksX0_lessons_3 7 rfl rfl)
theorem dX0_lessons_79 : decode cX0_lessons 79 = .ok (.invokevirtual 309, 3) := dk_182 1 53 (dk_at dksX0_lessons_3 8 rfl rfl)
theorem dX0_lessons_82 : decode cX0_lessons 82 = .ok (.ifCond .lt 7, 3) := dk_155 0 7 (dk_at dksX0_lessons_3 11 rfl rfl)
theorem dX0_lessons_85 : decode cX0_lessons 85 = .ok (.iconst 1, 1) := dk_4 (dk_at dksX0_lessons_3 14 rfl rfl)
theorem dX0_lessons_86 : decode cX0_lessons 86 = .ok (.goto 4, 3) := dk_167 0 4 (dk_at dksX0_lessons_3 15 rfl rfl)
theorem dX0_lessons_89 : decode cX0_lessons 89 = .ok (.iconst 0, 1) := dk_3 (dk_at dksX0_lessons_3 18 rfl rfl)
theorem dX0_lessons_90 : decode cX0_lessons 90 = .ok (.iadd, 1) := dk_96 (dk_at dksX0_lessons_3 19 rfl rfl)
theorem dX0_lessons_91 : decode cX0_lessons 91 = .ok (.istore 5, 2) := dk_54 5 (dk_at dksX0_lessons_3 20 rfl rfl)
theorem dX0_lessons_93 : decode cX0_lessons 93 = .ok (.iinc 6 4, 3) := dk_132 6 4 (dk_at dksX0_lessons_4 0 rfl rfl)
theorem dX0_lessons_96 : decode cX0_lessons 96 = .ok (.goto (-54), 3) := dk_167 255 202 (dk_at dksX0_lessons_4 3 rfl rfl)
theorem dX0_lessons_99 : decode cX0_lessons 99 = .ok (.aload_n 0, 1) := dk_42 (dk_at dksX0_lessons_4 6 rfl rfl)
theorem dX0_lessons_100 : decode cX0_lessons 100 = .ok (.iload 5, 2) := dk_21 5 (dk_at dksX0_lessons_4 7 rfl rfl)
theorem dX0_lessons_102 : decode cX0_lessons 102 = .ok (.invokevirtual 145, 3) := dk_182 0 145 (dk_at dksX0_lessons_4 9 rfl rfl)
theorem dX0_lessons_105 : decode cX0_lessons 105 = .ok (.ireturn, 1) := dk_172 (dk_at dksX0_lessons_4 12 rfl rfl)
theorem dX0_lessons_106 : decode cX0_lessons 106 = .ok (.astore 4, 2) := dk_58 4 (dk_at dksX0_lessons_4 13 rfl rfl)
theorem dX0_lessons_108 : decode cX0_lessons 108 = .ok (.aload_n 0, 1) := dk_42 (dk_at dksX0_lessons_4 15 rfl rfl)
theorem dX0_lessons_109 : decode cX0_lessons 109 = .ok (.aload 4, 2) := dk_25 4 (dk_at dksX0_lessons_4 16 rfl rfl)
theorem dX0_lessons_111 : decode cX0_lessons 111 = .ok (.invokevirtual 148, 3) := dk_182 0 148 (dk_at dksX0_lessons_4 18 rfl rfl)
theorem dX0_lessons_114 : decode cX0_lessons 114 = .ok (.ireturn, 1) := dk_172 (dk_at dksX0_lessons_4 21 rfl rfl)
abbrev cX0_unteach : ByteArray := prog_1_method_43_code
def yX0_unteach : MethodName := ⟨RX0, "unteach", "(I)I"⟩
def dkwX0_unteach_2 : List UInt8 := [180, 0, 88, 27, 185, 1, 57, 2, 0, 192, 1, 38, 3, 181, 1, 61, 4, 172]
abbrev dktX0_unteach_2 : List UInt8 := dkwX0_unteach_2 ++ []
def dkwX0_unteach_1 : List UInt8 := [42, 180, 0, 88, 27, 185, 1, 57, 2, 0, 192, 1, 38, 180, 1, 61, 154, 0, 6, 18, 242, 172, 42]
abbrev dktX0_unteach_1 : List UInt8 := dkwX0_unteach_1 ++ dktX0_unteach_2
def dkwX0_unteach_0 : List UInt8 := [27, 133, 9, 42, 180, 0, 88, 185, 1, 32, 1, 0, 4, 100, 133, 184, 0, 128, 154, 0, 6, 18, 141, 172]
abbrev dktX0_unteach_0 : List UInt8 := dkwX0_unteach_0 ++ dktX0_unteach_1
theorem dksX0_unteach_0 : cX0_unteach.data.toList.drop 0 = dktX0_unteach_0 := by decide +kernel
theorem dksX0_unteach_1 : cX0_unteach.data.toList.drop 24 = dktX0_unteach_1 := dk_seg dksX0_unteach_0 24 rfl rfl
theorem dksX0_unteach_2 : cX0_unteach.data.toList.drop 47 = dktX0_unteach_2 := dk_seg dksX0_unteach_1 23 rfl rfl
theorem dX0_unteach_0 : decode cX0_unteach 0 = .ok (.iload_n 1, 1) := dk_27 (dk_at dksX0_unteach_0 0 rfl rfl)
theorem dX0_unteach_1 : decode cX0_unteach 1 = .ok (.i2l, 1) := dk_133 (dk_at dksX0_unteach_0 1 rfl rfl)
theorem dX0_unteach_2 : decode cX0_unteach 2 = .ok (.lconst 0, 1) := dk_9 (dk_at dksX0_unteach_0 2 rfl rfl)
theorem dX0_unteach_3 : decode cX0_unteach 3 = .ok (.aload_n 0, 1) := dk_42 (dk_at dksX0_unteach_0 3 rfl rfl)
theorem dX0_unteach_4 : decode cX0_unteach 4 = .ok (.getfield 88, 3) := dk_180 0 88 (dk_at dksX0_unteach_0 4 rfl rfl)
theorem dX0_unteach_7 : decode cX0_unteach 7 = .ok (.invokeinterface 288 1, 5) := by decide +kernel
theorem dX0_unteach_12 : decode cX0_unteach 12 = .ok (.iconst 1, 1) := dk_4 (dk_at dksX0_unteach_0 12 rfl rfl)
theorem dX0_unteach_13 : decode cX0_unteach 13 = .ok (.isub, 1) := dk_100 (dk_at dksX0_unteach_0 13 rfl rfl)
theorem dX0_unteach_14 : decode cX0_unteach 14 = .ok (.i2l, 1) := dk_133 (dk_at dksX0_unteach_0 14 rfl rfl)
theorem dX0_unteach_15 : decode cX0_unteach 15 = .ok (.invokestatic 128, 3) := dk_184 0 128 (dk_at dksX0_unteach_0 15 rfl rfl)
theorem dX0_unteach_18 : decode cX0_unteach 18 = .ok (.ifCond .ne 6, 3) := dk_154 0 6 (dk_at dksX0_unteach_0 18 rfl rfl)
theorem dX0_unteach_21 : decode cX0_unteach 21 = .ok (.ldc 141, 2) := dk_18 141 (dk_at dksX0_unteach_0 21 rfl rfl)
theorem dX0_unteach_23 : decode cX0_unteach 23 = .ok (.ireturn, 1) := dk_172 (dk_at dksX0_unteach_0 23 rfl rfl)
theorem dX0_unteach_24 : decode cX0_unteach 24 = .ok (.aload_n 0, 1) := dk_42 (dk_at dksX0_unteach_1 0 rfl rfl)
theorem dX0_unteach_25 : decode cX0_unteach 25 = .ok (.getfield 88, 3) := dk_180 0 88 (dk_at dksX0_unteach_1 1 rfl rfl)
theorem dX0_unteach_28 : decode cX0_unteach 28 = .ok (.iload_n 1, 1) := dk_27 (dk_at dksX0_unteach_1 4 rfl rfl)
theorem dX0_unteach_29 : decode cX0_unteach 29 = .ok (.invokeinterface 313 2, 5) := by decide +kernel
theorem dX0_unteach_34 : decode cX0_unteach 34 = .ok (.checkcast 294, 3) := dk_192 1 38 (dk_at dksX0_unteach_1 10 rfl rfl)
theorem dX0_unteach_37 : decode cX0_unteach 37 = .ok (.getfield 317, 3) := dk_180 1 61 (dk_at dksX0_unteach_1 13 rfl rfl)
theorem dX0_unteach_40 : decode cX0_unteach 40 = .ok (.ifCond .ne 6, 3) := dk_154 0 6 (dk_at dksX0_unteach_1 16 rfl rfl)
theorem dX0_unteach_43 : decode cX0_unteach 43 = .ok (.ldc 242, 2) := dk_18 242 (dk_at dksX0_unteach_1 19 rfl rfl)
theorem dX0_unteach_45 : decode cX0_unteach 45 = .ok (.ireturn, 1) := dk_172 (dk_at dksX0_unteach_1 21 rfl rfl)
theorem dX0_unteach_46 : decode cX0_unteach 46 = .ok (.aload_n 0, 1) := dk_42 (dk_at dksX0_unteach_1 22 rfl rfl)
theorem dX0_unteach_47 : decode cX0_unteach 47 = .ok (.getfield 88, 3) := dk_180 0 88 (dk_at dksX0_unteach_2 0 rfl rfl)
theorem dX0_unteach_50 : decode cX0_unteach 50 = .ok (.iload_n 1, 1) := dk_27 (dk_at dksX0_unteach_2 3 rfl rfl)
theorem dX0_unteach_51 : decode cX0_unteach 51 = .ok (.invokeinterface 313 2, 5) := by decide +kernel
theorem dX0_unteach_56 : decode cX0_unteach 56 = .ok (.checkcast 294, 3) := dk_192 1 38 (dk_at dksX0_unteach_2 9 rfl rfl)
theorem dX0_unteach_59 : decode cX0_unteach 59 = .ok (.iconst 0, 1) := dk_3 (dk_at dksX0_unteach_2 12 rfl rfl)
theorem dX0_unteach_60 : decode cX0_unteach 60 = .ok (.putfield 317, 3) := dk_181 1 61 (dk_at dksX0_unteach_2 13 rfl rfl)
theorem dX0_unteach_63 : decode cX0_unteach 63 = .ok (.iconst 1, 1) := dk_4 (dk_at dksX0_unteach_2 16 rfl rfl)
theorem dX0_unteach_64 : decode cX0_unteach 64 = .ok (.ireturn, 1) := dk_172 (dk_at dksX0_unteach_2 17 rfl rfl)
abbrev cX0_fits : ByteArray := prog_1_method_46_code
def yX0_fits : MethodName := ⟨RX0, "fits", "(I)I"⟩
def dkwX0_fits_2 : List UInt8 := [160, 0, 7, 28, 167, 0, 5, 18, 202, 172]
abbrev dktX0_fits_2 : List UInt8 := dkwX0_fits_2 ++ []
def dkwX0_fits_1 : List UInt8 := [153, 0, 6, 167, 0, 13, 28, 27, 160, 0, 5, 29, 172, 132, 2, 1, 132, 3, 1, 167, 255, 226, 27, 2]
abbrev dktX0_fits_1 : List UInt8 := dkwX0_fits_1 ++ dktX0_fits_2
def dkwX0_fits_0 : List UInt8 := [27, 2, 162, 0, 6, 18, 141, 172, 3, 61, 3, 62, 29, 16, 96, 162, 0, 30, 42, 29, 182, 1, 78]
abbrev dktX0_fits_0 : List UInt8 := dkwX0_fits_0 ++ dktX0_fits_1
theorem dksX0_fits_0 : cX0_fits.data.toList.drop 0 = dktX0_fits_0 := by decide +kernel
theorem dksX0_fits_1 : cX0_fits.data.toList.drop 23 = dktX0_fits_1 := dk_seg dksX0_fits_0 23 rfl rfl
theorem dksX0_fits_2 : cX0_fits.data.toList.drop 47 = dktX0_fits_2 := dk_seg dksX0_fits_1 24 rfl rfl
theorem dX0_fits_0 : decode cX0_fits 0 = .ok (.iload_n 1, 1) := dk_27 (dk_at dksX0_fits_0 0 rfl rfl)
theorem dX0_fits_1 : decode cX0_fits 1 = .ok (.iconst (-1), 1) := dk_2 (dk_at dksX0_fits_0 1 rfl rfl)
theorem dX0_fits_2 : decode cX0_fits 2 = .ok (.if_icmp .ge 6, 3) := dk_162 0 6 (dk_at dksX0_fits_0 2 rfl rfl)
theorem dX0_fits_5 : decode cX0_fits 5 = .ok (.ldc 141, 2) := dk_18 141 (dk_at dksX0_fits_0 5 rfl rfl)
theorem dX0_fits_7 : decode cX0_fits 7 = .ok (.ireturn, 1) := dk_172 (dk_at dksX0_fits_0 7 rfl rfl)
theorem dX0_fits_8 : decode cX0_fits 8 = .ok (.iconst 0, 1) := dk_3 (dk_at dksX0_fits_0 8 rfl rfl)
theorem dX0_fits_9 : decode cX0_fits 9 = .ok (.istore_n 2, 1) := dk_61 (dk_at dksX0_fits_0 9 rfl rfl)
theorem dX0_fits_10 : decode cX0_fits 10 = .ok (.iconst 0, 1) := dk_3 (dk_at dksX0_fits_0 10 rfl rfl)
theorem dX0_fits_11 : decode cX0_fits 11 = .ok (.istore_n 3, 1) := dk_62 (dk_at dksX0_fits_0 11 rfl rfl)
theorem dX0_fits_12 : decode cX0_fits 12 = .ok (.iload_n 3, 1) := dk_29 (dk_at dksX0_fits_0 12 rfl rfl)
theorem dX0_fits_13 : decode cX0_fits 13 = .ok (.bipush 96, 2) := dk_16 96 (dk_at dksX0_fits_0 13 rfl rfl)
theorem dX0_fits_15 : decode cX0_fits 15 = .ok (.if_icmp .ge 30, 3) := dk_162 0 30 (dk_at dksX0_fits_0 15 rfl rfl)
theorem dX0_fits_18 : decode cX0_fits 18 = .ok (.aload_n 0, 1) := dk_42 (dk_at dksX0_fits_0 18 rfl rfl)
theorem dX0_fits_19 : decode cX0_fits 19 = .ok (.iload_n 3, 1) := dk_29 (dk_at dksX0_fits_0 19 rfl rfl)
theorem dX0_fits_20 : decode cX0_fits 20 = .ok (.invokevirtual 334, 3) := dk_182 1 78 (dk_at dksX0_fits_0 20 rfl rfl)
theorem dX0_fits_23 : decode cX0_fits 23 = .ok (.ifCond .eq 6, 3) := dk_153 0 6 (dk_at dksX0_fits_1 0 rfl rfl)
theorem dX0_fits_26 : decode cX0_fits 26 = .ok (.goto 13, 3) := dk_167 0 13 (dk_at dksX0_fits_1 3 rfl rfl)
theorem dX0_fits_29 : decode cX0_fits 29 = .ok (.iload_n 2, 1) := dk_28 (dk_at dksX0_fits_1 6 rfl rfl)
theorem dX0_fits_30 : decode cX0_fits 30 = .ok (.iload_n 1, 1) := dk_27 (dk_at dksX0_fits_1 7 rfl rfl)
theorem dX0_fits_31 : decode cX0_fits 31 = .ok (.if_icmp .ne 5, 3) := dk_160 0 5 (dk_at dksX0_fits_1 8 rfl rfl)
theorem dX0_fits_34 : decode cX0_fits 34 = .ok (.iload_n 3, 1) := dk_29 (dk_at dksX0_fits_1 11 rfl rfl)
theorem dX0_fits_35 : decode cX0_fits 35 = .ok (.ireturn, 1) := dk_172 (dk_at dksX0_fits_1 12 rfl rfl)
theorem dX0_fits_36 : decode cX0_fits 36 = .ok (.iinc 2 1, 3) := dk_132 2 1 (dk_at dksX0_fits_1 13 rfl rfl)
theorem dX0_fits_39 : decode cX0_fits 39 = .ok (.iinc 3 1, 3) := dk_132 3 1 (dk_at dksX0_fits_1 16 rfl rfl)
theorem dX0_fits_42 : decode cX0_fits 42 = .ok (.goto (-30), 3) := dk_167 255 226 (dk_at dksX0_fits_1 19 rfl rfl)
theorem dX0_fits_45 : decode cX0_fits 45 = .ok (.iload_n 1, 1) := dk_27 (dk_at dksX0_fits_1 22 rfl rfl)
theorem dX0_fits_46 : decode cX0_fits 46 = .ok (.iconst (-1), 1) := dk_2 (dk_at dksX0_fits_1 23 rfl rfl)
theorem dX0_fits_47 : decode cX0_fits 47 = .ok (.if_icmp .ne 7, 3) := dk_160 0 7 (dk_at dksX0_fits_2 0 rfl rfl)
theorem dX0_fits_50 : decode cX0_fits 50 = .ok (.iload_n 2, 1) := dk_28 (dk_at dksX0_fits_2 3 rfl rfl)
theorem dX0_fits_51 : decode cX0_fits 51 = .ok (.goto 5, 3) := dk_167 0 5 (dk_at dksX0_fits_2 4 rfl rfl)
theorem dX0_fits_54 : decode cX0_fits 54 = .ok (.ldc 202, 2) := dk_18 202 (dk_at dksX0_fits_2 7 rfl rfl)
theorem dX0_fits_56 : decode cX0_fits 56 = .ok (.ireturn, 1) := dk_172 (dk_at dksX0_fits_2 9 rfl rfl)
abbrev cX0_barring : ByteArray := prog_1_method_45_code
def yX0_barring : MethodName := ⟨RX0, "barring", "(I)I"⟩
def dkwX0_barring_3 : List UInt8 := [132, 3, 1, 167, 255, 190, 28, 172]
abbrev dktX0_barring_3 : List UInt8 := dkwX0_barring_3 ++ []
def dkwX0_barring_2 : List UInt8 := [185, 1, 57, 2, 0, 192, 1, 38, 27, 182, 1, 74, 153, 0, 9, 4, 29, 120, 167, 0, 4, 3, 128, 61]
abbrev dktX0_barring_2 : List UInt8 := dkwX0_barring_2 ++ dktX0_barring_3
def dkwX0_barring_1 : List UInt8 := [185, 1, 57, 2, 0, 192, 1, 38, 180, 1, 61, 153, 0, 30, 42, 42, 180, 0, 88, 29]
abbrev dktX0_barring_1 : List UInt8 := dkwX0_barring_1 ++ dktX0_barring_2
def dkwX0_barring_0 : List UInt8 := [3, 61, 3, 62, 29, 42, 180, 0, 88, 185, 1, 32, 1, 0, 162, 0, 59, 28, 42, 180, 0, 88, 29]
abbrev dktX0_barring_0 : List UInt8 := dkwX0_barring_0 ++ dktX0_barring_1
theorem dksX0_barring_0 : cX0_barring.data.toList.drop 0 = dktX0_barring_0 := by decide +kernel
theorem dksX0_barring_1 : cX0_barring.data.toList.drop 23 = dktX0_barring_1 := dk_seg dksX0_barring_0 23 rfl rfl
theorem dksX0_barring_2 : cX0_barring.data.toList.drop 43 = dktX0_barring_2 := dk_seg dksX0_barring_1 20 rfl rfl
theorem dksX0_barring_3 : cX0_barring.data.toList.drop 67 = dktX0_barring_3 := dk_seg dksX0_barring_2 24 rfl rfl
theorem dX0_barring_0 : decode cX0_barring 0 = .ok (.iconst 0, 1) := dk_3 (dk_at dksX0_barring_0 0 rfl rfl)
theorem dX0_barring_1 : decode cX0_barring 1 = .ok (.istore_n 2, 1) := dk_61 (dk_at dksX0_barring_0 1 rfl rfl)
theorem dX0_barring_2 : decode cX0_barring 2 = .ok (.iconst 0, 1) := dk_3 (dk_at dksX0_barring_0 2 rfl rfl)
theorem dX0_barring_3 : decode cX0_barring 3 = .ok (.istore_n 3, 1) := dk_62 (dk_at dksX0_barring_0 3 rfl rfl)
theorem dX0_barring_4 : decode cX0_barring 4 = .ok (.iload_n 3, 1) := dk_29 (dk_at dksX0_barring_0 4 rfl rfl)
theorem dX0_barring_5 : decode cX0_barring 5 = .ok (.aload_n 0, 1) := dk_42 (dk_at dksX0_barring_0 5 rfl rfl)
theorem dX0_barring_6 : decode cX0_barring 6 = .ok (.getfield 88, 3) := dk_180 0 88 (dk_at dksX0_barring_0 6 rfl rfl)
theorem dX0_barring_9 : decode cX0_barring 9 = .ok (.invokeinterface 288 1, 5) := by decide +kernel
theorem dX0_barring_14 : decode cX0_barring 14 = .ok (.if_icmp .ge 59, 3) := dk_162 0 59 (dk_at dksX0_barring_0 14 rfl rfl)
theorem dX0_barring_17 : decode cX0_barring 17 = .ok (.iload_n 2, 1) := dk_28 (dk_at dksX0_barring_0 17 rfl rfl)
theorem dX0_barring_18 : decode cX0_barring 18 = .ok (.aload_n 0, 1) := dk_42 (dk_at dksX0_barring_0 18 rfl rfl)
theorem dX0_barring_19 : decode cX0_barring 19 = .ok (.getfield 88, 3) := dk_180 0 88 (dk_at dksX0_barring_0 19 rfl rfl)
theorem dX0_barring_22 : decode cX0_barring 22 = .ok (.iload_n 3, 1) := dk_29 (dk_at dksX0_barring_0 22 rfl rfl)
theorem dX0_barring_23 : decode cX0_barring 23 = .ok (.invokeinterface 313 2, 5) := by decide +kernel
theorem dX0_barring_28 : decode cX0_barring 28 = .ok (.checkcast 294, 3) := dk_192 1 38 (dk_at dksX0_barring_1 5 rfl rfl)
theorem dX0_barring_31 : decode cX0_barring 31 = .ok (.getfield 317, 3) := dk_180 1 61 (dk_at dksX0_barring_1 8 rfl rfl)
theorem dX0_barring_34 : decode cX0_barring 34 = .ok (.ifCond .eq 30, 3) := dk_153 0 30 (dk_at dksX0_barring_1 11 rfl rfl)
theorem dX0_barring_37 : decode cX0_barring 37 = .ok (.aload_n 0, 1) := dk_42 (dk_at dksX0_barring_1 14 rfl rfl)
theorem dX0_barring_38 : decode cX0_barring 38 = .ok (.aload_n 0, 1) := dk_42 (dk_at dksX0_barring_1 15 rfl rfl)
theorem dX0_barring_39 : decode cX0_barring 39 = .ok (.getfield 88, 3) := dk_180 0 88 (dk_at dksX0_barring_1 16 rfl rfl)
theorem dX0_barring_42 : decode cX0_barring 42 = .ok (.iload_n 3, 1) := dk_29 (dk_at dksX0_barring_1 19 rfl rfl)
theorem dX0_barring_43 : decode cX0_barring 43 = .ok (.invokeinterface 313 2, 5) := by decide +kernel
theorem dX0_barring_48 : decode cX0_barring 48 = .ok (.checkcast 294, 3) := dk_192 1 38 (dk_at dksX0_barring_2 5 rfl rfl)
theorem dX0_barring_51 : decode cX0_barring 51 = .ok (.iload_n 1, 1) := dk_27 (dk_at dksX0_barring_2 8 rfl rfl)
theorem dX0_barring_52 : decode cX0_barring 52 = .ok (.invokevirtual 330, 3) := dk_182 1 74 (dk_at dksX0_barring_2 9 rfl rfl)
theorem dX0_barring_55 : decode cX0_barring 55 = .ok (.ifCond .eq 9, 3) := dk_153 0 9 (dk_at dksX0_barring_2 12 rfl rfl)
theorem dX0_barring_58 : decode cX0_barring 58 = .ok (.iconst 1, 1) := dk_4 (dk_at dksX0_barring_2 15 rfl rfl)
theorem dX0_barring_59 : decode cX0_barring 59 = .ok (.iload_n 3, 1) := dk_29 (dk_at dksX0_barring_2 16 rfl rfl)
theorem dX0_barring_60 : decode cX0_barring 60 = .ok (.ishl, 1) := dk_120 (dk_at dksX0_barring_2 17 rfl rfl)
theorem dX0_barring_61 : decode cX0_barring 61 = .ok (.goto 4, 3) := dk_167 0 4 (dk_at dksX0_barring_2 18 rfl rfl)
theorem dX0_barring_64 : decode cX0_barring 64 = .ok (.iconst 0, 1) := dk_3 (dk_at dksX0_barring_2 21 rfl rfl)
theorem dX0_barring_65 : decode cX0_barring 65 = .ok (.ior, 1) := dk_128 (dk_at dksX0_barring_2 22 rfl rfl)
theorem dX0_barring_66 : decode cX0_barring 66 = .ok (.istore_n 2, 1) := dk_61 (dk_at dksX0_barring_2 23 rfl rfl)
theorem dX0_barring_67 : decode cX0_barring 67 = .ok (.iinc 3 1, 3) := dk_132 3 1 (dk_at dksX0_barring_3 0 rfl rfl)
theorem dX0_barring_70 : decode cX0_barring 70 = .ok (.goto (-66), 3) := dk_167 255 190 (dk_at dksX0_barring_3 3 rfl rfl)
theorem dX0_barring_73 : decode cX0_barring 73 = .ok (.iload_n 2, 1) := dk_28 (dk_at dksX0_barring_3 6 rfl rfl)
theorem dX0_barring_74 : decode cX0_barring 74 = .ok (.ireturn, 1) := dk_172 (dk_at dksX0_barring_3 7 rfl rfl)
abbrev cX0_isBarring : ByteArray := prog_1_method_44_code
def yX0_isBarring : MethodName := ⟨RX0, "isBarring", "(LTableArms$Lesson;I)Z"⟩
def dkwX0_isBarring_3 : List UInt8 := [167, 0, 4, 3, 172]
abbrev dktX0_isBarring_3 : List UInt8 := dkwX0_isBarring_3 ++ []
def dkwX0_isBarring_2 : List UInt8 := [180, 0, 173, 182, 0, 254, 153, 0, 7, 4, 167, 0, 4, 3, 62, 29, 43, 180, 1, 71, 160, 0, 7, 4]
abbrev dktX0_isBarring_2 : List UInt8 := dkwX0_isBarring_2 ++ dktX0_isBarring_3
def dkwX0_isBarring_1 : List UInt8 := [182, 1, 27, 18, 202, 159, 0, 30, 42, 180, 0, 73, 42, 180, 0, 69, 43, 180, 1, 68, 50, 42]
abbrev dktX0_isBarring_1 : List UInt8 := dkwX0_isBarring_1 ++ dktX0_isBarring_2
def dkwX0_isBarring_0 : List UInt8 := [42, 180, 0, 73, 42, 180, 0, 69, 43, 180, 1, 65, 50, 182, 0, 247, 42, 42, 180, 0, 73, 28]
abbrev dktX0_isBarring_0 : List UInt8 := dkwX0_isBarring_0 ++ dktX0_isBarring_1
theorem dksX0_isBarring_0 : cX0_isBarring.data.toList.drop 0 = dktX0_isBarring_0 := by decide +kernel
theorem dksX0_isBarring_1 : cX0_isBarring.data.toList.drop 22 = dktX0_isBarring_1 := dk_seg dksX0_isBarring_0 22 rfl rfl
theorem dksX0_isBarring_2 : cX0_isBarring.data.toList.drop 44 = dktX0_isBarring_2 := dk_seg dksX0_isBarring_1 22 rfl rfl
theorem dksX0_isBarring_3 : cX0_isBarring.data.toList.drop 68 = dktX0_isBarring_3 := dk_seg dksX0_isBarring_2 24 rfl rfl
theorem dX0_isBarring_0 : decode cX0_isBarring 0 = .ok (.aload_n 0, 1) := dk_42 (dk_at dksX0_isBarring_0 0 rfl rfl)
theorem dX0_isBarring_1 : decode cX0_isBarring 1 = .ok (.getfield 73, 3) := dk_180 0 73 (dk_at dksX0_isBarring_0 1 rfl rfl)
theorem dX0_isBarring_4 : decode cX0_isBarring 4 = .ok (.aload_n 0, 1) := dk_42 (dk_at dksX0_isBarring_0 4 rfl rfl)
theorem dX0_isBarring_5 : decode cX0_isBarring 5 = .ok (.getfield 69, 3) := dk_180 0 69 (dk_at dksX0_isBarring_0 5 rfl rfl)
theorem dX0_isBarring_8 : decode cX0_isBarring 8 = .ok (.aload_n 1, 1) := dk_43 (dk_at dksX0_isBarring_0 8 rfl rfl)
theorem dX0_isBarring_9 : decode cX0_isBarring 9 = .ok (.getfield 321, 3) := dk_180 1 65 (dk_at dksX0_isBarring_0 9 rfl rfl)
theorem dX0_isBarring_12 : decode cX0_isBarring 12 = .ok (.aaload, 1) := dk_50 (dk_at dksX0_isBarring_0 12 rfl rfl)
theorem dX0_isBarring_13 : decode cX0_isBarring 13 = .ok (.invokevirtual 247, 3) := dk_182 0 247 (dk_at dksX0_isBarring_0 13 rfl rfl)
theorem dX0_isBarring_16 : decode cX0_isBarring 16 = .ok (.aload_n 0, 1) := dk_42 (dk_at dksX0_isBarring_0 16 rfl rfl)
theorem dX0_isBarring_17 : decode cX0_isBarring 17 = .ok (.aload_n 0, 1) := dk_42 (dk_at dksX0_isBarring_0 17 rfl rfl)
theorem dX0_isBarring_18 : decode cX0_isBarring 18 = .ok (.getfield 73, 3) := dk_180 0 73 (dk_at dksX0_isBarring_0 18 rfl rfl)
theorem dX0_isBarring_21 : decode cX0_isBarring 21 = .ok (.iload_n 2, 1) := dk_28 (dk_at dksX0_isBarring_0 21 rfl rfl)
theorem dX0_isBarring_22 : decode cX0_isBarring 22 = .ok (.invokevirtual 283, 3) := dk_182 1 27 (dk_at dksX0_isBarring_1 0 rfl rfl)
theorem dX0_isBarring_25 : decode cX0_isBarring 25 = .ok (.ldc 202, 2) := dk_18 202 (dk_at dksX0_isBarring_1 3 rfl rfl)
theorem dX0_isBarring_27 : decode cX0_isBarring 27 = .ok (.if_icmp .eq 30, 3) := dk_159 0 30 (dk_at dksX0_isBarring_1 5 rfl rfl)
theorem dX0_isBarring_30 : decode cX0_isBarring 30 = .ok (.aload_n 0, 1) := dk_42 (dk_at dksX0_isBarring_1 8 rfl rfl)
theorem dX0_isBarring_31 : decode cX0_isBarring 31 = .ok (.getfield 73, 3) := dk_180 0 73 (dk_at dksX0_isBarring_1 9 rfl rfl)
theorem dX0_isBarring_34 : decode cX0_isBarring 34 = .ok (.aload_n 0, 1) := dk_42 (dk_at dksX0_isBarring_1 12 rfl rfl)
theorem dX0_isBarring_35 : decode cX0_isBarring 35 = .ok (.getfield 69, 3) := dk_180 0 69 (dk_at dksX0_isBarring_1 13 rfl rfl)
theorem dX0_isBarring_38 : decode cX0_isBarring 38 = .ok (.aload_n 1, 1) := dk_43 (dk_at dksX0_isBarring_1 16 rfl rfl)
theorem dX0_isBarring_39 : decode cX0_isBarring 39 = .ok (.getfield 324, 3) := dk_180 1 68 (dk_at dksX0_isBarring_1 17 rfl rfl)
theorem dX0_isBarring_42 : decode cX0_isBarring 42 = .ok (.aaload, 1) := dk_50 (dk_at dksX0_isBarring_1 20 rfl rfl)
theorem dX0_isBarring_43 : decode cX0_isBarring 43 = .ok (.aload_n 0, 1) := dk_42 (dk_at dksX0_isBarring_1 21 rfl rfl)
theorem dX0_isBarring_44 : decode cX0_isBarring 44 = .ok (.getfield 173, 3) := dk_180 0 173 (dk_at dksX0_isBarring_2 0 rfl rfl)
theorem dX0_isBarring_47 : decode cX0_isBarring 47 = .ok (.invokevirtual 254, 3) := dk_182 0 254 (dk_at dksX0_isBarring_2 3 rfl rfl)
theorem dX0_isBarring_50 : decode cX0_isBarring 50 = .ok (.ifCond .eq 7, 3) := dk_153 0 7 (dk_at dksX0_isBarring_2 6 rfl rfl)
theorem dX0_isBarring_53 : decode cX0_isBarring 53 = .ok (.iconst 1, 1) := dk_4 (dk_at dksX0_isBarring_2 9 rfl rfl)
theorem dX0_isBarring_54 : decode cX0_isBarring 54 = .ok (.goto 4, 3) := dk_167 0 4 (dk_at dksX0_isBarring_2 10 rfl rfl)
theorem dX0_isBarring_57 : decode cX0_isBarring 57 = .ok (.iconst 0, 1) := dk_3 (dk_at dksX0_isBarring_2 13 rfl rfl)
theorem dX0_isBarring_58 : decode cX0_isBarring 58 = .ok (.istore_n 3, 1) := dk_62 (dk_at dksX0_isBarring_2 14 rfl rfl)
theorem dX0_isBarring_59 : decode cX0_isBarring 59 = .ok (.iload_n 3, 1) := dk_29 (dk_at dksX0_isBarring_2 15 rfl rfl)
theorem dX0_isBarring_60 : decode cX0_isBarring 60 = .ok (.aload_n 1, 1) := dk_43 (dk_at dksX0_isBarring_2 16 rfl rfl)
theorem dX0_isBarring_61 : decode cX0_isBarring 61 = .ok (.getfield 327, 3) := dk_180 1 71 (dk_at dksX0_isBarring_2 17 rfl rfl)
theorem dX0_isBarring_64 : decode cX0_isBarring 64 = .ok (.if_icmp .ne 7, 3) := dk_160 0 7 (dk_at dksX0_isBarring_2 20 rfl rfl)
theorem dX0_isBarring_67 : decode cX0_isBarring 67 = .ok (.iconst 1, 1) := dk_4 (dk_at dksX0_isBarring_2 23 rfl rfl)
theorem dX0_isBarring_68 : decode cX0_isBarring 68 = .ok (.goto 4, 3) := dk_167 0 4 (dk_at dksX0_isBarring_3 0 rfl rfl)
theorem dX0_isBarring_71 : decode cX0_isBarring 71 = .ok (.iconst 0, 1) := dk_3 (dk_at dksX0_isBarring_3 3 rfl rfl)
theorem dX0_isBarring_72 : decode cX0_isBarring 72 = .ok (.ireturn, 1) := dk_172 (dk_at dksX0_isBarring_3 4 rfl rfl)
abbrev cX0_barred : ByteArray := prog_1_method_47_code
def yX0_barred : MethodName := ⟨RX0, "barred", "(II)I"⟩
def dkwX0_barred_2 : List UInt8 := [167, 0, 20, 42, 180, 0, 88, 21, 4, 185, 1, 57, 2, 0, 192, 1, 38, 180, 1, 86, 172]
abbrev dktX0_barred_2 : List UInt8 := dkwX0_barred_2 ++ []
def dkwX0_barred_1 : List UInt8 := [182, 1, 78, 62, 29, 154, 0, 6, 18, 202, 172, 29, 184, 1, 81, 54, 4, 28, 154, 0, 8, 21, 4]
abbrev dktX0_barred_1 : List UInt8 := dkwX0_barred_1 ++ dktX0_barred_2
def dkwX0_barred_0 : List UInt8 := [27, 184, 1, 24, 153, 0, 13, 28, 133, 9, 10, 184, 0, 128, 154, 0, 6, 18, 141, 172, 42, 27]
abbrev dktX0_barred_0 : List UInt8 := dkwX0_barred_0 ++ dktX0_barred_1
theorem dksX0_barred_0 : cX0_barred.data.toList.drop 0 = dktX0_barred_0 := by decide +kernel
theorem dksX0_barred_1 : cX0_barred.data.toList.drop 22 = dktX0_barred_1 := dk_seg dksX0_barred_0 22 rfl rfl
theorem dksX0_barred_2 : cX0_barred.data.toList.drop 45 = dktX0_barred_2 := dk_seg dksX0_barred_1 23 rfl rfl
theorem dX0_barred_0 : decode cX0_barred 0 = .ok (.iload_n 1, 1) := dk_27 (dk_at dksX0_barred_0 0 rfl rfl)
theorem dX0_barred_1 : decode cX0_barred 1 = .ok (.invokestatic 280, 3) := dk_184 1 24 (dk_at dksX0_barred_0 1 rfl rfl)
theorem dX0_barred_4 : decode cX0_barred 4 = .ok (.ifCond .eq 13, 3) := dk_153 0 13 (dk_at dksX0_barred_0 4 rfl rfl)
theorem dX0_barred_7 : decode cX0_barred 7 = .ok (.iload_n 2, 1) := dk_28 (dk_at dksX0_barred_0 7 rfl rfl)
theorem dX0_barred_8 : decode cX0_barred 8 = .ok (.i2l, 1) := dk_133 (dk_at dksX0_barred_0 8 rfl rfl)
theorem dX0_barred_9 : decode cX0_barred 9 = .ok (.lconst 0, 1) := dk_9 (dk_at dksX0_barred_0 9 rfl rfl)
theorem dX0_barred_10 : decode cX0_barred 10 = .ok (.lconst 1, 1) := dk_10 (dk_at dksX0_barred_0 10 rfl rfl)
theorem dX0_barred_11 : decode cX0_barred 11 = .ok (.invokestatic 128, 3) := dk_184 0 128 (dk_at dksX0_barred_0 11 rfl rfl)
theorem dX0_barred_14 : decode cX0_barred 14 = .ok (.ifCond .ne 6, 3) := dk_154 0 6 (dk_at dksX0_barred_0 14 rfl rfl)
theorem dX0_barred_17 : decode cX0_barred 17 = .ok (.ldc 141, 2) := dk_18 141 (dk_at dksX0_barred_0 17 rfl rfl)
theorem dX0_barred_19 : decode cX0_barred 19 = .ok (.ireturn, 1) := dk_172 (dk_at dksX0_barred_0 19 rfl rfl)
theorem dX0_barred_20 : decode cX0_barred 20 = .ok (.aload_n 0, 1) := dk_42 (dk_at dksX0_barred_0 20 rfl rfl)
theorem dX0_barred_21 : decode cX0_barred 21 = .ok (.iload_n 1, 1) := dk_27 (dk_at dksX0_barred_0 21 rfl rfl)
theorem dX0_barred_22 : decode cX0_barred 22 = .ok (.invokevirtual 334, 3) := dk_182 1 78 (dk_at dksX0_barred_1 0 rfl rfl)
theorem dX0_barred_25 : decode cX0_barred 25 = .ok (.istore_n 3, 1) := dk_62 (dk_at dksX0_barred_1 3 rfl rfl)
theorem dX0_barred_26 : decode cX0_barred 26 = .ok (.iload_n 3, 1) := dk_29 (dk_at dksX0_barred_1 4 rfl rfl)
theorem dX0_barred_27 : decode cX0_barred 27 = .ok (.ifCond .ne 6, 3) := dk_154 0 6 (dk_at dksX0_barred_1 5 rfl rfl)
theorem dX0_barred_30 : decode cX0_barred 30 = .ok (.ldc 202, 2) := dk_18 202 (dk_at dksX0_barred_1 8 rfl rfl)
theorem dX0_barred_32 : decode cX0_barred 32 = .ok (.ireturn, 1) := dk_172 (dk_at dksX0_barred_1 10 rfl rfl)
theorem dX0_barred_33 : decode cX0_barred 33 = .ok (.iload_n 3, 1) := dk_29 (dk_at dksX0_barred_1 11 rfl rfl)
theorem dX0_barred_34 : decode cX0_barred 34 = .ok (.invokestatic 337, 3) := dk_184 1 81 (dk_at dksX0_barred_1 12 rfl rfl)
theorem dX0_barred_37 : decode cX0_barred 37 = .ok (.istore 4, 2) := dk_54 4 (dk_at dksX0_barred_1 15 rfl rfl)
theorem dX0_barred_39 : decode cX0_barred 39 = .ok (.iload_n 2, 1) := dk_28 (dk_at dksX0_barred_1 17 rfl rfl)
theorem dX0_barred_40 : decode cX0_barred 40 = .ok (.ifCond .ne 8, 3) := dk_154 0 8 (dk_at dksX0_barred_1 18 rfl rfl)
theorem dX0_barred_43 : decode cX0_barred 43 = .ok (.iload 4, 2) := dk_21 4 (dk_at dksX0_barred_1 21 rfl rfl)
theorem dX0_barred_45 : decode cX0_barred 45 = .ok (.goto 20, 3) := dk_167 0 20 (dk_at dksX0_barred_2 0 rfl rfl)
theorem dX0_barred_48 : decode cX0_barred 48 = .ok (.aload_n 0, 1) := dk_42 (dk_at dksX0_barred_2 3 rfl rfl)
theorem dX0_barred_49 : decode cX0_barred 49 = .ok (.getfield 88, 3) := dk_180 0 88 (dk_at dksX0_barred_2 4 rfl rfl)
theorem dX0_barred_52 : decode cX0_barred 52 = .ok (.iload 4, 2) := dk_21 4 (dk_at dksX0_barred_2 7 rfl rfl)
theorem dX0_barred_54 : decode cX0_barred 54 = .ok (.invokeinterface 313 2, 5) := by decide +kernel
theorem dX0_barred_59 : decode cX0_barred 59 = .ok (.checkcast 294, 3) := dk_192 1 38 (dk_at dksX0_barred_2 14 rfl rfl)
theorem dX0_barred_62 : decode cX0_barred 62 = .ok (.getfield 342, 3) := dk_180 1 86 (dk_at dksX0_barred_2 17 rfl rfl)
theorem dX0_barred_65 : decode cX0_barred 65 = .ok (.ireturn, 1) := dk_172 (dk_at dksX0_barred_2 20 rfl rfl)
abbrev cX0_question : ByteArray := prog_1_method_49_code
def yX0_question : MethodName := ⟨RX0, "question", "(I)I"⟩
def dkwX0_question_4 : List UInt8 := [21, 5, 62, 132, 4, 1, 167, 255, 210, 27, 154, 0, 7, 28, 167, 0, 4, 29, 172]
abbrev dktX0_question_4 : List UInt8 := dkwX0_question_4 ++ []
def dkwX0_question_3 : List UInt8 := [50, 182, 1, 89, 54, 5, 28, 18, 202, 159, 0, 12, 21, 5, 29, 163, 0, 6, 167, 0, 9, 21, 4, 61]
abbrev dktX0_question_3 : List UInt8 := dkwX0_question_3 ++ dktX0_question_4
def dkwX0_question_2 : List UInt8 := [18, 202, 61, 3, 62, 3, 54, 4, 21, 4, 42, 180, 0, 190, 162, 0, 43, 42, 42, 180, 0, 69, 21, 4]
abbrev dktX0_question_2 : List UInt8 := dkwX0_question_2 ++ dktX0_question_3
def dkwX0_question_1 : List UInt8 := [180, 0, 106, 28, 42, 28, 182, 1, 78, 154, 0, 7, 4, 167, 0, 4, 3, 84, 132, 2, 1, 167, 255, 228]
abbrev dktX0_question_1 : List UInt8 := dkwX0_question_1 ++ dktX0_question_2
def dkwX0_question_0 : List UInt8 := [27, 133, 9, 10, 184, 0, 128, 154, 0, 6, 18, 141, 172, 3, 61, 28, 16, 96, 162, 0, 28, 42]
abbrev dktX0_question_0 : List UInt8 := dkwX0_question_0 ++ dktX0_question_1
theorem dksX0_question_0 : cX0_question.data.toList.drop 0 = dktX0_question_0 := by decide +kernel
theorem dksX0_question_1 : cX0_question.data.toList.drop 22 = dktX0_question_1 := dk_seg dksX0_question_0 22 rfl rfl
theorem dksX0_question_2 : cX0_question.data.toList.drop 46 = dktX0_question_2 := dk_seg dksX0_question_1 24 rfl rfl
theorem dksX0_question_3 : cX0_question.data.toList.drop 70 = dktX0_question_3 := dk_seg dksX0_question_2 24 rfl rfl
theorem dksX0_question_4 : cX0_question.data.toList.drop 94 = dktX0_question_4 := dk_seg dksX0_question_3 24 rfl rfl
theorem dX0_question_0 : decode cX0_question 0 = .ok (.iload_n 1, 1) := dk_27 (dk_at dksX0_question_0 0 rfl rfl)
theorem dX0_question_1 : decode cX0_question 1 = .ok (.i2l, 1) := dk_133 (dk_at dksX0_question_0 1 rfl rfl)
theorem dX0_question_2 : decode cX0_question 2 = .ok (.lconst 0, 1) := dk_9 (dk_at dksX0_question_0 2 rfl rfl)
theorem dX0_question_3 : decode cX0_question 3 = .ok (.lconst 1, 1) := dk_10 (dk_at dksX0_question_0 3 rfl rfl)
theorem dX0_question_4 : decode cX0_question 4 = .ok (.invokestatic 128, 3) := dk_184 0 128 (dk_at dksX0_question_0 4 rfl rfl)
theorem dX0_question_7 : decode cX0_question 7 = .ok (.ifCond .ne 6, 3) := dk_154 0 6 (dk_at dksX0_question_0 7 rfl rfl)
theorem dX0_question_10 : decode cX0_question 10 = .ok (.ldc 141, 2) := dk_18 141 (dk_at dksX0_question_0 10 rfl rfl)
theorem dX0_question_12 : decode cX0_question 12 = .ok (.ireturn, 1) := dk_172 (dk_at dksX0_question_0 12 rfl rfl)
theorem dX0_question_13 : decode cX0_question 13 = .ok (.iconst 0, 1) := dk_3 (dk_at dksX0_question_0 13 rfl rfl)
theorem dX0_question_14 : decode cX0_question 14 = .ok (.istore_n 2, 1) := dk_61 (dk_at dksX0_question_0 14 rfl rfl)
theorem dX0_question_15 : decode cX0_question 15 = .ok (.iload_n 2, 1) := dk_28 (dk_at dksX0_question_0 15 rfl rfl)
theorem dX0_question_16 : decode cX0_question 16 = .ok (.bipush 96, 2) := dk_16 96 (dk_at dksX0_question_0 16 rfl rfl)
theorem dX0_question_18 : decode cX0_question 18 = .ok (.if_icmp .ge 28, 3) := dk_162 0 28 (dk_at dksX0_question_0 18 rfl rfl)
theorem dX0_question_21 : decode cX0_question 21 = .ok (.aload_n 0, 1) := dk_42 (dk_at dksX0_question_0 21 rfl rfl)
theorem dX0_question_22 : decode cX0_question 22 = .ok (.getfield 106, 3) := dk_180 0 106 (dk_at dksX0_question_1 0 rfl rfl)
theorem dX0_question_25 : decode cX0_question 25 = .ok (.iload_n 2, 1) := dk_28 (dk_at dksX0_question_1 3 rfl rfl)
theorem dX0_question_26 : decode cX0_question 26 = .ok (.aload_n 0, 1) := dk_42 (dk_at dksX0_question_1 4 rfl rfl)
theorem dX0_question_27 : decode cX0_question 27 = .ok (.iload_n 2, 1) := dk_28 (dk_at dksX0_question_1 5 rfl rfl)
theorem dX0_question_28 : decode cX0_question 28 = .ok (.invokevirtual 334, 3) := dk_182 1 78 (dk_at dksX0_question_1 6 rfl rfl)
theorem dX0_question_31 : decode cX0_question 31 = .ok (.ifCond .ne 7, 3) := dk_154 0 7 (dk_at dksX0_question_1 9 rfl rfl)
theorem dX0_question_34 : decode cX0_question 34 = .ok (.iconst 1, 1) := dk_4 (dk_at dksX0_question_1 12 rfl rfl)
theorem dX0_question_35 : decode cX0_question 35 = .ok (.goto 4, 3) := dk_167 0 4 (dk_at dksX0_question_1 13 rfl rfl)
theorem dX0_question_38 : decode cX0_question 38 = .ok (.iconst 0, 1) := dk_3 (dk_at dksX0_question_1 16 rfl rfl)
theorem dX0_question_39 : decode cX0_question 39 = .ok (.bastore, 1) := dk_84 (dk_at dksX0_question_1 17 rfl rfl)
theorem dX0_question_40 : decode cX0_question 40 = .ok (.iinc 2 1, 3) := dk_132 2 1 (dk_at dksX0_question_1 18 rfl rfl)
theorem dX0_question_43 : decode cX0_question 43 = .ok (.goto (-28), 3) := dk_167 255 228 (dk_at dksX0_question_1 21 rfl rfl)
theorem dX0_question_46 : decode cX0_question 46 = .ok (.ldc 202, 2) := dk_18 202 (dk_at dksX0_question_2 0 rfl rfl)
theorem dX0_question_48 : decode cX0_question 48 = .ok (.istore_n 2, 1) := dk_61 (dk_at dksX0_question_2 2 rfl rfl)
theorem dX0_question_49 : decode cX0_question 49 = .ok (.iconst 0, 1) := dk_3 (dk_at dksX0_question_2 3 rfl rfl)
theorem dX0_question_50 : decode cX0_question 50 = .ok (.istore_n 3, 1) := dk_62 (dk_at dksX0_question_2 4 rfl rfl)
theorem dX0_question_51 : decode cX0_question 51 = .ok (.iconst 0, 1) := dk_3 (dk_at dksX0_question_2 5 rfl rfl)
theorem dX0_question_52 : decode cX0_question 52 = .ok (.istore 4, 2) := dk_54 4 (dk_at dksX0_question_2 6 rfl rfl)
theorem dX0_question_54 : decode cX0_question 54 = .ok (.iload 4, 2) := dk_21 4 (dk_at dksX0_question_2 8 rfl rfl)
theorem dX0_question_56 : decode cX0_question 56 = .ok (.aload_n 0, 1) := dk_42 (dk_at dksX0_question_2 10 rfl rfl)
theorem dX0_question_57 : decode cX0_question 57 = .ok (.getfield 190, 3) := dk_180 0 190 (dk_at dksX0_question_2 11 rfl rfl)
theorem dX0_question_60 : decode cX0_question 60 = .ok (.if_icmp .ge 43, 3) := dk_162 0 43 (dk_at dksX0_question_2 14 rfl rfl)
theorem dX0_question_63 : decode cX0_question 63 = .ok (.aload_n 0, 1) := dk_42 (dk_at dksX0_question_2 17 rfl rfl)
theorem dX0_question_64 : decode cX0_question 64 = .ok (.aload_n 0, 1) := dk_42 (dk_at dksX0_question_2 18 rfl rfl)
theorem dX0_question_65 : decode cX0_question 65 = .ok (.getfield 69, 3) := dk_180 0 69 (dk_at dksX0_question_2 19 rfl rfl)
theorem dX0_question_68 : decode cX0_question 68 = .ok (.iload 4, 2) := dk_21 4 (dk_at dksX0_question_2 22 rfl rfl)
theorem dX0_question_70 : decode cX0_question 70 = .ok (.aaload, 1) := dk_50 (dk_at dksX0_question_3 0 rfl rfl)
theorem dX0_question_71 : decode cX0_question 71 = .ok (.invokevirtual 345, 3) := dk_182 1 89 (dk_at dksX0_question_3 1 rfl rfl)
theorem dX0_question_74 : decode cX0_question 74 = .ok (.istore 5, 2) := dk_54 5 (dk_at dksX0_question_3 4 rfl rfl)
theorem dX0_question_76 : decode cX0_question 76 = .ok (.iload_n 2, 1) := dk_28 (dk_at dksX0_question_3 6 rfl rfl)
theorem dX0_question_77 : decode cX0_question 77 = .ok (.ldc 202, 2) := dk_18 202 (dk_at dksX0_question_3 7 rfl rfl)
theorem dX0_question_79 : decode cX0_question 79 = .ok (.if_icmp .eq 12, 3) := dk_159 0 12 (dk_at dksX0_question_3 9 rfl rfl)
theorem dX0_question_82 : decode cX0_question 82 = .ok (.iload 5, 2) := dk_21 5 (dk_at dksX0_question_3 12 rfl rfl)
theorem dX0_question_84 : decode cX0_question 84 = .ok (.iload_n 3, 1) := dk_29 (dk_at dksX0_question_3 14 rfl rfl)
theorem dX0_question_85 : decode cX0_question 85 = .ok (.if_icmp .gt 6, 3) := dk_163 0 6 (dk_at dksX0_question_3 15 rfl rfl)
theorem dX0_question_88 : decode cX0_question 88 = .ok (.goto 9, 3) := dk_167 0 9 (dk_at dksX0_question_3 18 rfl rfl)
theorem dX0_question_91 : decode cX0_question 91 = .ok (.iload 4, 2) := dk_21 4 (dk_at dksX0_question_3 21 rfl rfl)
theorem dX0_question_93 : decode cX0_question 93 = .ok (.istore_n 2, 1) := dk_61 (dk_at dksX0_question_3 23 rfl rfl)
theorem dX0_question_94 : decode cX0_question 94 = .ok (.iload 5, 2) := dk_21 5 (dk_at dksX0_question_4 0 rfl rfl)
theorem dX0_question_96 : decode cX0_question 96 = .ok (.istore_n 3, 1) := dk_62 (dk_at dksX0_question_4 2 rfl rfl)
theorem dX0_question_97 : decode cX0_question 97 = .ok (.iinc 4 1, 3) := dk_132 4 1 (dk_at dksX0_question_4 3 rfl rfl)
theorem dX0_question_100 : decode cX0_question 100 = .ok (.goto (-46), 3) := dk_167 255 210 (dk_at dksX0_question_4 6 rfl rfl)
theorem dX0_question_103 : decode cX0_question 103 = .ok (.iload_n 1, 1) := dk_27 (dk_at dksX0_question_4 9 rfl rfl)
theorem dX0_question_104 : decode cX0_question 104 = .ok (.ifCond .ne 7, 3) := dk_154 0 7 (dk_at dksX0_question_4 10 rfl rfl)
theorem dX0_question_107 : decode cX0_question 107 = .ok (.iload_n 2, 1) := dk_28 (dk_at dksX0_question_4 13 rfl rfl)
theorem dX0_question_108 : decode cX0_question 108 = .ok (.goto 4, 3) := dk_167 0 4 (dk_at dksX0_question_4 14 rfl rfl)
theorem dX0_question_111 : decode cX0_question 111 = .ok (.iload_n 3, 1) := dk_29 (dk_at dksX0_question_4 17 rfl rfl)
theorem dX0_question_112 : decode cX0_question 112 = .ok (.ireturn, 1) := dk_172 (dk_at dksX0_question_4 18 rfl rfl)
abbrev cX0_unlike : ByteArray := prog_1_method_48_code
def yX0_unlike : MethodName := ⟨RX0, "unlike", "(LTableArms$Table;)I"⟩
def dkwX0_unlike_6 : List UInt8 := [167, 0, 4, 3, 96, 172]
abbrev dktX0_unlike_6 : List UInt8 := dkwX0_unlike_6 ++ []
def dkwX0_unlike_5 : List UInt8 := [153, 0, 7, 4, 167, 0, 4, 3, 96, 62, 132, 4, 1, 167, 255, 137, 29, 28, 153, 0, 7, 4]
abbrev dktX0_unlike_5 : List UInt8 := dkwX0_unlike_5 ++ dktX0_unlike_6
def dkwX0_unlike_4 : List UInt8 := [182, 0, 254, 154, 0, 7, 4, 167, 0, 4, 3, 126, 54, 5, 132, 6, 1, 167, 255, 214, 29, 21, 5]
abbrev dktX0_unlike_4 : List UInt8 := dkwX0_unlike_4 ++ dktX0_unlike_5
def dkwX0_unlike_3 : List UInt8 := [162, 0, 42, 21, 5, 42, 180, 0, 79, 21, 6, 50, 42, 180, 0, 79, 29, 50, 42, 180, 0, 173]
abbrev dktX0_unlike_3 : List UInt8 := dkwX0_unlike_3 ++ dktX0_unlike_4
def dkwX0_unlike_2 : List UInt8 := [182, 1, 27, 18, 202, 160, 0, 8, 4, 61, 167, 0, 67, 4, 54, 5, 3, 54, 6, 21, 6, 29]
abbrev dktX0_unlike_2 : List UInt8 := dkwX0_unlike_2 ++ dktX0_unlike_3
def dkwX0_unlike_1 : List UInt8 := [167, 0, 99, 42, 180, 0, 79, 29, 50, 43, 182, 0, 247, 42, 42, 180, 0, 79, 29, 50, 21, 4]
abbrev dktX0_unlike_1 : List UInt8 := dkwX0_unlike_1 ++ dktX0_unlike_2
def dkwX0_unlike_0 : List UInt8 := [3, 61, 3, 62, 3, 54, 4, 21, 4, 16, 96, 162, 0, 118, 42, 180, 0, 106, 21, 4, 51, 154, 0, 6]
abbrev dktX0_unlike_0 : List UInt8 := dkwX0_unlike_0 ++ dktX0_unlike_1
theorem dksX0_unlike_0 : cX0_unlike.data.toList.drop 0 = dktX0_unlike_0 := by decide +kernel
theorem dksX0_unlike_1 : cX0_unlike.data.toList.drop 24 = dktX0_unlike_1 := dk_seg dksX0_unlike_0 24 rfl rfl
theorem dksX0_unlike_2 : cX0_unlike.data.toList.drop 46 = dktX0_unlike_2 := dk_seg dksX0_unlike_1 22 rfl rfl
theorem dksX0_unlike_3 : cX0_unlike.data.toList.drop 68 = dktX0_unlike_3 := dk_seg dksX0_unlike_2 22 rfl rfl
theorem dksX0_unlike_4 : cX0_unlike.data.toList.drop 90 = dktX0_unlike_4 := dk_seg dksX0_unlike_3 22 rfl rfl
theorem dksX0_unlike_5 : cX0_unlike.data.toList.drop 113 = dktX0_unlike_5 := dk_seg dksX0_unlike_4 23 rfl rfl
theorem dksX0_unlike_6 : cX0_unlike.data.toList.drop 135 = dktX0_unlike_6 := dk_seg dksX0_unlike_5 22 rfl rfl
theorem dX0_unlike_0 : decode cX0_unlike 0 = .ok (.iconst 0, 1) := dk_3 (dk_at dksX0_unlike_0 0 rfl rfl)
theorem dX0_unlike_1 : decode cX0_unlike 1 = .ok (.istore_n 2, 1) := dk_61 (dk_at dksX0_unlike_0 1 rfl rfl)
theorem dX0_unlike_2 : decode cX0_unlike 2 = .ok (.iconst 0, 1) := dk_3 (dk_at dksX0_unlike_0 2 rfl rfl)
theorem dX0_unlike_3 : decode cX0_unlike 3 = .ok (.istore_n 3, 1) := dk_62 (dk_at dksX0_unlike_0 3 rfl rfl)
theorem dX0_unlike_4 : decode cX0_unlike 4 = .ok (.iconst 0, 1) := dk_3 (dk_at dksX0_unlike_0 4 rfl rfl)
theorem dX0_unlike_5 : decode cX0_unlike 5 = .ok (.istore 4, 2) := dk_54 4 (dk_at dksX0_unlike_0 5 rfl rfl)
theorem dX0_unlike_7 : decode cX0_unlike 7 = .ok (.iload 4, 2) := dk_21 4 (dk_at dksX0_unlike_0 7 rfl rfl)
theorem dX0_unlike_9 : decode cX0_unlike 9 = .ok (.bipush 96, 2) := dk_16 96 (dk_at dksX0_unlike_0 9 rfl rfl)
theorem dX0_unlike_11 : decode cX0_unlike 11 = .ok (.if_icmp .ge 118, 3) := dk_162 0 118 (dk_at dksX0_unlike_0 11 rfl rfl)
theorem dX0_unlike_14 : decode cX0_unlike 14 = .ok (.aload_n 0, 1) := dk_42 (dk_at dksX0_unlike_0 14 rfl rfl)
theorem dX0_unlike_15 : decode cX0_unlike 15 = .ok (.getfield 106, 3) := dk_180 0 106 (dk_at dksX0_unlike_0 15 rfl rfl)
theorem dX0_unlike_18 : decode cX0_unlike 18 = .ok (.iload 4, 2) := dk_21 4 (dk_at dksX0_unlike_0 18 rfl rfl)
theorem dX0_unlike_20 : decode cX0_unlike 20 = .ok (.baload, 1) := dk_51 (dk_at dksX0_unlike_0 20 rfl rfl)
theorem dX0_unlike_21 : decode cX0_unlike 21 = .ok (.ifCond .ne 6, 3) := dk_154 0 6 (dk_at dksX0_unlike_0 21 rfl rfl)
theorem dX0_unlike_24 : decode cX0_unlike 24 = .ok (.goto 99, 3) := dk_167 0 99 (dk_at dksX0_unlike_1 0 rfl rfl)
theorem dX0_unlike_27 : decode cX0_unlike 27 = .ok (.aload_n 0, 1) := dk_42 (dk_at dksX0_unlike_1 3 rfl rfl)
theorem dX0_unlike_28 : decode cX0_unlike 28 = .ok (.getfield 79, 3) := dk_180 0 79 (dk_at dksX0_unlike_1 4 rfl rfl)
theorem dX0_unlike_31 : decode cX0_unlike 31 = .ok (.iload_n 3, 1) := dk_29 (dk_at dksX0_unlike_1 7 rfl rfl)
theorem dX0_unlike_32 : decode cX0_unlike 32 = .ok (.aaload, 1) := dk_50 (dk_at dksX0_unlike_1 8 rfl rfl)
theorem dX0_unlike_33 : decode cX0_unlike 33 = .ok (.aload_n 1, 1) := dk_43 (dk_at dksX0_unlike_1 9 rfl rfl)
theorem dX0_unlike_34 : decode cX0_unlike 34 = .ok (.invokevirtual 247, 3) := dk_182 0 247 (dk_at dksX0_unlike_1 10 rfl rfl)
theorem dX0_unlike_37 : decode cX0_unlike 37 = .ok (.aload_n 0, 1) := dk_42 (dk_at dksX0_unlike_1 13 rfl rfl)
theorem dX0_unlike_38 : decode cX0_unlike 38 = .ok (.aload_n 0, 1) := dk_42 (dk_at dksX0_unlike_1 14 rfl rfl)
theorem dX0_unlike_39 : decode cX0_unlike 39 = .ok (.getfield 79, 3) := dk_180 0 79 (dk_at dksX0_unlike_1 15 rfl rfl)
theorem dX0_unlike_42 : decode cX0_unlike 42 = .ok (.iload_n 3, 1) := dk_29 (dk_at dksX0_unlike_1 18 rfl rfl)
theorem dX0_unlike_43 : decode cX0_unlike 43 = .ok (.aaload, 1) := dk_50 (dk_at dksX0_unlike_1 19 rfl rfl)
theorem dX0_unlike_44 : decode cX0_unlike 44 = .ok (.iload 4, 2) := dk_21 4 (dk_at dksX0_unlike_1 20 rfl rfl)
theorem dX0_unlike_46 : decode cX0_unlike 46 = .ok (.invokevirtual 283, 3) := dk_182 1 27 (dk_at dksX0_unlike_2 0 rfl rfl)
theorem dX0_unlike_49 : decode cX0_unlike 49 = .ok (.ldc 202, 2) := dk_18 202 (dk_at dksX0_unlike_2 3 rfl rfl)
theorem dX0_unlike_51 : decode cX0_unlike 51 = .ok (.if_icmp .ne 8, 3) := dk_160 0 8 (dk_at dksX0_unlike_2 5 rfl rfl)
theorem dX0_unlike_54 : decode cX0_unlike 54 = .ok (.iconst 1, 1) := dk_4 (dk_at dksX0_unlike_2 8 rfl rfl)
theorem dX0_unlike_55 : decode cX0_unlike 55 = .ok (.istore_n 2, 1) := dk_61 (dk_at dksX0_unlike_2 9 rfl rfl)
theorem dX0_unlike_56 : decode cX0_unlike 56 = .ok (.goto 67, 3) := dk_167 0 67 (dk_at dksX0_unlike_2 10 rfl rfl)
theorem dX0_unlike_59 : decode cX0_unlike 59 = .ok (.iconst 1, 1) := dk_4 (dk_at dksX0_unlike_2 13 rfl rfl)
theorem dX0_unlike_60 : decode cX0_unlike 60 = .ok (.istore 5, 2) := dk_54 5 (dk_at dksX0_unlike_2 14 rfl rfl)
theorem dX0_unlike_62 : decode cX0_unlike 62 = .ok (.iconst 0, 1) := dk_3 (dk_at dksX0_unlike_2 16 rfl rfl)
theorem dX0_unlike_63 : decode cX0_unlike 63 = .ok (.istore 6, 2) := dk_54 6 (dk_at dksX0_unlike_2 17 rfl rfl)
theorem dX0_unlike_65 : decode cX0_unlike 65 = .ok (.iload 6, 2) := dk_21 6 (dk_at dksX0_unlike_2 19 rfl rfl)
theorem dX0_unlike_67 : decode cX0_unlike 67 = .ok (.iload_n 3, 1) := dk_29 (dk_at dksX0_unlike_2 21 rfl rfl)
theorem dX0_unlike_68 : decode cX0_unlike 68 = .ok (.if_icmp .ge 42, 3) := dk_162 0 42 (dk_at dksX0_unlike_3 0 rfl rfl)
theorem dX0_unlike_71 : decode cX0_unlike 71 = .ok (.iload 5, 2) := dk_21 5 (dk_at dksX0_unlike_3 3 rfl rfl)
theorem dX0_unlike_73 : decode cX0_unlike 73 = .ok (.aload_n 0, 1) := dk_42 (dk_at dksX0_unlike_3 5 rfl rfl)
theorem dX0_unlike_74 : decode cX0_unlike 74 = .ok (.getfield 79, 3) := dk_180 0 79 (dk_at dksX0_unlike_3 6 rfl rfl)
theorem dX0_unlike_77 : decode cX0_unlike 77 = .ok (.iload 6, 2) := dk_21 6 (dk_at dksX0_unlike_3 9 rfl rfl)
theorem dX0_unlike_79 : decode cX0_unlike 79 = .ok (.aaload, 1) := dk_50 (dk_at dksX0_unlike_3 11 rfl rfl)
theorem dX0_unlike_80 : decode cX0_unlike 80 = .ok (.aload_n 0, 1) := dk_42 (dk_at dksX0_unlike_3 12 rfl rfl)
theorem dX0_unlike_81 : decode cX0_unlike 81 = .ok (.getfield 79, 3) := dk_180 0 79 (dk_at dksX0_unlike_3 13 rfl rfl)
theorem dX0_unlike_84 : decode cX0_unlike 84 = .ok (.iload_n 3, 1) := dk_29 (dk_at dksX0_unlike_3 16 rfl rfl)
theorem dX0_unlike_85 : decode cX0_unlike 85 = .ok (.aaload, 1) := dk_50 (dk_at dksX0_unlike_3 17 rfl rfl)
theorem dX0_unlike_86 : decode cX0_unlike 86 = .ok (.aload_n 0, 1) := dk_42 (dk_at dksX0_unlike_3 18 rfl rfl)
theorem dX0_unlike_87 : decode cX0_unlike 87 = .ok (.getfield 173, 3) := dk_180 0 173 (dk_at dksX0_unlike_3 19 rfl rfl)
theorem dX0_unlike_90 : decode cX0_unlike 90 = .ok (.invokevirtual 254, 3) := dk_182 0 254 (dk_at dksX0_unlike_4 0 rfl rfl)
theorem dX0_unlike_93 : decode cX0_unlike 93 = .ok (.ifCond .ne 7, 3) := dk_154 0 7 (dk_at dksX0_unlike_4 3 rfl rfl)
theorem dX0_unlike_96 : decode cX0_unlike 96 = .ok (.iconst 1, 1) := dk_4 (dk_at dksX0_unlike_4 6 rfl rfl)
theorem dX0_unlike_97 : decode cX0_unlike 97 = .ok (.goto 4, 3) := dk_167 0 4 (dk_at dksX0_unlike_4 7 rfl rfl)
theorem dX0_unlike_100 : decode cX0_unlike 100 = .ok (.iconst 0, 1) := dk_3 (dk_at dksX0_unlike_4 10 rfl rfl)
theorem dX0_unlike_101 : decode cX0_unlike 101 = .ok (.iand, 1) := dk_126 (dk_at dksX0_unlike_4 11 rfl rfl)
theorem dX0_unlike_102 : decode cX0_unlike 102 = .ok (.istore 5, 2) := dk_54 5 (dk_at dksX0_unlike_4 12 rfl rfl)
theorem dX0_unlike_104 : decode cX0_unlike 104 = .ok (.iinc 6 1, 3) := dk_132 6 1 (dk_at dksX0_unlike_4 14 rfl rfl)
theorem dX0_unlike_107 : decode cX0_unlike 107 = .ok (.goto (-42), 3) := dk_167 255 214 (dk_at dksX0_unlike_4 17 rfl rfl)
theorem dX0_unlike_110 : decode cX0_unlike 110 = .ok (.iload_n 3, 1) := dk_29 (dk_at dksX0_unlike_4 20 rfl rfl)
theorem dX0_unlike_111 : decode cX0_unlike 111 = .ok (.iload 5, 2) := dk_21 5 (dk_at dksX0_unlike_4 21 rfl rfl)
theorem dX0_unlike_113 : decode cX0_unlike 113 = .ok (.ifCond .eq 7, 3) := dk_153 0 7 (dk_at dksX0_unlike_5 0 rfl rfl)
theorem dX0_unlike_116 : decode cX0_unlike 116 = .ok (.iconst 1, 1) := dk_4 (dk_at dksX0_unlike_5 3 rfl rfl)
theorem dX0_unlike_117 : decode cX0_unlike 117 = .ok (.goto 4, 3) := dk_167 0 4 (dk_at dksX0_unlike_5 4 rfl rfl)
theorem dX0_unlike_120 : decode cX0_unlike 120 = .ok (.iconst 0, 1) := dk_3 (dk_at dksX0_unlike_5 7 rfl rfl)
theorem dX0_unlike_121 : decode cX0_unlike 121 = .ok (.iadd, 1) := dk_96 (dk_at dksX0_unlike_5 8 rfl rfl)
theorem dX0_unlike_122 : decode cX0_unlike 122 = .ok (.istore_n 3, 1) := dk_62 (dk_at dksX0_unlike_5 9 rfl rfl)
theorem dX0_unlike_123 : decode cX0_unlike 123 = .ok (.iinc 4 1, 3) := dk_132 4 1 (dk_at dksX0_unlike_5 10 rfl rfl)
theorem dX0_unlike_126 : decode cX0_unlike 126 = .ok (.goto (-119), 3) := dk_167 255 137 (dk_at dksX0_unlike_5 13 rfl rfl)
theorem dX0_unlike_129 : decode cX0_unlike 129 = .ok (.iload_n 3, 1) := dk_29 (dk_at dksX0_unlike_5 16 rfl rfl)
theorem dX0_unlike_130 : decode cX0_unlike 130 = .ok (.iload_n 2, 1) := dk_28 (dk_at dksX0_unlike_5 17 rfl rfl)
theorem dX0_unlike_131 : decode cX0_unlike 131 = .ok (.ifCond .eq 7, 3) := dk_153 0 7 (dk_at dksX0_unlike_5 18 rfl rfl)
theorem dX0_unlike_134 : decode cX0_unlike 134 = .ok (.iconst 1, 1) := dk_4 (dk_at dksX0_unlike_5 21 rfl rfl)
theorem dX0_unlike_135 : decode cX0_unlike 135 = .ok (.goto 4, 3) := dk_167 0 4 (dk_at dksX0_unlike_6 0 rfl rfl)
theorem dX0_unlike_138 : decode cX0_unlike 138 = .ok (.iconst 0, 1) := dk_3 (dk_at dksX0_unlike_6 3 rfl rfl)
theorem dX0_unlike_139 : decode cX0_unlike 139 = .ok (.iadd, 1) := dk_96 (dk_at dksX0_unlike_6 4 rfl rfl)
theorem dX0_unlike_140 : decode cX0_unlike 140 = .ok (.ireturn, 1) := dk_172 (dk_at dksX0_unlike_6 5 rfl rfl)
abbrev cX0_quarrel : ByteArray := prog_1_method_50_code
def yX0_quarrel : MethodName := ⟨RX0, "quarrel", "()I"⟩
def dkwX0_quarrel_3 : List UInt8 := [167, 255, 190, 27, 172]
abbrev dktX0_quarrel_3 : List UInt8 := dkwX0_quarrel_3 ++ []
def dkwX0_quarrel_2 : List UInt8 := [162, 0, 7, 4, 167, 0, 4, 3, 54, 4, 21, 4, 153, 0, 7, 29, 167, 0, 4, 27, 60, 132, 2, 1]
abbrev dktX0_quarrel_2 : List UInt8 := dkwX0_quarrel_2 ++ dktX0_quarrel_3
def dkwX0_quarrel_1 : List UInt8 := [184, 1, 93, 27, 184, 1, 93, 161, 0, 19, 29, 184, 1, 93, 27, 184, 1, 93, 160, 0, 12, 29, 27]
abbrev dktX0_quarrel_1 : List UInt8 := dkwX0_quarrel_1 ++ dktX0_quarrel_2
def dkwX0_quarrel_0 : List UInt8 := [18, 202, 60, 3, 61, 28, 16, 96, 162, 0, 66, 42, 28, 182, 1, 78, 62, 27, 18, 202, 159, 0, 30, 29]
abbrev dktX0_quarrel_0 : List UInt8 := dkwX0_quarrel_0 ++ dktX0_quarrel_1
theorem dksX0_quarrel_0 : cX0_quarrel.data.toList.drop 0 = dktX0_quarrel_0 := by decide +kernel
theorem dksX0_quarrel_1 : cX0_quarrel.data.toList.drop 24 = dktX0_quarrel_1 := dk_seg dksX0_quarrel_0 24 rfl rfl
theorem dksX0_quarrel_2 : cX0_quarrel.data.toList.drop 47 = dktX0_quarrel_2 := dk_seg dksX0_quarrel_1 23 rfl rfl
theorem dksX0_quarrel_3 : cX0_quarrel.data.toList.drop 71 = dktX0_quarrel_3 := dk_seg dksX0_quarrel_2 24 rfl rfl
theorem dX0_quarrel_0 : decode cX0_quarrel 0 = .ok (.ldc 202, 2) := dk_18 202 (dk_at dksX0_quarrel_0 0 rfl rfl)
theorem dX0_quarrel_2 : decode cX0_quarrel 2 = .ok (.istore_n 1, 1) := dk_60 (dk_at dksX0_quarrel_0 2 rfl rfl)
theorem dX0_quarrel_3 : decode cX0_quarrel 3 = .ok (.iconst 0, 1) := dk_3 (dk_at dksX0_quarrel_0 3 rfl rfl)
theorem dX0_quarrel_4 : decode cX0_quarrel 4 = .ok (.istore_n 2, 1) := dk_61 (dk_at dksX0_quarrel_0 4 rfl rfl)
theorem dX0_quarrel_5 : decode cX0_quarrel 5 = .ok (.iload_n 2, 1) := dk_28 (dk_at dksX0_quarrel_0 5 rfl rfl)
theorem dX0_quarrel_6 : decode cX0_quarrel 6 = .ok (.bipush 96, 2) := dk_16 96 (dk_at dksX0_quarrel_0 6 rfl rfl)
theorem dX0_quarrel_8 : decode cX0_quarrel 8 = .ok (.if_icmp .ge 66, 3) := dk_162 0 66 (dk_at dksX0_quarrel_0 8 rfl rfl)
theorem dX0_quarrel_11 : decode cX0_quarrel 11 = .ok (.aload_n 0, 1) := dk_42 (dk_at dksX0_quarrel_0 11 rfl rfl)
theorem dX0_quarrel_12 : decode cX0_quarrel 12 = .ok (.iload_n 2, 1) := dk_28 (dk_at dksX0_quarrel_0 12 rfl rfl)
theorem dX0_quarrel_13 : decode cX0_quarrel 13 = .ok (.invokevirtual 334, 3) := dk_182 1 78 (dk_at dksX0_quarrel_0 13 rfl rfl)
theorem dX0_quarrel_16 : decode cX0_quarrel 16 = .ok (.istore_n 3, 1) := dk_62 (dk_at dksX0_quarrel_0 16 rfl rfl)
theorem dX0_quarrel_17 : decode cX0_quarrel 17 = .ok (.iload_n 1, 1) := dk_27 (dk_at dksX0_quarrel_0 17 rfl rfl)
theorem dX0_quarrel_18 : decode cX0_quarrel 18 = .ok (.ldc 202, 2) := dk_18 202 (dk_at dksX0_quarrel_0 18 rfl rfl)
theorem dX0_quarrel_20 : decode cX0_quarrel 20 = .ok (.if_icmp .eq 30, 3) := dk_159 0 30 (dk_at dksX0_quarrel_0 20 rfl rfl)
theorem dX0_quarrel_23 : decode cX0_quarrel 23 = .ok (.iload_n 3, 1) := dk_29 (dk_at dksX0_quarrel_0 23 rfl rfl)
theorem dX0_quarrel_24 : decode cX0_quarrel 24 = .ok (.invokestatic 349, 3) := dk_184 1 93 (dk_at dksX0_quarrel_1 0 rfl rfl)
theorem dX0_quarrel_27 : decode cX0_quarrel 27 = .ok (.iload_n 1, 1) := dk_27 (dk_at dksX0_quarrel_1 3 rfl rfl)
theorem dX0_quarrel_28 : decode cX0_quarrel 28 = .ok (.invokestatic 349, 3) := dk_184 1 93 (dk_at dksX0_quarrel_1 4 rfl rfl)
theorem dX0_quarrel_31 : decode cX0_quarrel 31 = .ok (.if_icmp .lt 19, 3) := dk_161 0 19 (dk_at dksX0_quarrel_1 7 rfl rfl)
theorem dX0_quarrel_34 : decode cX0_quarrel 34 = .ok (.iload_n 3, 1) := dk_29 (dk_at dksX0_quarrel_1 10 rfl rfl)
theorem dX0_quarrel_35 : decode cX0_quarrel 35 = .ok (.invokestatic 349, 3) := dk_184 1 93 (dk_at dksX0_quarrel_1 11 rfl rfl)
theorem dX0_quarrel_38 : decode cX0_quarrel 38 = .ok (.iload_n 1, 1) := dk_27 (dk_at dksX0_quarrel_1 14 rfl rfl)
theorem dX0_quarrel_39 : decode cX0_quarrel 39 = .ok (.invokestatic 349, 3) := dk_184 1 93 (dk_at dksX0_quarrel_1 15 rfl rfl)
theorem dX0_quarrel_42 : decode cX0_quarrel 42 = .ok (.if_icmp .ne 12, 3) := dk_160 0 12 (dk_at dksX0_quarrel_1 18 rfl rfl)
theorem dX0_quarrel_45 : decode cX0_quarrel 45 = .ok (.iload_n 3, 1) := dk_29 (dk_at dksX0_quarrel_1 21 rfl rfl)
theorem dX0_quarrel_46 : decode cX0_quarrel 46 = .ok (.iload_n 1, 1) := dk_27 (dk_at dksX0_quarrel_1 22 rfl rfl)
theorem dX0_quarrel_47 : decode cX0_quarrel 47 = .ok (.if_icmp .ge 7, 3) := dk_162 0 7 (dk_at dksX0_quarrel_2 0 rfl rfl)
theorem dX0_quarrel_50 : decode cX0_quarrel 50 = .ok (.iconst 1, 1) := dk_4 (dk_at dksX0_quarrel_2 3 rfl rfl)
theorem dX0_quarrel_51 : decode cX0_quarrel 51 = .ok (.goto 4, 3) := dk_167 0 4 (dk_at dksX0_quarrel_2 4 rfl rfl)
theorem dX0_quarrel_54 : decode cX0_quarrel 54 = .ok (.iconst 0, 1) := dk_3 (dk_at dksX0_quarrel_2 7 rfl rfl)
theorem dX0_quarrel_55 : decode cX0_quarrel 55 = .ok (.istore 4, 2) := dk_54 4 (dk_at dksX0_quarrel_2 8 rfl rfl)
theorem dX0_quarrel_57 : decode cX0_quarrel 57 = .ok (.iload 4, 2) := dk_21 4 (dk_at dksX0_quarrel_2 10 rfl rfl)
theorem dX0_quarrel_59 : decode cX0_quarrel 59 = .ok (.ifCond .eq 7, 3) := dk_153 0 7 (dk_at dksX0_quarrel_2 12 rfl rfl)
theorem dX0_quarrel_62 : decode cX0_quarrel 62 = .ok (.iload_n 3, 1) := dk_29 (dk_at dksX0_quarrel_2 15 rfl rfl)
theorem dX0_quarrel_63 : decode cX0_quarrel 63 = .ok (.goto 4, 3) := dk_167 0 4 (dk_at dksX0_quarrel_2 16 rfl rfl)
theorem dX0_quarrel_66 : decode cX0_quarrel 66 = .ok (.iload_n 1, 1) := dk_27 (dk_at dksX0_quarrel_2 19 rfl rfl)
theorem dX0_quarrel_67 : decode cX0_quarrel 67 = .ok (.istore_n 1, 1) := dk_60 (dk_at dksX0_quarrel_2 20 rfl rfl)
theorem dX0_quarrel_68 : decode cX0_quarrel 68 = .ok (.iinc 2 1, 3) := dk_132 2 1 (dk_at dksX0_quarrel_2 21 rfl rfl)
theorem dX0_quarrel_71 : decode cX0_quarrel 71 = .ok (.goto (-66), 3) := dk_167 255 190 (dk_at dksX0_quarrel_3 0 rfl rfl)
theorem dX0_quarrel_74 : decode cX0_quarrel 74 = .ok (.iload_n 1, 1) := dk_27 (dk_at dksX0_quarrel_3 3 rfl rfl)
theorem dX0_quarrel_75 : decode cX0_quarrel 75 = .ok (.ireturn, 1) := dk_172 (dk_at dksX0_quarrel_3 4 rfl rfl)
abbrev cX0_plan : ByteArray := prog_1_method_54_code
def yX0_plan : MethodName := ⟨RX0, "plan", "(II)I"⟩
def dkwX0_plan_3 : List UInt8 := [154, 0, 7, 29, 167, 0, 5, 21, 4, 172, 132, 3, 1, 167, 255, 218, 18, 202, 172]
abbrev dktX0_plan_3 : List UInt8 := dkwX0_plan_3 ++ []
def dkwX0_plan_2 : List UInt8 := [5, 163, 0, 39, 42, 42, 180, 0, 13, 27, 29, 182, 1, 102, 54, 4, 21, 4, 18, 202, 159, 0, 14, 28]
abbrev dktX0_plan_2 : List UInt8 := dkwX0_plan_2 ++ dktX0_plan_3
def dkwX0_plan_1 : List UInt8 := [180, 0, 13, 27, 182, 1, 99, 153, 0, 14, 28, 154, 0, 7, 3, 167, 0, 5, 18, 202, 172, 4, 62, 29]
abbrev dktX0_plan_1 : List UInt8 := dkwX0_plan_1 ++ dktX0_plan_2
def dkwX0_plan_0 : List UInt8 := [27, 184, 1, 24, 153, 0, 13, 28, 133, 9, 10, 184, 0, 128, 154, 0, 6, 18, 141, 172, 42, 42]
abbrev dktX0_plan_0 : List UInt8 := dkwX0_plan_0 ++ dktX0_plan_1
theorem dksX0_plan_0 : cX0_plan.data.toList.drop 0 = dktX0_plan_0 := by decide +kernel
theorem dksX0_plan_1 : cX0_plan.data.toList.drop 22 = dktX0_plan_1 := dk_seg dksX0_plan_0 22 rfl rfl
theorem dksX0_plan_2 : cX0_plan.data.toList.drop 46 = dktX0_plan_2 := dk_seg dksX0_plan_1 24 rfl rfl
theorem dksX0_plan_3 : cX0_plan.data.toList.drop 70 = dktX0_plan_3 := dk_seg dksX0_plan_2 24 rfl rfl
theorem dX0_plan_0 : decode cX0_plan 0 = .ok (.iload_n 1, 1) := dk_27 (dk_at dksX0_plan_0 0 rfl rfl)
theorem dX0_plan_1 : decode cX0_plan 1 = .ok (.invokestatic 280, 3) := dk_184 1 24 (dk_at dksX0_plan_0 1 rfl rfl)
theorem dX0_plan_4 : decode cX0_plan 4 = .ok (.ifCond .eq 13, 3) := dk_153 0 13 (dk_at dksX0_plan_0 4 rfl rfl)
theorem dX0_plan_7 : decode cX0_plan 7 = .ok (.iload_n 2, 1) := dk_28 (dk_at dksX0_plan_0 7 rfl rfl)
theorem dX0_plan_8 : decode cX0_plan 8 = .ok (.i2l, 1) := dk_133 (dk_at dksX0_plan_0 8 rfl rfl)
theorem dX0_plan_9 : decode cX0_plan 9 = .ok (.lconst 0, 1) := dk_9 (dk_at dksX0_plan_0 9 rfl rfl)
theorem dX0_plan_10 : decode cX0_plan 10 = .ok (.lconst 1, 1) := dk_10 (dk_at dksX0_plan_0 10 rfl rfl)
theorem dX0_plan_11 : decode cX0_plan 11 = .ok (.invokestatic 128, 3) := dk_184 0 128 (dk_at dksX0_plan_0 11 rfl rfl)
theorem dX0_plan_14 : decode cX0_plan 14 = .ok (.ifCond .ne 6, 3) := dk_154 0 6 (dk_at dksX0_plan_0 14 rfl rfl)
theorem dX0_plan_17 : decode cX0_plan 17 = .ok (.ldc 141, 2) := dk_18 141 (dk_at dksX0_plan_0 17 rfl rfl)
theorem dX0_plan_19 : decode cX0_plan 19 = .ok (.ireturn, 1) := dk_172 (dk_at dksX0_plan_0 19 rfl rfl)
theorem dX0_plan_20 : decode cX0_plan 20 = .ok (.aload_n 0, 1) := dk_42 (dk_at dksX0_plan_0 20 rfl rfl)
theorem dX0_plan_21 : decode cX0_plan 21 = .ok (.aload_n 0, 1) := dk_42 (dk_at dksX0_plan_0 21 rfl rfl)
theorem dX0_plan_22 : decode cX0_plan 22 = .ok (.getfield 13, 3) := dk_180 0 13 (dk_at dksX0_plan_1 0 rfl rfl)
theorem dX0_plan_25 : decode cX0_plan 25 = .ok (.iload_n 1, 1) := dk_27 (dk_at dksX0_plan_1 3 rfl rfl)
theorem dX0_plan_26 : decode cX0_plan 26 = .ok (.invokevirtual 355, 3) := dk_182 1 99 (dk_at dksX0_plan_1 4 rfl rfl)
theorem dX0_plan_29 : decode cX0_plan 29 = .ok (.ifCond .eq 14, 3) := dk_153 0 14 (dk_at dksX0_plan_1 7 rfl rfl)
theorem dX0_plan_32 : decode cX0_plan 32 = .ok (.iload_n 2, 1) := dk_28 (dk_at dksX0_plan_1 10 rfl rfl)
theorem dX0_plan_33 : decode cX0_plan 33 = .ok (.ifCond .ne 7, 3) := dk_154 0 7 (dk_at dksX0_plan_1 11 rfl rfl)
theorem dX0_plan_36 : decode cX0_plan 36 = .ok (.iconst 0, 1) := dk_3 (dk_at dksX0_plan_1 14 rfl rfl)
theorem dX0_plan_37 : decode cX0_plan 37 = .ok (.goto 5, 3) := dk_167 0 5 (dk_at dksX0_plan_1 15 rfl rfl)
theorem dX0_plan_40 : decode cX0_plan 40 = .ok (.ldc 202, 2) := dk_18 202 (dk_at dksX0_plan_1 18 rfl rfl)
theorem dX0_plan_42 : decode cX0_plan 42 = .ok (.ireturn, 1) := dk_172 (dk_at dksX0_plan_1 20 rfl rfl)
theorem dX0_plan_43 : decode cX0_plan 43 = .ok (.iconst 1, 1) := dk_4 (dk_at dksX0_plan_1 21 rfl rfl)
theorem dX0_plan_44 : decode cX0_plan 44 = .ok (.istore_n 3, 1) := dk_62 (dk_at dksX0_plan_1 22 rfl rfl)
theorem dX0_plan_45 : decode cX0_plan 45 = .ok (.iload_n 3, 1) := dk_29 (dk_at dksX0_plan_1 23 rfl rfl)
theorem dX0_plan_46 : decode cX0_plan 46 = .ok (.iconst 2, 1) := dk_5 (dk_at dksX0_plan_2 0 rfl rfl)
theorem dX0_plan_47 : decode cX0_plan 47 = .ok (.if_icmp .gt 39, 3) := dk_163 0 39 (dk_at dksX0_plan_2 1 rfl rfl)
theorem dX0_plan_50 : decode cX0_plan 50 = .ok (.aload_n 0, 1) := dk_42 (dk_at dksX0_plan_2 4 rfl rfl)
theorem dX0_plan_51 : decode cX0_plan 51 = .ok (.aload_n 0, 1) := dk_42 (dk_at dksX0_plan_2 5 rfl rfl)
theorem dX0_plan_52 : decode cX0_plan 52 = .ok (.getfield 13, 3) := dk_180 0 13 (dk_at dksX0_plan_2 6 rfl rfl)
theorem dX0_plan_55 : decode cX0_plan 55 = .ok (.iload_n 1, 1) := dk_27 (dk_at dksX0_plan_2 9 rfl rfl)
theorem dX0_plan_56 : decode cX0_plan 56 = .ok (.iload_n 3, 1) := dk_29 (dk_at dksX0_plan_2 10 rfl rfl)
theorem dX0_plan_57 : decode cX0_plan 57 = .ok (.invokevirtual 358, 3) := dk_182 1 102 (dk_at dksX0_plan_2 11 rfl rfl)
theorem dX0_plan_60 : decode cX0_plan 60 = .ok (.istore 4, 2) := dk_54 4 (dk_at dksX0_plan_2 14 rfl rfl)
theorem dX0_plan_62 : decode cX0_plan 62 = .ok (.iload 4, 2) := dk_21 4 (dk_at dksX0_plan_2 16 rfl rfl)
theorem dX0_plan_64 : decode cX0_plan 64 = .ok (.ldc 202, 2) := dk_18 202 (dk_at dksX0_plan_2 18 rfl rfl)
theorem dX0_plan_66 : decode cX0_plan 66 = .ok (.if_icmp .eq 14, 3) := dk_159 0 14 (dk_at dksX0_plan_2 20 rfl rfl)
theorem dX0_plan_69 : decode cX0_plan 69 = .ok (.iload_n 2, 1) := dk_28 (dk_at dksX0_plan_2 23 rfl rfl)
theorem dX0_plan_70 : decode cX0_plan 70 = .ok (.ifCond .ne 7, 3) := dk_154 0 7 (dk_at dksX0_plan_3 0 rfl rfl)
theorem dX0_plan_73 : decode cX0_plan 73 = .ok (.iload_n 3, 1) := dk_29 (dk_at dksX0_plan_3 3 rfl rfl)
theorem dX0_plan_74 : decode cX0_plan 74 = .ok (.goto 5, 3) := dk_167 0 5 (dk_at dksX0_plan_3 4 rfl rfl)
theorem dX0_plan_77 : decode cX0_plan 77 = .ok (.iload 4, 2) := dk_21 4 (dk_at dksX0_plan_3 7 rfl rfl)
theorem dX0_plan_79 : decode cX0_plan 79 = .ok (.ireturn, 1) := dk_172 (dk_at dksX0_plan_3 9 rfl rfl)
theorem dX0_plan_80 : decode cX0_plan 80 = .ok (.iinc 3 1, 3) := dk_132 3 1 (dk_at dksX0_plan_3 10 rfl rfl)
theorem dX0_plan_83 : decode cX0_plan 83 = .ok (.goto (-38), 3) := dk_167 255 218 (dk_at dksX0_plan_3 13 rfl rfl)
theorem dX0_plan_86 : decode cX0_plan 86 = .ok (.ldc 202, 2) := dk_18 202 (dk_at dksX0_plan_3 16 rfl rfl)
theorem dX0_plan_88 : decode cX0_plan 88 = .ok (.ireturn, 1) := dk_172 (dk_at dksX0_plan_3 18 rfl rfl)
abbrev cX0_isEnd : ByteArray := prog_1_method_51_code
def yX0_isEnd : MethodName := ⟨RX0, "isEnd", "(LTableArms$Table;I)Z"⟩
def dkwX0_isEnd_4 : List UInt8 := [158, 0, 13, 21, 4, 29, 160, 0, 7, 4, 167, 0, 4, 3, 172]
abbrev dktX0_isEnd_4 : List UInt8 := dkwX0_isEnd_4 ++ []
def dkwX0_isEnd_3 : List UInt8 := [167, 255, 193, 28, 5, 112, 154, 0, 16, 21, 4, 158, 0, 7, 4, 167, 0, 22, 3, 167, 0, 18, 29]
abbrev dktX0_isEnd_3 : List UInt8 := dkwX0_isEnd_3 ++ dktX0_isEnd_4
def dkwX0_isEnd_2 : List UInt8 := [6, 112, 28, 16, 24, 108, 182, 1, 16, 153, 0, 7, 4, 167, 0, 4, 3, 96, 54, 4, 132, 5, 1]
abbrev dktX0_isEnd_2 : List UInt8 := dkwX0_isEnd_2 ++ dktX0_isEnd_3
def dkwX0_isEnd_1 : List UInt8 := [28, 5, 108, 7, 112, 159, 0, 6, 167, 0, 36, 132, 3, 1, 21, 4, 42, 43, 21, 5, 28, 16, 8, 108]
abbrev dktX0_isEnd_1 : List UInt8 := dkwX0_isEnd_1 ++ dktX0_isEnd_2
def dkwX0_isEnd_0 : List UInt8 := [3, 62, 3, 54, 4, 3, 54, 5, 21, 5, 42, 180, 0, 173, 162, 0, 60, 42, 180, 0, 7, 21, 5, 46]
abbrev dktX0_isEnd_0 : List UInt8 := dkwX0_isEnd_0 ++ dktX0_isEnd_1
theorem dksX0_isEnd_0 : cX0_isEnd.data.toList.drop 0 = dktX0_isEnd_0 := by decide +kernel
theorem dksX0_isEnd_1 : cX0_isEnd.data.toList.drop 24 = dktX0_isEnd_1 := dk_seg dksX0_isEnd_0 24 rfl rfl
theorem dksX0_isEnd_2 : cX0_isEnd.data.toList.drop 48 = dktX0_isEnd_2 := dk_seg dksX0_isEnd_1 24 rfl rfl
theorem dksX0_isEnd_3 : cX0_isEnd.data.toList.drop 71 = dktX0_isEnd_3 := dk_seg dksX0_isEnd_2 23 rfl rfl
theorem dksX0_isEnd_4 : cX0_isEnd.data.toList.drop 94 = dktX0_isEnd_4 := dk_seg dksX0_isEnd_3 23 rfl rfl
theorem dX0_isEnd_0 : decode cX0_isEnd 0 = .ok (.iconst 0, 1) := dk_3 (dk_at dksX0_isEnd_0 0 rfl rfl)
theorem dX0_isEnd_1 : decode cX0_isEnd 1 = .ok (.istore_n 3, 1) := dk_62 (dk_at dksX0_isEnd_0 1 rfl rfl)
theorem dX0_isEnd_2 : decode cX0_isEnd 2 = .ok (.iconst 0, 1) := dk_3 (dk_at dksX0_isEnd_0 2 rfl rfl)
theorem dX0_isEnd_3 : decode cX0_isEnd 3 = .ok (.istore 4, 2) := dk_54 4 (dk_at dksX0_isEnd_0 3 rfl rfl)
theorem dX0_isEnd_5 : decode cX0_isEnd 5 = .ok (.iconst 0, 1) := dk_3 (dk_at dksX0_isEnd_0 5 rfl rfl)
theorem dX0_isEnd_6 : decode cX0_isEnd 6 = .ok (.istore 5, 2) := dk_54 5 (dk_at dksX0_isEnd_0 6 rfl rfl)
theorem dX0_isEnd_8 : decode cX0_isEnd 8 = .ok (.iload 5, 2) := dk_21 5 (dk_at dksX0_isEnd_0 8 rfl rfl)
theorem dX0_isEnd_10 : decode cX0_isEnd 10 = .ok (.aload_n 0, 1) := dk_42 (dk_at dksX0_isEnd_0 10 rfl rfl)
theorem dX0_isEnd_11 : decode cX0_isEnd 11 = .ok (.getfield 173, 3) := dk_180 0 173 (dk_at dksX0_isEnd_0 11 rfl rfl)
theorem dX0_isEnd_14 : decode cX0_isEnd 14 = .ok (.if_icmp .ge 60, 3) := dk_162 0 60 (dk_at dksX0_isEnd_0 14 rfl rfl)
theorem dX0_isEnd_17 : decode cX0_isEnd 17 = .ok (.aload_n 0, 1) := dk_42 (dk_at dksX0_isEnd_0 17 rfl rfl)
theorem dX0_isEnd_18 : decode cX0_isEnd 18 = .ok (.getfield 7, 3) := dk_180 0 7 (dk_at dksX0_isEnd_0 18 rfl rfl)
theorem dX0_isEnd_21 : decode cX0_isEnd 21 = .ok (.iload 5, 2) := dk_21 5 (dk_at dksX0_isEnd_0 21 rfl rfl)
theorem dX0_isEnd_23 : decode cX0_isEnd 23 = .ok (.iaload, 1) := dk_46 (dk_at dksX0_isEnd_0 23 rfl rfl)
theorem dX0_isEnd_24 : decode cX0_isEnd 24 = .ok (.iload_n 2, 1) := dk_28 (dk_at dksX0_isEnd_1 0 rfl rfl)
theorem dX0_isEnd_25 : decode cX0_isEnd 25 = .ok (.iconst 2, 1) := dk_5 (dk_at dksX0_isEnd_1 1 rfl rfl)
theorem dX0_isEnd_26 : decode cX0_isEnd 26 = .ok (.idiv, 1) := dk_108 (dk_at dksX0_isEnd_1 2 rfl rfl)
theorem dX0_isEnd_27 : decode cX0_isEnd 27 = .ok (.iconst 4, 1) := dk_7 (dk_at dksX0_isEnd_1 3 rfl rfl)
theorem dX0_isEnd_28 : decode cX0_isEnd 28 = .ok (.irem, 1) := dk_112 (dk_at dksX0_isEnd_1 4 rfl rfl)
theorem dX0_isEnd_29 : decode cX0_isEnd 29 = .ok (.if_icmp .eq 6, 3) := dk_159 0 6 (dk_at dksX0_isEnd_1 5 rfl rfl)
theorem dX0_isEnd_32 : decode cX0_isEnd 32 = .ok (.goto 36, 3) := dk_167 0 36 (dk_at dksX0_isEnd_1 8 rfl rfl)
theorem dX0_isEnd_35 : decode cX0_isEnd 35 = .ok (.iinc 3 1, 3) := dk_132 3 1 (dk_at dksX0_isEnd_1 11 rfl rfl)
theorem dX0_isEnd_38 : decode cX0_isEnd 38 = .ok (.iload 4, 2) := dk_21 4 (dk_at dksX0_isEnd_1 14 rfl rfl)
theorem dX0_isEnd_40 : decode cX0_isEnd 40 = .ok (.aload_n 0, 1) := dk_42 (dk_at dksX0_isEnd_1 16 rfl rfl)
theorem dX0_isEnd_41 : decode cX0_isEnd 41 = .ok (.aload_n 1, 1) := dk_43 (dk_at dksX0_isEnd_1 17 rfl rfl)
theorem dX0_isEnd_42 : decode cX0_isEnd 42 = .ok (.iload 5, 2) := dk_21 5 (dk_at dksX0_isEnd_1 18 rfl rfl)
theorem dX0_isEnd_44 : decode cX0_isEnd 44 = .ok (.iload_n 2, 1) := dk_28 (dk_at dksX0_isEnd_1 20 rfl rfl)
theorem dX0_isEnd_45 : decode cX0_isEnd 45 = .ok (.bipush 8, 2) := dk_16 8 (dk_at dksX0_isEnd_1 21 rfl rfl)
theorem dX0_isEnd_47 : decode cX0_isEnd 47 = .ok (.idiv, 1) := dk_108 (dk_at dksX0_isEnd_1 23 rfl rfl)
theorem dX0_isEnd_48 : decode cX0_isEnd 48 = .ok (.iconst 3, 1) := dk_6 (dk_at dksX0_isEnd_2 0 rfl rfl)
theorem dX0_isEnd_49 : decode cX0_isEnd 49 = .ok (.irem, 1) := dk_112 (dk_at dksX0_isEnd_2 1 rfl rfl)
theorem dX0_isEnd_50 : decode cX0_isEnd 50 = .ok (.iload_n 2, 1) := dk_28 (dk_at dksX0_isEnd_2 2 rfl rfl)
theorem dX0_isEnd_51 : decode cX0_isEnd 51 = .ok (.bipush 24, 2) := dk_16 24 (dk_at dksX0_isEnd_2 3 rfl rfl)
theorem dX0_isEnd_53 : decode cX0_isEnd 53 = .ok (.idiv, 1) := dk_108 (dk_at dksX0_isEnd_2 5 rfl rfl)
theorem dX0_isEnd_54 : decode cX0_isEnd 54 = .ok (.invokevirtual 272, 3) := dk_182 1 16 (dk_at dksX0_isEnd_2 6 rfl rfl)
theorem dX0_isEnd_57 : decode cX0_isEnd 57 = .ok (.ifCond .eq 7, 3) := dk_153 0 7 (dk_at dksX0_isEnd_2 9 rfl rfl)
theorem dX0_isEnd_60 : decode cX0_isEnd 60 = .ok (.iconst 1, 1) := dk_4 (dk_at dksX0_isEnd_2 12 rfl rfl)
theorem dX0_isEnd_61 : decode cX0_isEnd 61 = .ok (.goto 4, 3) := dk_167 0 4 (dk_at dksX0_isEnd_2 13 rfl rfl)
theorem dX0_isEnd_64 : decode cX0_isEnd 64 = .ok (.iconst 0, 1) := dk_3 (dk_at dksX0_isEnd_2 16 rfl rfl)
theorem dX0_isEnd_65 : decode cX0_isEnd 65 = .ok (.iadd, 1) := dk_96 (dk_at dksX0_isEnd_2 17 rfl rfl)
theorem dX0_isEnd_66 : decode cX0_isEnd 66 = .ok (.istore 4, 2) := dk_54 4 (dk_at dksX0_isEnd_2 18 rfl rfl)
theorem dX0_isEnd_68 : decode cX0_isEnd 68 = .ok (.iinc 5 1, 3) := dk_132 5 1 (dk_at dksX0_isEnd_2 20 rfl rfl)
theorem dX0_isEnd_71 : decode cX0_isEnd 71 = .ok (.goto (-63), 3) := dk_167 255 193 (dk_at dksX0_isEnd_3 0 rfl rfl)
theorem dX0_isEnd_74 : decode cX0_isEnd 74 = .ok (.iload_n 2, 1) := dk_28 (dk_at dksX0_isEnd_3 3 rfl rfl)
theorem dX0_isEnd_75 : decode cX0_isEnd 75 = .ok (.iconst 2, 1) := dk_5 (dk_at dksX0_isEnd_3 4 rfl rfl)
theorem dX0_isEnd_76 : decode cX0_isEnd 76 = .ok (.irem, 1) := dk_112 (dk_at dksX0_isEnd_3 5 rfl rfl)
theorem dX0_isEnd_77 : decode cX0_isEnd 77 = .ok (.ifCond .ne 16, 3) := dk_154 0 16 (dk_at dksX0_isEnd_3 6 rfl rfl)
theorem dX0_isEnd_80 : decode cX0_isEnd 80 = .ok (.iload 4, 2) := dk_21 4 (dk_at dksX0_isEnd_3 9 rfl rfl)
theorem dX0_isEnd_82 : decode cX0_isEnd 82 = .ok (.ifCond .le 7, 3) := dk_158 0 7 (dk_at dksX0_isEnd_3 11 rfl rfl)
theorem dX0_isEnd_85 : decode cX0_isEnd 85 = .ok (.iconst 1, 1) := dk_4 (dk_at dksX0_isEnd_3 14 rfl rfl)
theorem dX0_isEnd_86 : decode cX0_isEnd 86 = .ok (.goto 22, 3) := dk_167 0 22 (dk_at dksX0_isEnd_3 15 rfl rfl)
theorem dX0_isEnd_89 : decode cX0_isEnd 89 = .ok (.iconst 0, 1) := dk_3 (dk_at dksX0_isEnd_3 18 rfl rfl)
theorem dX0_isEnd_90 : decode cX0_isEnd 90 = .ok (.goto 18, 3) := dk_167 0 18 (dk_at dksX0_isEnd_3 19 rfl rfl)
theorem dX0_isEnd_93 : decode cX0_isEnd 93 = .ok (.iload_n 3, 1) := dk_29 (dk_at dksX0_isEnd_3 22 rfl rfl)
theorem dX0_isEnd_94 : decode cX0_isEnd 94 = .ok (.ifCond .le 13, 3) := dk_158 0 13 (dk_at dksX0_isEnd_4 0 rfl rfl)
theorem dX0_isEnd_97 : decode cX0_isEnd 97 = .ok (.iload 4, 2) := dk_21 4 (dk_at dksX0_isEnd_4 3 rfl rfl)
theorem dX0_isEnd_99 : decode cX0_isEnd 99 = .ok (.iload_n 3, 1) := dk_29 (dk_at dksX0_isEnd_4 5 rfl rfl)
theorem dX0_isEnd_100 : decode cX0_isEnd 100 = .ok (.if_icmp .ne 7, 3) := dk_160 0 7 (dk_at dksX0_isEnd_4 6 rfl rfl)
theorem dX0_isEnd_103 : decode cX0_isEnd 103 = .ok (.iconst 1, 1) := dk_4 (dk_at dksX0_isEnd_4 9 rfl rfl)
theorem dX0_isEnd_104 : decode cX0_isEnd 104 = .ok (.goto 4, 3) := dk_167 0 4 (dk_at dksX0_isEnd_4 10 rfl rfl)
theorem dX0_isEnd_107 : decode cX0_isEnd 107 = .ok (.iconst 0, 1) := dk_3 (dk_at dksX0_isEnd_4 13 rfl rfl)
theorem dX0_isEnd_108 : decode cX0_isEnd 108 = .ok (.ireturn, 1) := dk_172 (dk_at dksX0_isEnd_4 14 rfl rfl)
abbrev cX0_firstOf : ByteArray := prog_1_method_53_code
def yX0_firstOf : MethodName := ⟨RX0, "firstOf", "(LTableArms$Table;II)I"⟩
def dkwX0_firstOf_4 : List UInt8 := [182, 1, 102, 18, 202, 159, 0, 6, 21, 5, 172, 132, 5, 1, 167, 255, 163, 18, 202, 172]
abbrev dktX0_firstOf_4 : List UInt8 := dkwX0_firstOf_4 ++ []
def dkwX0_firstOf_3 : List UInt8 := [160, 0, 16, 42, 25, 4, 28, 182, 1, 99, 153, 0, 24, 167, 0, 18, 42, 25, 4, 28, 29, 4, 100]
abbrev dktX0_firstOf_3 : List UInt8 := dkwX0_firstOf_3 ++ dktX0_firstOf_4
def dkwX0_firstOf_2 : List UInt8 := [25, 4, 43, 182, 0, 247, 25, 4, 21, 5, 16, 16, 108, 21, 5, 16, 16, 112, 184, 0, 243, 29, 4]
abbrev dktX0_firstOf_2 : List UInt8 := dkwX0_firstOf_2 ++ dktX0_firstOf_3
def dkwX0_firstOf_1 : List UInt8 := [162, 0, 87, 42, 43, 21, 5, 16, 16, 108, 21, 5, 16, 16, 112, 182, 1, 96, 154, 0, 6, 167, 0, 60]
abbrev dktX0_firstOf_1 : List UInt8 := dkwX0_firstOf_1 ++ dktX0_firstOf_2
def dkwX0_firstOf_0 : List UInt8 := [42, 180, 0, 76, 29, 4, 100, 50, 58, 4, 3, 54, 5, 21, 5, 16, 16, 42, 180, 0, 173, 104]
abbrev dktX0_firstOf_0 : List UInt8 := dkwX0_firstOf_0 ++ dktX0_firstOf_1
theorem dksX0_firstOf_0 : cX0_firstOf.data.toList.drop 0 = dktX0_firstOf_0 := by decide +kernel
theorem dksX0_firstOf_1 : cX0_firstOf.data.toList.drop 22 = dktX0_firstOf_1 := dk_seg dksX0_firstOf_0 22 rfl rfl
theorem dksX0_firstOf_2 : cX0_firstOf.data.toList.drop 46 = dktX0_firstOf_2 := dk_seg dksX0_firstOf_1 24 rfl rfl
theorem dksX0_firstOf_3 : cX0_firstOf.data.toList.drop 69 = dktX0_firstOf_3 := dk_seg dksX0_firstOf_2 23 rfl rfl
theorem dksX0_firstOf_4 : cX0_firstOf.data.toList.drop 92 = dktX0_firstOf_4 := dk_seg dksX0_firstOf_3 23 rfl rfl
theorem dX0_firstOf_0 : decode cX0_firstOf 0 = .ok (.aload_n 0, 1) := dk_42 (dk_at dksX0_firstOf_0 0 rfl rfl)
theorem dX0_firstOf_1 : decode cX0_firstOf 1 = .ok (.getfield 76, 3) := dk_180 0 76 (dk_at dksX0_firstOf_0 1 rfl rfl)
theorem dX0_firstOf_4 : decode cX0_firstOf 4 = .ok (.iload_n 3, 1) := dk_29 (dk_at dksX0_firstOf_0 4 rfl rfl)
theorem dX0_firstOf_5 : decode cX0_firstOf 5 = .ok (.iconst 1, 1) := dk_4 (dk_at dksX0_firstOf_0 5 rfl rfl)
theorem dX0_firstOf_6 : decode cX0_firstOf 6 = .ok (.isub, 1) := dk_100 (dk_at dksX0_firstOf_0 6 rfl rfl)
theorem dX0_firstOf_7 : decode cX0_firstOf 7 = .ok (.aaload, 1) := dk_50 (dk_at dksX0_firstOf_0 7 rfl rfl)
theorem dX0_firstOf_8 : decode cX0_firstOf 8 = .ok (.astore 4, 2) := dk_58 4 (dk_at dksX0_firstOf_0 8 rfl rfl)
theorem dX0_firstOf_10 : decode cX0_firstOf 10 = .ok (.iconst 0, 1) := dk_3 (dk_at dksX0_firstOf_0 10 rfl rfl)
theorem dX0_firstOf_11 : decode cX0_firstOf 11 = .ok (.istore 5, 2) := dk_54 5 (dk_at dksX0_firstOf_0 11 rfl rfl)
theorem dX0_firstOf_13 : decode cX0_firstOf 13 = .ok (.iload 5, 2) := dk_21 5 (dk_at dksX0_firstOf_0 13 rfl rfl)
theorem dX0_firstOf_15 : decode cX0_firstOf 15 = .ok (.bipush 16, 2) := dk_16 16 (dk_at dksX0_firstOf_0 15 rfl rfl)
theorem dX0_firstOf_17 : decode cX0_firstOf 17 = .ok (.aload_n 0, 1) := dk_42 (dk_at dksX0_firstOf_0 17 rfl rfl)
theorem dX0_firstOf_18 : decode cX0_firstOf 18 = .ok (.getfield 173, 3) := dk_180 0 173 (dk_at dksX0_firstOf_0 18 rfl rfl)
theorem dX0_firstOf_21 : decode cX0_firstOf 21 = .ok (.imul, 1) := dk_104 (dk_at dksX0_firstOf_0 21 rfl rfl)
theorem dX0_firstOf_22 : decode cX0_firstOf 22 = .ok (.if_icmp .ge 87, 3) := dk_162 0 87 (dk_at dksX0_firstOf_1 0 rfl rfl)
theorem dX0_firstOf_25 : decode cX0_firstOf 25 = .ok (.aload_n 0, 1) := dk_42 (dk_at dksX0_firstOf_1 3 rfl rfl)
theorem dX0_firstOf_26 : decode cX0_firstOf 26 = .ok (.aload_n 1, 1) := dk_43 (dk_at dksX0_firstOf_1 4 rfl rfl)
theorem dX0_firstOf_27 : decode cX0_firstOf 27 = .ok (.iload 5, 2) := dk_21 5 (dk_at dksX0_firstOf_1 5 rfl rfl)
theorem dX0_firstOf_29 : decode cX0_firstOf 29 = .ok (.bipush 16, 2) := dk_16 16 (dk_at dksX0_firstOf_1 7 rfl rfl)
theorem dX0_firstOf_31 : decode cX0_firstOf 31 = .ok (.idiv, 1) := dk_108 (dk_at dksX0_firstOf_1 9 rfl rfl)
theorem dX0_firstOf_32 : decode cX0_firstOf 32 = .ok (.iload 5, 2) := dk_21 5 (dk_at dksX0_firstOf_1 10 rfl rfl)
theorem dX0_firstOf_34 : decode cX0_firstOf 34 = .ok (.bipush 16, 2) := dk_16 16 (dk_at dksX0_firstOf_1 12 rfl rfl)
theorem dX0_firstOf_36 : decode cX0_firstOf 36 = .ok (.irem, 1) := dk_112 (dk_at dksX0_firstOf_1 14 rfl rfl)
theorem dX0_firstOf_37 : decode cX0_firstOf 37 = .ok (.invokevirtual 352, 3) := dk_182 1 96 (dk_at dksX0_firstOf_1 15 rfl rfl)
theorem dX0_firstOf_40 : decode cX0_firstOf 40 = .ok (.ifCond .ne 6, 3) := dk_154 0 6 (dk_at dksX0_firstOf_1 18 rfl rfl)
theorem dX0_firstOf_43 : decode cX0_firstOf 43 = .ok (.goto 60, 3) := dk_167 0 60 (dk_at dksX0_firstOf_1 21 rfl rfl)
theorem dX0_firstOf_46 : decode cX0_firstOf 46 = .ok (.aload 4, 2) := dk_25 4 (dk_at dksX0_firstOf_2 0 rfl rfl)
theorem dX0_firstOf_48 : decode cX0_firstOf 48 = .ok (.aload_n 1, 1) := dk_43 (dk_at dksX0_firstOf_2 2 rfl rfl)
theorem dX0_firstOf_49 : decode cX0_firstOf 49 = .ok (.invokevirtual 247, 3) := dk_182 0 247 (dk_at dksX0_firstOf_2 3 rfl rfl)
theorem dX0_firstOf_52 : decode cX0_firstOf 52 = .ok (.aload 4, 2) := dk_25 4 (dk_at dksX0_firstOf_2 6 rfl rfl)
theorem dX0_firstOf_54 : decode cX0_firstOf 54 = .ok (.iload 5, 2) := dk_21 5 (dk_at dksX0_firstOf_2 8 rfl rfl)
theorem dX0_firstOf_56 : decode cX0_firstOf 56 = .ok (.bipush 16, 2) := dk_16 16 (dk_at dksX0_firstOf_2 10 rfl rfl)
theorem dX0_firstOf_58 : decode cX0_firstOf 58 = .ok (.idiv, 1) := dk_108 (dk_at dksX0_firstOf_2 12 rfl rfl)
theorem dX0_firstOf_59 : decode cX0_firstOf 59 = .ok (.iload 5, 2) := dk_21 5 (dk_at dksX0_firstOf_2 13 rfl rfl)
theorem dX0_firstOf_61 : decode cX0_firstOf 61 = .ok (.bipush 16, 2) := dk_16 16 (dk_at dksX0_firstOf_2 15 rfl rfl)
theorem dX0_firstOf_63 : decode cX0_firstOf 63 = .ok (.irem, 1) := dk_112 (dk_at dksX0_firstOf_2 17 rfl rfl)
theorem dX0_firstOf_64 : decode cX0_firstOf 64 = .ok (.invokestatic 243, 3) := dk_184 0 243 (dk_at dksX0_firstOf_2 18 rfl rfl)
theorem dX0_firstOf_67 : decode cX0_firstOf 67 = .ok (.iload_n 3, 1) := dk_29 (dk_at dksX0_firstOf_2 21 rfl rfl)
theorem dX0_firstOf_68 : decode cX0_firstOf 68 = .ok (.iconst 1, 1) := dk_4 (dk_at dksX0_firstOf_2 22 rfl rfl)
theorem dX0_firstOf_69 : decode cX0_firstOf 69 = .ok (.if_icmp .ne 16, 3) := dk_160 0 16 (dk_at dksX0_firstOf_3 0 rfl rfl)
theorem dX0_firstOf_72 : decode cX0_firstOf 72 = .ok (.aload_n 0, 1) := dk_42 (dk_at dksX0_firstOf_3 3 rfl rfl)
theorem dX0_firstOf_73 : decode cX0_firstOf 73 = .ok (.aload 4, 2) := dk_25 4 (dk_at dksX0_firstOf_3 4 rfl rfl)
theorem dX0_firstOf_75 : decode cX0_firstOf 75 = .ok (.iload_n 2, 1) := dk_28 (dk_at dksX0_firstOf_3 6 rfl rfl)
theorem dX0_firstOf_76 : decode cX0_firstOf 76 = .ok (.invokevirtual 355, 3) := dk_182 1 99 (dk_at dksX0_firstOf_3 7 rfl rfl)
theorem dX0_firstOf_79 : decode cX0_firstOf 79 = .ok (.ifCond .eq 24, 3) := dk_153 0 24 (dk_at dksX0_firstOf_3 10 rfl rfl)
theorem dX0_firstOf_82 : decode cX0_firstOf 82 = .ok (.goto 18, 3) := dk_167 0 18 (dk_at dksX0_firstOf_3 13 rfl rfl)
theorem dX0_firstOf_85 : decode cX0_firstOf 85 = .ok (.aload_n 0, 1) := dk_42 (dk_at dksX0_firstOf_3 16 rfl rfl)
theorem dX0_firstOf_86 : decode cX0_firstOf 86 = .ok (.aload 4, 2) := dk_25 4 (dk_at dksX0_firstOf_3 17 rfl rfl)
theorem dX0_firstOf_88 : decode cX0_firstOf 88 = .ok (.iload_n 2, 1) := dk_28 (dk_at dksX0_firstOf_3 19 rfl rfl)
theorem dX0_firstOf_89 : decode cX0_firstOf 89 = .ok (.iload_n 3, 1) := dk_29 (dk_at dksX0_firstOf_3 20 rfl rfl)
theorem dX0_firstOf_90 : decode cX0_firstOf 90 = .ok (.iconst 1, 1) := dk_4 (dk_at dksX0_firstOf_3 21 rfl rfl)
theorem dX0_firstOf_91 : decode cX0_firstOf 91 = .ok (.isub, 1) := dk_100 (dk_at dksX0_firstOf_3 22 rfl rfl)
theorem dX0_firstOf_92 : decode cX0_firstOf 92 = .ok (.invokevirtual 358, 3) := dk_182 1 102 (dk_at dksX0_firstOf_4 0 rfl rfl)
theorem dX0_firstOf_95 : decode cX0_firstOf 95 = .ok (.ldc 202, 2) := dk_18 202 (dk_at dksX0_firstOf_4 3 rfl rfl)
theorem dX0_firstOf_97 : decode cX0_firstOf 97 = .ok (.if_icmp .eq 6, 3) := dk_159 0 6 (dk_at dksX0_firstOf_4 5 rfl rfl)
theorem dX0_firstOf_100 : decode cX0_firstOf 100 = .ok (.iload 5, 2) := dk_21 5 (dk_at dksX0_firstOf_4 8 rfl rfl)
theorem dX0_firstOf_102 : decode cX0_firstOf 102 = .ok (.ireturn, 1) := dk_172 (dk_at dksX0_firstOf_4 10 rfl rfl)
theorem dX0_firstOf_103 : decode cX0_firstOf 103 = .ok (.iinc 5 1, 3) := dk_132 5 1 (dk_at dksX0_firstOf_4 11 rfl rfl)
theorem dX0_firstOf_106 : decode cX0_firstOf 106 = .ok (.goto (-93), 3) := dk_167 255 163 (dk_at dksX0_firstOf_4 14 rfl rfl)
theorem dX0_firstOf_109 : decode cX0_firstOf 109 = .ok (.ldc 202, 2) := dk_18 202 (dk_at dksX0_firstOf_4 17 rfl rfl)
theorem dX0_firstOf_111 : decode cX0_firstOf 111 = .ok (.ireturn, 1) := dk_172 (dk_at dksX0_firstOf_4 19 rfl rfl)
abbrev cX0_isDone : ByteArray := prog_1_method_52_code
def yX0_isDone : MethodName := ⟨RX0, "isDone", "(LTableArms$Table;II)Z"⟩
def dkwX0_isDone_1 : List UInt8 := [182, 0, 238, 154, 0, 14, 42, 43, 4, 28, 29, 182, 0, 238, 153, 0, 7, 4, 167, 0, 4, 3, 172]
abbrev dktX0_isDone_1 : List UInt8 := dkwX0_isDone_1 ++ []
def dkwX0_isDone_0 : List UInt8 := [42, 29, 182, 0, 227, 153, 0, 39, 42, 43, 28, 29, 182, 0, 234, 153, 0, 29, 42, 43, 3, 28, 29]
abbrev dktX0_isDone_0 : List UInt8 := dkwX0_isDone_0 ++ dktX0_isDone_1
theorem dksX0_isDone_0 : cX0_isDone.data.toList.drop 0 = dktX0_isDone_0 := by decide +kernel
theorem dksX0_isDone_1 : cX0_isDone.data.toList.drop 23 = dktX0_isDone_1 := dk_seg dksX0_isDone_0 23 rfl rfl
theorem dX0_isDone_0 : decode cX0_isDone 0 = .ok (.aload_n 0, 1) := dk_42 (dk_at dksX0_isDone_0 0 rfl rfl)
theorem dX0_isDone_1 : decode cX0_isDone 1 = .ok (.iload_n 3, 1) := dk_29 (dk_at dksX0_isDone_0 1 rfl rfl)
theorem dX0_isDone_2 : decode cX0_isDone 2 = .ok (.invokevirtual 227, 3) := dk_182 0 227 (dk_at dksX0_isDone_0 2 rfl rfl)
theorem dX0_isDone_5 : decode cX0_isDone 5 = .ok (.ifCond .eq 39, 3) := dk_153 0 39 (dk_at dksX0_isDone_0 5 rfl rfl)
theorem dX0_isDone_8 : decode cX0_isDone 8 = .ok (.aload_n 0, 1) := dk_42 (dk_at dksX0_isDone_0 8 rfl rfl)
theorem dX0_isDone_9 : decode cX0_isDone 9 = .ok (.aload_n 1, 1) := dk_43 (dk_at dksX0_isDone_0 9 rfl rfl)
theorem dX0_isDone_10 : decode cX0_isDone 10 = .ok (.iload_n 2, 1) := dk_28 (dk_at dksX0_isDone_0 10 rfl rfl)
theorem dX0_isDone_11 : decode cX0_isDone 11 = .ok (.iload_n 3, 1) := dk_29 (dk_at dksX0_isDone_0 11 rfl rfl)
theorem dX0_isDone_12 : decode cX0_isDone 12 = .ok (.invokevirtual 234, 3) := dk_182 0 234 (dk_at dksX0_isDone_0 12 rfl rfl)
theorem dX0_isDone_15 : decode cX0_isDone 15 = .ok (.ifCond .eq 29, 3) := dk_153 0 29 (dk_at dksX0_isDone_0 15 rfl rfl)
theorem dX0_isDone_18 : decode cX0_isDone 18 = .ok (.aload_n 0, 1) := dk_42 (dk_at dksX0_isDone_0 18 rfl rfl)
theorem dX0_isDone_19 : decode cX0_isDone 19 = .ok (.aload_n 1, 1) := dk_43 (dk_at dksX0_isDone_0 19 rfl rfl)
theorem dX0_isDone_20 : decode cX0_isDone 20 = .ok (.iconst 0, 1) := dk_3 (dk_at dksX0_isDone_0 20 rfl rfl)
theorem dX0_isDone_21 : decode cX0_isDone 21 = .ok (.iload_n 2, 1) := dk_28 (dk_at dksX0_isDone_0 21 rfl rfl)
theorem dX0_isDone_22 : decode cX0_isDone 22 = .ok (.iload_n 3, 1) := dk_29 (dk_at dksX0_isDone_0 22 rfl rfl)
theorem dX0_isDone_23 : decode cX0_isDone 23 = .ok (.invokevirtual 238, 3) := dk_182 0 238 (dk_at dksX0_isDone_1 0 rfl rfl)
theorem dX0_isDone_26 : decode cX0_isDone 26 = .ok (.ifCond .ne 14, 3) := dk_154 0 14 (dk_at dksX0_isDone_1 3 rfl rfl)
theorem dX0_isDone_29 : decode cX0_isDone 29 = .ok (.aload_n 0, 1) := dk_42 (dk_at dksX0_isDone_1 6 rfl rfl)
theorem dX0_isDone_30 : decode cX0_isDone 30 = .ok (.aload_n 1, 1) := dk_43 (dk_at dksX0_isDone_1 7 rfl rfl)
theorem dX0_isDone_31 : decode cX0_isDone 31 = .ok (.iconst 1, 1) := dk_4 (dk_at dksX0_isDone_1 8 rfl rfl)
theorem dX0_isDone_32 : decode cX0_isDone 32 = .ok (.iload_n 2, 1) := dk_28 (dk_at dksX0_isDone_1 9 rfl rfl)
theorem dX0_isDone_33 : decode cX0_isDone 33 = .ok (.iload_n 3, 1) := dk_29 (dk_at dksX0_isDone_1 10 rfl rfl)
theorem dX0_isDone_34 : decode cX0_isDone 34 = .ok (.invokevirtual 238, 3) := dk_182 0 238 (dk_at dksX0_isDone_1 11 rfl rfl)
theorem dX0_isDone_37 : decode cX0_isDone 37 = .ok (.ifCond .eq 7, 3) := dk_153 0 7 (dk_at dksX0_isDone_1 14 rfl rfl)
theorem dX0_isDone_40 : decode cX0_isDone 40 = .ok (.iconst 1, 1) := dk_4 (dk_at dksX0_isDone_1 17 rfl rfl)
theorem dX0_isDone_41 : decode cX0_isDone 41 = .ok (.goto 4, 3) := dk_167 0 4 (dk_at dksX0_isDone_1 18 rfl rfl)
theorem dX0_isDone_44 : decode cX0_isDone 44 = .ok (.iconst 0, 1) := dk_3 (dk_at dksX0_isDone_1 21 rfl rfl)
theorem dX0_isDone_45 : decode cX0_isDone 45 = .ok (.ireturn, 1) := dk_172 (dk_at dksX0_isDone_1 22 rfl rfl)
abbrev cX0_feed : ByteArray := prog_1_method_55_code
def yX0_feed : MethodName := ⟨RX0, "feed", "(JI)I"⟩
def dkwX0_feed_3 : List UInt8 := [167, 255, 223, 42, 180, 1, 108, 172]
abbrev dktX0_feed_3 : List UInt8 := dkwX0_feed_3 ++ []
def dkwX0_feed_2 : List UInt8 := [180, 1, 108, 90, 4, 96, 181, 1, 108, 31, 16, 8, 21, 4, 104, 123, 136, 145, 84, 132, 4, 255]
abbrev dktX0_feed_2 : List UInt8 := dkwX0_feed_2 ++ dktX0_feed_3
def dkwX0_feed_1 : List UInt8 := [164, 0, 6, 18, 186, 172, 29, 4, 100, 54, 4, 21, 4, 155, 0, 34, 42, 180, 0, 92, 42, 89]
abbrev dktX0_feed_1 : List UInt8 := dkwX0_feed_1 ++ dktX0_feed_2
def dkwX0_feed_0 : List UInt8 := [29, 133, 10, 20, 1, 106, 184, 0, 128, 154, 0, 6, 18, 141, 172, 42, 180, 1, 108, 29, 96, 17, 1, 44]
abbrev dktX0_feed_0 : List UInt8 := dkwX0_feed_0 ++ dktX0_feed_1
theorem dksX0_feed_0 : cX0_feed.data.toList.drop 0 = dktX0_feed_0 := by decide +kernel
theorem dksX0_feed_1 : cX0_feed.data.toList.drop 24 = dktX0_feed_1 := dk_seg dksX0_feed_0 24 rfl rfl
theorem dksX0_feed_2 : cX0_feed.data.toList.drop 46 = dktX0_feed_2 := dk_seg dksX0_feed_1 22 rfl rfl
theorem dksX0_feed_3 : cX0_feed.data.toList.drop 68 = dktX0_feed_3 := dk_seg dksX0_feed_2 22 rfl rfl
theorem dX0_feed_0 : decode cX0_feed 0 = .ok (.iload_n 3, 1) := dk_29 (dk_at dksX0_feed_0 0 rfl rfl)
theorem dX0_feed_1 : decode cX0_feed 1 = .ok (.i2l, 1) := dk_133 (dk_at dksX0_feed_0 1 rfl rfl)
theorem dX0_feed_2 : decode cX0_feed 2 = .ok (.lconst 1, 1) := dk_10 (dk_at dksX0_feed_0 2 rfl rfl)
theorem dX0_feed_3 : decode cX0_feed 3 = .ok (.ldc2_w 362, 3) := dk_20 1 106 (dk_at dksX0_feed_0 3 rfl rfl)
theorem dX0_feed_6 : decode cX0_feed 6 = .ok (.invokestatic 128, 3) := dk_184 0 128 (dk_at dksX0_feed_0 6 rfl rfl)
theorem dX0_feed_9 : decode cX0_feed 9 = .ok (.ifCond .ne 6, 3) := dk_154 0 6 (dk_at dksX0_feed_0 9 rfl rfl)
theorem dX0_feed_12 : decode cX0_feed 12 = .ok (.ldc 141, 2) := dk_18 141 (dk_at dksX0_feed_0 12 rfl rfl)
theorem dX0_feed_14 : decode cX0_feed 14 = .ok (.ireturn, 1) := dk_172 (dk_at dksX0_feed_0 14 rfl rfl)
theorem dX0_feed_15 : decode cX0_feed 15 = .ok (.aload_n 0, 1) := dk_42 (dk_at dksX0_feed_0 15 rfl rfl)
theorem dX0_feed_16 : decode cX0_feed 16 = .ok (.getfield 364, 3) := dk_180 1 108 (dk_at dksX0_feed_0 16 rfl rfl)
theorem dX0_feed_19 : decode cX0_feed 19 = .ok (.iload_n 3, 1) := dk_29 (dk_at dksX0_feed_0 19 rfl rfl)
theorem dX0_feed_20 : decode cX0_feed 20 = .ok (.iadd, 1) := dk_96 (dk_at dksX0_feed_0 20 rfl rfl)
theorem dX0_feed_21 : decode cX0_feed 21 = .ok (.sipush 300, 3) := dk_17 1 44 (dk_at dksX0_feed_0 21 rfl rfl)
theorem dX0_feed_24 : decode cX0_feed 24 = .ok (.if_icmp .le 6, 3) := dk_164 0 6 (dk_at dksX0_feed_1 0 rfl rfl)
theorem dX0_feed_27 : decode cX0_feed 27 = .ok (.ldc 186, 2) := dk_18 186 (dk_at dksX0_feed_1 3 rfl rfl)
theorem dX0_feed_29 : decode cX0_feed 29 = .ok (.ireturn, 1) := dk_172 (dk_at dksX0_feed_1 5 rfl rfl)
theorem dX0_feed_30 : decode cX0_feed 30 = .ok (.iload_n 3, 1) := dk_29 (dk_at dksX0_feed_1 6 rfl rfl)
theorem dX0_feed_31 : decode cX0_feed 31 = .ok (.iconst 1, 1) := dk_4 (dk_at dksX0_feed_1 7 rfl rfl)
theorem dX0_feed_32 : decode cX0_feed 32 = .ok (.isub, 1) := dk_100 (dk_at dksX0_feed_1 8 rfl rfl)
theorem dX0_feed_33 : decode cX0_feed 33 = .ok (.istore 4, 2) := dk_54 4 (dk_at dksX0_feed_1 9 rfl rfl)
theorem dX0_feed_35 : decode cX0_feed 35 = .ok (.iload 4, 2) := dk_21 4 (dk_at dksX0_feed_1 11 rfl rfl)
theorem dX0_feed_37 : decode cX0_feed 37 = .ok (.ifCond .lt 34, 3) := dk_155 0 34 (dk_at dksX0_feed_1 13 rfl rfl)
theorem dX0_feed_40 : decode cX0_feed 40 = .ok (.aload_n 0, 1) := dk_42 (dk_at dksX0_feed_1 16 rfl rfl)
theorem dX0_feed_41 : decode cX0_feed 41 = .ok (.getfield 92, 3) := dk_180 0 92 (dk_at dksX0_feed_1 17 rfl rfl)
theorem dX0_feed_44 : decode cX0_feed 44 = .ok (.aload_n 0, 1) := dk_42 (dk_at dksX0_feed_1 20 rfl rfl)
theorem dX0_feed_45 : decode cX0_feed 45 = .ok (.dup, 1) := dk_89 (dk_at dksX0_feed_1 21 rfl rfl)
theorem dX0_feed_46 : decode cX0_feed 46 = .ok (.getfield 364, 3) := dk_180 1 108 (dk_at dksX0_feed_2 0 rfl rfl)
theorem dX0_feed_49 : decode cX0_feed 49 = .ok (.dup_x1, 1) := dk_90 (dk_at dksX0_feed_2 3 rfl rfl)
theorem dX0_feed_50 : decode cX0_feed 50 = .ok (.iconst 1, 1) := dk_4 (dk_at dksX0_feed_2 4 rfl rfl)
theorem dX0_feed_51 : decode cX0_feed 51 = .ok (.iadd, 1) := dk_96 (dk_at dksX0_feed_2 5 rfl rfl)
theorem dX0_feed_52 : decode cX0_feed 52 = .ok (.putfield 364, 3) := dk_181 1 108 (dk_at dksX0_feed_2 6 rfl rfl)
theorem dX0_feed_55 : decode cX0_feed 55 = .ok (.lload_n 1, 1) := dk_31 (dk_at dksX0_feed_2 9 rfl rfl)
theorem dX0_feed_56 : decode cX0_feed 56 = .ok (.bipush 8, 2) := dk_16 8 (dk_at dksX0_feed_2 10 rfl rfl)
theorem dX0_feed_58 : decode cX0_feed 58 = .ok (.iload 4, 2) := dk_21 4 (dk_at dksX0_feed_2 12 rfl rfl)
theorem dX0_feed_60 : decode cX0_feed 60 = .ok (.imul, 1) := dk_104 (dk_at dksX0_feed_2 14 rfl rfl)
theorem dX0_feed_61 : decode cX0_feed 61 = .ok (.lshr, 1) := dk_123 (dk_at dksX0_feed_2 15 rfl rfl)
theorem dX0_feed_62 : decode cX0_feed 62 = .ok (.l2i, 1) := dk_136 (dk_at dksX0_feed_2 16 rfl rfl)
theorem dX0_feed_63 : decode cX0_feed 63 = .ok (.i2b, 1) := dk_145 (dk_at dksX0_feed_2 17 rfl rfl)
theorem dX0_feed_64 : decode cX0_feed 64 = .ok (.bastore, 1) := dk_84 (dk_at dksX0_feed_2 18 rfl rfl)
theorem dX0_feed_65 : decode cX0_feed 65 = .ok (.iinc 4 (-1), 3) := dk_132 4 255 (dk_at dksX0_feed_2 19 rfl rfl)
theorem dX0_feed_68 : decode cX0_feed 68 = .ok (.goto (-33), 3) := dk_167 255 223 (dk_at dksX0_feed_3 0 rfl rfl)
theorem dX0_feed_71 : decode cX0_feed 71 = .ok (.aload_n 0, 1) := dk_42 (dk_at dksX0_feed_3 3 rfl rfl)
theorem dX0_feed_72 : decode cX0_feed 72 = .ok (.getfield 364, 3) := dk_180 1 108 (dk_at dksX0_feed_3 4 rfl rfl)
theorem dX0_feed_75 : decode cX0_feed 75 = .ok (.ireturn, 1) := dk_172 (dk_at dksX0_feed_3 7 rfl rfl)
abbrev cX0_nevers : ByteArray := prog_1_method_56_code
def yX0_nevers : MethodName := ⟨RX0, "nevers", "()I"⟩
def dkwX0_nevers_4 : List UInt8 := [185, 1, 43, 2, 0, 87, 132, 2, 1, 167, 255, 217, 42, 180, 0, 96, 185, 1, 32, 1, 0, 172]
abbrev dktX0_nevers_4 : List UInt8 := dkwX0_nevers_4 ++ []
def dkwX0_nevers_3 : List UInt8 := [162, 0, 32, 42, 180, 0, 96, 43, 180, 1, 131, 28, 185, 1, 57, 2, 0, 192, 1, 134]
abbrev dktX0_nevers_3 : List UInt8 := dkwX0_nevers_3 ++ dktX0_nevers_4
def dkwX0_nevers_2 : List UInt8 := [181, 1, 124, 19, 1, 127, 44, 180, 1, 128, 100, 172, 3, 61, 28, 43, 180, 1, 131, 185, 1, 32, 1, 0]
abbrev dktX0_nevers_2 : List UInt8 := dkwX0_nevers_2 ++ dktX0_nevers_3
def dkwX0_nevers_1 : List UInt8 := [183, 1, 113, 76, 42, 3, 181, 1, 108, 43, 182, 1, 116, 167, 0, 21, 77, 42, 44, 180, 1, 121]
abbrev dktX0_nevers_1 : List UInt8 := dkwX0_nevers_1 ++ dktX0_nevers_2
def dkwX0_nevers_0 : List UInt8 := [187, 1, 111, 89, 42, 180, 0, 92, 42, 180, 1, 108, 16, 16, 42, 180, 0, 96, 185, 1, 32, 1, 0, 100]
abbrev dktX0_nevers_0 : List UInt8 := dkwX0_nevers_0 ++ dktX0_nevers_1
theorem dksX0_nevers_0 : cX0_nevers.data.toList.drop 0 = dktX0_nevers_0 := by decide +kernel
theorem dksX0_nevers_1 : cX0_nevers.data.toList.drop 24 = dktX0_nevers_1 := dk_seg dksX0_nevers_0 24 rfl rfl
theorem dksX0_nevers_2 : cX0_nevers.data.toList.drop 46 = dktX0_nevers_2 := dk_seg dksX0_nevers_1 22 rfl rfl
theorem dksX0_nevers_3 : cX0_nevers.data.toList.drop 70 = dktX0_nevers_3 := dk_seg dksX0_nevers_2 24 rfl rfl
theorem dksX0_nevers_4 : cX0_nevers.data.toList.drop 90 = dktX0_nevers_4 := dk_seg dksX0_nevers_3 20 rfl rfl
theorem dX0_nevers_0 : decode cX0_nevers 0 = .ok (.new 367, 3) := dk_187 1 111 (dk_at dksX0_nevers_0 0 rfl rfl)
theorem dX0_nevers_3 : decode cX0_nevers 3 = .ok (.dup, 1) := dk_89 (dk_at dksX0_nevers_0 3 rfl rfl)
theorem dX0_nevers_4 : decode cX0_nevers 4 = .ok (.aload_n 0, 1) := dk_42 (dk_at dksX0_nevers_0 4 rfl rfl)
theorem dX0_nevers_5 : decode cX0_nevers 5 = .ok (.getfield 92, 3) := dk_180 0 92 (dk_at dksX0_nevers_0 5 rfl rfl)
theorem dX0_nevers_8 : decode cX0_nevers 8 = .ok (.aload_n 0, 1) := dk_42 (dk_at dksX0_nevers_0 8 rfl rfl)
theorem dX0_nevers_9 : decode cX0_nevers 9 = .ok (.getfield 364, 3) := dk_180 1 108 (dk_at dksX0_nevers_0 9 rfl rfl)
theorem dX0_nevers_12 : decode cX0_nevers 12 = .ok (.bipush 16, 2) := dk_16 16 (dk_at dksX0_nevers_0 12 rfl rfl)
theorem dX0_nevers_14 : decode cX0_nevers 14 = .ok (.aload_n 0, 1) := dk_42 (dk_at dksX0_nevers_0 14 rfl rfl)
theorem dX0_nevers_15 : decode cX0_nevers 15 = .ok (.getfield 96, 3) := dk_180 0 96 (dk_at dksX0_nevers_0 15 rfl rfl)
theorem dX0_nevers_18 : decode cX0_nevers 18 = .ok (.invokeinterface 288 1, 5) := by decide +kernel
theorem dX0_nevers_23 : decode cX0_nevers 23 = .ok (.isub, 1) := dk_100 (dk_at dksX0_nevers_0 23 rfl rfl)
theorem dX0_nevers_24 : decode cX0_nevers 24 = .ok (.invokespecial 369, 3) := dk_183 1 113 (dk_at dksX0_nevers_1 0 rfl rfl)
theorem dX0_nevers_27 : decode cX0_nevers 27 = .ok (.astore_n 1, 1) := dk_76 (dk_at dksX0_nevers_1 3 rfl rfl)
theorem dX0_nevers_28 : decode cX0_nevers 28 = .ok (.aload_n 0, 1) := dk_42 (dk_at dksX0_nevers_1 4 rfl rfl)
theorem dX0_nevers_29 : decode cX0_nevers 29 = .ok (.iconst 0, 1) := dk_3 (dk_at dksX0_nevers_1 5 rfl rfl)
theorem dX0_nevers_30 : decode cX0_nevers 30 = .ok (.putfield 364, 3) := dk_181 1 108 (dk_at dksX0_nevers_1 6 rfl rfl)
theorem dX0_nevers_33 : decode cX0_nevers 33 = .ok (.aload_n 1, 1) := dk_43 (dk_at dksX0_nevers_1 9 rfl rfl)
theorem dX0_nevers_34 : decode cX0_nevers 34 = .ok (.invokevirtual 372, 3) := dk_182 1 116 (dk_at dksX0_nevers_1 10 rfl rfl)
theorem dX0_nevers_37 : decode cX0_nevers 37 = .ok (.goto 21, 3) := dk_167 0 21 (dk_at dksX0_nevers_1 13 rfl rfl)
theorem dX0_nevers_40 : decode cX0_nevers 40 = .ok (.astore_n 2, 1) := dk_77 (dk_at dksX0_nevers_1 16 rfl rfl)
theorem dX0_nevers_41 : decode cX0_nevers 41 = .ok (.aload_n 0, 1) := dk_42 (dk_at dksX0_nevers_1 17 rfl rfl)
theorem dX0_nevers_42 : decode cX0_nevers 42 = .ok (.aload_n 2, 1) := dk_44 (dk_at dksX0_nevers_1 18 rfl rfl)
theorem dX0_nevers_43 : decode cX0_nevers 43 = .ok (.getfield 377, 3) := dk_180 1 121 (dk_at dksX0_nevers_1 19 rfl rfl)
theorem dX0_nevers_46 : decode cX0_nevers 46 = .ok (.putfield 380, 3) := dk_181 1 124 (dk_at dksX0_nevers_2 0 rfl rfl)
theorem dX0_nevers_49 : decode cX0_nevers 49 = .ok (.ldc_w 383, 3) := dk_19 1 127 (dk_at dksX0_nevers_2 3 rfl rfl)
theorem dX0_nevers_52 : decode cX0_nevers 52 = .ok (.aload_n 2, 1) := dk_44 (dk_at dksX0_nevers_2 6 rfl rfl)
theorem dX0_nevers_53 : decode cX0_nevers 53 = .ok (.getfield 384, 3) := dk_180 1 128 (dk_at dksX0_nevers_2 7 rfl rfl)
theorem dX0_nevers_56 : decode cX0_nevers 56 = .ok (.isub, 1) := dk_100 (dk_at dksX0_nevers_2 10 rfl rfl)
theorem dX0_nevers_57 : decode cX0_nevers 57 = .ok (.ireturn, 1) := dk_172 (dk_at dksX0_nevers_2 11 rfl rfl)
theorem dX0_nevers_58 : decode cX0_nevers 58 = .ok (.iconst 0, 1) := dk_3 (dk_at dksX0_nevers_2 12 rfl rfl)
theorem dX0_nevers_59 : decode cX0_nevers 59 = .ok (.istore_n 2, 1) := dk_61 (dk_at dksX0_nevers_2 13 rfl rfl)
theorem dX0_nevers_60 : decode cX0_nevers 60 = .ok (.iload_n 2, 1) := dk_28 (dk_at dksX0_nevers_2 14 rfl rfl)
theorem dX0_nevers_61 : decode cX0_nevers 61 = .ok (.aload_n 1, 1) := dk_43 (dk_at dksX0_nevers_2 15 rfl rfl)
theorem dX0_nevers_62 : decode cX0_nevers 62 = .ok (.getfield 387, 3) := dk_180 1 131 (dk_at dksX0_nevers_2 16 rfl rfl)
theorem dX0_nevers_65 : decode cX0_nevers 65 = .ok (.invokeinterface 288 1, 5) := by decide +kernel
theorem dX0_nevers_70 : decode cX0_nevers 70 = .ok (.if_icmp .ge 32, 3) := dk_162 0 32 (dk_at dksX0_nevers_3 0 rfl rfl)
theorem dX0_nevers_73 : decode cX0_nevers 73 = .ok (.aload_n 0, 1) := dk_42 (dk_at dksX0_nevers_3 3 rfl rfl)
theorem dX0_nevers_74 : decode cX0_nevers 74 = .ok (.getfield 96, 3) := dk_180 0 96 (dk_at dksX0_nevers_3 4 rfl rfl)
theorem dX0_nevers_77 : decode cX0_nevers 77 = .ok (.aload_n 1, 1) := dk_43 (dk_at dksX0_nevers_3 7 rfl rfl)
theorem dX0_nevers_78 : decode cX0_nevers 78 = .ok (.getfield 387, 3) := dk_180 1 131 (dk_at dksX0_nevers_3 8 rfl rfl)
theorem dX0_nevers_81 : decode cX0_nevers 81 = .ok (.iload_n 2, 1) := dk_28 (dk_at dksX0_nevers_3 11 rfl rfl)
theorem dX0_nevers_82 : decode cX0_nevers 82 = .ok (.invokeinterface 313 2, 5) := by decide +kernel
theorem dX0_nevers_87 : decode cX0_nevers 87 = .ok (.checkcast 390, 3) := dk_192 1 134 (dk_at dksX0_nevers_3 17 rfl rfl)
theorem dX0_nevers_90 : decode cX0_nevers 90 = .ok (.invokeinterface 299 2, 5) := by decide +kernel
theorem dX0_nevers_95 : decode cX0_nevers 95 = .ok (.pop, 1) := dk_87 (dk_at dksX0_nevers_4 5 rfl rfl)
theorem dX0_nevers_96 : decode cX0_nevers 96 = .ok (.iinc 2 1, 3) := dk_132 2 1 (dk_at dksX0_nevers_4 6 rfl rfl)
theorem dX0_nevers_99 : decode cX0_nevers 99 = .ok (.goto (-39), 3) := dk_167 255 217 (dk_at dksX0_nevers_4 9 rfl rfl)
theorem dX0_nevers_102 : decode cX0_nevers 102 = .ok (.aload_n 0, 1) := dk_42 (dk_at dksX0_nevers_4 12 rfl rfl)
theorem dX0_nevers_103 : decode cX0_nevers 103 = .ok (.getfield 96, 3) := dk_180 0 96 (dk_at dksX0_nevers_4 13 rfl rfl)
theorem dX0_nevers_106 : decode cX0_nevers 106 = .ok (.invokeinterface 288 1, 5) := by decide +kernel
theorem dX0_nevers_111 : decode cX0_nevers 111 = .ok (.ireturn, 1) := dk_172 (dk_at dksX0_nevers_4 21 rfl rfl)
abbrev cX0_fault : ByteArray := prog_1_method_57_code
def yX0_fault : MethodName := ⟨RX0, "fault", "()I"⟩
theorem dX0_fault_0 : decode cX0_fault 0 = .ok (.aload_n 0, 1) := by decide +kernel
theorem dX0_fault_1 : decode cX0_fault 1 = .ok (.getfield 380, 3) := by decide +kernel
theorem dX0_fault_4 : decode cX0_fault 4 = .ok (.ireturn, 1) := by decide +kernel
abbrev cX0_broken : ByteArray := prog_1_method_61_code
def yX0_broken : MethodName := ⟨RX0, "broken", "()I"⟩
def dkwX0_broken_0 : List UInt8 := [42, 42, 180, 0, 13, 182, 1, 152, 172]
abbrev dktX0_broken_0 : List UInt8 := dkwX0_broken_0 ++ []
theorem dksX0_broken_0 : cX0_broken.data.toList.drop 0 = dktX0_broken_0 := by decide +kernel
theorem dX0_broken_0 : decode cX0_broken 0 = .ok (.aload_n 0, 1) := dk_42 (dk_at dksX0_broken_0 0 rfl rfl)
theorem dX0_broken_1 : decode cX0_broken 1 = .ok (.aload_n 0, 1) := dk_42 (dk_at dksX0_broken_0 1 rfl rfl)
theorem dX0_broken_2 : decode cX0_broken 2 = .ok (.getfield 13, 3) := dk_180 0 13 (dk_at dksX0_broken_0 2 rfl rfl)
theorem dX0_broken_5 : decode cX0_broken 5 = .ok (.invokevirtual 408, 3) := dk_182 1 152 (dk_at dksX0_broken_0 5 rfl rfl)
theorem dX0_broken_8 : decode cX0_broken 8 = .ok (.ireturn, 1) := dk_172 (dk_at dksX0_broken_0 8 rfl rfl)
abbrev cX0_brokenOn : ByteArray := prog_1_method_60_code
def yX0_brokenOn : MethodName := ⟨RX0, "brokenOn", "(LTableArms$Table;)I"⟩
def dkwX0_brokenOn_2 : List UInt8 := [132, 3, 1, 167, 255, 211, 28, 172]
abbrev dktX0_brokenOn_2 : List UInt8 := dkwX0_brokenOn_2 ++ []
def dkwX0_brokenOn_1 : List UInt8 := [29, 185, 1, 57, 2, 0, 192, 1, 134, 182, 1, 148, 153, 0, 7, 4, 167, 0, 4, 3, 96, 61]
abbrev dktX0_brokenOn_1 : List UInt8 := dkwX0_brokenOn_1 ++ dktX0_brokenOn_2
def dkwX0_brokenOn_0 : List UInt8 := [3, 61, 3, 62, 29, 42, 180, 0, 96, 185, 1, 32, 1, 0, 162, 0, 38, 28, 42, 43, 42, 180, 0, 96]
abbrev dktX0_brokenOn_0 : List UInt8 := dkwX0_brokenOn_0 ++ dktX0_brokenOn_1
theorem dksX0_brokenOn_0 : cX0_brokenOn.data.toList.drop 0 = dktX0_brokenOn_0 := by decide +kernel
theorem dksX0_brokenOn_1 : cX0_brokenOn.data.toList.drop 24 = dktX0_brokenOn_1 := dk_seg dksX0_brokenOn_0 24 rfl rfl
theorem dksX0_brokenOn_2 : cX0_brokenOn.data.toList.drop 46 = dktX0_brokenOn_2 := dk_seg dksX0_brokenOn_1 22 rfl rfl
theorem dX0_brokenOn_0 : decode cX0_brokenOn 0 = .ok (.iconst 0, 1) := dk_3 (dk_at dksX0_brokenOn_0 0 rfl rfl)
theorem dX0_brokenOn_1 : decode cX0_brokenOn 1 = .ok (.istore_n 2, 1) := dk_61 (dk_at dksX0_brokenOn_0 1 rfl rfl)
theorem dX0_brokenOn_2 : decode cX0_brokenOn 2 = .ok (.iconst 0, 1) := dk_3 (dk_at dksX0_brokenOn_0 2 rfl rfl)
theorem dX0_brokenOn_3 : decode cX0_brokenOn 3 = .ok (.istore_n 3, 1) := dk_62 (dk_at dksX0_brokenOn_0 3 rfl rfl)
theorem dX0_brokenOn_4 : decode cX0_brokenOn 4 = .ok (.iload_n 3, 1) := dk_29 (dk_at dksX0_brokenOn_0 4 rfl rfl)
theorem dX0_brokenOn_5 : decode cX0_brokenOn 5 = .ok (.aload_n 0, 1) := dk_42 (dk_at dksX0_brokenOn_0 5 rfl rfl)
theorem dX0_brokenOn_6 : decode cX0_brokenOn 6 = .ok (.getfield 96, 3) := dk_180 0 96 (dk_at dksX0_brokenOn_0 6 rfl rfl)
theorem dX0_brokenOn_9 : decode cX0_brokenOn 9 = .ok (.invokeinterface 288 1, 5) := by decide +kernel
theorem dX0_brokenOn_14 : decode cX0_brokenOn 14 = .ok (.if_icmp .ge 38, 3) := dk_162 0 38 (dk_at dksX0_brokenOn_0 14 rfl rfl)
theorem dX0_brokenOn_17 : decode cX0_brokenOn 17 = .ok (.iload_n 2, 1) := dk_28 (dk_at dksX0_brokenOn_0 17 rfl rfl)
theorem dX0_brokenOn_18 : decode cX0_brokenOn 18 = .ok (.aload_n 0, 1) := dk_42 (dk_at dksX0_brokenOn_0 18 rfl rfl)
theorem dX0_brokenOn_19 : decode cX0_brokenOn 19 = .ok (.aload_n 1, 1) := dk_43 (dk_at dksX0_brokenOn_0 19 rfl rfl)
theorem dX0_brokenOn_20 : decode cX0_brokenOn 20 = .ok (.aload_n 0, 1) := dk_42 (dk_at dksX0_brokenOn_0 20 rfl rfl)
theorem dX0_brokenOn_21 : decode cX0_brokenOn 21 = .ok (.getfield 96, 3) := dk_180 0 96 (dk_at dksX0_brokenOn_0 21 rfl rfl)
theorem dX0_brokenOn_24 : decode cX0_brokenOn 24 = .ok (.iload_n 3, 1) := dk_29 (dk_at dksX0_brokenOn_1 0 rfl rfl)
theorem dX0_brokenOn_25 : decode cX0_brokenOn 25 = .ok (.invokeinterface 313 2, 5) := by decide +kernel
theorem dX0_brokenOn_30 : decode cX0_brokenOn 30 = .ok (.checkcast 390, 3) := dk_192 1 134 (dk_at dksX0_brokenOn_1 6 rfl rfl)
theorem dX0_brokenOn_33 : decode cX0_brokenOn 33 = .ok (.invokevirtual 404, 3) := dk_182 1 148 (dk_at dksX0_brokenOn_1 9 rfl rfl)
theorem dX0_brokenOn_36 : decode cX0_brokenOn 36 = .ok (.ifCond .eq 7, 3) := dk_153 0 7 (dk_at dksX0_brokenOn_1 12 rfl rfl)
theorem dX0_brokenOn_39 : decode cX0_brokenOn 39 = .ok (.iconst 1, 1) := dk_4 (dk_at dksX0_brokenOn_1 15 rfl rfl)
theorem dX0_brokenOn_40 : decode cX0_brokenOn 40 = .ok (.goto 4, 3) := dk_167 0 4 (dk_at dksX0_brokenOn_1 16 rfl rfl)
theorem dX0_brokenOn_43 : decode cX0_brokenOn 43 = .ok (.iconst 0, 1) := dk_3 (dk_at dksX0_brokenOn_1 19 rfl rfl)
theorem dX0_brokenOn_44 : decode cX0_brokenOn 44 = .ok (.iadd, 1) := dk_96 (dk_at dksX0_brokenOn_1 20 rfl rfl)
theorem dX0_brokenOn_45 : decode cX0_brokenOn 45 = .ok (.istore_n 2, 1) := dk_61 (dk_at dksX0_brokenOn_1 21 rfl rfl)
theorem dX0_brokenOn_46 : decode cX0_brokenOn 46 = .ok (.iinc 3 1, 3) := dk_132 3 1 (dk_at dksX0_brokenOn_2 0 rfl rfl)
theorem dX0_brokenOn_49 : decode cX0_brokenOn 49 = .ok (.goto (-45), 3) := dk_167 255 211 (dk_at dksX0_brokenOn_2 3 rfl rfl)
theorem dX0_brokenOn_52 : decode cX0_brokenOn 52 = .ok (.iload_n 2, 1) := dk_28 (dk_at dksX0_brokenOn_2 6 rfl rfl)
theorem dX0_brokenOn_53 : decode cX0_brokenOn 53 = .ok (.ireturn, 1) := dk_172 (dk_at dksX0_brokenOn_2 7 rfl rfl)
abbrev cX0_isBroken : ByteArray := prog_1_method_59_code
def yX0_isBroken : MethodName := ⟨RX0, "isBroken", "(LTableArms$Table;LTableArms$Never;)Z"⟩
def dkwX0_isBroken_4 : List UInt8 := [44, 180, 1, 136, 44, 180, 1, 145, 182, 1, 16, 153, 0, 5, 4, 172, 132, 3, 1, 167, 255, 175, 3, 172]
abbrev dktX0_isBroken_4 : List UInt8 := dkwX0_isBroken_4 ++ []
def dkwX0_isBroken_3 : List UInt8 := [18, 202, 160, 0, 38, 43, 180, 0, 17, 29, 46, 44, 180, 1, 145, 160, 0, 25, 167, 0, 20, 42, 43, 29]
abbrev dktX0_isBroken_3 : List UInt8 := dkwX0_isBroken_3 ++ dktX0_isBroken_4
def dkwX0_isBroken_2 : List UInt8 := [180, 1, 139, 159, 0, 6, 167, 0, 57, 44, 180, 1, 136, 6, 160, 0, 30, 43, 180, 0, 199, 29, 46]
abbrev dktX0_isBroken_2 : List UInt8 := dkwX0_isBroken_2 ++ dktX0_isBroken_3
def dkwX0_isBroken_1 : List UInt8 := [4, 167, 0, 4, 3, 172, 3, 62, 29, 42, 180, 0, 173, 162, 0, 79, 42, 180, 0, 7, 29, 46, 44]
abbrev dktX0_isBroken_1 : List UInt8 := dkwX0_isBroken_1 ++ dktX0_isBroken_2
def dkwX0_isBroken_0 : List UInt8 := [44, 180, 1, 136, 7, 160, 0, 25, 42, 43, 44, 180, 1, 139, 182, 1, 142, 44, 180, 1, 145, 164, 0, 7]
abbrev dktX0_isBroken_0 : List UInt8 := dkwX0_isBroken_0 ++ dktX0_isBroken_1
theorem dksX0_isBroken_0 : cX0_isBroken.data.toList.drop 0 = dktX0_isBroken_0 := by decide +kernel
theorem dksX0_isBroken_1 : cX0_isBroken.data.toList.drop 24 = dktX0_isBroken_1 := dk_seg dksX0_isBroken_0 24 rfl rfl
theorem dksX0_isBroken_2 : cX0_isBroken.data.toList.drop 47 = dktX0_isBroken_2 := dk_seg dksX0_isBroken_1 23 rfl rfl
theorem dksX0_isBroken_3 : cX0_isBroken.data.toList.drop 70 = dktX0_isBroken_3 := dk_seg dksX0_isBroken_2 23 rfl rfl
theorem dksX0_isBroken_4 : cX0_isBroken.data.toList.drop 94 = dktX0_isBroken_4 := dk_seg dksX0_isBroken_3 24 rfl rfl
theorem dX0_isBroken_0 : decode cX0_isBroken 0 = .ok (.aload_n 2, 1) := dk_44 (dk_at dksX0_isBroken_0 0 rfl rfl)
theorem dX0_isBroken_1 : decode cX0_isBroken 1 = .ok (.getfield 392, 3) := dk_180 1 136 (dk_at dksX0_isBroken_0 1 rfl rfl)
theorem dX0_isBroken_4 : decode cX0_isBroken 4 = .ok (.iconst 4, 1) := dk_7 (dk_at dksX0_isBroken_0 4 rfl rfl)
theorem dX0_isBroken_5 : decode cX0_isBroken 5 = .ok (.if_icmp .ne 25, 3) := dk_160 0 25 (dk_at dksX0_isBroken_0 5 rfl rfl)
theorem dX0_isBroken_8 : decode cX0_isBroken 8 = .ok (.aload_n 0, 1) := dk_42 (dk_at dksX0_isBroken_0 8 rfl rfl)
theorem dX0_isBroken_9 : decode cX0_isBroken 9 = .ok (.aload_n 1, 1) := dk_43 (dk_at dksX0_isBroken_0 9 rfl rfl)
theorem dX0_isBroken_10 : decode cX0_isBroken 10 = .ok (.aload_n 2, 1) := dk_44 (dk_at dksX0_isBroken_0 10 rfl rfl)
theorem dX0_isBroken_11 : decode cX0_isBroken 11 = .ok (.getfield 395, 3) := dk_180 1 139 (dk_at dksX0_isBroken_0 11 rfl rfl)
theorem dX0_isBroken_14 : decode cX0_isBroken 14 = .ok (.invokevirtual 398, 3) := dk_182 1 142 (dk_at dksX0_isBroken_0 14 rfl rfl)
theorem dX0_isBroken_17 : decode cX0_isBroken 17 = .ok (.aload_n 2, 1) := dk_44 (dk_at dksX0_isBroken_0 17 rfl rfl)
theorem dX0_isBroken_18 : decode cX0_isBroken 18 = .ok (.getfield 401, 3) := dk_180 1 145 (dk_at dksX0_isBroken_0 18 rfl rfl)
theorem dX0_isBroken_21 : decode cX0_isBroken 21 = .ok (.if_icmp .le 7, 3) := dk_164 0 7 (dk_at dksX0_isBroken_0 21 rfl rfl)
theorem dX0_isBroken_24 : decode cX0_isBroken 24 = .ok (.iconst 1, 1) := dk_4 (dk_at dksX0_isBroken_1 0 rfl rfl)
theorem dX0_isBroken_25 : decode cX0_isBroken 25 = .ok (.goto 4, 3) := dk_167 0 4 (dk_at dksX0_isBroken_1 1 rfl rfl)
theorem dX0_isBroken_28 : decode cX0_isBroken 28 = .ok (.iconst 0, 1) := dk_3 (dk_at dksX0_isBroken_1 4 rfl rfl)
theorem dX0_isBroken_29 : decode cX0_isBroken 29 = .ok (.ireturn, 1) := dk_172 (dk_at dksX0_isBroken_1 5 rfl rfl)
theorem dX0_isBroken_30 : decode cX0_isBroken 30 = .ok (.iconst 0, 1) := dk_3 (dk_at dksX0_isBroken_1 6 rfl rfl)
theorem dX0_isBroken_31 : decode cX0_isBroken 31 = .ok (.istore_n 3, 1) := dk_62 (dk_at dksX0_isBroken_1 7 rfl rfl)
theorem dX0_isBroken_32 : decode cX0_isBroken 32 = .ok (.iload_n 3, 1) := dk_29 (dk_at dksX0_isBroken_1 8 rfl rfl)
theorem dX0_isBroken_33 : decode cX0_isBroken 33 = .ok (.aload_n 0, 1) := dk_42 (dk_at dksX0_isBroken_1 9 rfl rfl)
theorem dX0_isBroken_34 : decode cX0_isBroken 34 = .ok (.getfield 173, 3) := dk_180 0 173 (dk_at dksX0_isBroken_1 10 rfl rfl)
theorem dX0_isBroken_37 : decode cX0_isBroken 37 = .ok (.if_icmp .ge 79, 3) := dk_162 0 79 (dk_at dksX0_isBroken_1 13 rfl rfl)
theorem dX0_isBroken_40 : decode cX0_isBroken 40 = .ok (.aload_n 0, 1) := dk_42 (dk_at dksX0_isBroken_1 16 rfl rfl)
theorem dX0_isBroken_41 : decode cX0_isBroken 41 = .ok (.getfield 7, 3) := dk_180 0 7 (dk_at dksX0_isBroken_1 17 rfl rfl)
theorem dX0_isBroken_44 : decode cX0_isBroken 44 = .ok (.iload_n 3, 1) := dk_29 (dk_at dksX0_isBroken_1 20 rfl rfl)
theorem dX0_isBroken_45 : decode cX0_isBroken 45 = .ok (.iaload, 1) := dk_46 (dk_at dksX0_isBroken_1 21 rfl rfl)
theorem dX0_isBroken_46 : decode cX0_isBroken 46 = .ok (.aload_n 2, 1) := dk_44 (dk_at dksX0_isBroken_1 22 rfl rfl)
theorem dX0_isBroken_47 : decode cX0_isBroken 47 = .ok (.getfield 395, 3) := dk_180 1 139 (dk_at dksX0_isBroken_2 0 rfl rfl)
theorem dX0_isBroken_50 : decode cX0_isBroken 50 = .ok (.if_icmp .eq 6, 3) := dk_159 0 6 (dk_at dksX0_isBroken_2 3 rfl rfl)
theorem dX0_isBroken_53 : decode cX0_isBroken 53 = .ok (.goto 57, 3) := dk_167 0 57 (dk_at dksX0_isBroken_2 6 rfl rfl)
theorem dX0_isBroken_56 : decode cX0_isBroken 56 = .ok (.aload_n 2, 1) := dk_44 (dk_at dksX0_isBroken_2 9 rfl rfl)
theorem dX0_isBroken_57 : decode cX0_isBroken 57 = .ok (.getfield 392, 3) := dk_180 1 136 (dk_at dksX0_isBroken_2 10 rfl rfl)
theorem dX0_isBroken_60 : decode cX0_isBroken 60 = .ok (.iconst 3, 1) := dk_6 (dk_at dksX0_isBroken_2 13 rfl rfl)
theorem dX0_isBroken_61 : decode cX0_isBroken 61 = .ok (.if_icmp .ne 30, 3) := dk_160 0 30 (dk_at dksX0_isBroken_2 14 rfl rfl)
theorem dX0_isBroken_64 : decode cX0_isBroken 64 = .ok (.aload_n 1, 1) := dk_43 (dk_at dksX0_isBroken_2 17 rfl rfl)
theorem dX0_isBroken_65 : decode cX0_isBroken 65 = .ok (.getfield 199, 3) := dk_180 0 199 (dk_at dksX0_isBroken_2 18 rfl rfl)
theorem dX0_isBroken_68 : decode cX0_isBroken 68 = .ok (.iload_n 3, 1) := dk_29 (dk_at dksX0_isBroken_2 21 rfl rfl)
theorem dX0_isBroken_69 : decode cX0_isBroken 69 = .ok (.iaload, 1) := dk_46 (dk_at dksX0_isBroken_2 22 rfl rfl)
theorem dX0_isBroken_70 : decode cX0_isBroken 70 = .ok (.ldc 202, 2) := dk_18 202 (dk_at dksX0_isBroken_3 0 rfl rfl)
theorem dX0_isBroken_72 : decode cX0_isBroken 72 = .ok (.if_icmp .ne 38, 3) := dk_160 0 38 (dk_at dksX0_isBroken_3 2 rfl rfl)
theorem dX0_isBroken_75 : decode cX0_isBroken 75 = .ok (.aload_n 1, 1) := dk_43 (dk_at dksX0_isBroken_3 5 rfl rfl)
theorem dX0_isBroken_76 : decode cX0_isBroken 76 = .ok (.getfield 17, 3) := dk_180 0 17 (dk_at dksX0_isBroken_3 6 rfl rfl)
theorem dX0_isBroken_79 : decode cX0_isBroken 79 = .ok (.iload_n 3, 1) := dk_29 (dk_at dksX0_isBroken_3 9 rfl rfl)
theorem dX0_isBroken_80 : decode cX0_isBroken 80 = .ok (.iaload, 1) := dk_46 (dk_at dksX0_isBroken_3 10 rfl rfl)
theorem dX0_isBroken_81 : decode cX0_isBroken 81 = .ok (.aload_n 2, 1) := dk_44 (dk_at dksX0_isBroken_3 11 rfl rfl)
theorem dX0_isBroken_82 : decode cX0_isBroken 82 = .ok (.getfield 401, 3) := dk_180 1 145 (dk_at dksX0_isBroken_3 12 rfl rfl)
theorem dX0_isBroken_85 : decode cX0_isBroken 85 = .ok (.if_icmp .ne 25, 3) := dk_160 0 25 (dk_at dksX0_isBroken_3 15 rfl rfl)
theorem dX0_isBroken_88 : decode cX0_isBroken 88 = .ok (.goto 20, 3) := dk_167 0 20 (dk_at dksX0_isBroken_3 18 rfl rfl)
theorem dX0_isBroken_91 : decode cX0_isBroken 91 = .ok (.aload_n 0, 1) := dk_42 (dk_at dksX0_isBroken_3 21 rfl rfl)
theorem dX0_isBroken_92 : decode cX0_isBroken 92 = .ok (.aload_n 1, 1) := dk_43 (dk_at dksX0_isBroken_3 22 rfl rfl)
theorem dX0_isBroken_93 : decode cX0_isBroken 93 = .ok (.iload_n 3, 1) := dk_29 (dk_at dksX0_isBroken_3 23 rfl rfl)
theorem dX0_isBroken_94 : decode cX0_isBroken 94 = .ok (.aload_n 2, 1) := dk_44 (dk_at dksX0_isBroken_4 0 rfl rfl)
theorem dX0_isBroken_95 : decode cX0_isBroken 95 = .ok (.getfield 392, 3) := dk_180 1 136 (dk_at dksX0_isBroken_4 1 rfl rfl)
theorem dX0_isBroken_98 : decode cX0_isBroken 98 = .ok (.aload_n 2, 1) := dk_44 (dk_at dksX0_isBroken_4 4 rfl rfl)
theorem dX0_isBroken_99 : decode cX0_isBroken 99 = .ok (.getfield 401, 3) := dk_180 1 145 (dk_at dksX0_isBroken_4 5 rfl rfl)
theorem dX0_isBroken_102 : decode cX0_isBroken 102 = .ok (.invokevirtual 272, 3) := dk_182 1 16 (dk_at dksX0_isBroken_4 8 rfl rfl)
theorem dX0_isBroken_105 : decode cX0_isBroken 105 = .ok (.ifCond .eq 5, 3) := dk_153 0 5 (dk_at dksX0_isBroken_4 11 rfl rfl)
theorem dX0_isBroken_108 : decode cX0_isBroken 108 = .ok (.iconst 1, 1) := dk_4 (dk_at dksX0_isBroken_4 14 rfl rfl)
theorem dX0_isBroken_109 : decode cX0_isBroken 109 = .ok (.ireturn, 1) := dk_172 (dk_at dksX0_isBroken_4 15 rfl rfl)
theorem dX0_isBroken_110 : decode cX0_isBroken 110 = .ok (.iinc 3 1, 3) := dk_132 3 1 (dk_at dksX0_isBroken_4 16 rfl rfl)
theorem dX0_isBroken_113 : decode cX0_isBroken 113 = .ok (.goto (-81), 3) := dk_167 255 175 (dk_at dksX0_isBroken_4 19 rfl rfl)
theorem dX0_isBroken_116 : decode cX0_isBroken 116 = .ok (.iconst 0, 1) := dk_3 (dk_at dksX0_isBroken_4 22 rfl rfl)
theorem dX0_isBroken_117 : decode cX0_isBroken 117 = .ok (.ireturn, 1) := dk_172 (dk_at dksX0_isBroken_4 23 rfl rfl)
abbrev cX0_weightOn : ByteArray := prog_1_method_58_code
def yX0_weightOn : MethodName := ⟨RX0, "weightOn", "(LTableArms$Table;I)I"⟩
def dkwX0_weightOn_3 : List UInt8 := [29, 172]
abbrev dktX0_weightOn_3 : List UInt8 := dkwX0_weightOn_3 ++ []
def dkwX0_weightOn_2 : List UInt8 := [167, 0, 15, 42, 180, 0, 65, 43, 180, 0, 206, 21, 5, 46, 46, 96, 96, 62, 132, 4, 1, 167, 255, 194]
abbrev dktX0_weightOn_2 : List UInt8 := dkwX0_weightOn_2 ++ dktX0_weightOn_3
def dkwX0_weightOn_1 : List UInt8 := [54, 5, 29, 42, 180, 0, 65, 21, 5, 46, 43, 180, 0, 206, 21, 5, 46, 18, 202, 160, 0, 7, 3]
abbrev dktX0_weightOn_1 : List UInt8 := dkwX0_weightOn_1 ++ dktX0_weightOn_2
def dkwX0_weightOn_0 : List UInt8 := [3, 62, 3, 54, 4, 21, 4, 43, 180, 0, 25, 28, 46, 162, 0, 57, 43, 28, 21, 4, 182, 0, 28]
abbrev dktX0_weightOn_0 : List UInt8 := dkwX0_weightOn_0 ++ dktX0_weightOn_1
theorem dksX0_weightOn_0 : cX0_weightOn.data.toList.drop 0 = dktX0_weightOn_0 := by decide +kernel
theorem dksX0_weightOn_1 : cX0_weightOn.data.toList.drop 23 = dktX0_weightOn_1 := dk_seg dksX0_weightOn_0 23 rfl rfl
theorem dksX0_weightOn_2 : cX0_weightOn.data.toList.drop 46 = dktX0_weightOn_2 := dk_seg dksX0_weightOn_1 23 rfl rfl
theorem dksX0_weightOn_3 : cX0_weightOn.data.toList.drop 70 = dktX0_weightOn_3 := dk_seg dksX0_weightOn_2 24 rfl rfl
theorem dX0_weightOn_0 : decode cX0_weightOn 0 = .ok (.iconst 0, 1) := dk_3 (dk_at dksX0_weightOn_0 0 rfl rfl)
theorem dX0_weightOn_1 : decode cX0_weightOn 1 = .ok (.istore_n 3, 1) := dk_62 (dk_at dksX0_weightOn_0 1 rfl rfl)
theorem dX0_weightOn_2 : decode cX0_weightOn 2 = .ok (.iconst 0, 1) := dk_3 (dk_at dksX0_weightOn_0 2 rfl rfl)
theorem dX0_weightOn_3 : decode cX0_weightOn 3 = .ok (.istore 4, 2) := dk_54 4 (dk_at dksX0_weightOn_0 3 rfl rfl)
theorem dX0_weightOn_5 : decode cX0_weightOn 5 = .ok (.iload 4, 2) := dk_21 4 (dk_at dksX0_weightOn_0 5 rfl rfl)
theorem dX0_weightOn_7 : decode cX0_weightOn 7 = .ok (.aload_n 1, 1) := dk_43 (dk_at dksX0_weightOn_0 7 rfl rfl)
theorem dX0_weightOn_8 : decode cX0_weightOn 8 = .ok (.getfield 25, 3) := dk_180 0 25 (dk_at dksX0_weightOn_0 8 rfl rfl)
theorem dX0_weightOn_11 : decode cX0_weightOn 11 = .ok (.iload_n 2, 1) := dk_28 (dk_at dksX0_weightOn_0 11 rfl rfl)
theorem dX0_weightOn_12 : decode cX0_weightOn 12 = .ok (.iaload, 1) := dk_46 (dk_at dksX0_weightOn_0 12 rfl rfl)
theorem dX0_weightOn_13 : decode cX0_weightOn 13 = .ok (.if_icmp .ge 57, 3) := dk_162 0 57 (dk_at dksX0_weightOn_0 13 rfl rfl)
theorem dX0_weightOn_16 : decode cX0_weightOn 16 = .ok (.aload_n 1, 1) := dk_43 (dk_at dksX0_weightOn_0 16 rfl rfl)
theorem dX0_weightOn_17 : decode cX0_weightOn 17 = .ok (.iload_n 2, 1) := dk_28 (dk_at dksX0_weightOn_0 17 rfl rfl)
theorem dX0_weightOn_18 : decode cX0_weightOn 18 = .ok (.iload 4, 2) := dk_21 4 (dk_at dksX0_weightOn_0 18 rfl rfl)
theorem dX0_weightOn_20 : decode cX0_weightOn 20 = .ok (.invokevirtual 28, 3) := dk_182 0 28 (dk_at dksX0_weightOn_0 20 rfl rfl)
theorem dX0_weightOn_23 : decode cX0_weightOn 23 = .ok (.istore 5, 2) := dk_54 5 (dk_at dksX0_weightOn_1 0 rfl rfl)
theorem dX0_weightOn_25 : decode cX0_weightOn 25 = .ok (.iload_n 3, 1) := dk_29 (dk_at dksX0_weightOn_1 2 rfl rfl)
theorem dX0_weightOn_26 : decode cX0_weightOn 26 = .ok (.aload_n 0, 1) := dk_42 (dk_at dksX0_weightOn_1 3 rfl rfl)
theorem dX0_weightOn_27 : decode cX0_weightOn 27 = .ok (.getfield 65, 3) := dk_180 0 65 (dk_at dksX0_weightOn_1 4 rfl rfl)
theorem dX0_weightOn_30 : decode cX0_weightOn 30 = .ok (.iload 5, 2) := dk_21 5 (dk_at dksX0_weightOn_1 7 rfl rfl)
theorem dX0_weightOn_32 : decode cX0_weightOn 32 = .ok (.iaload, 1) := dk_46 (dk_at dksX0_weightOn_1 9 rfl rfl)
theorem dX0_weightOn_33 : decode cX0_weightOn 33 = .ok (.aload_n 1, 1) := dk_43 (dk_at dksX0_weightOn_1 10 rfl rfl)
theorem dX0_weightOn_34 : decode cX0_weightOn 34 = .ok (.getfield 206, 3) := dk_180 0 206 (dk_at dksX0_weightOn_1 11 rfl rfl)
theorem dX0_weightOn_37 : decode cX0_weightOn 37 = .ok (.iload 5, 2) := dk_21 5 (dk_at dksX0_weightOn_1 14 rfl rfl)
theorem dX0_weightOn_39 : decode cX0_weightOn 39 = .ok (.iaload, 1) := dk_46 (dk_at dksX0_weightOn_1 16 rfl rfl)
theorem dX0_weightOn_40 : decode cX0_weightOn 40 = .ok (.ldc 202, 2) := dk_18 202 (dk_at dksX0_weightOn_1 17 rfl rfl)
theorem dX0_weightOn_42 : decode cX0_weightOn 42 = .ok (.if_icmp .ne 7, 3) := dk_160 0 7 (dk_at dksX0_weightOn_1 19 rfl rfl)
theorem dX0_weightOn_45 : decode cX0_weightOn 45 = .ok (.iconst 0, 1) := dk_3 (dk_at dksX0_weightOn_1 22 rfl rfl)
theorem dX0_weightOn_46 : decode cX0_weightOn 46 = .ok (.goto 15, 3) := dk_167 0 15 (dk_at dksX0_weightOn_2 0 rfl rfl)
theorem dX0_weightOn_49 : decode cX0_weightOn 49 = .ok (.aload_n 0, 1) := dk_42 (dk_at dksX0_weightOn_2 3 rfl rfl)
theorem dX0_weightOn_50 : decode cX0_weightOn 50 = .ok (.getfield 65, 3) := dk_180 0 65 (dk_at dksX0_weightOn_2 4 rfl rfl)
theorem dX0_weightOn_53 : decode cX0_weightOn 53 = .ok (.aload_n 1, 1) := dk_43 (dk_at dksX0_weightOn_2 7 rfl rfl)
theorem dX0_weightOn_54 : decode cX0_weightOn 54 = .ok (.getfield 206, 3) := dk_180 0 206 (dk_at dksX0_weightOn_2 8 rfl rfl)
theorem dX0_weightOn_57 : decode cX0_weightOn 57 = .ok (.iload 5, 2) := dk_21 5 (dk_at dksX0_weightOn_2 11 rfl rfl)
theorem dX0_weightOn_59 : decode cX0_weightOn 59 = .ok (.iaload, 1) := dk_46 (dk_at dksX0_weightOn_2 13 rfl rfl)
theorem dX0_weightOn_60 : decode cX0_weightOn 60 = .ok (.iaload, 1) := dk_46 (dk_at dksX0_weightOn_2 14 rfl rfl)
theorem dX0_weightOn_61 : decode cX0_weightOn 61 = .ok (.iadd, 1) := dk_96 (dk_at dksX0_weightOn_2 15 rfl rfl)
theorem dX0_weightOn_62 : decode cX0_weightOn 62 = .ok (.iadd, 1) := dk_96 (dk_at dksX0_weightOn_2 16 rfl rfl)
theorem dX0_weightOn_63 : decode cX0_weightOn 63 = .ok (.istore_n 3, 1) := dk_62 (dk_at dksX0_weightOn_2 17 rfl rfl)
theorem dX0_weightOn_64 : decode cX0_weightOn 64 = .ok (.iinc 4 1, 3) := dk_132 4 1 (dk_at dksX0_weightOn_2 18 rfl rfl)
theorem dX0_weightOn_67 : decode cX0_weightOn 67 = .ok (.goto (-62), 3) := dk_167 255 194 (dk_at dksX0_weightOn_2 21 rfl rfl)
theorem dX0_weightOn_70 : decode cX0_weightOn 70 = .ok (.iload_n 3, 1) := dk_29 (dk_at dksX0_weightOn_3 0 rfl rfl)
theorem dX0_weightOn_71 : decode cX0_weightOn 71 = .ok (.ireturn, 1) := dk_172 (dk_at dksX0_weightOn_3 1 rfl rfl)
abbrev cX0_let : ByteArray := prog_1_method_63_code
def yX0_let : MethodName := ⟨RX0, "let", "(III)I"⟩
def dkwX0_let_4 : List UInt8 := [54, 4, 132, 5, 1, 167, 255, 211, 21, 4, 153, 0, 7, 4, 167, 0, 4, 3, 172]
abbrev dktX0_let_4 : List UInt8 := dkwX0_let_4 ++ []
def dkwX0_let_3 : List UInt8 := [21, 5, 184, 1, 2, 153, 0, 13, 42, 28, 21, 5, 182, 1, 155, 153, 0, 7, 4, 167, 0, 4, 3, 126]
abbrev dktX0_let_3 : List UInt8 := dkwX0_let_3 ++ dktX0_let_4
def dkwX0_let_2 : List UInt8 := [182, 1, 155, 54, 4, 3, 54, 5, 21, 5, 16, 8, 162, 0, 44, 29, 16, 8, 162, 0, 38, 21, 4, 29]
abbrev dktX0_let_2 : List UInt8 := dkwX0_let_2 ++ dktX0_let_3
def dkwX0_let_1 : List UInt8 := [153, 0, 17, 42, 42, 180, 0, 13, 27, 28, 29, 182, 0, 238, 154, 0, 6, 18, 242, 172, 42, 28, 29]
abbrev dktX0_let_1 : List UInt8 := dkwX0_let_1 ++ dktX0_let_2
def dkwX0_let_0 : List UInt8 := [42, 27, 28, 29, 182, 0, 230, 154, 0, 6, 18, 141, 172, 42, 42, 180, 0, 13, 28, 29, 182, 0, 234]
abbrev dktX0_let_0 : List UInt8 := dkwX0_let_0 ++ dktX0_let_1
theorem dksX0_let_0 : cX0_let.data.toList.drop 0 = dktX0_let_0 := by decide +kernel
theorem dksX0_let_1 : cX0_let.data.toList.drop 23 = dktX0_let_1 := dk_seg dksX0_let_0 23 rfl rfl
theorem dksX0_let_2 : cX0_let.data.toList.drop 46 = dktX0_let_2 := dk_seg dksX0_let_1 23 rfl rfl
theorem dksX0_let_3 : cX0_let.data.toList.drop 70 = dktX0_let_3 := dk_seg dksX0_let_2 24 rfl rfl
theorem dksX0_let_4 : cX0_let.data.toList.drop 94 = dktX0_let_4 := dk_seg dksX0_let_3 24 rfl rfl
theorem dX0_let_0 : decode cX0_let 0 = .ok (.aload_n 0, 1) := dk_42 (dk_at dksX0_let_0 0 rfl rfl)
theorem dX0_let_1 : decode cX0_let 1 = .ok (.iload_n 1, 1) := dk_27 (dk_at dksX0_let_0 1 rfl rfl)
theorem dX0_let_2 : decode cX0_let 2 = .ok (.iload_n 2, 1) := dk_28 (dk_at dksX0_let_0 2 rfl rfl)
theorem dX0_let_3 : decode cX0_let 3 = .ok (.iload_n 3, 1) := dk_29 (dk_at dksX0_let_0 3 rfl rfl)
theorem dX0_let_4 : decode cX0_let 4 = .ok (.invokevirtual 230, 3) := dk_182 0 230 (dk_at dksX0_let_0 4 rfl rfl)
theorem dX0_let_7 : decode cX0_let 7 = .ok (.ifCond .ne 6, 3) := dk_154 0 6 (dk_at dksX0_let_0 7 rfl rfl)
theorem dX0_let_10 : decode cX0_let 10 = .ok (.ldc 141, 2) := dk_18 141 (dk_at dksX0_let_0 10 rfl rfl)
theorem dX0_let_12 : decode cX0_let 12 = .ok (.ireturn, 1) := dk_172 (dk_at dksX0_let_0 12 rfl rfl)
theorem dX0_let_13 : decode cX0_let 13 = .ok (.aload_n 0, 1) := dk_42 (dk_at dksX0_let_0 13 rfl rfl)
theorem dX0_let_14 : decode cX0_let 14 = .ok (.aload_n 0, 1) := dk_42 (dk_at dksX0_let_0 14 rfl rfl)
theorem dX0_let_15 : decode cX0_let 15 = .ok (.getfield 13, 3) := dk_180 0 13 (dk_at dksX0_let_0 15 rfl rfl)
theorem dX0_let_18 : decode cX0_let 18 = .ok (.iload_n 2, 1) := dk_28 (dk_at dksX0_let_0 18 rfl rfl)
theorem dX0_let_19 : decode cX0_let 19 = .ok (.iload_n 3, 1) := dk_29 (dk_at dksX0_let_0 19 rfl rfl)
theorem dX0_let_20 : decode cX0_let 20 = .ok (.invokevirtual 234, 3) := dk_182 0 234 (dk_at dksX0_let_0 20 rfl rfl)
theorem dX0_let_23 : decode cX0_let 23 = .ok (.ifCond .eq 17, 3) := dk_153 0 17 (dk_at dksX0_let_1 0 rfl rfl)
theorem dX0_let_26 : decode cX0_let 26 = .ok (.aload_n 0, 1) := dk_42 (dk_at dksX0_let_1 3 rfl rfl)
theorem dX0_let_27 : decode cX0_let 27 = .ok (.aload_n 0, 1) := dk_42 (dk_at dksX0_let_1 4 rfl rfl)
theorem dX0_let_28 : decode cX0_let 28 = .ok (.getfield 13, 3) := dk_180 0 13 (dk_at dksX0_let_1 5 rfl rfl)
theorem dX0_let_31 : decode cX0_let 31 = .ok (.iload_n 1, 1) := dk_27 (dk_at dksX0_let_1 8 rfl rfl)
theorem dX0_let_32 : decode cX0_let 32 = .ok (.iload_n 2, 1) := dk_28 (dk_at dksX0_let_1 9 rfl rfl)
theorem dX0_let_33 : decode cX0_let 33 = .ok (.iload_n 3, 1) := dk_29 (dk_at dksX0_let_1 10 rfl rfl)
theorem dX0_let_34 : decode cX0_let 34 = .ok (.invokevirtual 238, 3) := dk_182 0 238 (dk_at dksX0_let_1 11 rfl rfl)
theorem dX0_let_37 : decode cX0_let 37 = .ok (.ifCond .ne 6, 3) := dk_154 0 6 (dk_at dksX0_let_1 14 rfl rfl)
theorem dX0_let_40 : decode cX0_let 40 = .ok (.ldc 242, 2) := dk_18 242 (dk_at dksX0_let_1 17 rfl rfl)
theorem dX0_let_42 : decode cX0_let 42 = .ok (.ireturn, 1) := dk_172 (dk_at dksX0_let_1 19 rfl rfl)
theorem dX0_let_43 : decode cX0_let 43 = .ok (.aload_n 0, 1) := dk_42 (dk_at dksX0_let_1 20 rfl rfl)
theorem dX0_let_44 : decode cX0_let 44 = .ok (.iload_n 2, 1) := dk_28 (dk_at dksX0_let_1 21 rfl rfl)
theorem dX0_let_45 : decode cX0_let 45 = .ok (.iload_n 3, 1) := dk_29 (dk_at dksX0_let_1 22 rfl rfl)
theorem dX0_let_46 : decode cX0_let 46 = .ok (.invokevirtual 411, 3) := dk_182 1 155 (dk_at dksX0_let_2 0 rfl rfl)
theorem dX0_let_49 : decode cX0_let 49 = .ok (.istore 4, 2) := dk_54 4 (dk_at dksX0_let_2 3 rfl rfl)
theorem dX0_let_51 : decode cX0_let 51 = .ok (.iconst 0, 1) := dk_3 (dk_at dksX0_let_2 5 rfl rfl)
theorem dX0_let_52 : decode cX0_let 52 = .ok (.istore 5, 2) := dk_54 5 (dk_at dksX0_let_2 6 rfl rfl)
theorem dX0_let_54 : decode cX0_let 54 = .ok (.iload 5, 2) := dk_21 5 (dk_at dksX0_let_2 8 rfl rfl)
theorem dX0_let_56 : decode cX0_let 56 = .ok (.bipush 8, 2) := dk_16 8 (dk_at dksX0_let_2 10 rfl rfl)
theorem dX0_let_58 : decode cX0_let 58 = .ok (.if_icmp .ge 44, 3) := dk_162 0 44 (dk_at dksX0_let_2 12 rfl rfl)
theorem dX0_let_61 : decode cX0_let 61 = .ok (.iload_n 3, 1) := dk_29 (dk_at dksX0_let_2 15 rfl rfl)
theorem dX0_let_62 : decode cX0_let 62 = .ok (.bipush 8, 2) := dk_16 8 (dk_at dksX0_let_2 16 rfl rfl)
theorem dX0_let_64 : decode cX0_let 64 = .ok (.if_icmp .ge 38, 3) := dk_162 0 38 (dk_at dksX0_let_2 18 rfl rfl)
theorem dX0_let_67 : decode cX0_let 67 = .ok (.iload 4, 2) := dk_21 4 (dk_at dksX0_let_2 21 rfl rfl)
theorem dX0_let_69 : decode cX0_let 69 = .ok (.iload_n 3, 1) := dk_29 (dk_at dksX0_let_2 23 rfl rfl)
theorem dX0_let_70 : decode cX0_let 70 = .ok (.iload 5, 2) := dk_21 5 (dk_at dksX0_let_3 0 rfl rfl)
theorem dX0_let_72 : decode cX0_let 72 = .ok (.invokestatic 258, 3) := dk_184 1 2 (dk_at dksX0_let_3 2 rfl rfl)
theorem dX0_let_75 : decode cX0_let 75 = .ok (.ifCond .eq 13, 3) := dk_153 0 13 (dk_at dksX0_let_3 5 rfl rfl)
theorem dX0_let_78 : decode cX0_let 78 = .ok (.aload_n 0, 1) := dk_42 (dk_at dksX0_let_3 8 rfl rfl)
theorem dX0_let_79 : decode cX0_let 79 = .ok (.iload_n 2, 1) := dk_28 (dk_at dksX0_let_3 9 rfl rfl)
theorem dX0_let_80 : decode cX0_let 80 = .ok (.iload 5, 2) := dk_21 5 (dk_at dksX0_let_3 10 rfl rfl)
theorem dX0_let_82 : decode cX0_let 82 = .ok (.invokevirtual 411, 3) := dk_182 1 155 (dk_at dksX0_let_3 12 rfl rfl)
theorem dX0_let_85 : decode cX0_let 85 = .ok (.ifCond .eq 7, 3) := dk_153 0 7 (dk_at dksX0_let_3 15 rfl rfl)
theorem dX0_let_88 : decode cX0_let 88 = .ok (.iconst 1, 1) := dk_4 (dk_at dksX0_let_3 18 rfl rfl)
theorem dX0_let_89 : decode cX0_let 89 = .ok (.goto 4, 3) := dk_167 0 4 (dk_at dksX0_let_3 19 rfl rfl)
theorem dX0_let_92 : decode cX0_let 92 = .ok (.iconst 0, 1) := dk_3 (dk_at dksX0_let_3 22 rfl rfl)
theorem dX0_let_93 : decode cX0_let 93 = .ok (.iand, 1) := dk_126 (dk_at dksX0_let_3 23 rfl rfl)
theorem dX0_let_94 : decode cX0_let 94 = .ok (.istore 4, 2) := dk_54 4 (dk_at dksX0_let_4 0 rfl rfl)
theorem dX0_let_96 : decode cX0_let 96 = .ok (.iinc 5 1, 3) := dk_132 5 1 (dk_at dksX0_let_4 2 rfl rfl)
theorem dX0_let_99 : decode cX0_let 99 = .ok (.goto (-45), 3) := dk_167 255 211 (dk_at dksX0_let_4 5 rfl rfl)
theorem dX0_let_102 : decode cX0_let 102 = .ok (.iload 4, 2) := dk_21 4 (dk_at dksX0_let_4 8 rfl rfl)
theorem dX0_let_104 : decode cX0_let 104 = .ok (.ifCond .eq 7, 3) := dk_153 0 7 (dk_at dksX0_let_4 10 rfl rfl)
theorem dX0_let_107 : decode cX0_let 107 = .ok (.iconst 1, 1) := dk_4 (dk_at dksX0_let_4 13 rfl rfl)
theorem dX0_let_108 : decode cX0_let 108 = .ok (.goto 4, 3) := dk_167 0 4 (dk_at dksX0_let_4 14 rfl rfl)
theorem dX0_let_111 : decode cX0_let 111 = .ok (.iconst 0, 1) := dk_3 (dk_at dksX0_let_4 17 rfl rfl)
theorem dX0_let_112 : decode cX0_let 112 = .ok (.ireturn, 1) := dk_172 (dk_at dksX0_let_4 18 rfl rfl)
abbrev cX0_isSafe : ByteArray := prog_1_method_62_code
def yX0_isSafe : MethodName := ⟨RX0, "isSafe", "(II)Z"⟩
def dkwX0_isSafe_1 : List UInt8 := [180, 0, 73, 182, 1, 152, 154, 0, 7, 4, 167, 0, 4, 3, 172]
abbrev dktX0_isSafe_1 : List UInt8 := dkwX0_isSafe_1 ++ []
def dkwX0_isSafe_0 : List UInt8 := [42, 180, 0, 73, 42, 180, 0, 13, 182, 0, 247, 42, 180, 0, 73, 27, 28, 184, 0, 243, 42, 42]
abbrev dktX0_isSafe_0 : List UInt8 := dkwX0_isSafe_0 ++ dktX0_isSafe_1
theorem dksX0_isSafe_0 : cX0_isSafe.data.toList.drop 0 = dktX0_isSafe_0 := by decide +kernel
theorem dksX0_isSafe_1 : cX0_isSafe.data.toList.drop 22 = dktX0_isSafe_1 := dk_seg dksX0_isSafe_0 22 rfl rfl
theorem dX0_isSafe_0 : decode cX0_isSafe 0 = .ok (.aload_n 0, 1) := dk_42 (dk_at dksX0_isSafe_0 0 rfl rfl)
theorem dX0_isSafe_1 : decode cX0_isSafe 1 = .ok (.getfield 73, 3) := dk_180 0 73 (dk_at dksX0_isSafe_0 1 rfl rfl)
theorem dX0_isSafe_4 : decode cX0_isSafe 4 = .ok (.aload_n 0, 1) := dk_42 (dk_at dksX0_isSafe_0 4 rfl rfl)
theorem dX0_isSafe_5 : decode cX0_isSafe 5 = .ok (.getfield 13, 3) := dk_180 0 13 (dk_at dksX0_isSafe_0 5 rfl rfl)
theorem dX0_isSafe_8 : decode cX0_isSafe 8 = .ok (.invokevirtual 247, 3) := dk_182 0 247 (dk_at dksX0_isSafe_0 8 rfl rfl)
theorem dX0_isSafe_11 : decode cX0_isSafe 11 = .ok (.aload_n 0, 1) := dk_42 (dk_at dksX0_isSafe_0 11 rfl rfl)
theorem dX0_isSafe_12 : decode cX0_isSafe 12 = .ok (.getfield 73, 3) := dk_180 0 73 (dk_at dksX0_isSafe_0 12 rfl rfl)
theorem dX0_isSafe_15 : decode cX0_isSafe 15 = .ok (.iload_n 1, 1) := dk_27 (dk_at dksX0_isSafe_0 15 rfl rfl)
theorem dX0_isSafe_16 : decode cX0_isSafe 16 = .ok (.iload_n 2, 1) := dk_28 (dk_at dksX0_isSafe_0 16 rfl rfl)
theorem dX0_isSafe_17 : decode cX0_isSafe 17 = .ok (.invokestatic 243, 3) := dk_184 0 243 (dk_at dksX0_isSafe_0 17 rfl rfl)
theorem dX0_isSafe_20 : decode cX0_isSafe 20 = .ok (.aload_n 0, 1) := dk_42 (dk_at dksX0_isSafe_0 20 rfl rfl)
theorem dX0_isSafe_21 : decode cX0_isSafe 21 = .ok (.aload_n 0, 1) := dk_42 (dk_at dksX0_isSafe_0 21 rfl rfl)
theorem dX0_isSafe_22 : decode cX0_isSafe 22 = .ok (.getfield 73, 3) := dk_180 0 73 (dk_at dksX0_isSafe_1 0 rfl rfl)
theorem dX0_isSafe_25 : decode cX0_isSafe 25 = .ok (.invokevirtual 408, 3) := dk_182 1 152 (dk_at dksX0_isSafe_1 3 rfl rfl)
theorem dX0_isSafe_28 : decode cX0_isSafe 28 = .ok (.ifCond .ne 7, 3) := dk_154 0 7 (dk_at dksX0_isSafe_1 6 rfl rfl)
theorem dX0_isSafe_31 : decode cX0_isSafe 31 = .ok (.iconst 1, 1) := dk_4 (dk_at dksX0_isSafe_1 9 rfl rfl)
theorem dX0_isSafe_32 : decode cX0_isSafe 32 = .ok (.goto 4, 3) := dk_167 0 4 (dk_at dksX0_isSafe_1 10 rfl rfl)
theorem dX0_isSafe_35 : decode cX0_isSafe 35 = .ok (.iconst 0, 1) := dk_3 (dk_at dksX0_isSafe_1 13 rfl rfl)
theorem dX0_isSafe_36 : decode cX0_isSafe 36 = .ok (.ireturn, 1) := dk_172 (dk_at dksX0_isSafe_1 14 rfl rfl)
abbrev cX0_ways : ByteArray := prog_1_method_67_code
def yX0_ways : MethodName := ⟨RX0, "ways", "(IIII)I"⟩
def dkwX0_ways_4 : List UInt8 := [25, 5, 182, 0, 148, 172]
abbrev dktX0_ways_4 : List UInt8 := dkwX0_ways_4 ++ []
def dkwX0_ways_3 : List UInt8 := [154, 0, 6, 18, 141, 172, 42, 42, 25, 5, 29, 21, 4, 182, 1, 171, 182, 0, 145, 172, 58, 5, 42]
abbrev dktX0_ways_3 : List UInt8 := dkwX0_ways_3 ++ dktX0_ways_4
def dkwX0_ways_2 : List UInt8 := [182, 1, 49, 58, 5, 25, 5, 3, 29, 184, 1, 167, 153, 0, 14, 25, 5, 29, 21, 4, 184, 1, 167]
abbrev dktX0_ways_2 : List UInt8 := dkwX0_ways_2 ++ dktX0_ways_3
def dkwX0_ways_1 : List UInt8 := [20, 1, 165, 184, 0, 128, 154, 0, 6, 18, 141, 172, 42, 27, 182, 0, 152, 28, 29, 21, 4, 96]
abbrev dktX0_ways_1 : List UInt8 := dkwX0_ways_1 ++ dktX0_ways_2
def dkwX0_ways_0 : List UInt8 := [27, 184, 0, 136, 153, 0, 28, 29, 133, 10, 20, 1, 165, 184, 0, 128, 153, 0, 16, 21, 4, 133, 10]
abbrev dktX0_ways_0 : List UInt8 := dkwX0_ways_0 ++ dktX0_ways_1
theorem dksX0_ways_0 : cX0_ways.data.toList.drop 0 = dktX0_ways_0 := by decide +kernel
theorem dksX0_ways_1 : cX0_ways.data.toList.drop 23 = dktX0_ways_1 := dk_seg dksX0_ways_0 23 rfl rfl
theorem dksX0_ways_2 : cX0_ways.data.toList.drop 45 = dktX0_ways_2 := dk_seg dksX0_ways_1 22 rfl rfl
theorem dksX0_ways_3 : cX0_ways.data.toList.drop 68 = dktX0_ways_3 := dk_seg dksX0_ways_2 23 rfl rfl
theorem dksX0_ways_4 : cX0_ways.data.toList.drop 91 = dktX0_ways_4 := dk_seg dksX0_ways_3 23 rfl rfl
theorem dX0_ways_0 : decode cX0_ways 0 = .ok (.iload_n 1, 1) := dk_27 (dk_at dksX0_ways_0 0 rfl rfl)
theorem dX0_ways_1 : decode cX0_ways 1 = .ok (.invokestatic 136, 3) := dk_184 0 136 (dk_at dksX0_ways_0 1 rfl rfl)
theorem dX0_ways_4 : decode cX0_ways 4 = .ok (.ifCond .eq 28, 3) := dk_153 0 28 (dk_at dksX0_ways_0 4 rfl rfl)
theorem dX0_ways_7 : decode cX0_ways 7 = .ok (.iload_n 3, 1) := dk_29 (dk_at dksX0_ways_0 7 rfl rfl)
theorem dX0_ways_8 : decode cX0_ways 8 = .ok (.i2l, 1) := dk_133 (dk_at dksX0_ways_0 8 rfl rfl)
theorem dX0_ways_9 : decode cX0_ways 9 = .ok (.lconst 1, 1) := dk_10 (dk_at dksX0_ways_0 9 rfl rfl)
theorem dX0_ways_10 : decode cX0_ways 10 = .ok (.ldc2_w 421, 3) := dk_20 1 165 (dk_at dksX0_ways_0 10 rfl rfl)
theorem dX0_ways_13 : decode cX0_ways 13 = .ok (.invokestatic 128, 3) := dk_184 0 128 (dk_at dksX0_ways_0 13 rfl rfl)
theorem dX0_ways_16 : decode cX0_ways 16 = .ok (.ifCond .eq 16, 3) := dk_153 0 16 (dk_at dksX0_ways_0 16 rfl rfl)
theorem dX0_ways_19 : decode cX0_ways 19 = .ok (.iload 4, 2) := dk_21 4 (dk_at dksX0_ways_0 19 rfl rfl)
theorem dX0_ways_21 : decode cX0_ways 21 = .ok (.i2l, 1) := dk_133 (dk_at dksX0_ways_0 21 rfl rfl)
theorem dX0_ways_22 : decode cX0_ways 22 = .ok (.lconst 1, 1) := dk_10 (dk_at dksX0_ways_0 22 rfl rfl)
theorem dX0_ways_23 : decode cX0_ways 23 = .ok (.ldc2_w 421, 3) := dk_20 1 165 (dk_at dksX0_ways_1 0 rfl rfl)
theorem dX0_ways_26 : decode cX0_ways 26 = .ok (.invokestatic 128, 3) := dk_184 0 128 (dk_at dksX0_ways_1 3 rfl rfl)
theorem dX0_ways_29 : decode cX0_ways 29 = .ok (.ifCond .ne 6, 3) := dk_154 0 6 (dk_at dksX0_ways_1 6 rfl rfl)
theorem dX0_ways_32 : decode cX0_ways 32 = .ok (.ldc 141, 2) := dk_18 141 (dk_at dksX0_ways_1 9 rfl rfl)
theorem dX0_ways_34 : decode cX0_ways 34 = .ok (.ireturn, 1) := dk_172 (dk_at dksX0_ways_1 11 rfl rfl)
theorem dX0_ways_35 : decode cX0_ways 35 = .ok (.aload_n 0, 1) := dk_42 (dk_at dksX0_ways_1 12 rfl rfl)
theorem dX0_ways_36 : decode cX0_ways 36 = .ok (.iload_n 1, 1) := dk_27 (dk_at dksX0_ways_1 13 rfl rfl)
theorem dX0_ways_37 : decode cX0_ways 37 = .ok (.invokevirtual 152, 3) := dk_182 0 152 (dk_at dksX0_ways_1 14 rfl rfl)
theorem dX0_ways_40 : decode cX0_ways 40 = .ok (.iload_n 2, 1) := dk_28 (dk_at dksX0_ways_1 17 rfl rfl)
theorem dX0_ways_41 : decode cX0_ways 41 = .ok (.iload_n 3, 1) := dk_29 (dk_at dksX0_ways_1 18 rfl rfl)
theorem dX0_ways_42 : decode cX0_ways 42 = .ok (.iload 4, 2) := dk_21 4 (dk_at dksX0_ways_1 19 rfl rfl)
theorem dX0_ways_44 : decode cX0_ways 44 = .ok (.iadd, 1) := dk_96 (dk_at dksX0_ways_1 21 rfl rfl)
theorem dX0_ways_45 : decode cX0_ways 45 = .ok (.invokevirtual 305, 3) := dk_182 1 49 (dk_at dksX0_ways_2 0 rfl rfl)
theorem dX0_ways_48 : decode cX0_ways 48 = .ok (.astore 5, 2) := dk_58 5 (dk_at dksX0_ways_2 3 rfl rfl)
theorem dX0_ways_50 : decode cX0_ways 50 = .ok (.aload 5, 2) := dk_25 5 (dk_at dksX0_ways_2 5 rfl rfl)
theorem dX0_ways_52 : decode cX0_ways 52 = .ok (.iconst 0, 1) := dk_3 (dk_at dksX0_ways_2 7 rfl rfl)
theorem dX0_ways_53 : decode cX0_ways 53 = .ok (.iload_n 3, 1) := dk_29 (dk_at dksX0_ways_2 8 rfl rfl)
theorem dX0_ways_54 : decode cX0_ways 54 = .ok (.invokestatic 423, 3) := dk_184 1 167 (dk_at dksX0_ways_2 9 rfl rfl)
theorem dX0_ways_57 : decode cX0_ways 57 = .ok (.ifCond .eq 14, 3) := dk_153 0 14 (dk_at dksX0_ways_2 12 rfl rfl)
theorem dX0_ways_60 : decode cX0_ways 60 = .ok (.aload 5, 2) := dk_25 5 (dk_at dksX0_ways_2 15 rfl rfl)
theorem dX0_ways_62 : decode cX0_ways 62 = .ok (.iload_n 3, 1) := dk_29 (dk_at dksX0_ways_2 17 rfl rfl)
theorem dX0_ways_63 : decode cX0_ways 63 = .ok (.iload 4, 2) := dk_21 4 (dk_at dksX0_ways_2 18 rfl rfl)
theorem dX0_ways_65 : decode cX0_ways 65 = .ok (.invokestatic 423, 3) := dk_184 1 167 (dk_at dksX0_ways_2 20 rfl rfl)
theorem dX0_ways_68 : decode cX0_ways 68 = .ok (.ifCond .ne 6, 3) := dk_154 0 6 (dk_at dksX0_ways_3 0 rfl rfl)
theorem dX0_ways_71 : decode cX0_ways 71 = .ok (.ldc 141, 2) := dk_18 141 (dk_at dksX0_ways_3 3 rfl rfl)
theorem dX0_ways_73 : decode cX0_ways 73 = .ok (.ireturn, 1) := dk_172 (dk_at dksX0_ways_3 5 rfl rfl)
theorem dX0_ways_74 : decode cX0_ways 74 = .ok (.aload_n 0, 1) := dk_42 (dk_at dksX0_ways_3 6 rfl rfl)
theorem dX0_ways_75 : decode cX0_ways 75 = .ok (.aload_n 0, 1) := dk_42 (dk_at dksX0_ways_3 7 rfl rfl)
theorem dX0_ways_76 : decode cX0_ways 76 = .ok (.aload 5, 2) := dk_25 5 (dk_at dksX0_ways_3 8 rfl rfl)
theorem dX0_ways_78 : decode cX0_ways 78 = .ok (.iload_n 3, 1) := dk_29 (dk_at dksX0_ways_3 10 rfl rfl)
theorem dX0_ways_79 : decode cX0_ways 79 = .ok (.iload 4, 2) := dk_21 4 (dk_at dksX0_ways_3 11 rfl rfl)
theorem dX0_ways_81 : decode cX0_ways 81 = .ok (.invokevirtual 427, 3) := dk_182 1 171 (dk_at dksX0_ways_3 13 rfl rfl)
theorem dX0_ways_84 : decode cX0_ways 84 = .ok (.invokevirtual 145, 3) := dk_182 0 145 (dk_at dksX0_ways_3 16 rfl rfl)
theorem dX0_ways_87 : decode cX0_ways 87 = .ok (.ireturn, 1) := dk_172 (dk_at dksX0_ways_3 19 rfl rfl)
theorem dX0_ways_88 : decode cX0_ways 88 = .ok (.astore 5, 2) := dk_58 5 (dk_at dksX0_ways_3 20 rfl rfl)
theorem dX0_ways_90 : decode cX0_ways 90 = .ok (.aload_n 0, 1) := dk_42 (dk_at dksX0_ways_3 22 rfl rfl)
theorem dX0_ways_91 : decode cX0_ways 91 = .ok (.aload 5, 2) := dk_25 5 (dk_at dksX0_ways_4 0 rfl rfl)
theorem dX0_ways_93 : decode cX0_ways 93 = .ok (.invokevirtual 148, 3) := dk_182 0 148 (dk_at dksX0_ways_4 2 rfl rfl)
theorem dX0_ways_96 : decode cX0_ways 96 = .ok (.ireturn, 1) := dk_172 (dk_at dksX0_ways_4 5 rfl rfl)
abbrev cX0_isRow : ByteArray := prog_1_method_66_code
def yX0_isRow : MethodName := ⟨RX0, "isRow", "([III)Z"⟩
def dkwX0_isRow_2 : List UInt8 := [3, 172, 132, 3, 1, 167, 255, 205, 4, 172]
abbrev dktX0_isRow_2 : List UInt8 := dkwX0_isRow_2 ++ []
def dkwX0_isRow_1 : List UInt8 := [29, 46, 42, 29, 4, 100, 46, 159, 0, 19, 42, 29, 46, 42, 29, 4, 100, 46, 184, 1, 2, 154, 0, 5]
abbrev dktX0_isRow_1 : List UInt8 := dkwX0_isRow_1 ++ dktX0_isRow_2
def dkwX0_isRow_0 : List UInt8 := [27, 62, 29, 27, 28, 96, 162, 0, 50, 42, 29, 46, 184, 0, 183, 153, 0, 33, 29, 27, 164, 0, 30, 42]
abbrev dktX0_isRow_0 : List UInt8 := dkwX0_isRow_0 ++ dktX0_isRow_1
theorem dksX0_isRow_0 : cX0_isRow.data.toList.drop 0 = dktX0_isRow_0 := by decide +kernel
theorem dksX0_isRow_1 : cX0_isRow.data.toList.drop 24 = dktX0_isRow_1 := dk_seg dksX0_isRow_0 24 rfl rfl
theorem dksX0_isRow_2 : cX0_isRow.data.toList.drop 48 = dktX0_isRow_2 := dk_seg dksX0_isRow_1 24 rfl rfl
theorem dX0_isRow_0 : decode cX0_isRow 0 = .ok (.iload_n 1, 1) := dk_27 (dk_at dksX0_isRow_0 0 rfl rfl)
theorem dX0_isRow_1 : decode cX0_isRow 1 = .ok (.istore_n 3, 1) := dk_62 (dk_at dksX0_isRow_0 1 rfl rfl)
theorem dX0_isRow_2 : decode cX0_isRow 2 = .ok (.iload_n 3, 1) := dk_29 (dk_at dksX0_isRow_0 2 rfl rfl)
theorem dX0_isRow_3 : decode cX0_isRow 3 = .ok (.iload_n 1, 1) := dk_27 (dk_at dksX0_isRow_0 3 rfl rfl)
theorem dX0_isRow_4 : decode cX0_isRow 4 = .ok (.iload_n 2, 1) := dk_28 (dk_at dksX0_isRow_0 4 rfl rfl)
theorem dX0_isRow_5 : decode cX0_isRow 5 = .ok (.iadd, 1) := dk_96 (dk_at dksX0_isRow_0 5 rfl rfl)
theorem dX0_isRow_6 : decode cX0_isRow 6 = .ok (.if_icmp .ge 50, 3) := dk_162 0 50 (dk_at dksX0_isRow_0 6 rfl rfl)
theorem dX0_isRow_9 : decode cX0_isRow 9 = .ok (.aload_n 0, 1) := dk_42 (dk_at dksX0_isRow_0 9 rfl rfl)
theorem dX0_isRow_10 : decode cX0_isRow 10 = .ok (.iload_n 3, 1) := dk_29 (dk_at dksX0_isRow_0 10 rfl rfl)
theorem dX0_isRow_11 : decode cX0_isRow 11 = .ok (.iaload, 1) := dk_46 (dk_at dksX0_isRow_0 11 rfl rfl)
theorem dX0_isRow_12 : decode cX0_isRow 12 = .ok (.invokestatic 183, 3) := dk_184 0 183 (dk_at dksX0_isRow_0 12 rfl rfl)
theorem dX0_isRow_15 : decode cX0_isRow 15 = .ok (.ifCond .eq 33, 3) := dk_153 0 33 (dk_at dksX0_isRow_0 15 rfl rfl)
theorem dX0_isRow_18 : decode cX0_isRow 18 = .ok (.iload_n 3, 1) := dk_29 (dk_at dksX0_isRow_0 18 rfl rfl)
theorem dX0_isRow_19 : decode cX0_isRow 19 = .ok (.iload_n 1, 1) := dk_27 (dk_at dksX0_isRow_0 19 rfl rfl)
theorem dX0_isRow_20 : decode cX0_isRow 20 = .ok (.if_icmp .le 30, 3) := dk_164 0 30 (dk_at dksX0_isRow_0 20 rfl rfl)
theorem dX0_isRow_23 : decode cX0_isRow 23 = .ok (.aload_n 0, 1) := dk_42 (dk_at dksX0_isRow_0 23 rfl rfl)
theorem dX0_isRow_24 : decode cX0_isRow 24 = .ok (.iload_n 3, 1) := dk_29 (dk_at dksX0_isRow_1 0 rfl rfl)
theorem dX0_isRow_25 : decode cX0_isRow 25 = .ok (.iaload, 1) := dk_46 (dk_at dksX0_isRow_1 1 rfl rfl)
theorem dX0_isRow_26 : decode cX0_isRow 26 = .ok (.aload_n 0, 1) := dk_42 (dk_at dksX0_isRow_1 2 rfl rfl)
theorem dX0_isRow_27 : decode cX0_isRow 27 = .ok (.iload_n 3, 1) := dk_29 (dk_at dksX0_isRow_1 3 rfl rfl)
theorem dX0_isRow_28 : decode cX0_isRow 28 = .ok (.iconst 1, 1) := dk_4 (dk_at dksX0_isRow_1 4 rfl rfl)
theorem dX0_isRow_29 : decode cX0_isRow 29 = .ok (.isub, 1) := dk_100 (dk_at dksX0_isRow_1 5 rfl rfl)
theorem dX0_isRow_30 : decode cX0_isRow 30 = .ok (.iaload, 1) := dk_46 (dk_at dksX0_isRow_1 6 rfl rfl)
theorem dX0_isRow_31 : decode cX0_isRow 31 = .ok (.if_icmp .eq 19, 3) := dk_159 0 19 (dk_at dksX0_isRow_1 7 rfl rfl)
theorem dX0_isRow_34 : decode cX0_isRow 34 = .ok (.aload_n 0, 1) := dk_42 (dk_at dksX0_isRow_1 10 rfl rfl)
theorem dX0_isRow_35 : decode cX0_isRow 35 = .ok (.iload_n 3, 1) := dk_29 (dk_at dksX0_isRow_1 11 rfl rfl)
theorem dX0_isRow_36 : decode cX0_isRow 36 = .ok (.iaload, 1) := dk_46 (dk_at dksX0_isRow_1 12 rfl rfl)
theorem dX0_isRow_37 : decode cX0_isRow 37 = .ok (.aload_n 0, 1) := dk_42 (dk_at dksX0_isRow_1 13 rfl rfl)
theorem dX0_isRow_38 : decode cX0_isRow 38 = .ok (.iload_n 3, 1) := dk_29 (dk_at dksX0_isRow_1 14 rfl rfl)
theorem dX0_isRow_39 : decode cX0_isRow 39 = .ok (.iconst 1, 1) := dk_4 (dk_at dksX0_isRow_1 15 rfl rfl)
theorem dX0_isRow_40 : decode cX0_isRow 40 = .ok (.isub, 1) := dk_100 (dk_at dksX0_isRow_1 16 rfl rfl)
theorem dX0_isRow_41 : decode cX0_isRow 41 = .ok (.iaload, 1) := dk_46 (dk_at dksX0_isRow_1 17 rfl rfl)
theorem dX0_isRow_42 : decode cX0_isRow 42 = .ok (.invokestatic 258, 3) := dk_184 1 2 (dk_at dksX0_isRow_1 18 rfl rfl)
theorem dX0_isRow_45 : decode cX0_isRow 45 = .ok (.ifCond .ne 5, 3) := dk_154 0 5 (dk_at dksX0_isRow_1 21 rfl rfl)
theorem dX0_isRow_48 : decode cX0_isRow 48 = .ok (.iconst 0, 1) := dk_3 (dk_at dksX0_isRow_2 0 rfl rfl)
theorem dX0_isRow_49 : decode cX0_isRow 49 = .ok (.ireturn, 1) := dk_172 (dk_at dksX0_isRow_2 1 rfl rfl)
theorem dX0_isRow_50 : decode cX0_isRow 50 = .ok (.iinc 3 1, 3) := dk_132 3 1 (dk_at dksX0_isRow_2 2 rfl rfl)
theorem dX0_isRow_53 : decode cX0_isRow 53 = .ok (.goto (-51), 3) := dk_167 255 205 (dk_at dksX0_isRow_2 5 rfl rfl)
theorem dX0_isRow_56 : decode cX0_isRow 56 = .ok (.iconst 1, 1) := dk_4 (dk_at dksX0_isRow_2 8 rfl rfl)
theorem dX0_isRow_57 : decode cX0_isRow 57 = .ok (.ireturn, 1) := dk_172 (dk_at dksX0_isRow_2 9 rfl rfl)
abbrev cX0_fewest : ByteArray := prog_1_method_65_code
def yX0_fewest : MethodName := ⟨RX0, "fewest", "([III)I"⟩
def dkwX0_fewest_9 : List UInt8 := [167, 255, 95, 42, 180, 0, 110, 28, 29, 104, 4, 100, 46, 172]
abbrev dktX0_fewest_9 : List UInt8 := dkwX0_fewest_9 ++ []
def dkwX0_fewest_8 : List UInt8 := [46, 42, 180, 0, 110, 21, 4, 46, 4, 96, 184, 1, 162, 79, 132, 7, 1, 167, 255, 139, 132, 4, 1]
abbrev dktX0_fewest_8 : List UInt8 := dkwX0_fewest_8 ++ dktX0_fewest_9
def dkwX0_fewest_7 : List UInt8 := [46, 18, 202, 160, 0, 15, 42, 180, 0, 110, 21, 4, 46, 4, 96, 167, 0, 22, 42, 180, 0, 110, 21, 10]
abbrev dktX0_fewest_7 : List UInt8 := dkwX0_fewest_7 ++ dktX0_fewest_8
def dkwX0_fewest_6 : List UInt8 := [167, 0, 62, 29, 21, 8, 104, 21, 9, 96, 54, 10, 42, 180, 0, 110, 21, 10, 42, 180, 0, 110, 21, 10]
abbrev dktX0_fewest_6 : List UInt8 := dkwX0_fewest_6 ++ dktX0_fewest_7
def dkwX0_fewest_5 : List UInt8 := [21, 9, 29, 162, 0, 81, 43, 28, 21, 5, 21, 6, 21, 8, 21, 9, 184, 1, 158, 154, 0, 6]
abbrev dktX0_fewest_5 : List UInt8 := dkwX0_fewest_5 ++ dktX0_fewest_6
def dkwX0_fewest_4 : List UInt8 := [21, 5, 21, 7, 4, 126, 96, 54, 8, 21, 6, 21, 7, 4, 122, 96, 54, 9, 21, 8, 28, 162, 0, 87]
abbrev dktX0_fewest_4 : List UInt8 := dkwX0_fewest_4 ++ dktX0_fewest_5
def dkwX0_fewest_3 : List UInt8 := [180, 0, 110, 21, 4, 46, 18, 202, 160, 0, 6, 167, 0, 126, 4, 54, 7, 21, 7, 7, 162, 0, 117]
abbrev dktX0_fewest_3 : List UInt8 := dkwX0_fewest_3 ++ dktX0_fewest_4
def dkwX0_fewest_2 : List UInt8 := [54, 4, 21, 4, 28, 29, 104, 162, 0, 159, 21, 4, 29, 108, 54, 5, 21, 4, 29, 112, 54, 6, 42]
abbrev dktX0_fewest_2 : List UInt8 := dkwX0_fewest_2 ++ dktX0_fewest_3
def dkwX0_fewest_1 : List UInt8 := [167, 255, 236, 43, 3, 46, 43, 28, 46, 160, 0, 6, 18, 202, 172, 42, 180, 0, 110, 3, 3, 79, 3]
abbrev dktX0_fewest_1 : List UInt8 := dkwX0_fewest_1 ++ dktX0_fewest_2
def dkwX0_fewest_0 : List UInt8 := [3, 54, 4, 21, 4, 28, 29, 104, 162, 0, 18, 42, 180, 0, 110, 21, 4, 18, 202, 79, 132, 4, 1]
abbrev dktX0_fewest_0 : List UInt8 := dkwX0_fewest_0 ++ dktX0_fewest_1
theorem dksX0_fewest_0 : cX0_fewest.data.toList.drop 0 = dktX0_fewest_0 := by decide +kernel
theorem dksX0_fewest_1 : cX0_fewest.data.toList.drop 23 = dktX0_fewest_1 := dk_seg dksX0_fewest_0 23 rfl rfl
theorem dksX0_fewest_2 : cX0_fewest.data.toList.drop 46 = dktX0_fewest_2 := dk_seg dksX0_fewest_1 23 rfl rfl
theorem dksX0_fewest_3 : cX0_fewest.data.toList.drop 69 = dktX0_fewest_3 := dk_seg dksX0_fewest_2 23 rfl rfl
theorem dksX0_fewest_4 : cX0_fewest.data.toList.drop 92 = dktX0_fewest_4 := dk_seg dksX0_fewest_3 23 rfl rfl
theorem dksX0_fewest_5 : cX0_fewest.data.toList.drop 116 = dktX0_fewest_5 := dk_seg dksX0_fewest_4 24 rfl rfl
theorem dksX0_fewest_6 : cX0_fewest.data.toList.drop 138 = dktX0_fewest_6 := dk_seg dksX0_fewest_5 22 rfl rfl
theorem dksX0_fewest_7 : cX0_fewest.data.toList.drop 162 = dktX0_fewest_7 := dk_seg dksX0_fewest_6 24 rfl rfl
theorem dksX0_fewest_8 : cX0_fewest.data.toList.drop 186 = dktX0_fewest_8 := dk_seg dksX0_fewest_7 24 rfl rfl
theorem dksX0_fewest_9 : cX0_fewest.data.toList.drop 209 = dktX0_fewest_9 := dk_seg dksX0_fewest_8 23 rfl rfl
theorem dX0_fewest_0 : decode cX0_fewest 0 = .ok (.iconst 0, 1) := dk_3 (dk_at dksX0_fewest_0 0 rfl rfl)
theorem dX0_fewest_1 : decode cX0_fewest 1 = .ok (.istore 4, 2) := dk_54 4 (dk_at dksX0_fewest_0 1 rfl rfl)
theorem dX0_fewest_3 : decode cX0_fewest 3 = .ok (.iload 4, 2) := dk_21 4 (dk_at dksX0_fewest_0 3 rfl rfl)
theorem dX0_fewest_5 : decode cX0_fewest 5 = .ok (.iload_n 2, 1) := dk_28 (dk_at dksX0_fewest_0 5 rfl rfl)
theorem dX0_fewest_6 : decode cX0_fewest 6 = .ok (.iload_n 3, 1) := dk_29 (dk_at dksX0_fewest_0 6 rfl rfl)
theorem dX0_fewest_7 : decode cX0_fewest 7 = .ok (.imul, 1) := dk_104 (dk_at dksX0_fewest_0 7 rfl rfl)
theorem dX0_fewest_8 : decode cX0_fewest 8 = .ok (.if_icmp .ge 18, 3) := dk_162 0 18 (dk_at dksX0_fewest_0 8 rfl rfl)
theorem dX0_fewest_11 : decode cX0_fewest 11 = .ok (.aload_n 0, 1) := dk_42 (dk_at dksX0_fewest_0 11 rfl rfl)
theorem dX0_fewest_12 : decode cX0_fewest 12 = .ok (.getfield 110, 3) := dk_180 0 110 (dk_at dksX0_fewest_0 12 rfl rfl)
theorem dX0_fewest_15 : decode cX0_fewest 15 = .ok (.iload 4, 2) := dk_21 4 (dk_at dksX0_fewest_0 15 rfl rfl)
theorem dX0_fewest_17 : decode cX0_fewest 17 = .ok (.ldc 202, 2) := dk_18 202 (dk_at dksX0_fewest_0 17 rfl rfl)
theorem dX0_fewest_19 : decode cX0_fewest 19 = .ok (.iastore, 1) := dk_79 (dk_at dksX0_fewest_0 19 rfl rfl)
theorem dX0_fewest_20 : decode cX0_fewest 20 = .ok (.iinc 4 1, 3) := dk_132 4 1 (dk_at dksX0_fewest_0 20 rfl rfl)
theorem dX0_fewest_23 : decode cX0_fewest 23 = .ok (.goto (-20), 3) := dk_167 255 236 (dk_at dksX0_fewest_1 0 rfl rfl)
theorem dX0_fewest_26 : decode cX0_fewest 26 = .ok (.aload_n 1, 1) := dk_43 (dk_at dksX0_fewest_1 3 rfl rfl)
theorem dX0_fewest_27 : decode cX0_fewest 27 = .ok (.iconst 0, 1) := dk_3 (dk_at dksX0_fewest_1 4 rfl rfl)
theorem dX0_fewest_28 : decode cX0_fewest 28 = .ok (.iaload, 1) := dk_46 (dk_at dksX0_fewest_1 5 rfl rfl)
theorem dX0_fewest_29 : decode cX0_fewest 29 = .ok (.aload_n 1, 1) := dk_43 (dk_at dksX0_fewest_1 6 rfl rfl)
theorem dX0_fewest_30 : decode cX0_fewest 30 = .ok (.iload_n 2, 1) := dk_28 (dk_at dksX0_fewest_1 7 rfl rfl)
theorem dX0_fewest_31 : decode cX0_fewest 31 = .ok (.iaload, 1) := dk_46 (dk_at dksX0_fewest_1 8 rfl rfl)
theorem dX0_fewest_32 : decode cX0_fewest 32 = .ok (.if_icmp .ne 6, 3) := dk_160 0 6 (dk_at dksX0_fewest_1 9 rfl rfl)
theorem dX0_fewest_35 : decode cX0_fewest 35 = .ok (.ldc 202, 2) := dk_18 202 (dk_at dksX0_fewest_1 12 rfl rfl)
theorem dX0_fewest_37 : decode cX0_fewest 37 = .ok (.ireturn, 1) := dk_172 (dk_at dksX0_fewest_1 14 rfl rfl)
theorem dX0_fewest_38 : decode cX0_fewest 38 = .ok (.aload_n 0, 1) := dk_42 (dk_at dksX0_fewest_1 15 rfl rfl)
theorem dX0_fewest_39 : decode cX0_fewest 39 = .ok (.getfield 110, 3) := dk_180 0 110 (dk_at dksX0_fewest_1 16 rfl rfl)
theorem dX0_fewest_42 : decode cX0_fewest 42 = .ok (.iconst 0, 1) := dk_3 (dk_at dksX0_fewest_1 19 rfl rfl)
theorem dX0_fewest_43 : decode cX0_fewest 43 = .ok (.iconst 0, 1) := dk_3 (dk_at dksX0_fewest_1 20 rfl rfl)
theorem dX0_fewest_44 : decode cX0_fewest 44 = .ok (.iastore, 1) := dk_79 (dk_at dksX0_fewest_1 21 rfl rfl)
theorem dX0_fewest_45 : decode cX0_fewest 45 = .ok (.iconst 0, 1) := dk_3 (dk_at dksX0_fewest_1 22 rfl rfl)
theorem dX0_fewest_46 : decode cX0_fewest 46 = .ok (.istore 4, 2) := dk_54 4 (dk_at dksX0_fewest_2 0 rfl rfl)
theorem dX0_fewest_48 : decode cX0_fewest 48 = .ok (.iload 4, 2) := dk_21 4 (dk_at dksX0_fewest_2 2 rfl rfl)
theorem dX0_fewest_50 : decode cX0_fewest 50 = .ok (.iload_n 2, 1) := dk_28 (dk_at dksX0_fewest_2 4 rfl rfl)
theorem dX0_fewest_51 : decode cX0_fewest 51 = .ok (.iload_n 3, 1) := dk_29 (dk_at dksX0_fewest_2 5 rfl rfl)
theorem dX0_fewest_52 : decode cX0_fewest 52 = .ok (.imul, 1) := dk_104 (dk_at dksX0_fewest_2 6 rfl rfl)
theorem dX0_fewest_53 : decode cX0_fewest 53 = .ok (.if_icmp .ge 159, 3) := dk_162 0 159 (dk_at dksX0_fewest_2 7 rfl rfl)
theorem dX0_fewest_56 : decode cX0_fewest 56 = .ok (.iload 4, 2) := dk_21 4 (dk_at dksX0_fewest_2 10 rfl rfl)
theorem dX0_fewest_58 : decode cX0_fewest 58 = .ok (.iload_n 3, 1) := dk_29 (dk_at dksX0_fewest_2 12 rfl rfl)
theorem dX0_fewest_59 : decode cX0_fewest 59 = .ok (.idiv, 1) := dk_108 (dk_at dksX0_fewest_2 13 rfl rfl)
theorem dX0_fewest_60 : decode cX0_fewest 60 = .ok (.istore 5, 2) := dk_54 5 (dk_at dksX0_fewest_2 14 rfl rfl)
theorem dX0_fewest_62 : decode cX0_fewest 62 = .ok (.iload 4, 2) := dk_21 4 (dk_at dksX0_fewest_2 16 rfl rfl)
theorem dX0_fewest_64 : decode cX0_fewest 64 = .ok (.iload_n 3, 1) := dk_29 (dk_at dksX0_fewest_2 18 rfl rfl)
theorem dX0_fewest_65 : decode cX0_fewest 65 = .ok (.irem, 1) := dk_112 (dk_at dksX0_fewest_2 19 rfl rfl)
theorem dX0_fewest_66 : decode cX0_fewest 66 = .ok (.istore 6, 2) := dk_54 6 (dk_at dksX0_fewest_2 20 rfl rfl)
theorem dX0_fewest_68 : decode cX0_fewest 68 = .ok (.aload_n 0, 1) := dk_42 (dk_at dksX0_fewest_2 22 rfl rfl)
theorem dX0_fewest_69 : decode cX0_fewest 69 = .ok (.getfield 110, 3) := dk_180 0 110 (dk_at dksX0_fewest_3 0 rfl rfl)
theorem dX0_fewest_72 : decode cX0_fewest 72 = .ok (.iload 4, 2) := dk_21 4 (dk_at dksX0_fewest_3 3 rfl rfl)
theorem dX0_fewest_74 : decode cX0_fewest 74 = .ok (.iaload, 1) := dk_46 (dk_at dksX0_fewest_3 5 rfl rfl)
theorem dX0_fewest_75 : decode cX0_fewest 75 = .ok (.ldc 202, 2) := dk_18 202 (dk_at dksX0_fewest_3 6 rfl rfl)
theorem dX0_fewest_77 : decode cX0_fewest 77 = .ok (.if_icmp .ne 6, 3) := dk_160 0 6 (dk_at dksX0_fewest_3 8 rfl rfl)
theorem dX0_fewest_80 : decode cX0_fewest 80 = .ok (.goto 126, 3) := dk_167 0 126 (dk_at dksX0_fewest_3 11 rfl rfl)
theorem dX0_fewest_83 : decode cX0_fewest 83 = .ok (.iconst 1, 1) := dk_4 (dk_at dksX0_fewest_3 14 rfl rfl)
theorem dX0_fewest_84 : decode cX0_fewest 84 = .ok (.istore 7, 2) := dk_54 7 (dk_at dksX0_fewest_3 15 rfl rfl)
theorem dX0_fewest_86 : decode cX0_fewest 86 = .ok (.iload 7, 2) := dk_21 7 (dk_at dksX0_fewest_3 17 rfl rfl)
theorem dX0_fewest_88 : decode cX0_fewest 88 = .ok (.iconst 4, 1) := dk_7 (dk_at dksX0_fewest_3 19 rfl rfl)
theorem dX0_fewest_89 : decode cX0_fewest 89 = .ok (.if_icmp .ge 117, 3) := dk_162 0 117 (dk_at dksX0_fewest_3 20 rfl rfl)
theorem dX0_fewest_92 : decode cX0_fewest 92 = .ok (.iload 5, 2) := dk_21 5 (dk_at dksX0_fewest_4 0 rfl rfl)
theorem dX0_fewest_94 : decode cX0_fewest 94 = .ok (.iload 7, 2) := dk_21 7 (dk_at dksX0_fewest_4 2 rfl rfl)
theorem dX0_fewest_96 : decode cX0_fewest 96 = .ok (.iconst 1, 1) := dk_4 (dk_at dksX0_fewest_4 4 rfl rfl)
theorem dX0_fewest_97 : decode cX0_fewest 97 = .ok (.iand, 1) := dk_126 (dk_at dksX0_fewest_4 5 rfl rfl)
theorem dX0_fewest_98 : decode cX0_fewest 98 = .ok (.iadd, 1) := dk_96 (dk_at dksX0_fewest_4 6 rfl rfl)
theorem dX0_fewest_99 : decode cX0_fewest 99 = .ok (.istore 8, 2) := dk_54 8 (dk_at dksX0_fewest_4 7 rfl rfl)
theorem dX0_fewest_101 : decode cX0_fewest 101 = .ok (.iload 6, 2) := dk_21 6 (dk_at dksX0_fewest_4 9 rfl rfl)
theorem dX0_fewest_103 : decode cX0_fewest 103 = .ok (.iload 7, 2) := dk_21 7 (dk_at dksX0_fewest_4 11 rfl rfl)
theorem dX0_fewest_105 : decode cX0_fewest 105 = .ok (.iconst 1, 1) := dk_4 (dk_at dksX0_fewest_4 13 rfl rfl)
theorem dX0_fewest_106 : decode cX0_fewest 106 = .ok (.ishr, 1) := dk_122 (dk_at dksX0_fewest_4 14 rfl rfl)
theorem dX0_fewest_107 : decode cX0_fewest 107 = .ok (.iadd, 1) := dk_96 (dk_at dksX0_fewest_4 15 rfl rfl)
theorem dX0_fewest_108 : decode cX0_fewest 108 = .ok (.istore 9, 2) := dk_54 9 (dk_at dksX0_fewest_4 16 rfl rfl)
theorem dX0_fewest_110 : decode cX0_fewest 110 = .ok (.iload 8, 2) := dk_21 8 (dk_at dksX0_fewest_4 18 rfl rfl)
theorem dX0_fewest_112 : decode cX0_fewest 112 = .ok (.iload_n 2, 1) := dk_28 (dk_at dksX0_fewest_4 20 rfl rfl)
theorem dX0_fewest_113 : decode cX0_fewest 113 = .ok (.if_icmp .ge 87, 3) := dk_162 0 87 (dk_at dksX0_fewest_4 21 rfl rfl)
theorem dX0_fewest_116 : decode cX0_fewest 116 = .ok (.iload 9, 2) := dk_21 9 (dk_at dksX0_fewest_5 0 rfl rfl)
theorem dX0_fewest_118 : decode cX0_fewest 118 = .ok (.iload_n 3, 1) := dk_29 (dk_at dksX0_fewest_5 2 rfl rfl)
theorem dX0_fewest_119 : decode cX0_fewest 119 = .ok (.if_icmp .ge 81, 3) := dk_162 0 81 (dk_at dksX0_fewest_5 3 rfl rfl)
theorem dX0_fewest_122 : decode cX0_fewest 122 = .ok (.aload_n 1, 1) := dk_43 (dk_at dksX0_fewest_5 6 rfl rfl)
theorem dX0_fewest_123 : decode cX0_fewest 123 = .ok (.iload_n 2, 1) := dk_28 (dk_at dksX0_fewest_5 7 rfl rfl)
theorem dX0_fewest_124 : decode cX0_fewest 124 = .ok (.iload 5, 2) := dk_21 5 (dk_at dksX0_fewest_5 8 rfl rfl)
theorem dX0_fewest_126 : decode cX0_fewest 126 = .ok (.iload 6, 2) := dk_21 6 (dk_at dksX0_fewest_5 10 rfl rfl)
theorem dX0_fewest_128 : decode cX0_fewest 128 = .ok (.iload 8, 2) := dk_21 8 (dk_at dksX0_fewest_5 12 rfl rfl)
theorem dX0_fewest_130 : decode cX0_fewest 130 = .ok (.iload 9, 2) := dk_21 9 (dk_at dksX0_fewest_5 14 rfl rfl)
theorem dX0_fewest_132 : decode cX0_fewest 132 = .ok (.invokestatic 414, 3) := dk_184 1 158 (dk_at dksX0_fewest_5 16 rfl rfl)
theorem dX0_fewest_135 : decode cX0_fewest 135 = .ok (.ifCond .ne 6, 3) := dk_154 0 6 (dk_at dksX0_fewest_5 19 rfl rfl)
theorem dX0_fewest_138 : decode cX0_fewest 138 = .ok (.goto 62, 3) := dk_167 0 62 (dk_at dksX0_fewest_6 0 rfl rfl)
theorem dX0_fewest_141 : decode cX0_fewest 141 = .ok (.iload_n 3, 1) := dk_29 (dk_at dksX0_fewest_6 3 rfl rfl)
theorem dX0_fewest_142 : decode cX0_fewest 142 = .ok (.iload 8, 2) := dk_21 8 (dk_at dksX0_fewest_6 4 rfl rfl)
theorem dX0_fewest_144 : decode cX0_fewest 144 = .ok (.imul, 1) := dk_104 (dk_at dksX0_fewest_6 6 rfl rfl)
theorem dX0_fewest_145 : decode cX0_fewest 145 = .ok (.iload 9, 2) := dk_21 9 (dk_at dksX0_fewest_6 7 rfl rfl)
theorem dX0_fewest_147 : decode cX0_fewest 147 = .ok (.iadd, 1) := dk_96 (dk_at dksX0_fewest_6 9 rfl rfl)
theorem dX0_fewest_148 : decode cX0_fewest 148 = .ok (.istore 10, 2) := dk_54 10 (dk_at dksX0_fewest_6 10 rfl rfl)
theorem dX0_fewest_150 : decode cX0_fewest 150 = .ok (.aload_n 0, 1) := dk_42 (dk_at dksX0_fewest_6 12 rfl rfl)
theorem dX0_fewest_151 : decode cX0_fewest 151 = .ok (.getfield 110, 3) := dk_180 0 110 (dk_at dksX0_fewest_6 13 rfl rfl)
theorem dX0_fewest_154 : decode cX0_fewest 154 = .ok (.iload 10, 2) := dk_21 10 (dk_at dksX0_fewest_6 16 rfl rfl)
theorem dX0_fewest_156 : decode cX0_fewest 156 = .ok (.aload_n 0, 1) := dk_42 (dk_at dksX0_fewest_6 18 rfl rfl)
theorem dX0_fewest_157 : decode cX0_fewest 157 = .ok (.getfield 110, 3) := dk_180 0 110 (dk_at dksX0_fewest_6 19 rfl rfl)
theorem dX0_fewest_160 : decode cX0_fewest 160 = .ok (.iload 10, 2) := dk_21 10 (dk_at dksX0_fewest_6 22 rfl rfl)
theorem dX0_fewest_162 : decode cX0_fewest 162 = .ok (.iaload, 1) := dk_46 (dk_at dksX0_fewest_7 0 rfl rfl)
theorem dX0_fewest_163 : decode cX0_fewest 163 = .ok (.ldc 202, 2) := dk_18 202 (dk_at dksX0_fewest_7 1 rfl rfl)
theorem dX0_fewest_165 : decode cX0_fewest 165 = .ok (.if_icmp .ne 15, 3) := dk_160 0 15 (dk_at dksX0_fewest_7 3 rfl rfl)
theorem dX0_fewest_168 : decode cX0_fewest 168 = .ok (.aload_n 0, 1) := dk_42 (dk_at dksX0_fewest_7 6 rfl rfl)
theorem dX0_fewest_169 : decode cX0_fewest 169 = .ok (.getfield 110, 3) := dk_180 0 110 (dk_at dksX0_fewest_7 7 rfl rfl)
theorem dX0_fewest_172 : decode cX0_fewest 172 = .ok (.iload 4, 2) := dk_21 4 (dk_at dksX0_fewest_7 10 rfl rfl)
theorem dX0_fewest_174 : decode cX0_fewest 174 = .ok (.iaload, 1) := dk_46 (dk_at dksX0_fewest_7 12 rfl rfl)
theorem dX0_fewest_175 : decode cX0_fewest 175 = .ok (.iconst 1, 1) := dk_4 (dk_at dksX0_fewest_7 13 rfl rfl)
theorem dX0_fewest_176 : decode cX0_fewest 176 = .ok (.iadd, 1) := dk_96 (dk_at dksX0_fewest_7 14 rfl rfl)
theorem dX0_fewest_177 : decode cX0_fewest 177 = .ok (.goto 22, 3) := dk_167 0 22 (dk_at dksX0_fewest_7 15 rfl rfl)
theorem dX0_fewest_180 : decode cX0_fewest 180 = .ok (.aload_n 0, 1) := dk_42 (dk_at dksX0_fewest_7 18 rfl rfl)
theorem dX0_fewest_181 : decode cX0_fewest 181 = .ok (.getfield 110, 3) := dk_180 0 110 (dk_at dksX0_fewest_7 19 rfl rfl)
theorem dX0_fewest_184 : decode cX0_fewest 184 = .ok (.iload 10, 2) := dk_21 10 (dk_at dksX0_fewest_7 22 rfl rfl)
theorem dX0_fewest_186 : decode cX0_fewest 186 = .ok (.iaload, 1) := dk_46 (dk_at dksX0_fewest_8 0 rfl rfl)
theorem dX0_fewest_187 : decode cX0_fewest 187 = .ok (.aload_n 0, 1) := dk_42 (dk_at dksX0_fewest_8 1 rfl rfl)
theorem dX0_fewest_188 : decode cX0_fewest 188 = .ok (.getfield 110, 3) := dk_180 0 110 (dk_at dksX0_fewest_8 2 rfl rfl)
theorem dX0_fewest_191 : decode cX0_fewest 191 = .ok (.iload 4, 2) := dk_21 4 (dk_at dksX0_fewest_8 5 rfl rfl)
theorem dX0_fewest_193 : decode cX0_fewest 193 = .ok (.iaload, 1) := dk_46 (dk_at dksX0_fewest_8 7 rfl rfl)
theorem dX0_fewest_194 : decode cX0_fewest 194 = .ok (.iconst 1, 1) := dk_4 (dk_at dksX0_fewest_8 8 rfl rfl)
theorem dX0_fewest_195 : decode cX0_fewest 195 = .ok (.iadd, 1) := dk_96 (dk_at dksX0_fewest_8 9 rfl rfl)
theorem dX0_fewest_196 : decode cX0_fewest 196 = .ok (.invokestatic 418, 3) := dk_184 1 162 (dk_at dksX0_fewest_8 10 rfl rfl)
theorem dX0_fewest_199 : decode cX0_fewest 199 = .ok (.iastore, 1) := dk_79 (dk_at dksX0_fewest_8 13 rfl rfl)
theorem dX0_fewest_200 : decode cX0_fewest 200 = .ok (.iinc 7 1, 3) := dk_132 7 1 (dk_at dksX0_fewest_8 14 rfl rfl)
theorem dX0_fewest_203 : decode cX0_fewest 203 = .ok (.goto (-117), 3) := dk_167 255 139 (dk_at dksX0_fewest_8 17 rfl rfl)
theorem dX0_fewest_206 : decode cX0_fewest 206 = .ok (.iinc 4 1, 3) := dk_132 4 1 (dk_at dksX0_fewest_8 20 rfl rfl)
theorem dX0_fewest_209 : decode cX0_fewest 209 = .ok (.goto (-161), 3) := dk_167 255 95 (dk_at dksX0_fewest_9 0 rfl rfl)
theorem dX0_fewest_212 : decode cX0_fewest 212 = .ok (.aload_n 0, 1) := dk_42 (dk_at dksX0_fewest_9 3 rfl rfl)
theorem dX0_fewest_213 : decode cX0_fewest 213 = .ok (.getfield 110, 3) := dk_180 0 110 (dk_at dksX0_fewest_9 4 rfl rfl)
theorem dX0_fewest_216 : decode cX0_fewest 216 = .ok (.iload_n 2, 1) := dk_28 (dk_at dksX0_fewest_9 7 rfl rfl)
theorem dX0_fewest_217 : decode cX0_fewest 217 = .ok (.iload_n 3, 1) := dk_29 (dk_at dksX0_fewest_9 8 rfl rfl)
theorem dX0_fewest_218 : decode cX0_fewest 218 = .ok (.imul, 1) := dk_104 (dk_at dksX0_fewest_9 9 rfl rfl)
theorem dX0_fewest_219 : decode cX0_fewest 219 = .ok (.iconst 1, 1) := dk_4 (dk_at dksX0_fewest_9 10 rfl rfl)
theorem dX0_fewest_220 : decode cX0_fewest 220 = .ok (.isub, 1) := dk_100 (dk_at dksX0_fewest_9 11 rfl rfl)
theorem dX0_fewest_221 : decode cX0_fewest 221 = .ok (.iaload, 1) := dk_46 (dk_at dksX0_fewest_9 12 rfl rfl)
theorem dX0_fewest_222 : decode cX0_fewest 222 = .ok (.ireturn, 1) := dk_172 (dk_at dksX0_fewest_9 13 rfl rfl)
abbrev cX0_isPassing : ByteArray := prog_1_method_64_code
def yX0_isPassing : MethodName := ⟨RX0, "isPassing", "([IIIIII)Z"⟩
def dkwX0_isPassing_2 : List UInt8 := [167, 0, 4, 3, 172]
abbrev dktX0_isPassing_2 : List UInt8 := dkwX0_isPassing_2 ++ []
def dkwX0_isPassing_1 : List UInt8 := [54, 9, 21, 8, 21, 9, 159, 0, 21, 21, 8, 21, 7, 160, 0, 10, 21, 9, 21, 6, 159, 0, 7, 4]
abbrev dktX0_isPassing_1 : List UInt8 := dkwX0_isPassing_1 ++ dktX0_isPassing_2
def dkwX0_isPassing_0 : List UInt8 := [42, 28, 46, 54, 6, 42, 27, 29, 96, 46, 54, 7, 42, 21, 4, 46, 54, 8, 42, 27, 21, 5, 96, 46]
abbrev dktX0_isPassing_0 : List UInt8 := dkwX0_isPassing_0 ++ dktX0_isPassing_1
theorem dksX0_isPassing_0 : cX0_isPassing.data.toList.drop 0 = dktX0_isPassing_0 := by decide +kernel
theorem dksX0_isPassing_1 : cX0_isPassing.data.toList.drop 24 = dktX0_isPassing_1 := dk_seg dksX0_isPassing_0 24 rfl rfl
theorem dksX0_isPassing_2 : cX0_isPassing.data.toList.drop 48 = dktX0_isPassing_2 := dk_seg dksX0_isPassing_1 24 rfl rfl
theorem dX0_isPassing_0 : decode cX0_isPassing 0 = .ok (.aload_n 0, 1) := dk_42 (dk_at dksX0_isPassing_0 0 rfl rfl)
theorem dX0_isPassing_1 : decode cX0_isPassing 1 = .ok (.iload_n 2, 1) := dk_28 (dk_at dksX0_isPassing_0 1 rfl rfl)
theorem dX0_isPassing_2 : decode cX0_isPassing 2 = .ok (.iaload, 1) := dk_46 (dk_at dksX0_isPassing_0 2 rfl rfl)
theorem dX0_isPassing_3 : decode cX0_isPassing 3 = .ok (.istore 6, 2) := dk_54 6 (dk_at dksX0_isPassing_0 3 rfl rfl)
theorem dX0_isPassing_5 : decode cX0_isPassing 5 = .ok (.aload_n 0, 1) := dk_42 (dk_at dksX0_isPassing_0 5 rfl rfl)
theorem dX0_isPassing_6 : decode cX0_isPassing 6 = .ok (.iload_n 1, 1) := dk_27 (dk_at dksX0_isPassing_0 6 rfl rfl)
theorem dX0_isPassing_7 : decode cX0_isPassing 7 = .ok (.iload_n 3, 1) := dk_29 (dk_at dksX0_isPassing_0 7 rfl rfl)
theorem dX0_isPassing_8 : decode cX0_isPassing 8 = .ok (.iadd, 1) := dk_96 (dk_at dksX0_isPassing_0 8 rfl rfl)
theorem dX0_isPassing_9 : decode cX0_isPassing 9 = .ok (.iaload, 1) := dk_46 (dk_at dksX0_isPassing_0 9 rfl rfl)
theorem dX0_isPassing_10 : decode cX0_isPassing 10 = .ok (.istore 7, 2) := dk_54 7 (dk_at dksX0_isPassing_0 10 rfl rfl)
theorem dX0_isPassing_12 : decode cX0_isPassing 12 = .ok (.aload_n 0, 1) := dk_42 (dk_at dksX0_isPassing_0 12 rfl rfl)
theorem dX0_isPassing_13 : decode cX0_isPassing 13 = .ok (.iload 4, 2) := dk_21 4 (dk_at dksX0_isPassing_0 13 rfl rfl)
theorem dX0_isPassing_15 : decode cX0_isPassing 15 = .ok (.iaload, 1) := dk_46 (dk_at dksX0_isPassing_0 15 rfl rfl)
theorem dX0_isPassing_16 : decode cX0_isPassing 16 = .ok (.istore 8, 2) := dk_54 8 (dk_at dksX0_isPassing_0 16 rfl rfl)
theorem dX0_isPassing_18 : decode cX0_isPassing 18 = .ok (.aload_n 0, 1) := dk_42 (dk_at dksX0_isPassing_0 18 rfl rfl)
theorem dX0_isPassing_19 : decode cX0_isPassing 19 = .ok (.iload_n 1, 1) := dk_27 (dk_at dksX0_isPassing_0 19 rfl rfl)
theorem dX0_isPassing_20 : decode cX0_isPassing 20 = .ok (.iload 5, 2) := dk_21 5 (dk_at dksX0_isPassing_0 20 rfl rfl)
theorem dX0_isPassing_22 : decode cX0_isPassing 22 = .ok (.iadd, 1) := dk_96 (dk_at dksX0_isPassing_0 22 rfl rfl)
theorem dX0_isPassing_23 : decode cX0_isPassing 23 = .ok (.iaload, 1) := dk_46 (dk_at dksX0_isPassing_0 23 rfl rfl)
theorem dX0_isPassing_24 : decode cX0_isPassing 24 = .ok (.istore 9, 2) := dk_54 9 (dk_at dksX0_isPassing_1 0 rfl rfl)
theorem dX0_isPassing_26 : decode cX0_isPassing 26 = .ok (.iload 8, 2) := dk_21 8 (dk_at dksX0_isPassing_1 2 rfl rfl)
theorem dX0_isPassing_28 : decode cX0_isPassing 28 = .ok (.iload 9, 2) := dk_21 9 (dk_at dksX0_isPassing_1 4 rfl rfl)
theorem dX0_isPassing_30 : decode cX0_isPassing 30 = .ok (.if_icmp .eq 21, 3) := dk_159 0 21 (dk_at dksX0_isPassing_1 6 rfl rfl)
theorem dX0_isPassing_33 : decode cX0_isPassing 33 = .ok (.iload 8, 2) := dk_21 8 (dk_at dksX0_isPassing_1 9 rfl rfl)
theorem dX0_isPassing_35 : decode cX0_isPassing 35 = .ok (.iload 7, 2) := dk_21 7 (dk_at dksX0_isPassing_1 11 rfl rfl)
theorem dX0_isPassing_37 : decode cX0_isPassing 37 = .ok (.if_icmp .ne 10, 3) := dk_160 0 10 (dk_at dksX0_isPassing_1 13 rfl rfl)
theorem dX0_isPassing_40 : decode cX0_isPassing 40 = .ok (.iload 9, 2) := dk_21 9 (dk_at dksX0_isPassing_1 16 rfl rfl)
theorem dX0_isPassing_42 : decode cX0_isPassing 42 = .ok (.iload 6, 2) := dk_21 6 (dk_at dksX0_isPassing_1 18 rfl rfl)
theorem dX0_isPassing_44 : decode cX0_isPassing 44 = .ok (.if_icmp .eq 7, 3) := dk_159 0 7 (dk_at dksX0_isPassing_1 20 rfl rfl)
theorem dX0_isPassing_47 : decode cX0_isPassing 47 = .ok (.iconst 1, 1) := dk_4 (dk_at dksX0_isPassing_1 23 rfl rfl)
theorem dX0_isPassing_48 : decode cX0_isPassing 48 = .ok (.goto 4, 3) := dk_167 0 4 (dk_at dksX0_isPassing_2 0 rfl rfl)
theorem dX0_isPassing_51 : decode cX0_isPassing 51 = .ok (.iconst 0, 1) := dk_3 (dk_at dksX0_isPassing_2 3 rfl rfl)
theorem dX0_isPassing_52 : decode cX0_isPassing 52 = .ok (.ireturn, 1) := dk_172 (dk_at dksX0_isPassing_2 4 rfl rfl)
abbrev cX0_kind : ByteArray := prog_1_method_68_code
def yX0_kind : MethodName := ⟨RX0, "kind", "(I)I"⟩
def dkwX0_kind_0 : List UInt8 := [42, 27, 182, 0, 193, 153, 0, 14, 42, 27, 182, 1, 175, 182, 1, 179, 167, 0, 5, 18, 141, 172]
abbrev dktX0_kind_0 : List UInt8 := dkwX0_kind_0 ++ []
theorem dksX0_kind_0 : cX0_kind.data.toList.drop 0 = dktX0_kind_0 := by decide +kernel
theorem dX0_kind_0 : decode cX0_kind 0 = .ok (.aload_n 0, 1) := dk_42 (dk_at dksX0_kind_0 0 rfl rfl)
theorem dX0_kind_1 : decode cX0_kind 1 = .ok (.iload_n 1, 1) := dk_27 (dk_at dksX0_kind_0 1 rfl rfl)
theorem dX0_kind_2 : decode cX0_kind 2 = .ok (.invokevirtual 193, 3) := dk_182 0 193 (dk_at dksX0_kind_0 2 rfl rfl)
theorem dX0_kind_5 : decode cX0_kind 5 = .ok (.ifCond .eq 14, 3) := dk_153 0 14 (dk_at dksX0_kind_0 5 rfl rfl)
theorem dX0_kind_8 : decode cX0_kind 8 = .ok (.aload_n 0, 1) := dk_42 (dk_at dksX0_kind_0 8 rfl rfl)
theorem dX0_kind_9 : decode cX0_kind 9 = .ok (.iload_n 1, 1) := dk_27 (dk_at dksX0_kind_0 9 rfl rfl)
theorem dX0_kind_10 : decode cX0_kind 10 = .ok (.invokevirtual 431, 3) := dk_182 1 175 (dk_at dksX0_kind_0 10 rfl rfl)
theorem dX0_kind_13 : decode cX0_kind 13 = .ok (.invokevirtual 435, 3) := dk_182 1 179 (dk_at dksX0_kind_0 13 rfl rfl)
theorem dX0_kind_16 : decode cX0_kind 16 = .ok (.goto 5, 3) := dk_167 0 5 (dk_at dksX0_kind_0 16 rfl rfl)
theorem dX0_kind_19 : decode cX0_kind 19 = .ok (.ldc 141, 2) := dk_18 141 (dk_at dksX0_kind_0 19 rfl rfl)
theorem dX0_kind_21 : decode cX0_kind 21 = .ok (.ireturn, 1) := dk_172 (dk_at dksX0_kind_0 21 rfl rfl)
abbrev cX0_asked : ByteArray := prog_1_method_4_code
def yX0_asked : MethodName := ⟨RX0, "asked", "(I)LTableArms$AsThing;"⟩
def dkwX0_asked_4 : List UInt8 := [183, 0, 50, 176, 187, 0, 51, 89, 42, 27, 183, 0, 53, 176]
abbrev dktX0_asked_4 : List UInt8 := dkwX0_asked_4 ++ []
def dkwX0_asked_3 : List UInt8 := [182, 0, 41, 153, 0, 15, 187, 0, 45, 89, 42, 27, 183, 0, 47, 167, 0, 12, 187, 0, 48, 89, 42, 27]
abbrev dktX0_asked_3 : List UInt8 := dkwX0_asked_3 ++ dktX0_asked_4
def dkwX0_asked_2 : List UInt8 := [187, 0, 32, 89, 42, 27, 183, 0, 34, 176, 187, 0, 38, 89, 42, 27, 183, 0, 40, 176, 42, 27]
abbrev dktX0_asked_2 : List UInt8 := dkwX0_asked_2 ++ dktX0_asked_3
def dkwX0_asked_1 : List UInt8 := [170, 0, 0, 0, 0, 76, 0, 0, 0, 0, 0, 0, 0, 2, 0, 0, 0, 26, 0, 0, 0, 36, 0, 0, 0, 46]
abbrev dktX0_asked_1 : List UInt8 := dkwX0_asked_1 ++ dktX0_asked_2
def dkwX0_asked_0 : List UInt8 := [42, 180, 0, 7, 27, 46]
abbrev dktX0_asked_0 : List UInt8 := dkwX0_asked_0 ++ dktX0_asked_1
theorem dksX0_asked_0 : cX0_asked.data.toList.drop 0 = dktX0_asked_0 := by decide +kernel
theorem dksX0_asked_1 : cX0_asked.data.toList.drop 6 = dktX0_asked_1 := dk_seg dksX0_asked_0 6 rfl rfl
theorem dksX0_asked_2 : cX0_asked.data.toList.drop 32 = dktX0_asked_2 := dk_seg dksX0_asked_1 26 rfl rfl
theorem dksX0_asked_3 : cX0_asked.data.toList.drop 54 = dktX0_asked_3 := dk_seg dksX0_asked_2 22 rfl rfl
theorem dksX0_asked_4 : cX0_asked.data.toList.drop 78 = dktX0_asked_4 := dk_seg dksX0_asked_3 24 rfl rfl
theorem dX0_asked_0 : decode cX0_asked 0 = .ok (.aload_n 0, 1) := dk_42 (dk_at dksX0_asked_0 0 rfl rfl)
theorem dX0_asked_1 : decode cX0_asked 1 = .ok (.getfield 7, 3) := dk_180 0 7 (dk_at dksX0_asked_0 1 rfl rfl)
theorem dX0_asked_4 : decode cX0_asked 4 = .ok (.iload_n 1, 1) := dk_27 (dk_at dksX0_asked_0 4 rfl rfl)
theorem dX0_asked_5 : decode cX0_asked 5 = .ok (.iaload, 1) := dk_46 (dk_at dksX0_asked_0 5 rfl rfl)
theorem dX0_asked_6 : decode cX0_asked 6 = .ok (.tableswitch 76 0 2 #[26, 36, 46], 26) := by decide +kernel
theorem dX0_asked_32 : decode cX0_asked 32 = .ok (.new 32, 3) := dk_187 0 32 (dk_at dksX0_asked_2 0 rfl rfl)
theorem dX0_asked_35 : decode cX0_asked 35 = .ok (.dup, 1) := dk_89 (dk_at dksX0_asked_2 3 rfl rfl)
theorem dX0_asked_36 : decode cX0_asked 36 = .ok (.aload_n 0, 1) := dk_42 (dk_at dksX0_asked_2 4 rfl rfl)
theorem dX0_asked_37 : decode cX0_asked 37 = .ok (.iload_n 1, 1) := dk_27 (dk_at dksX0_asked_2 5 rfl rfl)
theorem dX0_asked_38 : decode cX0_asked 38 = .ok (.invokespecial 34, 3) := dk_183 0 34 (dk_at dksX0_asked_2 6 rfl rfl)
theorem dX0_asked_41 : decode cX0_asked 41 = .ok (.areturn, 1) := dk_176 (dk_at dksX0_asked_2 9 rfl rfl)
theorem dX0_asked_42 : decode cX0_asked 42 = .ok (.new 38, 3) := dk_187 0 38 (dk_at dksX0_asked_2 10 rfl rfl)
theorem dX0_asked_45 : decode cX0_asked 45 = .ok (.dup, 1) := dk_89 (dk_at dksX0_asked_2 13 rfl rfl)
theorem dX0_asked_46 : decode cX0_asked 46 = .ok (.aload_n 0, 1) := dk_42 (dk_at dksX0_asked_2 14 rfl rfl)
theorem dX0_asked_47 : decode cX0_asked 47 = .ok (.iload_n 1, 1) := dk_27 (dk_at dksX0_asked_2 15 rfl rfl)
theorem dX0_asked_48 : decode cX0_asked 48 = .ok (.invokespecial 40, 3) := dk_183 0 40 (dk_at dksX0_asked_2 16 rfl rfl)
theorem dX0_asked_51 : decode cX0_asked 51 = .ok (.areturn, 1) := dk_176 (dk_at dksX0_asked_2 19 rfl rfl)
theorem dX0_asked_52 : decode cX0_asked 52 = .ok (.aload_n 0, 1) := dk_42 (dk_at dksX0_asked_2 20 rfl rfl)
theorem dX0_asked_53 : decode cX0_asked 53 = .ok (.iload_n 1, 1) := dk_27 (dk_at dksX0_asked_2 21 rfl rfl)
theorem dX0_asked_54 : decode cX0_asked 54 = .ok (.invokevirtual 41, 3) := dk_182 0 41 (dk_at dksX0_asked_3 0 rfl rfl)
theorem dX0_asked_57 : decode cX0_asked 57 = .ok (.ifCond .eq 15, 3) := dk_153 0 15 (dk_at dksX0_asked_3 3 rfl rfl)
theorem dX0_asked_60 : decode cX0_asked 60 = .ok (.new 45, 3) := dk_187 0 45 (dk_at dksX0_asked_3 6 rfl rfl)
theorem dX0_asked_63 : decode cX0_asked 63 = .ok (.dup, 1) := dk_89 (dk_at dksX0_asked_3 9 rfl rfl)
theorem dX0_asked_64 : decode cX0_asked 64 = .ok (.aload_n 0, 1) := dk_42 (dk_at dksX0_asked_3 10 rfl rfl)
theorem dX0_asked_65 : decode cX0_asked 65 = .ok (.iload_n 1, 1) := dk_27 (dk_at dksX0_asked_3 11 rfl rfl)
theorem dX0_asked_66 : decode cX0_asked 66 = .ok (.invokespecial 47, 3) := dk_183 0 47 (dk_at dksX0_asked_3 12 rfl rfl)
theorem dX0_asked_69 : decode cX0_asked 69 = .ok (.goto 12, 3) := dk_167 0 12 (dk_at dksX0_asked_3 15 rfl rfl)
theorem dX0_asked_72 : decode cX0_asked 72 = .ok (.new 48, 3) := dk_187 0 48 (dk_at dksX0_asked_3 18 rfl rfl)
theorem dX0_asked_75 : decode cX0_asked 75 = .ok (.dup, 1) := dk_89 (dk_at dksX0_asked_3 21 rfl rfl)
theorem dX0_asked_76 : decode cX0_asked 76 = .ok (.aload_n 0, 1) := dk_42 (dk_at dksX0_asked_3 22 rfl rfl)
theorem dX0_asked_77 : decode cX0_asked 77 = .ok (.iload_n 1, 1) := dk_27 (dk_at dksX0_asked_3 23 rfl rfl)
theorem dX0_asked_78 : decode cX0_asked 78 = .ok (.invokespecial 50, 3) := dk_183 0 50 (dk_at dksX0_asked_4 0 rfl rfl)
theorem dX0_asked_81 : decode cX0_asked 81 = .ok (.areturn, 1) := dk_176 (dk_at dksX0_asked_4 3 rfl rfl)
theorem dX0_asked_82 : decode cX0_asked 82 = .ok (.new 51, 3) := dk_187 0 51 (dk_at dksX0_asked_4 4 rfl rfl)
theorem dX0_asked_85 : decode cX0_asked 85 = .ok (.dup, 1) := dk_89 (dk_at dksX0_asked_4 7 rfl rfl)
theorem dX0_asked_86 : decode cX0_asked 86 = .ok (.aload_n 0, 1) := dk_42 (dk_at dksX0_asked_4 8 rfl rfl)
theorem dX0_asked_87 : decode cX0_asked 87 = .ok (.iload_n 1, 1) := dk_27 (dk_at dksX0_asked_4 9 rfl rfl)
theorem dX0_asked_88 : decode cX0_asked 88 = .ok (.invokespecial 53, 3) := dk_183 0 53 (dk_at dksX0_asked_4 10 rfl rfl)
theorem dX0_asked_91 : decode cX0_asked 91 = .ok (.areturn, 1) := dk_176 (dk_at dksX0_asked_4 13 rfl rfl)
abbrev cX0_isShut : ByteArray := prog_1_method_3_code
def yX0_isShut : MethodName := ⟨RX0, "isShut", "(I)Z"⟩
def dkwX0_isShut_2 : List UInt8 := [180, 0, 7, 42, 180, 0, 13, 28, 29, 182, 0, 28, 46, 6, 160, 0, 7, 4, 167, 0, 4, 3, 172]
abbrev dktX0_isShut_2 : List UInt8 := dkwX0_isShut_2 ++ []
def dkwX0_isShut_1 : List UInt8 := [180, 0, 13, 27, 182, 0, 22, 4, 96, 62, 29, 42, 180, 0, 13, 180, 0, 25, 28, 46, 162, 0, 25, 42]
abbrev dktX0_isShut_1 : List UInt8 := dkwX0_isShut_1 ++ dktX0_isShut_2
def dkwX0_isShut_0 : List UInt8 := [42, 180, 0, 7, 27, 46, 5, 159, 0, 5, 3, 172, 42, 180, 0, 13, 180, 0, 17, 27, 46, 61, 42]
abbrev dktX0_isShut_0 : List UInt8 := dkwX0_isShut_0 ++ dktX0_isShut_1
theorem dksX0_isShut_0 : cX0_isShut.data.toList.drop 0 = dktX0_isShut_0 := by decide +kernel
theorem dksX0_isShut_1 : cX0_isShut.data.toList.drop 23 = dktX0_isShut_1 := dk_seg dksX0_isShut_0 23 rfl rfl
theorem dksX0_isShut_2 : cX0_isShut.data.toList.drop 47 = dktX0_isShut_2 := dk_seg dksX0_isShut_1 24 rfl rfl
theorem dX0_isShut_0 : decode cX0_isShut 0 = .ok (.aload_n 0, 1) := dk_42 (dk_at dksX0_isShut_0 0 rfl rfl)
theorem dX0_isShut_1 : decode cX0_isShut 1 = .ok (.getfield 7, 3) := dk_180 0 7 (dk_at dksX0_isShut_0 1 rfl rfl)
theorem dX0_isShut_4 : decode cX0_isShut 4 = .ok (.iload_n 1, 1) := dk_27 (dk_at dksX0_isShut_0 4 rfl rfl)
theorem dX0_isShut_5 : decode cX0_isShut 5 = .ok (.iaload, 1) := dk_46 (dk_at dksX0_isShut_0 5 rfl rfl)
theorem dX0_isShut_6 : decode cX0_isShut 6 = .ok (.iconst 2, 1) := dk_5 (dk_at dksX0_isShut_0 6 rfl rfl)
theorem dX0_isShut_7 : decode cX0_isShut 7 = .ok (.if_icmp .eq 5, 3) := dk_159 0 5 (dk_at dksX0_isShut_0 7 rfl rfl)
theorem dX0_isShut_10 : decode cX0_isShut 10 = .ok (.iconst 0, 1) := dk_3 (dk_at dksX0_isShut_0 10 rfl rfl)
theorem dX0_isShut_11 : decode cX0_isShut 11 = .ok (.ireturn, 1) := dk_172 (dk_at dksX0_isShut_0 11 rfl rfl)
theorem dX0_isShut_12 : decode cX0_isShut 12 = .ok (.aload_n 0, 1) := dk_42 (dk_at dksX0_isShut_0 12 rfl rfl)
theorem dX0_isShut_13 : decode cX0_isShut 13 = .ok (.getfield 13, 3) := dk_180 0 13 (dk_at dksX0_isShut_0 13 rfl rfl)
theorem dX0_isShut_16 : decode cX0_isShut 16 = .ok (.getfield 17, 3) := dk_180 0 17 (dk_at dksX0_isShut_0 16 rfl rfl)
theorem dX0_isShut_19 : decode cX0_isShut 19 = .ok (.iload_n 1, 1) := dk_27 (dk_at dksX0_isShut_0 19 rfl rfl)
theorem dX0_isShut_20 : decode cX0_isShut 20 = .ok (.iaload, 1) := dk_46 (dk_at dksX0_isShut_0 20 rfl rfl)
theorem dX0_isShut_21 : decode cX0_isShut 21 = .ok (.istore_n 2, 1) := dk_61 (dk_at dksX0_isShut_0 21 rfl rfl)
theorem dX0_isShut_22 : decode cX0_isShut 22 = .ok (.aload_n 0, 1) := dk_42 (dk_at dksX0_isShut_0 22 rfl rfl)
theorem dX0_isShut_23 : decode cX0_isShut 23 = .ok (.getfield 13, 3) := dk_180 0 13 (dk_at dksX0_isShut_1 0 rfl rfl)
theorem dX0_isShut_26 : decode cX0_isShut 26 = .ok (.iload_n 1, 1) := dk_27 (dk_at dksX0_isShut_1 3 rfl rfl)
theorem dX0_isShut_27 : decode cX0_isShut 27 = .ok (.invokevirtual 22, 3) := dk_182 0 22 (dk_at dksX0_isShut_1 4 rfl rfl)
theorem dX0_isShut_30 : decode cX0_isShut 30 = .ok (.iconst 1, 1) := dk_4 (dk_at dksX0_isShut_1 7 rfl rfl)
theorem dX0_isShut_31 : decode cX0_isShut 31 = .ok (.iadd, 1) := dk_96 (dk_at dksX0_isShut_1 8 rfl rfl)
theorem dX0_isShut_32 : decode cX0_isShut 32 = .ok (.istore_n 3, 1) := dk_62 (dk_at dksX0_isShut_1 9 rfl rfl)
theorem dX0_isShut_33 : decode cX0_isShut 33 = .ok (.iload_n 3, 1) := dk_29 (dk_at dksX0_isShut_1 10 rfl rfl)
theorem dX0_isShut_34 : decode cX0_isShut 34 = .ok (.aload_n 0, 1) := dk_42 (dk_at dksX0_isShut_1 11 rfl rfl)
theorem dX0_isShut_35 : decode cX0_isShut 35 = .ok (.getfield 13, 3) := dk_180 0 13 (dk_at dksX0_isShut_1 12 rfl rfl)
theorem dX0_isShut_38 : decode cX0_isShut 38 = .ok (.getfield 25, 3) := dk_180 0 25 (dk_at dksX0_isShut_1 15 rfl rfl)
theorem dX0_isShut_41 : decode cX0_isShut 41 = .ok (.iload_n 2, 1) := dk_28 (dk_at dksX0_isShut_1 18 rfl rfl)
theorem dX0_isShut_42 : decode cX0_isShut 42 = .ok (.iaload, 1) := dk_46 (dk_at dksX0_isShut_1 19 rfl rfl)
theorem dX0_isShut_43 : decode cX0_isShut 43 = .ok (.if_icmp .ge 25, 3) := dk_162 0 25 (dk_at dksX0_isShut_1 20 rfl rfl)
theorem dX0_isShut_46 : decode cX0_isShut 46 = .ok (.aload_n 0, 1) := dk_42 (dk_at dksX0_isShut_1 23 rfl rfl)
theorem dX0_isShut_47 : decode cX0_isShut 47 = .ok (.getfield 7, 3) := dk_180 0 7 (dk_at dksX0_isShut_2 0 rfl rfl)
theorem dX0_isShut_50 : decode cX0_isShut 50 = .ok (.aload_n 0, 1) := dk_42 (dk_at dksX0_isShut_2 3 rfl rfl)
theorem dX0_isShut_51 : decode cX0_isShut 51 = .ok (.getfield 13, 3) := dk_180 0 13 (dk_at dksX0_isShut_2 4 rfl rfl)
theorem dX0_isShut_54 : decode cX0_isShut 54 = .ok (.iload_n 2, 1) := dk_28 (dk_at dksX0_isShut_2 7 rfl rfl)
theorem dX0_isShut_55 : decode cX0_isShut 55 = .ok (.iload_n 3, 1) := dk_29 (dk_at dksX0_isShut_2 8 rfl rfl)
theorem dX0_isShut_56 : decode cX0_isShut 56 = .ok (.invokevirtual 28, 3) := dk_182 0 28 (dk_at dksX0_isShut_2 9 rfl rfl)
theorem dX0_isShut_59 : decode cX0_isShut 59 = .ok (.iaload, 1) := dk_46 (dk_at dksX0_isShut_2 12 rfl rfl)
theorem dX0_isShut_60 : decode cX0_isShut 60 = .ok (.iconst 3, 1) := dk_6 (dk_at dksX0_isShut_2 13 rfl rfl)
theorem dX0_isShut_61 : decode cX0_isShut 61 = .ok (.if_icmp .ne 7, 3) := dk_160 0 7 (dk_at dksX0_isShut_2 14 rfl rfl)
theorem dX0_isShut_64 : decode cX0_isShut 64 = .ok (.iconst 1, 1) := dk_4 (dk_at dksX0_isShut_2 17 rfl rfl)
theorem dX0_isShut_65 : decode cX0_isShut 65 = .ok (.goto 4, 3) := dk_167 0 4 (dk_at dksX0_isShut_2 18 rfl rfl)
theorem dX0_isShut_68 : decode cX0_isShut 68 = .ok (.iconst 0, 1) := dk_3 (dk_at dksX0_isShut_2 21 rfl rfl)
theorem dX0_isShut_69 : decode cX0_isShut 69 = .ok (.ireturn, 1) := dk_172 (dk_at dksX0_isShut_2 22 rfl rfl)
abbrev cX0_as : ByteArray := prog_1_method_69_code
def yX0_as : MethodName := ⟨RX0, "as", "(II)I"⟩
def dkwX0_as_5 : List UInt8 := [78, 42, 45, 182, 0, 148, 172]
abbrev dktX0_as_5 : List UInt8 := dkwX0_as_5 ++ []
def dkwX0_as_4 : List UInt8 := [180, 0, 65, 25, 4, 182, 1, 185, 46, 182, 0, 145, 172, 58, 4, 187, 0, 114, 89, 6, 183, 0, 123, 191]
abbrev dktX0_as_4 : List UInt8 := dkwX0_as_4 ++ dktX0_as_5
def dkwX0_as_3 : List UInt8 := [167, 0, 19, 28, 7, 160, 0, 10, 45, 192, 0, 45, 167, 0, 7, 45, 192, 0, 51, 58, 4, 42, 42]
abbrev dktX0_as_3 : List UInt8 := dkwX0_as_3 ++ dktX0_as_4
def dkwX0_as_2 : List UInt8 := [167, 0, 43, 28, 5, 160, 0, 10, 45, 192, 0, 38, 167, 0, 31, 28, 6, 160, 0, 10, 45, 192, 0, 48]
abbrev dktX0_as_2 : List UInt8 := dkwX0_as_2 ++ dktX0_as_3
def dkwX0_as_1 : List UInt8 := [27, 182, 1, 175, 78, 28, 154, 0, 7, 45, 167, 0, 55, 28, 4, 160, 0, 10, 45, 192, 0, 32]
abbrev dktX0_as_1 : List UInt8 := dkwX0_as_1 ++ dktX0_as_2
def dkwX0_as_0 : List UInt8 := [42, 27, 182, 0, 193, 153, 0, 15, 28, 133, 9, 20, 1, 183, 184, 0, 128, 154, 0, 6, 18, 141, 172, 42]
abbrev dktX0_as_0 : List UInt8 := dkwX0_as_0 ++ dktX0_as_1
theorem dksX0_as_0 : cX0_as.data.toList.drop 0 = dktX0_as_0 := by decide +kernel
theorem dksX0_as_1 : cX0_as.data.toList.drop 24 = dktX0_as_1 := dk_seg dksX0_as_0 24 rfl rfl
theorem dksX0_as_2 : cX0_as.data.toList.drop 46 = dktX0_as_2 := dk_seg dksX0_as_1 22 rfl rfl
theorem dksX0_as_3 : cX0_as.data.toList.drop 70 = dktX0_as_3 := dk_seg dksX0_as_2 24 rfl rfl
theorem dksX0_as_4 : cX0_as.data.toList.drop 93 = dktX0_as_4 := dk_seg dksX0_as_3 23 rfl rfl
theorem dksX0_as_5 : cX0_as.data.toList.drop 117 = dktX0_as_5 := dk_seg dksX0_as_4 24 rfl rfl
theorem dX0_as_0 : decode cX0_as 0 = .ok (.aload_n 0, 1) := dk_42 (dk_at dksX0_as_0 0 rfl rfl)
theorem dX0_as_1 : decode cX0_as 1 = .ok (.iload_n 1, 1) := dk_27 (dk_at dksX0_as_0 1 rfl rfl)
theorem dX0_as_2 : decode cX0_as 2 = .ok (.invokevirtual 193, 3) := dk_182 0 193 (dk_at dksX0_as_0 2 rfl rfl)
theorem dX0_as_5 : decode cX0_as 5 = .ok (.ifCond .eq 15, 3) := dk_153 0 15 (dk_at dksX0_as_0 5 rfl rfl)
theorem dX0_as_8 : decode cX0_as 8 = .ok (.iload_n 2, 1) := dk_28 (dk_at dksX0_as_0 8 rfl rfl)
theorem dX0_as_9 : decode cX0_as 9 = .ok (.i2l, 1) := dk_133 (dk_at dksX0_as_0 9 rfl rfl)
theorem dX0_as_10 : decode cX0_as 10 = .ok (.lconst 0, 1) := dk_9 (dk_at dksX0_as_0 10 rfl rfl)
theorem dX0_as_11 : decode cX0_as 11 = .ok (.ldc2_w 439, 3) := dk_20 1 183 (dk_at dksX0_as_0 11 rfl rfl)
theorem dX0_as_14 : decode cX0_as 14 = .ok (.invokestatic 128, 3) := dk_184 0 128 (dk_at dksX0_as_0 14 rfl rfl)
theorem dX0_as_17 : decode cX0_as 17 = .ok (.ifCond .ne 6, 3) := dk_154 0 6 (dk_at dksX0_as_0 17 rfl rfl)
theorem dX0_as_20 : decode cX0_as 20 = .ok (.ldc 141, 2) := dk_18 141 (dk_at dksX0_as_0 20 rfl rfl)
theorem dX0_as_22 : decode cX0_as 22 = .ok (.ireturn, 1) := dk_172 (dk_at dksX0_as_0 22 rfl rfl)
theorem dX0_as_23 : decode cX0_as 23 = .ok (.aload_n 0, 1) := dk_42 (dk_at dksX0_as_0 23 rfl rfl)
theorem dX0_as_24 : decode cX0_as 24 = .ok (.iload_n 1, 1) := dk_27 (dk_at dksX0_as_1 0 rfl rfl)
theorem dX0_as_25 : decode cX0_as 25 = .ok (.invokevirtual 431, 3) := dk_182 1 175 (dk_at dksX0_as_1 1 rfl rfl)
theorem dX0_as_28 : decode cX0_as 28 = .ok (.astore_n 3, 1) := dk_78 (dk_at dksX0_as_1 4 rfl rfl)
theorem dX0_as_29 : decode cX0_as 29 = .ok (.iload_n 2, 1) := dk_28 (dk_at dksX0_as_1 5 rfl rfl)
theorem dX0_as_30 : decode cX0_as 30 = .ok (.ifCond .ne 7, 3) := dk_154 0 7 (dk_at dksX0_as_1 6 rfl rfl)
theorem dX0_as_33 : decode cX0_as 33 = .ok (.aload_n 3, 1) := dk_45 (dk_at dksX0_as_1 9 rfl rfl)
theorem dX0_as_34 : decode cX0_as 34 = .ok (.goto 55, 3) := dk_167 0 55 (dk_at dksX0_as_1 10 rfl rfl)
theorem dX0_as_37 : decode cX0_as 37 = .ok (.iload_n 2, 1) := dk_28 (dk_at dksX0_as_1 13 rfl rfl)
theorem dX0_as_38 : decode cX0_as 38 = .ok (.iconst 1, 1) := dk_4 (dk_at dksX0_as_1 14 rfl rfl)
theorem dX0_as_39 : decode cX0_as 39 = .ok (.if_icmp .ne 10, 3) := dk_160 0 10 (dk_at dksX0_as_1 15 rfl rfl)
theorem dX0_as_42 : decode cX0_as 42 = .ok (.aload_n 3, 1) := dk_45 (dk_at dksX0_as_1 18 rfl rfl)
theorem dX0_as_43 : decode cX0_as 43 = .ok (.checkcast 32, 3) := dk_192 0 32 (dk_at dksX0_as_1 19 rfl rfl)
theorem dX0_as_46 : decode cX0_as 46 = .ok (.goto 43, 3) := dk_167 0 43 (dk_at dksX0_as_2 0 rfl rfl)
theorem dX0_as_49 : decode cX0_as 49 = .ok (.iload_n 2, 1) := dk_28 (dk_at dksX0_as_2 3 rfl rfl)
theorem dX0_as_50 : decode cX0_as 50 = .ok (.iconst 2, 1) := dk_5 (dk_at dksX0_as_2 4 rfl rfl)
theorem dX0_as_51 : decode cX0_as 51 = .ok (.if_icmp .ne 10, 3) := dk_160 0 10 (dk_at dksX0_as_2 5 rfl rfl)
theorem dX0_as_54 : decode cX0_as 54 = .ok (.aload_n 3, 1) := dk_45 (dk_at dksX0_as_2 8 rfl rfl)
theorem dX0_as_55 : decode cX0_as 55 = .ok (.checkcast 38, 3) := dk_192 0 38 (dk_at dksX0_as_2 9 rfl rfl)
theorem dX0_as_58 : decode cX0_as 58 = .ok (.goto 31, 3) := dk_167 0 31 (dk_at dksX0_as_2 12 rfl rfl)
theorem dX0_as_61 : decode cX0_as 61 = .ok (.iload_n 2, 1) := dk_28 (dk_at dksX0_as_2 15 rfl rfl)
theorem dX0_as_62 : decode cX0_as 62 = .ok (.iconst 3, 1) := dk_6 (dk_at dksX0_as_2 16 rfl rfl)
theorem dX0_as_63 : decode cX0_as 63 = .ok (.if_icmp .ne 10, 3) := dk_160 0 10 (dk_at dksX0_as_2 17 rfl rfl)
theorem dX0_as_66 : decode cX0_as 66 = .ok (.aload_n 3, 1) := dk_45 (dk_at dksX0_as_2 20 rfl rfl)
theorem dX0_as_67 : decode cX0_as 67 = .ok (.checkcast 48, 3) := dk_192 0 48 (dk_at dksX0_as_2 21 rfl rfl)
theorem dX0_as_70 : decode cX0_as 70 = .ok (.goto 19, 3) := dk_167 0 19 (dk_at dksX0_as_3 0 rfl rfl)
theorem dX0_as_73 : decode cX0_as 73 = .ok (.iload_n 2, 1) := dk_28 (dk_at dksX0_as_3 3 rfl rfl)
theorem dX0_as_74 : decode cX0_as 74 = .ok (.iconst 4, 1) := dk_7 (dk_at dksX0_as_3 4 rfl rfl)
theorem dX0_as_75 : decode cX0_as 75 = .ok (.if_icmp .ne 10, 3) := dk_160 0 10 (dk_at dksX0_as_3 5 rfl rfl)
theorem dX0_as_78 : decode cX0_as 78 = .ok (.aload_n 3, 1) := dk_45 (dk_at dksX0_as_3 8 rfl rfl)
theorem dX0_as_79 : decode cX0_as 79 = .ok (.checkcast 45, 3) := dk_192 0 45 (dk_at dksX0_as_3 9 rfl rfl)
theorem dX0_as_82 : decode cX0_as 82 = .ok (.goto 7, 3) := dk_167 0 7 (dk_at dksX0_as_3 12 rfl rfl)
theorem dX0_as_85 : decode cX0_as 85 = .ok (.aload_n 3, 1) := dk_45 (dk_at dksX0_as_3 15 rfl rfl)
theorem dX0_as_86 : decode cX0_as 86 = .ok (.checkcast 51, 3) := dk_192 0 51 (dk_at dksX0_as_3 16 rfl rfl)
theorem dX0_as_89 : decode cX0_as 89 = .ok (.astore 4, 2) := dk_58 4 (dk_at dksX0_as_3 19 rfl rfl)
theorem dX0_as_91 : decode cX0_as 91 = .ok (.aload_n 0, 1) := dk_42 (dk_at dksX0_as_3 21 rfl rfl)
theorem dX0_as_92 : decode cX0_as 92 = .ok (.aload_n 0, 1) := dk_42 (dk_at dksX0_as_3 22 rfl rfl)
theorem dX0_as_93 : decode cX0_as 93 = .ok (.getfield 65, 3) := dk_180 0 65 (dk_at dksX0_as_4 0 rfl rfl)
theorem dX0_as_96 : decode cX0_as 96 = .ok (.aload 4, 2) := dk_25 4 (dk_at dksX0_as_4 3 rfl rfl)
theorem dX0_as_98 : decode cX0_as 98 = .ok (.invokevirtual 441, 3) := dk_182 1 185 (dk_at dksX0_as_4 5 rfl rfl)
theorem dX0_as_101 : decode cX0_as 101 = .ok (.iaload, 1) := dk_46 (dk_at dksX0_as_4 8 rfl rfl)
theorem dX0_as_102 : decode cX0_as 102 = .ok (.invokevirtual 145, 3) := dk_182 0 145 (dk_at dksX0_as_4 9 rfl rfl)
theorem dX0_as_105 : decode cX0_as 105 = .ok (.ireturn, 1) := dk_172 (dk_at dksX0_as_4 12 rfl rfl)
theorem dX0_as_106 : decode cX0_as 106 = .ok (.astore 4, 2) := dk_58 4 (dk_at dksX0_as_4 13 rfl rfl)
theorem dX0_as_108 : decode cX0_as 108 = .ok (.new 114, 3) := dk_187 0 114 (dk_at dksX0_as_4 15 rfl rfl)
theorem dX0_as_111 : decode cX0_as 111 = .ok (.dup, 1) := dk_89 (dk_at dksX0_as_4 18 rfl rfl)
theorem dX0_as_112 : decode cX0_as 112 = .ok (.iconst 3, 1) := dk_6 (dk_at dksX0_as_4 19 rfl rfl)
theorem dX0_as_113 : decode cX0_as 113 = .ok (.invokespecial 123, 3) := dk_183 0 123 (dk_at dksX0_as_4 20 rfl rfl)
theorem dX0_as_116 : decode cX0_as 116 = .ok (.athrow, 1) := dk_191 (dk_at dksX0_as_4 23 rfl rfl)
theorem dX0_as_117 : decode cX0_as 117 = .ok (.astore_n 3, 1) := dk_78 (dk_at dksX0_as_5 0 rfl rfl)
theorem dX0_as_118 : decode cX0_as 118 = .ok (.aload_n 0, 1) := dk_42 (dk_at dksX0_as_5 1 rfl rfl)
theorem dX0_as_119 : decode cX0_as 119 = .ok (.aload_n 3, 1) := dk_45 (dk_at dksX0_as_5 2 rfl rfl)
theorem dX0_as_120 : decode cX0_as 120 = .ok (.invokevirtual 148, 3) := dk_182 0 148 (dk_at dksX0_as_5 3 rfl rfl)
theorem dX0_as_123 : decode cX0_as 123 = .ok (.ireturn, 1) := dk_172 (dk_at dksX0_as_5 6 rfl rfl)
abbrev cX0_ask : ByteArray := prog_1_method_70_code
def yX0_ask : MethodName := ⟨RX0, "ask", "(II)I"⟩
def dkwX0_ask_2 : List UInt8 := [180, 0, 102, 182, 1, 189, 167, 0, 11, 45, 42, 180, 0, 102, 182, 1, 192, 172]
abbrev dktX0_ask_2 : List UInt8 := dkwX0_ask_2 ++ []
def dkwX0_ask_1 : List UInt8 := [187, 0, 99, 89, 183, 0, 101, 181, 0, 102, 42, 27, 182, 1, 175, 78, 28, 154, 0, 14, 45, 42]
abbrev dktX0_ask_1 : List UInt8 := dkwX0_ask_1 ++ dktX0_ask_2
def dkwX0_ask_0 : List UInt8 := [42, 27, 182, 0, 193, 153, 0, 13, 28, 133, 9, 10, 184, 0, 128, 154, 0, 6, 18, 141, 172, 42]
abbrev dktX0_ask_0 : List UInt8 := dkwX0_ask_0 ++ dktX0_ask_1
theorem dksX0_ask_0 : cX0_ask.data.toList.drop 0 = dktX0_ask_0 := by decide +kernel
theorem dksX0_ask_1 : cX0_ask.data.toList.drop 22 = dktX0_ask_1 := dk_seg dksX0_ask_0 22 rfl rfl
theorem dksX0_ask_2 : cX0_ask.data.toList.drop 44 = dktX0_ask_2 := dk_seg dksX0_ask_1 22 rfl rfl
theorem dX0_ask_0 : decode cX0_ask 0 = .ok (.aload_n 0, 1) := dk_42 (dk_at dksX0_ask_0 0 rfl rfl)
theorem dX0_ask_1 : decode cX0_ask 1 = .ok (.iload_n 1, 1) := dk_27 (dk_at dksX0_ask_0 1 rfl rfl)
theorem dX0_ask_2 : decode cX0_ask 2 = .ok (.invokevirtual 193, 3) := dk_182 0 193 (dk_at dksX0_ask_0 2 rfl rfl)
theorem dX0_ask_5 : decode cX0_ask 5 = .ok (.ifCond .eq 13, 3) := dk_153 0 13 (dk_at dksX0_ask_0 5 rfl rfl)
theorem dX0_ask_8 : decode cX0_ask 8 = .ok (.iload_n 2, 1) := dk_28 (dk_at dksX0_ask_0 8 rfl rfl)
theorem dX0_ask_9 : decode cX0_ask 9 = .ok (.i2l, 1) := dk_133 (dk_at dksX0_ask_0 9 rfl rfl)
theorem dX0_ask_10 : decode cX0_ask 10 = .ok (.lconst 0, 1) := dk_9 (dk_at dksX0_ask_0 10 rfl rfl)
theorem dX0_ask_11 : decode cX0_ask 11 = .ok (.lconst 1, 1) := dk_10 (dk_at dksX0_ask_0 11 rfl rfl)
theorem dX0_ask_12 : decode cX0_ask 12 = .ok (.invokestatic 128, 3) := dk_184 0 128 (dk_at dksX0_ask_0 12 rfl rfl)
theorem dX0_ask_15 : decode cX0_ask 15 = .ok (.ifCond .ne 6, 3) := dk_154 0 6 (dk_at dksX0_ask_0 15 rfl rfl)
theorem dX0_ask_18 : decode cX0_ask 18 = .ok (.ldc 141, 2) := dk_18 141 (dk_at dksX0_ask_0 18 rfl rfl)
theorem dX0_ask_20 : decode cX0_ask 20 = .ok (.ireturn, 1) := dk_172 (dk_at dksX0_ask_0 20 rfl rfl)
theorem dX0_ask_21 : decode cX0_ask 21 = .ok (.aload_n 0, 1) := dk_42 (dk_at dksX0_ask_0 21 rfl rfl)
theorem dX0_ask_22 : decode cX0_ask 22 = .ok (.new 99, 3) := dk_187 0 99 (dk_at dksX0_ask_1 0 rfl rfl)
theorem dX0_ask_25 : decode cX0_ask 25 = .ok (.dup, 1) := dk_89 (dk_at dksX0_ask_1 3 rfl rfl)
theorem dX0_ask_26 : decode cX0_ask 26 = .ok (.invokespecial 101, 3) := dk_183 0 101 (dk_at dksX0_ask_1 4 rfl rfl)
theorem dX0_ask_29 : decode cX0_ask 29 = .ok (.putfield 102, 3) := dk_181 0 102 (dk_at dksX0_ask_1 7 rfl rfl)
theorem dX0_ask_32 : decode cX0_ask 32 = .ok (.aload_n 0, 1) := dk_42 (dk_at dksX0_ask_1 10 rfl rfl)
theorem dX0_ask_33 : decode cX0_ask 33 = .ok (.iload_n 1, 1) := dk_27 (dk_at dksX0_ask_1 11 rfl rfl)
theorem dX0_ask_34 : decode cX0_ask 34 = .ok (.invokevirtual 431, 3) := dk_182 1 175 (dk_at dksX0_ask_1 12 rfl rfl)
theorem dX0_ask_37 : decode cX0_ask 37 = .ok (.astore_n 3, 1) := dk_78 (dk_at dksX0_ask_1 15 rfl rfl)
theorem dX0_ask_38 : decode cX0_ask 38 = .ok (.iload_n 2, 1) := dk_28 (dk_at dksX0_ask_1 16 rfl rfl)
theorem dX0_ask_39 : decode cX0_ask 39 = .ok (.ifCond .ne 14, 3) := dk_154 0 14 (dk_at dksX0_ask_1 17 rfl rfl)
theorem dX0_ask_42 : decode cX0_ask 42 = .ok (.aload_n 3, 1) := dk_45 (dk_at dksX0_ask_1 20 rfl rfl)
theorem dX0_ask_43 : decode cX0_ask 43 = .ok (.aload_n 0, 1) := dk_42 (dk_at dksX0_ask_1 21 rfl rfl)
theorem dX0_ask_44 : decode cX0_ask 44 = .ok (.getfield 102, 3) := dk_180 0 102 (dk_at dksX0_ask_2 0 rfl rfl)
theorem dX0_ask_47 : decode cX0_ask 47 = .ok (.invokevirtual 445, 3) := dk_182 1 189 (dk_at dksX0_ask_2 3 rfl rfl)
theorem dX0_ask_50 : decode cX0_ask 50 = .ok (.goto 11, 3) := dk_167 0 11 (dk_at dksX0_ask_2 6 rfl rfl)
theorem dX0_ask_53 : decode cX0_ask 53 = .ok (.aload_n 3, 1) := dk_45 (dk_at dksX0_ask_2 9 rfl rfl)
theorem dX0_ask_54 : decode cX0_ask 54 = .ok (.aload_n 0, 1) := dk_42 (dk_at dksX0_ask_2 10 rfl rfl)
theorem dX0_ask_55 : decode cX0_ask 55 = .ok (.getfield 102, 3) := dk_180 0 102 (dk_at dksX0_ask_2 11 rfl rfl)
theorem dX0_ask_58 : decode cX0_ask 58 = .ok (.invokevirtual 448, 3) := dk_182 1 192 (dk_at dksX0_ask_2 14 rfl rfl)
theorem dX0_ask_61 : decode cX0_ask 61 = .ok (.ireturn, 1) := dk_172 (dk_at dksX0_ask_2 17 rfl rfl)
abbrev cX0_trace : ByteArray := prog_1_method_71_code
def yX0_trace : MethodName := ⟨RX0, "trace", "(I)I"⟩
def dkwX0_trace_1 : List UInt8 := [180, 1, 198, 27, 46, 167, 0, 5, 18, 202, 172]
abbrev dktX0_trace_1 : List UInt8 := dkwX0_trace_1 ++ []
def dkwX0_trace_0 : List UInt8 := [27, 133, 9, 42, 180, 0, 102, 180, 1, 195, 4, 100, 133, 184, 0, 128, 153, 0, 15, 42, 180, 0, 102]
abbrev dktX0_trace_0 : List UInt8 := dkwX0_trace_0 ++ dktX0_trace_1
theorem dksX0_trace_0 : cX0_trace.data.toList.drop 0 = dktX0_trace_0 := by decide +kernel
theorem dksX0_trace_1 : cX0_trace.data.toList.drop 23 = dktX0_trace_1 := dk_seg dksX0_trace_0 23 rfl rfl
theorem dX0_trace_0 : decode cX0_trace 0 = .ok (.iload_n 1, 1) := dk_27 (dk_at dksX0_trace_0 0 rfl rfl)
theorem dX0_trace_1 : decode cX0_trace 1 = .ok (.i2l, 1) := dk_133 (dk_at dksX0_trace_0 1 rfl rfl)
theorem dX0_trace_2 : decode cX0_trace 2 = .ok (.lconst 0, 1) := dk_9 (dk_at dksX0_trace_0 2 rfl rfl)
theorem dX0_trace_3 : decode cX0_trace 3 = .ok (.aload_n 0, 1) := dk_42 (dk_at dksX0_trace_0 3 rfl rfl)
theorem dX0_trace_4 : decode cX0_trace 4 = .ok (.getfield 102, 3) := dk_180 0 102 (dk_at dksX0_trace_0 4 rfl rfl)
theorem dX0_trace_7 : decode cX0_trace 7 = .ok (.getfield 451, 3) := dk_180 1 195 (dk_at dksX0_trace_0 7 rfl rfl)
theorem dX0_trace_10 : decode cX0_trace 10 = .ok (.iconst 1, 1) := dk_4 (dk_at dksX0_trace_0 10 rfl rfl)
theorem dX0_trace_11 : decode cX0_trace 11 = .ok (.isub, 1) := dk_100 (dk_at dksX0_trace_0 11 rfl rfl)
theorem dX0_trace_12 : decode cX0_trace 12 = .ok (.i2l, 1) := dk_133 (dk_at dksX0_trace_0 12 rfl rfl)
theorem dX0_trace_13 : decode cX0_trace 13 = .ok (.invokestatic 128, 3) := dk_184 0 128 (dk_at dksX0_trace_0 13 rfl rfl)
theorem dX0_trace_16 : decode cX0_trace 16 = .ok (.ifCond .eq 15, 3) := dk_153 0 15 (dk_at dksX0_trace_0 16 rfl rfl)
theorem dX0_trace_19 : decode cX0_trace 19 = .ok (.aload_n 0, 1) := dk_42 (dk_at dksX0_trace_0 19 rfl rfl)
theorem dX0_trace_20 : decode cX0_trace 20 = .ok (.getfield 102, 3) := dk_180 0 102 (dk_at dksX0_trace_0 20 rfl rfl)
theorem dX0_trace_23 : decode cX0_trace 23 = .ok (.getfield 454, 3) := dk_180 1 198 (dk_at dksX0_trace_1 0 rfl rfl)
theorem dX0_trace_26 : decode cX0_trace 26 = .ok (.iload_n 1, 1) := dk_27 (dk_at dksX0_trace_1 3 rfl rfl)
theorem dX0_trace_27 : decode cX0_trace 27 = .ok (.iaload, 1) := dk_46 (dk_at dksX0_trace_1 4 rfl rfl)
theorem dX0_trace_28 : decode cX0_trace 28 = .ok (.goto 5, 3) := dk_167 0 5 (dk_at dksX0_trace_1 5 rfl rfl)
theorem dX0_trace_31 : decode cX0_trace 31 = .ok (.ldc 202, 2) := dk_18 202 (dk_at dksX0_trace_1 8 rfl rfl)
theorem dX0_trace_33 : decode cX0_trace 33 = .ok (.ireturn, 1) := dk_172 (dk_at dksX0_trace_1 10 rfl rfl)
abbrev cX0_count : ByteArray := prog_1_method_72_code
def yX0_count : MethodName := ⟨RX0, "count", "(I)I"⟩
def dkwX0_count_9 : List UInt8 := [96, 61, 132, 3, 1, 167, 255, 226, 28, 172, 42, 180, 1, 108, 172, 18, 141, 172]
abbrev dktX0_count_9 : List UInt8 := dkwX0_count_9 ++ []
def dkwX0_count_8 : List UInt8 := [42, 180, 0, 173, 162, 0, 28, 28, 42, 180, 0, 13, 29, 182, 0, 203, 153, 0, 7, 4, 167, 0, 4, 3]
abbrev dktX0_count_8 : List UInt8 := dkwX0_count_8 ++ dktX0_count_9
def dkwX0_count_7 : List UInt8 := [182, 0, 41, 153, 0, 7, 4, 167, 0, 4, 3, 96, 61, 132, 3, 1, 167, 255, 229, 28, 172, 3, 62, 29]
abbrev dktX0_count_7 : List UInt8 := dkwX0_count_7 ++ dktX0_count_8
def dkwX0_count_6 : List UInt8 := [42, 180, 0, 96, 185, 1, 32, 1, 0, 172, 3, 62, 29, 42, 180, 0, 173, 162, 0, 25, 28, 42, 29]
abbrev dktX0_count_6 : List UInt8 := dkwX0_count_6 ++ dktX0_count_7
def dkwX0_count_5 : List UInt8 := [192, 1, 38, 180, 1, 61, 153, 0, 7, 4, 167, 0, 4, 3, 96, 61, 132, 3, 1, 167, 255, 213, 28, 172]
abbrev dktX0_count_5 : List UInt8 := dkwX0_count_5 ++ dktX0_count_6
def dkwX0_count_4 : List UInt8 := [180, 0, 88, 185, 1, 32, 1, 0, 162, 0, 36, 28, 42, 180, 0, 88, 29, 185, 1, 57, 2, 0]
abbrev dktX0_count_4 : List UInt8 := dkwX0_count_4 ++ dktX0_count_5
def dkwX0_count_3 : List UInt8 := [61, 132, 3, 1, 167, 255, 230, 28, 172, 42, 180, 0, 173, 172, 42, 180, 0, 190, 172, 3, 62, 29, 42]
abbrev dktX0_count_3 : List UInt8 := dkwX0_count_3 ++ dktX0_count_4
def dkwX0_count_2 : List UInt8 := [3, 62, 29, 16, 8, 162, 0, 26, 28, 42, 180, 0, 61, 29, 50, 199, 0, 7, 3, 167, 0, 4, 4, 96]
abbrev dktX0_count_2 : List UInt8 := dkwX0_count_2 ++ dktX0_count_3
def dkwX0_count_1 : List UInt8 := [170, 0, 0, 0, 224, 0, 0, 0, 0, 0, 0, 0, 7, 0, 0, 0, 45, 0, 0, 0, 78, 0, 0, 0, 83, 0, 0, 0, 88, 0, 0, 0, 138, 0, 0, 0, 148, 0, 0, 0, 182, 0, 0, 0, 219]
abbrev dktX0_count_1 : List UInt8 := dkwX0_count_1 ++ dktX0_count_2
def dkwX0_count_0 : List UInt8 := [3, 61, 27]
abbrev dktX0_count_0 : List UInt8 := dkwX0_count_0 ++ dktX0_count_1
theorem dksX0_count_0 : cX0_count.data.toList.drop 0 = dktX0_count_0 := by decide +kernel
theorem dksX0_count_1 : cX0_count.data.toList.drop 3 = dktX0_count_1 := dk_seg dksX0_count_0 3 rfl rfl
theorem dksX0_count_2 : cX0_count.data.toList.drop 48 = dktX0_count_2 := dk_seg dksX0_count_1 45 rfl rfl
theorem dksX0_count_3 : cX0_count.data.toList.drop 72 = dktX0_count_3 := dk_seg dksX0_count_2 24 rfl rfl
theorem dksX0_count_4 : cX0_count.data.toList.drop 95 = dktX0_count_4 := dk_seg dksX0_count_3 23 rfl rfl
theorem dksX0_count_5 : cX0_count.data.toList.drop 117 = dktX0_count_5 := dk_seg dksX0_count_4 22 rfl rfl
theorem dksX0_count_6 : cX0_count.data.toList.drop 141 = dktX0_count_6 := dk_seg dksX0_count_5 24 rfl rfl
theorem dksX0_count_7 : cX0_count.data.toList.drop 164 = dktX0_count_7 := dk_seg dksX0_count_6 23 rfl rfl
theorem dksX0_count_8 : cX0_count.data.toList.drop 188 = dktX0_count_8 := dk_seg dksX0_count_7 24 rfl rfl
theorem dksX0_count_9 : cX0_count.data.toList.drop 212 = dktX0_count_9 := dk_seg dksX0_count_8 24 rfl rfl
theorem dX0_count_0 : decode cX0_count 0 = .ok (.iconst 0, 1) := dk_3 (dk_at dksX0_count_0 0 rfl rfl)
theorem dX0_count_1 : decode cX0_count 1 = .ok (.istore_n 2, 1) := dk_61 (dk_at dksX0_count_0 1 rfl rfl)
theorem dX0_count_2 : decode cX0_count 2 = .ok (.iload_n 1, 1) := dk_27 (dk_at dksX0_count_0 2 rfl rfl)
theorem dX0_count_3 : decode cX0_count 3 = .ok (.tableswitch 224 0 7 #[45, 78, 83, 88, 138, 148, 182, 219], 45) := by decide +kernel
theorem dX0_count_48 : decode cX0_count 48 = .ok (.iconst 0, 1) := dk_3 (dk_at dksX0_count_2 0 rfl rfl)
theorem dX0_count_49 : decode cX0_count 49 = .ok (.istore_n 3, 1) := dk_62 (dk_at dksX0_count_2 1 rfl rfl)
theorem dX0_count_50 : decode cX0_count 50 = .ok (.iload_n 3, 1) := dk_29 (dk_at dksX0_count_2 2 rfl rfl)
theorem dX0_count_51 : decode cX0_count 51 = .ok (.bipush 8, 2) := dk_16 8 (dk_at dksX0_count_2 3 rfl rfl)
theorem dX0_count_53 : decode cX0_count 53 = .ok (.if_icmp .ge 26, 3) := dk_162 0 26 (dk_at dksX0_count_2 5 rfl rfl)
theorem dX0_count_56 : decode cX0_count 56 = .ok (.iload_n 2, 1) := dk_28 (dk_at dksX0_count_2 8 rfl rfl)
theorem dX0_count_57 : decode cX0_count 57 = .ok (.aload_n 0, 1) := dk_42 (dk_at dksX0_count_2 9 rfl rfl)
theorem dX0_count_58 : decode cX0_count 58 = .ok (.getfield 61, 3) := dk_180 0 61 (dk_at dksX0_count_2 10 rfl rfl)
theorem dX0_count_61 : decode cX0_count 61 = .ok (.iload_n 3, 1) := dk_29 (dk_at dksX0_count_2 13 rfl rfl)
theorem dX0_count_62 : decode cX0_count 62 = .ok (.aaload, 1) := dk_50 (dk_at dksX0_count_2 14 rfl rfl)
theorem dX0_count_63 : decode cX0_count 63 = .ok (.ifnonnull 7, 3) := dk_199 0 7 (dk_at dksX0_count_2 15 rfl rfl)
theorem dX0_count_66 : decode cX0_count 66 = .ok (.iconst 0, 1) := dk_3 (dk_at dksX0_count_2 18 rfl rfl)
theorem dX0_count_67 : decode cX0_count 67 = .ok (.goto 4, 3) := dk_167 0 4 (dk_at dksX0_count_2 19 rfl rfl)
theorem dX0_count_70 : decode cX0_count 70 = .ok (.iconst 1, 1) := dk_4 (dk_at dksX0_count_2 22 rfl rfl)
theorem dX0_count_71 : decode cX0_count 71 = .ok (.iadd, 1) := dk_96 (dk_at dksX0_count_2 23 rfl rfl)
theorem dX0_count_72 : decode cX0_count 72 = .ok (.istore_n 2, 1) := dk_61 (dk_at dksX0_count_3 0 rfl rfl)
theorem dX0_count_73 : decode cX0_count 73 = .ok (.iinc 3 1, 3) := dk_132 3 1 (dk_at dksX0_count_3 1 rfl rfl)
theorem dX0_count_76 : decode cX0_count 76 = .ok (.goto (-26), 3) := dk_167 255 230 (dk_at dksX0_count_3 4 rfl rfl)
theorem dX0_count_79 : decode cX0_count 79 = .ok (.iload_n 2, 1) := dk_28 (dk_at dksX0_count_3 7 rfl rfl)
theorem dX0_count_80 : decode cX0_count 80 = .ok (.ireturn, 1) := dk_172 (dk_at dksX0_count_3 8 rfl rfl)
theorem dX0_count_81 : decode cX0_count 81 = .ok (.aload_n 0, 1) := dk_42 (dk_at dksX0_count_3 9 rfl rfl)
theorem dX0_count_82 : decode cX0_count 82 = .ok (.getfield 173, 3) := dk_180 0 173 (dk_at dksX0_count_3 10 rfl rfl)
theorem dX0_count_85 : decode cX0_count 85 = .ok (.ireturn, 1) := dk_172 (dk_at dksX0_count_3 13 rfl rfl)
theorem dX0_count_86 : decode cX0_count 86 = .ok (.aload_n 0, 1) := dk_42 (dk_at dksX0_count_3 14 rfl rfl)
theorem dX0_count_87 : decode cX0_count 87 = .ok (.getfield 190, 3) := dk_180 0 190 (dk_at dksX0_count_3 15 rfl rfl)
theorem dX0_count_90 : decode cX0_count 90 = .ok (.ireturn, 1) := dk_172 (dk_at dksX0_count_3 18 rfl rfl)
theorem dX0_count_91 : decode cX0_count 91 = .ok (.iconst 0, 1) := dk_3 (dk_at dksX0_count_3 19 rfl rfl)
theorem dX0_count_92 : decode cX0_count 92 = .ok (.istore_n 3, 1) := dk_62 (dk_at dksX0_count_3 20 rfl rfl)
theorem dX0_count_93 : decode cX0_count 93 = .ok (.iload_n 3, 1) := dk_29 (dk_at dksX0_count_3 21 rfl rfl)
theorem dX0_count_94 : decode cX0_count 94 = .ok (.aload_n 0, 1) := dk_42 (dk_at dksX0_count_3 22 rfl rfl)
theorem dX0_count_95 : decode cX0_count 95 = .ok (.getfield 88, 3) := dk_180 0 88 (dk_at dksX0_count_4 0 rfl rfl)
theorem dX0_count_98 : decode cX0_count 98 = .ok (.invokeinterface 288 1, 5) := by decide +kernel
theorem dX0_count_103 : decode cX0_count 103 = .ok (.if_icmp .ge 36, 3) := dk_162 0 36 (dk_at dksX0_count_4 8 rfl rfl)
theorem dX0_count_106 : decode cX0_count 106 = .ok (.iload_n 2, 1) := dk_28 (dk_at dksX0_count_4 11 rfl rfl)
theorem dX0_count_107 : decode cX0_count 107 = .ok (.aload_n 0, 1) := dk_42 (dk_at dksX0_count_4 12 rfl rfl)
theorem dX0_count_108 : decode cX0_count 108 = .ok (.getfield 88, 3) := dk_180 0 88 (dk_at dksX0_count_4 13 rfl rfl)
theorem dX0_count_111 : decode cX0_count 111 = .ok (.iload_n 3, 1) := dk_29 (dk_at dksX0_count_4 16 rfl rfl)
theorem dX0_count_112 : decode cX0_count 112 = .ok (.invokeinterface 313 2, 5) := by decide +kernel
theorem dX0_count_117 : decode cX0_count 117 = .ok (.checkcast 294, 3) := dk_192 1 38 (dk_at dksX0_count_5 0 rfl rfl)
theorem dX0_count_120 : decode cX0_count 120 = .ok (.getfield 317, 3) := dk_180 1 61 (dk_at dksX0_count_5 3 rfl rfl)
theorem dX0_count_123 : decode cX0_count 123 = .ok (.ifCond .eq 7, 3) := dk_153 0 7 (dk_at dksX0_count_5 6 rfl rfl)
theorem dX0_count_126 : decode cX0_count 126 = .ok (.iconst 1, 1) := dk_4 (dk_at dksX0_count_5 9 rfl rfl)
theorem dX0_count_127 : decode cX0_count 127 = .ok (.goto 4, 3) := dk_167 0 4 (dk_at dksX0_count_5 10 rfl rfl)
theorem dX0_count_130 : decode cX0_count 130 = .ok (.iconst 0, 1) := dk_3 (dk_at dksX0_count_5 13 rfl rfl)
theorem dX0_count_131 : decode cX0_count 131 = .ok (.iadd, 1) := dk_96 (dk_at dksX0_count_5 14 rfl rfl)
theorem dX0_count_132 : decode cX0_count 132 = .ok (.istore_n 2, 1) := dk_61 (dk_at dksX0_count_5 15 rfl rfl)
theorem dX0_count_133 : decode cX0_count 133 = .ok (.iinc 3 1, 3) := dk_132 3 1 (dk_at dksX0_count_5 16 rfl rfl)
theorem dX0_count_136 : decode cX0_count 136 = .ok (.goto (-43), 3) := dk_167 255 213 (dk_at dksX0_count_5 19 rfl rfl)
theorem dX0_count_139 : decode cX0_count 139 = .ok (.iload_n 2, 1) := dk_28 (dk_at dksX0_count_5 22 rfl rfl)
theorem dX0_count_140 : decode cX0_count 140 = .ok (.ireturn, 1) := dk_172 (dk_at dksX0_count_5 23 rfl rfl)
theorem dX0_count_141 : decode cX0_count 141 = .ok (.aload_n 0, 1) := dk_42 (dk_at dksX0_count_6 0 rfl rfl)
theorem dX0_count_142 : decode cX0_count 142 = .ok (.getfield 96, 3) := dk_180 0 96 (dk_at dksX0_count_6 1 rfl rfl)
theorem dX0_count_145 : decode cX0_count 145 = .ok (.invokeinterface 288 1, 5) := by decide +kernel
theorem dX0_count_150 : decode cX0_count 150 = .ok (.ireturn, 1) := dk_172 (dk_at dksX0_count_6 9 rfl rfl)
theorem dX0_count_151 : decode cX0_count 151 = .ok (.iconst 0, 1) := dk_3 (dk_at dksX0_count_6 10 rfl rfl)
theorem dX0_count_152 : decode cX0_count 152 = .ok (.istore_n 3, 1) := dk_62 (dk_at dksX0_count_6 11 rfl rfl)
theorem dX0_count_153 : decode cX0_count 153 = .ok (.iload_n 3, 1) := dk_29 (dk_at dksX0_count_6 12 rfl rfl)
theorem dX0_count_154 : decode cX0_count 154 = .ok (.aload_n 0, 1) := dk_42 (dk_at dksX0_count_6 13 rfl rfl)
theorem dX0_count_155 : decode cX0_count 155 = .ok (.getfield 173, 3) := dk_180 0 173 (dk_at dksX0_count_6 14 rfl rfl)
theorem dX0_count_158 : decode cX0_count 158 = .ok (.if_icmp .ge 25, 3) := dk_162 0 25 (dk_at dksX0_count_6 17 rfl rfl)
theorem dX0_count_161 : decode cX0_count 161 = .ok (.iload_n 2, 1) := dk_28 (dk_at dksX0_count_6 20 rfl rfl)
theorem dX0_count_162 : decode cX0_count 162 = .ok (.aload_n 0, 1) := dk_42 (dk_at dksX0_count_6 21 rfl rfl)
theorem dX0_count_163 : decode cX0_count 163 = .ok (.iload_n 3, 1) := dk_29 (dk_at dksX0_count_6 22 rfl rfl)
theorem dX0_count_164 : decode cX0_count 164 = .ok (.invokevirtual 41, 3) := dk_182 0 41 (dk_at dksX0_count_7 0 rfl rfl)
theorem dX0_count_167 : decode cX0_count 167 = .ok (.ifCond .eq 7, 3) := dk_153 0 7 (dk_at dksX0_count_7 3 rfl rfl)
theorem dX0_count_170 : decode cX0_count 170 = .ok (.iconst 1, 1) := dk_4 (dk_at dksX0_count_7 6 rfl rfl)
theorem dX0_count_171 : decode cX0_count 171 = .ok (.goto 4, 3) := dk_167 0 4 (dk_at dksX0_count_7 7 rfl rfl)
theorem dX0_count_174 : decode cX0_count 174 = .ok (.iconst 0, 1) := dk_3 (dk_at dksX0_count_7 10 rfl rfl)
theorem dX0_count_175 : decode cX0_count 175 = .ok (.iadd, 1) := dk_96 (dk_at dksX0_count_7 11 rfl rfl)
theorem dX0_count_176 : decode cX0_count 176 = .ok (.istore_n 2, 1) := dk_61 (dk_at dksX0_count_7 12 rfl rfl)
theorem dX0_count_177 : decode cX0_count 177 = .ok (.iinc 3 1, 3) := dk_132 3 1 (dk_at dksX0_count_7 13 rfl rfl)
theorem dX0_count_180 : decode cX0_count 180 = .ok (.goto (-27), 3) := dk_167 255 229 (dk_at dksX0_count_7 16 rfl rfl)
theorem dX0_count_183 : decode cX0_count 183 = .ok (.iload_n 2, 1) := dk_28 (dk_at dksX0_count_7 19 rfl rfl)
theorem dX0_count_184 : decode cX0_count 184 = .ok (.ireturn, 1) := dk_172 (dk_at dksX0_count_7 20 rfl rfl)
theorem dX0_count_185 : decode cX0_count 185 = .ok (.iconst 0, 1) := dk_3 (dk_at dksX0_count_7 21 rfl rfl)
theorem dX0_count_186 : decode cX0_count 186 = .ok (.istore_n 3, 1) := dk_62 (dk_at dksX0_count_7 22 rfl rfl)
theorem dX0_count_187 : decode cX0_count 187 = .ok (.iload_n 3, 1) := dk_29 (dk_at dksX0_count_7 23 rfl rfl)
theorem dX0_count_188 : decode cX0_count 188 = .ok (.aload_n 0, 1) := dk_42 (dk_at dksX0_count_8 0 rfl rfl)
theorem dX0_count_189 : decode cX0_count 189 = .ok (.getfield 173, 3) := dk_180 0 173 (dk_at dksX0_count_8 1 rfl rfl)
theorem dX0_count_192 : decode cX0_count 192 = .ok (.if_icmp .ge 28, 3) := dk_162 0 28 (dk_at dksX0_count_8 4 rfl rfl)
theorem dX0_count_195 : decode cX0_count 195 = .ok (.iload_n 2, 1) := dk_28 (dk_at dksX0_count_8 7 rfl rfl)
theorem dX0_count_196 : decode cX0_count 196 = .ok (.aload_n 0, 1) := dk_42 (dk_at dksX0_count_8 8 rfl rfl)
theorem dX0_count_197 : decode cX0_count 197 = .ok (.getfield 13, 3) := dk_180 0 13 (dk_at dksX0_count_8 9 rfl rfl)
theorem dX0_count_200 : decode cX0_count 200 = .ok (.iload_n 3, 1) := dk_29 (dk_at dksX0_count_8 12 rfl rfl)
theorem dX0_count_201 : decode cX0_count 201 = .ok (.invokevirtual 203, 3) := dk_182 0 203 (dk_at dksX0_count_8 13 rfl rfl)
theorem dX0_count_204 : decode cX0_count 204 = .ok (.ifCond .eq 7, 3) := dk_153 0 7 (dk_at dksX0_count_8 16 rfl rfl)
theorem dX0_count_207 : decode cX0_count 207 = .ok (.iconst 1, 1) := dk_4 (dk_at dksX0_count_8 19 rfl rfl)
theorem dX0_count_208 : decode cX0_count 208 = .ok (.goto 4, 3) := dk_167 0 4 (dk_at dksX0_count_8 20 rfl rfl)
theorem dX0_count_211 : decode cX0_count 211 = .ok (.iconst 0, 1) := dk_3 (dk_at dksX0_count_8 23 rfl rfl)
theorem dX0_count_212 : decode cX0_count 212 = .ok (.iadd, 1) := dk_96 (dk_at dksX0_count_9 0 rfl rfl)
theorem dX0_count_213 : decode cX0_count 213 = .ok (.istore_n 2, 1) := dk_61 (dk_at dksX0_count_9 1 rfl rfl)
theorem dX0_count_214 : decode cX0_count 214 = .ok (.iinc 3 1, 3) := dk_132 3 1 (dk_at dksX0_count_9 2 rfl rfl)
theorem dX0_count_217 : decode cX0_count 217 = .ok (.goto (-30), 3) := dk_167 255 226 (dk_at dksX0_count_9 5 rfl rfl)
theorem dX0_count_220 : decode cX0_count 220 = .ok (.iload_n 2, 1) := dk_28 (dk_at dksX0_count_9 8 rfl rfl)
theorem dX0_count_221 : decode cX0_count 221 = .ok (.ireturn, 1) := dk_172 (dk_at dksX0_count_9 9 rfl rfl)
theorem dX0_count_222 : decode cX0_count 222 = .ok (.aload_n 0, 1) := dk_42 (dk_at dksX0_count_9 10 rfl rfl)
theorem dX0_count_223 : decode cX0_count 223 = .ok (.getfield 364, 3) := dk_180 1 108 (dk_at dksX0_count_9 11 rfl rfl)
theorem dX0_count_226 : decode cX0_count 226 = .ok (.ireturn, 1) := dk_172 (dk_at dksX0_count_9 14 rfl rfl)
theorem dX0_count_227 : decode cX0_count 227 = .ok (.ldc 141, 2) := dk_18 141 (dk_at dksX0_count_9 15 rfl rfl)
theorem dX0_count_229 : decode cX0_count 229 = .ok (.ireturn, 1) := dk_172 (dk_at dksX0_count_9 17 rfl rfl)
abbrev cX0_status : ByteArray := prog_1_method_73_code
def yX0_status : MethodName := ⟨RX0, "status", "()I"⟩
theorem dX0_status_0 : decode cX0_status 0 = .ok (.aload_n 0, 1) := by decide +kernel
theorem dX0_status_1 : decode cX0_status 1 = .ok (.getfield 119, 3) := by decide +kernel
theorem dX0_status_4 : decode cX0_status 4 = .ok (.ireturn, 1) := by decide +kernel
theorem q90 : (Jvm.Cond.initialized "TableArms") ∈ lw_all := lw_g (lw_at lw_m1 1 rfl) rfl
theorem q128 : (Jvm.Cond.instantiable "TableArms" (20 : Nat)) ∈ lw_all := lw_g (lw_at lw_m1 39 rfl) rfl
theorem q130 : (Jvm.Cond.instanceMethod ({ cls := "TableArms", name := "<init>", desc := "()V" } : Jvm.MethodName)) ∈ lw_all := lw_g (lw_at lw_m1 41 rfl) rfl
theorem q131 : (Jvm.Cond.code ({ cls := "TableArms", name := "<init>", desc := "()V" } : Jvm.MethodName) prog_1_method_5_code (2 : Nat) (Option.none : Option Jvm.ClassFile.FieldType)) ∈ lw_all := lw_g (lw_at lw_m1 42 rfl) rfl
theorem q132 : (Jvm.Cond.methodLink "TableArms" (54 : Nat) ({ cls := "java/lang/Object", name := "<init>", desc := "()V" } : Jvm.MethodName)) ∈ lw_all := lw_g (lw_at lw_m1 43 rfl) rfl
theorem q135 : (Jvm.Cond.classLink "TableArms" (59 : Nat) "TableArms$Sheet") ∈ lw_all := lw_g (lw_at lw_m1 46 rfl) rfl
theorem q137 : (Jvm.Cond.classLink "TableArms" (18 : Nat) "TableArms$Table") ∈ lw_all := lw_g (lw_at lw_m1 48 rfl) rfl
theorem q139 : (Jvm.Cond.methodLinkNest "TableArms" (68 : Nat) ({ cls := "TableArms$Table", name := "<init>", desc := "()V" } : Jvm.MethodName) "TableArms") ∈ lw_tbl := lw_at lw_m1 50 rfl
theorem q145 : (Jvm.Cond.fieldLinkNest "TableArms" (25 : Nat) "TableArms$Table" "high" "[I" "TableArms") ∈ lw_tbl := lw_at lw_m1 56 rfl
theorem q147 : (Jvm.Cond.fieldLinkNest "TableArms" (17 : Nat) "TableArms$Table" "cell" "[I" "TableArms") ∈ lw_tbl := lw_at lw_m1 58 rfl
theorem q150 : (Jvm.Cond.fieldLinkNest "TableArms" (199 : Nat) "TableArms$Table" "box" "[I" "TableArms") ∈ lw_tbl := lw_at lw_m1 61 rfl
theorem q153 : (Jvm.Cond.fieldLinkNest "TableArms" (206 : Nat) "TableArms$Table" "holds" "[I" "TableArms") ∈ lw_tbl := lw_at lw_m1 64 rfl
theorem q167 : (Jvm.Cond.classLink "TableArms" (85 : Nat) "java/util/ArrayList") ∈ lw_all := lw_g (lw_at lw_m1 78 rfl) rfl
theorem q169 : (Jvm.Cond.methodLink "TableArms" (87 : Nat) ({ cls := "java/util/ArrayList", name := "<init>", desc := "()V" } : Jvm.MethodName)) ∈ lw_all := lw_g (lw_at lw_m1 80 rfl) rfl
theorem q193 : (Jvm.Cond.classLink "TableArms" (99 : Nat) "TableArms$Trail") ∈ lw_all := lw_g (lw_at lw_m1 104 rfl) rfl
theorem q195 : (Jvm.Cond.methodLinkNest "TableArms" (101 : Nat) ({ cls := "TableArms$Trail", name := "<init>", desc := "()V" } : Jvm.MethodName) "TableArms") ∈ lw_tbl := lw_at lw_m1 106 rfl
theorem q200 : (Jvm.Cond.fieldLinkNest "TableArms" (454 : Nat) "TableArms$Trail" "body" "[I" "TableArms") ∈ lw_tbl := lw_at lw_m1 111 rfl
theorem q202 : (Jvm.Cond.fieldLinkNest "TableArms" (451 : Nat) "TableArms$Trail" "many" "I" "TableArms") ∈ lw_tbl := lw_at lw_m1 113 rfl
theorem q209 : (Jvm.Cond.fieldLink "TableArms" (61 : Nat) "TableArms" "sheets" "[LTableArms$Sheet;") ∈ lw_all := lw_g (lw_at lw_m1 120 rfl) rfl
theorem q210 : (Jvm.Cond.fieldLink "TableArms" (173 : Nat) "TableArms" "things" "I") ∈ lw_all := lw_g (lw_at lw_m1 121 rfl) rfl
theorem q211 : (Jvm.Cond.fieldLink "TableArms" (7 : Nat) "TableArms" "sorts" "[I") ∈ lw_all := lw_g (lw_at lw_m1 122 rfl) rfl
theorem q214 : (Jvm.Cond.fieldLink "TableArms" (65 : Nat) "TableArms" "weights" "[I") ∈ lw_all := lw_g (lw_at lw_m1 125 rfl) rfl
theorem q215 : (Jvm.Cond.fieldLink "TableArms" (13 : Nat) "TableArms" "table" "LTableArms$Table;") ∈ lw_all := lw_g (lw_at lw_m1 126 rfl) rfl
theorem q219 : (Jvm.Cond.fieldLink "TableArms" (69 : Nat) "TableArms" "kept" "[LTableArms$Table;") ∈ lw_all := lw_g (lw_at lw_m1 130 rfl) rfl
theorem q220 : (Jvm.Cond.fieldLink "TableArms" (190 : Nat) "TableArms" "keptMany" "I") ∈ lw_all := lw_g (lw_at lw_m1 131 rfl) rfl
theorem q221 : (Jvm.Cond.fieldLink "TableArms" (73 : Nat) "TableArms" "tried" "LTableArms$Table;") ∈ lw_all := lw_g (lw_at lw_m1 132 rfl) rfl
theorem q222 : (Jvm.Cond.fieldLink "TableArms" (76 : Nat) "TableArms" "gone" "[LTableArms$Table;") ∈ lw_all := lw_g (lw_at lw_m1 133 rfl) rfl
theorem q223 : (Jvm.Cond.fieldLink "TableArms" (79 : Nat) "TableArms" "given" "[LTableArms$Table;") ∈ lw_all := lw_g (lw_at lw_m1 134 rfl) rfl
theorem q224 : (Jvm.Cond.fieldLink "TableArms" (82 : Nat) "TableArms" "reaches" "[I") ∈ lw_all := lw_g (lw_at lw_m1 135 rfl) rfl
theorem q225 : (Jvm.Cond.fieldLink "TableArms" (88 : Nat) "TableArms" "lessons" "Ljava/util/List;") ∈ lw_all := lw_g (lw_at lw_m1 136 rfl) rfl
theorem q226 : (Jvm.Cond.fieldLink "TableArms" (92 : Nat) "TableArms" "tape" "[B") ∈ lw_all := lw_g (lw_at lw_m1 137 rfl) rfl
theorem q227 : (Jvm.Cond.fieldLink "TableArms" (364 : Nat) "TableArms" "taped" "I") ∈ lw_all := lw_g (lw_at lw_m1 138 rfl) rfl
theorem q228 : (Jvm.Cond.fieldLink "TableArms" (380 : Nat) "TableArms" "faultKind" "I") ∈ lw_all := lw_g (lw_at lw_m1 139 rfl) rfl
theorem q229 : (Jvm.Cond.fieldLink "TableArms" (96 : Nat) "TableArms" "nevers" "Ljava/util/List;") ∈ lw_all := lw_g (lw_at lw_m1 140 rfl) rfl
theorem q230 : (Jvm.Cond.fieldLink "TableArms" (102 : Nat) "TableArms" "trail" "LTableArms$Trail;") ∈ lw_all := lw_g (lw_at lw_m1 141 rfl) rfl
theorem q231 : (Jvm.Cond.fieldLink "TableArms" (119 : Nat) "TableArms" "status" "I") ∈ lw_all := lw_g (lw_at lw_m1 142 rfl) rfl
theorem q232 : (Jvm.Cond.fieldLink "TableArms" (106 : Nat) "TableArms" "fitting" "[Z") ∈ lw_all := lw_g (lw_at lw_m1 143 rfl) rfl
theorem q233 : (Jvm.Cond.fieldLink "TableArms" (110 : Nat) "TableArms" "ticks" "[I") ∈ lw_all := lw_g (lw_at lw_m1 144 rfl) rfl
theorem q234 : (Jvm.Cond.laysFinal "TableArms" "TableArms" "sheets" "[LTableArms$Sheet;") ∈ lw_all := lw_g (lw_at lw_m1 145 rfl) rfl
theorem q235 : (Jvm.Cond.soleField "TableArms" "sheets") ∈ lw_all := lw_g (lw_at lw_m1 146 rfl) rfl
theorem q236 : (Jvm.Cond.lays "TableArms" "TableArms" "things" "I") ∈ lw_all := lw_g (lw_at lw_m1 147 rfl) rfl
theorem q237 : (Jvm.Cond.soleField "TableArms" "things") ∈ lw_all := lw_g (lw_at lw_m1 148 rfl) rfl
theorem q238 : (Jvm.Cond.laysFinal "TableArms" "TableArms" "sorts" "[I") ∈ lw_all := lw_g (lw_at lw_m1 149 rfl) rfl
theorem q239 : (Jvm.Cond.soleField "TableArms" "sorts") ∈ lw_all := lw_g (lw_at lw_m1 150 rfl) rfl
theorem q240 : (Jvm.Cond.laysFinal "TableArms" "TableArms" "weights" "[I") ∈ lw_all := lw_g (lw_at lw_m1 151 rfl) rfl
theorem q241 : (Jvm.Cond.soleField "TableArms" "weights") ∈ lw_all := lw_g (lw_at lw_m1 152 rfl) rfl
theorem q242 : (Jvm.Cond.laysFinal "TableArms" "TableArms" "table" "LTableArms$Table;") ∈ lw_all := lw_g (lw_at lw_m1 153 rfl) rfl
theorem q243 : (Jvm.Cond.soleField "TableArms" "table") ∈ lw_all := lw_g (lw_at lw_m1 154 rfl) rfl
theorem q244 : (Jvm.Cond.laysFinal "TableArms" "TableArms" "kept" "[LTableArms$Table;") ∈ lw_all := lw_g (lw_at lw_m1 155 rfl) rfl
theorem q245 : (Jvm.Cond.soleField "TableArms" "kept") ∈ lw_all := lw_g (lw_at lw_m1 156 rfl) rfl
theorem q246 : (Jvm.Cond.lays "TableArms" "TableArms" "keptMany" "I") ∈ lw_all := lw_g (lw_at lw_m1 157 rfl) rfl
theorem q247 : (Jvm.Cond.soleField "TableArms" "keptMany") ∈ lw_all := lw_g (lw_at lw_m1 158 rfl) rfl
theorem q248 : (Jvm.Cond.laysFinal "TableArms" "TableArms" "tried" "LTableArms$Table;") ∈ lw_all := lw_g (lw_at lw_m1 159 rfl) rfl
theorem q249 : (Jvm.Cond.soleField "TableArms" "tried") ∈ lw_all := lw_g (lw_at lw_m1 160 rfl) rfl
theorem q250 : (Jvm.Cond.laysFinal "TableArms" "TableArms" "gone" "[LTableArms$Table;") ∈ lw_all := lw_g (lw_at lw_m1 161 rfl) rfl
theorem q251 : (Jvm.Cond.soleField "TableArms" "gone") ∈ lw_all := lw_g (lw_at lw_m1 162 rfl) rfl
theorem q252 : (Jvm.Cond.laysFinal "TableArms" "TableArms" "given" "[LTableArms$Table;") ∈ lw_all := lw_g (lw_at lw_m1 163 rfl) rfl
theorem q253 : (Jvm.Cond.soleField "TableArms" "given") ∈ lw_all := lw_g (lw_at lw_m1 164 rfl) rfl
theorem q254 : (Jvm.Cond.laysFinal "TableArms" "TableArms" "reaches" "[I") ∈ lw_all := lw_g (lw_at lw_m1 165 rfl) rfl
theorem q255 : (Jvm.Cond.soleField "TableArms" "reaches") ∈ lw_all := lw_g (lw_at lw_m1 166 rfl) rfl
theorem q256 : (Jvm.Cond.laysFinal "TableArms" "TableArms" "lessons" "Ljava/util/List;") ∈ lw_all := lw_g (lw_at lw_m1 167 rfl) rfl
theorem q257 : (Jvm.Cond.soleField "TableArms" "lessons") ∈ lw_all := lw_g (lw_at lw_m1 168 rfl) rfl
theorem q258 : (Jvm.Cond.laysFinal "TableArms" "TableArms" "tape" "[B") ∈ lw_all := lw_g (lw_at lw_m1 169 rfl) rfl
theorem q259 : (Jvm.Cond.soleField "TableArms" "tape") ∈ lw_all := lw_g (lw_at lw_m1 170 rfl) rfl
theorem q260 : (Jvm.Cond.lays "TableArms" "TableArms" "taped" "I") ∈ lw_all := lw_g (lw_at lw_m1 171 rfl) rfl
theorem q261 : (Jvm.Cond.soleField "TableArms" "taped") ∈ lw_all := lw_g (lw_at lw_m1 172 rfl) rfl
theorem q262 : (Jvm.Cond.lays "TableArms" "TableArms" "faultKind" "I") ∈ lw_all := lw_g (lw_at lw_m1 173 rfl) rfl
theorem q263 : (Jvm.Cond.soleField "TableArms" "faultKind") ∈ lw_all := lw_g (lw_at lw_m1 174 rfl) rfl
theorem q264 : (Jvm.Cond.laysFinal "TableArms" "TableArms" "nevers" "Ljava/util/List;") ∈ lw_all := lw_g (lw_at lw_m1 175 rfl) rfl
theorem q265 : (Jvm.Cond.soleField "TableArms" "nevers") ∈ lw_all := lw_g (lw_at lw_m1 176 rfl) rfl
theorem q266 : (Jvm.Cond.lays "TableArms" "TableArms" "trail" "LTableArms$Trail;") ∈ lw_all := lw_g (lw_at lw_m1 177 rfl) rfl
theorem q267 : (Jvm.Cond.soleField "TableArms" "trail") ∈ lw_all := lw_g (lw_at lw_m1 178 rfl) rfl
theorem q268 : (Jvm.Cond.lays "TableArms" "TableArms" "status" "I") ∈ lw_all := lw_g (lw_at lw_m1 179 rfl) rfl
theorem q269 : (Jvm.Cond.soleField "TableArms" "status") ∈ lw_all := lw_g (lw_at lw_m1 180 rfl) rfl
theorem q270 : (Jvm.Cond.laysFinal "TableArms" "TableArms" "fitting" "[Z") ∈ lw_all := lw_g (lw_at lw_m1 181 rfl) rfl
theorem q271 : (Jvm.Cond.soleField "TableArms" "fitting") ∈ lw_all := lw_g (lw_at lw_m1 182 rfl) rfl
theorem q272 : (Jvm.Cond.laysFinal "TableArms" "TableArms" "ticks" "[I") ∈ lw_all := lw_g (lw_at lw_m1 183 rfl) rfl
theorem q273 : (Jvm.Cond.soleField "TableArms" "ticks") ∈ lw_all := lw_g (lw_at lw_m1 184 rfl) rfl
theorem q274 : (Jvm.Cond.superclass "TableArms" "java/lang/Object") ∈ lw_all := lw_g (lw_at lw_m1 185 rfl) rfl
theorem q277 : (Jvm.Cond.instanceMethod ({ cls := "TableArms", name := "sheet", desc := "(III)I" } : Jvm.MethodName)) ∈ lw_all := lw_g (lw_at lw_m1 188 rfl) rfl
theorem q278 : (Jvm.Cond.selects "TableArms" ({ cls := "TableArms", name := "sheet", desc := "(III)I" } : Jvm.MethodName) ({ cls := "TableArms", name := "sheet", desc := "(III)I" } : Jvm.MethodName)) ∈ lw_all := lw_g (lw_at lw_m1 189 rfl) rfl
theorem q279 : (Jvm.Cond.codeWith ({ cls := "TableArms", name := "sheet", desc := "(III)I" } : Jvm.MethodName) prog_1_method_11_code (5 : Nat) (Option.some Jvm.ClassFile.FieldType.int) [((28 : Nat), (61 : Nat), (62 : Nat), (114 : Nat))]) ∈ lw_all := lw_g (lw_at lw_m1 190 rfl) rfl
theorem q280 : (Jvm.Cond.classLink "TableArms" (114 : Nat) "TableArms$Finding") ∈ lw_all := lw_g (lw_at lw_m1 191 rfl) rfl
theorem q281 : (Jvm.Cond.methodLink "TableArms" (136 : Nat) ({ cls := "TableArms", name := "isSheet", desc := "(I)Z" } : Jvm.MethodName)) ∈ lw_all := lw_g (lw_at lw_m1 192 rfl) rfl
theorem q282 : (Jvm.Cond.static ({ cls := "TableArms", name := "isSheet", desc := "(I)Z" } : Jvm.MethodName)) ∈ lw_all := lw_g (lw_at lw_m1 193 rfl) rfl
theorem q283 : (Jvm.Cond.code ({ cls := "TableArms", name := "isSheet", desc := "(I)Z" } : Jvm.MethodName) prog_1_method_9_code (1 : Nat) (Option.some Jvm.ClassFile.FieldType.boolean)) ∈ lw_all := lw_g (lw_at lw_m1 194 rfl) rfl
theorem q284 : (Jvm.Cond.constantLong "TableArms" (126 : Nat) (7 : Int64)) ∈ lw_all := lw_g (lw_at lw_m1 195 rfl) rfl
theorem q285 : (Jvm.Cond.methodLink "TableArms" (128 : Nat) ({ cls := "TableArms", name := "isIn", desc := "(JJJ)Z" } : Jvm.MethodName)) ∈ lw_all := lw_g (lw_at lw_m1 196 rfl) rfl
theorem q286 : (Jvm.Cond.static ({ cls := "TableArms", name := "isIn", desc := "(JJJ)Z" } : Jvm.MethodName)) ∈ lw_all := lw_g (lw_at lw_m1 197 rfl) rfl
theorem q287 : (Jvm.Cond.code ({ cls := "TableArms", name := "isIn", desc := "(JJJ)Z" } : Jvm.MethodName) prog_1_method_1_code (6 : Nat) (Option.some Jvm.ClassFile.FieldType.boolean)) ∈ lw_all := lw_g (lw_at lw_m1 198 rfl) rfl
theorem q288 : (Jvm.Cond.constantLong "TableArms" (139 : Nat) (2 : Int64)) ∈ lw_all := lw_g (lw_at lw_m1 199 rfl) rfl
theorem q289 : (Jvm.Cond.constant "TableArms" (141 : Nat) (-1000001 : Int32)) ∈ lw_all := lw_g (lw_at lw_m1 200 rfl) rfl
theorem q290 : (Jvm.Cond.methodLink "TableArms" (132 : Nat) ({ cls := "TableArms", name := "must", desc := "(ZI)V" } : Jvm.MethodName)) ∈ lw_all := lw_g (lw_at lw_m1 201 rfl) rfl
theorem q291 : (Jvm.Cond.static ({ cls := "TableArms", name := "must", desc := "(ZI)V" } : Jvm.MethodName)) ∈ lw_all := lw_g (lw_at lw_m1 202 rfl) rfl
theorem q292 : (Jvm.Cond.code ({ cls := "TableArms", name := "must", desc := "(ZI)V" } : Jvm.MethodName) prog_1_method_8_code (2 : Nat) (Option.none : Option Jvm.ClassFile.FieldType)) ∈ lw_all := lw_g (lw_at lw_m1 203 rfl) rfl
theorem q332 : (Jvm.Cond.methodLink "TableArms" (123 : Nat) ({ cls := "TableArms$Finding", name := "<init>", desc := "(I)V" } : Jvm.MethodName)) ∈ lw_all := lw_g (lw_at lw_m2 3 rfl) rfl
theorem q342 : (Jvm.Cond.fieldLink "TableArms" (113 : Nat) "TableArms$Finding" "number" "I") ∈ lw_all := lw_g (lw_at lw_m2 13 rfl) rfl
theorem q359 : (Jvm.Cond.methodLink "TableArms" (142 : Nat) ({ cls := "TableArms$Sheet", name := "<init>", desc := "(II)V" } : Jvm.MethodName)) ∈ lw_all := lw_g (lw_at lw_m2 30 rfl) rfl
theorem q364 : (Jvm.Cond.fieldLink "TableArms" (162 : Nat) "TableArms$Sheet" "lane" "I") ∈ lw_all := lw_g (lw_at lw_m2 35 rfl) rfl
theorem q366 : (Jvm.Cond.fieldLink "TableArms" (156 : Nat) "TableArms$Sheet" "items" "[I") ∈ lw_all := lw_g (lw_at lw_m2 37 rfl) rfl
theorem q372 : (Jvm.Cond.methodLink "TableArms" (145 : Nat) ({ cls := "TableArms", name := "well", desc := "(I)I" } : Jvm.MethodName)) ∈ lw_all := lw_g (lw_at lw_m2 43 rfl) rfl
theorem q373 : (Jvm.Cond.privateMethod ({ cls := "TableArms", name := "well", desc := "(I)I" } : Jvm.MethodName)) ∈ lw_tbl := lw_at lw_m2 44 rfl
theorem q374 : (Jvm.Cond.instanceMethod ({ cls := "TableArms", name := "well", desc := "(I)I" } : Jvm.MethodName)) ∈ lw_all := lw_g (lw_at lw_m2 45 rfl) rfl
theorem q375 : (Jvm.Cond.code ({ cls := "TableArms", name := "well", desc := "(I)I" } : Jvm.MethodName) prog_1_method_7_code (2 : Nat) (Option.some Jvm.ClassFile.FieldType.int)) ∈ lw_all := lw_g (lw_at lw_m2 46 rfl) rfl
theorem q376 : (Jvm.Cond.methodLink "TableArms" (148 : Nat) ({ cls := "TableArms", name := "found", desc := "(LTableArms$Finding;)I" } : Jvm.MethodName)) ∈ lw_all := lw_g (lw_at lw_m2 47 rfl) rfl
theorem q377 : (Jvm.Cond.privateMethod ({ cls := "TableArms", name := "found", desc := "(LTableArms$Finding;)I" } : Jvm.MethodName)) ∈ lw_tbl := lw_at lw_m2 48 rfl
theorem q378 : (Jvm.Cond.instanceMethod ({ cls := "TableArms", name := "found", desc := "(LTableArms$Finding;)I" } : Jvm.MethodName)) ∈ lw_all := lw_g (lw_at lw_m2 49 rfl) rfl
theorem q379 : (Jvm.Cond.code ({ cls := "TableArms", name := "found", desc := "(LTableArms$Finding;)I" } : Jvm.MethodName) prog_1_method_6_code (2 : Nat) (Option.some Jvm.ClassFile.FieldType.int)) ∈ lw_all := lw_g (lw_at lw_m2 50 rfl) rfl
theorem q380 : (Jvm.Cond.constant "TableArms" (122 : Nat) (-1000010 : Int32)) ∈ lw_all := lw_g (lw_at lw_m2 51 rfl) rfl
theorem q382 : (Jvm.Cond.instanceMethod ({ cls := "TableArms", name := "set", desc := "(III)I" } : Jvm.MethodName)) ∈ lw_all := lw_g (lw_at lw_m2 53 rfl) rfl
theorem q383 : (Jvm.Cond.selects "TableArms" ({ cls := "TableArms", name := "set", desc := "(III)I" } : Jvm.MethodName) ({ cls := "TableArms", name := "set", desc := "(III)I" } : Jvm.MethodName)) ∈ lw_all := lw_g (lw_at lw_m2 54 rfl) rfl
theorem q384 : (Jvm.Cond.codeWith ({ cls := "TableArms", name := "set", desc := "(III)I" } : Jvm.MethodName) prog_1_method_12_code (5 : Nat) (Option.some Jvm.ClassFile.FieldType.int) [((10 : Nat), (60 : Nat), (61 : Nat), (114 : Nat))]) ∈ lw_all := lw_g (lw_at lw_m2 55 rfl) rfl
theorem q385 : (Jvm.Cond.methodLink "TableArms" (152 : Nat) ({ cls := "TableArms", name := "sheetAt", desc := "(I)LTableArms$Sheet;" } : Jvm.MethodName)) ∈ lw_all := lw_g (lw_at lw_m2 56 rfl) rfl
theorem q386 : (Jvm.Cond.privateMethod ({ cls := "TableArms", name := "sheetAt", desc := "(I)LTableArms$Sheet;" } : Jvm.MethodName)) ∈ lw_tbl := lw_at lw_m2 57 rfl
theorem q387 : (Jvm.Cond.instanceMethod ({ cls := "TableArms", name := "sheetAt", desc := "(I)LTableArms$Sheet;" } : Jvm.MethodName)) ∈ lw_all := lw_g (lw_at lw_m2 58 rfl) rfl
theorem q388 : (Jvm.Cond.code ({ cls := "TableArms", name := "sheetAt", desc := "(I)LTableArms$Sheet;" } : Jvm.MethodName) prog_1_method_10_code (2 : Nat) (Option.some (Jvm.ClassFile.FieldType.object "TableArms$Sheet"))) ∈ lw_all := lw_g (lw_at lw_m2 59 rfl) rfl
theorem q389 : (Jvm.Cond.methodLink "TableArms" (159 : Nat) ({ cls := "TableArms$Sheet", name := "cut", desc := "(I)I" } : Jvm.MethodName)) ∈ lw_all := lw_g (lw_at lw_m2 60 rfl) rfl
theorem q394 : (Jvm.Cond.instanceMethod ({ cls := "TableArms", name := "copy", desc := "(IIIII)I" } : Jvm.MethodName)) ∈ lw_all := lw_g (lw_at lw_m2 65 rfl) rfl
theorem q395 : (Jvm.Cond.selects "TableArms" ({ cls := "TableArms", name := "copy", desc := "(IIIII)I" } : Jvm.MethodName) ({ cls := "TableArms", name := "copy", desc := "(IIIII)I" } : Jvm.MethodName)) ∈ lw_all := lw_g (lw_at lw_m2 66 rfl) rfl
theorem q396 : (Jvm.Cond.codeWith ({ cls := "TableArms", name := "copy", desc := "(IIIII)I" } : Jvm.MethodName) prog_1_method_13_code (9 : Nat) (Option.some Jvm.ClassFile.FieldType.int) [((53 : Nat), (71 : Nat), (74 : Nat), (171 : Nat)), ((17 : Nat), (91 : Nat), (92 : Nat), (114 : Nat))]) ∈ lw_all := lw_g (lw_at lw_m2 67 rfl) rfl
theorem q397 : (Jvm.Cond.classLink "TableArms" (171 : Nat) "java/lang/IndexOutOfBoundsException") ∈ lw_all := lw_g (lw_at lw_m2 68 rfl) rfl
theorem q431 : (Jvm.Cond.methodLink "TableArms" (165 : Nat) ({ cls := "java/lang/System", name := "arraycopy", desc := "(Ljava/lang/Object;ILjava/lang/Object;II)V" } : Jvm.MethodName)) ∈ lw_all := lw_g (lw_at lw_m2 102 rfl) rfl
theorem q435 : (Jvm.Cond.instanceMethod ({ cls := "TableArms", name := "drop", desc := "(I)I" } : Jvm.MethodName)) ∈ lw_all := lw_g (lw_at lw_m2 106 rfl) rfl
theorem q436 : (Jvm.Cond.selects "TableArms" ({ cls := "TableArms", name := "drop", desc := "(I)I" } : Jvm.MethodName) ({ cls := "TableArms", name := "drop", desc := "(I)I" } : Jvm.MethodName)) ∈ lw_all := lw_g (lw_at lw_m2 107 rfl) rfl
theorem q437 : (Jvm.Cond.codeWith ({ cls := "TableArms", name := "drop", desc := "(I)I" } : Jvm.MethodName) prog_1_method_14_code (3 : Nat) (Option.some Jvm.ClassFile.FieldType.int) [((10 : Nat), (32 : Nat), (33 : Nat), (114 : Nat))]) ∈ lw_all := lw_g (lw_at lw_m2 108 rfl) rfl
theorem q439 : (Jvm.Cond.instanceMethod ({ cls := "TableArms", name := "thing", desc := "(III)I" } : Jvm.MethodName)) ∈ lw_all := lw_g (lw_at lw_m2 110 rfl) rfl
theorem q440 : (Jvm.Cond.selects "TableArms" ({ cls := "TableArms", name := "thing", desc := "(III)I" } : Jvm.MethodName) ({ cls := "TableArms", name := "thing", desc := "(III)I" } : Jvm.MethodName)) ∈ lw_all := lw_g (lw_at lw_m2 111 rfl) rfl
theorem q441 : (Jvm.Cond.code ({ cls := "TableArms", name := "thing", desc := "(III)I" } : Jvm.MethodName) prog_1_method_18_code (5 : Nat) (Option.some Jvm.ClassFile.FieldType.int)) ∈ lw_all := lw_g (lw_at lw_m2 112 rfl) rfl
theorem q442 : (Jvm.Cond.methodLink "TableArms" (178 : Nat) ({ cls := "TableArms", name := "isSort", desc := "(I)Z" } : Jvm.MethodName)) ∈ lw_all := lw_g (lw_at lw_m2 113 rfl) rfl
theorem q443 : (Jvm.Cond.static ({ cls := "TableArms", name := "isSort", desc := "(I)Z" } : Jvm.MethodName)) ∈ lw_all := lw_g (lw_at lw_m2 114 rfl) rfl
theorem q444 : (Jvm.Cond.code ({ cls := "TableArms", name := "isSort", desc := "(I)Z" } : Jvm.MethodName) prog_1_method_17_code (1 : Nat) (Option.some Jvm.ClassFile.FieldType.boolean)) ∈ lw_all := lw_g (lw_at lw_m2 115 rfl) rfl
theorem q445 : (Jvm.Cond.constantLong "TableArms" (176 : Nat) (3 : Int64)) ∈ lw_all := lw_g (lw_at lw_m2 116 rfl) rfl
theorem q446 : (Jvm.Cond.constantLong "TableArms" (181 : Nat) (20 : Int64)) ∈ lw_all := lw_g (lw_at lw_m2 117 rfl) rfl
theorem q447 : (Jvm.Cond.methodLink "TableArms" (183 : Nat) ({ cls := "TableArms", name := "isCell", desc := "(I)Z" } : Jvm.MethodName)) ∈ lw_all := lw_g (lw_at lw_m2 118 rfl) rfl
theorem q448 : (Jvm.Cond.static ({ cls := "TableArms", name := "isCell", desc := "(I)Z" } : Jvm.MethodName)) ∈ lw_all := lw_g (lw_at lw_m2 119 rfl) rfl
theorem q449 : (Jvm.Cond.code ({ cls := "TableArms", name := "isCell", desc := "(I)Z" } : Jvm.MethodName) prog_1_method_15_code (1 : Nat) (Option.some Jvm.ClassFile.FieldType.boolean)) ∈ lw_all := lw_g (lw_at lw_m2 120 rfl) rfl
theorem q450 : (Jvm.Cond.constant "TableArms" (186 : Nat) (-1000003 : Int32)) ∈ lw_all := lw_g (lw_at lw_m2 121 rfl) rfl
theorem q451 : (Jvm.Cond.methodLink "TableArms" (187 : Nat) ({ cls := "TableArms$Table", name := "begin", desc := "(II)V" } : Jvm.MethodName)) ∈ lw_all := lw_g (lw_at lw_m2 122 rfl) rfl
theorem q461 : (Jvm.Cond.instanceMethod ({ cls := "TableArms", name := "where", desc := "(II)I" } : Jvm.MethodName)) ∈ lw_all := lw_g (lw_at lw_m2 132 rfl) rfl
theorem q462 : (Jvm.Cond.selects "TableArms" ({ cls := "TableArms", name := "where", desc := "(II)I" } : Jvm.MethodName) ({ cls := "TableArms", name := "where", desc := "(II)I" } : Jvm.MethodName)) ∈ lw_all := lw_g (lw_at lw_m2 133 rfl) rfl
theorem q463 : (Jvm.Cond.code ({ cls := "TableArms", name := "where", desc := "(II)I" } : Jvm.MethodName) prog_1_method_19_code (3 : Nat) (Option.some Jvm.ClassFile.FieldType.int)) ∈ lw_all := lw_g (lw_at lw_m2 134 rfl) rfl
theorem q464 : (Jvm.Cond.methodLink "TableArms" (193 : Nat) ({ cls := "TableArms", name := "isThing", desc := "(I)Z" } : Jvm.MethodName)) ∈ lw_all := lw_g (lw_at lw_m2 135 rfl) rfl
theorem q465 : (Jvm.Cond.privateMethod ({ cls := "TableArms", name := "isThing", desc := "(I)Z" } : Jvm.MethodName)) ∈ lw_tbl := lw_at lw_m2 136 rfl
theorem q466 : (Jvm.Cond.instanceMethod ({ cls := "TableArms", name := "isThing", desc := "(I)Z" } : Jvm.MethodName)) ∈ lw_all := lw_g (lw_at lw_m2 137 rfl) rfl
theorem q467 : (Jvm.Cond.code ({ cls := "TableArms", name := "isThing", desc := "(I)Z" } : Jvm.MethodName) prog_1_method_16_code (2 : Nat) (Option.some Jvm.ClassFile.FieldType.boolean)) ∈ lw_all := lw_g (lw_at lw_m2 138 rfl) rfl
theorem q468 : (Jvm.Cond.methodLink "TableArms" (196 : Nat) ({ cls := "TableArms$Table", name := "cellOf", desc := "(I)I" } : Jvm.MethodName)) ∈ lw_all := lw_g (lw_at lw_m2 139 rfl) rfl
theorem q472 : (Jvm.Cond.constant "TableArms" (202 : Nat) (-1000000 : Int32)) ∈ lw_all := lw_g (lw_at lw_m2 143 rfl) rfl
theorem q473 : (Jvm.Cond.methodLink "TableArms" (22 : Nat) ({ cls := "TableArms$Table", name := "below", desc := "(I)I" } : Jvm.MethodName)) ∈ lw_all := lw_g (lw_at lw_m2 144 rfl) rfl
theorem q481 : (Jvm.Cond.methodLink "TableArms" (203 : Nat) ({ cls := "TableArms$Table", name := "isClear", desc := "(I)Z" } : Jvm.MethodName)) ∈ lw_all := lw_g (lw_at lw_m2 152 rfl) rfl
theorem q486 : (Jvm.Cond.instanceMethod ({ cls := "TableArms", name := "pile", desc := "(II)I" } : Jvm.MethodName)) ∈ lw_all := lw_g (lw_at lw_m2 157 rfl) rfl
theorem q487 : (Jvm.Cond.selects "TableArms" ({ cls := "TableArms", name := "pile", desc := "(II)I" } : Jvm.MethodName) ({ cls := "TableArms", name := "pile", desc := "(II)I" } : Jvm.MethodName)) ∈ lw_all := lw_g (lw_at lw_m2 158 rfl) rfl
theorem q488 : (Jvm.Cond.code ({ cls := "TableArms", name := "pile", desc := "(II)I" } : Jvm.MethodName) prog_1_method_20_code (3 : Nat) (Option.some Jvm.ClassFile.FieldType.int)) ∈ lw_all := lw_g (lw_at lw_m2 159 rfl) rfl
theorem q489 : (Jvm.Cond.methodLink "TableArms" (28 : Nat) ({ cls := "TableArms$Table", name := "at", desc := "(II)I" } : Jvm.MethodName)) ∈ lw_all := lw_g (lw_at lw_m2 160 rfl) rfl
theorem q491 : (Jvm.Cond.instanceMethod ({ cls := "TableArms", name := "reach", desc := "(II)I" } : Jvm.MethodName)) ∈ lw_all := lw_g (lw_at lw_m2 162 rfl) rfl
theorem q492 : (Jvm.Cond.selects "TableArms" ({ cls := "TableArms", name := "reach", desc := "(II)I" } : Jvm.MethodName) ({ cls := "TableArms", name := "reach", desc := "(II)I" } : Jvm.MethodName)) ∈ lw_all := lw_g (lw_at lw_m2 163 rfl) rfl
theorem q493 : (Jvm.Cond.code ({ cls := "TableArms", name := "reach", desc := "(II)I" } : Jvm.MethodName) prog_1_method_22_code (4 : Nat) (Option.some Jvm.ClassFile.FieldType.int)) ∈ lw_all := lw_g (lw_at lw_m2 164 rfl) rfl
theorem q494 : (Jvm.Cond.methodLink "TableArms" (209 : Nat) ({ cls := "TableArms", name := "isArm", desc := "(I)Z" } : Jvm.MethodName)) ∈ lw_all := lw_g (lw_at lw_m2 165 rfl) rfl
theorem q495 : (Jvm.Cond.static ({ cls := "TableArms", name := "isArm", desc := "(I)Z" } : Jvm.MethodName)) ∈ lw_all := lw_g (lw_at lw_m2 166 rfl) rfl
theorem q496 : (Jvm.Cond.code ({ cls := "TableArms", name := "isArm", desc := "(I)Z" } : Jvm.MethodName) prog_1_method_21_code (1 : Nat) (Option.some Jvm.ClassFile.FieldType.boolean)) ∈ lw_all := lw_g (lw_at lw_m2 167 rfl) rfl
theorem q497 : (Jvm.Cond.constantLong "TableArms" (212 : Nat) (255 : Int64)) ∈ lw_all := lw_g (lw_at lw_m2 168 rfl) rfl
theorem q499 : (Jvm.Cond.instanceMethod ({ cls := "TableArms", name := "move", desc := "(III)I" } : Jvm.MethodName)) ∈ lw_all := lw_g (lw_at lw_m2 170 rfl) rfl
theorem q500 : (Jvm.Cond.selects "TableArms" ({ cls := "TableArms", name := "move", desc := "(III)I" } : Jvm.MethodName) ({ cls := "TableArms", name := "move", desc := "(III)I" } : Jvm.MethodName)) ∈ lw_all := lw_g (lw_at lw_m2 171 rfl) rfl
theorem q501 : (Jvm.Cond.code ({ cls := "TableArms", name := "move", desc := "(III)I" } : Jvm.MethodName) prog_1_method_28_code (4 : Nat) (Option.some Jvm.ClassFile.FieldType.int)) ∈ lw_all := lw_g (lw_at lw_m2 172 rfl) rfl
theorem q502 : (Jvm.Cond.methodLink "TableArms" (230 : Nat) ({ cls := "TableArms", name := "isMove", desc := "(III)Z" } : Jvm.MethodName)) ∈ lw_all := lw_g (lw_at lw_m2 173 rfl) rfl
theorem q503 : (Jvm.Cond.privateMethod ({ cls := "TableArms", name := "isMove", desc := "(III)Z" } : Jvm.MethodName)) ∈ lw_tbl := lw_at lw_m2 174 rfl
theorem q504 : (Jvm.Cond.instanceMethod ({ cls := "TableArms", name := "isMove", desc := "(III)Z" } : Jvm.MethodName)) ∈ lw_all := lw_g (lw_at lw_m2 175 rfl) rfl
theorem q505 : (Jvm.Cond.code ({ cls := "TableArms", name := "isMove", desc := "(III)Z" } : Jvm.MethodName) prog_1_method_27_code (4 : Nat) (Option.some Jvm.ClassFile.FieldType.boolean)) ∈ lw_all := lw_g (lw_at lw_m2 176 rfl) rfl
theorem q506 : (Jvm.Cond.methodLink "TableArms" (227 : Nat) ({ cls := "TableArms", name := "isTo", desc := "(I)Z" } : Jvm.MethodName)) ∈ lw_all := lw_g (lw_at lw_m2 177 rfl) rfl
theorem q507 : (Jvm.Cond.privateMethod ({ cls := "TableArms", name := "isTo", desc := "(I)Z" } : Jvm.MethodName)) ∈ lw_tbl := lw_at lw_m2 178 rfl
theorem q508 : (Jvm.Cond.instanceMethod ({ cls := "TableArms", name := "isTo", desc := "(I)Z" } : Jvm.MethodName)) ∈ lw_all := lw_g (lw_at lw_m2 179 rfl) rfl
theorem q509 : (Jvm.Cond.code ({ cls := "TableArms", name := "isTo", desc := "(I)Z" } : Jvm.MethodName) prog_1_method_23_code (2 : Nat) (Option.some Jvm.ClassFile.FieldType.boolean)) ∈ lw_all := lw_g (lw_at lw_m2 180 rfl) rfl
theorem q510 : (Jvm.Cond.methodLink "TableArms" (234 : Nat) ({ cls := "TableArms", name := "can", desc := "(LTableArms$Table;II)Z" } : Jvm.MethodName)) ∈ lw_all := lw_g (lw_at lw_m2 181 rfl) rfl
theorem q511 : (Jvm.Cond.privateMethod ({ cls := "TableArms", name := "can", desc := "(LTableArms$Table;II)Z" } : Jvm.MethodName)) ∈ lw_tbl := lw_at lw_m2 182 rfl
theorem q512 : (Jvm.Cond.instanceMethod ({ cls := "TableArms", name := "can", desc := "(LTableArms$Table;II)Z" } : Jvm.MethodName)) ∈ lw_all := lw_g (lw_at lw_m2 183 rfl) rfl
theorem q513 : (Jvm.Cond.code ({ cls := "TableArms", name := "can", desc := "(LTableArms$Table;II)Z" } : Jvm.MethodName) prog_1_method_24_code (4 : Nat) (Option.some Jvm.ClassFile.FieldType.boolean)) ∈ lw_all := lw_g (lw_at lw_m2 184 rfl) rfl
theorem q514 : (Jvm.Cond.methodLink "TableArms" (214 : Nat) ({ cls := "TableArms$Table", name := "isLoose", desc := "(I)Z" } : Jvm.MethodName)) ∈ lw_all := lw_g (lw_at lw_m2 185 rfl) rfl
theorem q519 : (Jvm.Cond.methodLink "TableArms" (217 : Nat) ({ cls := "TableArms$Table", name := "isFor", desc := "(II)Z" } : Jvm.MethodName)) ∈ lw_all := lw_g (lw_at lw_m2 190 rfl) rfl
theorem q523 : (Jvm.Cond.methodLink "TableArms" (238 : Nat) ({ cls := "TableArms", name := "isReached", desc := "(LTableArms$Table;III)Z" } : Jvm.MethodName)) ∈ lw_all := lw_g (lw_at lw_m2 194 rfl) rfl
theorem q524 : (Jvm.Cond.privateMethod ({ cls := "TableArms", name := "isReached", desc := "(LTableArms$Table;III)Z" } : Jvm.MethodName)) ∈ lw_tbl := lw_at lw_m2 195 rfl
theorem q525 : (Jvm.Cond.instanceMethod ({ cls := "TableArms", name := "isReached", desc := "(LTableArms$Table;III)Z" } : Jvm.MethodName)) ∈ lw_all := lw_g (lw_at lw_m2 196 rfl) rfl
theorem q526 : (Jvm.Cond.code ({ cls := "TableArms", name := "isReached", desc := "(LTableArms$Table;III)Z" } : Jvm.MethodName) prog_1_method_25_code (6 : Nat) (Option.some Jvm.ClassFile.FieldType.boolean)) ∈ lw_all := lw_g (lw_at lw_m2 197 rfl) rfl
theorem q527 : (Jvm.Cond.constant "TableArms" (242 : Nat) (-1000002 : Int32)) ∈ lw_all := lw_g (lw_at lw_m2 198 rfl) rfl
theorem q528 : (Jvm.Cond.methodLink "TableArms" (243 : Nat) ({ cls := "TableArms", name := "carry", desc := "(LTableArms$Table;II)V" } : Jvm.MethodName)) ∈ lw_all := lw_g (lw_at lw_m2 199 rfl) rfl
theorem q529 : (Jvm.Cond.static ({ cls := "TableArms", name := "carry", desc := "(LTableArms$Table;II)V" } : Jvm.MethodName)) ∈ lw_all := lw_g (lw_at lw_m2 200 rfl) rfl
theorem q530 : (Jvm.Cond.code ({ cls := "TableArms", name := "carry", desc := "(LTableArms$Table;II)V" } : Jvm.MethodName) prog_1_method_26_code (3 : Nat) (Option.none : Option Jvm.ClassFile.FieldType)) ∈ lw_all := lw_g (lw_at lw_m2 201 rfl) rfl
theorem q531 : (Jvm.Cond.methodLink "TableArms" (221 : Nat) ({ cls := "TableArms$Table", name := "move", desc := "(II)V" } : Jvm.MethodName)) ∈ lw_all := lw_g (lw_at lw_m2 202 rfl) rfl
theorem q539 : (Jvm.Cond.methodLink "TableArms" (224 : Nat) ({ cls := "TableArms$Table", name := "into", desc := "(II)V" } : Jvm.MethodName)) ∈ lw_all := lw_g (lw_at lw_m2 210 rfl) rfl
theorem q544 : (Jvm.Cond.instanceMethod ({ cls := "TableArms", name := "keep", desc := "()I" } : Jvm.MethodName)) ∈ lw_all := lw_g (lw_at lw_m2 215 rfl) rfl
theorem q545 : (Jvm.Cond.selects "TableArms" ({ cls := "TableArms", name := "keep", desc := "()I" } : Jvm.MethodName) ({ cls := "TableArms", name := "keep", desc := "()I" } : Jvm.MethodName)) ∈ lw_all := lw_g (lw_at lw_m2 216 rfl) rfl
theorem q546 : (Jvm.Cond.code ({ cls := "TableArms", name := "keep", desc := "()I" } : Jvm.MethodName) prog_1_method_29_code (1 : Nat) (Option.some Jvm.ClassFile.FieldType.int)) ∈ lw_all := lw_g (lw_at lw_m2 217 rfl) rfl
theorem q547 : (Jvm.Cond.methodLink "TableArms" (247 : Nat) ({ cls := "TableArms$Table", name := "lay", desc := "(LTableArms$Table;)V" } : Jvm.MethodName)) ∈ lw_all := lw_g (lw_at lw_m2 218 rfl) rfl
theorem q553 : (Jvm.Cond.instanceMethod ({ cls := "TableArms", name := "back", desc := "(I)I" } : Jvm.MethodName)) ∈ lw_all := lw_g (lw_at lw_m2 224 rfl) rfl
theorem q554 : (Jvm.Cond.selects "TableArms" ({ cls := "TableArms", name := "back", desc := "(I)I" } : Jvm.MethodName) ({ cls := "TableArms", name := "back", desc := "(I)I" } : Jvm.MethodName)) ∈ lw_all := lw_g (lw_at lw_m2 225 rfl) rfl
theorem q555 : (Jvm.Cond.code ({ cls := "TableArms", name := "back", desc := "(I)I" } : Jvm.MethodName) prog_1_method_31_code (2 : Nat) (Option.some Jvm.ClassFile.FieldType.int)) ∈ lw_all := lw_g (lw_at lw_m2 226 rfl) rfl
theorem q556 : (Jvm.Cond.methodLink "TableArms" (251 : Nat) ({ cls := "TableArms", name := "isKept", desc := "(I)Z" } : Jvm.MethodName)) ∈ lw_all := lw_g (lw_at lw_m2 227 rfl) rfl
theorem q557 : (Jvm.Cond.privateMethod ({ cls := "TableArms", name := "isKept", desc := "(I)Z" } : Jvm.MethodName)) ∈ lw_tbl := lw_at lw_m2 228 rfl
theorem q558 : (Jvm.Cond.instanceMethod ({ cls := "TableArms", name := "isKept", desc := "(I)Z" } : Jvm.MethodName)) ∈ lw_all := lw_g (lw_at lw_m2 229 rfl) rfl
theorem q559 : (Jvm.Cond.code ({ cls := "TableArms", name := "isKept", desc := "(I)Z" } : Jvm.MethodName) prog_1_method_30_code (2 : Nat) (Option.some Jvm.ClassFile.FieldType.boolean)) ∈ lw_all := lw_g (lw_at lw_m2 230 rfl) rfl
theorem q561 : (Jvm.Cond.instanceMethod ({ cls := "TableArms", name := "same", desc := "(II)I" } : Jvm.MethodName)) ∈ lw_all := lw_g (lw_at lw_m2 232 rfl) rfl
theorem q562 : (Jvm.Cond.selects "TableArms" ({ cls := "TableArms", name := "same", desc := "(II)I" } : Jvm.MethodName) ({ cls := "TableArms", name := "same", desc := "(II)I" } : Jvm.MethodName)) ∈ lw_all := lw_g (lw_at lw_m2 233 rfl) rfl
theorem q563 : (Jvm.Cond.code ({ cls := "TableArms", name := "same", desc := "(II)I" } : Jvm.MethodName) prog_1_method_32_code (3 : Nat) (Option.some Jvm.ClassFile.FieldType.int)) ∈ lw_all := lw_g (lw_at lw_m2 234 rfl) rfl
theorem q564 : (Jvm.Cond.methodLink "TableArms" (254 : Nat) ({ cls := "TableArms$Table", name := "isSame", desc := "(LTableArms$Table;I)Z" } : Jvm.MethodName)) ∈ lw_all := lw_g (lw_at lw_m2 235 rfl) rfl
theorem q569 : (Jvm.Cond.instanceMethod ({ cls := "TableArms", name := "order", desc := "(I)I" } : Jvm.MethodName)) ∈ lw_all := lw_g (lw_at lw_m3 0 rfl) rfl
theorem q570 : (Jvm.Cond.selects "TableArms" ({ cls := "TableArms", name := "order", desc := "(I)I" } : Jvm.MethodName) ({ cls := "TableArms", name := "order", desc := "(I)I" } : Jvm.MethodName)) ∈ lw_all := lw_g (lw_at lw_m3 1 rfl) rfl
theorem q571 : (Jvm.Cond.code ({ cls := "TableArms", name := "order", desc := "(I)I" } : Jvm.MethodName) prog_1_method_40_code (3 : Nat) (Option.some Jvm.ClassFile.FieldType.int)) ∈ lw_all := lw_g (lw_at lw_m3 2 rfl) rfl
theorem q572 : (Jvm.Cond.methodLink "TableArms" (280 : Nat) ({ cls := "TableArms", name := "isOrder", desc := "(I)Z" } : Jvm.MethodName)) ∈ lw_all := lw_g (lw_at lw_m3 3 rfl) rfl
theorem q573 : (Jvm.Cond.static ({ cls := "TableArms", name := "isOrder", desc := "(I)Z" } : Jvm.MethodName)) ∈ lw_all := lw_g (lw_at lw_m3 4 rfl) rfl
theorem q574 : (Jvm.Cond.code ({ cls := "TableArms", name := "isOrder", desc := "(I)Z" } : Jvm.MethodName) prog_1_method_39_code (1 : Nat) (Option.some Jvm.ClassFile.FieldType.boolean)) ∈ lw_all := lw_g (lw_at lw_m3 5 rfl) rfl
theorem q575 : (Jvm.Cond.constantLong "TableArms" (278 : Nat) (95 : Int64)) ∈ lw_all := lw_g (lw_at lw_m3 6 rfl) rfl
theorem q576 : (Jvm.Cond.methodLink "TableArms" (283 : Nat) ({ cls := "TableArms", name := "done", desc := "(LTableArms$Table;I)I" } : Jvm.MethodName)) ∈ lw_all := lw_g (lw_at lw_m3 7 rfl) rfl
theorem q577 : (Jvm.Cond.privateMethod ({ cls := "TableArms", name := "done", desc := "(LTableArms$Table;I)I" } : Jvm.MethodName)) ∈ lw_tbl := lw_at lw_m3 8 rfl
theorem q578 : (Jvm.Cond.instanceMethod ({ cls := "TableArms", name := "done", desc := "(LTableArms$Table;I)I" } : Jvm.MethodName)) ∈ lw_all := lw_g (lw_at lw_m3 9 rfl) rfl
theorem q579 : (Jvm.Cond.code ({ cls := "TableArms", name := "done", desc := "(LTableArms$Table;I)I" } : Jvm.MethodName) prog_1_method_38_code (9 : Nat) (Option.some Jvm.ClassFile.FieldType.int)) ∈ lw_all := lw_g (lw_at lw_m3 10 rfl) rfl
theorem q580 : (Jvm.Cond.methodLink "TableArms" (272 : Nat) ({ cls := "TableArms", name := "isAsTold", desc := "(LTableArms$Table;III)Z" } : Jvm.MethodName)) ∈ lw_all := lw_g (lw_at lw_m3 11 rfl) rfl
theorem q581 : (Jvm.Cond.privateMethod ({ cls := "TableArms", name := "isAsTold", desc := "(LTableArms$Table;III)Z" } : Jvm.MethodName)) ∈ lw_tbl := lw_at lw_m3 12 rfl
theorem q582 : (Jvm.Cond.instanceMethod ({ cls := "TableArms", name := "isAsTold", desc := "(LTableArms$Table;III)Z" } : Jvm.MethodName)) ∈ lw_all := lw_g (lw_at lw_m3 13 rfl) rfl
theorem q583 : (Jvm.Cond.code ({ cls := "TableArms", name := "isAsTold", desc := "(LTableArms$Table;III)Z" } : Jvm.MethodName) prog_1_method_34_code (6 : Nat) (Option.some Jvm.ClassFile.FieldType.boolean)) ∈ lw_all := lw_g (lw_at lw_m3 14 rfl) rfl
theorem q584 : (Jvm.Cond.methodLink "TableArms" (261 : Nat) ({ cls := "TableArms", name := "hasNear", desc := "(LTableArms$Table;II)Z" } : Jvm.MethodName)) ∈ lw_all := lw_g (lw_at lw_m3 15 rfl) rfl
theorem q585 : (Jvm.Cond.privateMethod ({ cls := "TableArms", name := "hasNear", desc := "(LTableArms$Table;II)Z" } : Jvm.MethodName)) ∈ lw_tbl := lw_at lw_m3 16 rfl
theorem q586 : (Jvm.Cond.instanceMethod ({ cls := "TableArms", name := "hasNear", desc := "(LTableArms$Table;II)Z" } : Jvm.MethodName)) ∈ lw_all := lw_g (lw_at lw_m3 17 rfl) rfl
theorem q587 : (Jvm.Cond.code ({ cls := "TableArms", name := "hasNear", desc := "(LTableArms$Table;II)Z" } : Jvm.MethodName) prog_1_method_33_code (6 : Nat) (Option.some Jvm.ClassFile.FieldType.boolean)) ∈ lw_all := lw_g (lw_at lw_m3 18 rfl) rfl
theorem q588 : (Jvm.Cond.methodLink "TableArms" (258 : Nat) ({ cls := "TableArms", name := "isNeighbour", desc := "(II)Z" } : Jvm.MethodName)) ∈ lw_all := lw_g (lw_at lw_m3 19 rfl) rfl
theorem q589 : (Jvm.Cond.static ({ cls := "TableArms", name := "isNeighbour", desc := "(II)Z" } : Jvm.MethodName)) ∈ lw_all := lw_g (lw_at lw_m3 20 rfl) rfl
theorem q590 : (Jvm.Cond.code ({ cls := "TableArms", name := "isNeighbour", desc := "(II)Z" } : Jvm.MethodName) prog_1_method_2_code (4 : Nat) (Option.some Jvm.ClassFile.FieldType.boolean)) ∈ lw_all := lw_g (lw_at lw_m3 21 rfl) rfl
theorem q591 : (Jvm.Cond.methodLink "TableArms" (1 : Nat) ({ cls := "java/lang/Math", name := "abs", desc := "(I)I" } : Jvm.MethodName)) ∈ lw_all := lw_g (lw_at lw_m3 22 rfl) rfl
theorem q594 : (Jvm.Cond.methodLink "TableArms" (275 : Nat) ({ cls := "TableArms", name := "isPut", desc := "(LTableArms$Table;III)Z" } : Jvm.MethodName)) ∈ lw_all := lw_g (lw_at lw_m3 25 rfl) rfl
theorem q595 : (Jvm.Cond.privateMethod ({ cls := "TableArms", name := "isPut", desc := "(LTableArms$Table;III)Z" } : Jvm.MethodName)) ∈ lw_tbl := lw_at lw_m3 26 rfl
theorem q596 : (Jvm.Cond.instanceMethod ({ cls := "TableArms", name := "isPut", desc := "(LTableArms$Table;III)Z" } : Jvm.MethodName)) ∈ lw_all := lw_g (lw_at lw_m3 27 rfl) rfl
theorem q597 : (Jvm.Cond.code ({ cls := "TableArms", name := "isPut", desc := "(LTableArms$Table;III)Z" } : Jvm.MethodName) prog_1_method_37_code (6 : Nat) (Option.some Jvm.ClassFile.FieldType.boolean)) ∈ lw_all := lw_g (lw_at lw_m3 28 rfl) rfl
theorem q598 : (Jvm.Cond.methodLink "TableArms" (268 : Nat) ({ cls := "TableArms", name := "goal", desc := "(LTableArms$Table;III)I" } : Jvm.MethodName)) ∈ lw_all := lw_g (lw_at lw_m3 29 rfl) rfl
theorem q599 : (Jvm.Cond.privateMethod ({ cls := "TableArms", name := "goal", desc := "(LTableArms$Table;III)I" } : Jvm.MethodName)) ∈ lw_tbl := lw_at lw_m3 30 rfl
theorem q600 : (Jvm.Cond.instanceMethod ({ cls := "TableArms", name := "goal", desc := "(LTableArms$Table;III)I" } : Jvm.MethodName)) ∈ lw_all := lw_g (lw_at lw_m3 31 rfl) rfl
theorem q601 : (Jvm.Cond.code ({ cls := "TableArms", name := "goal", desc := "(LTableArms$Table;III)I" } : Jvm.MethodName) prog_1_method_35_code (6 : Nat) (Option.some Jvm.ClassFile.FieldType.int)) ∈ lw_all := lw_g (lw_at lw_m3 32 rfl) rfl
theorem q602 : (Jvm.Cond.methodLink "TableArms" (264 : Nat) ({ cls := "TableArms", name := "besideOf", desc := "(LTableArms$Table;I)I" } : Jvm.MethodName)) ∈ lw_all := lw_g (lw_at lw_m3 33 rfl) rfl
theorem q603 : (Jvm.Cond.static ({ cls := "TableArms", name := "besideOf", desc := "(LTableArms$Table;I)I" } : Jvm.MethodName)) ∈ lw_all := lw_g (lw_at lw_m3 34 rfl) rfl
theorem q604 : (Jvm.Cond.code ({ cls := "TableArms", name := "besideOf", desc := "(LTableArms$Table;I)I" } : Jvm.MethodName) prog_1_method_36_code (3 : Nat) (Option.some Jvm.ClassFile.FieldType.int)) ∈ lw_all := lw_g (lw_at lw_m3 35 rfl) rfl
theorem q606 : (Jvm.Cond.instanceMethod ({ cls := "TableArms", name := "lesson", desc := "(IIII)I" } : Jvm.MethodName)) ∈ lw_all := lw_g (lw_at lw_m3 37 rfl) rfl
theorem q607 : (Jvm.Cond.selects "TableArms" ({ cls := "TableArms", name := "lesson", desc := "(IIII)I" } : Jvm.MethodName) ({ cls := "TableArms", name := "lesson", desc := "(IIII)I" } : Jvm.MethodName)) ∈ lw_all := lw_g (lw_at lw_m3 38 rfl) rfl
theorem q608 : (Jvm.Cond.code ({ cls := "TableArms", name := "lesson", desc := "(IIII)I" } : Jvm.MethodName) prog_1_method_41_code (5 : Nat) (Option.some Jvm.ClassFile.FieldType.int)) ∈ lw_all := lw_g (lw_at lw_m3 39 rfl) rfl
theorem q609 : (Jvm.Cond.constantLong "TableArms" (286 : Nat) (9 : Int64)) ∈ lw_all := lw_g (lw_at lw_m3 40 rfl) rfl
theorem q610 : (Jvm.Cond.interfaceEntry "TableArms" (288 : Nat)) ∈ lw_tbl := lw_at lw_m3 41 rfl
theorem q611 : (Jvm.Cond.methodLink "TableArms" (288 : Nat) ({ cls := "java/util/List", name := "size", desc := "()I" } : Jvm.MethodName)) ∈ lw_all := lw_g (lw_at lw_m3 42 rfl) rfl
theorem q620 : (Jvm.Cond.classLink "TableArms" (294 : Nat) "TableArms$Lesson") ∈ lw_all := lw_g (lw_at lw_m3 51 rfl) rfl
theorem q622 : (Jvm.Cond.methodLink "TableArms" (296 : Nat) ({ cls := "TableArms$Lesson", name := "<init>", desc := "(IIZI)V" } : Jvm.MethodName)) ∈ lw_all := lw_g (lw_at lw_m3 53 rfl) rfl
theorem q627 : (Jvm.Cond.fieldLink "TableArms" (321 : Nat) "TableArms$Lesson" "start" "I") ∈ lw_all := lw_g (lw_at lw_m3 58 rfl) rfl
theorem q629 : (Jvm.Cond.fieldLink "TableArms" (324 : Nat) "TableArms$Lesson" "end" "I") ∈ lw_all := lw_g (lw_at lw_m3 60 rfl) rfl
theorem q631 : (Jvm.Cond.fieldLink "TableArms" (327 : Nat) "TableArms$Lesson" "isNo" "Z") ∈ lw_all := lw_g (lw_at lw_m3 62 rfl) rfl
theorem q633 : (Jvm.Cond.fieldLink "TableArms" (342 : Nat) "TableArms$Lesson" "teacher" "I") ∈ lw_all := lw_g (lw_at lw_m3 64 rfl) rfl
theorem q635 : (Jvm.Cond.fieldLinkNest "TableArms" (317 : Nat) "TableArms$Lesson" "stands" "Z" "TableArms") ∈ lw_tbl := lw_at lw_m3 66 rfl
theorem q647 : (Jvm.Cond.interfaceEntry "TableArms" (299 : Nat)) ∈ lw_tbl := lw_at lw_m3 78 rfl
theorem q648 : (Jvm.Cond.methodLink "TableArms" (299 : Nat) ({ cls := "java/util/List", name := "add", desc := "(Ljava/lang/Object;)Z" } : Jvm.MethodName)) ∈ lw_all := lw_g (lw_at lw_m3 79 rfl) rfl
theorem q684 : (Jvm.Cond.selects "TableArms" ({ cls := "java/lang/Object", name := "getClass", desc := "()Ljava/lang/Class;" } : Jvm.MethodName) ({ cls := "java/lang/Object", name := "getClass", desc := "()Ljava/lang/Class;" } : Jvm.MethodName)) ∈ lw_all := lw_g (lw_at lw_m3 115 rfl) rfl
theorem q718 : (Jvm.Cond.instanceMethod ({ cls := "TableArms", name := "lessons", desc := "(III)I" } : Jvm.MethodName)) ∈ lw_all := lw_g (lw_at lw_m3 149 rfl) rfl
theorem q719 : (Jvm.Cond.selects "TableArms" ({ cls := "TableArms", name := "lessons", desc := "(III)I" } : Jvm.MethodName) ({ cls := "TableArms", name := "lessons", desc := "(III)I" } : Jvm.MethodName)) ∈ lw_all := lw_g (lw_at lw_m3 150 rfl) rfl
theorem q720 : (Jvm.Cond.codeWith ({ cls := "TableArms", name := "lessons", desc := "(III)I" } : Jvm.MethodName) prog_1_method_42_code (7 : Nat) (Option.some Jvm.ClassFile.FieldType.int) [((22 : Nat), (105 : Nat), (106 : Nat), (114 : Nat))]) ∈ lw_all := lw_g (lw_at lw_m3 151 rfl) rfl
theorem q721 : (Jvm.Cond.constantLong "TableArms" (303 : Nat) (4 : Int64)) ∈ lw_all := lw_g (lw_at lw_m3 152 rfl) rfl
theorem q722 : (Jvm.Cond.methodLink "TableArms" (305 : Nat) ({ cls := "TableArms$Sheet", name := "row", desc := "(II)[I" } : Jvm.MethodName)) ∈ lw_all := lw_g (lw_at lw_m3 153 rfl) rfl
theorem q728 : (Jvm.Cond.methodLink "TableArms" (309 : Nat) ({ cls := "TableArms", name := "lesson", desc := "(IIII)I" } : Jvm.MethodName)) ∈ lw_all := lw_g (lw_at lw_m3 159 rfl) rfl
theorem q730 : (Jvm.Cond.instanceMethod ({ cls := "TableArms", name := "unteach", desc := "(I)I" } : Jvm.MethodName)) ∈ lw_all := lw_g (lw_at lw_m3 161 rfl) rfl
theorem q731 : (Jvm.Cond.selects "TableArms" ({ cls := "TableArms", name := "unteach", desc := "(I)I" } : Jvm.MethodName) ({ cls := "TableArms", name := "unteach", desc := "(I)I" } : Jvm.MethodName)) ∈ lw_all := lw_g (lw_at lw_m3 162 rfl) rfl
theorem q732 : (Jvm.Cond.code ({ cls := "TableArms", name := "unteach", desc := "(I)I" } : Jvm.MethodName) prog_1_method_43_code (2 : Nat) (Option.some Jvm.ClassFile.FieldType.int)) ∈ lw_all := lw_g (lw_at lw_m3 163 rfl) rfl
theorem q733 : (Jvm.Cond.interfaceEntry "TableArms" (313 : Nat)) ∈ lw_tbl := lw_at lw_m3 164 rfl
theorem q734 : (Jvm.Cond.methodLink "TableArms" (313 : Nat) ({ cls := "java/util/List", name := "get", desc := "(I)Ljava/lang/Object;" } : Jvm.MethodName)) ∈ lw_all := lw_g (lw_at lw_m3 165 rfl) rfl
theorem q753 : (Jvm.Cond.instanceMethod ({ cls := "TableArms", name := "fits", desc := "(I)I" } : Jvm.MethodName)) ∈ lw_all := lw_g (lw_at lw_m3 184 rfl) rfl
theorem q754 : (Jvm.Cond.selects "TableArms" ({ cls := "TableArms", name := "fits", desc := "(I)I" } : Jvm.MethodName) ({ cls := "TableArms", name := "fits", desc := "(I)I" } : Jvm.MethodName)) ∈ lw_all := lw_g (lw_at lw_m3 185 rfl) rfl
theorem q755 : (Jvm.Cond.code ({ cls := "TableArms", name := "fits", desc := "(I)I" } : Jvm.MethodName) prog_1_method_46_code (4 : Nat) (Option.some Jvm.ClassFile.FieldType.int)) ∈ lw_all := lw_g (lw_at lw_m3 186 rfl) rfl
theorem q756 : (Jvm.Cond.methodLink "TableArms" (334 : Nat) ({ cls := "TableArms", name := "barring", desc := "(I)I" } : Jvm.MethodName)) ∈ lw_all := lw_g (lw_at lw_m3 187 rfl) rfl
theorem q757 : (Jvm.Cond.privateMethod ({ cls := "TableArms", name := "barring", desc := "(I)I" } : Jvm.MethodName)) ∈ lw_tbl := lw_at lw_m3 188 rfl
theorem q758 : (Jvm.Cond.instanceMethod ({ cls := "TableArms", name := "barring", desc := "(I)I" } : Jvm.MethodName)) ∈ lw_all := lw_g (lw_at lw_m3 189 rfl) rfl
theorem q759 : (Jvm.Cond.code ({ cls := "TableArms", name := "barring", desc := "(I)I" } : Jvm.MethodName) prog_1_method_45_code (4 : Nat) (Option.some Jvm.ClassFile.FieldType.int)) ∈ lw_all := lw_g (lw_at lw_m3 190 rfl) rfl
theorem q760 : (Jvm.Cond.methodLink "TableArms" (330 : Nat) ({ cls := "TableArms", name := "isBarring", desc := "(LTableArms$Lesson;I)Z" } : Jvm.MethodName)) ∈ lw_all := lw_g (lw_at lw_m3 191 rfl) rfl
theorem q761 : (Jvm.Cond.privateMethod ({ cls := "TableArms", name := "isBarring", desc := "(LTableArms$Lesson;I)Z" } : Jvm.MethodName)) ∈ lw_tbl := lw_at lw_m3 192 rfl
theorem q762 : (Jvm.Cond.instanceMethod ({ cls := "TableArms", name := "isBarring", desc := "(LTableArms$Lesson;I)Z" } : Jvm.MethodName)) ∈ lw_all := lw_g (lw_at lw_m3 193 rfl) rfl
theorem q763 : (Jvm.Cond.code ({ cls := "TableArms", name := "isBarring", desc := "(LTableArms$Lesson;I)Z" } : Jvm.MethodName) prog_1_method_44_code (4 : Nat) (Option.some Jvm.ClassFile.FieldType.boolean)) ∈ lw_all := lw_g (lw_at lw_m3 194 rfl) rfl
theorem q765 : (Jvm.Cond.instanceMethod ({ cls := "TableArms", name := "barred", desc := "(II)I" } : Jvm.MethodName)) ∈ lw_all := lw_g (lw_at lw_m3 196 rfl) rfl
theorem q766 : (Jvm.Cond.selects "TableArms" ({ cls := "TableArms", name := "barred", desc := "(II)I" } : Jvm.MethodName) ({ cls := "TableArms", name := "barred", desc := "(II)I" } : Jvm.MethodName)) ∈ lw_all := lw_g (lw_at lw_m3 197 rfl) rfl
theorem q767 : (Jvm.Cond.code ({ cls := "TableArms", name := "barred", desc := "(II)I" } : Jvm.MethodName) prog_1_method_47_code (5 : Nat) (Option.some Jvm.ClassFile.FieldType.int)) ∈ lw_all := lw_g (lw_at lw_m3 198 rfl) rfl
theorem q768 : (Jvm.Cond.methodLink "TableArms" (337 : Nat) ({ cls := "java/lang/Integer", name := "numberOfTrailingZeros", desc := "(I)I" } : Jvm.MethodName)) ∈ lw_all := lw_g (lw_at lw_m3 199 rfl) rfl
theorem q773 : (Jvm.Cond.instanceMethod ({ cls := "TableArms", name := "question", desc := "(I)I" } : Jvm.MethodName)) ∈ lw_all := lw_g (lw_at lw_m3 204 rfl) rfl
theorem q774 : (Jvm.Cond.selects "TableArms" ({ cls := "TableArms", name := "question", desc := "(I)I" } : Jvm.MethodName) ({ cls := "TableArms", name := "question", desc := "(I)I" } : Jvm.MethodName)) ∈ lw_all := lw_g (lw_at lw_m3 205 rfl) rfl
theorem q775 : (Jvm.Cond.code ({ cls := "TableArms", name := "question", desc := "(I)I" } : Jvm.MethodName) prog_1_method_49_code (6 : Nat) (Option.some Jvm.ClassFile.FieldType.int)) ∈ lw_all := lw_g (lw_at lw_m3 206 rfl) rfl
theorem q776 : (Jvm.Cond.methodLink "TableArms" (345 : Nat) ({ cls := "TableArms", name := "unlike", desc := "(LTableArms$Table;)I" } : Jvm.MethodName)) ∈ lw_all := lw_g (lw_at lw_m3 207 rfl) rfl
theorem q777 : (Jvm.Cond.privateMethod ({ cls := "TableArms", name := "unlike", desc := "(LTableArms$Table;)I" } : Jvm.MethodName)) ∈ lw_tbl := lw_at lw_m3 208 rfl
theorem q778 : (Jvm.Cond.instanceMethod ({ cls := "TableArms", name := "unlike", desc := "(LTableArms$Table;)I" } : Jvm.MethodName)) ∈ lw_all := lw_g (lw_at lw_m3 209 rfl) rfl
theorem q779 : (Jvm.Cond.code ({ cls := "TableArms", name := "unlike", desc := "(LTableArms$Table;)I" } : Jvm.MethodName) prog_1_method_48_code (7 : Nat) (Option.some Jvm.ClassFile.FieldType.int)) ∈ lw_all := lw_g (lw_at lw_m3 210 rfl) rfl
theorem q781 : (Jvm.Cond.instanceMethod ({ cls := "TableArms", name := "quarrel", desc := "()I" } : Jvm.MethodName)) ∈ lw_all := lw_g (lw_at lw_m3 212 rfl) rfl
theorem q782 : (Jvm.Cond.selects "TableArms" ({ cls := "TableArms", name := "quarrel", desc := "()I" } : Jvm.MethodName) ({ cls := "TableArms", name := "quarrel", desc := "()I" } : Jvm.MethodName)) ∈ lw_all := lw_g (lw_at lw_m3 213 rfl) rfl
theorem q783 : (Jvm.Cond.code ({ cls := "TableArms", name := "quarrel", desc := "()I" } : Jvm.MethodName) prog_1_method_50_code (5 : Nat) (Option.some Jvm.ClassFile.FieldType.int)) ∈ lw_all := lw_g (lw_at lw_m3 214 rfl) rfl
theorem q784 : (Jvm.Cond.methodLink "TableArms" (349 : Nat) ({ cls := "java/lang/Integer", name := "bitCount", desc := "(I)I" } : Jvm.MethodName)) ∈ lw_all := lw_g (lw_at lw_m3 215 rfl) rfl
theorem q791 : (Jvm.Cond.instanceMethod ({ cls := "TableArms", name := "plan", desc := "(II)I" } : Jvm.MethodName)) ∈ lw_all := lw_g (lw_at lw_m3 222 rfl) rfl
theorem q792 : (Jvm.Cond.selects "TableArms" ({ cls := "TableArms", name := "plan", desc := "(II)I" } : Jvm.MethodName) ({ cls := "TableArms", name := "plan", desc := "(II)I" } : Jvm.MethodName)) ∈ lw_all := lw_g (lw_at lw_m3 223 rfl) rfl
theorem q793 : (Jvm.Cond.code ({ cls := "TableArms", name := "plan", desc := "(II)I" } : Jvm.MethodName) prog_1_method_54_code (5 : Nat) (Option.some Jvm.ClassFile.FieldType.int)) ∈ lw_all := lw_g (lw_at lw_m3 224 rfl) rfl
theorem q794 : (Jvm.Cond.methodLink "TableArms" (355 : Nat) ({ cls := "TableArms", name := "isEnd", desc := "(LTableArms$Table;I)Z" } : Jvm.MethodName)) ∈ lw_all := lw_g (lw_at lw_m3 225 rfl) rfl
theorem q795 : (Jvm.Cond.privateMethod ({ cls := "TableArms", name := "isEnd", desc := "(LTableArms$Table;I)Z" } : Jvm.MethodName)) ∈ lw_tbl := lw_at lw_m3 226 rfl
theorem q796 : (Jvm.Cond.instanceMethod ({ cls := "TableArms", name := "isEnd", desc := "(LTableArms$Table;I)Z" } : Jvm.MethodName)) ∈ lw_all := lw_g (lw_at lw_m3 227 rfl) rfl
theorem q797 : (Jvm.Cond.code ({ cls := "TableArms", name := "isEnd", desc := "(LTableArms$Table;I)Z" } : Jvm.MethodName) prog_1_method_51_code (6 : Nat) (Option.some Jvm.ClassFile.FieldType.boolean)) ∈ lw_all := lw_g (lw_at lw_m3 228 rfl) rfl
theorem q798 : (Jvm.Cond.methodLink "TableArms" (358 : Nat) ({ cls := "TableArms", name := "firstOf", desc := "(LTableArms$Table;II)I" } : Jvm.MethodName)) ∈ lw_all := lw_g (lw_at lw_m3 229 rfl) rfl
theorem q799 : (Jvm.Cond.privateMethod ({ cls := "TableArms", name := "firstOf", desc := "(LTableArms$Table;II)I" } : Jvm.MethodName)) ∈ lw_tbl := lw_at lw_m3 230 rfl
theorem q800 : (Jvm.Cond.instanceMethod ({ cls := "TableArms", name := "firstOf", desc := "(LTableArms$Table;II)I" } : Jvm.MethodName)) ∈ lw_all := lw_g (lw_at lw_m3 231 rfl) rfl
theorem q801 : (Jvm.Cond.code ({ cls := "TableArms", name := "firstOf", desc := "(LTableArms$Table;II)I" } : Jvm.MethodName) prog_1_method_53_code (6 : Nat) (Option.some Jvm.ClassFile.FieldType.int)) ∈ lw_all := lw_g (lw_at lw_m3 232 rfl) rfl
theorem q802 : (Jvm.Cond.methodLink "TableArms" (352 : Nat) ({ cls := "TableArms", name := "isDone", desc := "(LTableArms$Table;II)Z" } : Jvm.MethodName)) ∈ lw_all := lw_g (lw_at lw_m3 233 rfl) rfl
theorem q803 : (Jvm.Cond.privateMethod ({ cls := "TableArms", name := "isDone", desc := "(LTableArms$Table;II)Z" } : Jvm.MethodName)) ∈ lw_tbl := lw_at lw_m3 234 rfl
theorem q804 : (Jvm.Cond.instanceMethod ({ cls := "TableArms", name := "isDone", desc := "(LTableArms$Table;II)Z" } : Jvm.MethodName)) ∈ lw_all := lw_g (lw_at lw_m3 235 rfl) rfl
theorem q805 : (Jvm.Cond.code ({ cls := "TableArms", name := "isDone", desc := "(LTableArms$Table;II)Z" } : Jvm.MethodName) prog_1_method_52_code (4 : Nat) (Option.some Jvm.ClassFile.FieldType.boolean)) ∈ lw_all := lw_g (lw_at lw_m3 236 rfl) rfl
theorem q807 : (Jvm.Cond.instanceMethod ({ cls := "TableArms", name := "feed", desc := "(JI)I" } : Jvm.MethodName)) ∈ lw_all := lw_g (lw_at lw_m3 238 rfl) rfl
theorem q808 : (Jvm.Cond.selects "TableArms" ({ cls := "TableArms", name := "feed", desc := "(JI)I" } : Jvm.MethodName) ({ cls := "TableArms", name := "feed", desc := "(JI)I" } : Jvm.MethodName)) ∈ lw_all := lw_g (lw_at lw_m3 239 rfl) rfl
theorem q809 : (Jvm.Cond.code ({ cls := "TableArms", name := "feed", desc := "(JI)I" } : Jvm.MethodName) prog_1_method_55_code (5 : Nat) (Option.some Jvm.ClassFile.FieldType.int)) ∈ lw_all := lw_g (lw_at lw_m4 0 rfl) rfl
theorem q810 : (Jvm.Cond.constantLong "TableArms" (362 : Nat) (8 : Int64)) ∈ lw_all := lw_g (lw_at lw_m4 1 rfl) rfl
theorem q812 : (Jvm.Cond.instanceMethod ({ cls := "TableArms", name := "nevers", desc := "()I" } : Jvm.MethodName)) ∈ lw_all := lw_g (lw_at lw_m4 3 rfl) rfl
theorem q813 : (Jvm.Cond.selects "TableArms" ({ cls := "TableArms", name := "nevers", desc := "()I" } : Jvm.MethodName) ({ cls := "TableArms", name := "nevers", desc := "()I" } : Jvm.MethodName)) ∈ lw_all := lw_g (lw_at lw_m4 4 rfl) rfl
theorem q814 : (Jvm.Cond.codeWith ({ cls := "TableArms", name := "nevers", desc := "()I" } : Jvm.MethodName) prog_1_method_56_code (3 : Nat) (Option.some Jvm.ClassFile.FieldType.int) [((33 : Nat), (37 : Nat), (40 : Nat), (375 : Nat))]) ∈ lw_all := lw_g (lw_at lw_m4 5 rfl) rfl
theorem q815 : (Jvm.Cond.classLink "TableArms" (375 : Nat) "TableArms$Fault") ∈ lw_all := lw_g (lw_at lw_m4 6 rfl) rfl
theorem q816 : (Jvm.Cond.classLink "TableArms" (367 : Nat) "TableArms$Reader") ∈ lw_all := lw_g (lw_at lw_m4 7 rfl) rfl
theorem q818 : (Jvm.Cond.methodLink "TableArms" (369 : Nat) ({ cls := "TableArms$Reader", name := "<init>", desc := "([BII)V" } : Jvm.MethodName)) ∈ lw_all := lw_g (lw_at lw_m4 9 rfl) rfl
theorem q834 : (Jvm.Cond.fieldLink "TableArms" (387 : Nat) "TableArms$Reader" "made" "Ljava/util/List;") ∈ lw_all := lw_g (lw_at lw_m4 25 rfl) rfl
theorem q854 : (Jvm.Cond.methodLink "TableArms" (372 : Nat) ({ cls := "TableArms$Reader", name := "all", desc := "()V" } : Jvm.MethodName)) ∈ lw_all := lw_g (lw_at lw_m4 45 rfl) rfl
theorem q1071 : (Jvm.Cond.fieldLink "TableArms" (377 : Nat) "TableArms$Fault" "kind" "I") ∈ lw_all := lw_g (lw_at lw_m5 22 rfl) rfl
theorem q1073 : (Jvm.Cond.fieldLink "TableArms" (384 : Nat) "TableArms$Fault" "place" "I") ∈ lw_all := lw_g (lw_at lw_m5 24 rfl) rfl
theorem q1085 : (Jvm.Cond.laysStatic "TableArms" "SORTED" "[Ljava/lang/String;") ∈ lw_tbl := lw_at lw_m5 36 rfl
theorem q1091 : (Jvm.Cond.laysStatic "TableArms" "RELS" "[Ljava/lang/String;") ∈ lw_tbl := lw_at lw_m5 42 rfl
theorem q1103 : (Jvm.Cond.fieldLink "TableArms" (392 : Nat) "TableArms$Never" "what" "I") ∈ lw_all := lw_g (lw_at lw_m5 54 rfl) rfl
theorem q1105 : (Jvm.Cond.fieldLink "TableArms" (395 : Nat) "TableArms$Never" "a" "I") ∈ lw_all := lw_g (lw_at lw_m5 56 rfl) rfl
theorem q1107 : (Jvm.Cond.fieldLink "TableArms" (401 : Nat) "TableArms$Never" "b" "I") ∈ lw_all := lw_g (lw_at lw_m5 58 rfl) rfl
theorem q1121 : (Jvm.Cond.constant "TableArms" (383 : Nat) (-1000100 : Int32)) ∈ lw_all := lw_g (lw_at lw_m5 72 rfl) rfl
theorem q1122 : (Jvm.Cond.classLink "TableArms" (390 : Nat) "TableArms$Never") ∈ lw_all := lw_g (lw_at lw_m5 73 rfl) rfl
theorem q1124 : (Jvm.Cond.instanceMethod ({ cls := "TableArms", name := "fault", desc := "()I" } : Jvm.MethodName)) ∈ lw_all := lw_g (lw_at lw_m5 75 rfl) rfl
theorem q1125 : (Jvm.Cond.selects "TableArms" ({ cls := "TableArms", name := "fault", desc := "()I" } : Jvm.MethodName) ({ cls := "TableArms", name := "fault", desc := "()I" } : Jvm.MethodName)) ∈ lw_all := lw_g (lw_at lw_m5 76 rfl) rfl
theorem q1126 : (Jvm.Cond.code ({ cls := "TableArms", name := "fault", desc := "()I" } : Jvm.MethodName) prog_1_method_57_code (1 : Nat) (Option.some Jvm.ClassFile.FieldType.int)) ∈ lw_all := lw_g (lw_at lw_m5 77 rfl) rfl
theorem q1128 : (Jvm.Cond.instanceMethod ({ cls := "TableArms", name := "broken", desc := "()I" } : Jvm.MethodName)) ∈ lw_all := lw_g (lw_at lw_m5 79 rfl) rfl
theorem q1129 : (Jvm.Cond.selects "TableArms" ({ cls := "TableArms", name := "broken", desc := "()I" } : Jvm.MethodName) ({ cls := "TableArms", name := "broken", desc := "()I" } : Jvm.MethodName)) ∈ lw_all := lw_g (lw_at lw_m5 80 rfl) rfl
theorem q1130 : (Jvm.Cond.code ({ cls := "TableArms", name := "broken", desc := "()I" } : Jvm.MethodName) prog_1_method_61_code (1 : Nat) (Option.some Jvm.ClassFile.FieldType.int)) ∈ lw_all := lw_g (lw_at lw_m5 81 rfl) rfl
theorem q1131 : (Jvm.Cond.methodLink "TableArms" (408 : Nat) ({ cls := "TableArms", name := "brokenOn", desc := "(LTableArms$Table;)I" } : Jvm.MethodName)) ∈ lw_all := lw_g (lw_at lw_m5 82 rfl) rfl
theorem q1132 : (Jvm.Cond.privateMethod ({ cls := "TableArms", name := "brokenOn", desc := "(LTableArms$Table;)I" } : Jvm.MethodName)) ∈ lw_tbl := lw_at lw_m5 83 rfl
theorem q1133 : (Jvm.Cond.instanceMethod ({ cls := "TableArms", name := "brokenOn", desc := "(LTableArms$Table;)I" } : Jvm.MethodName)) ∈ lw_all := lw_g (lw_at lw_m5 84 rfl) rfl
theorem q1134 : (Jvm.Cond.code ({ cls := "TableArms", name := "brokenOn", desc := "(LTableArms$Table;)I" } : Jvm.MethodName) prog_1_method_60_code (4 : Nat) (Option.some Jvm.ClassFile.FieldType.int)) ∈ lw_all := lw_g (lw_at lw_m5 85 rfl) rfl
theorem q1135 : (Jvm.Cond.methodLink "TableArms" (404 : Nat) ({ cls := "TableArms", name := "isBroken", desc := "(LTableArms$Table;LTableArms$Never;)Z" } : Jvm.MethodName)) ∈ lw_all := lw_g (lw_at lw_m5 86 rfl) rfl
theorem q1136 : (Jvm.Cond.privateMethod ({ cls := "TableArms", name := "isBroken", desc := "(LTableArms$Table;LTableArms$Never;)Z" } : Jvm.MethodName)) ∈ lw_tbl := lw_at lw_m5 87 rfl
theorem q1137 : (Jvm.Cond.instanceMethod ({ cls := "TableArms", name := "isBroken", desc := "(LTableArms$Table;LTableArms$Never;)Z" } : Jvm.MethodName)) ∈ lw_all := lw_g (lw_at lw_m5 88 rfl) rfl
theorem q1138 : (Jvm.Cond.code ({ cls := "TableArms", name := "isBroken", desc := "(LTableArms$Table;LTableArms$Never;)Z" } : Jvm.MethodName) prog_1_method_59_code (4 : Nat) (Option.some Jvm.ClassFile.FieldType.boolean)) ∈ lw_all := lw_g (lw_at lw_m5 89 rfl) rfl
theorem q1139 : (Jvm.Cond.methodLink "TableArms" (398 : Nat) ({ cls := "TableArms", name := "weightOn", desc := "(LTableArms$Table;I)I" } : Jvm.MethodName)) ∈ lw_all := lw_g (lw_at lw_m5 90 rfl) rfl
theorem q1140 : (Jvm.Cond.privateMethod ({ cls := "TableArms", name := "weightOn", desc := "(LTableArms$Table;I)I" } : Jvm.MethodName)) ∈ lw_tbl := lw_at lw_m5 91 rfl
theorem q1141 : (Jvm.Cond.instanceMethod ({ cls := "TableArms", name := "weightOn", desc := "(LTableArms$Table;I)I" } : Jvm.MethodName)) ∈ lw_all := lw_g (lw_at lw_m5 92 rfl) rfl
theorem q1142 : (Jvm.Cond.code ({ cls := "TableArms", name := "weightOn", desc := "(LTableArms$Table;I)I" } : Jvm.MethodName) prog_1_method_58_code (6 : Nat) (Option.some Jvm.ClassFile.FieldType.int)) ∈ lw_all := lw_g (lw_at lw_m5 93 rfl) rfl
theorem q1144 : (Jvm.Cond.instanceMethod ({ cls := "TableArms", name := "let", desc := "(III)I" } : Jvm.MethodName)) ∈ lw_all := lw_g (lw_at lw_m5 95 rfl) rfl
theorem q1145 : (Jvm.Cond.selects "TableArms" ({ cls := "TableArms", name := "let", desc := "(III)I" } : Jvm.MethodName) ({ cls := "TableArms", name := "let", desc := "(III)I" } : Jvm.MethodName)) ∈ lw_all := lw_g (lw_at lw_m5 96 rfl) rfl
theorem q1146 : (Jvm.Cond.code ({ cls := "TableArms", name := "let", desc := "(III)I" } : Jvm.MethodName) prog_1_method_63_code (6 : Nat) (Option.some Jvm.ClassFile.FieldType.int)) ∈ lw_all := lw_g (lw_at lw_m5 97 rfl) rfl
theorem q1147 : (Jvm.Cond.methodLink "TableArms" (411 : Nat) ({ cls := "TableArms", name := "isSafe", desc := "(II)Z" } : Jvm.MethodName)) ∈ lw_all := lw_g (lw_at lw_m5 98 rfl) rfl
theorem q1148 : (Jvm.Cond.privateMethod ({ cls := "TableArms", name := "isSafe", desc := "(II)Z" } : Jvm.MethodName)) ∈ lw_tbl := lw_at lw_m5 99 rfl
theorem q1149 : (Jvm.Cond.instanceMethod ({ cls := "TableArms", name := "isSafe", desc := "(II)Z" } : Jvm.MethodName)) ∈ lw_all := lw_g (lw_at lw_m5 100 rfl) rfl
theorem q1150 : (Jvm.Cond.code ({ cls := "TableArms", name := "isSafe", desc := "(II)Z" } : Jvm.MethodName) prog_1_method_62_code (3 : Nat) (Option.some Jvm.ClassFile.FieldType.boolean)) ∈ lw_all := lw_g (lw_at lw_m5 101 rfl) rfl
theorem q1152 : (Jvm.Cond.instanceMethod ({ cls := "TableArms", name := "ways", desc := "(IIII)I" } : Jvm.MethodName)) ∈ lw_all := lw_g (lw_at lw_m5 103 rfl) rfl
theorem q1153 : (Jvm.Cond.selects "TableArms" ({ cls := "TableArms", name := "ways", desc := "(IIII)I" } : Jvm.MethodName) ({ cls := "TableArms", name := "ways", desc := "(IIII)I" } : Jvm.MethodName)) ∈ lw_all := lw_g (lw_at lw_m5 104 rfl) rfl
theorem q1154 : (Jvm.Cond.codeWith ({ cls := "TableArms", name := "ways", desc := "(IIII)I" } : Jvm.MethodName) prog_1_method_67_code (6 : Nat) (Option.some Jvm.ClassFile.FieldType.int) [((35 : Nat), (73 : Nat), (88 : Nat), (114 : Nat)), ((74 : Nat), (87 : Nat), (88 : Nat), (114 : Nat))]) ∈ lw_all := lw_g (lw_at lw_m5 105 rfl) rfl
theorem q1155 : (Jvm.Cond.constantLong "TableArms" (421 : Nat) (12 : Int64)) ∈ lw_all := lw_g (lw_at lw_m5 106 rfl) rfl
theorem q1156 : (Jvm.Cond.methodLink "TableArms" (423 : Nat) ({ cls := "TableArms", name := "isRow", desc := "([III)Z" } : Jvm.MethodName)) ∈ lw_all := lw_g (lw_at lw_m5 107 rfl) rfl
theorem q1157 : (Jvm.Cond.static ({ cls := "TableArms", name := "isRow", desc := "([III)Z" } : Jvm.MethodName)) ∈ lw_all := lw_g (lw_at lw_m5 108 rfl) rfl
theorem q1158 : (Jvm.Cond.code ({ cls := "TableArms", name := "isRow", desc := "([III)Z" } : Jvm.MethodName) prog_1_method_66_code (4 : Nat) (Option.some Jvm.ClassFile.FieldType.boolean)) ∈ lw_all := lw_g (lw_at lw_m5 109 rfl) rfl
theorem q1159 : (Jvm.Cond.methodLink "TableArms" (427 : Nat) ({ cls := "TableArms", name := "fewest", desc := "([III)I" } : Jvm.MethodName)) ∈ lw_all := lw_g (lw_at lw_m5 110 rfl) rfl
theorem q1160 : (Jvm.Cond.privateMethod ({ cls := "TableArms", name := "fewest", desc := "([III)I" } : Jvm.MethodName)) ∈ lw_tbl := lw_at lw_m5 111 rfl
theorem q1161 : (Jvm.Cond.instanceMethod ({ cls := "TableArms", name := "fewest", desc := "([III)I" } : Jvm.MethodName)) ∈ lw_all := lw_g (lw_at lw_m5 112 rfl) rfl
theorem q1162 : (Jvm.Cond.code ({ cls := "TableArms", name := "fewest", desc := "([III)I" } : Jvm.MethodName) prog_1_method_65_code (11 : Nat) (Option.some Jvm.ClassFile.FieldType.int)) ∈ lw_all := lw_g (lw_at lw_m5 113 rfl) rfl
theorem q1163 : (Jvm.Cond.methodLink "TableArms" (414 : Nat) ({ cls := "TableArms", name := "isPassing", desc := "([IIIIII)Z" } : Jvm.MethodName)) ∈ lw_all := lw_g (lw_at lw_m5 114 rfl) rfl
theorem q1164 : (Jvm.Cond.static ({ cls := "TableArms", name := "isPassing", desc := "([IIIIII)Z" } : Jvm.MethodName)) ∈ lw_all := lw_g (lw_at lw_m5 115 rfl) rfl
theorem q1165 : (Jvm.Cond.code ({ cls := "TableArms", name := "isPassing", desc := "([IIIIII)Z" } : Jvm.MethodName) prog_1_method_64_code (10 : Nat) (Option.some Jvm.ClassFile.FieldType.boolean)) ∈ lw_all := lw_g (lw_at lw_m5 116 rfl) rfl
theorem q1166 : (Jvm.Cond.methodLink "TableArms" (418 : Nat) ({ cls := "java/lang/Math", name := "min", desc := "(II)I" } : Jvm.MethodName)) ∈ lw_all := lw_g (lw_at lw_m5 117 rfl) rfl
theorem q1168 : (Jvm.Cond.instanceMethod ({ cls := "TableArms", name := "kind", desc := "(I)I" } : Jvm.MethodName)) ∈ lw_all := lw_g (lw_at lw_m5 119 rfl) rfl
theorem q1169 : (Jvm.Cond.selects "TableArms" ({ cls := "TableArms", name := "kind", desc := "(I)I" } : Jvm.MethodName) ({ cls := "TableArms", name := "kind", desc := "(I)I" } : Jvm.MethodName)) ∈ lw_all := lw_g (lw_at lw_m5 120 rfl) rfl
theorem q1170 : (Jvm.Cond.code ({ cls := "TableArms", name := "kind", desc := "(I)I" } : Jvm.MethodName) prog_1_method_68_code (2 : Nat) (Option.some Jvm.ClassFile.FieldType.int)) ∈ lw_all := lw_g (lw_at lw_m5 121 rfl) rfl
theorem q1171 : (Jvm.Cond.methodLink "TableArms" (431 : Nat) ({ cls := "TableArms", name := "asked", desc := "(I)LTableArms$AsThing;" } : Jvm.MethodName)) ∈ lw_all := lw_g (lw_at lw_m5 122 rfl) rfl
theorem q1172 : (Jvm.Cond.privateMethod ({ cls := "TableArms", name := "asked", desc := "(I)LTableArms$AsThing;" } : Jvm.MethodName)) ∈ lw_tbl := lw_at lw_m5 123 rfl
theorem q1173 : (Jvm.Cond.instanceMethod ({ cls := "TableArms", name := "asked", desc := "(I)LTableArms$AsThing;" } : Jvm.MethodName)) ∈ lw_all := lw_g (lw_at lw_m5 124 rfl) rfl
theorem q1174 : (Jvm.Cond.code ({ cls := "TableArms", name := "asked", desc := "(I)LTableArms$AsThing;" } : Jvm.MethodName) prog_1_method_4_code (2 : Nat) (Option.some (Jvm.ClassFile.FieldType.object "TableArms$AsThing"))) ∈ lw_all := lw_g (lw_at lw_m5 125 rfl) rfl
theorem q1175 : (Jvm.Cond.classLink "TableArms" (32 : Nat) "TableArms$AsCup") ∈ lw_all := lw_g (lw_at lw_m5 126 rfl) rfl
theorem q1177 : (Jvm.Cond.methodLink "TableArms" (34 : Nat) ({ cls := "TableArms$AsCup", name := "<init>", desc := "(LTableArms;I)V" } : Jvm.MethodName)) ∈ lw_all := lw_g (lw_at lw_m5 128 rfl) rfl
theorem q1194 : (Jvm.Cond.classLink "TableArms" (38 : Nat) "TableArms$AsCloth") ∈ lw_all := lw_g (lw_at lw_m5 145 rfl) rfl
theorem q1196 : (Jvm.Cond.methodLink "TableArms" (40 : Nat) ({ cls := "TableArms$AsCloth", name := "<init>", desc := "(LTableArms;I)V" } : Jvm.MethodName)) ∈ lw_all := lw_g (lw_at lw_m5 147 rfl) rfl
theorem q1206 : (Jvm.Cond.methodLink "TableArms" (41 : Nat) ({ cls := "TableArms", name := "isShut", desc := "(I)Z" } : Jvm.MethodName)) ∈ lw_all := lw_g (lw_at lw_m5 157 rfl) rfl
theorem q1207 : (Jvm.Cond.privateMethod ({ cls := "TableArms", name := "isShut", desc := "(I)Z" } : Jvm.MethodName)) ∈ lw_tbl := lw_at lw_m5 158 rfl
theorem q1208 : (Jvm.Cond.instanceMethod ({ cls := "TableArms", name := "isShut", desc := "(I)Z" } : Jvm.MethodName)) ∈ lw_all := lw_g (lw_at lw_m5 159 rfl) rfl
theorem q1209 : (Jvm.Cond.code ({ cls := "TableArms", name := "isShut", desc := "(I)Z" } : Jvm.MethodName) prog_1_method_3_code (4 : Nat) (Option.some Jvm.ClassFile.FieldType.boolean)) ∈ lw_all := lw_g (lw_at lw_m5 160 rfl) rfl
theorem q1210 : (Jvm.Cond.classLink "TableArms" (45 : Nat) "TableArms$AsShut") ∈ lw_all := lw_g (lw_at lw_m5 161 rfl) rfl
theorem q1212 : (Jvm.Cond.methodLink "TableArms" (47 : Nat) ({ cls := "TableArms$AsShut", name := "<init>", desc := "(LTableArms;I)V" } : Jvm.MethodName)) ∈ lw_all := lw_g (lw_at lw_m5 163 rfl) rfl
theorem q1228 : (Jvm.Cond.classLink "TableArms" (48 : Nat) "TableArms$AsBox") ∈ lw_all := lw_g (lw_at lw_m5 179 rfl) rfl
theorem q1230 : (Jvm.Cond.methodLink "TableArms" (50 : Nat) ({ cls := "TableArms$AsBox", name := "<init>", desc := "(LTableArms;I)V" } : Jvm.MethodName)) ∈ lw_all := lw_g (lw_at lw_m5 181 rfl) rfl
theorem q1235 : (Jvm.Cond.classLink "TableArms" (51 : Nat) "TableArms$AsLid") ∈ lw_all := lw_g (lw_at lw_m5 186 rfl) rfl
theorem q1237 : (Jvm.Cond.methodLink "TableArms" (53 : Nat) ({ cls := "TableArms$AsLid", name := "<init>", desc := "(LTableArms;I)V" } : Jvm.MethodName)) ∈ lw_all := lw_g (lw_at lw_m5 188 rfl) rfl
theorem q1247 : (Jvm.Cond.methodLink "TableArms" (435 : Nat) ({ cls := "TableArms$AsThing", name := "kind", desc := "()I" } : Jvm.MethodName)) ∈ lw_all := lw_g (lw_at lw_m5 198 rfl) rfl
theorem q1267 : (Jvm.Cond.instanceMethod ({ cls := "TableArms", name := "as", desc := "(II)I" } : Jvm.MethodName)) ∈ lw_all := lw_g (lw_at lw_m5 218 rfl) rfl
theorem q1268 : (Jvm.Cond.selects "TableArms" ({ cls := "TableArms", name := "as", desc := "(II)I" } : Jvm.MethodName) ({ cls := "TableArms", name := "as", desc := "(II)I" } : Jvm.MethodName)) ∈ lw_all := lw_g (lw_at lw_m5 219 rfl) rfl
theorem q1269 : (Jvm.Cond.codeWith ({ cls := "TableArms", name := "as", desc := "(II)I" } : Jvm.MethodName) prog_1_method_69_code (5 : Nat) (Option.some Jvm.ClassFile.FieldType.int) [((29 : Nat), (105 : Nat), (106 : Nat), (443 : Nat)), ((23 : Nat), (105 : Nat), (117 : Nat), (114 : Nat)), ((106 : Nat), (117 : Nat), (117 : Nat), (114 : Nat))]) ∈ lw_all := lw_g (lw_at lw_m5 220 rfl) rfl
theorem q1270 : (Jvm.Cond.classLink "TableArms" (443 : Nat) "java/lang/ClassCastException") ∈ lw_all := lw_g (lw_at lw_m5 221 rfl) rfl
theorem q1284 : (Jvm.Cond.constantLong "TableArms" (439 : Nat) (5 : Int64)) ∈ lw_all := lw_g (lw_at lw_m5 235 rfl) rfl
theorem q1285 : (Jvm.Cond.methodLink "TableArms" (441 : Nat) ({ cls := "TableArms$AsThing", name := "number", desc := "()I" } : Jvm.MethodName)) ∈ lw_all := lw_g (lw_at lw_m5 236 rfl) rfl
theorem q1295 : (Jvm.Cond.instanceMethod ({ cls := "TableArms", name := "ask", desc := "(II)I" } : Jvm.MethodName)) ∈ lw_all := lw_g (lw_at lw_m6 6 rfl) rfl
theorem q1296 : (Jvm.Cond.selects "TableArms" ({ cls := "TableArms", name := "ask", desc := "(II)I" } : Jvm.MethodName) ({ cls := "TableArms", name := "ask", desc := "(II)I" } : Jvm.MethodName)) ∈ lw_all := lw_g (lw_at lw_m6 7 rfl) rfl
theorem q1297 : (Jvm.Cond.code ({ cls := "TableArms", name := "ask", desc := "(II)I" } : Jvm.MethodName) prog_1_method_70_code (4 : Nat) (Option.some Jvm.ClassFile.FieldType.int)) ∈ lw_all := lw_g (lw_at lw_m6 8 rfl) rfl
theorem q1298 : (Jvm.Cond.methodLink "TableArms" (445 : Nat) ({ cls := "TableArms$AsThing", name := "size", desc := "(LTableArms$Trail;)I" } : Jvm.MethodName)) ∈ lw_all := lw_g (lw_at lw_m6 9 rfl) rfl
theorem q1384 : (Jvm.Cond.instanceMethod ({ cls := "TableArms", name := "trace", desc := "(I)I" } : Jvm.MethodName)) ∈ lw_all := lw_g (lw_at lw_m6 95 rfl) rfl
theorem q1385 : (Jvm.Cond.selects "TableArms" ({ cls := "TableArms", name := "trace", desc := "(I)I" } : Jvm.MethodName) ({ cls := "TableArms", name := "trace", desc := "(I)I" } : Jvm.MethodName)) ∈ lw_all := lw_g (lw_at lw_m6 96 rfl) rfl
theorem q1386 : (Jvm.Cond.code ({ cls := "TableArms", name := "trace", desc := "(I)I" } : Jvm.MethodName) prog_1_method_71_code (2 : Nat) (Option.some Jvm.ClassFile.FieldType.int)) ∈ lw_all := lw_g (lw_at lw_m6 97 rfl) rfl
theorem q1388 : (Jvm.Cond.instanceMethod ({ cls := "TableArms", name := "count", desc := "(I)I" } : Jvm.MethodName)) ∈ lw_all := lw_g (lw_at lw_m6 99 rfl) rfl
theorem q1389 : (Jvm.Cond.selects "TableArms" ({ cls := "TableArms", name := "count", desc := "(I)I" } : Jvm.MethodName) ({ cls := "TableArms", name := "count", desc := "(I)I" } : Jvm.MethodName)) ∈ lw_all := lw_g (lw_at lw_m6 100 rfl) rfl
theorem q1390 : (Jvm.Cond.code ({ cls := "TableArms", name := "count", desc := "(I)I" } : Jvm.MethodName) prog_1_method_72_code (4 : Nat) (Option.some Jvm.ClassFile.FieldType.int)) ∈ lw_all := lw_g (lw_at lw_m6 101 rfl) rfl
theorem q1392 : (Jvm.Cond.instanceMethod ({ cls := "TableArms", name := "status", desc := "()I" } : Jvm.MethodName)) ∈ lw_all := lw_g (lw_at lw_m6 103 rfl) rfl
theorem q1393 : (Jvm.Cond.selects "TableArms" ({ cls := "TableArms", name := "status", desc := "()I" } : Jvm.MethodName) ({ cls := "TableArms", name := "status", desc := "()I" } : Jvm.MethodName)) ∈ lw_all := lw_g (lw_at lw_m6 104 rfl) rfl
theorem q1394 : (Jvm.Cond.code ({ cls := "TableArms", name := "status", desc := "()I" } : Jvm.MethodName) prog_1_method_73_code (1 : Nat) (Option.some Jvm.ClassFile.FieldType.int)) ∈ lw_all := lw_g (lw_at lw_m6 105 rfl) rfl
theorem q1906 : (Jvm.Cond.castable "TableArms" "java/lang/Object") ∈ lw_tbl := lw_at lw_m8 137 rfl
theorem q1934 : (Jvm.Cond.stringRef "TableArms" (459 : Nat) "cup") ∈ lw_tbl := lw_at lw_m8 165 rfl
theorem q1935 : (Jvm.Cond.stringRef "TableArms" (461 : Nat) "cloth") ∈ lw_tbl := lw_at lw_m8 166 rfl
theorem q1936 : (Jvm.Cond.stringRef "TableArms" (463 : Nat) "box") ∈ lw_tbl := lw_at lw_m8 167 rfl
theorem q1937 : (Jvm.Cond.stringRef "TableArms" (464 : Nat) "lid") ∈ lw_tbl := lw_at lw_m8 168 rfl
theorem q1939 : (Jvm.Cond.stringRef "TableArms" (470 : Nat) "on") ∈ lw_tbl := lw_at lw_m8 170 rfl
theorem q1940 : (Jvm.Cond.stringRef "TableArms" (472 : Nat) "in") ∈ lw_tbl := lw_at lw_m8 171 rfl
theorem q1941 : (Jvm.Cond.stringRef "TableArms" (474 : Nat) "beside") ∈ lw_tbl := lw_at lw_m8 172 rfl
theorem q1942 : (Jvm.Cond.stringRef "TableArms" (476 : Nat) "at") ∈ lw_tbl := lw_at lw_m8 173 rfl
theorem in_X0 : ∀ w ∈ wsX00, w ∈ lw_all := lw_in wsX00 [234, 236, 238, 240, 242, 244, 246, 248, 250, 252, 254, 256, 258, 260, 262, 264, 266, 268, 270, 272] (by decide +kernel) (by decide +kernel)
/-! TableArms$Table -/
set_option maxRecDepth 100000
def RX1 : String := "TableArms$Table"
def TX1 : u_T := fun k => match k with
  | 0 => ("TableArms$Table", "pile", "[I", true)
  | 1 => ("TableArms$Table", "high", "[I", true)
  | 2 => ("TableArms$Table", "cell", "[I", true)
  | 3 => ("TableArms$Table", "box", "[I", true)
  | _ => ("TableArms$Table", "holds", "[I", true)
def tyX1 : Nat → FieldType := fun k => match k with
  | 0 => .array .int
  | 1 => .array .int
  | 2 => .array .int
  | 3 => .array .int
  | _ => .array .int
abbrev wsX10 : List Cond := u_ws RX1 TX1 5
theorem nmX1 : ∀ a, a < 5 → ∀ b, b < 5 → a ≠ b → (TX1 a).2.1 ≠ (TX1 b).2.1 := by decide +kernel
theorem tyX1_ok : ∀ k, k < 5 → parseFieldDescriptor (TX1 k).2.2.1 = some (tyX1 k) := by decide +kernel
abbrev cX1_init : ByteArray := prog_15_method_1_code
def yX1_init : MethodName := ⟨RX1, "<init>", "()V"⟩
def dkwX1_init_1 : List UInt8 := [188, 10, 181, 0, 18, 42, 16, 6, 188, 10, 181, 0, 21, 42, 16, 6, 188, 10, 181, 0, 24, 177]
abbrev dktX1_init_1 : List UInt8 := dkwX1_init_1 ++ []
def dkwX1_init_0 : List UInt8 := [42, 183, 0, 3, 42, 16, 48, 188, 10, 181, 0, 9, 42, 16, 8, 188, 10, 181, 0, 15, 42, 16, 6]
abbrev dktX1_init_0 : List UInt8 := dkwX1_init_0 ++ dktX1_init_1
theorem dksX1_init_0 : cX1_init.data.toList.drop 0 = dktX1_init_0 := by decide +kernel
theorem dksX1_init_1 : cX1_init.data.toList.drop 23 = dktX1_init_1 := dk_seg dksX1_init_0 23 rfl rfl
theorem dX1_init_0 : decode cX1_init 0 = .ok (.aload_n 0, 1) := dk_42 (dk_at dksX1_init_0 0 rfl rfl)
theorem dX1_init_1 : decode cX1_init 1 = .ok (.invokespecial 3, 3) := dk_183 0 3 (dk_at dksX1_init_0 1 rfl rfl)
theorem dX1_init_4 : decode cX1_init 4 = .ok (.aload_n 0, 1) := dk_42 (dk_at dksX1_init_0 4 rfl rfl)
theorem dX1_init_5 : decode cX1_init 5 = .ok (.bipush 48, 2) := dk_16 48 (dk_at dksX1_init_0 5 rfl rfl)
theorem dX1_init_7 : decode cX1_init 7 = .ok (.newarray .int, 2) := dk_188_10 (dk_at dksX1_init_0 7 rfl rfl)
theorem dX1_init_9 : decode cX1_init 9 = .ok (.putfield 9, 3) := dk_181 0 9 (dk_at dksX1_init_0 9 rfl rfl)
theorem dX1_init_12 : decode cX1_init 12 = .ok (.aload_n 0, 1) := dk_42 (dk_at dksX1_init_0 12 rfl rfl)
theorem dX1_init_13 : decode cX1_init 13 = .ok (.bipush 8, 2) := dk_16 8 (dk_at dksX1_init_0 13 rfl rfl)
theorem dX1_init_15 : decode cX1_init 15 = .ok (.newarray .int, 2) := dk_188_10 (dk_at dksX1_init_0 15 rfl rfl)
theorem dX1_init_17 : decode cX1_init 17 = .ok (.putfield 15, 3) := dk_181 0 15 (dk_at dksX1_init_0 17 rfl rfl)
theorem dX1_init_20 : decode cX1_init 20 = .ok (.aload_n 0, 1) := dk_42 (dk_at dksX1_init_0 20 rfl rfl)
theorem dX1_init_21 : decode cX1_init 21 = .ok (.bipush 6, 2) := dk_16 6 (dk_at dksX1_init_0 21 rfl rfl)
theorem dX1_init_23 : decode cX1_init 23 = .ok (.newarray .int, 2) := dk_188_10 (dk_at dksX1_init_1 0 rfl rfl)
theorem dX1_init_25 : decode cX1_init 25 = .ok (.putfield 18, 3) := dk_181 0 18 (dk_at dksX1_init_1 2 rfl rfl)
theorem dX1_init_28 : decode cX1_init 28 = .ok (.aload_n 0, 1) := dk_42 (dk_at dksX1_init_1 5 rfl rfl)
theorem dX1_init_29 : decode cX1_init 29 = .ok (.bipush 6, 2) := dk_16 6 (dk_at dksX1_init_1 6 rfl rfl)
theorem dX1_init_31 : decode cX1_init 31 = .ok (.newarray .int, 2) := dk_188_10 (dk_at dksX1_init_1 8 rfl rfl)
theorem dX1_init_33 : decode cX1_init 33 = .ok (.putfield 21, 3) := dk_181 0 21 (dk_at dksX1_init_1 10 rfl rfl)
theorem dX1_init_36 : decode cX1_init 36 = .ok (.aload_n 0, 1) := dk_42 (dk_at dksX1_init_1 13 rfl rfl)
theorem dX1_init_37 : decode cX1_init 37 = .ok (.bipush 6, 2) := dk_16 6 (dk_at dksX1_init_1 14 rfl rfl)
theorem dX1_init_39 : decode cX1_init 39 = .ok (.newarray .int, 2) := dk_188_10 (dk_at dksX1_init_1 16 rfl rfl)
theorem dX1_init_41 : decode cX1_init 41 = .ok (.putfield 24, 3) := dk_181 0 24 (dk_at dksX1_init_1 18 rfl rfl)
theorem dX1_init_44 : decode cX1_init 44 = .ok (.return_, 1) := dk_177 (dk_at dksX1_init_1 21 rfl rfl)
abbrev cX1_begin : ByteArray := prog_15_method_5_code
def yX1_begin : MethodName := ⟨RX1, "begin", "(II)V"⟩
def dkwX1_begin_0 : List UInt8 := [42, 180, 0, 24, 27, 18, 33, 79, 42, 27, 28, 182, 0, 34, 177]
abbrev dktX1_begin_0 : List UInt8 := dkwX1_begin_0 ++ []
theorem dksX1_begin_0 : cX1_begin.data.toList.drop 0 = dktX1_begin_0 := by decide +kernel
theorem dX1_begin_0 : decode cX1_begin 0 = .ok (.aload_n 0, 1) := dk_42 (dk_at dksX1_begin_0 0 rfl rfl)
theorem dX1_begin_1 : decode cX1_begin 1 = .ok (.getfield 24, 3) := dk_180 0 24 (dk_at dksX1_begin_0 1 rfl rfl)
theorem dX1_begin_4 : decode cX1_begin 4 = .ok (.iload_n 1, 1) := dk_27 (dk_at dksX1_begin_0 4 rfl rfl)
theorem dX1_begin_5 : decode cX1_begin 5 = .ok (.ldc 33, 2) := dk_18 33 (dk_at dksX1_begin_0 5 rfl rfl)
theorem dX1_begin_7 : decode cX1_begin 7 = .ok (.iastore, 1) := dk_79 (dk_at dksX1_begin_0 7 rfl rfl)
theorem dX1_begin_8 : decode cX1_begin 8 = .ok (.aload_n 0, 1) := dk_42 (dk_at dksX1_begin_0 8 rfl rfl)
theorem dX1_begin_9 : decode cX1_begin 9 = .ok (.iload_n 1, 1) := dk_27 (dk_at dksX1_begin_0 9 rfl rfl)
theorem dX1_begin_10 : decode cX1_begin 10 = .ok (.iload_n 2, 1) := dk_28 (dk_at dksX1_begin_0 10 rfl rfl)
theorem dX1_begin_11 : decode cX1_begin 11 = .ok (.invokevirtual 34, 3) := dk_182 0 34 (dk_at dksX1_begin_0 11 rfl rfl)
theorem dX1_begin_14 : decode cX1_begin 14 = .ok (.return_, 1) := dk_177 (dk_at dksX1_begin_0 14 rfl rfl)
abbrev cX1_push : ByteArray := prog_15_method_4_code
def yX1_push : MethodName := ⟨RX1, "push", "(II)V"⟩
def dkwX1_push_1 : List UInt8 := [180, 0, 18, 27, 28, 79, 42, 180, 0, 21, 27, 18, 33, 79, 177]
abbrev dktX1_push_1 : List UInt8 := dkwX1_push_1 ++ []
def dkwX1_push_0 : List UInt8 := [42, 180, 0, 9, 16, 6, 28, 104, 42, 180, 0, 15, 28, 92, 46, 91, 4, 96, 79, 96, 27, 79, 42]
abbrev dktX1_push_0 : List UInt8 := dkwX1_push_0 ++ dktX1_push_1
theorem dksX1_push_0 : cX1_push.data.toList.drop 0 = dktX1_push_0 := by decide +kernel
theorem dksX1_push_1 : cX1_push.data.toList.drop 23 = dktX1_push_1 := dk_seg dksX1_push_0 23 rfl rfl
theorem dX1_push_0 : decode cX1_push 0 = .ok (.aload_n 0, 1) := dk_42 (dk_at dksX1_push_0 0 rfl rfl)
theorem dX1_push_1 : decode cX1_push 1 = .ok (.getfield 9, 3) := dk_180 0 9 (dk_at dksX1_push_0 1 rfl rfl)
theorem dX1_push_4 : decode cX1_push 4 = .ok (.bipush 6, 2) := dk_16 6 (dk_at dksX1_push_0 4 rfl rfl)
theorem dX1_push_6 : decode cX1_push 6 = .ok (.iload_n 2, 1) := dk_28 (dk_at dksX1_push_0 6 rfl rfl)
theorem dX1_push_7 : decode cX1_push 7 = .ok (.imul, 1) := dk_104 (dk_at dksX1_push_0 7 rfl rfl)
theorem dX1_push_8 : decode cX1_push 8 = .ok (.aload_n 0, 1) := dk_42 (dk_at dksX1_push_0 8 rfl rfl)
theorem dX1_push_9 : decode cX1_push 9 = .ok (.getfield 15, 3) := dk_180 0 15 (dk_at dksX1_push_0 9 rfl rfl)
theorem dX1_push_12 : decode cX1_push 12 = .ok (.iload_n 2, 1) := dk_28 (dk_at dksX1_push_0 12 rfl rfl)
theorem dX1_push_13 : decode cX1_push 13 = .ok (.dup2, 1) := dk_92 (dk_at dksX1_push_0 13 rfl rfl)
theorem dX1_push_14 : decode cX1_push 14 = .ok (.iaload, 1) := dk_46 (dk_at dksX1_push_0 14 rfl rfl)
theorem dX1_push_15 : decode cX1_push 15 = .ok (.dup_x2, 1) := dk_91 (dk_at dksX1_push_0 15 rfl rfl)
theorem dX1_push_16 : decode cX1_push 16 = .ok (.iconst 1, 1) := dk_4 (dk_at dksX1_push_0 16 rfl rfl)
theorem dX1_push_17 : decode cX1_push 17 = .ok (.iadd, 1) := dk_96 (dk_at dksX1_push_0 17 rfl rfl)
theorem dX1_push_18 : decode cX1_push 18 = .ok (.iastore, 1) := dk_79 (dk_at dksX1_push_0 18 rfl rfl)
theorem dX1_push_19 : decode cX1_push 19 = .ok (.iadd, 1) := dk_96 (dk_at dksX1_push_0 19 rfl rfl)
theorem dX1_push_20 : decode cX1_push 20 = .ok (.iload_n 1, 1) := dk_27 (dk_at dksX1_push_0 20 rfl rfl)
theorem dX1_push_21 : decode cX1_push 21 = .ok (.iastore, 1) := dk_79 (dk_at dksX1_push_0 21 rfl rfl)
theorem dX1_push_22 : decode cX1_push 22 = .ok (.aload_n 0, 1) := dk_42 (dk_at dksX1_push_0 22 rfl rfl)
theorem dX1_push_23 : decode cX1_push 23 = .ok (.getfield 18, 3) := dk_180 0 18 (dk_at dksX1_push_1 0 rfl rfl)
theorem dX1_push_26 : decode cX1_push 26 = .ok (.iload_n 1, 1) := dk_27 (dk_at dksX1_push_1 3 rfl rfl)
theorem dX1_push_27 : decode cX1_push 27 = .ok (.iload_n 2, 1) := dk_28 (dk_at dksX1_push_1 4 rfl rfl)
theorem dX1_push_28 : decode cX1_push 28 = .ok (.iastore, 1) := dk_79 (dk_at dksX1_push_1 5 rfl rfl)
theorem dX1_push_29 : decode cX1_push 29 = .ok (.aload_n 0, 1) := dk_42 (dk_at dksX1_push_1 6 rfl rfl)
theorem dX1_push_30 : decode cX1_push 30 = .ok (.getfield 21, 3) := dk_180 0 21 (dk_at dksX1_push_1 7 rfl rfl)
theorem dX1_push_33 : decode cX1_push 33 = .ok (.iload_n 1, 1) := dk_27 (dk_at dksX1_push_1 10 rfl rfl)
theorem dX1_push_34 : decode cX1_push 34 = .ok (.ldc 33, 2) := dk_18 33 (dk_at dksX1_push_1 11 rfl rfl)
theorem dX1_push_36 : decode cX1_push 36 = .ok (.iastore, 1) := dk_79 (dk_at dksX1_push_1 13 rfl rfl)
theorem dX1_push_37 : decode cX1_push 37 = .ok (.return_, 1) := dk_177 (dk_at dksX1_push_1 14 rfl rfl)
abbrev cX1_cellOf : ByteArray := prog_15_method_8_code
def yX1_cellOf : MethodName := ⟨RX1, "cellOf", "(I)I"⟩
def dkwX1_cellOf_1 : List UInt8 := [42, 180, 0, 21, 27, 46, 46, 172]
abbrev dktX1_cellOf_1 : List UInt8 := dkwX1_cellOf_1 ++ []
def dkwX1_cellOf_0 : List UInt8 := [42, 180, 0, 21, 27, 46, 18, 33, 160, 0, 12, 42, 180, 0, 18, 27, 46, 167, 0, 14, 42, 180, 0, 18]
abbrev dktX1_cellOf_0 : List UInt8 := dkwX1_cellOf_0 ++ dktX1_cellOf_1
theorem dksX1_cellOf_0 : cX1_cellOf.data.toList.drop 0 = dktX1_cellOf_0 := by decide +kernel
theorem dksX1_cellOf_1 : cX1_cellOf.data.toList.drop 24 = dktX1_cellOf_1 := dk_seg dksX1_cellOf_0 24 rfl rfl
theorem dX1_cellOf_0 : decode cX1_cellOf 0 = .ok (.aload_n 0, 1) := dk_42 (dk_at dksX1_cellOf_0 0 rfl rfl)
theorem dX1_cellOf_1 : decode cX1_cellOf 1 = .ok (.getfield 21, 3) := dk_180 0 21 (dk_at dksX1_cellOf_0 1 rfl rfl)
theorem dX1_cellOf_4 : decode cX1_cellOf 4 = .ok (.iload_n 1, 1) := dk_27 (dk_at dksX1_cellOf_0 4 rfl rfl)
theorem dX1_cellOf_5 : decode cX1_cellOf 5 = .ok (.iaload, 1) := dk_46 (dk_at dksX1_cellOf_0 5 rfl rfl)
theorem dX1_cellOf_6 : decode cX1_cellOf 6 = .ok (.ldc 33, 2) := dk_18 33 (dk_at dksX1_cellOf_0 6 rfl rfl)
theorem dX1_cellOf_8 : decode cX1_cellOf 8 = .ok (.if_icmp .ne 12, 3) := dk_160 0 12 (dk_at dksX1_cellOf_0 8 rfl rfl)
theorem dX1_cellOf_11 : decode cX1_cellOf 11 = .ok (.aload_n 0, 1) := dk_42 (dk_at dksX1_cellOf_0 11 rfl rfl)
theorem dX1_cellOf_12 : decode cX1_cellOf 12 = .ok (.getfield 18, 3) := dk_180 0 18 (dk_at dksX1_cellOf_0 12 rfl rfl)
theorem dX1_cellOf_15 : decode cX1_cellOf 15 = .ok (.iload_n 1, 1) := dk_27 (dk_at dksX1_cellOf_0 15 rfl rfl)
theorem dX1_cellOf_16 : decode cX1_cellOf 16 = .ok (.iaload, 1) := dk_46 (dk_at dksX1_cellOf_0 16 rfl rfl)
theorem dX1_cellOf_17 : decode cX1_cellOf 17 = .ok (.goto 14, 3) := dk_167 0 14 (dk_at dksX1_cellOf_0 17 rfl rfl)
theorem dX1_cellOf_20 : decode cX1_cellOf 20 = .ok (.aload_n 0, 1) := dk_42 (dk_at dksX1_cellOf_0 20 rfl rfl)
theorem dX1_cellOf_21 : decode cX1_cellOf 21 = .ok (.getfield 18, 3) := dk_180 0 18 (dk_at dksX1_cellOf_0 21 rfl rfl)
theorem dX1_cellOf_24 : decode cX1_cellOf 24 = .ok (.aload_n 0, 1) := dk_42 (dk_at dksX1_cellOf_1 0 rfl rfl)
theorem dX1_cellOf_25 : decode cX1_cellOf 25 = .ok (.getfield 21, 3) := dk_180 0 21 (dk_at dksX1_cellOf_1 1 rfl rfl)
theorem dX1_cellOf_28 : decode cX1_cellOf 28 = .ok (.iload_n 1, 1) := dk_27 (dk_at dksX1_cellOf_1 4 rfl rfl)
theorem dX1_cellOf_29 : decode cX1_cellOf 29 = .ok (.iaload, 1) := dk_46 (dk_at dksX1_cellOf_1 5 rfl rfl)
theorem dX1_cellOf_30 : decode cX1_cellOf 30 = .ok (.iaload, 1) := dk_46 (dk_at dksX1_cellOf_1 6 rfl rfl)
theorem dX1_cellOf_31 : decode cX1_cellOf 31 = .ok (.ireturn, 1) := dk_172 (dk_at dksX1_cellOf_1 7 rfl rfl)
abbrev cX1_below : ByteArray := prog_15_method_9_code
def yX1_below : MethodName := ⟨RX1, "below", "(I)I"⟩
def dkwX1_below_1 : List UInt8 := [172]
abbrev dktX1_below_1 : List UInt8 := dkwX1_below_1 ++ []
def dkwX1_below_0 : List UInt8 := [3, 61, 42, 42, 180, 0, 18, 27, 46, 28, 182, 0, 38, 27, 159, 0, 9, 132, 2, 1, 167, 255, 238, 28]
abbrev dktX1_below_0 : List UInt8 := dkwX1_below_0 ++ dktX1_below_1
theorem dksX1_below_0 : cX1_below.data.toList.drop 0 = dktX1_below_0 := by decide +kernel
theorem dksX1_below_1 : cX1_below.data.toList.drop 24 = dktX1_below_1 := dk_seg dksX1_below_0 24 rfl rfl
theorem dX1_below_0 : decode cX1_below 0 = .ok (.iconst 0, 1) := dk_3 (dk_at dksX1_below_0 0 rfl rfl)
theorem dX1_below_1 : decode cX1_below 1 = .ok (.istore_n 2, 1) := dk_61 (dk_at dksX1_below_0 1 rfl rfl)
theorem dX1_below_2 : decode cX1_below 2 = .ok (.aload_n 0, 1) := dk_42 (dk_at dksX1_below_0 2 rfl rfl)
theorem dX1_below_3 : decode cX1_below 3 = .ok (.aload_n 0, 1) := dk_42 (dk_at dksX1_below_0 3 rfl rfl)
theorem dX1_below_4 : decode cX1_below 4 = .ok (.getfield 18, 3) := dk_180 0 18 (dk_at dksX1_below_0 4 rfl rfl)
theorem dX1_below_7 : decode cX1_below 7 = .ok (.iload_n 1, 1) := dk_27 (dk_at dksX1_below_0 7 rfl rfl)
theorem dX1_below_8 : decode cX1_below 8 = .ok (.iaload, 1) := dk_46 (dk_at dksX1_below_0 8 rfl rfl)
theorem dX1_below_9 : decode cX1_below 9 = .ok (.iload_n 2, 1) := dk_28 (dk_at dksX1_below_0 9 rfl rfl)
theorem dX1_below_10 : decode cX1_below 10 = .ok (.invokevirtual 38, 3) := dk_182 0 38 (dk_at dksX1_below_0 10 rfl rfl)
theorem dX1_below_13 : decode cX1_below 13 = .ok (.iload_n 1, 1) := dk_27 (dk_at dksX1_below_0 13 rfl rfl)
theorem dX1_below_14 : decode cX1_below 14 = .ok (.if_icmp .eq 9, 3) := dk_159 0 9 (dk_at dksX1_below_0 14 rfl rfl)
theorem dX1_below_17 : decode cX1_below 17 = .ok (.iinc 2 1, 3) := dk_132 2 1 (dk_at dksX1_below_0 17 rfl rfl)
theorem dX1_below_20 : decode cX1_below 20 = .ok (.goto (-18), 3) := dk_167 255 238 (dk_at dksX1_below_0 20 rfl rfl)
theorem dX1_below_23 : decode cX1_below 23 = .ok (.iload_n 2, 1) := dk_28 (dk_at dksX1_below_0 23 rfl rfl)
theorem dX1_below_24 : decode cX1_below 24 = .ok (.ireturn, 1) := dk_172 (dk_at dksX1_below_1 0 rfl rfl)
abbrev cX1_at : ByteArray := prog_15_method_3_code
def yX1_at : MethodName := ⟨RX1, "at", "(II)I"⟩
def dkwX1_at_0 : List UInt8 := [42, 180, 0, 9, 16, 6, 27, 104, 28, 96, 46, 172]
abbrev dktX1_at_0 : List UInt8 := dkwX1_at_0 ++ []
theorem dksX1_at_0 : cX1_at.data.toList.drop 0 = dktX1_at_0 := by decide +kernel
theorem dX1_at_0 : decode cX1_at 0 = .ok (.aload_n 0, 1) := dk_42 (dk_at dksX1_at_0 0 rfl rfl)
theorem dX1_at_1 : decode cX1_at 1 = .ok (.getfield 9, 3) := dk_180 0 9 (dk_at dksX1_at_0 1 rfl rfl)
theorem dX1_at_4 : decode cX1_at 4 = .ok (.bipush 6, 2) := dk_16 6 (dk_at dksX1_at_0 4 rfl rfl)
theorem dX1_at_6 : decode cX1_at 6 = .ok (.iload_n 1, 1) := dk_27 (dk_at dksX1_at_0 6 rfl rfl)
theorem dX1_at_7 : decode cX1_at 7 = .ok (.imul, 1) := dk_104 (dk_at dksX1_at_0 7 rfl rfl)
theorem dX1_at_8 : decode cX1_at 8 = .ok (.iload_n 2, 1) := dk_28 (dk_at dksX1_at_0 8 rfl rfl)
theorem dX1_at_9 : decode cX1_at 9 = .ok (.iadd, 1) := dk_96 (dk_at dksX1_at_0 9 rfl rfl)
theorem dX1_at_10 : decode cX1_at 10 = .ok (.iaload, 1) := dk_46 (dk_at dksX1_at_0 10 rfl rfl)
theorem dX1_at_11 : decode cX1_at 11 = .ok (.ireturn, 1) := dk_172 (dk_at dksX1_at_0 11 rfl rfl)
abbrev cX1_isClear : ByteArray := prog_15_method_6_code
def yX1_isClear : MethodName := ⟨RX1, "isClear", "(I)Z"⟩
def dkwX1_isClear_1 : List UInt8 := [180, 0, 18, 27, 46, 46, 4, 100, 182, 0, 38, 27, 160, 0, 7, 4, 167, 0, 4, 3, 172]
abbrev dktX1_isClear_1 : List UInt8 := dkwX1_isClear_1 ++ []
def dkwX1_isClear_0 : List UInt8 := [42, 180, 0, 18, 27, 46, 18, 33, 159, 0, 34, 42, 42, 180, 0, 18, 27, 46, 42, 180, 0, 15, 42]
abbrev dktX1_isClear_0 : List UInt8 := dkwX1_isClear_0 ++ dktX1_isClear_1
theorem dksX1_isClear_0 : cX1_isClear.data.toList.drop 0 = dktX1_isClear_0 := by decide +kernel
theorem dksX1_isClear_1 : cX1_isClear.data.toList.drop 23 = dktX1_isClear_1 := dk_seg dksX1_isClear_0 23 rfl rfl
theorem dX1_isClear_0 : decode cX1_isClear 0 = .ok (.aload_n 0, 1) := dk_42 (dk_at dksX1_isClear_0 0 rfl rfl)
theorem dX1_isClear_1 : decode cX1_isClear 1 = .ok (.getfield 18, 3) := dk_180 0 18 (dk_at dksX1_isClear_0 1 rfl rfl)
theorem dX1_isClear_4 : decode cX1_isClear 4 = .ok (.iload_n 1, 1) := dk_27 (dk_at dksX1_isClear_0 4 rfl rfl)
theorem dX1_isClear_5 : decode cX1_isClear 5 = .ok (.iaload, 1) := dk_46 (dk_at dksX1_isClear_0 5 rfl rfl)
theorem dX1_isClear_6 : decode cX1_isClear 6 = .ok (.ldc 33, 2) := dk_18 33 (dk_at dksX1_isClear_0 6 rfl rfl)
theorem dX1_isClear_8 : decode cX1_isClear 8 = .ok (.if_icmp .eq 34, 3) := dk_159 0 34 (dk_at dksX1_isClear_0 8 rfl rfl)
theorem dX1_isClear_11 : decode cX1_isClear 11 = .ok (.aload_n 0, 1) := dk_42 (dk_at dksX1_isClear_0 11 rfl rfl)
theorem dX1_isClear_12 : decode cX1_isClear 12 = .ok (.aload_n 0, 1) := dk_42 (dk_at dksX1_isClear_0 12 rfl rfl)
theorem dX1_isClear_13 : decode cX1_isClear 13 = .ok (.getfield 18, 3) := dk_180 0 18 (dk_at dksX1_isClear_0 13 rfl rfl)
theorem dX1_isClear_16 : decode cX1_isClear 16 = .ok (.iload_n 1, 1) := dk_27 (dk_at dksX1_isClear_0 16 rfl rfl)
theorem dX1_isClear_17 : decode cX1_isClear 17 = .ok (.iaload, 1) := dk_46 (dk_at dksX1_isClear_0 17 rfl rfl)
theorem dX1_isClear_18 : decode cX1_isClear 18 = .ok (.aload_n 0, 1) := dk_42 (dk_at dksX1_isClear_0 18 rfl rfl)
theorem dX1_isClear_19 : decode cX1_isClear 19 = .ok (.getfield 15, 3) := dk_180 0 15 (dk_at dksX1_isClear_0 19 rfl rfl)
theorem dX1_isClear_22 : decode cX1_isClear 22 = .ok (.aload_n 0, 1) := dk_42 (dk_at dksX1_isClear_0 22 rfl rfl)
theorem dX1_isClear_23 : decode cX1_isClear 23 = .ok (.getfield 18, 3) := dk_180 0 18 (dk_at dksX1_isClear_1 0 rfl rfl)
theorem dX1_isClear_26 : decode cX1_isClear 26 = .ok (.iload_n 1, 1) := dk_27 (dk_at dksX1_isClear_1 3 rfl rfl)
theorem dX1_isClear_27 : decode cX1_isClear 27 = .ok (.iaload, 1) := dk_46 (dk_at dksX1_isClear_1 4 rfl rfl)
theorem dX1_isClear_28 : decode cX1_isClear 28 = .ok (.iaload, 1) := dk_46 (dk_at dksX1_isClear_1 5 rfl rfl)
theorem dX1_isClear_29 : decode cX1_isClear 29 = .ok (.iconst 1, 1) := dk_4 (dk_at dksX1_isClear_1 6 rfl rfl)
theorem dX1_isClear_30 : decode cX1_isClear 30 = .ok (.isub, 1) := dk_100 (dk_at dksX1_isClear_1 7 rfl rfl)
theorem dX1_isClear_31 : decode cX1_isClear 31 = .ok (.invokevirtual 38, 3) := dk_182 0 38 (dk_at dksX1_isClear_1 8 rfl rfl)
theorem dX1_isClear_34 : decode cX1_isClear 34 = .ok (.iload_n 1, 1) := dk_27 (dk_at dksX1_isClear_1 11 rfl rfl)
theorem dX1_isClear_35 : decode cX1_isClear 35 = .ok (.if_icmp .ne 7, 3) := dk_160 0 7 (dk_at dksX1_isClear_1 12 rfl rfl)
theorem dX1_isClear_38 : decode cX1_isClear 38 = .ok (.iconst 1, 1) := dk_4 (dk_at dksX1_isClear_1 15 rfl rfl)
theorem dX1_isClear_39 : decode cX1_isClear 39 = .ok (.goto 4, 3) := dk_167 0 4 (dk_at dksX1_isClear_1 16 rfl rfl)
theorem dX1_isClear_42 : decode cX1_isClear 42 = .ok (.iconst 0, 1) := dk_3 (dk_at dksX1_isClear_1 19 rfl rfl)
theorem dX1_isClear_43 : decode cX1_isClear 43 = .ok (.ireturn, 1) := dk_172 (dk_at dksX1_isClear_1 20 rfl rfl)
abbrev cX1_isLoose : ByteArray := prog_15_method_7_code
def yX1_isLoose : MethodName := ⟨RX1, "isLoose", "(I)Z"⟩
def dkwX1_isLoose_1 : List UInt8 := [27, 46, 182, 0, 42, 172]
abbrev dktX1_isLoose_1 : List UInt8 := dkwX1_isLoose_1 ++ []
def dkwX1_isLoose_0 : List UInt8 := [42, 180, 0, 21, 27, 46, 18, 33, 160, 0, 11, 42, 27, 182, 0, 42, 167, 0, 13, 42, 42, 180, 0, 21]
abbrev dktX1_isLoose_0 : List UInt8 := dkwX1_isLoose_0 ++ dktX1_isLoose_1
theorem dksX1_isLoose_0 : cX1_isLoose.data.toList.drop 0 = dktX1_isLoose_0 := by decide +kernel
theorem dksX1_isLoose_1 : cX1_isLoose.data.toList.drop 24 = dktX1_isLoose_1 := dk_seg dksX1_isLoose_0 24 rfl rfl
theorem dX1_isLoose_0 : decode cX1_isLoose 0 = .ok (.aload_n 0, 1) := dk_42 (dk_at dksX1_isLoose_0 0 rfl rfl)
theorem dX1_isLoose_1 : decode cX1_isLoose 1 = .ok (.getfield 21, 3) := dk_180 0 21 (dk_at dksX1_isLoose_0 1 rfl rfl)
theorem dX1_isLoose_4 : decode cX1_isLoose 4 = .ok (.iload_n 1, 1) := dk_27 (dk_at dksX1_isLoose_0 4 rfl rfl)
theorem dX1_isLoose_5 : decode cX1_isLoose 5 = .ok (.iaload, 1) := dk_46 (dk_at dksX1_isLoose_0 5 rfl rfl)
theorem dX1_isLoose_6 : decode cX1_isLoose 6 = .ok (.ldc 33, 2) := dk_18 33 (dk_at dksX1_isLoose_0 6 rfl rfl)
theorem dX1_isLoose_8 : decode cX1_isLoose 8 = .ok (.if_icmp .ne 11, 3) := dk_160 0 11 (dk_at dksX1_isLoose_0 8 rfl rfl)
theorem dX1_isLoose_11 : decode cX1_isLoose 11 = .ok (.aload_n 0, 1) := dk_42 (dk_at dksX1_isLoose_0 11 rfl rfl)
theorem dX1_isLoose_12 : decode cX1_isLoose 12 = .ok (.iload_n 1, 1) := dk_27 (dk_at dksX1_isLoose_0 12 rfl rfl)
theorem dX1_isLoose_13 : decode cX1_isLoose 13 = .ok (.invokevirtual 42, 3) := dk_182 0 42 (dk_at dksX1_isLoose_0 13 rfl rfl)
theorem dX1_isLoose_16 : decode cX1_isLoose 16 = .ok (.goto 13, 3) := dk_167 0 13 (dk_at dksX1_isLoose_0 16 rfl rfl)
theorem dX1_isLoose_19 : decode cX1_isLoose 19 = .ok (.aload_n 0, 1) := dk_42 (dk_at dksX1_isLoose_0 19 rfl rfl)
theorem dX1_isLoose_20 : decode cX1_isLoose 20 = .ok (.aload_n 0, 1) := dk_42 (dk_at dksX1_isLoose_0 20 rfl rfl)
theorem dX1_isLoose_21 : decode cX1_isLoose 21 = .ok (.getfield 21, 3) := dk_180 0 21 (dk_at dksX1_isLoose_0 21 rfl rfl)
theorem dX1_isLoose_24 : decode cX1_isLoose 24 = .ok (.iload_n 1, 1) := dk_27 (dk_at dksX1_isLoose_1 0 rfl rfl)
theorem dX1_isLoose_25 : decode cX1_isLoose 25 = .ok (.iaload, 1) := dk_46 (dk_at dksX1_isLoose_1 1 rfl rfl)
theorem dX1_isLoose_26 : decode cX1_isLoose 26 = .ok (.invokevirtual 42, 3) := dk_182 0 42 (dk_at dksX1_isLoose_1 2 rfl rfl)
theorem dX1_isLoose_29 : decode cX1_isLoose 29 = .ok (.ireturn, 1) := dk_172 (dk_at dksX1_isLoose_1 5 rfl rfl)
abbrev cX1_isFor : ByteArray := prog_15_method_12_code
def yX1_isFor : MethodName := ⟨RX1, "isFor", "(II)Z"⟩
def dkwX1_isFor_1 : List UInt8 := [42, 180, 0, 24, 27, 46, 18, 33, 160, 0, 7, 4, 167, 0, 4, 3, 172]
abbrev dktX1_isFor_1 : List UInt8 := dkwX1_isFor_1 ++ []
def dkwX1_isFor_0 : List UInt8 := [28, 27, 159, 0, 37, 42, 28, 182, 0, 42, 153, 0, 29, 42, 180, 0, 24, 28, 46, 18, 33, 160, 0, 18]
abbrev dktX1_isFor_0 : List UInt8 := dkwX1_isFor_0 ++ dktX1_isFor_1
theorem dksX1_isFor_0 : cX1_isFor.data.toList.drop 0 = dktX1_isFor_0 := by decide +kernel
theorem dksX1_isFor_1 : cX1_isFor.data.toList.drop 24 = dktX1_isFor_1 := dk_seg dksX1_isFor_0 24 rfl rfl
theorem dX1_isFor_0 : decode cX1_isFor 0 = .ok (.iload_n 2, 1) := dk_28 (dk_at dksX1_isFor_0 0 rfl rfl)
theorem dX1_isFor_1 : decode cX1_isFor 1 = .ok (.iload_n 1, 1) := dk_27 (dk_at dksX1_isFor_0 1 rfl rfl)
theorem dX1_isFor_2 : decode cX1_isFor 2 = .ok (.if_icmp .eq 37, 3) := dk_159 0 37 (dk_at dksX1_isFor_0 2 rfl rfl)
theorem dX1_isFor_5 : decode cX1_isFor 5 = .ok (.aload_n 0, 1) := dk_42 (dk_at dksX1_isFor_0 5 rfl rfl)
theorem dX1_isFor_6 : decode cX1_isFor 6 = .ok (.iload_n 2, 1) := dk_28 (dk_at dksX1_isFor_0 6 rfl rfl)
theorem dX1_isFor_7 : decode cX1_isFor 7 = .ok (.invokevirtual 42, 3) := dk_182 0 42 (dk_at dksX1_isFor_0 7 rfl rfl)
theorem dX1_isFor_10 : decode cX1_isFor 10 = .ok (.ifCond .eq 29, 3) := dk_153 0 29 (dk_at dksX1_isFor_0 10 rfl rfl)
theorem dX1_isFor_13 : decode cX1_isFor 13 = .ok (.aload_n 0, 1) := dk_42 (dk_at dksX1_isFor_0 13 rfl rfl)
theorem dX1_isFor_14 : decode cX1_isFor 14 = .ok (.getfield 24, 3) := dk_180 0 24 (dk_at dksX1_isFor_0 14 rfl rfl)
theorem dX1_isFor_17 : decode cX1_isFor 17 = .ok (.iload_n 2, 1) := dk_28 (dk_at dksX1_isFor_0 17 rfl rfl)
theorem dX1_isFor_18 : decode cX1_isFor 18 = .ok (.iaload, 1) := dk_46 (dk_at dksX1_isFor_0 18 rfl rfl)
theorem dX1_isFor_19 : decode cX1_isFor 19 = .ok (.ldc 33, 2) := dk_18 33 (dk_at dksX1_isFor_0 19 rfl rfl)
theorem dX1_isFor_21 : decode cX1_isFor 21 = .ok (.if_icmp .ne 18, 3) := dk_160 0 18 (dk_at dksX1_isFor_0 21 rfl rfl)
theorem dX1_isFor_24 : decode cX1_isFor 24 = .ok (.aload_n 0, 1) := dk_42 (dk_at dksX1_isFor_1 0 rfl rfl)
theorem dX1_isFor_25 : decode cX1_isFor 25 = .ok (.getfield 24, 3) := dk_180 0 24 (dk_at dksX1_isFor_1 1 rfl rfl)
theorem dX1_isFor_28 : decode cX1_isFor 28 = .ok (.iload_n 1, 1) := dk_27 (dk_at dksX1_isFor_1 4 rfl rfl)
theorem dX1_isFor_29 : decode cX1_isFor 29 = .ok (.iaload, 1) := dk_46 (dk_at dksX1_isFor_1 5 rfl rfl)
theorem dX1_isFor_30 : decode cX1_isFor 30 = .ok (.ldc 33, 2) := dk_18 33 (dk_at dksX1_isFor_1 6 rfl rfl)
theorem dX1_isFor_32 : decode cX1_isFor 32 = .ok (.if_icmp .ne 7, 3) := dk_160 0 7 (dk_at dksX1_isFor_1 8 rfl rfl)
theorem dX1_isFor_35 : decode cX1_isFor 35 = .ok (.iconst 1, 1) := dk_4 (dk_at dksX1_isFor_1 11 rfl rfl)
theorem dX1_isFor_36 : decode cX1_isFor 36 = .ok (.goto 4, 3) := dk_167 0 4 (dk_at dksX1_isFor_1 12 rfl rfl)
theorem dX1_isFor_39 : decode cX1_isFor 39 = .ok (.iconst 0, 1) := dk_3 (dk_at dksX1_isFor_1 15 rfl rfl)
theorem dX1_isFor_40 : decode cX1_isFor 40 = .ok (.ireturn, 1) := dk_172 (dk_at dksX1_isFor_1 16 rfl rfl)
abbrev cX1_move : ByteArray := prog_15_method_11_code
def yX1_move : MethodName := ⟨RX1, "move", "(II)V"⟩
def dkwX1_move_1 : List UInt8 := [182, 0, 46, 42, 27, 28, 182, 0, 34, 177]
abbrev dktX1_move_1 : List UInt8 := dkwX1_move_1 ++ []
def dkwX1_move_0 : List UInt8 := [42, 180, 0, 21, 27, 46, 18, 33, 160, 0, 14, 42, 180, 0, 18, 27, 46, 28, 160, 0, 4, 177, 42, 27]
abbrev dktX1_move_0 : List UInt8 := dkwX1_move_0 ++ dktX1_move_1
theorem dksX1_move_0 : cX1_move.data.toList.drop 0 = dktX1_move_0 := by decide +kernel
theorem dksX1_move_1 : cX1_move.data.toList.drop 24 = dktX1_move_1 := dk_seg dksX1_move_0 24 rfl rfl
theorem dX1_move_0 : decode cX1_move 0 = .ok (.aload_n 0, 1) := dk_42 (dk_at dksX1_move_0 0 rfl rfl)
theorem dX1_move_1 : decode cX1_move 1 = .ok (.getfield 21, 3) := dk_180 0 21 (dk_at dksX1_move_0 1 rfl rfl)
theorem dX1_move_4 : decode cX1_move 4 = .ok (.iload_n 1, 1) := dk_27 (dk_at dksX1_move_0 4 rfl rfl)
theorem dX1_move_5 : decode cX1_move 5 = .ok (.iaload, 1) := dk_46 (dk_at dksX1_move_0 5 rfl rfl)
theorem dX1_move_6 : decode cX1_move 6 = .ok (.ldc 33, 2) := dk_18 33 (dk_at dksX1_move_0 6 rfl rfl)
theorem dX1_move_8 : decode cX1_move 8 = .ok (.if_icmp .ne 14, 3) := dk_160 0 14 (dk_at dksX1_move_0 8 rfl rfl)
theorem dX1_move_11 : decode cX1_move 11 = .ok (.aload_n 0, 1) := dk_42 (dk_at dksX1_move_0 11 rfl rfl)
theorem dX1_move_12 : decode cX1_move 12 = .ok (.getfield 18, 3) := dk_180 0 18 (dk_at dksX1_move_0 12 rfl rfl)
theorem dX1_move_15 : decode cX1_move 15 = .ok (.iload_n 1, 1) := dk_27 (dk_at dksX1_move_0 15 rfl rfl)
theorem dX1_move_16 : decode cX1_move 16 = .ok (.iaload, 1) := dk_46 (dk_at dksX1_move_0 16 rfl rfl)
theorem dX1_move_17 : decode cX1_move 17 = .ok (.iload_n 2, 1) := dk_28 (dk_at dksX1_move_0 17 rfl rfl)
theorem dX1_move_18 : decode cX1_move 18 = .ok (.if_icmp .ne 4, 3) := dk_160 0 4 (dk_at dksX1_move_0 18 rfl rfl)
theorem dX1_move_21 : decode cX1_move 21 = .ok (.return_, 1) := dk_177 (dk_at dksX1_move_0 21 rfl rfl)
theorem dX1_move_22 : decode cX1_move 22 = .ok (.aload_n 0, 1) := dk_42 (dk_at dksX1_move_0 22 rfl rfl)
theorem dX1_move_23 : decode cX1_move 23 = .ok (.iload_n 1, 1) := dk_27 (dk_at dksX1_move_0 23 rfl rfl)
theorem dX1_move_24 : decode cX1_move 24 = .ok (.invokevirtual 46, 3) := dk_182 0 46 (dk_at dksX1_move_1 0 rfl rfl)
theorem dX1_move_27 : decode cX1_move 27 = .ok (.aload_n 0, 1) := dk_42 (dk_at dksX1_move_1 3 rfl rfl)
theorem dX1_move_28 : decode cX1_move 28 = .ok (.iload_n 1, 1) := dk_27 (dk_at dksX1_move_1 4 rfl rfl)
theorem dX1_move_29 : decode cX1_move 29 = .ok (.iload_n 2, 1) := dk_28 (dk_at dksX1_move_1 5 rfl rfl)
theorem dX1_move_30 : decode cX1_move 30 = .ok (.invokevirtual 34, 3) := dk_182 0 34 (dk_at dksX1_move_1 6 rfl rfl)
theorem dX1_move_33 : decode cX1_move 33 = .ok (.return_, 1) := dk_177 (dk_at dksX1_move_1 9 rfl rfl)
abbrev cX1_leave : ByteArray := prog_15_method_10_code
def yX1_leave : MethodName := ⟨RX1, "leave", "(I)V"⟩
def dkwX1_leave_1 : List UInt8 := [100, 79, 167, 0, 16, 42, 180, 0, 24, 42, 180, 0, 21, 27, 46, 18, 33, 79, 177]
abbrev dktX1_leave_1 : List UInt8 := dkwX1_leave_1 ++ []
def dkwX1_leave_0 : List UInt8 := [42, 180, 0, 21, 27, 46, 18, 33, 160, 0, 21, 42, 180, 0, 15, 42, 180, 0, 18, 27, 46, 92, 46, 4]
abbrev dktX1_leave_0 : List UInt8 := dkwX1_leave_0 ++ dktX1_leave_1
theorem dksX1_leave_0 : cX1_leave.data.toList.drop 0 = dktX1_leave_0 := by decide +kernel
theorem dksX1_leave_1 : cX1_leave.data.toList.drop 24 = dktX1_leave_1 := dk_seg dksX1_leave_0 24 rfl rfl
theorem dX1_leave_0 : decode cX1_leave 0 = .ok (.aload_n 0, 1) := dk_42 (dk_at dksX1_leave_0 0 rfl rfl)
theorem dX1_leave_1 : decode cX1_leave 1 = .ok (.getfield 21, 3) := dk_180 0 21 (dk_at dksX1_leave_0 1 rfl rfl)
theorem dX1_leave_4 : decode cX1_leave 4 = .ok (.iload_n 1, 1) := dk_27 (dk_at dksX1_leave_0 4 rfl rfl)
theorem dX1_leave_5 : decode cX1_leave 5 = .ok (.iaload, 1) := dk_46 (dk_at dksX1_leave_0 5 rfl rfl)
theorem dX1_leave_6 : decode cX1_leave 6 = .ok (.ldc 33, 2) := dk_18 33 (dk_at dksX1_leave_0 6 rfl rfl)
theorem dX1_leave_8 : decode cX1_leave 8 = .ok (.if_icmp .ne 21, 3) := dk_160 0 21 (dk_at dksX1_leave_0 8 rfl rfl)
theorem dX1_leave_11 : decode cX1_leave 11 = .ok (.aload_n 0, 1) := dk_42 (dk_at dksX1_leave_0 11 rfl rfl)
theorem dX1_leave_12 : decode cX1_leave 12 = .ok (.getfield 15, 3) := dk_180 0 15 (dk_at dksX1_leave_0 12 rfl rfl)
theorem dX1_leave_15 : decode cX1_leave 15 = .ok (.aload_n 0, 1) := dk_42 (dk_at dksX1_leave_0 15 rfl rfl)
theorem dX1_leave_16 : decode cX1_leave 16 = .ok (.getfield 18, 3) := dk_180 0 18 (dk_at dksX1_leave_0 16 rfl rfl)
theorem dX1_leave_19 : decode cX1_leave 19 = .ok (.iload_n 1, 1) := dk_27 (dk_at dksX1_leave_0 19 rfl rfl)
theorem dX1_leave_20 : decode cX1_leave 20 = .ok (.iaload, 1) := dk_46 (dk_at dksX1_leave_0 20 rfl rfl)
theorem dX1_leave_21 : decode cX1_leave 21 = .ok (.dup2, 1) := dk_92 (dk_at dksX1_leave_0 21 rfl rfl)
theorem dX1_leave_22 : decode cX1_leave 22 = .ok (.iaload, 1) := dk_46 (dk_at dksX1_leave_0 22 rfl rfl)
theorem dX1_leave_23 : decode cX1_leave 23 = .ok (.iconst 1, 1) := dk_4 (dk_at dksX1_leave_0 23 rfl rfl)
theorem dX1_leave_24 : decode cX1_leave 24 = .ok (.isub, 1) := dk_100 (dk_at dksX1_leave_1 0 rfl rfl)
theorem dX1_leave_25 : decode cX1_leave 25 = .ok (.iastore, 1) := dk_79 (dk_at dksX1_leave_1 1 rfl rfl)
theorem dX1_leave_26 : decode cX1_leave 26 = .ok (.goto 16, 3) := dk_167 0 16 (dk_at dksX1_leave_1 2 rfl rfl)
theorem dX1_leave_29 : decode cX1_leave 29 = .ok (.aload_n 0, 1) := dk_42 (dk_at dksX1_leave_1 5 rfl rfl)
theorem dX1_leave_30 : decode cX1_leave 30 = .ok (.getfield 24, 3) := dk_180 0 24 (dk_at dksX1_leave_1 6 rfl rfl)
theorem dX1_leave_33 : decode cX1_leave 33 = .ok (.aload_n 0, 1) := dk_42 (dk_at dksX1_leave_1 9 rfl rfl)
theorem dX1_leave_34 : decode cX1_leave 34 = .ok (.getfield 21, 3) := dk_180 0 21 (dk_at dksX1_leave_1 10 rfl rfl)
theorem dX1_leave_37 : decode cX1_leave 37 = .ok (.iload_n 1, 1) := dk_27 (dk_at dksX1_leave_1 13 rfl rfl)
theorem dX1_leave_38 : decode cX1_leave 38 = .ok (.iaload, 1) := dk_46 (dk_at dksX1_leave_1 14 rfl rfl)
theorem dX1_leave_39 : decode cX1_leave 39 = .ok (.ldc 33, 2) := dk_18 33 (dk_at dksX1_leave_1 15 rfl rfl)
theorem dX1_leave_41 : decode cX1_leave 41 = .ok (.iastore, 1) := dk_79 (dk_at dksX1_leave_1 17 rfl rfl)
theorem dX1_leave_42 : decode cX1_leave 42 = .ok (.return_, 1) := dk_177 (dk_at dksX1_leave_1 18 rfl rfl)
abbrev cX1_into : ByteArray := prog_15_method_13_code
def yX1_into : MethodName := ⟨RX1, "into", "(II)V"⟩
def dkwX1_into_1 : List UInt8 := [28, 27, 79, 177]
abbrev dktX1_into_1 : List UInt8 := dkwX1_into_1 ++ []
def dkwX1_into_0 : List UInt8 := [42, 27, 182, 0, 46, 42, 180, 0, 18, 27, 18, 33, 79, 42, 180, 0, 21, 27, 28, 79, 42, 180, 0, 24]
abbrev dktX1_into_0 : List UInt8 := dkwX1_into_0 ++ dktX1_into_1
theorem dksX1_into_0 : cX1_into.data.toList.drop 0 = dktX1_into_0 := by decide +kernel
theorem dksX1_into_1 : cX1_into.data.toList.drop 24 = dktX1_into_1 := dk_seg dksX1_into_0 24 rfl rfl
theorem dX1_into_0 : decode cX1_into 0 = .ok (.aload_n 0, 1) := dk_42 (dk_at dksX1_into_0 0 rfl rfl)
theorem dX1_into_1 : decode cX1_into 1 = .ok (.iload_n 1, 1) := dk_27 (dk_at dksX1_into_0 1 rfl rfl)
theorem dX1_into_2 : decode cX1_into 2 = .ok (.invokevirtual 46, 3) := dk_182 0 46 (dk_at dksX1_into_0 2 rfl rfl)
theorem dX1_into_5 : decode cX1_into 5 = .ok (.aload_n 0, 1) := dk_42 (dk_at dksX1_into_0 5 rfl rfl)
theorem dX1_into_6 : decode cX1_into 6 = .ok (.getfield 18, 3) := dk_180 0 18 (dk_at dksX1_into_0 6 rfl rfl)
theorem dX1_into_9 : decode cX1_into 9 = .ok (.iload_n 1, 1) := dk_27 (dk_at dksX1_into_0 9 rfl rfl)
theorem dX1_into_10 : decode cX1_into 10 = .ok (.ldc 33, 2) := dk_18 33 (dk_at dksX1_into_0 10 rfl rfl)
theorem dX1_into_12 : decode cX1_into 12 = .ok (.iastore, 1) := dk_79 (dk_at dksX1_into_0 12 rfl rfl)
theorem dX1_into_13 : decode cX1_into 13 = .ok (.aload_n 0, 1) := dk_42 (dk_at dksX1_into_0 13 rfl rfl)
theorem dX1_into_14 : decode cX1_into 14 = .ok (.getfield 21, 3) := dk_180 0 21 (dk_at dksX1_into_0 14 rfl rfl)
theorem dX1_into_17 : decode cX1_into 17 = .ok (.iload_n 1, 1) := dk_27 (dk_at dksX1_into_0 17 rfl rfl)
theorem dX1_into_18 : decode cX1_into 18 = .ok (.iload_n 2, 1) := dk_28 (dk_at dksX1_into_0 18 rfl rfl)
theorem dX1_into_19 : decode cX1_into 19 = .ok (.iastore, 1) := dk_79 (dk_at dksX1_into_0 19 rfl rfl)
theorem dX1_into_20 : decode cX1_into 20 = .ok (.aload_n 0, 1) := dk_42 (dk_at dksX1_into_0 20 rfl rfl)
theorem dX1_into_21 : decode cX1_into 21 = .ok (.getfield 24, 3) := dk_180 0 24 (dk_at dksX1_into_0 21 rfl rfl)
theorem dX1_into_24 : decode cX1_into 24 = .ok (.iload_n 2, 1) := dk_28 (dk_at dksX1_into_1 0 rfl rfl)
theorem dX1_into_25 : decode cX1_into 25 = .ok (.iload_n 1, 1) := dk_27 (dk_at dksX1_into_1 1 rfl rfl)
theorem dX1_into_26 : decode cX1_into 26 = .ok (.iastore, 1) := dk_79 (dk_at dksX1_into_1 2 rfl rfl)
theorem dX1_into_27 : decode cX1_into 27 = .ok (.return_, 1) := dk_177 (dk_at dksX1_into_1 3 rfl rfl)
abbrev cX1_lay : ByteArray := prog_15_method_2_code
def yX1_lay : MethodName := ⟨RX1, "lay", "(LTableArms$Table;)V"⟩
def dkwX1_lay_3 : List UInt8 := [16, 6, 184, 0, 27, 177]
abbrev dktX1_lay_3 : List UInt8 := dkwX1_lay_3 ++ []
def dkwX1_lay_2 : List UInt8 := [180, 0, 21, 3, 42, 180, 0, 21, 3, 16, 6, 184, 0, 27, 43, 180, 0, 24, 3, 42, 180, 0, 24, 3]
abbrev dktX1_lay_2 : List UInt8 := dkwX1_lay_2 ++ dktX1_lay_3
def dkwX1_lay_1 : List UInt8 := [3, 16, 8, 184, 0, 27, 43, 180, 0, 18, 3, 42, 180, 0, 18, 3, 16, 6, 184, 0, 27, 43]
abbrev dktX1_lay_1 : List UInt8 := dkwX1_lay_1 ++ dktX1_lay_2
def dkwX1_lay_0 : List UInt8 := [43, 180, 0, 9, 3, 42, 180, 0, 9, 3, 16, 48, 184, 0, 27, 43, 180, 0, 15, 3, 42, 180, 0, 15]
abbrev dktX1_lay_0 : List UInt8 := dkwX1_lay_0 ++ dktX1_lay_1
theorem dksX1_lay_0 : cX1_lay.data.toList.drop 0 = dktX1_lay_0 := by decide +kernel
theorem dksX1_lay_1 : cX1_lay.data.toList.drop 24 = dktX1_lay_1 := dk_seg dksX1_lay_0 24 rfl rfl
theorem dksX1_lay_2 : cX1_lay.data.toList.drop 46 = dktX1_lay_2 := dk_seg dksX1_lay_1 22 rfl rfl
theorem dksX1_lay_3 : cX1_lay.data.toList.drop 70 = dktX1_lay_3 := dk_seg dksX1_lay_2 24 rfl rfl
theorem dX1_lay_0 : decode cX1_lay 0 = .ok (.aload_n 1, 1) := dk_43 (dk_at dksX1_lay_0 0 rfl rfl)
theorem dX1_lay_1 : decode cX1_lay 1 = .ok (.getfield 9, 3) := dk_180 0 9 (dk_at dksX1_lay_0 1 rfl rfl)
theorem dX1_lay_4 : decode cX1_lay 4 = .ok (.iconst 0, 1) := dk_3 (dk_at dksX1_lay_0 4 rfl rfl)
theorem dX1_lay_5 : decode cX1_lay 5 = .ok (.aload_n 0, 1) := dk_42 (dk_at dksX1_lay_0 5 rfl rfl)
theorem dX1_lay_6 : decode cX1_lay 6 = .ok (.getfield 9, 3) := dk_180 0 9 (dk_at dksX1_lay_0 6 rfl rfl)
theorem dX1_lay_9 : decode cX1_lay 9 = .ok (.iconst 0, 1) := dk_3 (dk_at dksX1_lay_0 9 rfl rfl)
theorem dX1_lay_10 : decode cX1_lay 10 = .ok (.bipush 48, 2) := dk_16 48 (dk_at dksX1_lay_0 10 rfl rfl)
theorem dX1_lay_12 : decode cX1_lay 12 = .ok (.invokestatic 27, 3) := dk_184 0 27 (dk_at dksX1_lay_0 12 rfl rfl)
theorem dX1_lay_15 : decode cX1_lay 15 = .ok (.aload_n 1, 1) := dk_43 (dk_at dksX1_lay_0 15 rfl rfl)
theorem dX1_lay_16 : decode cX1_lay 16 = .ok (.getfield 15, 3) := dk_180 0 15 (dk_at dksX1_lay_0 16 rfl rfl)
theorem dX1_lay_19 : decode cX1_lay 19 = .ok (.iconst 0, 1) := dk_3 (dk_at dksX1_lay_0 19 rfl rfl)
theorem dX1_lay_20 : decode cX1_lay 20 = .ok (.aload_n 0, 1) := dk_42 (dk_at dksX1_lay_0 20 rfl rfl)
theorem dX1_lay_21 : decode cX1_lay 21 = .ok (.getfield 15, 3) := dk_180 0 15 (dk_at dksX1_lay_0 21 rfl rfl)
theorem dX1_lay_24 : decode cX1_lay 24 = .ok (.iconst 0, 1) := dk_3 (dk_at dksX1_lay_1 0 rfl rfl)
theorem dX1_lay_25 : decode cX1_lay 25 = .ok (.bipush 8, 2) := dk_16 8 (dk_at dksX1_lay_1 1 rfl rfl)
theorem dX1_lay_27 : decode cX1_lay 27 = .ok (.invokestatic 27, 3) := dk_184 0 27 (dk_at dksX1_lay_1 3 rfl rfl)
theorem dX1_lay_30 : decode cX1_lay 30 = .ok (.aload_n 1, 1) := dk_43 (dk_at dksX1_lay_1 6 rfl rfl)
theorem dX1_lay_31 : decode cX1_lay 31 = .ok (.getfield 18, 3) := dk_180 0 18 (dk_at dksX1_lay_1 7 rfl rfl)
theorem dX1_lay_34 : decode cX1_lay 34 = .ok (.iconst 0, 1) := dk_3 (dk_at dksX1_lay_1 10 rfl rfl)
theorem dX1_lay_35 : decode cX1_lay 35 = .ok (.aload_n 0, 1) := dk_42 (dk_at dksX1_lay_1 11 rfl rfl)
theorem dX1_lay_36 : decode cX1_lay 36 = .ok (.getfield 18, 3) := dk_180 0 18 (dk_at dksX1_lay_1 12 rfl rfl)
theorem dX1_lay_39 : decode cX1_lay 39 = .ok (.iconst 0, 1) := dk_3 (dk_at dksX1_lay_1 15 rfl rfl)
theorem dX1_lay_40 : decode cX1_lay 40 = .ok (.bipush 6, 2) := dk_16 6 (dk_at dksX1_lay_1 16 rfl rfl)
theorem dX1_lay_42 : decode cX1_lay 42 = .ok (.invokestatic 27, 3) := dk_184 0 27 (dk_at dksX1_lay_1 18 rfl rfl)
theorem dX1_lay_45 : decode cX1_lay 45 = .ok (.aload_n 1, 1) := dk_43 (dk_at dksX1_lay_1 21 rfl rfl)
theorem dX1_lay_46 : decode cX1_lay 46 = .ok (.getfield 21, 3) := dk_180 0 21 (dk_at dksX1_lay_2 0 rfl rfl)
theorem dX1_lay_49 : decode cX1_lay 49 = .ok (.iconst 0, 1) := dk_3 (dk_at dksX1_lay_2 3 rfl rfl)
theorem dX1_lay_50 : decode cX1_lay 50 = .ok (.aload_n 0, 1) := dk_42 (dk_at dksX1_lay_2 4 rfl rfl)
theorem dX1_lay_51 : decode cX1_lay 51 = .ok (.getfield 21, 3) := dk_180 0 21 (dk_at dksX1_lay_2 5 rfl rfl)
theorem dX1_lay_54 : decode cX1_lay 54 = .ok (.iconst 0, 1) := dk_3 (dk_at dksX1_lay_2 8 rfl rfl)
theorem dX1_lay_55 : decode cX1_lay 55 = .ok (.bipush 6, 2) := dk_16 6 (dk_at dksX1_lay_2 9 rfl rfl)
theorem dX1_lay_57 : decode cX1_lay 57 = .ok (.invokestatic 27, 3) := dk_184 0 27 (dk_at dksX1_lay_2 11 rfl rfl)
theorem dX1_lay_60 : decode cX1_lay 60 = .ok (.aload_n 1, 1) := dk_43 (dk_at dksX1_lay_2 14 rfl rfl)
theorem dX1_lay_61 : decode cX1_lay 61 = .ok (.getfield 24, 3) := dk_180 0 24 (dk_at dksX1_lay_2 15 rfl rfl)
theorem dX1_lay_64 : decode cX1_lay 64 = .ok (.iconst 0, 1) := dk_3 (dk_at dksX1_lay_2 18 rfl rfl)
theorem dX1_lay_65 : decode cX1_lay 65 = .ok (.aload_n 0, 1) := dk_42 (dk_at dksX1_lay_2 19 rfl rfl)
theorem dX1_lay_66 : decode cX1_lay 66 = .ok (.getfield 24, 3) := dk_180 0 24 (dk_at dksX1_lay_2 20 rfl rfl)
theorem dX1_lay_69 : decode cX1_lay 69 = .ok (.iconst 0, 1) := dk_3 (dk_at dksX1_lay_2 23 rfl rfl)
theorem dX1_lay_70 : decode cX1_lay 70 = .ok (.bipush 6, 2) := dk_16 6 (dk_at dksX1_lay_3 0 rfl rfl)
theorem dX1_lay_72 : decode cX1_lay 72 = .ok (.invokestatic 27, 3) := dk_184 0 27 (dk_at dksX1_lay_3 2 rfl rfl)
theorem dX1_lay_75 : decode cX1_lay 75 = .ok (.return_, 1) := dk_177 (dk_at dksX1_lay_3 5 rfl rfl)
abbrev cX1_isSame : ByteArray := prog_15_method_14_code
def yX1_isSame : MethodName := ⟨RX1, "isSame", "(LTableArms$Table;I)Z"⟩
def dkwX1_isSame_4 : List UInt8 := [167, 255, 208, 4, 172]
abbrev dktX1_isSame_4 : List UInt8 := dkwX1_isSame_4 ++ []
def dkwX1_isSame_3 : List UInt8 := [182, 0, 38, 43, 29, 21, 4, 182, 0, 38, 159, 0, 5, 3, 172, 132, 4, 1, 167, 255, 223, 132, 3, 1]
abbrev dktX1_isSame_3 : List UInt8 := dkwX1_isSame_3 ++ dktX1_isSame_4
def dkwX1_isSame_2 : List UInt8 := [29, 16, 8, 162, 0, 48, 3, 54, 4, 21, 4, 42, 180, 0, 15, 29, 46, 162, 0, 28, 42, 29, 21, 4]
abbrev dktX1_isSame_2 : List UInt8 := dkwX1_isSame_2 ++ dktX1_isSame_3
def dkwX1_isSame_1 : List UInt8 := [180, 0, 21, 29, 46, 43, 180, 0, 21, 29, 46, 159, 0, 5, 3, 172, 132, 3, 1, 167, 255, 216, 3, 62]
abbrev dktX1_isSame_1 : List UInt8 := dkwX1_isSame_1 ++ dktX1_isSame_2
def dkwX1_isSame_0 : List UInt8 := [3, 62, 29, 28, 162, 0, 41, 42, 180, 0, 18, 29, 46, 43, 180, 0, 18, 29, 46, 160, 0, 18, 42]
abbrev dktX1_isSame_0 : List UInt8 := dkwX1_isSame_0 ++ dktX1_isSame_1
theorem dksX1_isSame_0 : cX1_isSame.data.toList.drop 0 = dktX1_isSame_0 := by decide +kernel
theorem dksX1_isSame_1 : cX1_isSame.data.toList.drop 23 = dktX1_isSame_1 := dk_seg dksX1_isSame_0 23 rfl rfl
theorem dksX1_isSame_2 : cX1_isSame.data.toList.drop 47 = dktX1_isSame_2 := dk_seg dksX1_isSame_1 24 rfl rfl
theorem dksX1_isSame_3 : cX1_isSame.data.toList.drop 71 = dktX1_isSame_3 := dk_seg dksX1_isSame_2 24 rfl rfl
theorem dksX1_isSame_4 : cX1_isSame.data.toList.drop 95 = dktX1_isSame_4 := dk_seg dksX1_isSame_3 24 rfl rfl
theorem dX1_isSame_0 : decode cX1_isSame 0 = .ok (.iconst 0, 1) := dk_3 (dk_at dksX1_isSame_0 0 rfl rfl)
theorem dX1_isSame_1 : decode cX1_isSame 1 = .ok (.istore_n 3, 1) := dk_62 (dk_at dksX1_isSame_0 1 rfl rfl)
theorem dX1_isSame_2 : decode cX1_isSame 2 = .ok (.iload_n 3, 1) := dk_29 (dk_at dksX1_isSame_0 2 rfl rfl)
theorem dX1_isSame_3 : decode cX1_isSame 3 = .ok (.iload_n 2, 1) := dk_28 (dk_at dksX1_isSame_0 3 rfl rfl)
theorem dX1_isSame_4 : decode cX1_isSame 4 = .ok (.if_icmp .ge 41, 3) := dk_162 0 41 (dk_at dksX1_isSame_0 4 rfl rfl)
theorem dX1_isSame_7 : decode cX1_isSame 7 = .ok (.aload_n 0, 1) := dk_42 (dk_at dksX1_isSame_0 7 rfl rfl)
theorem dX1_isSame_8 : decode cX1_isSame 8 = .ok (.getfield 18, 3) := dk_180 0 18 (dk_at dksX1_isSame_0 8 rfl rfl)
theorem dX1_isSame_11 : decode cX1_isSame 11 = .ok (.iload_n 3, 1) := dk_29 (dk_at dksX1_isSame_0 11 rfl rfl)
theorem dX1_isSame_12 : decode cX1_isSame 12 = .ok (.iaload, 1) := dk_46 (dk_at dksX1_isSame_0 12 rfl rfl)
theorem dX1_isSame_13 : decode cX1_isSame 13 = .ok (.aload_n 1, 1) := dk_43 (dk_at dksX1_isSame_0 13 rfl rfl)
theorem dX1_isSame_14 : decode cX1_isSame 14 = .ok (.getfield 18, 3) := dk_180 0 18 (dk_at dksX1_isSame_0 14 rfl rfl)
theorem dX1_isSame_17 : decode cX1_isSame 17 = .ok (.iload_n 3, 1) := dk_29 (dk_at dksX1_isSame_0 17 rfl rfl)
theorem dX1_isSame_18 : decode cX1_isSame 18 = .ok (.iaload, 1) := dk_46 (dk_at dksX1_isSame_0 18 rfl rfl)
theorem dX1_isSame_19 : decode cX1_isSame 19 = .ok (.if_icmp .ne 18, 3) := dk_160 0 18 (dk_at dksX1_isSame_0 19 rfl rfl)
theorem dX1_isSame_22 : decode cX1_isSame 22 = .ok (.aload_n 0, 1) := dk_42 (dk_at dksX1_isSame_0 22 rfl rfl)
theorem dX1_isSame_23 : decode cX1_isSame 23 = .ok (.getfield 21, 3) := dk_180 0 21 (dk_at dksX1_isSame_1 0 rfl rfl)
theorem dX1_isSame_26 : decode cX1_isSame 26 = .ok (.iload_n 3, 1) := dk_29 (dk_at dksX1_isSame_1 3 rfl rfl)
theorem dX1_isSame_27 : decode cX1_isSame 27 = .ok (.iaload, 1) := dk_46 (dk_at dksX1_isSame_1 4 rfl rfl)
theorem dX1_isSame_28 : decode cX1_isSame 28 = .ok (.aload_n 1, 1) := dk_43 (dk_at dksX1_isSame_1 5 rfl rfl)
theorem dX1_isSame_29 : decode cX1_isSame 29 = .ok (.getfield 21, 3) := dk_180 0 21 (dk_at dksX1_isSame_1 6 rfl rfl)
theorem dX1_isSame_32 : decode cX1_isSame 32 = .ok (.iload_n 3, 1) := dk_29 (dk_at dksX1_isSame_1 9 rfl rfl)
theorem dX1_isSame_33 : decode cX1_isSame 33 = .ok (.iaload, 1) := dk_46 (dk_at dksX1_isSame_1 10 rfl rfl)
theorem dX1_isSame_34 : decode cX1_isSame 34 = .ok (.if_icmp .eq 5, 3) := dk_159 0 5 (dk_at dksX1_isSame_1 11 rfl rfl)
theorem dX1_isSame_37 : decode cX1_isSame 37 = .ok (.iconst 0, 1) := dk_3 (dk_at dksX1_isSame_1 14 rfl rfl)
theorem dX1_isSame_38 : decode cX1_isSame 38 = .ok (.ireturn, 1) := dk_172 (dk_at dksX1_isSame_1 15 rfl rfl)
theorem dX1_isSame_39 : decode cX1_isSame 39 = .ok (.iinc 3 1, 3) := dk_132 3 1 (dk_at dksX1_isSame_1 16 rfl rfl)
theorem dX1_isSame_42 : decode cX1_isSame 42 = .ok (.goto (-40), 3) := dk_167 255 216 (dk_at dksX1_isSame_1 19 rfl rfl)
theorem dX1_isSame_45 : decode cX1_isSame 45 = .ok (.iconst 0, 1) := dk_3 (dk_at dksX1_isSame_1 22 rfl rfl)
theorem dX1_isSame_46 : decode cX1_isSame 46 = .ok (.istore_n 3, 1) := dk_62 (dk_at dksX1_isSame_1 23 rfl rfl)
theorem dX1_isSame_47 : decode cX1_isSame 47 = .ok (.iload_n 3, 1) := dk_29 (dk_at dksX1_isSame_2 0 rfl rfl)
theorem dX1_isSame_48 : decode cX1_isSame 48 = .ok (.bipush 8, 2) := dk_16 8 (dk_at dksX1_isSame_2 1 rfl rfl)
theorem dX1_isSame_50 : decode cX1_isSame 50 = .ok (.if_icmp .ge 48, 3) := dk_162 0 48 (dk_at dksX1_isSame_2 3 rfl rfl)
theorem dX1_isSame_53 : decode cX1_isSame 53 = .ok (.iconst 0, 1) := dk_3 (dk_at dksX1_isSame_2 6 rfl rfl)
theorem dX1_isSame_54 : decode cX1_isSame 54 = .ok (.istore 4, 2) := dk_54 4 (dk_at dksX1_isSame_2 7 rfl rfl)
theorem dX1_isSame_56 : decode cX1_isSame 56 = .ok (.iload 4, 2) := dk_21 4 (dk_at dksX1_isSame_2 9 rfl rfl)
theorem dX1_isSame_58 : decode cX1_isSame 58 = .ok (.aload_n 0, 1) := dk_42 (dk_at dksX1_isSame_2 11 rfl rfl)
theorem dX1_isSame_59 : decode cX1_isSame 59 = .ok (.getfield 15, 3) := dk_180 0 15 (dk_at dksX1_isSame_2 12 rfl rfl)
theorem dX1_isSame_62 : decode cX1_isSame 62 = .ok (.iload_n 3, 1) := dk_29 (dk_at dksX1_isSame_2 15 rfl rfl)
theorem dX1_isSame_63 : decode cX1_isSame 63 = .ok (.iaload, 1) := dk_46 (dk_at dksX1_isSame_2 16 rfl rfl)
theorem dX1_isSame_64 : decode cX1_isSame 64 = .ok (.if_icmp .ge 28, 3) := dk_162 0 28 (dk_at dksX1_isSame_2 17 rfl rfl)
theorem dX1_isSame_67 : decode cX1_isSame 67 = .ok (.aload_n 0, 1) := dk_42 (dk_at dksX1_isSame_2 20 rfl rfl)
theorem dX1_isSame_68 : decode cX1_isSame 68 = .ok (.iload_n 3, 1) := dk_29 (dk_at dksX1_isSame_2 21 rfl rfl)
theorem dX1_isSame_69 : decode cX1_isSame 69 = .ok (.iload 4, 2) := dk_21 4 (dk_at dksX1_isSame_2 22 rfl rfl)
theorem dX1_isSame_71 : decode cX1_isSame 71 = .ok (.invokevirtual 38, 3) := dk_182 0 38 (dk_at dksX1_isSame_3 0 rfl rfl)
theorem dX1_isSame_74 : decode cX1_isSame 74 = .ok (.aload_n 1, 1) := dk_43 (dk_at dksX1_isSame_3 3 rfl rfl)
theorem dX1_isSame_75 : decode cX1_isSame 75 = .ok (.iload_n 3, 1) := dk_29 (dk_at dksX1_isSame_3 4 rfl rfl)
theorem dX1_isSame_76 : decode cX1_isSame 76 = .ok (.iload 4, 2) := dk_21 4 (dk_at dksX1_isSame_3 5 rfl rfl)
theorem dX1_isSame_78 : decode cX1_isSame 78 = .ok (.invokevirtual 38, 3) := dk_182 0 38 (dk_at dksX1_isSame_3 7 rfl rfl)
theorem dX1_isSame_81 : decode cX1_isSame 81 = .ok (.if_icmp .eq 5, 3) := dk_159 0 5 (dk_at dksX1_isSame_3 10 rfl rfl)
theorem dX1_isSame_84 : decode cX1_isSame 84 = .ok (.iconst 0, 1) := dk_3 (dk_at dksX1_isSame_3 13 rfl rfl)
theorem dX1_isSame_85 : decode cX1_isSame 85 = .ok (.ireturn, 1) := dk_172 (dk_at dksX1_isSame_3 14 rfl rfl)
theorem dX1_isSame_86 : decode cX1_isSame 86 = .ok (.iinc 4 1, 3) := dk_132 4 1 (dk_at dksX1_isSame_3 15 rfl rfl)
theorem dX1_isSame_89 : decode cX1_isSame 89 = .ok (.goto (-33), 3) := dk_167 255 223 (dk_at dksX1_isSame_3 18 rfl rfl)
theorem dX1_isSame_92 : decode cX1_isSame 92 = .ok (.iinc 3 1, 3) := dk_132 3 1 (dk_at dksX1_isSame_3 21 rfl rfl)
theorem dX1_isSame_95 : decode cX1_isSame 95 = .ok (.goto (-48), 3) := dk_167 255 208 (dk_at dksX1_isSame_4 0 rfl rfl)
theorem dX1_isSame_98 : decode cX1_isSame 98 = .ok (.iconst 1, 1) := dk_4 (dk_at dksX1_isSame_4 3 rfl rfl)
theorem dX1_isSame_99 : decode cX1_isSame 99 = .ok (.ireturn, 1) := dk_172 (dk_at dksX1_isSame_4 4 rfl rfl)
theorem q91 : (Jvm.Cond.initialized "TableArms$Table") ∈ lw_all := lw_g (lw_at lw_m1 2 rfl) rfl
theorem q138 : (Jvm.Cond.instantiable "TableArms$Table" (5 : Nat)) ∈ lw_all := lw_g (lw_at lw_m1 49 rfl) rfl
theorem q140 : (Jvm.Cond.instanceMethod ({ cls := "TableArms$Table", name := "<init>", desc := "()V" } : Jvm.MethodName)) ∈ lw_all := lw_g (lw_at lw_m1 51 rfl) rfl
theorem q141 : (Jvm.Cond.code ({ cls := "TableArms$Table", name := "<init>", desc := "()V" } : Jvm.MethodName) prog_15_method_1_code (1 : Nat) (Option.none : Option Jvm.ClassFile.FieldType)) ∈ lw_all := lw_g (lw_at lw_m1 52 rfl) rfl
theorem q142 : (Jvm.Cond.methodLink "TableArms$Table" (3 : Nat) ({ cls := "java/lang/Object", name := "<init>", desc := "()V" } : Jvm.MethodName)) ∈ lw_all := lw_g (lw_at lw_m1 53 rfl) rfl
theorem q143 : (Jvm.Cond.fieldLink "TableArms$Table" (9 : Nat) "TableArms$Table" "pile" "[I") ∈ lw_all := lw_g (lw_at lw_m1 54 rfl) rfl
theorem q144 : (Jvm.Cond.fieldLink "TableArms$Table" (15 : Nat) "TableArms$Table" "high" "[I") ∈ lw_all := lw_g (lw_at lw_m1 55 rfl) rfl
theorem q146 : (Jvm.Cond.fieldLink "TableArms$Table" (18 : Nat) "TableArms$Table" "cell" "[I") ∈ lw_all := lw_g (lw_at lw_m1 57 rfl) rfl
theorem q148 : (Jvm.Cond.fieldLink "TableArms$Table" (21 : Nat) "TableArms$Table" "box" "[I") ∈ lw_all := lw_g (lw_at lw_m1 59 rfl) rfl
theorem q151 : (Jvm.Cond.fieldLink "TableArms$Table" (24 : Nat) "TableArms$Table" "holds" "[I") ∈ lw_all := lw_g (lw_at lw_m1 62 rfl) rfl
theorem q154 : (Jvm.Cond.laysFinal "TableArms$Table" "TableArms$Table" "pile" "[I") ∈ lw_all := lw_g (lw_at lw_m1 65 rfl) rfl
theorem q155 : (Jvm.Cond.soleField "TableArms$Table" "pile") ∈ lw_all := lw_g (lw_at lw_m1 66 rfl) rfl
theorem q156 : (Jvm.Cond.laysFinal "TableArms$Table" "TableArms$Table" "high" "[I") ∈ lw_all := lw_g (lw_at lw_m1 67 rfl) rfl
theorem q157 : (Jvm.Cond.soleField "TableArms$Table" "high") ∈ lw_all := lw_g (lw_at lw_m1 68 rfl) rfl
theorem q158 : (Jvm.Cond.laysFinal "TableArms$Table" "TableArms$Table" "cell" "[I") ∈ lw_all := lw_g (lw_at lw_m1 69 rfl) rfl
theorem q159 : (Jvm.Cond.soleField "TableArms$Table" "cell") ∈ lw_all := lw_g (lw_at lw_m1 70 rfl) rfl
theorem q160 : (Jvm.Cond.laysFinal "TableArms$Table" "TableArms$Table" "box" "[I") ∈ lw_all := lw_g (lw_at lw_m1 71 rfl) rfl
theorem q161 : (Jvm.Cond.soleField "TableArms$Table" "box") ∈ lw_all := lw_g (lw_at lw_m1 72 rfl) rfl
theorem q162 : (Jvm.Cond.laysFinal "TableArms$Table" "TableArms$Table" "holds" "[I") ∈ lw_all := lw_g (lw_at lw_m1 73 rfl) rfl
theorem q163 : (Jvm.Cond.soleField "TableArms$Table" "holds") ∈ lw_all := lw_g (lw_at lw_m1 74 rfl) rfl
theorem q164 : (Jvm.Cond.superclass "TableArms$Table" "java/lang/Object") ∈ lw_all := lw_g (lw_at lw_m1 75 rfl) rfl
theorem q452 : (Jvm.Cond.instanceMethod ({ cls := "TableArms$Table", name := "begin", desc := "(II)V" } : Jvm.MethodName)) ∈ lw_all := lw_g (lw_at lw_m2 123 rfl) rfl
theorem q453 : (Jvm.Cond.selects "TableArms$Table" ({ cls := "TableArms$Table", name := "begin", desc := "(II)V" } : Jvm.MethodName) ({ cls := "TableArms$Table", name := "begin", desc := "(II)V" } : Jvm.MethodName)) ∈ lw_all := lw_g (lw_at lw_m2 124 rfl) rfl
theorem q454 : (Jvm.Cond.code ({ cls := "TableArms$Table", name := "begin", desc := "(II)V" } : Jvm.MethodName) prog_15_method_5_code (3 : Nat) (Option.none : Option Jvm.ClassFile.FieldType)) ∈ lw_all := lw_g (lw_at lw_m2 125 rfl) rfl
theorem q455 : (Jvm.Cond.constant "TableArms$Table" (33 : Nat) (-1000000 : Int32)) ∈ lw_all := lw_g (lw_at lw_m2 126 rfl) rfl
theorem q456 : (Jvm.Cond.methodLink "TableArms$Table" (34 : Nat) ({ cls := "TableArms$Table", name := "push", desc := "(II)V" } : Jvm.MethodName)) ∈ lw_all := lw_g (lw_at lw_m2 127 rfl) rfl
theorem q457 : (Jvm.Cond.instanceMethod ({ cls := "TableArms$Table", name := "push", desc := "(II)V" } : Jvm.MethodName)) ∈ lw_all := lw_g (lw_at lw_m2 128 rfl) rfl
theorem q458 : (Jvm.Cond.selects "TableArms$Table" ({ cls := "TableArms$Table", name := "push", desc := "(II)V" } : Jvm.MethodName) ({ cls := "TableArms$Table", name := "push", desc := "(II)V" } : Jvm.MethodName)) ∈ lw_all := lw_g (lw_at lw_m2 129 rfl) rfl
theorem q459 : (Jvm.Cond.code ({ cls := "TableArms$Table", name := "push", desc := "(II)V" } : Jvm.MethodName) prog_15_method_4_code (3 : Nat) (Option.none : Option Jvm.ClassFile.FieldType)) ∈ lw_all := lw_g (lw_at lw_m2 130 rfl) rfl
theorem q469 : (Jvm.Cond.instanceMethod ({ cls := "TableArms$Table", name := "cellOf", desc := "(I)I" } : Jvm.MethodName)) ∈ lw_all := lw_g (lw_at lw_m2 140 rfl) rfl
theorem q470 : (Jvm.Cond.selects "TableArms$Table" ({ cls := "TableArms$Table", name := "cellOf", desc := "(I)I" } : Jvm.MethodName) ({ cls := "TableArms$Table", name := "cellOf", desc := "(I)I" } : Jvm.MethodName)) ∈ lw_all := lw_g (lw_at lw_m2 141 rfl) rfl
theorem q471 : (Jvm.Cond.code ({ cls := "TableArms$Table", name := "cellOf", desc := "(I)I" } : Jvm.MethodName) prog_15_method_8_code (2 : Nat) (Option.some Jvm.ClassFile.FieldType.int)) ∈ lw_all := lw_g (lw_at lw_m2 142 rfl) rfl
theorem q474 : (Jvm.Cond.instanceMethod ({ cls := "TableArms$Table", name := "below", desc := "(I)I" } : Jvm.MethodName)) ∈ lw_all := lw_g (lw_at lw_m2 145 rfl) rfl
theorem q475 : (Jvm.Cond.selects "TableArms$Table" ({ cls := "TableArms$Table", name := "below", desc := "(I)I" } : Jvm.MethodName) ({ cls := "TableArms$Table", name := "below", desc := "(I)I" } : Jvm.MethodName)) ∈ lw_all := lw_g (lw_at lw_m2 146 rfl) rfl
theorem q476 : (Jvm.Cond.code ({ cls := "TableArms$Table", name := "below", desc := "(I)I" } : Jvm.MethodName) prog_15_method_9_code (3 : Nat) (Option.some Jvm.ClassFile.FieldType.int)) ∈ lw_all := lw_g (lw_at lw_m2 147 rfl) rfl
theorem q477 : (Jvm.Cond.methodLink "TableArms$Table" (38 : Nat) ({ cls := "TableArms$Table", name := "at", desc := "(II)I" } : Jvm.MethodName)) ∈ lw_all := lw_g (lw_at lw_m2 148 rfl) rfl
theorem q478 : (Jvm.Cond.instanceMethod ({ cls := "TableArms$Table", name := "at", desc := "(II)I" } : Jvm.MethodName)) ∈ lw_all := lw_g (lw_at lw_m2 149 rfl) rfl
theorem q479 : (Jvm.Cond.selects "TableArms$Table" ({ cls := "TableArms$Table", name := "at", desc := "(II)I" } : Jvm.MethodName) ({ cls := "TableArms$Table", name := "at", desc := "(II)I" } : Jvm.MethodName)) ∈ lw_all := lw_g (lw_at lw_m2 150 rfl) rfl
theorem q480 : (Jvm.Cond.code ({ cls := "TableArms$Table", name := "at", desc := "(II)I" } : Jvm.MethodName) prog_15_method_3_code (3 : Nat) (Option.some Jvm.ClassFile.FieldType.int)) ∈ lw_all := lw_g (lw_at lw_m2 151 rfl) rfl
theorem q482 : (Jvm.Cond.instanceMethod ({ cls := "TableArms$Table", name := "isClear", desc := "(I)Z" } : Jvm.MethodName)) ∈ lw_all := lw_g (lw_at lw_m2 153 rfl) rfl
theorem q483 : (Jvm.Cond.selects "TableArms$Table" ({ cls := "TableArms$Table", name := "isClear", desc := "(I)Z" } : Jvm.MethodName) ({ cls := "TableArms$Table", name := "isClear", desc := "(I)Z" } : Jvm.MethodName)) ∈ lw_all := lw_g (lw_at lw_m2 154 rfl) rfl
theorem q484 : (Jvm.Cond.code ({ cls := "TableArms$Table", name := "isClear", desc := "(I)Z" } : Jvm.MethodName) prog_15_method_6_code (2 : Nat) (Option.some Jvm.ClassFile.FieldType.boolean)) ∈ lw_all := lw_g (lw_at lw_m2 155 rfl) rfl
theorem q515 : (Jvm.Cond.instanceMethod ({ cls := "TableArms$Table", name := "isLoose", desc := "(I)Z" } : Jvm.MethodName)) ∈ lw_all := lw_g (lw_at lw_m2 186 rfl) rfl
theorem q516 : (Jvm.Cond.selects "TableArms$Table" ({ cls := "TableArms$Table", name := "isLoose", desc := "(I)Z" } : Jvm.MethodName) ({ cls := "TableArms$Table", name := "isLoose", desc := "(I)Z" } : Jvm.MethodName)) ∈ lw_all := lw_g (lw_at lw_m2 187 rfl) rfl
theorem q517 : (Jvm.Cond.code ({ cls := "TableArms$Table", name := "isLoose", desc := "(I)Z" } : Jvm.MethodName) prog_15_method_7_code (2 : Nat) (Option.some Jvm.ClassFile.FieldType.boolean)) ∈ lw_all := lw_g (lw_at lw_m2 188 rfl) rfl
theorem q518 : (Jvm.Cond.methodLink "TableArms$Table" (42 : Nat) ({ cls := "TableArms$Table", name := "isClear", desc := "(I)Z" } : Jvm.MethodName)) ∈ lw_all := lw_g (lw_at lw_m2 189 rfl) rfl
theorem q520 : (Jvm.Cond.instanceMethod ({ cls := "TableArms$Table", name := "isFor", desc := "(II)Z" } : Jvm.MethodName)) ∈ lw_all := lw_g (lw_at lw_m2 191 rfl) rfl
theorem q521 : (Jvm.Cond.selects "TableArms$Table" ({ cls := "TableArms$Table", name := "isFor", desc := "(II)Z" } : Jvm.MethodName) ({ cls := "TableArms$Table", name := "isFor", desc := "(II)Z" } : Jvm.MethodName)) ∈ lw_all := lw_g (lw_at lw_m2 192 rfl) rfl
theorem q522 : (Jvm.Cond.code ({ cls := "TableArms$Table", name := "isFor", desc := "(II)Z" } : Jvm.MethodName) prog_15_method_12_code (3 : Nat) (Option.some Jvm.ClassFile.FieldType.boolean)) ∈ lw_all := lw_g (lw_at lw_m2 193 rfl) rfl
theorem q532 : (Jvm.Cond.instanceMethod ({ cls := "TableArms$Table", name := "move", desc := "(II)V" } : Jvm.MethodName)) ∈ lw_all := lw_g (lw_at lw_m2 203 rfl) rfl
theorem q533 : (Jvm.Cond.selects "TableArms$Table" ({ cls := "TableArms$Table", name := "move", desc := "(II)V" } : Jvm.MethodName) ({ cls := "TableArms$Table", name := "move", desc := "(II)V" } : Jvm.MethodName)) ∈ lw_all := lw_g (lw_at lw_m2 204 rfl) rfl
theorem q534 : (Jvm.Cond.code ({ cls := "TableArms$Table", name := "move", desc := "(II)V" } : Jvm.MethodName) prog_15_method_11_code (3 : Nat) (Option.none : Option Jvm.ClassFile.FieldType)) ∈ lw_all := lw_g (lw_at lw_m2 205 rfl) rfl
theorem q535 : (Jvm.Cond.methodLink "TableArms$Table" (46 : Nat) ({ cls := "TableArms$Table", name := "leave", desc := "(I)V" } : Jvm.MethodName)) ∈ lw_all := lw_g (lw_at lw_m2 206 rfl) rfl
theorem q536 : (Jvm.Cond.privateMethod ({ cls := "TableArms$Table", name := "leave", desc := "(I)V" } : Jvm.MethodName)) ∈ lw_tbl := lw_at lw_m2 207 rfl
theorem q537 : (Jvm.Cond.instanceMethod ({ cls := "TableArms$Table", name := "leave", desc := "(I)V" } : Jvm.MethodName)) ∈ lw_all := lw_g (lw_at lw_m2 208 rfl) rfl
theorem q538 : (Jvm.Cond.code ({ cls := "TableArms$Table", name := "leave", desc := "(I)V" } : Jvm.MethodName) prog_15_method_10_code (2 : Nat) (Option.none : Option Jvm.ClassFile.FieldType)) ∈ lw_all := lw_g (lw_at lw_m2 209 rfl) rfl
theorem q540 : (Jvm.Cond.instanceMethod ({ cls := "TableArms$Table", name := "into", desc := "(II)V" } : Jvm.MethodName)) ∈ lw_all := lw_g (lw_at lw_m2 211 rfl) rfl
theorem q541 : (Jvm.Cond.selects "TableArms$Table" ({ cls := "TableArms$Table", name := "into", desc := "(II)V" } : Jvm.MethodName) ({ cls := "TableArms$Table", name := "into", desc := "(II)V" } : Jvm.MethodName)) ∈ lw_all := lw_g (lw_at lw_m2 212 rfl) rfl
theorem q542 : (Jvm.Cond.code ({ cls := "TableArms$Table", name := "into", desc := "(II)V" } : Jvm.MethodName) prog_15_method_13_code (3 : Nat) (Option.none : Option Jvm.ClassFile.FieldType)) ∈ lw_all := lw_g (lw_at lw_m2 213 rfl) rfl
theorem q548 : (Jvm.Cond.instanceMethod ({ cls := "TableArms$Table", name := "lay", desc := "(LTableArms$Table;)V" } : Jvm.MethodName)) ∈ lw_all := lw_g (lw_at lw_m2 219 rfl) rfl
theorem q549 : (Jvm.Cond.selects "TableArms$Table" ({ cls := "TableArms$Table", name := "lay", desc := "(LTableArms$Table;)V" } : Jvm.MethodName) ({ cls := "TableArms$Table", name := "lay", desc := "(LTableArms$Table;)V" } : Jvm.MethodName)) ∈ lw_all := lw_g (lw_at lw_m2 220 rfl) rfl
theorem q550 : (Jvm.Cond.code ({ cls := "TableArms$Table", name := "lay", desc := "(LTableArms$Table;)V" } : Jvm.MethodName) prog_15_method_2_code (2 : Nat) (Option.none : Option Jvm.ClassFile.FieldType)) ∈ lw_all := lw_g (lw_at lw_m2 221 rfl) rfl
theorem q551 : (Jvm.Cond.methodLink "TableArms$Table" (27 : Nat) ({ cls := "java/lang/System", name := "arraycopy", desc := "(Ljava/lang/Object;ILjava/lang/Object;II)V" } : Jvm.MethodName)) ∈ lw_all := lw_g (lw_at lw_m2 222 rfl) rfl
theorem q565 : (Jvm.Cond.instanceMethod ({ cls := "TableArms$Table", name := "isSame", desc := "(LTableArms$Table;I)Z" } : Jvm.MethodName)) ∈ lw_all := lw_g (lw_at lw_m2 236 rfl) rfl
theorem q566 : (Jvm.Cond.selects "TableArms$Table" ({ cls := "TableArms$Table", name := "isSame", desc := "(LTableArms$Table;I)Z" } : Jvm.MethodName) ({ cls := "TableArms$Table", name := "isSame", desc := "(LTableArms$Table;I)Z" } : Jvm.MethodName)) ∈ lw_all := lw_g (lw_at lw_m2 237 rfl) rfl
theorem q567 : (Jvm.Cond.code ({ cls := "TableArms$Table", name := "isSame", desc := "(LTableArms$Table;I)Z" } : Jvm.MethodName) prog_15_method_14_code (5 : Nat) (Option.some Jvm.ClassFile.FieldType.boolean)) ∈ lw_all := lw_g (lw_at lw_m2 238 rfl) rfl
theorem q696 : (Jvm.Cond.selects "TableArms$Table" ({ cls := "java/lang/Object", name := "getClass", desc := "()Ljava/lang/Class;" } : Jvm.MethodName) ({ cls := "java/lang/Object", name := "getClass", desc := "()Ljava/lang/Class;" } : Jvm.MethodName)) ∈ lw_all := lw_g (lw_at lw_m3 127 rfl) rfl
theorem q1904 : (Jvm.Cond.castable "TableArms$Table" "java/lang/Object") ∈ lw_tbl := lw_at lw_m8 135 rfl
theorem in_X1 : ∀ w ∈ wsX10, w ∈ lw_all := lw_in wsX10 [154, 156, 158, 160, 162] (by decide +kernel) (by decide +kernel)
/-! TableArms$Trail -/
set_option maxRecDepth 100000
def RX2 : String := "TableArms$Trail"
def TX2 : u_T := fun k => match k with
  | 0 => ("TableArms$Trail", "body", "[I", true)
  | _ => ("TableArms$Trail", "many", "I", false)
def tyX2 : Nat → FieldType := fun k => match k with
  | 0 => .array .int
  | _ => .int
abbrev wsX20 : List Cond := u_ws RX2 TX2 2
theorem nmX2 : ∀ a, a < 2 → ∀ b, b < 2 → a ≠ b → (TX2 a).2.1 ≠ (TX2 b).2.1 := by decide +kernel
theorem tyX2_ok : ∀ k, k < 2 → parseFieldDescriptor (TX2 k).2.2.1 = some (tyX2 k) := by decide +kernel
abbrev cX2_init : ByteArray := prog_16_method_1_code
def yX2_init : MethodName := ⟨RX2, "<init>", "()V"⟩
def dkwX2_init_0 : List UInt8 := [42, 183, 0, 3, 42, 16, 16, 188, 10, 181, 0, 9, 177]
abbrev dktX2_init_0 : List UInt8 := dkwX2_init_0 ++ []
theorem dksX2_init_0 : cX2_init.data.toList.drop 0 = dktX2_init_0 := by decide +kernel
theorem dX2_init_0 : decode cX2_init 0 = .ok (.aload_n 0, 1) := dk_42 (dk_at dksX2_init_0 0 rfl rfl)
theorem dX2_init_1 : decode cX2_init 1 = .ok (.invokespecial 3, 3) := dk_183 0 3 (dk_at dksX2_init_0 1 rfl rfl)
theorem dX2_init_4 : decode cX2_init 4 = .ok (.aload_n 0, 1) := dk_42 (dk_at dksX2_init_0 4 rfl rfl)
theorem dX2_init_5 : decode cX2_init 5 = .ok (.bipush 16, 2) := dk_16 16 (dk_at dksX2_init_0 5 rfl rfl)
theorem dX2_init_7 : decode cX2_init 7 = .ok (.newarray .int, 2) := dk_188_10 (dk_at dksX2_init_0 7 rfl rfl)
theorem dX2_init_9 : decode cX2_init 9 = .ok (.putfield 9, 3) := dk_181 0 9 (dk_at dksX2_init_0 9 rfl rfl)
theorem dX2_init_12 : decode cX2_init 12 = .ok (.return_, 1) := dk_177 (dk_at dksX2_init_0 12 rfl rfl)
abbrev cX2_begins : ByteArray := prog_16_method_2_code
def yX2_begins : MethodName := ⟨RX2, "begins", "(I)V"⟩
def dkwX2_begins_1 : List UInt8 := [27, 79, 177]
abbrev dktX2_begins_1 : List UInt8 := dkwX2_begins_1 ++ []
def dkwX2_begins_0 : List UInt8 := [42, 180, 0, 15, 16, 16, 162, 0, 20, 42, 180, 0, 9, 42, 89, 180, 0, 15, 90, 4, 96, 181, 0, 15]
abbrev dktX2_begins_0 : List UInt8 := dkwX2_begins_0 ++ dktX2_begins_1
theorem dksX2_begins_0 : cX2_begins.data.toList.drop 0 = dktX2_begins_0 := by decide +kernel
theorem dksX2_begins_1 : cX2_begins.data.toList.drop 24 = dktX2_begins_1 := dk_seg dksX2_begins_0 24 rfl rfl
theorem dX2_begins_0 : decode cX2_begins 0 = .ok (.aload_n 0, 1) := dk_42 (dk_at dksX2_begins_0 0 rfl rfl)
theorem dX2_begins_1 : decode cX2_begins 1 = .ok (.getfield 15, 3) := dk_180 0 15 (dk_at dksX2_begins_0 1 rfl rfl)
theorem dX2_begins_4 : decode cX2_begins 4 = .ok (.bipush 16, 2) := dk_16 16 (dk_at dksX2_begins_0 4 rfl rfl)
theorem dX2_begins_6 : decode cX2_begins 6 = .ok (.if_icmp .ge 20, 3) := dk_162 0 20 (dk_at dksX2_begins_0 6 rfl rfl)
theorem dX2_begins_9 : decode cX2_begins 9 = .ok (.aload_n 0, 1) := dk_42 (dk_at dksX2_begins_0 9 rfl rfl)
theorem dX2_begins_10 : decode cX2_begins 10 = .ok (.getfield 9, 3) := dk_180 0 9 (dk_at dksX2_begins_0 10 rfl rfl)
theorem dX2_begins_13 : decode cX2_begins 13 = .ok (.aload_n 0, 1) := dk_42 (dk_at dksX2_begins_0 13 rfl rfl)
theorem dX2_begins_14 : decode cX2_begins 14 = .ok (.dup, 1) := dk_89 (dk_at dksX2_begins_0 14 rfl rfl)
theorem dX2_begins_15 : decode cX2_begins 15 = .ok (.getfield 15, 3) := dk_180 0 15 (dk_at dksX2_begins_0 15 rfl rfl)
theorem dX2_begins_18 : decode cX2_begins 18 = .ok (.dup_x1, 1) := dk_90 (dk_at dksX2_begins_0 18 rfl rfl)
theorem dX2_begins_19 : decode cX2_begins 19 = .ok (.iconst 1, 1) := dk_4 (dk_at dksX2_begins_0 19 rfl rfl)
theorem dX2_begins_20 : decode cX2_begins 20 = .ok (.iadd, 1) := dk_96 (dk_at dksX2_begins_0 20 rfl rfl)
theorem dX2_begins_21 : decode cX2_begins 21 = .ok (.putfield 15, 3) := dk_181 0 15 (dk_at dksX2_begins_0 21 rfl rfl)
theorem dX2_begins_24 : decode cX2_begins 24 = .ok (.iload_n 1, 1) := dk_27 (dk_at dksX2_begins_1 0 rfl rfl)
theorem dX2_begins_25 : decode cX2_begins 25 = .ok (.iastore, 1) := dk_79 (dk_at dksX2_begins_1 1 rfl rfl)
theorem dX2_begins_26 : decode cX2_begins 26 = .ok (.return_, 1) := dk_177 (dk_at dksX2_begins_1 2 rfl rfl)
theorem q95 : (Jvm.Cond.initialized "TableArms$Trail") ∈ lw_all := lw_g (lw_at lw_m1 6 rfl) rfl
theorem q194 : (Jvm.Cond.instantiable "TableArms$Trail" (2 : Nat)) ∈ lw_all := lw_g (lw_at lw_m1 105 rfl) rfl
theorem q196 : (Jvm.Cond.instanceMethod ({ cls := "TableArms$Trail", name := "<init>", desc := "()V" } : Jvm.MethodName)) ∈ lw_all := lw_g (lw_at lw_m1 107 rfl) rfl
theorem q197 : (Jvm.Cond.code ({ cls := "TableArms$Trail", name := "<init>", desc := "()V" } : Jvm.MethodName) prog_16_method_1_code (1 : Nat) (Option.none : Option Jvm.ClassFile.FieldType)) ∈ lw_all := lw_g (lw_at lw_m1 108 rfl) rfl
theorem q198 : (Jvm.Cond.methodLink "TableArms$Trail" (3 : Nat) ({ cls := "java/lang/Object", name := "<init>", desc := "()V" } : Jvm.MethodName)) ∈ lw_all := lw_g (lw_at lw_m1 109 rfl) rfl
theorem q199 : (Jvm.Cond.fieldLink "TableArms$Trail" (9 : Nat) "TableArms$Trail" "body" "[I") ∈ lw_all := lw_g (lw_at lw_m1 110 rfl) rfl
theorem q201 : (Jvm.Cond.fieldLink "TableArms$Trail" (15 : Nat) "TableArms$Trail" "many" "I") ∈ lw_all := lw_g (lw_at lw_m1 112 rfl) rfl
theorem q203 : (Jvm.Cond.laysFinal "TableArms$Trail" "TableArms$Trail" "body" "[I") ∈ lw_all := lw_g (lw_at lw_m1 114 rfl) rfl
theorem q204 : (Jvm.Cond.soleField "TableArms$Trail" "body") ∈ lw_all := lw_g (lw_at lw_m1 115 rfl) rfl
theorem q205 : (Jvm.Cond.lays "TableArms$Trail" "TableArms$Trail" "many" "I") ∈ lw_all := lw_g (lw_at lw_m1 116 rfl) rfl
theorem q206 : (Jvm.Cond.soleField "TableArms$Trail" "many") ∈ lw_all := lw_g (lw_at lw_m1 117 rfl) rfl
theorem q207 : (Jvm.Cond.superclass "TableArms$Trail" "java/lang/Object") ∈ lw_all := lw_g (lw_at lw_m1 118 rfl) rfl
theorem q697 : (Jvm.Cond.selects "TableArms$Trail" ({ cls := "java/lang/Object", name := "getClass", desc := "()Ljava/lang/Class;" } : Jvm.MethodName) ({ cls := "java/lang/Object", name := "getClass", desc := "()Ljava/lang/Class;" } : Jvm.MethodName)) ∈ lw_all := lw_g (lw_at lw_m3 128 rfl) rfl
theorem q1305 : (Jvm.Cond.instanceMethod ({ cls := "TableArms$Trail", name := "begins", desc := "(I)V" } : Jvm.MethodName)) ∈ lw_all := lw_g (lw_at lw_m6 16 rfl) rfl
theorem q1306 : (Jvm.Cond.selects "TableArms$Trail" ({ cls := "TableArms$Trail", name := "begins", desc := "(I)V" } : Jvm.MethodName) ({ cls := "TableArms$Trail", name := "begins", desc := "(I)V" } : Jvm.MethodName)) ∈ lw_all := lw_g (lw_at lw_m6 17 rfl) rfl
theorem q1307 : (Jvm.Cond.code ({ cls := "TableArms$Trail", name := "begins", desc := "(I)V" } : Jvm.MethodName) prog_16_method_2_code (2 : Nat) (Option.none : Option Jvm.ClassFile.FieldType)) ∈ lw_all := lw_g (lw_at lw_m6 18 rfl) rfl
theorem q1908 : (Jvm.Cond.castable "TableArms$Trail" "java/lang/Object") ∈ lw_tbl := lw_at lw_m8 139 rfl
theorem in_X2 : ∀ w ∈ wsX20, w ∈ lw_all := lw_in wsX20 [203, 205] (by decide +kernel) (by decide +kernel)
/-! TableArms$Finding -/
set_option maxRecDepth 100000
def RX4 : String := "TableArms$Finding"
def TX4 : u_T := fun k => match k with
  | 0 => ("java/lang/Throwable", "cause", "Ljava/lang/Throwable;", false)
  | 1 => ("java/lang/Throwable", "stackTrace", "[Ljava/lang/StackTraceElement;", false)
  | 2 => ("java/lang/Throwable", "suppressedExceptions", "Ljava/util/List;", false)
  | 3 => ("java/lang/Throwable", "detailMessage", "Ljava/lang/String;", false)
  | 4 => ("java/lang/Throwable", "backtrace", "Ljava/lang/Object;", false)
  | 5 => ("java/lang/Throwable", "depth", "I", false)
  | _ => ("TableArms$Finding", "number", "I", true)
def tyX4 : Nat → FieldType := fun k => match k with
  | 0 => .object "java/lang/Throwable"
  | 1 => .array (.object "java/lang/StackTraceElement")
  | 2 => .object "java/util/List"
  | 3 => .object "java/lang/String"
  | 4 => .object "java/lang/Object"
  | 5 => .int
  | _ => .int
abbrev wsX40 : List Cond := u_ws RX4 TX4 7
theorem nmX4 : ∀ a, a < 7 → ∀ b, b < 7 → a ≠ b → (TX4 a).2.1 ≠ (TX4 b).2.1 := by decide +kernel
theorem tyX4_ok : ∀ k, k < 7 → parseFieldDescriptor (TX4 k).2.2.1 = some (tyX4 k) := by decide +kernel
abbrev cX4_init : ByteArray := prog_9_method_1_code
def yX4_init : MethodName := ⟨RX4, "<init>", "(I)V"⟩
def dkwX4_init_0 : List UInt8 := [42, 1, 1, 3, 3, 183, 0, 1, 42, 27, 181, 0, 7, 177]
abbrev dktX4_init_0 : List UInt8 := dkwX4_init_0 ++ []
theorem dksX4_init_0 : cX4_init.data.toList.drop 0 = dktX4_init_0 := by decide +kernel
theorem dX4_init_0 : decode cX4_init 0 = .ok (.aload_n 0, 1) := dk_42 (dk_at dksX4_init_0 0 rfl rfl)
theorem dX4_init_1 : decode cX4_init 1 = .ok (.aconst_null, 1) := dk_1 (dk_at dksX4_init_0 1 rfl rfl)
theorem dX4_init_2 : decode cX4_init 2 = .ok (.aconst_null, 1) := dk_1 (dk_at dksX4_init_0 2 rfl rfl)
theorem dX4_init_3 : decode cX4_init 3 = .ok (.iconst 0, 1) := dk_3 (dk_at dksX4_init_0 3 rfl rfl)
theorem dX4_init_4 : decode cX4_init 4 = .ok (.iconst 0, 1) := dk_3 (dk_at dksX4_init_0 4 rfl rfl)
theorem dX4_init_5 : decode cX4_init 5 = .ok (.invokespecial 1, 3) := dk_183 0 1 (dk_at dksX4_init_0 5 rfl rfl)
theorem dX4_init_8 : decode cX4_init 8 = .ok (.aload_n 0, 1) := dk_42 (dk_at dksX4_init_0 8 rfl rfl)
theorem dX4_init_9 : decode cX4_init 9 = .ok (.iload_n 1, 1) := dk_27 (dk_at dksX4_init_0 9 rfl rfl)
theorem dX4_init_10 : decode cX4_init 10 = .ok (.putfield 7, 3) := dk_181 0 7 (dk_at dksX4_init_0 10 rfl rfl)
theorem dX4_init_13 : decode cX4_init 13 = .ok (.return_, 1) := dk_177 (dk_at dksX4_init_0 13 rfl rfl)
theorem q99 : (Jvm.Cond.initialized "TableArms$Finding") ∈ lw_all := lw_g (lw_at lw_m1 10 rfl) rfl
theorem q293 : (Jvm.Cond.instantiable "TableArms$Finding" (7 : Nat)) ∈ lw_all := lw_g (lw_at lw_m1 204 rfl) rfl
theorem q294 : (Jvm.Cond.castable "TableArms$Finding" "TableArms$Finding") ∈ lw_tbl := lw_at lw_m1 205 rfl
theorem q299 : (Jvm.Cond.selects "TableArms$Finding" ({ cls := "java/lang/Throwable", name := "fillInStackTrace", desc := "(I)Ljava/lang/Throwable;" } : Jvm.MethodName) ({ cls := "java/lang/Throwable", name := "fillInStackTrace", desc := "(I)Ljava/lang/Throwable;" } : Jvm.MethodName)) ∈ lw_all := lw_g (lw_at lw_m1 210 rfl) rfl
theorem q300 : (Jvm.Cond.selects "TableArms$Finding" ({ cls := "java/lang/Throwable", name := "fillInStackTrace", desc := "()Ljava/lang/Throwable;" } : Jvm.MethodName) ({ cls := "java/lang/Throwable", name := "fillInStackTrace", desc := "()Ljava/lang/Throwable;" } : Jvm.MethodName)) ∈ lw_all := lw_g (lw_at lw_m1 211 rfl) rfl
theorem q301 : (Jvm.Cond.lays "TableArms$Finding" "java/lang/Throwable" "cause" "Ljava/lang/Throwable;") ∈ lw_all := lw_g (lw_at lw_m1 212 rfl) rfl
theorem q303 : (Jvm.Cond.lays "TableArms$Finding" "java/lang/Throwable" "stackTrace" "[Ljava/lang/StackTraceElement;") ∈ lw_all := lw_g (lw_at lw_m1 214 rfl) rfl
theorem q305 : (Jvm.Cond.lays "TableArms$Finding" "java/lang/Throwable" "suppressedExceptions" "Ljava/util/List;") ∈ lw_all := lw_g (lw_at lw_m1 216 rfl) rfl
theorem q307 : (Jvm.Cond.lays "TableArms$Finding" "java/lang/Throwable" "detailMessage" "Ljava/lang/String;") ∈ lw_all := lw_g (lw_at lw_m1 218 rfl) rfl
theorem q309 : (Jvm.Cond.lays "TableArms$Finding" "java/lang/Throwable" "backtrace" "Ljava/lang/Object;") ∈ lw_all := lw_g (lw_at lw_m1 220 rfl) rfl
theorem q333 : (Jvm.Cond.instanceMethod ({ cls := "TableArms$Finding", name := "<init>", desc := "(I)V" } : Jvm.MethodName)) ∈ lw_all := lw_g (lw_at lw_m2 4 rfl) rfl
theorem q334 : (Jvm.Cond.code ({ cls := "TableArms$Finding", name := "<init>", desc := "(I)V" } : Jvm.MethodName) prog_9_method_1_code (2 : Nat) (Option.none : Option Jvm.ClassFile.FieldType)) ∈ lw_all := lw_g (lw_at lw_m2 5 rfl) rfl
theorem q335 : (Jvm.Cond.methodLink "TableArms$Finding" (1 : Nat) ({ cls := "java/lang/Exception", name := "<init>", desc := "(Ljava/lang/String;Ljava/lang/Throwable;ZZ)V" } : Jvm.MethodName)) ∈ lw_all := lw_g (lw_at lw_m2 6 rfl) rfl
theorem q341 : (Jvm.Cond.fieldLink "TableArms$Finding" (7 : Nat) "TableArms$Finding" "number" "I") ∈ lw_all := lw_g (lw_at lw_m2 12 rfl) rfl
theorem q348 : (Jvm.Cond.laysFinal "TableArms$Finding" "TableArms$Finding" "number" "I") ∈ lw_all := lw_g (lw_at lw_m2 19 rfl) rfl
theorem q349 : (Jvm.Cond.soleField "TableArms$Finding" "number") ∈ lw_all := lw_g (lw_at lw_m2 20 rfl) rfl
theorem q354 : (Jvm.Cond.lays "TableArms$Finding" "java/lang/Throwable" "depth" "I") ∈ lw_all := lw_g (lw_at lw_m2 25 rfl) rfl
theorem q357 : (Jvm.Cond.superclass "TableArms$Finding" "java/lang/Exception") ∈ lw_all := lw_g (lw_at lw_m2 28 rfl) rfl
theorem q691 : (Jvm.Cond.selects "TableArms$Finding" ({ cls := "java/lang/Object", name := "getClass", desc := "()Ljava/lang/Class;" } : Jvm.MethodName) ({ cls := "java/lang/Object", name := "getClass", desc := "()Ljava/lang/Class;" } : Jvm.MethodName)) ∈ lw_all := lw_g (lw_at lw_m3 122 rfl) rfl
theorem q1910 : (Jvm.Cond.castable "TableArms$Finding" "java/lang/Object") ∈ lw_tbl := lw_at lw_m8 141 rfl
theorem in_X4 : ∀ w ∈ wsX40, w ∈ lw_all := lw_in wsX40 [301, 303, 305, 307, 309, 354, 348] (by decide +kernel) (by decide +kernel)
/-! TableArms$Sheet -/
set_option maxRecDepth 100000
def RX5 : String := "TableArms$Sheet"
def TX5 : u_T := fun k => match k with
  | 0 => ("TableArms$Sheet", "lane", "I", true)
  | _ => ("TableArms$Sheet", "items", "[I", true)
def tyX5 : Nat → FieldType := fun k => match k with
  | 0 => .int
  | _ => .array .int
abbrev wsX50 : List Cond := u_ws RX5 TX5 2
theorem nmX5 : ∀ a, a < 2 → ∀ b, b < 2 → a ≠ b → (TX5 a).2.1 ≠ (TX5 b).2.1 := by decide +kernel
theorem tyX5_ok : ∀ k, k < 2 → parseFieldDescriptor (TX5 k).2.2.1 = some (tyX5 k) := by decide +kernel
abbrev cX5_init : ByteArray := prog_14_method_1_code
def yX5_init : MethodName := ⟨RX5, "<init>", "(II)V"⟩
def dkwX5_init_0 : List UInt8 := [42, 183, 0, 3, 42, 27, 181, 0, 9, 42, 28, 188, 10, 181, 0, 15, 177]
abbrev dktX5_init_0 : List UInt8 := dkwX5_init_0 ++ []
theorem dksX5_init_0 : cX5_init.data.toList.drop 0 = dktX5_init_0 := by decide +kernel
theorem dX5_init_0 : decode cX5_init 0 = .ok (.aload_n 0, 1) := dk_42 (dk_at dksX5_init_0 0 rfl rfl)
theorem dX5_init_1 : decode cX5_init 1 = .ok (.invokespecial 3, 3) := dk_183 0 3 (dk_at dksX5_init_0 1 rfl rfl)
theorem dX5_init_4 : decode cX5_init 4 = .ok (.aload_n 0, 1) := dk_42 (dk_at dksX5_init_0 4 rfl rfl)
theorem dX5_init_5 : decode cX5_init 5 = .ok (.iload_n 1, 1) := dk_27 (dk_at dksX5_init_0 5 rfl rfl)
theorem dX5_init_6 : decode cX5_init 6 = .ok (.putfield 9, 3) := dk_181 0 9 (dk_at dksX5_init_0 6 rfl rfl)
theorem dX5_init_9 : decode cX5_init 9 = .ok (.aload_n 0, 1) := dk_42 (dk_at dksX5_init_0 9 rfl rfl)
theorem dX5_init_10 : decode cX5_init 10 = .ok (.iload_n 2, 1) := dk_28 (dk_at dksX5_init_0 10 rfl rfl)
theorem dX5_init_11 : decode cX5_init 11 = .ok (.newarray .int, 2) := dk_188_10 (dk_at dksX5_init_0 11 rfl rfl)
theorem dX5_init_13 : decode cX5_init 13 = .ok (.putfield 15, 3) := dk_181 0 15 (dk_at dksX5_init_0 13 rfl rfl)
theorem dX5_init_16 : decode cX5_init 16 = .ok (.return_, 1) := dk_177 (dk_at dksX5_init_0 16 rfl rfl)
abbrev cX5_cut : ByteArray := prog_14_method_2_code
def yX5_cut : MethodName := ⟨RX5, "cut", "(I)I"⟩
def dkwX5_cut_1 : List UInt8 := [167, 0, 4, 27, 172]
abbrev dktX5_cut_1 : List UInt8 := dkwX5_cut_1 ++ []
def dkwX5_cut_0 : List UInt8 := [42, 180, 0, 9, 154, 0, 8, 27, 145, 167, 0, 17, 42, 180, 0, 9, 4, 160, 0, 8, 27, 147]
abbrev dktX5_cut_0 : List UInt8 := dkwX5_cut_0 ++ dktX5_cut_1
theorem dksX5_cut_0 : cX5_cut.data.toList.drop 0 = dktX5_cut_0 := by decide +kernel
theorem dksX5_cut_1 : cX5_cut.data.toList.drop 22 = dktX5_cut_1 := dk_seg dksX5_cut_0 22 rfl rfl
theorem dX5_cut_0 : decode cX5_cut 0 = .ok (.aload_n 0, 1) := dk_42 (dk_at dksX5_cut_0 0 rfl rfl)
theorem dX5_cut_1 : decode cX5_cut 1 = .ok (.getfield 9, 3) := dk_180 0 9 (dk_at dksX5_cut_0 1 rfl rfl)
theorem dX5_cut_4 : decode cX5_cut 4 = .ok (.ifCond .ne 8, 3) := dk_154 0 8 (dk_at dksX5_cut_0 4 rfl rfl)
theorem dX5_cut_7 : decode cX5_cut 7 = .ok (.iload_n 1, 1) := dk_27 (dk_at dksX5_cut_0 7 rfl rfl)
theorem dX5_cut_8 : decode cX5_cut 8 = .ok (.i2b, 1) := dk_145 (dk_at dksX5_cut_0 8 rfl rfl)
theorem dX5_cut_9 : decode cX5_cut 9 = .ok (.goto 17, 3) := dk_167 0 17 (dk_at dksX5_cut_0 9 rfl rfl)
theorem dX5_cut_12 : decode cX5_cut 12 = .ok (.aload_n 0, 1) := dk_42 (dk_at dksX5_cut_0 12 rfl rfl)
theorem dX5_cut_13 : decode cX5_cut 13 = .ok (.getfield 9, 3) := dk_180 0 9 (dk_at dksX5_cut_0 13 rfl rfl)
theorem dX5_cut_16 : decode cX5_cut 16 = .ok (.iconst 1, 1) := dk_4 (dk_at dksX5_cut_0 16 rfl rfl)
theorem dX5_cut_17 : decode cX5_cut 17 = .ok (.if_icmp .ne 8, 3) := dk_160 0 8 (dk_at dksX5_cut_0 17 rfl rfl)
theorem dX5_cut_20 : decode cX5_cut 20 = .ok (.iload_n 1, 1) := dk_27 (dk_at dksX5_cut_0 20 rfl rfl)
theorem dX5_cut_21 : decode cX5_cut 21 = .ok (.i2s, 1) := dk_147 (dk_at dksX5_cut_0 21 rfl rfl)
theorem dX5_cut_22 : decode cX5_cut 22 = .ok (.goto 4, 3) := dk_167 0 4 (dk_at dksX5_cut_1 0 rfl rfl)
theorem dX5_cut_25 : decode cX5_cut 25 = .ok (.iload_n 1, 1) := dk_27 (dk_at dksX5_cut_1 3 rfl rfl)
theorem dX5_cut_26 : decode cX5_cut 26 = .ok (.ireturn, 1) := dk_172 (dk_at dksX5_cut_1 4 rfl rfl)
abbrev cX5_row : ByteArray := prog_14_method_3_code
def yX5_row : MethodName := ⟨RX5, "row", "(II)[I"⟩
def dkwX5_row_1 : List UInt8 := [5, 184, 0, 19, 28, 188, 10, 78, 42, 180, 0, 15, 27, 45, 3, 28, 184, 0, 23, 45, 176]
abbrev dktX5_row_1 : List UInt8 := dkwX5_row_1 ++ []
def dkwX5_row_0 : List UInt8 := [27, 155, 0, 22, 27, 133, 28, 133, 97, 42, 180, 0, 15, 190, 133, 148, 157, 0, 7, 4, 167, 0, 4, 3]
abbrev dktX5_row_0 : List UInt8 := dkwX5_row_0 ++ dktX5_row_1
theorem dksX5_row_0 : cX5_row.data.toList.drop 0 = dktX5_row_0 := by decide +kernel
theorem dksX5_row_1 : cX5_row.data.toList.drop 24 = dktX5_row_1 := dk_seg dksX5_row_0 24 rfl rfl
theorem dX5_row_0 : decode cX5_row 0 = .ok (.iload_n 1, 1) := dk_27 (dk_at dksX5_row_0 0 rfl rfl)
theorem dX5_row_1 : decode cX5_row 1 = .ok (.ifCond .lt 22, 3) := dk_155 0 22 (dk_at dksX5_row_0 1 rfl rfl)
theorem dX5_row_4 : decode cX5_row 4 = .ok (.iload_n 1, 1) := dk_27 (dk_at dksX5_row_0 4 rfl rfl)
theorem dX5_row_5 : decode cX5_row 5 = .ok (.i2l, 1) := dk_133 (dk_at dksX5_row_0 5 rfl rfl)
theorem dX5_row_6 : decode cX5_row 6 = .ok (.iload_n 2, 1) := dk_28 (dk_at dksX5_row_0 6 rfl rfl)
theorem dX5_row_7 : decode cX5_row 7 = .ok (.i2l, 1) := dk_133 (dk_at dksX5_row_0 7 rfl rfl)
theorem dX5_row_8 : decode cX5_row 8 = .ok (.ladd, 1) := dk_97 (dk_at dksX5_row_0 8 rfl rfl)
theorem dX5_row_9 : decode cX5_row 9 = .ok (.aload_n 0, 1) := dk_42 (dk_at dksX5_row_0 9 rfl rfl)
theorem dX5_row_10 : decode cX5_row 10 = .ok (.getfield 15, 3) := dk_180 0 15 (dk_at dksX5_row_0 10 rfl rfl)
theorem dX5_row_13 : decode cX5_row 13 = .ok (.arraylength, 1) := dk_190 (dk_at dksX5_row_0 13 rfl rfl)
theorem dX5_row_14 : decode cX5_row 14 = .ok (.i2l, 1) := dk_133 (dk_at dksX5_row_0 14 rfl rfl)
theorem dX5_row_15 : decode cX5_row 15 = .ok (.lcmp, 1) := dk_148 (dk_at dksX5_row_0 15 rfl rfl)
theorem dX5_row_16 : decode cX5_row 16 = .ok (.ifCond .gt 7, 3) := dk_157 0 7 (dk_at dksX5_row_0 16 rfl rfl)
theorem dX5_row_19 : decode cX5_row 19 = .ok (.iconst 1, 1) := dk_4 (dk_at dksX5_row_0 19 rfl rfl)
theorem dX5_row_20 : decode cX5_row 20 = .ok (.goto 4, 3) := dk_167 0 4 (dk_at dksX5_row_0 20 rfl rfl)
theorem dX5_row_23 : decode cX5_row 23 = .ok (.iconst 0, 1) := dk_3 (dk_at dksX5_row_0 23 rfl rfl)
theorem dX5_row_24 : decode cX5_row 24 = .ok (.iconst 2, 1) := dk_5 (dk_at dksX5_row_1 0 rfl rfl)
theorem dX5_row_25 : decode cX5_row 25 = .ok (.invokestatic 19, 3) := dk_184 0 19 (dk_at dksX5_row_1 1 rfl rfl)
theorem dX5_row_28 : decode cX5_row 28 = .ok (.iload_n 2, 1) := dk_28 (dk_at dksX5_row_1 4 rfl rfl)
theorem dX5_row_29 : decode cX5_row 29 = .ok (.newarray .int, 2) := dk_188_10 (dk_at dksX5_row_1 5 rfl rfl)
theorem dX5_row_31 : decode cX5_row 31 = .ok (.astore_n 3, 1) := dk_78 (dk_at dksX5_row_1 7 rfl rfl)
theorem dX5_row_32 : decode cX5_row 32 = .ok (.aload_n 0, 1) := dk_42 (dk_at dksX5_row_1 8 rfl rfl)
theorem dX5_row_33 : decode cX5_row 33 = .ok (.getfield 15, 3) := dk_180 0 15 (dk_at dksX5_row_1 9 rfl rfl)
theorem dX5_row_36 : decode cX5_row 36 = .ok (.iload_n 1, 1) := dk_27 (dk_at dksX5_row_1 12 rfl rfl)
theorem dX5_row_37 : decode cX5_row 37 = .ok (.aload_n 3, 1) := dk_45 (dk_at dksX5_row_1 13 rfl rfl)
theorem dX5_row_38 : decode cX5_row 38 = .ok (.iconst 0, 1) := dk_3 (dk_at dksX5_row_1 14 rfl rfl)
theorem dX5_row_39 : decode cX5_row 39 = .ok (.iload_n 2, 1) := dk_28 (dk_at dksX5_row_1 15 rfl rfl)
theorem dX5_row_40 : decode cX5_row 40 = .ok (.invokestatic 23, 3) := dk_184 0 23 (dk_at dksX5_row_1 16 rfl rfl)
theorem dX5_row_43 : decode cX5_row 43 = .ok (.aload_n 3, 1) := dk_45 (dk_at dksX5_row_1 19 rfl rfl)
theorem dX5_row_44 : decode cX5_row 44 = .ok (.areturn, 1) := dk_176 (dk_at dksX5_row_1 20 rfl rfl)
theorem q100 : (Jvm.Cond.initialized "TableArms$Sheet") ∈ lw_all := lw_g (lw_at lw_m1 11 rfl) rfl
theorem q358 : (Jvm.Cond.instantiable "TableArms$Sheet" (2 : Nat)) ∈ lw_all := lw_g (lw_at lw_m2 29 rfl) rfl
theorem q360 : (Jvm.Cond.instanceMethod ({ cls := "TableArms$Sheet", name := "<init>", desc := "(II)V" } : Jvm.MethodName)) ∈ lw_all := lw_g (lw_at lw_m2 31 rfl) rfl
theorem q361 : (Jvm.Cond.code ({ cls := "TableArms$Sheet", name := "<init>", desc := "(II)V" } : Jvm.MethodName) prog_14_method_1_code (3 : Nat) (Option.none : Option Jvm.ClassFile.FieldType)) ∈ lw_all := lw_g (lw_at lw_m2 32 rfl) rfl
theorem q362 : (Jvm.Cond.methodLink "TableArms$Sheet" (3 : Nat) ({ cls := "java/lang/Object", name := "<init>", desc := "()V" } : Jvm.MethodName)) ∈ lw_all := lw_g (lw_at lw_m2 33 rfl) rfl
theorem q363 : (Jvm.Cond.fieldLink "TableArms$Sheet" (9 : Nat) "TableArms$Sheet" "lane" "I") ∈ lw_all := lw_g (lw_at lw_m2 34 rfl) rfl
theorem q365 : (Jvm.Cond.fieldLink "TableArms$Sheet" (15 : Nat) "TableArms$Sheet" "items" "[I") ∈ lw_all := lw_g (lw_at lw_m2 36 rfl) rfl
theorem q367 : (Jvm.Cond.laysFinal "TableArms$Sheet" "TableArms$Sheet" "lane" "I") ∈ lw_all := lw_g (lw_at lw_m2 38 rfl) rfl
theorem q368 : (Jvm.Cond.soleField "TableArms$Sheet" "lane") ∈ lw_all := lw_g (lw_at lw_m2 39 rfl) rfl
theorem q369 : (Jvm.Cond.laysFinal "TableArms$Sheet" "TableArms$Sheet" "items" "[I") ∈ lw_all := lw_g (lw_at lw_m2 40 rfl) rfl
theorem q370 : (Jvm.Cond.soleField "TableArms$Sheet" "items") ∈ lw_all := lw_g (lw_at lw_m2 41 rfl) rfl
theorem q371 : (Jvm.Cond.superclass "TableArms$Sheet" "java/lang/Object") ∈ lw_all := lw_g (lw_at lw_m2 42 rfl) rfl
theorem q390 : (Jvm.Cond.instanceMethod ({ cls := "TableArms$Sheet", name := "cut", desc := "(I)I" } : Jvm.MethodName)) ∈ lw_all := lw_g (lw_at lw_m2 61 rfl) rfl
theorem q391 : (Jvm.Cond.selects "TableArms$Sheet" ({ cls := "TableArms$Sheet", name := "cut", desc := "(I)I" } : Jvm.MethodName) ({ cls := "TableArms$Sheet", name := "cut", desc := "(I)I" } : Jvm.MethodName)) ∈ lw_all := lw_g (lw_at lw_m2 62 rfl) rfl
theorem q392 : (Jvm.Cond.code ({ cls := "TableArms$Sheet", name := "cut", desc := "(I)I" } : Jvm.MethodName) prog_14_method_2_code (2 : Nat) (Option.some Jvm.ClassFile.FieldType.int)) ∈ lw_all := lw_g (lw_at lw_m2 63 rfl) rfl
theorem q695 : (Jvm.Cond.selects "TableArms$Sheet" ({ cls := "java/lang/Object", name := "getClass", desc := "()Ljava/lang/Class;" } : Jvm.MethodName) ({ cls := "java/lang/Object", name := "getClass", desc := "()Ljava/lang/Class;" } : Jvm.MethodName)) ∈ lw_all := lw_g (lw_at lw_m3 126 rfl) rfl
theorem q723 : (Jvm.Cond.instanceMethod ({ cls := "TableArms$Sheet", name := "row", desc := "(II)[I" } : Jvm.MethodName)) ∈ lw_all := lw_g (lw_at lw_m3 154 rfl) rfl
theorem q724 : (Jvm.Cond.selects "TableArms$Sheet" ({ cls := "TableArms$Sheet", name := "row", desc := "(II)[I" } : Jvm.MethodName) ({ cls := "TableArms$Sheet", name := "row", desc := "(II)[I" } : Jvm.MethodName)) ∈ lw_all := lw_g (lw_at lw_m3 155 rfl) rfl
theorem q725 : (Jvm.Cond.code ({ cls := "TableArms$Sheet", name := "row", desc := "(II)[I" } : Jvm.MethodName) prog_14_method_3_code (4 : Nat) (Option.some (Jvm.ClassFile.FieldType.array Jvm.ClassFile.FieldType.int))) ∈ lw_all := lw_g (lw_at lw_m3 156 rfl) rfl
theorem q726 : (Jvm.Cond.methodLinkNest "TableArms$Sheet" (19 : Nat) ({ cls := "TableArms", name := "must", desc := "(ZI)V" } : Jvm.MethodName) "TableArms") ∈ lw_tbl := lw_at lw_m3 157 rfl
theorem q727 : (Jvm.Cond.methodLink "TableArms$Sheet" (23 : Nat) ({ cls := "java/lang/System", name := "arraycopy", desc := "(Ljava/lang/Object;ILjava/lang/Object;II)V" } : Jvm.MethodName)) ∈ lw_all := lw_g (lw_at lw_m3 158 rfl) rfl
theorem q1903 : (Jvm.Cond.castable "TableArms$Sheet" "java/lang/Object") ∈ lw_tbl := lw_at lw_m8 134 rfl
theorem in_X5 : ∀ w ∈ wsX50, w ∈ lw_all := lw_in wsX50 [367, 369] (by decide +kernel) (by decide +kernel)
/-! TableArms$Lesson -/
set_option maxRecDepth 100000
def RX6 : String := "TableArms$Lesson"
def TX6 : u_T := fun k => match k with
  | 0 => ("TableArms$Lesson", "start", "I", true)
  | 1 => ("TableArms$Lesson", "end", "I", true)
  | 2 => ("TableArms$Lesson", "isNo", "Z", true)
  | 3 => ("TableArms$Lesson", "teacher", "I", true)
  | _ => ("TableArms$Lesson", "stands", "Z", false)
def tyX6 : Nat → FieldType := fun k => match k with
  | 0 => .int
  | 1 => .int
  | 2 => .boolean
  | 3 => .int
  | _ => .boolean
abbrev wsX60 : List Cond := u_ws RX6 TX6 5
theorem nmX6 : ∀ a, a < 5 → ∀ b, b < 5 → a ≠ b → (TX6 a).2.1 ≠ (TX6 b).2.1 := by decide +kernel
theorem tyX6_ok : ∀ k, k < 5 → parseFieldDescriptor (TX6 k).2.2.1 = some (tyX6 k) := by decide +kernel
abbrev cX6_init : ByteArray := prog_10_method_1_code
def yX6_init : MethodName := ⟨RX6, "<init>", "(IIZI)V"⟩
def dkwX6_init_1 : List UInt8 := [42, 21, 4, 181, 0, 23, 177]
abbrev dktX6_init_1 : List UInt8 := dkwX6_init_1 ++ []
def dkwX6_init_0 : List UInt8 := [42, 183, 0, 1, 42, 4, 181, 0, 7, 42, 27, 181, 0, 13, 42, 28, 181, 0, 17, 42, 29, 181, 0, 20]
abbrev dktX6_init_0 : List UInt8 := dkwX6_init_0 ++ dktX6_init_1
theorem dksX6_init_0 : cX6_init.data.toList.drop 0 = dktX6_init_0 := by decide +kernel
theorem dksX6_init_1 : cX6_init.data.toList.drop 24 = dktX6_init_1 := dk_seg dksX6_init_0 24 rfl rfl
theorem dX6_init_0 : decode cX6_init 0 = .ok (.aload_n 0, 1) := dk_42 (dk_at dksX6_init_0 0 rfl rfl)
theorem dX6_init_1 : decode cX6_init 1 = .ok (.invokespecial 1, 3) := dk_183 0 1 (dk_at dksX6_init_0 1 rfl rfl)
theorem dX6_init_4 : decode cX6_init 4 = .ok (.aload_n 0, 1) := dk_42 (dk_at dksX6_init_0 4 rfl rfl)
theorem dX6_init_5 : decode cX6_init 5 = .ok (.iconst 1, 1) := dk_4 (dk_at dksX6_init_0 5 rfl rfl)
theorem dX6_init_6 : decode cX6_init 6 = .ok (.putfield 7, 3) := dk_181 0 7 (dk_at dksX6_init_0 6 rfl rfl)
theorem dX6_init_9 : decode cX6_init 9 = .ok (.aload_n 0, 1) := dk_42 (dk_at dksX6_init_0 9 rfl rfl)
theorem dX6_init_10 : decode cX6_init 10 = .ok (.iload_n 1, 1) := dk_27 (dk_at dksX6_init_0 10 rfl rfl)
theorem dX6_init_11 : decode cX6_init 11 = .ok (.putfield 13, 3) := dk_181 0 13 (dk_at dksX6_init_0 11 rfl rfl)
theorem dX6_init_14 : decode cX6_init 14 = .ok (.aload_n 0, 1) := dk_42 (dk_at dksX6_init_0 14 rfl rfl)
theorem dX6_init_15 : decode cX6_init 15 = .ok (.iload_n 2, 1) := dk_28 (dk_at dksX6_init_0 15 rfl rfl)
theorem dX6_init_16 : decode cX6_init 16 = .ok (.putfield 17, 3) := dk_181 0 17 (dk_at dksX6_init_0 16 rfl rfl)
theorem dX6_init_19 : decode cX6_init 19 = .ok (.aload_n 0, 1) := dk_42 (dk_at dksX6_init_0 19 rfl rfl)
theorem dX6_init_20 : decode cX6_init 20 = .ok (.iload_n 3, 1) := dk_29 (dk_at dksX6_init_0 20 rfl rfl)
theorem dX6_init_21 : decode cX6_init 21 = .ok (.putfield 20, 3) := dk_181 0 20 (dk_at dksX6_init_0 21 rfl rfl)
theorem dX6_init_24 : decode cX6_init 24 = .ok (.aload_n 0, 1) := dk_42 (dk_at dksX6_init_1 0 rfl rfl)
theorem dX6_init_25 : decode cX6_init 25 = .ok (.iload 4, 2) := dk_21 4 (dk_at dksX6_init_1 1 rfl rfl)
theorem dX6_init_27 : decode cX6_init 27 = .ok (.putfield 23, 3) := dk_181 0 23 (dk_at dksX6_init_1 3 rfl rfl)
theorem dX6_init_30 : decode cX6_init 30 = .ok (.return_, 1) := dk_177 (dk_at dksX6_init_1 6 rfl rfl)
theorem q107 : (Jvm.Cond.initialized "TableArms$Lesson") ∈ lw_all := lw_g (lw_at lw_m1 18 rfl) rfl
theorem q621 : (Jvm.Cond.instantiable "TableArms$Lesson" (5 : Nat)) ∈ lw_all := lw_g (lw_at lw_m3 52 rfl) rfl
theorem q623 : (Jvm.Cond.instanceMethod ({ cls := "TableArms$Lesson", name := "<init>", desc := "(IIZI)V" } : Jvm.MethodName)) ∈ lw_all := lw_g (lw_at lw_m3 54 rfl) rfl
theorem q624 : (Jvm.Cond.code ({ cls := "TableArms$Lesson", name := "<init>", desc := "(IIZI)V" } : Jvm.MethodName) prog_10_method_1_code (5 : Nat) (Option.none : Option Jvm.ClassFile.FieldType)) ∈ lw_all := lw_g (lw_at lw_m3 55 rfl) rfl
theorem q625 : (Jvm.Cond.methodLink "TableArms$Lesson" (1 : Nat) ({ cls := "java/lang/Object", name := "<init>", desc := "()V" } : Jvm.MethodName)) ∈ lw_all := lw_g (lw_at lw_m3 56 rfl) rfl
theorem q626 : (Jvm.Cond.fieldLink "TableArms$Lesson" (13 : Nat) "TableArms$Lesson" "start" "I") ∈ lw_all := lw_g (lw_at lw_m3 57 rfl) rfl
theorem q628 : (Jvm.Cond.fieldLink "TableArms$Lesson" (17 : Nat) "TableArms$Lesson" "end" "I") ∈ lw_all := lw_g (lw_at lw_m3 59 rfl) rfl
theorem q630 : (Jvm.Cond.fieldLink "TableArms$Lesson" (20 : Nat) "TableArms$Lesson" "isNo" "Z") ∈ lw_all := lw_g (lw_at lw_m3 61 rfl) rfl
theorem q632 : (Jvm.Cond.fieldLink "TableArms$Lesson" (23 : Nat) "TableArms$Lesson" "teacher" "I") ∈ lw_all := lw_g (lw_at lw_m3 63 rfl) rfl
theorem q634 : (Jvm.Cond.fieldLink "TableArms$Lesson" (7 : Nat) "TableArms$Lesson" "stands" "Z") ∈ lw_all := lw_g (lw_at lw_m3 65 rfl) rfl
theorem q636 : (Jvm.Cond.laysFinal "TableArms$Lesson" "TableArms$Lesson" "start" "I") ∈ lw_all := lw_g (lw_at lw_m3 67 rfl) rfl
theorem q637 : (Jvm.Cond.soleField "TableArms$Lesson" "start") ∈ lw_all := lw_g (lw_at lw_m3 68 rfl) rfl
theorem q638 : (Jvm.Cond.laysFinal "TableArms$Lesson" "TableArms$Lesson" "end" "I") ∈ lw_all := lw_g (lw_at lw_m3 69 rfl) rfl
theorem q639 : (Jvm.Cond.soleField "TableArms$Lesson" "end") ∈ lw_all := lw_g (lw_at lw_m3 70 rfl) rfl
theorem q640 : (Jvm.Cond.laysFinal "TableArms$Lesson" "TableArms$Lesson" "isNo" "Z") ∈ lw_all := lw_g (lw_at lw_m3 71 rfl) rfl
theorem q641 : (Jvm.Cond.soleField "TableArms$Lesson" "isNo") ∈ lw_all := lw_g (lw_at lw_m3 72 rfl) rfl
theorem q642 : (Jvm.Cond.laysFinal "TableArms$Lesson" "TableArms$Lesson" "teacher" "I") ∈ lw_all := lw_g (lw_at lw_m3 73 rfl) rfl
theorem q643 : (Jvm.Cond.soleField "TableArms$Lesson" "teacher") ∈ lw_all := lw_g (lw_at lw_m3 74 rfl) rfl
theorem q644 : (Jvm.Cond.lays "TableArms$Lesson" "TableArms$Lesson" "stands" "Z") ∈ lw_all := lw_g (lw_at lw_m3 75 rfl) rfl
theorem q645 : (Jvm.Cond.soleField "TableArms$Lesson" "stands") ∈ lw_all := lw_g (lw_at lw_m3 76 rfl) rfl
theorem q646 : (Jvm.Cond.superclass "TableArms$Lesson" "java/lang/Object") ∈ lw_all := lw_g (lw_at lw_m3 77 rfl) rfl
theorem q692 : (Jvm.Cond.selects "TableArms$Lesson" ({ cls := "java/lang/Object", name := "getClass", desc := "()Ljava/lang/Class;" } : Jvm.MethodName) ({ cls := "java/lang/Object", name := "getClass", desc := "()Ljava/lang/Class;" } : Jvm.MethodName)) ∈ lw_all := lw_g (lw_at lw_m3 123 rfl) rfl
theorem q1912 : (Jvm.Cond.castable "TableArms$Lesson" "java/lang/Object") ∈ lw_tbl := lw_at lw_m8 143 rfl
theorem in_X6 : ∀ w ∈ wsX60, w ∈ lw_all := lw_in wsX60 [636, 638, 640, 642, 644] (by decide +kernel) (by decide +kernel)
/-! TableArms$Reader -/
set_option maxRecDepth 100000
def RX7 : String := "TableArms$Reader"
def TX7 : u_T := fun k => match k with
  | 0 => ("TableArms$Reader", "text", "[B", true)
  | 1 => ("TableArms$Reader", "size", "I", true)
  | 2 => ("TableArms$Reader", "may", "I", true)
  | 3 => ("TableArms$Reader", "at", "I", false)
  | 4 => ("TableArms$Reader", "token", "I", false)
  | 5 => ("TableArms$Reader", "from", "I", false)
  | 6 => ("TableArms$Reader", "number", "I", false)
  | 7 => ("TableArms$Reader", "name", "Ljava/lang/String;", false)
  | _ => ("TableArms$Reader", "made", "Ljava/util/List;", true)
def tyX7 : Nat → FieldType := fun k => match k with
  | 0 => .array .byte
  | 1 => .int
  | 2 => .int
  | 3 => .int
  | 4 => .int
  | 5 => .int
  | 6 => .int
  | 7 => .object "java/lang/String"
  | _ => .object "java/util/List"
abbrev wsX70 : List Cond := u_ws RX7 TX7 9
theorem nmX7 : ∀ a, a < 9 → ∀ b, b < 9 → a ≠ b → (TX7 a).2.1 ≠ (TX7 b).2.1 := by decide +kernel
theorem tyX7_ok : ∀ k, k < 9 → parseFieldDescriptor (TX7 k).2.2.1 = some (tyX7 k) := by decide +kernel
abbrev cX7_init : ByteArray := prog_13_method_1_code
def yX7_init : MethodName := ⟨RX7, "<init>", "([BII)V"⟩
def dkwX7_init_1 : List UInt8 := [181, 0, 24, 42, 28, 181, 0, 28, 42, 29, 181, 0, 32, 177]
abbrev dktX7_init_1 : List UInt8 := dkwX7_init_1 ++ []
def dkwX7_init_0 : List UInt8 := [42, 183, 0, 3, 42, 18, 9, 181, 0, 11, 42, 187, 0, 17, 89, 183, 0, 19, 181, 0, 20, 42, 43]
abbrev dktX7_init_0 : List UInt8 := dkwX7_init_0 ++ dktX7_init_1
theorem dksX7_init_0 : cX7_init.data.toList.drop 0 = dktX7_init_0 := by decide +kernel
theorem dksX7_init_1 : cX7_init.data.toList.drop 23 = dktX7_init_1 := dk_seg dksX7_init_0 23 rfl rfl
theorem dX7_init_0 : decode cX7_init 0 = .ok (.aload_n 0, 1) := dk_42 (dk_at dksX7_init_0 0 rfl rfl)
theorem dX7_init_1 : decode cX7_init 1 = .ok (.invokespecial 3, 3) := dk_183 0 3 (dk_at dksX7_init_0 1 rfl rfl)
theorem dX7_init_4 : decode cX7_init 4 = .ok (.aload_n 0, 1) := dk_42 (dk_at dksX7_init_0 4 rfl rfl)
theorem dX7_init_5 : decode cX7_init 5 = .ok (.ldc 9, 2) := dk_18 9 (dk_at dksX7_init_0 5 rfl rfl)
theorem dX7_init_7 : decode cX7_init 7 = .ok (.putfield 11, 3) := dk_181 0 11 (dk_at dksX7_init_0 7 rfl rfl)
theorem dX7_init_10 : decode cX7_init 10 = .ok (.aload_n 0, 1) := dk_42 (dk_at dksX7_init_0 10 rfl rfl)
theorem dX7_init_11 : decode cX7_init 11 = .ok (.new 17, 3) := dk_187 0 17 (dk_at dksX7_init_0 11 rfl rfl)
theorem dX7_init_14 : decode cX7_init 14 = .ok (.dup, 1) := dk_89 (dk_at dksX7_init_0 14 rfl rfl)
theorem dX7_init_15 : decode cX7_init 15 = .ok (.invokespecial 19, 3) := dk_183 0 19 (dk_at dksX7_init_0 15 rfl rfl)
theorem dX7_init_18 : decode cX7_init 18 = .ok (.putfield 20, 3) := dk_181 0 20 (dk_at dksX7_init_0 18 rfl rfl)
theorem dX7_init_21 : decode cX7_init 21 = .ok (.aload_n 0, 1) := dk_42 (dk_at dksX7_init_0 21 rfl rfl)
theorem dX7_init_22 : decode cX7_init 22 = .ok (.aload_n 1, 1) := dk_43 (dk_at dksX7_init_0 22 rfl rfl)
theorem dX7_init_23 : decode cX7_init 23 = .ok (.putfield 24, 3) := dk_181 0 24 (dk_at dksX7_init_1 0 rfl rfl)
theorem dX7_init_26 : decode cX7_init 26 = .ok (.aload_n 0, 1) := dk_42 (dk_at dksX7_init_1 3 rfl rfl)
theorem dX7_init_27 : decode cX7_init 27 = .ok (.iload_n 2, 1) := dk_28 (dk_at dksX7_init_1 4 rfl rfl)
theorem dX7_init_28 : decode cX7_init 28 = .ok (.putfield 28, 3) := dk_181 0 28 (dk_at dksX7_init_1 5 rfl rfl)
theorem dX7_init_31 : decode cX7_init 31 = .ok (.aload_n 0, 1) := dk_42 (dk_at dksX7_init_1 8 rfl rfl)
theorem dX7_init_32 : decode cX7_init 32 = .ok (.iload_n 3, 1) := dk_29 (dk_at dksX7_init_1 9 rfl rfl)
theorem dX7_init_33 : decode cX7_init 33 = .ok (.putfield 32, 3) := dk_181 0 32 (dk_at dksX7_init_1 10 rfl rfl)
theorem dX7_init_36 : decode cX7_init 36 = .ok (.return_, 1) := dk_177 (dk_at dksX7_init_1 13 rfl rfl)
abbrev cX7_all : ByteArray := prog_13_method_8_code
def yX7_all : MethodName := ⟨RX7, "all", "()V"⟩
def dkwX7_all_5 : List UInt8 := [167, 0, 4, 3, 4, 182, 0, 86, 177]
abbrev dktX7_all_5 : List UInt8 := dkwX7_all_5 ++ []
def dkwX7_all_4 : List UInt8 := [167, 0, 4, 3, 4, 182, 0, 86, 42, 182, 0, 90, 167, 255, 154, 42, 42, 180, 0, 46, 154, 0, 7, 4]
abbrev dktX7_all_4 : List UInt8 := dkwX7_all_4 ++ dktX7_all_5
def dkwX7_all_3 : List UInt8 := [167, 0, 7, 42, 182, 0, 108, 185, 0, 110, 2, 0, 87, 42, 42, 180, 0, 46, 6, 160, 0, 7, 4]
abbrev dktX7_all_3 : List UInt8 := dkwX7_all_3 ++ dktX7_all_4
def dkwX7_all_2 : List UInt8 := [42, 18, 97, 182, 0, 93, 60, 42, 182, 0, 90, 42, 180, 0, 20, 27, 153, 0, 10, 42, 182, 0, 105]
abbrev dktX7_all_2 : List UInt8 := dkwX7_all_2 ++ dktX7_all_3
def dkwX7_all_1 : List UInt8 := [180, 0, 20, 185, 0, 101, 1, 0, 42, 180, 0, 32, 162, 0, 7, 4, 167, 0, 4, 3, 6, 182, 0, 86]
abbrev dktX7_all_1 : List UInt8 := dkwX7_all_1 ++ dktX7_all_2
def dkwX7_all_0 : List UInt8 := [42, 182, 0, 90, 42, 18, 97, 182, 0, 93, 154, 0, 12, 42, 18, 99, 182, 0, 93, 153, 0, 90, 42, 42]
abbrev dktX7_all_0 : List UInt8 := dkwX7_all_0 ++ dktX7_all_1
theorem dksX7_all_0 : cX7_all.data.toList.drop 0 = dktX7_all_0 := by decide +kernel
theorem dksX7_all_1 : cX7_all.data.toList.drop 24 = dktX7_all_1 := dk_seg dksX7_all_0 24 rfl rfl
theorem dksX7_all_2 : cX7_all.data.toList.drop 48 = dktX7_all_2 := dk_seg dksX7_all_1 24 rfl rfl
theorem dksX7_all_3 : cX7_all.data.toList.drop 71 = dktX7_all_3 := dk_seg dksX7_all_2 23 rfl rfl
theorem dksX7_all_4 : cX7_all.data.toList.drop 94 = dktX7_all_4 := dk_seg dksX7_all_3 23 rfl rfl
theorem dksX7_all_5 : cX7_all.data.toList.drop 118 = dktX7_all_5 := dk_seg dksX7_all_4 24 rfl rfl
theorem dX7_all_0 : decode cX7_all 0 = .ok (.aload_n 0, 1) := dk_42 (dk_at dksX7_all_0 0 rfl rfl)
theorem dX7_all_1 : decode cX7_all 1 = .ok (.invokevirtual 90, 3) := dk_182 0 90 (dk_at dksX7_all_0 1 rfl rfl)
theorem dX7_all_4 : decode cX7_all 4 = .ok (.aload_n 0, 1) := dk_42 (dk_at dksX7_all_0 4 rfl rfl)
theorem dX7_all_5 : decode cX7_all 5 = .ok (.ldc 97, 2) := dk_18 97 (dk_at dksX7_all_0 5 rfl rfl)
theorem dX7_all_7 : decode cX7_all 7 = .ok (.invokevirtual 93, 3) := dk_182 0 93 (dk_at dksX7_all_0 7 rfl rfl)
theorem dX7_all_10 : decode cX7_all 10 = .ok (.ifCond .ne 12, 3) := dk_154 0 12 (dk_at dksX7_all_0 10 rfl rfl)
theorem dX7_all_13 : decode cX7_all 13 = .ok (.aload_n 0, 1) := dk_42 (dk_at dksX7_all_0 13 rfl rfl)
theorem dX7_all_14 : decode cX7_all 14 = .ok (.ldc 99, 2) := dk_18 99 (dk_at dksX7_all_0 14 rfl rfl)
theorem dX7_all_16 : decode cX7_all 16 = .ok (.invokevirtual 93, 3) := dk_182 0 93 (dk_at dksX7_all_0 16 rfl rfl)
theorem dX7_all_19 : decode cX7_all 19 = .ok (.ifCond .eq 90, 3) := dk_153 0 90 (dk_at dksX7_all_0 19 rfl rfl)
theorem dX7_all_22 : decode cX7_all 22 = .ok (.aload_n 0, 1) := dk_42 (dk_at dksX7_all_0 22 rfl rfl)
theorem dX7_all_23 : decode cX7_all 23 = .ok (.aload_n 0, 1) := dk_42 (dk_at dksX7_all_0 23 rfl rfl)
theorem dX7_all_24 : decode cX7_all 24 = .ok (.getfield 20, 3) := dk_180 0 20 (dk_at dksX7_all_1 0 rfl rfl)
theorem dX7_all_27 : decode cX7_all 27 = .ok (.invokeinterface 101 1, 5) := by decide +kernel
theorem dX7_all_32 : decode cX7_all 32 = .ok (.aload_n 0, 1) := dk_42 (dk_at dksX7_all_1 8 rfl rfl)
theorem dX7_all_33 : decode cX7_all 33 = .ok (.getfield 32, 3) := dk_180 0 32 (dk_at dksX7_all_1 9 rfl rfl)
theorem dX7_all_36 : decode cX7_all 36 = .ok (.if_icmp .ge 7, 3) := dk_162 0 7 (dk_at dksX7_all_1 12 rfl rfl)
theorem dX7_all_39 : decode cX7_all 39 = .ok (.iconst 1, 1) := dk_4 (dk_at dksX7_all_1 15 rfl rfl)
theorem dX7_all_40 : decode cX7_all 40 = .ok (.goto 4, 3) := dk_167 0 4 (dk_at dksX7_all_1 16 rfl rfl)
theorem dX7_all_43 : decode cX7_all 43 = .ok (.iconst 0, 1) := dk_3 (dk_at dksX7_all_1 19 rfl rfl)
theorem dX7_all_44 : decode cX7_all 44 = .ok (.iconst 3, 1) := dk_6 (dk_at dksX7_all_1 20 rfl rfl)
theorem dX7_all_45 : decode cX7_all 45 = .ok (.invokevirtual 86, 3) := dk_182 0 86 (dk_at dksX7_all_1 21 rfl rfl)
theorem dX7_all_48 : decode cX7_all 48 = .ok (.aload_n 0, 1) := dk_42 (dk_at dksX7_all_2 0 rfl rfl)
theorem dX7_all_49 : decode cX7_all 49 = .ok (.ldc 97, 2) := dk_18 97 (dk_at dksX7_all_2 1 rfl rfl)
theorem dX7_all_51 : decode cX7_all 51 = .ok (.invokevirtual 93, 3) := dk_182 0 93 (dk_at dksX7_all_2 3 rfl rfl)
theorem dX7_all_54 : decode cX7_all 54 = .ok (.istore_n 1, 1) := dk_60 (dk_at dksX7_all_2 6 rfl rfl)
theorem dX7_all_55 : decode cX7_all 55 = .ok (.aload_n 0, 1) := dk_42 (dk_at dksX7_all_2 7 rfl rfl)
theorem dX7_all_56 : decode cX7_all 56 = .ok (.invokevirtual 90, 3) := dk_182 0 90 (dk_at dksX7_all_2 8 rfl rfl)
theorem dX7_all_59 : decode cX7_all 59 = .ok (.aload_n 0, 1) := dk_42 (dk_at dksX7_all_2 11 rfl rfl)
theorem dX7_all_60 : decode cX7_all 60 = .ok (.getfield 20, 3) := dk_180 0 20 (dk_at dksX7_all_2 12 rfl rfl)
theorem dX7_all_63 : decode cX7_all 63 = .ok (.iload_n 1, 1) := dk_27 (dk_at dksX7_all_2 15 rfl rfl)
theorem dX7_all_64 : decode cX7_all 64 = .ok (.ifCond .eq 10, 3) := dk_153 0 10 (dk_at dksX7_all_2 16 rfl rfl)
theorem dX7_all_67 : decode cX7_all 67 = .ok (.aload_n 0, 1) := dk_42 (dk_at dksX7_all_2 19 rfl rfl)
theorem dX7_all_68 : decode cX7_all 68 = .ok (.invokevirtual 105, 3) := dk_182 0 105 (dk_at dksX7_all_2 20 rfl rfl)
theorem dX7_all_71 : decode cX7_all 71 = .ok (.goto 7, 3) := dk_167 0 7 (dk_at dksX7_all_3 0 rfl rfl)
theorem dX7_all_74 : decode cX7_all 74 = .ok (.aload_n 0, 1) := dk_42 (dk_at dksX7_all_3 3 rfl rfl)
theorem dX7_all_75 : decode cX7_all 75 = .ok (.invokevirtual 108, 3) := dk_182 0 108 (dk_at dksX7_all_3 4 rfl rfl)
theorem dX7_all_78 : decode cX7_all 78 = .ok (.invokeinterface 110 2, 5) := by decide +kernel
theorem dX7_all_83 : decode cX7_all 83 = .ok (.pop, 1) := dk_87 (dk_at dksX7_all_3 12 rfl rfl)
theorem dX7_all_84 : decode cX7_all 84 = .ok (.aload_n 0, 1) := dk_42 (dk_at dksX7_all_3 13 rfl rfl)
theorem dX7_all_85 : decode cX7_all 85 = .ok (.aload_n 0, 1) := dk_42 (dk_at dksX7_all_3 14 rfl rfl)
theorem dX7_all_86 : decode cX7_all 86 = .ok (.getfield 46, 3) := dk_180 0 46 (dk_at dksX7_all_3 15 rfl rfl)
theorem dX7_all_89 : decode cX7_all 89 = .ok (.iconst 3, 1) := dk_6 (dk_at dksX7_all_3 18 rfl rfl)
theorem dX7_all_90 : decode cX7_all 90 = .ok (.if_icmp .ne 7, 3) := dk_160 0 7 (dk_at dksX7_all_3 19 rfl rfl)
theorem dX7_all_93 : decode cX7_all 93 = .ok (.iconst 1, 1) := dk_4 (dk_at dksX7_all_3 22 rfl rfl)
theorem dX7_all_94 : decode cX7_all 94 = .ok (.goto 4, 3) := dk_167 0 4 (dk_at dksX7_all_4 0 rfl rfl)
theorem dX7_all_97 : decode cX7_all 97 = .ok (.iconst 0, 1) := dk_3 (dk_at dksX7_all_4 3 rfl rfl)
theorem dX7_all_98 : decode cX7_all 98 = .ok (.iconst 1, 1) := dk_4 (dk_at dksX7_all_4 4 rfl rfl)
theorem dX7_all_99 : decode cX7_all 99 = .ok (.invokevirtual 86, 3) := dk_182 0 86 (dk_at dksX7_all_4 5 rfl rfl)
theorem dX7_all_102 : decode cX7_all 102 = .ok (.aload_n 0, 1) := dk_42 (dk_at dksX7_all_4 8 rfl rfl)
theorem dX7_all_103 : decode cX7_all 103 = .ok (.invokevirtual 90, 3) := dk_182 0 90 (dk_at dksX7_all_4 9 rfl rfl)
theorem dX7_all_106 : decode cX7_all 106 = .ok (.goto (-102), 3) := dk_167 255 154 (dk_at dksX7_all_4 12 rfl rfl)
theorem dX7_all_109 : decode cX7_all 109 = .ok (.aload_n 0, 1) := dk_42 (dk_at dksX7_all_4 15 rfl rfl)
theorem dX7_all_110 : decode cX7_all 110 = .ok (.aload_n 0, 1) := dk_42 (dk_at dksX7_all_4 16 rfl rfl)
theorem dX7_all_111 : decode cX7_all 111 = .ok (.getfield 46, 3) := dk_180 0 46 (dk_at dksX7_all_4 17 rfl rfl)
theorem dX7_all_114 : decode cX7_all 114 = .ok (.ifCond .ne 7, 3) := dk_154 0 7 (dk_at dksX7_all_4 20 rfl rfl)
theorem dX7_all_117 : decode cX7_all 117 = .ok (.iconst 1, 1) := dk_4 (dk_at dksX7_all_4 23 rfl rfl)
theorem dX7_all_118 : decode cX7_all 118 = .ok (.goto 4, 3) := dk_167 0 4 (dk_at dksX7_all_5 0 rfl rfl)
theorem dX7_all_121 : decode cX7_all 121 = .ok (.iconst 0, 1) := dk_3 (dk_at dksX7_all_5 3 rfl rfl)
theorem dX7_all_122 : decode cX7_all 122 = .ok (.iconst 1, 1) := dk_4 (dk_at dksX7_all_5 4 rfl rfl)
theorem dX7_all_123 : decode cX7_all 123 = .ok (.invokevirtual 86, 3) := dk_182 0 86 (dk_at dksX7_all_5 5 rfl rfl)
theorem dX7_all_126 : decode cX7_all 126 = .ok (.return_, 1) := dk_177 (dk_at dksX7_all_5 8 rfl rfl)
abbrev cX7_next : ByteArray := prog_13_method_3_code
def yX7_next : MethodName := ⟨RX7, "next", "()V"⟩
def dkwX7_next_12 : List UInt8 := [167, 0, 4, 7, 181, 0, 46, 177]
abbrev dktX7_next_12 : List UInt8 := dkwX7_next_12 ++ []
def dkwX7_next_11 : List UInt8 := [181, 0, 46, 167, 0, 28, 42, 89, 180, 0, 35, 4, 96, 181, 0, 35, 42, 27, 16, 59, 160, 0, 7, 6]
abbrev dktX7_next_11 : List UInt8 := dkwX7_next_11 ++ dktX7_next_12
def dkwX7_next_10 : List UInt8 := [167, 255, 190, 42, 42, 180, 0, 35, 42, 180, 0, 43, 100, 6, 163, 0, 7, 5, 167, 0, 4, 7]
abbrev dktX7_next_10 : List UInt8 := dkwX7_next_10 ++ dktX7_next_11
def dkwX7_next_9 : List UInt8 := [16, 48, 100, 167, 0, 7, 42, 180, 0, 72, 181, 0, 72, 42, 89, 180, 0, 35, 4, 96, 181, 0, 35]
abbrev dktX7_next_9 : List UInt8 := dkwX7_next_9 ++ dktX7_next_10
def dkwX7_next_8 : List UInt8 := [180, 0, 35, 42, 180, 0, 43, 100, 6, 162, 0, 21, 16, 10, 42, 180, 0, 72, 104, 42, 182, 0, 39, 96]
abbrev dktX7_next_8 : List UInt8 := dkwX7_next_8 ++ dktX7_next_9
def dkwX7_next_7 : List UInt8 := [181, 0, 72, 42, 182, 0, 39, 133, 20, 0, 68, 20, 0, 70, 184, 0, 53, 153, 0, 55, 42, 42]
abbrev dktX7_next_7 : List UInt8 := dkwX7_next_7 ++ dktX7_next_8
def dkwX7_next_6 : List UInt8 := [181, 0, 46, 167, 0, 141, 27, 133, 20, 0, 68, 20, 0, 70, 184, 0, 53, 153, 0, 102, 42, 3]
abbrev dktX7_next_6 : List UInt8 := dkwX7_next_6 ++ dktX7_next_7
def dkwX7_next_5 : List UInt8 := [17, 0, 255, 126, 146, 182, 0, 60, 87, 167, 255, 213, 42, 44, 182, 0, 64, 181, 0, 11, 42, 4]
abbrev dktX7_next_5 : List UInt8 := dkwX7_next_5 ++ dktX7_next_6
def dkwX7_next_4 : List UInt8 := [184, 0, 53, 153, 0, 32, 44, 42, 180, 0, 24, 42, 89, 180, 0, 35, 90, 4, 96, 181, 0, 35, 51]
abbrev dktX7_next_4 : List UInt8 := dkwX7_next_4 ++ dktX7_next_5
def dkwX7_next_3 : List UInt8 := [153, 0, 73, 187, 0, 57, 89, 183, 0, 59, 77, 42, 182, 0, 39, 133, 20, 0, 49, 20, 0, 51]
abbrev dktX7_next_3 : List UInt8 := dkwX7_next_3 ++ dktX7_next_4
def dkwX7_next_2 : List UInt8 := [160, 0, 11, 42, 3, 181, 0, 46, 167, 0, 225, 27, 133, 20, 0, 49, 20, 0, 51, 184, 0, 53]
abbrev dktX7_next_2 : List UInt8 := dkwX7_next_2 ++ dktX7_next_3
def dkwX7_next_1 : List UInt8 := [96, 181, 0, 35, 167, 255, 228, 42, 42, 180, 0, 35, 181, 0, 43, 42, 182, 0, 39, 60, 27, 18, 38]
abbrev dktX7_next_1 : List UInt8 := dkwX7_next_1 ++ dktX7_next_2
def dkwX7_next_0 : List UInt8 := [42, 182, 0, 39, 16, 32, 159, 0, 12, 42, 182, 0, 39, 16, 10, 160, 0, 16, 42, 89, 180, 0, 35, 4]
abbrev dktX7_next_0 : List UInt8 := dkwX7_next_0 ++ dktX7_next_1
theorem dksX7_next_0 : cX7_next.data.toList.drop 0 = dktX7_next_0 := by decide +kernel
theorem dksX7_next_1 : cX7_next.data.toList.drop 24 = dktX7_next_1 := dk_seg dksX7_next_0 24 rfl rfl
theorem dksX7_next_2 : cX7_next.data.toList.drop 47 = dktX7_next_2 := dk_seg dksX7_next_1 23 rfl rfl
theorem dksX7_next_3 : cX7_next.data.toList.drop 69 = dktX7_next_3 := dk_seg dksX7_next_2 22 rfl rfl
theorem dksX7_next_4 : cX7_next.data.toList.drop 91 = dktX7_next_4 := dk_seg dksX7_next_3 22 rfl rfl
theorem dksX7_next_5 : cX7_next.data.toList.drop 114 = dktX7_next_5 := dk_seg dksX7_next_4 23 rfl rfl
theorem dksX7_next_6 : cX7_next.data.toList.drop 136 = dktX7_next_6 := dk_seg dksX7_next_5 22 rfl rfl
theorem dksX7_next_7 : cX7_next.data.toList.drop 158 = dktX7_next_7 := dk_seg dksX7_next_6 22 rfl rfl
theorem dksX7_next_8 : cX7_next.data.toList.drop 180 = dktX7_next_8 := dk_seg dksX7_next_7 22 rfl rfl
theorem dksX7_next_9 : cX7_next.data.toList.drop 204 = dktX7_next_9 := dk_seg dksX7_next_8 24 rfl rfl
theorem dksX7_next_10 : cX7_next.data.toList.drop 227 = dktX7_next_10 := dk_seg dksX7_next_9 23 rfl rfl
theorem dksX7_next_11 : cX7_next.data.toList.drop 249 = dktX7_next_11 := dk_seg dksX7_next_10 22 rfl rfl
theorem dksX7_next_12 : cX7_next.data.toList.drop 273 = dktX7_next_12 := dk_seg dksX7_next_11 24 rfl rfl
theorem dX7_next_0 : decode cX7_next 0 = .ok (.aload_n 0, 1) := dk_42 (dk_at dksX7_next_0 0 rfl rfl)
theorem dX7_next_1 : decode cX7_next 1 = .ok (.invokevirtual 39, 3) := dk_182 0 39 (dk_at dksX7_next_0 1 rfl rfl)
theorem dX7_next_4 : decode cX7_next 4 = .ok (.bipush 32, 2) := dk_16 32 (dk_at dksX7_next_0 4 rfl rfl)
theorem dX7_next_6 : decode cX7_next 6 = .ok (.if_icmp .eq 12, 3) := dk_159 0 12 (dk_at dksX7_next_0 6 rfl rfl)
theorem dX7_next_9 : decode cX7_next 9 = .ok (.aload_n 0, 1) := dk_42 (dk_at dksX7_next_0 9 rfl rfl)
theorem dX7_next_10 : decode cX7_next 10 = .ok (.invokevirtual 39, 3) := dk_182 0 39 (dk_at dksX7_next_0 10 rfl rfl)
theorem dX7_next_13 : decode cX7_next 13 = .ok (.bipush 10, 2) := dk_16 10 (dk_at dksX7_next_0 13 rfl rfl)
theorem dX7_next_15 : decode cX7_next 15 = .ok (.if_icmp .ne 16, 3) := dk_160 0 16 (dk_at dksX7_next_0 15 rfl rfl)
theorem dX7_next_18 : decode cX7_next 18 = .ok (.aload_n 0, 1) := dk_42 (dk_at dksX7_next_0 18 rfl rfl)
theorem dX7_next_19 : decode cX7_next 19 = .ok (.dup, 1) := dk_89 (dk_at dksX7_next_0 19 rfl rfl)
theorem dX7_next_20 : decode cX7_next 20 = .ok (.getfield 35, 3) := dk_180 0 35 (dk_at dksX7_next_0 20 rfl rfl)
theorem dX7_next_23 : decode cX7_next 23 = .ok (.iconst 1, 1) := dk_4 (dk_at dksX7_next_0 23 rfl rfl)
theorem dX7_next_24 : decode cX7_next 24 = .ok (.iadd, 1) := dk_96 (dk_at dksX7_next_1 0 rfl rfl)
theorem dX7_next_25 : decode cX7_next 25 = .ok (.putfield 35, 3) := dk_181 0 35 (dk_at dksX7_next_1 1 rfl rfl)
theorem dX7_next_28 : decode cX7_next 28 = .ok (.goto (-28), 3) := dk_167 255 228 (dk_at dksX7_next_1 4 rfl rfl)
theorem dX7_next_31 : decode cX7_next 31 = .ok (.aload_n 0, 1) := dk_42 (dk_at dksX7_next_1 7 rfl rfl)
theorem dX7_next_32 : decode cX7_next 32 = .ok (.aload_n 0, 1) := dk_42 (dk_at dksX7_next_1 8 rfl rfl)
theorem dX7_next_33 : decode cX7_next 33 = .ok (.getfield 35, 3) := dk_180 0 35 (dk_at dksX7_next_1 9 rfl rfl)
theorem dX7_next_36 : decode cX7_next 36 = .ok (.putfield 43, 3) := dk_181 0 43 (dk_at dksX7_next_1 12 rfl rfl)
theorem dX7_next_39 : decode cX7_next 39 = .ok (.aload_n 0, 1) := dk_42 (dk_at dksX7_next_1 15 rfl rfl)
theorem dX7_next_40 : decode cX7_next 40 = .ok (.invokevirtual 39, 3) := dk_182 0 39 (dk_at dksX7_next_1 16 rfl rfl)
theorem dX7_next_43 : decode cX7_next 43 = .ok (.istore_n 1, 1) := dk_60 (dk_at dksX7_next_1 19 rfl rfl)
theorem dX7_next_44 : decode cX7_next 44 = .ok (.iload_n 1, 1) := dk_27 (dk_at dksX7_next_1 20 rfl rfl)
theorem dX7_next_45 : decode cX7_next 45 = .ok (.ldc 38, 2) := dk_18 38 (dk_at dksX7_next_1 21 rfl rfl)
theorem dX7_next_47 : decode cX7_next 47 = .ok (.if_icmp .ne 11, 3) := dk_160 0 11 (dk_at dksX7_next_2 0 rfl rfl)
theorem dX7_next_50 : decode cX7_next 50 = .ok (.aload_n 0, 1) := dk_42 (dk_at dksX7_next_2 3 rfl rfl)
theorem dX7_next_51 : decode cX7_next 51 = .ok (.iconst 0, 1) := dk_3 (dk_at dksX7_next_2 4 rfl rfl)
theorem dX7_next_52 : decode cX7_next 52 = .ok (.putfield 46, 3) := dk_181 0 46 (dk_at dksX7_next_2 5 rfl rfl)
theorem dX7_next_55 : decode cX7_next 55 = .ok (.goto 225, 3) := dk_167 0 225 (dk_at dksX7_next_2 8 rfl rfl)
theorem dX7_next_58 : decode cX7_next 58 = .ok (.iload_n 1, 1) := dk_27 (dk_at dksX7_next_2 11 rfl rfl)
theorem dX7_next_59 : decode cX7_next 59 = .ok (.i2l, 1) := dk_133 (dk_at dksX7_next_2 12 rfl rfl)
theorem dX7_next_60 : decode cX7_next 60 = .ok (.ldc2_w 49, 3) := dk_20 0 49 (dk_at dksX7_next_2 13 rfl rfl)
theorem dX7_next_63 : decode cX7_next 63 = .ok (.ldc2_w 51, 3) := dk_20 0 51 (dk_at dksX7_next_2 16 rfl rfl)
theorem dX7_next_66 : decode cX7_next 66 = .ok (.invokestatic 53, 3) := dk_184 0 53 (dk_at dksX7_next_2 19 rfl rfl)
theorem dX7_next_69 : decode cX7_next 69 = .ok (.ifCond .eq 73, 3) := dk_153 0 73 (dk_at dksX7_next_3 0 rfl rfl)
theorem dX7_next_72 : decode cX7_next 72 = .ok (.new 57, 3) := dk_187 0 57 (dk_at dksX7_next_3 3 rfl rfl)
theorem dX7_next_75 : decode cX7_next 75 = .ok (.dup, 1) := dk_89 (dk_at dksX7_next_3 6 rfl rfl)
theorem dX7_next_76 : decode cX7_next 76 = .ok (.invokespecial 59, 3) := dk_183 0 59 (dk_at dksX7_next_3 7 rfl rfl)
theorem dX7_next_79 : decode cX7_next 79 = .ok (.astore_n 2, 1) := dk_77 (dk_at dksX7_next_3 10 rfl rfl)
theorem dX7_next_80 : decode cX7_next 80 = .ok (.aload_n 0, 1) := dk_42 (dk_at dksX7_next_3 11 rfl rfl)
theorem dX7_next_81 : decode cX7_next 81 = .ok (.invokevirtual 39, 3) := dk_182 0 39 (dk_at dksX7_next_3 12 rfl rfl)
theorem dX7_next_84 : decode cX7_next 84 = .ok (.i2l, 1) := dk_133 (dk_at dksX7_next_3 15 rfl rfl)
theorem dX7_next_85 : decode cX7_next 85 = .ok (.ldc2_w 49, 3) := dk_20 0 49 (dk_at dksX7_next_3 16 rfl rfl)
theorem dX7_next_88 : decode cX7_next 88 = .ok (.ldc2_w 51, 3) := dk_20 0 51 (dk_at dksX7_next_3 19 rfl rfl)
theorem dX7_next_91 : decode cX7_next 91 = .ok (.invokestatic 53, 3) := dk_184 0 53 (dk_at dksX7_next_4 0 rfl rfl)
theorem dX7_next_94 : decode cX7_next 94 = .ok (.ifCond .eq 32, 3) := dk_153 0 32 (dk_at dksX7_next_4 3 rfl rfl)
theorem dX7_next_97 : decode cX7_next 97 = .ok (.aload_n 2, 1) := dk_44 (dk_at dksX7_next_4 6 rfl rfl)
theorem dX7_next_98 : decode cX7_next 98 = .ok (.aload_n 0, 1) := dk_42 (dk_at dksX7_next_4 7 rfl rfl)
theorem dX7_next_99 : decode cX7_next 99 = .ok (.getfield 24, 3) := dk_180 0 24 (dk_at dksX7_next_4 8 rfl rfl)
theorem dX7_next_102 : decode cX7_next 102 = .ok (.aload_n 0, 1) := dk_42 (dk_at dksX7_next_4 11 rfl rfl)
theorem dX7_next_103 : decode cX7_next 103 = .ok (.dup, 1) := dk_89 (dk_at dksX7_next_4 12 rfl rfl)
theorem dX7_next_104 : decode cX7_next 104 = .ok (.getfield 35, 3) := dk_180 0 35 (dk_at dksX7_next_4 13 rfl rfl)
theorem dX7_next_107 : decode cX7_next 107 = .ok (.dup_x1, 1) := dk_90 (dk_at dksX7_next_4 16 rfl rfl)
theorem dX7_next_108 : decode cX7_next 108 = .ok (.iconst 1, 1) := dk_4 (dk_at dksX7_next_4 17 rfl rfl)
theorem dX7_next_109 : decode cX7_next 109 = .ok (.iadd, 1) := dk_96 (dk_at dksX7_next_4 18 rfl rfl)
theorem dX7_next_110 : decode cX7_next 110 = .ok (.putfield 35, 3) := dk_181 0 35 (dk_at dksX7_next_4 19 rfl rfl)
theorem dX7_next_113 : decode cX7_next 113 = .ok (.baload, 1) := dk_51 (dk_at dksX7_next_4 22 rfl rfl)
theorem dX7_next_114 : decode cX7_next 114 = .ok (.sipush 255, 3) := dk_17 0 255 (dk_at dksX7_next_5 0 rfl rfl)
theorem dX7_next_117 : decode cX7_next 117 = .ok (.iand, 1) := dk_126 (dk_at dksX7_next_5 3 rfl rfl)
theorem dX7_next_118 : decode cX7_next 118 = .ok (.i2c, 1) := dk_146 (dk_at dksX7_next_5 4 rfl rfl)
theorem dX7_next_119 : decode cX7_next 119 = .ok (.invokevirtual 60, 3) := dk_182 0 60 (dk_at dksX7_next_5 5 rfl rfl)
theorem dX7_next_122 : decode cX7_next 122 = .ok (.pop, 1) := dk_87 (dk_at dksX7_next_5 8 rfl rfl)
theorem dX7_next_123 : decode cX7_next 123 = .ok (.goto (-43), 3) := dk_167 255 213 (dk_at dksX7_next_5 9 rfl rfl)
theorem dX7_next_126 : decode cX7_next 126 = .ok (.aload_n 0, 1) := dk_42 (dk_at dksX7_next_5 12 rfl rfl)
theorem dX7_next_127 : decode cX7_next 127 = .ok (.aload_n 2, 1) := dk_44 (dk_at dksX7_next_5 13 rfl rfl)
theorem dX7_next_128 : decode cX7_next 128 = .ok (.invokevirtual 64, 3) := dk_182 0 64 (dk_at dksX7_next_5 14 rfl rfl)
theorem dX7_next_131 : decode cX7_next 131 = .ok (.putfield 11, 3) := dk_181 0 11 (dk_at dksX7_next_5 17 rfl rfl)
theorem dX7_next_134 : decode cX7_next 134 = .ok (.aload_n 0, 1) := dk_42 (dk_at dksX7_next_5 20 rfl rfl)
theorem dX7_next_135 : decode cX7_next 135 = .ok (.iconst 1, 1) := dk_4 (dk_at dksX7_next_5 21 rfl rfl)
theorem dX7_next_136 : decode cX7_next 136 = .ok (.putfield 46, 3) := dk_181 0 46 (dk_at dksX7_next_6 0 rfl rfl)
theorem dX7_next_139 : decode cX7_next 139 = .ok (.goto 141, 3) := dk_167 0 141 (dk_at dksX7_next_6 3 rfl rfl)
theorem dX7_next_142 : decode cX7_next 142 = .ok (.iload_n 1, 1) := dk_27 (dk_at dksX7_next_6 6 rfl rfl)
theorem dX7_next_143 : decode cX7_next 143 = .ok (.i2l, 1) := dk_133 (dk_at dksX7_next_6 7 rfl rfl)
theorem dX7_next_144 : decode cX7_next 144 = .ok (.ldc2_w 68, 3) := dk_20 0 68 (dk_at dksX7_next_6 8 rfl rfl)
theorem dX7_next_147 : decode cX7_next 147 = .ok (.ldc2_w 70, 3) := dk_20 0 70 (dk_at dksX7_next_6 11 rfl rfl)
theorem dX7_next_150 : decode cX7_next 150 = .ok (.invokestatic 53, 3) := dk_184 0 53 (dk_at dksX7_next_6 14 rfl rfl)
theorem dX7_next_153 : decode cX7_next 153 = .ok (.ifCond .eq 102, 3) := dk_153 0 102 (dk_at dksX7_next_6 17 rfl rfl)
theorem dX7_next_156 : decode cX7_next 156 = .ok (.aload_n 0, 1) := dk_42 (dk_at dksX7_next_6 20 rfl rfl)
theorem dX7_next_157 : decode cX7_next 157 = .ok (.iconst 0, 1) := dk_3 (dk_at dksX7_next_6 21 rfl rfl)
theorem dX7_next_158 : decode cX7_next 158 = .ok (.putfield 72, 3) := dk_181 0 72 (dk_at dksX7_next_7 0 rfl rfl)
theorem dX7_next_161 : decode cX7_next 161 = .ok (.aload_n 0, 1) := dk_42 (dk_at dksX7_next_7 3 rfl rfl)
theorem dX7_next_162 : decode cX7_next 162 = .ok (.invokevirtual 39, 3) := dk_182 0 39 (dk_at dksX7_next_7 4 rfl rfl)
theorem dX7_next_165 : decode cX7_next 165 = .ok (.i2l, 1) := dk_133 (dk_at dksX7_next_7 7 rfl rfl)
theorem dX7_next_166 : decode cX7_next 166 = .ok (.ldc2_w 68, 3) := dk_20 0 68 (dk_at dksX7_next_7 8 rfl rfl)
theorem dX7_next_169 : decode cX7_next 169 = .ok (.ldc2_w 70, 3) := dk_20 0 70 (dk_at dksX7_next_7 11 rfl rfl)
theorem dX7_next_172 : decode cX7_next 172 = .ok (.invokestatic 53, 3) := dk_184 0 53 (dk_at dksX7_next_7 14 rfl rfl)
theorem dX7_next_175 : decode cX7_next 175 = .ok (.ifCond .eq 55, 3) := dk_153 0 55 (dk_at dksX7_next_7 17 rfl rfl)
theorem dX7_next_178 : decode cX7_next 178 = .ok (.aload_n 0, 1) := dk_42 (dk_at dksX7_next_7 20 rfl rfl)
theorem dX7_next_179 : decode cX7_next 179 = .ok (.aload_n 0, 1) := dk_42 (dk_at dksX7_next_7 21 rfl rfl)
theorem dX7_next_180 : decode cX7_next 180 = .ok (.getfield 35, 3) := dk_180 0 35 (dk_at dksX7_next_8 0 rfl rfl)
theorem dX7_next_183 : decode cX7_next 183 = .ok (.aload_n 0, 1) := dk_42 (dk_at dksX7_next_8 3 rfl rfl)
theorem dX7_next_184 : decode cX7_next 184 = .ok (.getfield 43, 3) := dk_180 0 43 (dk_at dksX7_next_8 4 rfl rfl)
theorem dX7_next_187 : decode cX7_next 187 = .ok (.isub, 1) := dk_100 (dk_at dksX7_next_8 7 rfl rfl)
theorem dX7_next_188 : decode cX7_next 188 = .ok (.iconst 3, 1) := dk_6 (dk_at dksX7_next_8 8 rfl rfl)
theorem dX7_next_189 : decode cX7_next 189 = .ok (.if_icmp .ge 21, 3) := dk_162 0 21 (dk_at dksX7_next_8 9 rfl rfl)
theorem dX7_next_192 : decode cX7_next 192 = .ok (.bipush 10, 2) := dk_16 10 (dk_at dksX7_next_8 12 rfl rfl)
theorem dX7_next_194 : decode cX7_next 194 = .ok (.aload_n 0, 1) := dk_42 (dk_at dksX7_next_8 14 rfl rfl)
theorem dX7_next_195 : decode cX7_next 195 = .ok (.getfield 72, 3) := dk_180 0 72 (dk_at dksX7_next_8 15 rfl rfl)
theorem dX7_next_198 : decode cX7_next 198 = .ok (.imul, 1) := dk_104 (dk_at dksX7_next_8 18 rfl rfl)
theorem dX7_next_199 : decode cX7_next 199 = .ok (.aload_n 0, 1) := dk_42 (dk_at dksX7_next_8 19 rfl rfl)
theorem dX7_next_200 : decode cX7_next 200 = .ok (.invokevirtual 39, 3) := dk_182 0 39 (dk_at dksX7_next_8 20 rfl rfl)
theorem dX7_next_203 : decode cX7_next 203 = .ok (.iadd, 1) := dk_96 (dk_at dksX7_next_8 23 rfl rfl)
theorem dX7_next_204 : decode cX7_next 204 = .ok (.bipush 48, 2) := dk_16 48 (dk_at dksX7_next_9 0 rfl rfl)
theorem dX7_next_206 : decode cX7_next 206 = .ok (.isub, 1) := dk_100 (dk_at dksX7_next_9 2 rfl rfl)
theorem dX7_next_207 : decode cX7_next 207 = .ok (.goto 7, 3) := dk_167 0 7 (dk_at dksX7_next_9 3 rfl rfl)
theorem dX7_next_210 : decode cX7_next 210 = .ok (.aload_n 0, 1) := dk_42 (dk_at dksX7_next_9 6 rfl rfl)
theorem dX7_next_211 : decode cX7_next 211 = .ok (.getfield 72, 3) := dk_180 0 72 (dk_at dksX7_next_9 7 rfl rfl)
theorem dX7_next_214 : decode cX7_next 214 = .ok (.putfield 72, 3) := dk_181 0 72 (dk_at dksX7_next_9 10 rfl rfl)
theorem dX7_next_217 : decode cX7_next 217 = .ok (.aload_n 0, 1) := dk_42 (dk_at dksX7_next_9 13 rfl rfl)
theorem dX7_next_218 : decode cX7_next 218 = .ok (.dup, 1) := dk_89 (dk_at dksX7_next_9 14 rfl rfl)
theorem dX7_next_219 : decode cX7_next 219 = .ok (.getfield 35, 3) := dk_180 0 35 (dk_at dksX7_next_9 15 rfl rfl)
theorem dX7_next_222 : decode cX7_next 222 = .ok (.iconst 1, 1) := dk_4 (dk_at dksX7_next_9 18 rfl rfl)
theorem dX7_next_223 : decode cX7_next 223 = .ok (.iadd, 1) := dk_96 (dk_at dksX7_next_9 19 rfl rfl)
theorem dX7_next_224 : decode cX7_next 224 = .ok (.putfield 35, 3) := dk_181 0 35 (dk_at dksX7_next_9 20 rfl rfl)
theorem dX7_next_227 : decode cX7_next 227 = .ok (.goto (-66), 3) := dk_167 255 190 (dk_at dksX7_next_10 0 rfl rfl)
theorem dX7_next_230 : decode cX7_next 230 = .ok (.aload_n 0, 1) := dk_42 (dk_at dksX7_next_10 3 rfl rfl)
theorem dX7_next_231 : decode cX7_next 231 = .ok (.aload_n 0, 1) := dk_42 (dk_at dksX7_next_10 4 rfl rfl)
theorem dX7_next_232 : decode cX7_next 232 = .ok (.getfield 35, 3) := dk_180 0 35 (dk_at dksX7_next_10 5 rfl rfl)
theorem dX7_next_235 : decode cX7_next 235 = .ok (.aload_n 0, 1) := dk_42 (dk_at dksX7_next_10 8 rfl rfl)
theorem dX7_next_236 : decode cX7_next 236 = .ok (.getfield 43, 3) := dk_180 0 43 (dk_at dksX7_next_10 9 rfl rfl)
theorem dX7_next_239 : decode cX7_next 239 = .ok (.isub, 1) := dk_100 (dk_at dksX7_next_10 12 rfl rfl)
theorem dX7_next_240 : decode cX7_next 240 = .ok (.iconst 3, 1) := dk_6 (dk_at dksX7_next_10 13 rfl rfl)
theorem dX7_next_241 : decode cX7_next 241 = .ok (.if_icmp .gt 7, 3) := dk_163 0 7 (dk_at dksX7_next_10 14 rfl rfl)
theorem dX7_next_244 : decode cX7_next 244 = .ok (.iconst 2, 1) := dk_5 (dk_at dksX7_next_10 17 rfl rfl)
theorem dX7_next_245 : decode cX7_next 245 = .ok (.goto 4, 3) := dk_167 0 4 (dk_at dksX7_next_10 18 rfl rfl)
theorem dX7_next_248 : decode cX7_next 248 = .ok (.iconst 4, 1) := dk_7 (dk_at dksX7_next_10 21 rfl rfl)
theorem dX7_next_249 : decode cX7_next 249 = .ok (.putfield 46, 3) := dk_181 0 46 (dk_at dksX7_next_11 0 rfl rfl)
theorem dX7_next_252 : decode cX7_next 252 = .ok (.goto 28, 3) := dk_167 0 28 (dk_at dksX7_next_11 3 rfl rfl)
theorem dX7_next_255 : decode cX7_next 255 = .ok (.aload_n 0, 1) := dk_42 (dk_at dksX7_next_11 6 rfl rfl)
theorem dX7_next_256 : decode cX7_next 256 = .ok (.dup, 1) := dk_89 (dk_at dksX7_next_11 7 rfl rfl)
theorem dX7_next_257 : decode cX7_next 257 = .ok (.getfield 35, 3) := dk_180 0 35 (dk_at dksX7_next_11 8 rfl rfl)
theorem dX7_next_260 : decode cX7_next 260 = .ok (.iconst 1, 1) := dk_4 (dk_at dksX7_next_11 11 rfl rfl)
theorem dX7_next_261 : decode cX7_next 261 = .ok (.iadd, 1) := dk_96 (dk_at dksX7_next_11 12 rfl rfl)
theorem dX7_next_262 : decode cX7_next 262 = .ok (.putfield 35, 3) := dk_181 0 35 (dk_at dksX7_next_11 13 rfl rfl)
theorem dX7_next_265 : decode cX7_next 265 = .ok (.aload_n 0, 1) := dk_42 (dk_at dksX7_next_11 16 rfl rfl)
theorem dX7_next_266 : decode cX7_next 266 = .ok (.iload_n 1, 1) := dk_27 (dk_at dksX7_next_11 17 rfl rfl)
theorem dX7_next_267 : decode cX7_next 267 = .ok (.bipush 59, 2) := dk_16 59 (dk_at dksX7_next_11 18 rfl rfl)
theorem dX7_next_269 : decode cX7_next 269 = .ok (.if_icmp .ne 7, 3) := dk_160 0 7 (dk_at dksX7_next_11 20 rfl rfl)
theorem dX7_next_272 : decode cX7_next 272 = .ok (.iconst 3, 1) := dk_6 (dk_at dksX7_next_11 23 rfl rfl)
theorem dX7_next_273 : decode cX7_next 273 = .ok (.goto 4, 3) := dk_167 0 4 (dk_at dksX7_next_12 0 rfl rfl)
theorem dX7_next_276 : decode cX7_next 276 = .ok (.iconst 4, 1) := dk_7 (dk_at dksX7_next_12 3 rfl rfl)
theorem dX7_next_277 : decode cX7_next 277 = .ok (.putfield 46, 3) := dk_181 0 46 (dk_at dksX7_next_12 4 rfl rfl)
theorem dX7_next_280 : decode cX7_next 280 = .ok (.return_, 1) := dk_177 (dk_at dksX7_next_12 7 rfl rfl)
abbrev cX7_look : ByteArray := prog_13_method_2_code
def yX7_look : MethodName := ⟨RX7, "look", "()I"⟩
def dkwX7_look_1 : List UInt8 := [167, 0, 5, 18, 38, 172]
abbrev dktX7_look_1 : List UInt8 := dkwX7_look_1 ++ []
def dkwX7_look_0 : List UInt8 := [42, 180, 0, 35, 42, 180, 0, 28, 162, 0, 19, 42, 180, 0, 24, 42, 180, 0, 35, 51, 17, 0, 255, 126]
abbrev dktX7_look_0 : List UInt8 := dkwX7_look_0 ++ dktX7_look_1
theorem dksX7_look_0 : cX7_look.data.toList.drop 0 = dktX7_look_0 := by decide +kernel
theorem dksX7_look_1 : cX7_look.data.toList.drop 24 = dktX7_look_1 := dk_seg dksX7_look_0 24 rfl rfl
theorem dX7_look_0 : decode cX7_look 0 = .ok (.aload_n 0, 1) := dk_42 (dk_at dksX7_look_0 0 rfl rfl)
theorem dX7_look_1 : decode cX7_look 1 = .ok (.getfield 35, 3) := dk_180 0 35 (dk_at dksX7_look_0 1 rfl rfl)
theorem dX7_look_4 : decode cX7_look 4 = .ok (.aload_n 0, 1) := dk_42 (dk_at dksX7_look_0 4 rfl rfl)
theorem dX7_look_5 : decode cX7_look 5 = .ok (.getfield 28, 3) := dk_180 0 28 (dk_at dksX7_look_0 5 rfl rfl)
theorem dX7_look_8 : decode cX7_look 8 = .ok (.if_icmp .ge 19, 3) := dk_162 0 19 (dk_at dksX7_look_0 8 rfl rfl)
theorem dX7_look_11 : decode cX7_look 11 = .ok (.aload_n 0, 1) := dk_42 (dk_at dksX7_look_0 11 rfl rfl)
theorem dX7_look_12 : decode cX7_look 12 = .ok (.getfield 24, 3) := dk_180 0 24 (dk_at dksX7_look_0 12 rfl rfl)
theorem dX7_look_15 : decode cX7_look 15 = .ok (.aload_n 0, 1) := dk_42 (dk_at dksX7_look_0 15 rfl rfl)
theorem dX7_look_16 : decode cX7_look 16 = .ok (.getfield 35, 3) := dk_180 0 35 (dk_at dksX7_look_0 16 rfl rfl)
theorem dX7_look_19 : decode cX7_look 19 = .ok (.baload, 1) := dk_51 (dk_at dksX7_look_0 19 rfl rfl)
theorem dX7_look_20 : decode cX7_look 20 = .ok (.sipush 255, 3) := dk_17 0 255 (dk_at dksX7_look_0 20 rfl rfl)
theorem dX7_look_23 : decode cX7_look 23 = .ok (.iand, 1) := dk_126 (dk_at dksX7_look_0 23 rfl rfl)
theorem dX7_look_24 : decode cX7_look 24 = .ok (.goto 5, 3) := dk_167 0 5 (dk_at dksX7_look_1 0 rfl rfl)
theorem dX7_look_27 : decode cX7_look 27 = .ok (.ldc 38, 2) := dk_18 38 (dk_at dksX7_look_1 3 rfl rfl)
theorem dX7_look_29 : decode cX7_look 29 = .ok (.ireturn, 1) := dk_172 (dk_at dksX7_look_1 5 rfl rfl)
abbrev cX7_isWord : ByteArray := prog_13_method_5_code
def yX7_isWord : MethodName := ⟨RX7, "isWord", "(Ljava/lang/String;)Z"⟩
def dkwX7_isWord_1 : List UInt8 := [172]
abbrev dktX7_isWord_1 : List UInt8 := dkwX7_isWord_1 ++ []
def dkwX7_isWord_0 : List UInt8 := [42, 180, 0, 46, 4, 160, 0, 18, 42, 180, 0, 11, 43, 182, 0, 80, 153, 0, 7, 4, 167, 0, 4, 3]
abbrev dktX7_isWord_0 : List UInt8 := dkwX7_isWord_0 ++ dktX7_isWord_1
theorem dksX7_isWord_0 : cX7_isWord.data.toList.drop 0 = dktX7_isWord_0 := by decide +kernel
theorem dksX7_isWord_1 : cX7_isWord.data.toList.drop 24 = dktX7_isWord_1 := dk_seg dksX7_isWord_0 24 rfl rfl
theorem dX7_isWord_0 : decode cX7_isWord 0 = .ok (.aload_n 0, 1) := dk_42 (dk_at dksX7_isWord_0 0 rfl rfl)
theorem dX7_isWord_1 : decode cX7_isWord 1 = .ok (.getfield 46, 3) := dk_180 0 46 (dk_at dksX7_isWord_0 1 rfl rfl)
theorem dX7_isWord_4 : decode cX7_isWord 4 = .ok (.iconst 1, 1) := dk_4 (dk_at dksX7_isWord_0 4 rfl rfl)
theorem dX7_isWord_5 : decode cX7_isWord 5 = .ok (.if_icmp .ne 18, 3) := dk_160 0 18 (dk_at dksX7_isWord_0 5 rfl rfl)
theorem dX7_isWord_8 : decode cX7_isWord 8 = .ok (.aload_n 0, 1) := dk_42 (dk_at dksX7_isWord_0 8 rfl rfl)
theorem dX7_isWord_9 : decode cX7_isWord 9 = .ok (.getfield 11, 3) := dk_180 0 11 (dk_at dksX7_isWord_0 9 rfl rfl)
theorem dX7_isWord_12 : decode cX7_isWord 12 = .ok (.aload_n 1, 1) := dk_43 (dk_at dksX7_isWord_0 12 rfl rfl)
theorem dX7_isWord_13 : decode cX7_isWord 13 = .ok (.invokevirtual 80, 3) := dk_182 0 80 (dk_at dksX7_isWord_0 13 rfl rfl)
theorem dX7_isWord_16 : decode cX7_isWord 16 = .ok (.ifCond .eq 7, 3) := dk_153 0 7 (dk_at dksX7_isWord_0 16 rfl rfl)
theorem dX7_isWord_19 : decode cX7_isWord 19 = .ok (.iconst 1, 1) := dk_4 (dk_at dksX7_isWord_0 19 rfl rfl)
theorem dX7_isWord_20 : decode cX7_isWord 20 = .ok (.goto 4, 3) := dk_167 0 4 (dk_at dksX7_isWord_0 20 rfl rfl)
theorem dX7_isWord_23 : decode cX7_isWord 23 = .ok (.iconst 0, 1) := dk_3 (dk_at dksX7_isWord_0 23 rfl rfl)
theorem dX7_isWord_24 : decode cX7_isWord 24 = .ok (.ireturn, 1) := dk_172 (dk_at dksX7_isWord_1 0 rfl rfl)
abbrev cX7_must : ByteArray := prog_13_method_4_code
def yX7_must : MethodName := ⟨RX7, "must", "(ZI)V"⟩
def dkwX7_must_0 : List UInt8 := [27, 154, 0, 16, 187, 0, 75, 89, 28, 42, 180, 0, 43, 183, 0, 77, 191, 177]
abbrev dktX7_must_0 : List UInt8 := dkwX7_must_0 ++ []
theorem dksX7_must_0 : cX7_must.data.toList.drop 0 = dktX7_must_0 := by decide +kernel
theorem dX7_must_0 : decode cX7_must 0 = .ok (.iload_n 1, 1) := dk_27 (dk_at dksX7_must_0 0 rfl rfl)
theorem dX7_must_1 : decode cX7_must 1 = .ok (.ifCond .ne 16, 3) := dk_154 0 16 (dk_at dksX7_must_0 1 rfl rfl)
theorem dX7_must_4 : decode cX7_must 4 = .ok (.new 75, 3) := dk_187 0 75 (dk_at dksX7_must_0 4 rfl rfl)
theorem dX7_must_7 : decode cX7_must 7 = .ok (.dup, 1) := dk_89 (dk_at dksX7_must_0 7 rfl rfl)
theorem dX7_must_8 : decode cX7_must 8 = .ok (.iload_n 2, 1) := dk_28 (dk_at dksX7_must_0 8 rfl rfl)
theorem dX7_must_9 : decode cX7_must 9 = .ok (.aload_n 0, 1) := dk_42 (dk_at dksX7_must_0 9 rfl rfl)
theorem dX7_must_10 : decode cX7_must 10 = .ok (.getfield 43, 3) := dk_180 0 43 (dk_at dksX7_must_0 10 rfl rfl)
theorem dX7_must_13 : decode cX7_must 13 = .ok (.invokespecial 77, 3) := dk_183 0 77 (dk_at dksX7_must_0 13 rfl rfl)
theorem dX7_must_16 : decode cX7_must 16 = .ok (.athrow, 1) := dk_191 (dk_at dksX7_must_0 16 rfl rfl)
theorem dX7_must_17 : decode cX7_must 17 = .ok (.return_, 1) := dk_177 (dk_at dksX7_must_0 17 rfl rfl)
abbrev cX7_never : ByteArray := prog_13_method_9_code
def yX7_never : MethodName := ⟨RX7, "never", "()LTableArms$Never;"⟩
def dkwX7_never_1 : List UInt8 := [160, 0, 12, 42, 16, 7, 182, 0, 126, 167, 0, 10, 42, 178, 0, 113, 182, 0, 117, 183, 0, 130, 176]
abbrev dktX7_never_1 : List UInt8 := dkwX7_never_1 ++ []
def dkwX7_never_0 : List UInt8 := [42, 178, 0, 113, 182, 0, 117, 60, 42, 178, 0, 121, 182, 0, 117, 61, 187, 0, 124, 89, 28, 27, 28, 6]
abbrev dktX7_never_0 : List UInt8 := dkwX7_never_0 ++ dktX7_never_1
theorem dksX7_never_0 : cX7_never.data.toList.drop 0 = dktX7_never_0 := by decide +kernel
theorem dksX7_never_1 : cX7_never.data.toList.drop 24 = dktX7_never_1 := dk_seg dksX7_never_0 24 rfl rfl
theorem dX7_never_0 : decode cX7_never 0 = .ok (.aload_n 0, 1) := dk_42 (dk_at dksX7_never_0 0 rfl rfl)
theorem dX7_never_1 : decode cX7_never 1 = .ok (.getstatic 113, 3) := dk_178 0 113 (dk_at dksX7_never_0 1 rfl rfl)
theorem dX7_never_4 : decode cX7_never 4 = .ok (.invokevirtual 117, 3) := dk_182 0 117 (dk_at dksX7_never_0 4 rfl rfl)
theorem dX7_never_7 : decode cX7_never 7 = .ok (.istore_n 1, 1) := dk_60 (dk_at dksX7_never_0 7 rfl rfl)
theorem dX7_never_8 : decode cX7_never 8 = .ok (.aload_n 0, 1) := dk_42 (dk_at dksX7_never_0 8 rfl rfl)
theorem dX7_never_9 : decode cX7_never 9 = .ok (.getstatic 121, 3) := dk_178 0 121 (dk_at dksX7_never_0 9 rfl rfl)
theorem dX7_never_12 : decode cX7_never 12 = .ok (.invokevirtual 117, 3) := dk_182 0 117 (dk_at dksX7_never_0 12 rfl rfl)
theorem dX7_never_15 : decode cX7_never 15 = .ok (.istore_n 2, 1) := dk_61 (dk_at dksX7_never_0 15 rfl rfl)
theorem dX7_never_16 : decode cX7_never 16 = .ok (.new 124, 3) := dk_187 0 124 (dk_at dksX7_never_0 16 rfl rfl)
theorem dX7_never_19 : decode cX7_never 19 = .ok (.dup, 1) := dk_89 (dk_at dksX7_never_0 19 rfl rfl)
theorem dX7_never_20 : decode cX7_never 20 = .ok (.iload_n 2, 1) := dk_28 (dk_at dksX7_never_0 20 rfl rfl)
theorem dX7_never_21 : decode cX7_never 21 = .ok (.iload_n 1, 1) := dk_27 (dk_at dksX7_never_0 21 rfl rfl)
theorem dX7_never_22 : decode cX7_never 22 = .ok (.iload_n 2, 1) := dk_28 (dk_at dksX7_never_0 22 rfl rfl)
theorem dX7_never_23 : decode cX7_never 23 = .ok (.iconst 3, 1) := dk_6 (dk_at dksX7_never_0 23 rfl rfl)
theorem dX7_never_24 : decode cX7_never 24 = .ok (.if_icmp .ne 12, 3) := dk_160 0 12 (dk_at dksX7_never_1 0 rfl rfl)
theorem dX7_never_27 : decode cX7_never 27 = .ok (.aload_n 0, 1) := dk_42 (dk_at dksX7_never_1 3 rfl rfl)
theorem dX7_never_28 : decode cX7_never 28 = .ok (.bipush 7, 2) := dk_16 7 (dk_at dksX7_never_1 4 rfl rfl)
theorem dX7_never_30 : decode cX7_never 30 = .ok (.invokevirtual 126, 3) := dk_182 0 126 (dk_at dksX7_never_1 6 rfl rfl)
theorem dX7_never_33 : decode cX7_never 33 = .ok (.goto 10, 3) := dk_167 0 10 (dk_at dksX7_never_1 9 rfl rfl)
theorem dX7_never_36 : decode cX7_never 36 = .ok (.aload_n 0, 1) := dk_42 (dk_at dksX7_never_1 12 rfl rfl)
theorem dX7_never_37 : decode cX7_never 37 = .ok (.getstatic 113, 3) := dk_178 0 113 (dk_at dksX7_never_1 13 rfl rfl)
theorem dX7_never_40 : decode cX7_never 40 = .ok (.invokevirtual 117, 3) := dk_182 0 117 (dk_at dksX7_never_1 16 rfl rfl)
theorem dX7_never_43 : decode cX7_never 43 = .ok (.invokespecial 130, 3) := dk_183 0 130 (dk_at dksX7_never_1 19 rfl rfl)
theorem dX7_never_46 : decode cX7_never 46 = .ok (.areturn, 1) := dk_176 (dk_at dksX7_never_1 22 rfl rfl)
abbrev cX7_word : ByteArray := prog_13_method_7_code
def yX7_word : MethodName := ⟨RX7, "word", "([Ljava/lang/String;)I"⟩
def dkwX7_word_1 : List UInt8 := [42, 28, 43, 190, 162, 0, 7, 4, 167, 0, 4, 3, 4, 182, 0, 86, 42, 182, 0, 90, 28, 172]
abbrev dktX7_word_1 : List UInt8 := dkwX7_word_1 ++ []
def dkwX7_word_0 : List UInt8 := [3, 61, 28, 43, 190, 162, 0, 19, 42, 43, 28, 50, 182, 0, 93, 154, 0, 9, 132, 2, 1, 167, 255, 237]
abbrev dktX7_word_0 : List UInt8 := dkwX7_word_0 ++ dktX7_word_1
theorem dksX7_word_0 : cX7_word.data.toList.drop 0 = dktX7_word_0 := by decide +kernel
theorem dksX7_word_1 : cX7_word.data.toList.drop 24 = dktX7_word_1 := dk_seg dksX7_word_0 24 rfl rfl
theorem dX7_word_0 : decode cX7_word 0 = .ok (.iconst 0, 1) := dk_3 (dk_at dksX7_word_0 0 rfl rfl)
theorem dX7_word_1 : decode cX7_word 1 = .ok (.istore_n 2, 1) := dk_61 (dk_at dksX7_word_0 1 rfl rfl)
theorem dX7_word_2 : decode cX7_word 2 = .ok (.iload_n 2, 1) := dk_28 (dk_at dksX7_word_0 2 rfl rfl)
theorem dX7_word_3 : decode cX7_word 3 = .ok (.aload_n 1, 1) := dk_43 (dk_at dksX7_word_0 3 rfl rfl)
theorem dX7_word_4 : decode cX7_word 4 = .ok (.arraylength, 1) := dk_190 (dk_at dksX7_word_0 4 rfl rfl)
theorem dX7_word_5 : decode cX7_word 5 = .ok (.if_icmp .ge 19, 3) := dk_162 0 19 (dk_at dksX7_word_0 5 rfl rfl)
theorem dX7_word_8 : decode cX7_word 8 = .ok (.aload_n 0, 1) := dk_42 (dk_at dksX7_word_0 8 rfl rfl)
theorem dX7_word_9 : decode cX7_word 9 = .ok (.aload_n 1, 1) := dk_43 (dk_at dksX7_word_0 9 rfl rfl)
theorem dX7_word_10 : decode cX7_word 10 = .ok (.iload_n 2, 1) := dk_28 (dk_at dksX7_word_0 10 rfl rfl)
theorem dX7_word_11 : decode cX7_word 11 = .ok (.aaload, 1) := dk_50 (dk_at dksX7_word_0 11 rfl rfl)
theorem dX7_word_12 : decode cX7_word 12 = .ok (.invokevirtual 93, 3) := dk_182 0 93 (dk_at dksX7_word_0 12 rfl rfl)
theorem dX7_word_15 : decode cX7_word 15 = .ok (.ifCond .ne 9, 3) := dk_154 0 9 (dk_at dksX7_word_0 15 rfl rfl)
theorem dX7_word_18 : decode cX7_word 18 = .ok (.iinc 2 1, 3) := dk_132 2 1 (dk_at dksX7_word_0 18 rfl rfl)
theorem dX7_word_21 : decode cX7_word 21 = .ok (.goto (-19), 3) := dk_167 255 237 (dk_at dksX7_word_0 21 rfl rfl)
theorem dX7_word_24 : decode cX7_word 24 = .ok (.aload_n 0, 1) := dk_42 (dk_at dksX7_word_1 0 rfl rfl)
theorem dX7_word_25 : decode cX7_word 25 = .ok (.iload_n 2, 1) := dk_28 (dk_at dksX7_word_1 1 rfl rfl)
theorem dX7_word_26 : decode cX7_word 26 = .ok (.aload_n 1, 1) := dk_43 (dk_at dksX7_word_1 2 rfl rfl)
theorem dX7_word_27 : decode cX7_word 27 = .ok (.arraylength, 1) := dk_190 (dk_at dksX7_word_1 3 rfl rfl)
theorem dX7_word_28 : decode cX7_word 28 = .ok (.if_icmp .ge 7, 3) := dk_162 0 7 (dk_at dksX7_word_1 4 rfl rfl)
theorem dX7_word_31 : decode cX7_word 31 = .ok (.iconst 1, 1) := dk_4 (dk_at dksX7_word_1 7 rfl rfl)
theorem dX7_word_32 : decode cX7_word 32 = .ok (.goto 4, 3) := dk_167 0 4 (dk_at dksX7_word_1 8 rfl rfl)
theorem dX7_word_35 : decode cX7_word 35 = .ok (.iconst 0, 1) := dk_3 (dk_at dksX7_word_1 11 rfl rfl)
theorem dX7_word_36 : decode cX7_word 36 = .ok (.iconst 1, 1) := dk_4 (dk_at dksX7_word_1 12 rfl rfl)
theorem dX7_word_37 : decode cX7_word 37 = .ok (.invokevirtual 86, 3) := dk_182 0 86 (dk_at dksX7_word_1 13 rfl rfl)
theorem dX7_word_40 : decode cX7_word 40 = .ok (.aload_n 0, 1) := dk_42 (dk_at dksX7_word_1 16 rfl rfl)
theorem dX7_word_41 : decode cX7_word 41 = .ok (.invokevirtual 90, 3) := dk_182 0 90 (dk_at dksX7_word_1 17 rfl rfl)
theorem dX7_word_44 : decode cX7_word 44 = .ok (.iload_n 2, 1) := dk_28 (dk_at dksX7_word_1 20 rfl rfl)
theorem dX7_word_45 : decode cX7_word 45 = .ok (.ireturn, 1) := dk_172 (dk_at dksX7_word_1 21 rfl rfl)
abbrev cX7_figure : ByteArray := prog_13_method_6_code
def yX7_figure : MethodName := ⟨RX7, "figure", "(I)I"⟩
def dkwX7_figure_1 : List UInt8 := [163, 0, 7, 4, 167, 0, 4, 3, 5, 182, 0, 86, 42, 180, 0, 72, 61, 42, 182, 0, 90, 28, 172]
abbrev dktX7_figure_1 : List UInt8 := dkwX7_figure_1 ++ []
def dkwX7_figure_0 : List UInt8 := [42, 42, 180, 0, 46, 5, 160, 0, 7, 4, 167, 0, 4, 3, 4, 182, 0, 86, 42, 42, 180, 0, 72, 27]
abbrev dktX7_figure_0 : List UInt8 := dkwX7_figure_0 ++ dktX7_figure_1
theorem dksX7_figure_0 : cX7_figure.data.toList.drop 0 = dktX7_figure_0 := by decide +kernel
theorem dksX7_figure_1 : cX7_figure.data.toList.drop 24 = dktX7_figure_1 := dk_seg dksX7_figure_0 24 rfl rfl
theorem dX7_figure_0 : decode cX7_figure 0 = .ok (.aload_n 0, 1) := dk_42 (dk_at dksX7_figure_0 0 rfl rfl)
theorem dX7_figure_1 : decode cX7_figure 1 = .ok (.aload_n 0, 1) := dk_42 (dk_at dksX7_figure_0 1 rfl rfl)
theorem dX7_figure_2 : decode cX7_figure 2 = .ok (.getfield 46, 3) := dk_180 0 46 (dk_at dksX7_figure_0 2 rfl rfl)
theorem dX7_figure_5 : decode cX7_figure 5 = .ok (.iconst 2, 1) := dk_5 (dk_at dksX7_figure_0 5 rfl rfl)
theorem dX7_figure_6 : decode cX7_figure 6 = .ok (.if_icmp .ne 7, 3) := dk_160 0 7 (dk_at dksX7_figure_0 6 rfl rfl)
theorem dX7_figure_9 : decode cX7_figure 9 = .ok (.iconst 1, 1) := dk_4 (dk_at dksX7_figure_0 9 rfl rfl)
theorem dX7_figure_10 : decode cX7_figure 10 = .ok (.goto 4, 3) := dk_167 0 4 (dk_at dksX7_figure_0 10 rfl rfl)
theorem dX7_figure_13 : decode cX7_figure 13 = .ok (.iconst 0, 1) := dk_3 (dk_at dksX7_figure_0 13 rfl rfl)
theorem dX7_figure_14 : decode cX7_figure 14 = .ok (.iconst 1, 1) := dk_4 (dk_at dksX7_figure_0 14 rfl rfl)
theorem dX7_figure_15 : decode cX7_figure 15 = .ok (.invokevirtual 86, 3) := dk_182 0 86 (dk_at dksX7_figure_0 15 rfl rfl)
theorem dX7_figure_18 : decode cX7_figure 18 = .ok (.aload_n 0, 1) := dk_42 (dk_at dksX7_figure_0 18 rfl rfl)
theorem dX7_figure_19 : decode cX7_figure 19 = .ok (.aload_n 0, 1) := dk_42 (dk_at dksX7_figure_0 19 rfl rfl)
theorem dX7_figure_20 : decode cX7_figure 20 = .ok (.getfield 72, 3) := dk_180 0 72 (dk_at dksX7_figure_0 20 rfl rfl)
theorem dX7_figure_23 : decode cX7_figure 23 = .ok (.iload_n 1, 1) := dk_27 (dk_at dksX7_figure_0 23 rfl rfl)
theorem dX7_figure_24 : decode cX7_figure 24 = .ok (.if_icmp .gt 7, 3) := dk_163 0 7 (dk_at dksX7_figure_1 0 rfl rfl)
theorem dX7_figure_27 : decode cX7_figure 27 = .ok (.iconst 1, 1) := dk_4 (dk_at dksX7_figure_1 3 rfl rfl)
theorem dX7_figure_28 : decode cX7_figure 28 = .ok (.goto 4, 3) := dk_167 0 4 (dk_at dksX7_figure_1 4 rfl rfl)
theorem dX7_figure_31 : decode cX7_figure 31 = .ok (.iconst 0, 1) := dk_3 (dk_at dksX7_figure_1 7 rfl rfl)
theorem dX7_figure_32 : decode cX7_figure 32 = .ok (.iconst 2, 1) := dk_5 (dk_at dksX7_figure_1 8 rfl rfl)
theorem dX7_figure_33 : decode cX7_figure 33 = .ok (.invokevirtual 86, 3) := dk_182 0 86 (dk_at dksX7_figure_1 9 rfl rfl)
theorem dX7_figure_36 : decode cX7_figure 36 = .ok (.aload_n 0, 1) := dk_42 (dk_at dksX7_figure_1 12 rfl rfl)
theorem dX7_figure_37 : decode cX7_figure 37 = .ok (.getfield 72, 3) := dk_180 0 72 (dk_at dksX7_figure_1 13 rfl rfl)
theorem dX7_figure_40 : decode cX7_figure 40 = .ok (.istore_n 2, 1) := dk_61 (dk_at dksX7_figure_1 16 rfl rfl)
theorem dX7_figure_41 : decode cX7_figure 41 = .ok (.aload_n 0, 1) := dk_42 (dk_at dksX7_figure_1 17 rfl rfl)
theorem dX7_figure_42 : decode cX7_figure 42 = .ok (.invokevirtual 90, 3) := dk_182 0 90 (dk_at dksX7_figure_1 18 rfl rfl)
theorem dX7_figure_45 : decode cX7_figure 45 = .ok (.iload_n 2, 1) := dk_28 (dk_at dksX7_figure_1 21 rfl rfl)
theorem dX7_figure_46 : decode cX7_figure 46 = .ok (.ireturn, 1) := dk_172 (dk_at dksX7_figure_1 22 rfl rfl)
abbrev cX7_most : ByteArray := prog_13_method_10_code
def yX7_most : MethodName := ⟨RX7, "most", "()LTableArms$Never;"⟩
def dkwX7_most_0 : List UInt8 := [42, 16, 7, 182, 0, 126, 60, 187, 0, 124, 89, 7, 27, 42, 17, 0, 200, 182, 0, 126, 183, 0, 130, 176]
abbrev dktX7_most_0 : List UInt8 := dkwX7_most_0 ++ []
theorem dksX7_most_0 : cX7_most.data.toList.drop 0 = dktX7_most_0 := by decide +kernel
theorem dX7_most_0 : decode cX7_most 0 = .ok (.aload_n 0, 1) := dk_42 (dk_at dksX7_most_0 0 rfl rfl)
theorem dX7_most_1 : decode cX7_most 1 = .ok (.bipush 7, 2) := dk_16 7 (dk_at dksX7_most_0 1 rfl rfl)
theorem dX7_most_3 : decode cX7_most 3 = .ok (.invokevirtual 126, 3) := dk_182 0 126 (dk_at dksX7_most_0 3 rfl rfl)
theorem dX7_most_6 : decode cX7_most 6 = .ok (.istore_n 1, 1) := dk_60 (dk_at dksX7_most_0 6 rfl rfl)
theorem dX7_most_7 : decode cX7_most 7 = .ok (.new 124, 3) := dk_187 0 124 (dk_at dksX7_most_0 7 rfl rfl)
theorem dX7_most_10 : decode cX7_most 10 = .ok (.dup, 1) := dk_89 (dk_at dksX7_most_0 10 rfl rfl)
theorem dX7_most_11 : decode cX7_most 11 = .ok (.iconst 4, 1) := dk_7 (dk_at dksX7_most_0 11 rfl rfl)
theorem dX7_most_12 : decode cX7_most 12 = .ok (.iload_n 1, 1) := dk_27 (dk_at dksX7_most_0 12 rfl rfl)
theorem dX7_most_13 : decode cX7_most 13 = .ok (.aload_n 0, 1) := dk_42 (dk_at dksX7_most_0 13 rfl rfl)
theorem dX7_most_14 : decode cX7_most 14 = .ok (.sipush 200, 3) := dk_17 0 200 (dk_at dksX7_most_0 14 rfl rfl)
theorem dX7_most_17 : decode cX7_most 17 = .ok (.invokevirtual 126, 3) := dk_182 0 126 (dk_at dksX7_most_0 17 rfl rfl)
theorem dX7_most_20 : decode cX7_most 20 = .ok (.invokespecial 130, 3) := dk_183 0 130 (dk_at dksX7_most_0 20 rfl rfl)
theorem dX7_most_23 : decode cX7_most 23 = .ok (.areturn, 1) := dk_176 (dk_at dksX7_most_0 23 rfl rfl)
theorem q113 : (Jvm.Cond.initialized "TableArms$Reader") ∈ lw_all := lw_g (lw_at lw_m1 24 rfl) rfl
theorem q694 : (Jvm.Cond.selects "TableArms$Reader" ({ cls := "java/lang/Object", name := "getClass", desc := "()Ljava/lang/Class;" } : Jvm.MethodName) ({ cls := "java/lang/Object", name := "getClass", desc := "()Ljava/lang/Class;" } : Jvm.MethodName)) ∈ lw_all := lw_g (lw_at lw_m3 125 rfl) rfl
theorem q817 : (Jvm.Cond.instantiable "TableArms$Reader" (9 : Nat)) ∈ lw_all := lw_g (lw_at lw_m4 8 rfl) rfl
theorem q819 : (Jvm.Cond.instanceMethod ({ cls := "TableArms$Reader", name := "<init>", desc := "([BII)V" } : Jvm.MethodName)) ∈ lw_all := lw_g (lw_at lw_m4 10 rfl) rfl
theorem q820 : (Jvm.Cond.code ({ cls := "TableArms$Reader", name := "<init>", desc := "([BII)V" } : Jvm.MethodName) prog_13_method_1_code (4 : Nat) (Option.none : Option Jvm.ClassFile.FieldType)) ∈ lw_all := lw_g (lw_at lw_m4 11 rfl) rfl
theorem q821 : (Jvm.Cond.methodLink "TableArms$Reader" (3 : Nat) ({ cls := "java/lang/Object", name := "<init>", desc := "()V" } : Jvm.MethodName)) ∈ lw_all := lw_g (lw_at lw_m4 12 rfl) rfl
theorem q822 : (Jvm.Cond.stringRef "TableArms$Reader" (9 : Nat) "") ∈ lw_tbl := lw_at lw_m4 13 rfl
theorem q823 : (Jvm.Cond.classLink "TableArms$Reader" (17 : Nat) "java/util/ArrayList") ∈ lw_all := lw_g (lw_at lw_m4 14 rfl) rfl
theorem q824 : (Jvm.Cond.methodLink "TableArms$Reader" (19 : Nat) ({ cls := "java/util/ArrayList", name := "<init>", desc := "()V" } : Jvm.MethodName)) ∈ lw_all := lw_g (lw_at lw_m4 15 rfl) rfl
theorem q825 : (Jvm.Cond.fieldLink "TableArms$Reader" (24 : Nat) "TableArms$Reader" "text" "[B") ∈ lw_all := lw_g (lw_at lw_m4 16 rfl) rfl
theorem q826 : (Jvm.Cond.fieldLink "TableArms$Reader" (28 : Nat) "TableArms$Reader" "size" "I") ∈ lw_all := lw_g (lw_at lw_m4 17 rfl) rfl
theorem q827 : (Jvm.Cond.fieldLink "TableArms$Reader" (32 : Nat) "TableArms$Reader" "may" "I") ∈ lw_all := lw_g (lw_at lw_m4 18 rfl) rfl
theorem q828 : (Jvm.Cond.fieldLink "TableArms$Reader" (35 : Nat) "TableArms$Reader" "at" "I") ∈ lw_all := lw_g (lw_at lw_m4 19 rfl) rfl
theorem q829 : (Jvm.Cond.fieldLink "TableArms$Reader" (46 : Nat) "TableArms$Reader" "token" "I") ∈ lw_all := lw_g (lw_at lw_m4 20 rfl) rfl
theorem q830 : (Jvm.Cond.fieldLink "TableArms$Reader" (43 : Nat) "TableArms$Reader" "from" "I") ∈ lw_all := lw_g (lw_at lw_m4 21 rfl) rfl
theorem q831 : (Jvm.Cond.fieldLink "TableArms$Reader" (72 : Nat) "TableArms$Reader" "number" "I") ∈ lw_all := lw_g (lw_at lw_m4 22 rfl) rfl
theorem q832 : (Jvm.Cond.fieldLink "TableArms$Reader" (11 : Nat) "TableArms$Reader" "name" "Ljava/lang/String;") ∈ lw_all := lw_g (lw_at lw_m4 23 rfl) rfl
theorem q833 : (Jvm.Cond.fieldLink "TableArms$Reader" (20 : Nat) "TableArms$Reader" "made" "Ljava/util/List;") ∈ lw_all := lw_g (lw_at lw_m4 24 rfl) rfl
theorem q835 : (Jvm.Cond.laysFinal "TableArms$Reader" "TableArms$Reader" "text" "[B") ∈ lw_all := lw_g (lw_at lw_m4 26 rfl) rfl
theorem q836 : (Jvm.Cond.soleField "TableArms$Reader" "text") ∈ lw_all := lw_g (lw_at lw_m4 27 rfl) rfl
theorem q837 : (Jvm.Cond.laysFinal "TableArms$Reader" "TableArms$Reader" "size" "I") ∈ lw_all := lw_g (lw_at lw_m4 28 rfl) rfl
theorem q838 : (Jvm.Cond.soleField "TableArms$Reader" "size") ∈ lw_all := lw_g (lw_at lw_m4 29 rfl) rfl
theorem q839 : (Jvm.Cond.laysFinal "TableArms$Reader" "TableArms$Reader" "may" "I") ∈ lw_all := lw_g (lw_at lw_m4 30 rfl) rfl
theorem q840 : (Jvm.Cond.soleField "TableArms$Reader" "may") ∈ lw_all := lw_g (lw_at lw_m4 31 rfl) rfl
theorem q841 : (Jvm.Cond.lays "TableArms$Reader" "TableArms$Reader" "at" "I") ∈ lw_all := lw_g (lw_at lw_m4 32 rfl) rfl
theorem q842 : (Jvm.Cond.soleField "TableArms$Reader" "at") ∈ lw_all := lw_g (lw_at lw_m4 33 rfl) rfl
theorem q843 : (Jvm.Cond.lays "TableArms$Reader" "TableArms$Reader" "token" "I") ∈ lw_all := lw_g (lw_at lw_m4 34 rfl) rfl
theorem q844 : (Jvm.Cond.soleField "TableArms$Reader" "token") ∈ lw_all := lw_g (lw_at lw_m4 35 rfl) rfl
theorem q845 : (Jvm.Cond.lays "TableArms$Reader" "TableArms$Reader" "from" "I") ∈ lw_all := lw_g (lw_at lw_m4 36 rfl) rfl
theorem q846 : (Jvm.Cond.soleField "TableArms$Reader" "from") ∈ lw_all := lw_g (lw_at lw_m4 37 rfl) rfl
theorem q847 : (Jvm.Cond.lays "TableArms$Reader" "TableArms$Reader" "number" "I") ∈ lw_all := lw_g (lw_at lw_m4 38 rfl) rfl
theorem q848 : (Jvm.Cond.soleField "TableArms$Reader" "number") ∈ lw_all := lw_g (lw_at lw_m4 39 rfl) rfl
theorem q849 : (Jvm.Cond.lays "TableArms$Reader" "TableArms$Reader" "name" "Ljava/lang/String;") ∈ lw_all := lw_g (lw_at lw_m4 40 rfl) rfl
theorem q850 : (Jvm.Cond.soleField "TableArms$Reader" "name") ∈ lw_all := lw_g (lw_at lw_m4 41 rfl) rfl
theorem q851 : (Jvm.Cond.laysFinal "TableArms$Reader" "TableArms$Reader" "made" "Ljava/util/List;") ∈ lw_all := lw_g (lw_at lw_m4 42 rfl) rfl
theorem q852 : (Jvm.Cond.soleField "TableArms$Reader" "made") ∈ lw_all := lw_g (lw_at lw_m4 43 rfl) rfl
theorem q853 : (Jvm.Cond.superclass "TableArms$Reader" "java/lang/Object") ∈ lw_all := lw_g (lw_at lw_m4 44 rfl) rfl
theorem q855 : (Jvm.Cond.instanceMethod ({ cls := "TableArms$Reader", name := "all", desc := "()V" } : Jvm.MethodName)) ∈ lw_all := lw_g (lw_at lw_m4 46 rfl) rfl
theorem q856 : (Jvm.Cond.selects "TableArms$Reader" ({ cls := "TableArms$Reader", name := "all", desc := "()V" } : Jvm.MethodName) ({ cls := "TableArms$Reader", name := "all", desc := "()V" } : Jvm.MethodName)) ∈ lw_all := lw_g (lw_at lw_m4 47 rfl) rfl
theorem q857 : (Jvm.Cond.code ({ cls := "TableArms$Reader", name := "all", desc := "()V" } : Jvm.MethodName) prog_13_method_8_code (2 : Nat) (Option.none : Option Jvm.ClassFile.FieldType)) ∈ lw_all := lw_g (lw_at lw_m4 48 rfl) rfl
theorem q858 : (Jvm.Cond.methodLink "TableArms$Reader" (90 : Nat) ({ cls := "TableArms$Reader", name := "next", desc := "()V" } : Jvm.MethodName)) ∈ lw_all := lw_g (lw_at lw_m4 49 rfl) rfl
theorem q859 : (Jvm.Cond.privateMethod ({ cls := "TableArms$Reader", name := "next", desc := "()V" } : Jvm.MethodName)) ∈ lw_tbl := lw_at lw_m4 50 rfl
theorem q860 : (Jvm.Cond.instanceMethod ({ cls := "TableArms$Reader", name := "next", desc := "()V" } : Jvm.MethodName)) ∈ lw_all := lw_g (lw_at lw_m4 51 rfl) rfl
theorem q861 : (Jvm.Cond.code ({ cls := "TableArms$Reader", name := "next", desc := "()V" } : Jvm.MethodName) prog_13_method_3_code (3 : Nat) (Option.none : Option Jvm.ClassFile.FieldType)) ∈ lw_all := lw_g (lw_at lw_m4 52 rfl) rfl
theorem q862 : (Jvm.Cond.methodLink "TableArms$Reader" (39 : Nat) ({ cls := "TableArms$Reader", name := "look", desc := "()I" } : Jvm.MethodName)) ∈ lw_all := lw_g (lw_at lw_m4 53 rfl) rfl
theorem q863 : (Jvm.Cond.privateMethod ({ cls := "TableArms$Reader", name := "look", desc := "()I" } : Jvm.MethodName)) ∈ lw_tbl := lw_at lw_m4 54 rfl
theorem q864 : (Jvm.Cond.instanceMethod ({ cls := "TableArms$Reader", name := "look", desc := "()I" } : Jvm.MethodName)) ∈ lw_all := lw_g (lw_at lw_m4 55 rfl) rfl
theorem q865 : (Jvm.Cond.code ({ cls := "TableArms$Reader", name := "look", desc := "()I" } : Jvm.MethodName) prog_13_method_2_code (1 : Nat) (Option.some Jvm.ClassFile.FieldType.int)) ∈ lw_all := lw_g (lw_at lw_m4 56 rfl) rfl
theorem q866 : (Jvm.Cond.constant "TableArms$Reader" (38 : Nat) (-1000000 : Int32)) ∈ lw_all := lw_g (lw_at lw_m4 57 rfl) rfl
theorem q867 : (Jvm.Cond.constantLong "TableArms$Reader" (49 : Nat) (97 : Int64)) ∈ lw_all := lw_g (lw_at lw_m4 58 rfl) rfl
theorem q868 : (Jvm.Cond.constantLong "TableArms$Reader" (51 : Nat) (122 : Int64)) ∈ lw_all := lw_g (lw_at lw_m4 59 rfl) rfl
theorem q869 : (Jvm.Cond.methodLinkNest "TableArms$Reader" (53 : Nat) ({ cls := "TableArms", name := "isIn", desc := "(JJJ)Z" } : Jvm.MethodName) "TableArms") ∈ lw_tbl := lw_at lw_m4 60 rfl
theorem q870 : (Jvm.Cond.classLink "TableArms$Reader" (57 : Nat) "java/lang/StringBuilder") ∈ lw_all := lw_g (lw_at lw_m4 61 rfl) rfl
theorem q872 : (Jvm.Cond.methodLink "TableArms$Reader" (59 : Nat) ({ cls := "java/lang/StringBuilder", name := "<init>", desc := "()V" } : Jvm.MethodName)) ∈ lw_all := lw_g (lw_at lw_m4 63 rfl) rfl
theorem q901 : (Jvm.Cond.methodLink "TableArms$Reader" (60 : Nat) ({ cls := "java/lang/StringBuilder", name := "append", desc := "(C)Ljava/lang/StringBuilder;" } : Jvm.MethodName)) ∈ lw_all := lw_g (lw_at lw_m4 92 rfl) rfl
theorem q979 : (Jvm.Cond.methodLink "TableArms$Reader" (64 : Nat) ({ cls := "java/lang/StringBuilder", name := "toString", desc := "()Ljava/lang/String;" } : Jvm.MethodName)) ∈ lw_all := lw_g (lw_at lw_m4 170 rfl) rfl
theorem q1035 : (Jvm.Cond.constantLong "TableArms$Reader" (68 : Nat) (48 : Int64)) ∈ lw_all := lw_g (lw_at lw_m4 226 rfl) rfl
theorem q1036 : (Jvm.Cond.constantLong "TableArms$Reader" (70 : Nat) (57 : Int64)) ∈ lw_all := lw_g (lw_at lw_m4 227 rfl) rfl
theorem q1037 : (Jvm.Cond.stringRef "TableArms$Reader" (97 : Nat) "never") ∈ lw_tbl := lw_at lw_m4 228 rfl
theorem q1038 : (Jvm.Cond.methodLink "TableArms$Reader" (93 : Nat) ({ cls := "TableArms$Reader", name := "isWord", desc := "(Ljava/lang/String;)Z" } : Jvm.MethodName)) ∈ lw_all := lw_g (lw_at lw_m4 229 rfl) rfl
theorem q1039 : (Jvm.Cond.privateMethod ({ cls := "TableArms$Reader", name := "isWord", desc := "(Ljava/lang/String;)Z" } : Jvm.MethodName)) ∈ lw_tbl := lw_at lw_m4 230 rfl
theorem q1040 : (Jvm.Cond.instanceMethod ({ cls := "TableArms$Reader", name := "isWord", desc := "(Ljava/lang/String;)Z" } : Jvm.MethodName)) ∈ lw_all := lw_g (lw_at lw_m4 231 rfl) rfl
theorem q1041 : (Jvm.Cond.code ({ cls := "TableArms$Reader", name := "isWord", desc := "(Ljava/lang/String;)Z" } : Jvm.MethodName) prog_13_method_5_code (2 : Nat) (Option.some Jvm.ClassFile.FieldType.boolean)) ∈ lw_all := lw_g (lw_at lw_m4 232 rfl) rfl
theorem q1042 : (Jvm.Cond.methodLink "TableArms$Reader" (80 : Nat) ({ cls := "java/lang/String", name := "equals", desc := "(Ljava/lang/Object;)Z" } : Jvm.MethodName)) ∈ lw_all := lw_g (lw_at lw_m4 233 rfl) rfl
theorem q1050 : (Jvm.Cond.stringRef "TableArms$Reader" (99 : Nat) "most") ∈ lw_tbl := lw_at lw_m5 1 rfl
theorem q1051 : (Jvm.Cond.interfaceEntry "TableArms$Reader" (101 : Nat)) ∈ lw_tbl := lw_at lw_m5 2 rfl
theorem q1052 : (Jvm.Cond.methodLink "TableArms$Reader" (101 : Nat) ({ cls := "java/util/List", name := "size", desc := "()I" } : Jvm.MethodName)) ∈ lw_all := lw_g (lw_at lw_m5 3 rfl) rfl
theorem q1053 : (Jvm.Cond.methodLink "TableArms$Reader" (86 : Nat) ({ cls := "TableArms$Reader", name := "must", desc := "(ZI)V" } : Jvm.MethodName)) ∈ lw_all := lw_g (lw_at lw_m5 4 rfl) rfl
theorem q1054 : (Jvm.Cond.privateMethod ({ cls := "TableArms$Reader", name := "must", desc := "(ZI)V" } : Jvm.MethodName)) ∈ lw_tbl := lw_at lw_m5 5 rfl
theorem q1055 : (Jvm.Cond.instanceMethod ({ cls := "TableArms$Reader", name := "must", desc := "(ZI)V" } : Jvm.MethodName)) ∈ lw_all := lw_g (lw_at lw_m5 6 rfl) rfl
theorem q1056 : (Jvm.Cond.code ({ cls := "TableArms$Reader", name := "must", desc := "(ZI)V" } : Jvm.MethodName) prog_13_method_4_code (3 : Nat) (Option.none : Option Jvm.ClassFile.FieldType)) ∈ lw_all := lw_g (lw_at lw_m5 7 rfl) rfl
theorem q1057 : (Jvm.Cond.classLink "TableArms$Reader" (75 : Nat) "TableArms$Fault") ∈ lw_all := lw_g (lw_at lw_m5 8 rfl) rfl
theorem q1066 : (Jvm.Cond.methodLink "TableArms$Reader" (77 : Nat) ({ cls := "TableArms$Fault", name := "<init>", desc := "(II)V" } : Jvm.MethodName)) ∈ lw_all := lw_g (lw_at lw_m5 17 rfl) rfl
theorem q1080 : (Jvm.Cond.methodLink "TableArms$Reader" (105 : Nat) ({ cls := "TableArms$Reader", name := "never", desc := "()LTableArms$Never;" } : Jvm.MethodName)) ∈ lw_all := lw_g (lw_at lw_m5 31 rfl) rfl
theorem q1081 : (Jvm.Cond.privateMethod ({ cls := "TableArms$Reader", name := "never", desc := "()LTableArms$Never;" } : Jvm.MethodName)) ∈ lw_tbl := lw_at lw_m5 32 rfl
theorem q1082 : (Jvm.Cond.instanceMethod ({ cls := "TableArms$Reader", name := "never", desc := "()LTableArms$Never;" } : Jvm.MethodName)) ∈ lw_all := lw_g (lw_at lw_m5 33 rfl) rfl
theorem q1083 : (Jvm.Cond.code ({ cls := "TableArms$Reader", name := "never", desc := "()LTableArms$Never;" } : Jvm.MethodName) prog_13_method_9_code (3 : Nat) (Option.some (Jvm.ClassFile.FieldType.object "TableArms$Never"))) ∈ lw_all := lw_g (lw_at lw_m5 34 rfl) rfl
theorem q1084 : (Jvm.Cond.fieldLinkNest "TableArms$Reader" (113 : Nat) "TableArms" "SORTED" "[Ljava/lang/String;" "TableArms") ∈ lw_tbl := lw_at lw_m5 35 rfl
theorem q1086 : (Jvm.Cond.methodLink "TableArms$Reader" (117 : Nat) ({ cls := "TableArms$Reader", name := "word", desc := "([Ljava/lang/String;)I" } : Jvm.MethodName)) ∈ lw_all := lw_g (lw_at lw_m5 37 rfl) rfl
theorem q1087 : (Jvm.Cond.privateMethod ({ cls := "TableArms$Reader", name := "word", desc := "([Ljava/lang/String;)I" } : Jvm.MethodName)) ∈ lw_tbl := lw_at lw_m5 38 rfl
theorem q1088 : (Jvm.Cond.instanceMethod ({ cls := "TableArms$Reader", name := "word", desc := "([Ljava/lang/String;)I" } : Jvm.MethodName)) ∈ lw_all := lw_g (lw_at lw_m5 39 rfl) rfl
theorem q1089 : (Jvm.Cond.code ({ cls := "TableArms$Reader", name := "word", desc := "([Ljava/lang/String;)I" } : Jvm.MethodName) prog_13_method_7_code (3 : Nat) (Option.some Jvm.ClassFile.FieldType.int)) ∈ lw_all := lw_g (lw_at lw_m5 40 rfl) rfl
theorem q1090 : (Jvm.Cond.fieldLinkNest "TableArms$Reader" (121 : Nat) "TableArms" "RELS" "[Ljava/lang/String;" "TableArms") ∈ lw_tbl := lw_at lw_m5 41 rfl
theorem q1092 : (Jvm.Cond.classLink "TableArms$Reader" (124 : Nat) "TableArms$Never") ∈ lw_all := lw_g (lw_at lw_m5 43 rfl) rfl
theorem q1094 : (Jvm.Cond.methodLink "TableArms$Reader" (126 : Nat) ({ cls := "TableArms$Reader", name := "figure", desc := "(I)I" } : Jvm.MethodName)) ∈ lw_all := lw_g (lw_at lw_m5 45 rfl) rfl
theorem q1095 : (Jvm.Cond.privateMethod ({ cls := "TableArms$Reader", name := "figure", desc := "(I)I" } : Jvm.MethodName)) ∈ lw_tbl := lw_at lw_m5 46 rfl
theorem q1096 : (Jvm.Cond.instanceMethod ({ cls := "TableArms$Reader", name := "figure", desc := "(I)I" } : Jvm.MethodName)) ∈ lw_all := lw_g (lw_at lw_m5 47 rfl) rfl
theorem q1097 : (Jvm.Cond.code ({ cls := "TableArms$Reader", name := "figure", desc := "(I)I" } : Jvm.MethodName) prog_13_method_6_code (3 : Nat) (Option.some Jvm.ClassFile.FieldType.int)) ∈ lw_all := lw_g (lw_at lw_m5 48 rfl) rfl
theorem q1098 : (Jvm.Cond.methodLink "TableArms$Reader" (130 : Nat) ({ cls := "TableArms$Never", name := "<init>", desc := "(III)V" } : Jvm.MethodName)) ∈ lw_all := lw_g (lw_at lw_m5 49 rfl) rfl
theorem q1115 : (Jvm.Cond.methodLink "TableArms$Reader" (108 : Nat) ({ cls := "TableArms$Reader", name := "most", desc := "()LTableArms$Never;" } : Jvm.MethodName)) ∈ lw_all := lw_g (lw_at lw_m5 66 rfl) rfl
theorem q1116 : (Jvm.Cond.privateMethod ({ cls := "TableArms$Reader", name := "most", desc := "()LTableArms$Never;" } : Jvm.MethodName)) ∈ lw_tbl := lw_at lw_m5 67 rfl
theorem q1117 : (Jvm.Cond.instanceMethod ({ cls := "TableArms$Reader", name := "most", desc := "()LTableArms$Never;" } : Jvm.MethodName)) ∈ lw_all := lw_g (lw_at lw_m5 68 rfl) rfl
theorem q1118 : (Jvm.Cond.code ({ cls := "TableArms$Reader", name := "most", desc := "()LTableArms$Never;" } : Jvm.MethodName) prog_13_method_10_code (2 : Nat) (Option.some (Jvm.ClassFile.FieldType.object "TableArms$Never"))) ∈ lw_all := lw_g (lw_at lw_m5 69 rfl) rfl
theorem q1119 : (Jvm.Cond.interfaceEntry "TableArms$Reader" (110 : Nat)) ∈ lw_tbl := lw_at lw_m5 70 rfl
theorem q1120 : (Jvm.Cond.methodLink "TableArms$Reader" (110 : Nat) ({ cls := "java/util/List", name := "add", desc := "(Ljava/lang/Object;)Z" } : Jvm.MethodName)) ∈ lw_all := lw_g (lw_at lw_m5 71 rfl) rfl
theorem q1913 : (Jvm.Cond.castable "TableArms$Reader" "java/lang/Object") ∈ lw_tbl := lw_at lw_m8 144 rfl
theorem in_X7 : ∀ w ∈ wsX70, w ∈ lw_all := lw_in wsX70 [835, 837, 839, 841, 843, 845, 847, 849, 851] (by decide +kernel) (by decide +kernel)
/-! TableArms$Fault -/
set_option maxRecDepth 100000
def RX8 : String := "TableArms$Fault"
def TX8 : u_T := fun k => match k with
  | 0 => ("java/lang/Throwable", "cause", "Ljava/lang/Throwable;", false)
  | 1 => ("java/lang/Throwable", "stackTrace", "[Ljava/lang/StackTraceElement;", false)
  | 2 => ("java/lang/Throwable", "suppressedExceptions", "Ljava/util/List;", false)
  | 3 => ("java/lang/Throwable", "detailMessage", "Ljava/lang/String;", false)
  | 4 => ("java/lang/Throwable", "backtrace", "Ljava/lang/Object;", false)
  | 5 => ("java/lang/Throwable", "depth", "I", false)
  | 6 => ("TableArms$Fault", "kind", "I", true)
  | _ => ("TableArms$Fault", "place", "I", true)
def tyX8 : Nat → FieldType := fun k => match k with
  | 0 => .object "java/lang/Throwable"
  | 1 => .array (.object "java/lang/StackTraceElement")
  | 2 => .object "java/util/List"
  | 3 => .object "java/lang/String"
  | 4 => .object "java/lang/Object"
  | 5 => .int
  | 6 => .int
  | _ => .int
abbrev wsX80 : List Cond := u_ws RX8 TX8 8
theorem nmX8 : ∀ a, a < 8 → ∀ b, b < 8 → a ≠ b → (TX8 a).2.1 ≠ (TX8 b).2.1 := by decide +kernel
theorem tyX8_ok : ∀ k, k < 8 → parseFieldDescriptor (TX8 k).2.2.1 = some (tyX8 k) := by decide +kernel
abbrev cX8_init : ByteArray := prog_8_method_1_code
def yX8_init : MethodName := ⟨RX8, "<init>", "(II)V"⟩
def dkwX8_init_0 : List UInt8 := [42, 1, 1, 3, 3, 183, 0, 1, 42, 27, 181, 0, 7, 42, 28, 181, 0, 13, 177]
abbrev dktX8_init_0 : List UInt8 := dkwX8_init_0 ++ []
theorem dksX8_init_0 : cX8_init.data.toList.drop 0 = dktX8_init_0 := by decide +kernel
theorem dX8_init_0 : decode cX8_init 0 = .ok (.aload_n 0, 1) := dk_42 (dk_at dksX8_init_0 0 rfl rfl)
theorem dX8_init_1 : decode cX8_init 1 = .ok (.aconst_null, 1) := dk_1 (dk_at dksX8_init_0 1 rfl rfl)
theorem dX8_init_2 : decode cX8_init 2 = .ok (.aconst_null, 1) := dk_1 (dk_at dksX8_init_0 2 rfl rfl)
theorem dX8_init_3 : decode cX8_init 3 = .ok (.iconst 0, 1) := dk_3 (dk_at dksX8_init_0 3 rfl rfl)
theorem dX8_init_4 : decode cX8_init 4 = .ok (.iconst 0, 1) := dk_3 (dk_at dksX8_init_0 4 rfl rfl)
theorem dX8_init_5 : decode cX8_init 5 = .ok (.invokespecial 1, 3) := dk_183 0 1 (dk_at dksX8_init_0 5 rfl rfl)
theorem dX8_init_8 : decode cX8_init 8 = .ok (.aload_n 0, 1) := dk_42 (dk_at dksX8_init_0 8 rfl rfl)
theorem dX8_init_9 : decode cX8_init 9 = .ok (.iload_n 1, 1) := dk_27 (dk_at dksX8_init_0 9 rfl rfl)
theorem dX8_init_10 : decode cX8_init 10 = .ok (.putfield 7, 3) := dk_181 0 7 (dk_at dksX8_init_0 10 rfl rfl)
theorem dX8_init_13 : decode cX8_init 13 = .ok (.aload_n 0, 1) := dk_42 (dk_at dksX8_init_0 13 rfl rfl)
theorem dX8_init_14 : decode cX8_init 14 = .ok (.iload_n 2, 1) := dk_28 (dk_at dksX8_init_0 14 rfl rfl)
theorem dX8_init_15 : decode cX8_init 15 = .ok (.putfield 13, 3) := dk_181 0 13 (dk_at dksX8_init_0 15 rfl rfl)
theorem dX8_init_18 : decode cX8_init 18 = .ok (.return_, 1) := dk_177 (dk_at dksX8_init_0 18 rfl rfl)
theorem q118 : (Jvm.Cond.initialized "TableArms$Fault") ∈ lw_all := lw_g (lw_at lw_m1 29 rfl) rfl
theorem q323 : (Jvm.Cond.selects "TableArms$Fault" ({ cls := "java/lang/Throwable", name := "fillInStackTrace", desc := "()Ljava/lang/Throwable;" } : Jvm.MethodName) ({ cls := "java/lang/Throwable", name := "fillInStackTrace", desc := "()Ljava/lang/Throwable;" } : Jvm.MethodName)) ∈ lw_all := lw_g (lw_at lw_m1 234 rfl) rfl
theorem q690 : (Jvm.Cond.selects "TableArms$Fault" ({ cls := "java/lang/Object", name := "getClass", desc := "()Ljava/lang/Class;" } : Jvm.MethodName) ({ cls := "java/lang/Object", name := "getClass", desc := "()Ljava/lang/Class;" } : Jvm.MethodName)) ∈ lw_all := lw_g (lw_at lw_m3 121 rfl) rfl
theorem q1058 : (Jvm.Cond.instantiable "TableArms$Fault" (8 : Nat)) ∈ lw_all := lw_g (lw_at lw_m5 9 rfl) rfl
theorem q1059 : (Jvm.Cond.castable "TableArms$Fault" "TableArms$Fault") ∈ lw_tbl := lw_at lw_m5 10 rfl
theorem q1060 : (Jvm.Cond.selects "TableArms$Fault" ({ cls := "java/lang/Throwable", name := "fillInStackTrace", desc := "(I)Ljava/lang/Throwable;" } : Jvm.MethodName) ({ cls := "java/lang/Throwable", name := "fillInStackTrace", desc := "(I)Ljava/lang/Throwable;" } : Jvm.MethodName)) ∈ lw_all := lw_g (lw_at lw_m5 11 rfl) rfl
theorem q1061 : (Jvm.Cond.lays "TableArms$Fault" "java/lang/Throwable" "cause" "Ljava/lang/Throwable;") ∈ lw_all := lw_g (lw_at lw_m5 12 rfl) rfl
theorem q1062 : (Jvm.Cond.lays "TableArms$Fault" "java/lang/Throwable" "stackTrace" "[Ljava/lang/StackTraceElement;") ∈ lw_all := lw_g (lw_at lw_m5 13 rfl) rfl
theorem q1063 : (Jvm.Cond.lays "TableArms$Fault" "java/lang/Throwable" "suppressedExceptions" "Ljava/util/List;") ∈ lw_all := lw_g (lw_at lw_m5 14 rfl) rfl
theorem q1064 : (Jvm.Cond.lays "TableArms$Fault" "java/lang/Throwable" "detailMessage" "Ljava/lang/String;") ∈ lw_all := lw_g (lw_at lw_m5 15 rfl) rfl
theorem q1065 : (Jvm.Cond.lays "TableArms$Fault" "java/lang/Throwable" "backtrace" "Ljava/lang/Object;") ∈ lw_all := lw_g (lw_at lw_m5 16 rfl) rfl
theorem q1067 : (Jvm.Cond.instanceMethod ({ cls := "TableArms$Fault", name := "<init>", desc := "(II)V" } : Jvm.MethodName)) ∈ lw_all := lw_g (lw_at lw_m5 18 rfl) rfl
theorem q1068 : (Jvm.Cond.code ({ cls := "TableArms$Fault", name := "<init>", desc := "(II)V" } : Jvm.MethodName) prog_8_method_1_code (3 : Nat) (Option.none : Option Jvm.ClassFile.FieldType)) ∈ lw_all := lw_g (lw_at lw_m5 19 rfl) rfl
theorem q1069 : (Jvm.Cond.methodLink "TableArms$Fault" (1 : Nat) ({ cls := "java/lang/Exception", name := "<init>", desc := "(Ljava/lang/String;Ljava/lang/Throwable;ZZ)V" } : Jvm.MethodName)) ∈ lw_all := lw_g (lw_at lw_m5 20 rfl) rfl
theorem q1070 : (Jvm.Cond.fieldLink "TableArms$Fault" (7 : Nat) "TableArms$Fault" "kind" "I") ∈ lw_all := lw_g (lw_at lw_m5 21 rfl) rfl
theorem q1072 : (Jvm.Cond.fieldLink "TableArms$Fault" (13 : Nat) "TableArms$Fault" "place" "I") ∈ lw_all := lw_g (lw_at lw_m5 23 rfl) rfl
theorem q1074 : (Jvm.Cond.laysFinal "TableArms$Fault" "TableArms$Fault" "kind" "I") ∈ lw_all := lw_g (lw_at lw_m5 25 rfl) rfl
theorem q1075 : (Jvm.Cond.soleField "TableArms$Fault" "kind") ∈ lw_all := lw_g (lw_at lw_m5 26 rfl) rfl
theorem q1076 : (Jvm.Cond.laysFinal "TableArms$Fault" "TableArms$Fault" "place" "I") ∈ lw_all := lw_g (lw_at lw_m5 27 rfl) rfl
theorem q1077 : (Jvm.Cond.soleField "TableArms$Fault" "place") ∈ lw_all := lw_g (lw_at lw_m5 28 rfl) rfl
theorem q1078 : (Jvm.Cond.lays "TableArms$Fault" "java/lang/Throwable" "depth" "I") ∈ lw_all := lw_g (lw_at lw_m5 29 rfl) rfl
theorem q1079 : (Jvm.Cond.superclass "TableArms$Fault" "java/lang/Exception") ∈ lw_all := lw_g (lw_at lw_m5 30 rfl) rfl
theorem q1915 : (Jvm.Cond.castable "TableArms$Fault" "java/lang/Object") ∈ lw_tbl := lw_at lw_m8 146 rfl
theorem in_X8 : ∀ w ∈ wsX80, w ∈ lw_all := lw_in wsX80 [1061, 1062, 1063, 1064, 1065, 1078, 1074, 1076] (by decide +kernel) (by decide +kernel)
/-! TableArms$Never -/
set_option maxRecDepth 100000
def RX9 : String := "TableArms$Never"
def TX9 : u_T := fun k => match k with
  | 0 => ("TableArms$Never", "what", "I", true)
  | 1 => ("TableArms$Never", "a", "I", true)
  | _ => ("TableArms$Never", "b", "I", true)
def tyX9 : Nat → FieldType := fun k => match k with
  | 0 => .int
  | 1 => .int
  | _ => .int
abbrev wsX90 : List Cond := u_ws RX9 TX9 3
theorem nmX9 : ∀ a, a < 3 → ∀ b, b < 3 → a ≠ b → (TX9 a).2.1 ≠ (TX9 b).2.1 := by decide +kernel
theorem tyX9_ok : ∀ k, k < 3 → parseFieldDescriptor (TX9 k).2.2.1 = some (tyX9 k) := by decide +kernel
abbrev cX9_init : ByteArray := prog_12_method_1_code
def yX9_init : MethodName := ⟨RX9, "<init>", "(III)V"⟩
def dkwX9_init_0 : List UInt8 := [42, 183, 0, 1, 42, 27, 181, 0, 7, 42, 28, 181, 0, 13, 42, 29, 181, 0, 16, 177]
abbrev dktX9_init_0 : List UInt8 := dkwX9_init_0 ++ []
theorem dksX9_init_0 : cX9_init.data.toList.drop 0 = dktX9_init_0 := by decide +kernel
theorem dX9_init_0 : decode cX9_init 0 = .ok (.aload_n 0, 1) := dk_42 (dk_at dksX9_init_0 0 rfl rfl)
theorem dX9_init_1 : decode cX9_init 1 = .ok (.invokespecial 1, 3) := dk_183 0 1 (dk_at dksX9_init_0 1 rfl rfl)
theorem dX9_init_4 : decode cX9_init 4 = .ok (.aload_n 0, 1) := dk_42 (dk_at dksX9_init_0 4 rfl rfl)
theorem dX9_init_5 : decode cX9_init 5 = .ok (.iload_n 1, 1) := dk_27 (dk_at dksX9_init_0 5 rfl rfl)
theorem dX9_init_6 : decode cX9_init 6 = .ok (.putfield 7, 3) := dk_181 0 7 (dk_at dksX9_init_0 6 rfl rfl)
theorem dX9_init_9 : decode cX9_init 9 = .ok (.aload_n 0, 1) := dk_42 (dk_at dksX9_init_0 9 rfl rfl)
theorem dX9_init_10 : decode cX9_init 10 = .ok (.iload_n 2, 1) := dk_28 (dk_at dksX9_init_0 10 rfl rfl)
theorem dX9_init_11 : decode cX9_init 11 = .ok (.putfield 13, 3) := dk_181 0 13 (dk_at dksX9_init_0 11 rfl rfl)
theorem dX9_init_14 : decode cX9_init 14 = .ok (.aload_n 0, 1) := dk_42 (dk_at dksX9_init_0 14 rfl rfl)
theorem dX9_init_15 : decode cX9_init 15 = .ok (.iload_n 3, 1) := dk_29 (dk_at dksX9_init_0 15 rfl rfl)
theorem dX9_init_16 : decode cX9_init 16 = .ok (.putfield 16, 3) := dk_181 0 16 (dk_at dksX9_init_0 16 rfl rfl)
theorem dX9_init_19 : decode cX9_init 19 = .ok (.return_, 1) := dk_177 (dk_at dksX9_init_0 19 rfl rfl)
theorem q119 : (Jvm.Cond.initialized "TableArms$Never") ∈ lw_all := lw_g (lw_at lw_m1 30 rfl) rfl
theorem q693 : (Jvm.Cond.selects "TableArms$Never" ({ cls := "java/lang/Object", name := "getClass", desc := "()Ljava/lang/Class;" } : Jvm.MethodName) ({ cls := "java/lang/Object", name := "getClass", desc := "()Ljava/lang/Class;" } : Jvm.MethodName)) ∈ lw_all := lw_g (lw_at lw_m3 124 rfl) rfl
theorem q1093 : (Jvm.Cond.instantiable "TableArms$Never" (3 : Nat)) ∈ lw_all := lw_g (lw_at lw_m5 44 rfl) rfl
theorem q1099 : (Jvm.Cond.instanceMethod ({ cls := "TableArms$Never", name := "<init>", desc := "(III)V" } : Jvm.MethodName)) ∈ lw_all := lw_g (lw_at lw_m5 50 rfl) rfl
theorem q1100 : (Jvm.Cond.code ({ cls := "TableArms$Never", name := "<init>", desc := "(III)V" } : Jvm.MethodName) prog_12_method_1_code (4 : Nat) (Option.none : Option Jvm.ClassFile.FieldType)) ∈ lw_all := lw_g (lw_at lw_m5 51 rfl) rfl
theorem q1101 : (Jvm.Cond.methodLink "TableArms$Never" (1 : Nat) ({ cls := "java/lang/Object", name := "<init>", desc := "()V" } : Jvm.MethodName)) ∈ lw_all := lw_g (lw_at lw_m5 52 rfl) rfl
theorem q1102 : (Jvm.Cond.fieldLink "TableArms$Never" (7 : Nat) "TableArms$Never" "what" "I") ∈ lw_all := lw_g (lw_at lw_m5 53 rfl) rfl
theorem q1104 : (Jvm.Cond.fieldLink "TableArms$Never" (13 : Nat) "TableArms$Never" "a" "I") ∈ lw_all := lw_g (lw_at lw_m5 55 rfl) rfl
theorem q1106 : (Jvm.Cond.fieldLink "TableArms$Never" (16 : Nat) "TableArms$Never" "b" "I") ∈ lw_all := lw_g (lw_at lw_m5 57 rfl) rfl
theorem q1108 : (Jvm.Cond.laysFinal "TableArms$Never" "TableArms$Never" "what" "I") ∈ lw_all := lw_g (lw_at lw_m5 59 rfl) rfl
theorem q1109 : (Jvm.Cond.soleField "TableArms$Never" "what") ∈ lw_all := lw_g (lw_at lw_m5 60 rfl) rfl
theorem q1110 : (Jvm.Cond.laysFinal "TableArms$Never" "TableArms$Never" "a" "I") ∈ lw_all := lw_g (lw_at lw_m5 61 rfl) rfl
theorem q1111 : (Jvm.Cond.soleField "TableArms$Never" "a") ∈ lw_all := lw_g (lw_at lw_m5 62 rfl) rfl
theorem q1112 : (Jvm.Cond.laysFinal "TableArms$Never" "TableArms$Never" "b" "I") ∈ lw_all := lw_g (lw_at lw_m5 63 rfl) rfl
theorem q1113 : (Jvm.Cond.soleField "TableArms$Never" "b") ∈ lw_all := lw_g (lw_at lw_m5 64 rfl) rfl
theorem q1114 : (Jvm.Cond.superclass "TableArms$Never" "java/lang/Object") ∈ lw_all := lw_g (lw_at lw_m5 65 rfl) rfl
theorem q1916 : (Jvm.Cond.castable "TableArms$Never" "java/lang/Object") ∈ lw_tbl := lw_at lw_m8 147 rfl
theorem in_X9 : ∀ w ∈ wsX90, w ∈ lw_all := lw_in wsX90 [1108, 1110, 1112] (by decide +kernel) (by decide +kernel)
/-! TableArms$AsThing -/
set_option maxRecDepth 100000
def RX10 : String := "TableArms$AsThing"
abbrev cX10_init : ByteArray := prog_7_method_1_code
def yX10_init : MethodName := ⟨RX10, "<init>", "(LTableArms;I)V"⟩
def dkwX10_init_0 : List UInt8 := [42, 43, 181, 0, 3, 42, 183, 0, 9, 42, 28, 181, 0, 15, 177]
abbrev dktX10_init_0 : List UInt8 := dkwX10_init_0 ++ []
theorem dksX10_init_0 : cX10_init.data.toList.drop 0 = dktX10_init_0 := by decide +kernel
theorem dX10_init_0 : decode cX10_init 0 = .ok (.aload_n 0, 1) := dk_42 (dk_at dksX10_init_0 0 rfl rfl)
theorem dX10_init_1 : decode cX10_init 1 = .ok (.aload_n 1, 1) := dk_43 (dk_at dksX10_init_0 1 rfl rfl)
theorem dX10_init_2 : decode cX10_init 2 = .ok (.putfield 3, 3) := dk_181 0 3 (dk_at dksX10_init_0 2 rfl rfl)
theorem dX10_init_5 : decode cX10_init 5 = .ok (.aload_n 0, 1) := dk_42 (dk_at dksX10_init_0 5 rfl rfl)
theorem dX10_init_6 : decode cX10_init 6 = .ok (.invokespecial 9, 3) := dk_183 0 9 (dk_at dksX10_init_0 6 rfl rfl)
theorem dX10_init_9 : decode cX10_init 9 = .ok (.aload_n 0, 1) := dk_42 (dk_at dksX10_init_0 9 rfl rfl)
theorem dX10_init_10 : decode cX10_init 10 = .ok (.iload_n 2, 1) := dk_28 (dk_at dksX10_init_0 10 rfl rfl)
theorem dX10_init_11 : decode cX10_init 11 = .ok (.putfield 15, 3) := dk_181 0 15 (dk_at dksX10_init_0 11 rfl rfl)
theorem dX10_init_14 : decode cX10_init 14 = .ok (.return_, 1) := dk_177 (dk_at dksX10_init_0 14 rfl rfl)
abbrev cX10_kind : ByteArray := prog_7_method_2_code
def yX10_kind : MethodName := ⟨RX10, "kind", "()I"⟩
theorem dX10_kind_0 : decode cX10_kind 0 = .ok (.iconst 0, 1) := by decide +kernel
theorem dX10_kind_1 : decode cX10_kind 1 = .ok (.ireturn, 1) := by decide +kernel
abbrev cX10_number : ByteArray := prog_7_method_3_code
def yX10_number : MethodName := ⟨RX10, "number", "()I"⟩
theorem dX10_number_0 : decode cX10_number 0 = .ok (.aload_n 0, 1) := by decide +kernel
theorem dX10_number_1 : decode cX10_number 1 = .ok (.getfield 15, 3) := by decide +kernel
theorem dX10_number_4 : decode cX10_number 4 = .ok (.ireturn, 1) := by decide +kernel
abbrev cX10_size : ByteArray := prog_7_method_4_code
def yX10_size : MethodName := ⟨RX10, "size", "(LTableArms$Trail;)I"⟩
def dkwX10_size_0 : List UInt8 := [43, 16, 10, 182, 0, 19, 42, 180, 0, 3, 180, 0, 25, 42, 180, 0, 15, 46, 172]
abbrev dktX10_size_0 : List UInt8 := dkwX10_size_0 ++ []
theorem dksX10_size_0 : cX10_size.data.toList.drop 0 = dktX10_size_0 := by decide +kernel
theorem dX10_size_0 : decode cX10_size 0 = .ok (.aload_n 1, 1) := dk_43 (dk_at dksX10_size_0 0 rfl rfl)
theorem dX10_size_1 : decode cX10_size 1 = .ok (.bipush 10, 2) := dk_16 10 (dk_at dksX10_size_0 1 rfl rfl)
theorem dX10_size_3 : decode cX10_size 3 = .ok (.invokevirtual 19, 3) := dk_182 0 19 (dk_at dksX10_size_0 3 rfl rfl)
theorem dX10_size_6 : decode cX10_size 6 = .ok (.aload_n 0, 1) := dk_42 (dk_at dksX10_size_0 6 rfl rfl)
theorem dX10_size_7 : decode cX10_size 7 = .ok (.getfield 3, 3) := dk_180 0 3 (dk_at dksX10_size_0 7 rfl rfl)
theorem dX10_size_10 : decode cX10_size 10 = .ok (.getfield 25, 3) := dk_180 0 25 (dk_at dksX10_size_0 10 rfl rfl)
theorem dX10_size_13 : decode cX10_size 13 = .ok (.aload_n 0, 1) := dk_42 (dk_at dksX10_size_0 13 rfl rfl)
theorem dX10_size_14 : decode cX10_size 14 = .ok (.getfield 15, 3) := dk_180 0 15 (dk_at dksX10_size_0 14 rfl rfl)
theorem dX10_size_17 : decode cX10_size 17 = .ok (.iaload, 1) := dk_46 (dk_at dksX10_size_0 17 rfl rfl)
theorem dX10_size_18 : decode cX10_size 18 = .ok (.ireturn, 1) := dk_172 (dk_at dksX10_size_0 18 rfl rfl)
theorem q120 : (Jvm.Cond.initialized "TableArms$AsThing") ∈ lw_all := lw_g (lw_at lw_m1 31 rfl) rfl
theorem q213 : (Jvm.Cond.fieldLinkNest "TableArms$AsThing" (25 : Nat) "TableArms" "weights" "[I" "TableArms") ∈ lw_tbl := lw_at lw_m1 124 rfl
theorem q1181 : (Jvm.Cond.instanceMethod ({ cls := "TableArms$AsThing", name := "<init>", desc := "(LTableArms;I)V" } : Jvm.MethodName)) ∈ lw_all := lw_g (lw_at lw_m5 132 rfl) rfl
theorem q1182 : (Jvm.Cond.code ({ cls := "TableArms$AsThing", name := "<init>", desc := "(LTableArms;I)V" } : Jvm.MethodName) prog_7_method_1_code (3 : Nat) (Option.none : Option Jvm.ClassFile.FieldType)) ∈ lw_all := lw_g (lw_at lw_m5 133 rfl) rfl
theorem q1183 : (Jvm.Cond.methodLink "TableArms$AsThing" (9 : Nat) ({ cls := "java/lang/Object", name := "<init>", desc := "()V" } : Jvm.MethodName)) ∈ lw_all := lw_g (lw_at lw_m5 134 rfl) rfl
theorem q1185 : (Jvm.Cond.fieldLink "TableArms$AsThing" (15 : Nat) "TableArms$AsThing" "number" "I") ∈ lw_all := lw_g (lw_at lw_m5 136 rfl) rfl
theorem q1186 : (Jvm.Cond.fieldLink "TableArms$AsThing" (3 : Nat) "TableArms$AsThing" "this$0" "LTableArms;") ∈ lw_all := lw_g (lw_at lw_m5 137 rfl) rfl
theorem q1190 : (Jvm.Cond.soleField "TableArms$AsThing" "number") ∈ lw_all := lw_g (lw_at lw_m5 141 rfl) rfl
theorem q1192 : (Jvm.Cond.soleField "TableArms$AsThing" "this$0") ∈ lw_all := lw_g (lw_at lw_m5 143 rfl) rfl
theorem q1248 : (Jvm.Cond.instanceMethod ({ cls := "TableArms$AsThing", name := "kind", desc := "()I" } : Jvm.MethodName)) ∈ lw_all := lw_g (lw_at lw_m5 199 rfl) rfl
theorem q1249 : (Jvm.Cond.sameMethod "TableArms$AsThing" "TableArms$AsThing" "kind" "()I") ∈ lw_all := lw_g (lw_at lw_m5 200 rfl) rfl
theorem q1265 : (Jvm.Cond.code ({ cls := "TableArms$AsThing", name := "kind", desc := "()I" } : Jvm.MethodName) prog_7_method_2_code (1 : Nat) (Option.some Jvm.ClassFile.FieldType.int)) ∈ lw_all := lw_g (lw_at lw_m5 216 rfl) rfl
theorem q1286 : (Jvm.Cond.instanceMethod ({ cls := "TableArms$AsThing", name := "number", desc := "()I" } : Jvm.MethodName)) ∈ lw_all := lw_g (lw_at lw_m5 237 rfl) rfl
theorem q1287 : (Jvm.Cond.sameMethod "TableArms$AsThing" "TableArms$AsThing" "number" "()I") ∈ lw_all := lw_g (lw_at lw_m5 238 rfl) rfl
theorem q1293 : (Jvm.Cond.code ({ cls := "TableArms$AsThing", name := "number", desc := "()I" } : Jvm.MethodName) prog_7_method_3_code (1 : Nat) (Option.some Jvm.ClassFile.FieldType.int)) ∈ lw_all := lw_g (lw_at lw_m6 4 rfl) rfl
theorem q1299 : (Jvm.Cond.instanceMethod ({ cls := "TableArms$AsThing", name := "size", desc := "(LTableArms$Trail;)I" } : Jvm.MethodName)) ∈ lw_all := lw_g (lw_at lw_m6 10 rfl) rfl
theorem q1300 : (Jvm.Cond.sameMethod "TableArms$AsThing" "TableArms$AsThing" "size" "(LTableArms$Trail;)I") ∈ lw_all := lw_g (lw_at lw_m6 11 rfl) rfl
theorem q1309 : (Jvm.Cond.code ({ cls := "TableArms$AsThing", name := "size", desc := "(LTableArms$Trail;)I" } : Jvm.MethodName) prog_7_method_4_code (2 : Nat) (Option.some Jvm.ClassFile.FieldType.int)) ∈ lw_all := lw_g (lw_at lw_m6 20 rfl) rfl
theorem q1310 : (Jvm.Cond.methodLink "TableArms$AsThing" (19 : Nat) ({ cls := "TableArms$Trail", name := "begins", desc := "(I)V" } : Jvm.MethodName)) ∈ lw_all := lw_g (lw_at lw_m6 21 rfl) rfl
theorem q1313 : (Jvm.Cond.declares ({ cls := "TableArms$AsThing", name := "number", desc := "()I" } : Jvm.MethodName)) ∈ lw_tbl := lw_at lw_m6 24 rfl
theorem q1327 : (Jvm.Cond.superclass "TableArms$AsThing" "java/lang/Object") ∈ lw_all := lw_g (lw_at lw_m6 38 rfl) rfl
theorem q1339 : (Jvm.Cond.publicMethod ({ cls := "TableArms$AsThing", name := "number", desc := "()I" } : Jvm.MethodName)) ∈ lw_tbl := lw_at lw_m6 50 rfl
/-! TableArms$AsCup -/
set_option maxRecDepth 100000
def RX11 : String := "TableArms$AsCup"
def TX11 : u_T := fun k => match k with
  | 0 => ("TableArms$AsThing", "number", "I", true)
  | 1 => ("TableArms$AsThing", "this$0", "LTableArms;", true)
  | _ => ("TableArms$AsCup", "this$0", "LTableArms;", true)
def tyX11 : Nat → FieldType := fun k => match k with
  | 0 => .int
  | 1 => .object "TableArms"
  | _ => .object "TableArms"
abbrev wsX110 : List Cond := u_ws RX11 TX11 3
-- two fields of one name: no nmX11
theorem tyX11_ok : ∀ k, k < 3 → parseFieldDescriptor (TX11 k).2.2.1 = some (tyX11 k) := by decide +kernel
abbrev cX11_init : ByteArray := prog_4_method_1_code
def yX11_init : MethodName := ⟨RX11, "<init>", "(LTableArms;I)V"⟩
def dkwX11_init_0 : List UInt8 := [42, 43, 181, 0, 3, 42, 43, 28, 183, 0, 9, 177]
abbrev dktX11_init_0 : List UInt8 := dkwX11_init_0 ++ []
theorem dksX11_init_0 : cX11_init.data.toList.drop 0 = dktX11_init_0 := by decide +kernel
theorem dX11_init_0 : decode cX11_init 0 = .ok (.aload_n 0, 1) := dk_42 (dk_at dksX11_init_0 0 rfl rfl)
theorem dX11_init_1 : decode cX11_init 1 = .ok (.aload_n 1, 1) := dk_43 (dk_at dksX11_init_0 1 rfl rfl)
theorem dX11_init_2 : decode cX11_init 2 = .ok (.putfield 3, 3) := dk_181 0 3 (dk_at dksX11_init_0 2 rfl rfl)
theorem dX11_init_5 : decode cX11_init 5 = .ok (.aload_n 0, 1) := dk_42 (dk_at dksX11_init_0 5 rfl rfl)
theorem dX11_init_6 : decode cX11_init 6 = .ok (.aload_n 1, 1) := dk_43 (dk_at dksX11_init_0 6 rfl rfl)
theorem dX11_init_7 : decode cX11_init 7 = .ok (.iload_n 2, 1) := dk_28 (dk_at dksX11_init_0 7 rfl rfl)
theorem dX11_init_8 : decode cX11_init 8 = .ok (.invokespecial 9, 3) := dk_183 0 9 (dk_at dksX11_init_0 8 rfl rfl)
theorem dX11_init_11 : decode cX11_init 11 = .ok (.return_, 1) := dk_177 (dk_at dksX11_init_0 11 rfl rfl)
abbrev cX11_kind : ByteArray := prog_4_method_2_code
def yX11_kind : MethodName := ⟨RX11, "kind", "()I"⟩
theorem dX11_kind_0 : decode cX11_kind 0 = .ok (.iconst 1, 1) := by decide +kernel
theorem dX11_kind_1 : decode cX11_kind 1 = .ok (.ireturn, 1) := by decide +kernel
abbrev cX11_size : ByteArray := prog_4_method_3_code
def yX11_size : MethodName := ⟨RX11, "size", "(LTableArms$Trail;)I"⟩
def dkwX11_size_0 : List UInt8 := [43, 16, 11, 182, 0, 15, 42, 43, 183, 0, 21, 42, 43, 182, 0, 25, 96, 172]
abbrev dktX11_size_0 : List UInt8 := dkwX11_size_0 ++ []
theorem dksX11_size_0 : cX11_size.data.toList.drop 0 = dktX11_size_0 := by decide +kernel
theorem dX11_size_0 : decode cX11_size 0 = .ok (.aload_n 1, 1) := dk_43 (dk_at dksX11_size_0 0 rfl rfl)
theorem dX11_size_1 : decode cX11_size 1 = .ok (.bipush 11, 2) := dk_16 11 (dk_at dksX11_size_0 1 rfl rfl)
theorem dX11_size_3 : decode cX11_size 3 = .ok (.invokevirtual 15, 3) := dk_182 0 15 (dk_at dksX11_size_0 3 rfl rfl)
theorem dX11_size_6 : decode cX11_size 6 = .ok (.aload_n 0, 1) := dk_42 (dk_at dksX11_size_0 6 rfl rfl)
theorem dX11_size_7 : decode cX11_size 7 = .ok (.aload_n 1, 1) := dk_43 (dk_at dksX11_size_0 7 rfl rfl)
theorem dX11_size_8 : decode cX11_size 8 = .ok (.invokespecial 21, 3) := dk_183 0 21 (dk_at dksX11_size_0 8 rfl rfl)
theorem dX11_size_11 : decode cX11_size 11 = .ok (.aload_n 0, 1) := dk_42 (dk_at dksX11_size_0 11 rfl rfl)
theorem dX11_size_12 : decode cX11_size 12 = .ok (.aload_n 1, 1) := dk_43 (dk_at dksX11_size_0 12 rfl rfl)
theorem dX11_size_13 : decode cX11_size 13 = .ok (.invokevirtual 25, 3) := dk_182 0 25 (dk_at dksX11_size_0 13 rfl rfl)
theorem dX11_size_16 : decode cX11_size 16 = .ok (.iadd, 1) := dk_96 (dk_at dksX11_size_0 16 rfl rfl)
theorem dX11_size_17 : decode cX11_size 17 = .ok (.ireturn, 1) := dk_172 (dk_at dksX11_size_0 17 rfl rfl)
abbrev cX11_mark : ByteArray := prog_4_method_4_code
def yX11_mark : MethodName := ⟨RX11, "mark", "(LTableArms$Trail;)I"⟩
def dkwX11_mark_1 : List UInt8 := [182, 0, 37, 153, 0, 8, 16, 100, 167, 0, 4, 3, 96, 172]
abbrev dktX11_mark_1 : List UInt8 := dkwX11_mark_1 ++ []
def dkwX11_mark_0 : List UInt8 := [43, 16, 21, 182, 0, 15, 42, 43, 183, 0, 28, 42, 180, 0, 3, 180, 0, 29, 42, 182, 0, 33]
abbrev dktX11_mark_0 : List UInt8 := dkwX11_mark_0 ++ dktX11_mark_1
theorem dksX11_mark_0 : cX11_mark.data.toList.drop 0 = dktX11_mark_0 := by decide +kernel
theorem dksX11_mark_1 : cX11_mark.data.toList.drop 22 = dktX11_mark_1 := dk_seg dksX11_mark_0 22 rfl rfl
theorem dX11_mark_0 : decode cX11_mark 0 = .ok (.aload_n 1, 1) := dk_43 (dk_at dksX11_mark_0 0 rfl rfl)
theorem dX11_mark_1 : decode cX11_mark 1 = .ok (.bipush 21, 2) := dk_16 21 (dk_at dksX11_mark_0 1 rfl rfl)
theorem dX11_mark_3 : decode cX11_mark 3 = .ok (.invokevirtual 15, 3) := dk_182 0 15 (dk_at dksX11_mark_0 3 rfl rfl)
theorem dX11_mark_6 : decode cX11_mark 6 = .ok (.aload_n 0, 1) := dk_42 (dk_at dksX11_mark_0 6 rfl rfl)
theorem dX11_mark_7 : decode cX11_mark 7 = .ok (.aload_n 1, 1) := dk_43 (dk_at dksX11_mark_0 7 rfl rfl)
theorem dX11_mark_8 : decode cX11_mark 8 = .ok (.invokespecial 28, 3) := dk_183 0 28 (dk_at dksX11_mark_0 8 rfl rfl)
theorem dX11_mark_11 : decode cX11_mark 11 = .ok (.aload_n 0, 1) := dk_42 (dk_at dksX11_mark_0 11 rfl rfl)
theorem dX11_mark_12 : decode cX11_mark 12 = .ok (.getfield 3, 3) := dk_180 0 3 (dk_at dksX11_mark_0 12 rfl rfl)
theorem dX11_mark_15 : decode cX11_mark 15 = .ok (.getfield 29, 3) := dk_180 0 29 (dk_at dksX11_mark_0 15 rfl rfl)
theorem dX11_mark_18 : decode cX11_mark 18 = .ok (.aload_n 0, 1) := dk_42 (dk_at dksX11_mark_0 18 rfl rfl)
theorem dX11_mark_19 : decode cX11_mark 19 = .ok (.invokevirtual 33, 3) := dk_182 0 33 (dk_at dksX11_mark_0 19 rfl rfl)
theorem dX11_mark_22 : decode cX11_mark 22 = .ok (.invokevirtual 37, 3) := dk_182 0 37 (dk_at dksX11_mark_1 0 rfl rfl)
theorem dX11_mark_25 : decode cX11_mark 25 = .ok (.ifCond .eq 8, 3) := dk_153 0 8 (dk_at dksX11_mark_1 3 rfl rfl)
theorem dX11_mark_28 : decode cX11_mark 28 = .ok (.bipush 100, 2) := dk_16 100 (dk_at dksX11_mark_1 6 rfl rfl)
theorem dX11_mark_30 : decode cX11_mark 30 = .ok (.goto 4, 3) := dk_167 0 4 (dk_at dksX11_mark_1 8 rfl rfl)
theorem dX11_mark_33 : decode cX11_mark 33 = .ok (.iconst 0, 1) := dk_3 (dk_at dksX11_mark_1 11 rfl rfl)
theorem dX11_mark_34 : decode cX11_mark 34 = .ok (.iadd, 1) := dk_96 (dk_at dksX11_mark_1 12 rfl rfl)
theorem dX11_mark_35 : decode cX11_mark 35 = .ok (.ireturn, 1) := dk_172 (dk_at dksX11_mark_1 13 rfl rfl)
theorem q121 : (Jvm.Cond.initialized "TableArms$AsCup") ∈ lw_all := lw_g (lw_at lw_m1 32 rfl) rfl
theorem q218 : (Jvm.Cond.fieldLinkNest "TableArms$AsCup" (29 : Nat) "TableArms" "table" "LTableArms$Table;" "TableArms") ∈ lw_tbl := lw_at lw_m1 129 rfl
theorem q687 : (Jvm.Cond.selects "TableArms$AsCup" ({ cls := "java/lang/Object", name := "getClass", desc := "()Ljava/lang/Class;" } : Jvm.MethodName) ({ cls := "java/lang/Object", name := "getClass", desc := "()Ljava/lang/Class;" } : Jvm.MethodName)) ∈ lw_all := lw_g (lw_at lw_m3 118 rfl) rfl
theorem q1176 : (Jvm.Cond.instantiable "TableArms$AsCup" (3 : Nat)) ∈ lw_all := lw_g (lw_at lw_m5 127 rfl) rfl
theorem q1178 : (Jvm.Cond.instanceMethod ({ cls := "TableArms$AsCup", name := "<init>", desc := "(LTableArms;I)V" } : Jvm.MethodName)) ∈ lw_all := lw_g (lw_at lw_m5 129 rfl) rfl
theorem q1179 : (Jvm.Cond.code ({ cls := "TableArms$AsCup", name := "<init>", desc := "(LTableArms;I)V" } : Jvm.MethodName) prog_4_method_1_code (3 : Nat) (Option.none : Option Jvm.ClassFile.FieldType)) ∈ lw_all := lw_g (lw_at lw_m5 130 rfl) rfl
theorem q1180 : (Jvm.Cond.methodLink "TableArms$AsCup" (9 : Nat) ({ cls := "TableArms$AsThing", name := "<init>", desc := "(LTableArms;I)V" } : Jvm.MethodName)) ∈ lw_all := lw_g (lw_at lw_m5 131 rfl) rfl
theorem q1184 : (Jvm.Cond.fieldLink "TableArms$AsCup" (3 : Nat) "TableArms$AsCup" "this$0" "LTableArms;") ∈ lw_all := lw_g (lw_at lw_m5 135 rfl) rfl
theorem q1187 : (Jvm.Cond.laysFinal "TableArms$AsCup" "TableArms$AsCup" "this$0" "LTableArms;") ∈ lw_all := lw_g (lw_at lw_m5 138 rfl) rfl
theorem q1188 : (Jvm.Cond.soleField "TableArms$AsCup" "this$0") ∈ lw_all := lw_g (lw_at lw_m5 139 rfl) rfl
theorem q1189 : (Jvm.Cond.laysFinal "TableArms$AsCup" "TableArms$AsThing" "number" "I") ∈ lw_all := lw_g (lw_at lw_m5 140 rfl) rfl
theorem q1191 : (Jvm.Cond.laysFinal "TableArms$AsCup" "TableArms$AsThing" "this$0" "LTableArms;") ∈ lw_all := lw_g (lw_at lw_m5 142 rfl) rfl
theorem q1193 : (Jvm.Cond.superclass "TableArms$AsCup" "TableArms$AsThing") ∈ lw_all := lw_g (lw_at lw_m5 144 rfl) rfl
theorem q1256 : (Jvm.Cond.selects "TableArms$AsCup" ({ cls := "TableArms$AsThing", name := "kind", desc := "()I" } : Jvm.MethodName) ({ cls := "TableArms$AsCup", name := "kind", desc := "()I" } : Jvm.MethodName)) ∈ lw_all := lw_g (lw_at lw_m5 207 rfl) rfl
theorem q1257 : (Jvm.Cond.instanceMethod ({ cls := "TableArms$AsCup", name := "kind", desc := "()I" } : Jvm.MethodName)) ∈ lw_all := lw_g (lw_at lw_m5 208 rfl) rfl
theorem q1258 : (Jvm.Cond.code ({ cls := "TableArms$AsCup", name := "kind", desc := "()I" } : Jvm.MethodName) prog_4_method_2_code (1 : Nat) (Option.some Jvm.ClassFile.FieldType.int)) ∈ lw_all := lw_g (lw_at lw_m5 209 rfl) rfl
theorem q1290 : (Jvm.Cond.selects "TableArms$AsCup" ({ cls := "TableArms$AsThing", name := "number", desc := "()I" } : Jvm.MethodName) ({ cls := "TableArms$AsThing", name := "number", desc := "()I" } : Jvm.MethodName)) ∈ lw_all := lw_g (lw_at lw_m6 1 rfl) rfl
theorem q1318 : (Jvm.Cond.selects "TableArms$AsCup" ({ cls := "TableArms$AsThing", name := "size", desc := "(LTableArms$Trail;)I" } : Jvm.MethodName) ({ cls := "TableArms$AsCup", name := "size", desc := "(LTableArms$Trail;)I" } : Jvm.MethodName)) ∈ lw_all := lw_g (lw_at lw_m6 29 rfl) rfl
theorem q1319 : (Jvm.Cond.instanceMethod ({ cls := "TableArms$AsCup", name := "size", desc := "(LTableArms$Trail;)I" } : Jvm.MethodName)) ∈ lw_all := lw_g (lw_at lw_m6 30 rfl) rfl
theorem q1320 : (Jvm.Cond.code ({ cls := "TableArms$AsCup", name := "size", desc := "(LTableArms$Trail;)I" } : Jvm.MethodName) prog_4_method_3_code (2 : Nat) (Option.some Jvm.ClassFile.FieldType.int)) ∈ lw_all := lw_g (lw_at lw_m6 31 rfl) rfl
theorem q1321 : (Jvm.Cond.methodLink "TableArms$AsCup" (15 : Nat) ({ cls := "TableArms$Trail", name := "begins", desc := "(I)V" } : Jvm.MethodName)) ∈ lw_all := lw_g (lw_at lw_m6 32 rfl) rfl
theorem q1322 : (Jvm.Cond.methodLink "TableArms$AsCup" (21 : Nat) ({ cls := "TableArms$AsThing", name := "size", desc := "(LTableArms$Trail;)I" } : Jvm.MethodName)) ∈ lw_all := lw_g (lw_at lw_m6 33 rfl) rfl
theorem q1323 : (Jvm.Cond.methodLink "TableArms$AsCup" (25 : Nat) ({ cls := "TableArms$AsCup", name := "mark", desc := "(LTableArms$Trail;)I" } : Jvm.MethodName)) ∈ lw_all := lw_g (lw_at lw_m6 34 rfl) rfl
theorem q1324 : (Jvm.Cond.instanceMethod ({ cls := "TableArms$AsCup", name := "mark", desc := "(LTableArms$Trail;)I" } : Jvm.MethodName)) ∈ lw_all := lw_g (lw_at lw_m6 35 rfl) rfl
theorem q1325 : (Jvm.Cond.selects "TableArms$AsCup" ({ cls := "TableArms$AsCup", name := "mark", desc := "(LTableArms$Trail;)I" } : Jvm.MethodName) ({ cls := "TableArms$AsCup", name := "mark", desc := "(LTableArms$Trail;)I" } : Jvm.MethodName)) ∈ lw_all := lw_g (lw_at lw_m6 36 rfl) rfl
theorem q1326 : (Jvm.Cond.code ({ cls := "TableArms$AsCup", name := "mark", desc := "(LTableArms$Trail;)I" } : Jvm.MethodName) prog_4_method_4_code (2 : Nat) (Option.some Jvm.ClassFile.FieldType.int)) ∈ lw_all := lw_g (lw_at lw_m6 37 rfl) rfl
theorem q1343 : (Jvm.Cond.castable "TableArms$AsCup" "TableArms$Marked") ∈ lw_tbl := lw_at lw_m6 54 rfl
theorem q1344 : (Jvm.Cond.selects "TableArms$AsCup" ({ cls := "TableArms$Marked", name := "number", desc := "()I" } : Jvm.MethodName) ({ cls := "TableArms$AsThing", name := "number", desc := "()I" } : Jvm.MethodName)) ∈ lw_all := lw_g (lw_at lw_m6 55 rfl) rfl
theorem q1345 : (Jvm.Cond.unhidden "TableArms$AsCup" "number" "()I") ∈ lw_tbl := lw_at lw_m6 56 rfl
theorem q1352 : (Jvm.Cond.methodLink "TableArms$AsCup" (33 : Nat) ({ cls := "TableArms$AsCup", name := "number", desc := "()I" } : Jvm.MethodName)) ∈ lw_all := lw_g (lw_at lw_m6 63 rfl) rfl
theorem q1353 : (Jvm.Cond.sameMethod "TableArms$AsCup" "TableArms$AsThing" "number" "()I") ∈ lw_all := lw_g (lw_at lw_m6 64 rfl) rfl
theorem q1354 : (Jvm.Cond.selects "TableArms$AsCup" ({ cls := "TableArms$AsCup", name := "number", desc := "()I" } : Jvm.MethodName) ({ cls := "TableArms$AsThing", name := "number", desc := "()I" } : Jvm.MethodName)) ∈ lw_all := lw_g (lw_at lw_m6 65 rfl) rfl
theorem q1355 : (Jvm.Cond.methodLink "TableArms$AsCup" (37 : Nat) ({ cls := "TableArms$Table", name := "isClear", desc := "(I)Z" } : Jvm.MethodName)) ∈ lw_all := lw_g (lw_at lw_m6 66 rfl) rfl
theorem q1376 : (Jvm.Cond.selects "TableArms$AsCup" ({ cls := "TableArms$Marked", name := "mark", desc := "(LTableArms$Trail;)I" } : Jvm.MethodName) ({ cls := "TableArms$AsCup", name := "mark", desc := "(LTableArms$Trail;)I" } : Jvm.MethodName)) ∈ lw_all := lw_g (lw_at lw_m6 87 rfl) rfl
theorem q1917 : (Jvm.Cond.castable "TableArms$AsCup" "java/lang/Object") ∈ lw_tbl := lw_at lw_m8 148 rfl
theorem in_X11 : ∀ w ∈ wsX110, w ∈ lw_all := lw_in wsX110 [1189, 1191, 1187] (by decide +kernel) (by decide +kernel)
/-! TableArms$AsCloth -/
set_option maxRecDepth 100000
def RX12 : String := "TableArms$AsCloth"
def TX12 : u_T := fun k => match k with
  | 0 => ("TableArms$AsThing", "number", "I", true)
  | 1 => ("TableArms$AsThing", "this$0", "LTableArms;", true)
  | _ => ("TableArms$AsCloth", "this$0", "LTableArms;", true)
def tyX12 : Nat → FieldType := fun k => match k with
  | 0 => .int
  | 1 => .object "TableArms"
  | _ => .object "TableArms"
abbrev wsX120 : List Cond := u_ws RX12 TX12 3
-- two fields of one name: no nmX12
theorem tyX12_ok : ∀ k, k < 3 → parseFieldDescriptor (TX12 k).2.2.1 = some (tyX12 k) := by decide +kernel
abbrev cX12_init : ByteArray := prog_3_method_1_code
def yX12_init : MethodName := ⟨RX12, "<init>", "(LTableArms;I)V"⟩
def dkwX12_init_0 : List UInt8 := [42, 43, 181, 0, 3, 42, 43, 28, 183, 0, 9, 177]
abbrev dktX12_init_0 : List UInt8 := dkwX12_init_0 ++ []
theorem dksX12_init_0 : cX12_init.data.toList.drop 0 = dktX12_init_0 := by decide +kernel
theorem dX12_init_0 : decode cX12_init 0 = .ok (.aload_n 0, 1) := dk_42 (dk_at dksX12_init_0 0 rfl rfl)
theorem dX12_init_1 : decode cX12_init 1 = .ok (.aload_n 1, 1) := dk_43 (dk_at dksX12_init_0 1 rfl rfl)
theorem dX12_init_2 : decode cX12_init 2 = .ok (.putfield 3, 3) := dk_181 0 3 (dk_at dksX12_init_0 2 rfl rfl)
theorem dX12_init_5 : decode cX12_init 5 = .ok (.aload_n 0, 1) := dk_42 (dk_at dksX12_init_0 5 rfl rfl)
theorem dX12_init_6 : decode cX12_init 6 = .ok (.aload_n 1, 1) := dk_43 (dk_at dksX12_init_0 6 rfl rfl)
theorem dX12_init_7 : decode cX12_init 7 = .ok (.iload_n 2, 1) := dk_28 (dk_at dksX12_init_0 7 rfl rfl)
theorem dX12_init_8 : decode cX12_init 8 = .ok (.invokespecial 9, 3) := dk_183 0 9 (dk_at dksX12_init_0 8 rfl rfl)
theorem dX12_init_11 : decode cX12_init 11 = .ok (.return_, 1) := dk_177 (dk_at dksX12_init_0 11 rfl rfl)
abbrev cX12_kind : ByteArray := prog_3_method_2_code
def yX12_kind : MethodName := ⟨RX12, "kind", "()I"⟩
theorem dX12_kind_0 : decode cX12_kind 0 = .ok (.iconst 2, 1) := by decide +kernel
theorem dX12_kind_1 : decode cX12_kind 1 = .ok (.ireturn, 1) := by decide +kernel
abbrev cX12_mark : ByteArray := prog_3_method_3_code
def yX12_mark : MethodName := ⟨RX12, "mark", "(LTableArms$Trail;)I"⟩
def dkwX12_mark_0 : List UInt8 := [43, 16, 23, 182, 0, 15, 42, 43, 183, 0, 21, 17, 3, 232, 96, 172]
abbrev dktX12_mark_0 : List UInt8 := dkwX12_mark_0 ++ []
theorem dksX12_mark_0 : cX12_mark.data.toList.drop 0 = dktX12_mark_0 := by decide +kernel
theorem dX12_mark_0 : decode cX12_mark 0 = .ok (.aload_n 1, 1) := dk_43 (dk_at dksX12_mark_0 0 rfl rfl)
theorem dX12_mark_1 : decode cX12_mark 1 = .ok (.bipush 23, 2) := dk_16 23 (dk_at dksX12_mark_0 1 rfl rfl)
theorem dX12_mark_3 : decode cX12_mark 3 = .ok (.invokevirtual 15, 3) := dk_182 0 15 (dk_at dksX12_mark_0 3 rfl rfl)
theorem dX12_mark_6 : decode cX12_mark 6 = .ok (.aload_n 0, 1) := dk_42 (dk_at dksX12_mark_0 6 rfl rfl)
theorem dX12_mark_7 : decode cX12_mark 7 = .ok (.aload_n 1, 1) := dk_43 (dk_at dksX12_mark_0 7 rfl rfl)
theorem dX12_mark_8 : decode cX12_mark 8 = .ok (.invokespecial 21, 3) := dk_183 0 21 (dk_at dksX12_mark_0 8 rfl rfl)
theorem dX12_mark_11 : decode cX12_mark 11 = .ok (.sipush 1000, 3) := dk_17 3 232 (dk_at dksX12_mark_0 11 rfl rfl)
theorem dX12_mark_14 : decode cX12_mark 14 = .ok (.iadd, 1) := dk_96 (dk_at dksX12_mark_0 14 rfl rfl)
theorem dX12_mark_15 : decode cX12_mark 15 = .ok (.ireturn, 1) := dk_172 (dk_at dksX12_mark_0 15 rfl rfl)
theorem q122 : (Jvm.Cond.initialized "TableArms$AsCloth") ∈ lw_all := lw_g (lw_at lw_m1 33 rfl) rfl
theorem q686 : (Jvm.Cond.selects "TableArms$AsCloth" ({ cls := "java/lang/Object", name := "getClass", desc := "()Ljava/lang/Class;" } : Jvm.MethodName) ({ cls := "java/lang/Object", name := "getClass", desc := "()Ljava/lang/Class;" } : Jvm.MethodName)) ∈ lw_all := lw_g (lw_at lw_m3 117 rfl) rfl
theorem q1195 : (Jvm.Cond.instantiable "TableArms$AsCloth" (3 : Nat)) ∈ lw_all := lw_g (lw_at lw_m5 146 rfl) rfl
theorem q1197 : (Jvm.Cond.instanceMethod ({ cls := "TableArms$AsCloth", name := "<init>", desc := "(LTableArms;I)V" } : Jvm.MethodName)) ∈ lw_all := lw_g (lw_at lw_m5 148 rfl) rfl
theorem q1198 : (Jvm.Cond.code ({ cls := "TableArms$AsCloth", name := "<init>", desc := "(LTableArms;I)V" } : Jvm.MethodName) prog_3_method_1_code (3 : Nat) (Option.none : Option Jvm.ClassFile.FieldType)) ∈ lw_all := lw_g (lw_at lw_m5 149 rfl) rfl
theorem q1199 : (Jvm.Cond.methodLink "TableArms$AsCloth" (9 : Nat) ({ cls := "TableArms$AsThing", name := "<init>", desc := "(LTableArms;I)V" } : Jvm.MethodName)) ∈ lw_all := lw_g (lw_at lw_m5 150 rfl) rfl
theorem q1200 : (Jvm.Cond.fieldLink "TableArms$AsCloth" (3 : Nat) "TableArms$AsCloth" "this$0" "LTableArms;") ∈ lw_all := lw_g (lw_at lw_m5 151 rfl) rfl
theorem q1201 : (Jvm.Cond.laysFinal "TableArms$AsCloth" "TableArms$AsCloth" "this$0" "LTableArms;") ∈ lw_all := lw_g (lw_at lw_m5 152 rfl) rfl
theorem q1202 : (Jvm.Cond.soleField "TableArms$AsCloth" "this$0") ∈ lw_all := lw_g (lw_at lw_m5 153 rfl) rfl
theorem q1203 : (Jvm.Cond.laysFinal "TableArms$AsCloth" "TableArms$AsThing" "number" "I") ∈ lw_all := lw_g (lw_at lw_m5 154 rfl) rfl
theorem q1204 : (Jvm.Cond.laysFinal "TableArms$AsCloth" "TableArms$AsThing" "this$0" "LTableArms;") ∈ lw_all := lw_g (lw_at lw_m5 155 rfl) rfl
theorem q1205 : (Jvm.Cond.superclass "TableArms$AsCloth" "TableArms$AsThing") ∈ lw_all := lw_g (lw_at lw_m5 156 rfl) rfl
theorem q1253 : (Jvm.Cond.selects "TableArms$AsCloth" ({ cls := "TableArms$AsThing", name := "kind", desc := "()I" } : Jvm.MethodName) ({ cls := "TableArms$AsCloth", name := "kind", desc := "()I" } : Jvm.MethodName)) ∈ lw_all := lw_g (lw_at lw_m5 204 rfl) rfl
theorem q1254 : (Jvm.Cond.instanceMethod ({ cls := "TableArms$AsCloth", name := "kind", desc := "()I" } : Jvm.MethodName)) ∈ lw_all := lw_g (lw_at lw_m5 205 rfl) rfl
theorem q1255 : (Jvm.Cond.code ({ cls := "TableArms$AsCloth", name := "kind", desc := "()I" } : Jvm.MethodName) prog_3_method_2_code (1 : Nat) (Option.some Jvm.ClassFile.FieldType.int)) ∈ lw_all := lw_g (lw_at lw_m5 206 rfl) rfl
theorem q1289 : (Jvm.Cond.selects "TableArms$AsCloth" ({ cls := "TableArms$AsThing", name := "number", desc := "()I" } : Jvm.MethodName) ({ cls := "TableArms$AsThing", name := "number", desc := "()I" } : Jvm.MethodName)) ∈ lw_all := lw_g (lw_at lw_m6 0 rfl) rfl
theorem q1317 : (Jvm.Cond.selects "TableArms$AsCloth" ({ cls := "TableArms$AsThing", name := "size", desc := "(LTableArms$Trail;)I" } : Jvm.MethodName) ({ cls := "TableArms$AsThing", name := "size", desc := "(LTableArms$Trail;)I" } : Jvm.MethodName)) ∈ lw_all := lw_g (lw_at lw_m6 28 rfl) rfl
theorem q1340 : (Jvm.Cond.castable "TableArms$AsCloth" "TableArms$Marked") ∈ lw_tbl := lw_at lw_m6 51 rfl
theorem q1341 : (Jvm.Cond.selects "TableArms$AsCloth" ({ cls := "TableArms$Marked", name := "number", desc := "()I" } : Jvm.MethodName) ({ cls := "TableArms$AsThing", name := "number", desc := "()I" } : Jvm.MethodName)) ∈ lw_all := lw_g (lw_at lw_m6 52 rfl) rfl
theorem q1342 : (Jvm.Cond.unhidden "TableArms$AsCloth" "number" "()I") ∈ lw_tbl := lw_at lw_m6 53 rfl
theorem q1372 : (Jvm.Cond.selects "TableArms$AsCloth" ({ cls := "TableArms$Marked", name := "mark", desc := "(LTableArms$Trail;)I" } : Jvm.MethodName) ({ cls := "TableArms$AsCloth", name := "mark", desc := "(LTableArms$Trail;)I" } : Jvm.MethodName)) ∈ lw_all := lw_g (lw_at lw_m6 83 rfl) rfl
theorem q1373 : (Jvm.Cond.instanceMethod ({ cls := "TableArms$AsCloth", name := "mark", desc := "(LTableArms$Trail;)I" } : Jvm.MethodName)) ∈ lw_all := lw_g (lw_at lw_m6 84 rfl) rfl
theorem q1374 : (Jvm.Cond.code ({ cls := "TableArms$AsCloth", name := "mark", desc := "(LTableArms$Trail;)I" } : Jvm.MethodName) prog_3_method_3_code (2 : Nat) (Option.some Jvm.ClassFile.FieldType.int)) ∈ lw_all := lw_g (lw_at lw_m6 85 rfl) rfl
theorem q1375 : (Jvm.Cond.methodLink "TableArms$AsCloth" (15 : Nat) ({ cls := "TableArms$Trail", name := "begins", desc := "(I)V" } : Jvm.MethodName)) ∈ lw_all := lw_g (lw_at lw_m6 86 rfl) rfl
theorem q1918 : (Jvm.Cond.castable "TableArms$AsCloth" "java/lang/Object") ∈ lw_tbl := lw_at lw_m8 149 rfl
theorem in_X12 : ∀ w ∈ wsX120, w ∈ lw_all := lw_in wsX120 [1203, 1204, 1201] (by decide +kernel) (by decide +kernel)
/-! TableArms$AsBox -/
set_option maxRecDepth 100000
def RX13 : String := "TableArms$AsBox"
def TX13 : u_T := fun k => match k with
  | 0 => ("TableArms$AsThing", "number", "I", true)
  | 1 => ("TableArms$AsThing", "this$0", "LTableArms;", true)
  | _ => ("TableArms$AsBox", "this$0", "LTableArms;", true)
def tyX13 : Nat → FieldType := fun k => match k with
  | 0 => .int
  | 1 => .object "TableArms"
  | _ => .object "TableArms"
abbrev wsX130 : List Cond := u_ws RX13 TX13 3
-- two fields of one name: no nmX13
theorem tyX13_ok : ∀ k, k < 3 → parseFieldDescriptor (TX13 k).2.2.1 = some (tyX13 k) := by decide +kernel
abbrev cX13_init : ByteArray := prog_2_method_1_code
def yX13_init : MethodName := ⟨RX13, "<init>", "(LTableArms;I)V"⟩
def dkwX13_init_0 : List UInt8 := [42, 43, 181, 0, 3, 42, 43, 28, 183, 0, 9, 177]
abbrev dktX13_init_0 : List UInt8 := dkwX13_init_0 ++ []
theorem dksX13_init_0 : cX13_init.data.toList.drop 0 = dktX13_init_0 := by decide +kernel
theorem dX13_init_0 : decode cX13_init 0 = .ok (.aload_n 0, 1) := dk_42 (dk_at dksX13_init_0 0 rfl rfl)
theorem dX13_init_1 : decode cX13_init 1 = .ok (.aload_n 1, 1) := dk_43 (dk_at dksX13_init_0 1 rfl rfl)
theorem dX13_init_2 : decode cX13_init 2 = .ok (.putfield 3, 3) := dk_181 0 3 (dk_at dksX13_init_0 2 rfl rfl)
theorem dX13_init_5 : decode cX13_init 5 = .ok (.aload_n 0, 1) := dk_42 (dk_at dksX13_init_0 5 rfl rfl)
theorem dX13_init_6 : decode cX13_init 6 = .ok (.aload_n 1, 1) := dk_43 (dk_at dksX13_init_0 6 rfl rfl)
theorem dX13_init_7 : decode cX13_init 7 = .ok (.iload_n 2, 1) := dk_28 (dk_at dksX13_init_0 7 rfl rfl)
theorem dX13_init_8 : decode cX13_init 8 = .ok (.invokespecial 9, 3) := dk_183 0 9 (dk_at dksX13_init_0 8 rfl rfl)
theorem dX13_init_11 : decode cX13_init 11 = .ok (.return_, 1) := dk_177 (dk_at dksX13_init_0 11 rfl rfl)
abbrev cX13_kind : ByteArray := prog_2_method_2_code
def yX13_kind : MethodName := ⟨RX13, "kind", "()I"⟩
theorem dX13_kind_0 : decode cX13_kind 0 = .ok (.iconst 3, 1) := by decide +kernel
theorem dX13_kind_1 : decode cX13_kind 1 = .ok (.ireturn, 1) := by decide +kernel
abbrev cX13_size : ByteArray := prog_2_method_3_code
def yX13_size : MethodName := ⟨RX13, "size", "(LTableArms$Trail;)I"⟩
def dkwX13_size_2 : List UInt8 := [180, 0, 25, 180, 0, 29, 42, 182, 0, 35, 46, 46, 96, 172]
abbrev dktX13_size_2 : List UInt8 := dkwX13_size_2 ++ []
def dkwX13_size_1 : List UInt8 := [182, 0, 35, 46, 18, 39, 160, 0, 7, 3, 167, 0, 26, 42, 180, 0, 3, 180, 0, 40, 42, 180, 0, 3]
abbrev dktX13_size_1 : List UInt8 := dkwX13_size_1 ++ dktX13_size_2
def dkwX13_size_0 : List UInt8 := [43, 16, 12, 182, 0, 15, 42, 43, 183, 0, 21, 42, 180, 0, 3, 180, 0, 25, 180, 0, 29, 42]
abbrev dktX13_size_0 : List UInt8 := dkwX13_size_0 ++ dktX13_size_1
theorem dksX13_size_0 : cX13_size.data.toList.drop 0 = dktX13_size_0 := by decide +kernel
theorem dksX13_size_1 : cX13_size.data.toList.drop 22 = dktX13_size_1 := dk_seg dksX13_size_0 22 rfl rfl
theorem dksX13_size_2 : cX13_size.data.toList.drop 46 = dktX13_size_2 := dk_seg dksX13_size_1 24 rfl rfl
theorem dX13_size_0 : decode cX13_size 0 = .ok (.aload_n 1, 1) := dk_43 (dk_at dksX13_size_0 0 rfl rfl)
theorem dX13_size_1 : decode cX13_size 1 = .ok (.bipush 12, 2) := dk_16 12 (dk_at dksX13_size_0 1 rfl rfl)
theorem dX13_size_3 : decode cX13_size 3 = .ok (.invokevirtual 15, 3) := dk_182 0 15 (dk_at dksX13_size_0 3 rfl rfl)
theorem dX13_size_6 : decode cX13_size 6 = .ok (.aload_n 0, 1) := dk_42 (dk_at dksX13_size_0 6 rfl rfl)
theorem dX13_size_7 : decode cX13_size 7 = .ok (.aload_n 1, 1) := dk_43 (dk_at dksX13_size_0 7 rfl rfl)
theorem dX13_size_8 : decode cX13_size 8 = .ok (.invokespecial 21, 3) := dk_183 0 21 (dk_at dksX13_size_0 8 rfl rfl)
theorem dX13_size_11 : decode cX13_size 11 = .ok (.aload_n 0, 1) := dk_42 (dk_at dksX13_size_0 11 rfl rfl)
theorem dX13_size_12 : decode cX13_size 12 = .ok (.getfield 3, 3) := dk_180 0 3 (dk_at dksX13_size_0 12 rfl rfl)
theorem dX13_size_15 : decode cX13_size 15 = .ok (.getfield 25, 3) := dk_180 0 25 (dk_at dksX13_size_0 15 rfl rfl)
theorem dX13_size_18 : decode cX13_size 18 = .ok (.getfield 29, 3) := dk_180 0 29 (dk_at dksX13_size_0 18 rfl rfl)
theorem dX13_size_21 : decode cX13_size 21 = .ok (.aload_n 0, 1) := dk_42 (dk_at dksX13_size_0 21 rfl rfl)
theorem dX13_size_22 : decode cX13_size 22 = .ok (.invokevirtual 35, 3) := dk_182 0 35 (dk_at dksX13_size_1 0 rfl rfl)
theorem dX13_size_25 : decode cX13_size 25 = .ok (.iaload, 1) := dk_46 (dk_at dksX13_size_1 3 rfl rfl)
theorem dX13_size_26 : decode cX13_size 26 = .ok (.ldc 39, 2) := dk_18 39 (dk_at dksX13_size_1 4 rfl rfl)
theorem dX13_size_28 : decode cX13_size 28 = .ok (.if_icmp .ne 7, 3) := dk_160 0 7 (dk_at dksX13_size_1 6 rfl rfl)
theorem dX13_size_31 : decode cX13_size 31 = .ok (.iconst 0, 1) := dk_3 (dk_at dksX13_size_1 9 rfl rfl)
theorem dX13_size_32 : decode cX13_size 32 = .ok (.goto 26, 3) := dk_167 0 26 (dk_at dksX13_size_1 10 rfl rfl)
theorem dX13_size_35 : decode cX13_size 35 = .ok (.aload_n 0, 1) := dk_42 (dk_at dksX13_size_1 13 rfl rfl)
theorem dX13_size_36 : decode cX13_size 36 = .ok (.getfield 3, 3) := dk_180 0 3 (dk_at dksX13_size_1 14 rfl rfl)
theorem dX13_size_39 : decode cX13_size 39 = .ok (.getfield 40, 3) := dk_180 0 40 (dk_at dksX13_size_1 17 rfl rfl)
theorem dX13_size_42 : decode cX13_size 42 = .ok (.aload_n 0, 1) := dk_42 (dk_at dksX13_size_1 20 rfl rfl)
theorem dX13_size_43 : decode cX13_size 43 = .ok (.getfield 3, 3) := dk_180 0 3 (dk_at dksX13_size_1 21 rfl rfl)
theorem dX13_size_46 : decode cX13_size 46 = .ok (.getfield 25, 3) := dk_180 0 25 (dk_at dksX13_size_2 0 rfl rfl)
theorem dX13_size_49 : decode cX13_size 49 = .ok (.getfield 29, 3) := dk_180 0 29 (dk_at dksX13_size_2 3 rfl rfl)
theorem dX13_size_52 : decode cX13_size 52 = .ok (.aload_n 0, 1) := dk_42 (dk_at dksX13_size_2 6 rfl rfl)
theorem dX13_size_53 : decode cX13_size 53 = .ok (.invokevirtual 35, 3) := dk_182 0 35 (dk_at dksX13_size_2 7 rfl rfl)
theorem dX13_size_56 : decode cX13_size 56 = .ok (.iaload, 1) := dk_46 (dk_at dksX13_size_2 10 rfl rfl)
theorem dX13_size_57 : decode cX13_size 57 = .ok (.iaload, 1) := dk_46 (dk_at dksX13_size_2 11 rfl rfl)
theorem dX13_size_58 : decode cX13_size 58 = .ok (.iadd, 1) := dk_96 (dk_at dksX13_size_2 12 rfl rfl)
theorem dX13_size_59 : decode cX13_size 59 = .ok (.ireturn, 1) := dk_172 (dk_at dksX13_size_2 13 rfl rfl)
theorem q123 : (Jvm.Cond.initialized "TableArms$AsBox") ∈ lw_all := lw_g (lw_at lw_m1 34 rfl) rfl
theorem q152 : (Jvm.Cond.fieldLinkNest "TableArms$AsBox" (29 : Nat) "TableArms$Table" "holds" "[I" "TableArms") ∈ lw_tbl := lw_at lw_m1 63 rfl
theorem q212 : (Jvm.Cond.fieldLinkNest "TableArms$AsBox" (40 : Nat) "TableArms" "weights" "[I" "TableArms") ∈ lw_tbl := lw_at lw_m1 123 rfl
theorem q216 : (Jvm.Cond.fieldLinkNest "TableArms$AsBox" (25 : Nat) "TableArms" "table" "LTableArms$Table;" "TableArms") ∈ lw_tbl := lw_at lw_m1 127 rfl
theorem q685 : (Jvm.Cond.selects "TableArms$AsBox" ({ cls := "java/lang/Object", name := "getClass", desc := "()Ljava/lang/Class;" } : Jvm.MethodName) ({ cls := "java/lang/Object", name := "getClass", desc := "()Ljava/lang/Class;" } : Jvm.MethodName)) ∈ lw_all := lw_g (lw_at lw_m3 116 rfl) rfl
theorem q1216 : (Jvm.Cond.instanceMethod ({ cls := "TableArms$AsBox", name := "<init>", desc := "(LTableArms;I)V" } : Jvm.MethodName)) ∈ lw_all := lw_g (lw_at lw_m5 167 rfl) rfl
theorem q1217 : (Jvm.Cond.code ({ cls := "TableArms$AsBox", name := "<init>", desc := "(LTableArms;I)V" } : Jvm.MethodName) prog_2_method_1_code (3 : Nat) (Option.none : Option Jvm.ClassFile.FieldType)) ∈ lw_all := lw_g (lw_at lw_m5 168 rfl) rfl
theorem q1218 : (Jvm.Cond.methodLink "TableArms$AsBox" (9 : Nat) ({ cls := "TableArms$AsThing", name := "<init>", desc := "(LTableArms;I)V" } : Jvm.MethodName)) ∈ lw_all := lw_g (lw_at lw_m5 169 rfl) rfl
theorem q1220 : (Jvm.Cond.fieldLink "TableArms$AsBox" (3 : Nat) "TableArms$AsBox" "this$0" "LTableArms;") ∈ lw_all := lw_g (lw_at lw_m5 171 rfl) rfl
theorem q1224 : (Jvm.Cond.soleField "TableArms$AsBox" "this$0") ∈ lw_all := lw_g (lw_at lw_m5 175 rfl) rfl
theorem q1229 : (Jvm.Cond.instantiable "TableArms$AsBox" (3 : Nat)) ∈ lw_all := lw_g (lw_at lw_m5 180 rfl) rfl
theorem q1231 : (Jvm.Cond.laysFinal "TableArms$AsBox" "TableArms$AsBox" "this$0" "LTableArms;") ∈ lw_all := lw_g (lw_at lw_m5 182 rfl) rfl
theorem q1232 : (Jvm.Cond.laysFinal "TableArms$AsBox" "TableArms$AsThing" "number" "I") ∈ lw_all := lw_g (lw_at lw_m5 183 rfl) rfl
theorem q1233 : (Jvm.Cond.laysFinal "TableArms$AsBox" "TableArms$AsThing" "this$0" "LTableArms;") ∈ lw_all := lw_g (lw_at lw_m5 184 rfl) rfl
theorem q1234 : (Jvm.Cond.superclass "TableArms$AsBox" "TableArms$AsThing") ∈ lw_all := lw_g (lw_at lw_m5 185 rfl) rfl
theorem q1250 : (Jvm.Cond.selects "TableArms$AsBox" ({ cls := "TableArms$AsThing", name := "kind", desc := "()I" } : Jvm.MethodName) ({ cls := "TableArms$AsBox", name := "kind", desc := "()I" } : Jvm.MethodName)) ∈ lw_all := lw_g (lw_at lw_m5 201 rfl) rfl
theorem q1251 : (Jvm.Cond.instanceMethod ({ cls := "TableArms$AsBox", name := "kind", desc := "()I" } : Jvm.MethodName)) ∈ lw_all := lw_g (lw_at lw_m5 202 rfl) rfl
theorem q1252 : (Jvm.Cond.code ({ cls := "TableArms$AsBox", name := "kind", desc := "()I" } : Jvm.MethodName) prog_2_method_2_code (1 : Nat) (Option.some Jvm.ClassFile.FieldType.int)) ∈ lw_all := lw_g (lw_at lw_m5 203 rfl) rfl
theorem q1288 : (Jvm.Cond.selects "TableArms$AsBox" ({ cls := "TableArms$AsThing", name := "number", desc := "()I" } : Jvm.MethodName) ({ cls := "TableArms$AsThing", name := "number", desc := "()I" } : Jvm.MethodName)) ∈ lw_all := lw_g (lw_at lw_m5 239 rfl) rfl
theorem q1301 : (Jvm.Cond.selects "TableArms$AsBox" ({ cls := "TableArms$AsThing", name := "size", desc := "(LTableArms$Trail;)I" } : Jvm.MethodName) ({ cls := "TableArms$AsBox", name := "size", desc := "(LTableArms$Trail;)I" } : Jvm.MethodName)) ∈ lw_all := lw_g (lw_at lw_m6 12 rfl) rfl
theorem q1302 : (Jvm.Cond.instanceMethod ({ cls := "TableArms$AsBox", name := "size", desc := "(LTableArms$Trail;)I" } : Jvm.MethodName)) ∈ lw_all := lw_g (lw_at lw_m6 13 rfl) rfl
theorem q1303 : (Jvm.Cond.code ({ cls := "TableArms$AsBox", name := "size", desc := "(LTableArms$Trail;)I" } : Jvm.MethodName) prog_2_method_3_code (2 : Nat) (Option.some Jvm.ClassFile.FieldType.int)) ∈ lw_all := lw_g (lw_at lw_m6 14 rfl) rfl
theorem q1304 : (Jvm.Cond.methodLink "TableArms$AsBox" (15 : Nat) ({ cls := "TableArms$Trail", name := "begins", desc := "(I)V" } : Jvm.MethodName)) ∈ lw_all := lw_g (lw_at lw_m6 15 rfl) rfl
theorem q1308 : (Jvm.Cond.methodLink "TableArms$AsBox" (21 : Nat) ({ cls := "TableArms$AsThing", name := "size", desc := "(LTableArms$Trail;)I" } : Jvm.MethodName)) ∈ lw_all := lw_g (lw_at lw_m6 19 rfl) rfl
theorem q1311 : (Jvm.Cond.methodLink "TableArms$AsBox" (35 : Nat) ({ cls := "TableArms$AsBox", name := "number", desc := "()I" } : Jvm.MethodName)) ∈ lw_all := lw_g (lw_at lw_m6 22 rfl) rfl
theorem q1312 : (Jvm.Cond.sameMethod "TableArms$AsBox" "TableArms$AsThing" "number" "()I") ∈ lw_all := lw_g (lw_at lw_m6 23 rfl) rfl
theorem q1314 : (Jvm.Cond.selects "TableArms$AsBox" ({ cls := "TableArms$AsBox", name := "number", desc := "()I" } : Jvm.MethodName) ({ cls := "TableArms$AsThing", name := "number", desc := "()I" } : Jvm.MethodName)) ∈ lw_all := lw_g (lw_at lw_m6 25 rfl) rfl
theorem q1316 : (Jvm.Cond.constant "TableArms$AsBox" (39 : Nat) (-1000000 : Int32)) ∈ lw_all := lw_g (lw_at lw_m6 27 rfl) rfl
theorem q1336 : (Jvm.Cond.castable "TableArms$AsBox" "TableArms$Marked") ∈ lw_tbl := lw_at lw_m6 47 rfl
theorem q1337 : (Jvm.Cond.selects "TableArms$AsBox" ({ cls := "TableArms$Marked", name := "number", desc := "()I" } : Jvm.MethodName) ({ cls := "TableArms$AsThing", name := "number", desc := "()I" } : Jvm.MethodName)) ∈ lw_all := lw_g (lw_at lw_m6 48 rfl) rfl
theorem q1338 : (Jvm.Cond.unhidden "TableArms$AsBox" "number" "()I") ∈ lw_tbl := lw_at lw_m6 49 rfl
theorem q1371 : (Jvm.Cond.unhidden "TableArms$AsBox" "mark" "(LTableArms$Trail;)I") ∈ lw_tbl := lw_at lw_m6 82 rfl
theorem q1897 : (Jvm.Cond.sameMethod "TableArms$AsBox" "TableArms$AsBox" "size" "(LTableArms$Trail;)I") ∈ lw_all := lw_g (lw_at lw_m8 128 rfl) rfl
theorem q1920 : (Jvm.Cond.castable "TableArms$AsBox" "java/lang/Object") ∈ lw_tbl := lw_at lw_m8 151 rfl
theorem in_X13 : ∀ w ∈ wsX130, w ∈ lw_all := lw_in wsX130 [1232, 1233, 1231] (by decide +kernel) (by decide +kernel)
/-! TableArms$AsShut -/
set_option maxRecDepth 100000
def RX14 : String := "TableArms$AsShut"
def TX14 : u_T := fun k => match k with
  | 0 => ("TableArms$AsThing", "number", "I", true)
  | 1 => ("TableArms$AsThing", "this$0", "LTableArms;", true)
  | 2 => ("TableArms$AsBox", "this$0", "LTableArms;", true)
  | _ => ("TableArms$AsShut", "this$0", "LTableArms;", true)
def tyX14 : Nat → FieldType := fun k => match k with
  | 0 => .int
  | 1 => .object "TableArms"
  | 2 => .object "TableArms"
  | _ => .object "TableArms"
abbrev wsX140 : List Cond := u_ws RX14 TX14 4
-- two fields of one name: no nmX14
theorem tyX14_ok : ∀ k, k < 4 → parseFieldDescriptor (TX14 k).2.2.1 = some (tyX14 k) := by decide +kernel
abbrev cX14_init : ByteArray := prog_6_method_1_code
def yX14_init : MethodName := ⟨RX14, "<init>", "(LTableArms;I)V"⟩
def dkwX14_init_0 : List UInt8 := [42, 43, 181, 0, 3, 42, 43, 28, 183, 0, 9, 177]
abbrev dktX14_init_0 : List UInt8 := dkwX14_init_0 ++ []
theorem dksX14_init_0 : cX14_init.data.toList.drop 0 = dktX14_init_0 := by decide +kernel
theorem dX14_init_0 : decode cX14_init 0 = .ok (.aload_n 0, 1) := dk_42 (dk_at dksX14_init_0 0 rfl rfl)
theorem dX14_init_1 : decode cX14_init 1 = .ok (.aload_n 1, 1) := dk_43 (dk_at dksX14_init_0 1 rfl rfl)
theorem dX14_init_2 : decode cX14_init 2 = .ok (.putfield 3, 3) := dk_181 0 3 (dk_at dksX14_init_0 2 rfl rfl)
theorem dX14_init_5 : decode cX14_init 5 = .ok (.aload_n 0, 1) := dk_42 (dk_at dksX14_init_0 5 rfl rfl)
theorem dX14_init_6 : decode cX14_init 6 = .ok (.aload_n 1, 1) := dk_43 (dk_at dksX14_init_0 6 rfl rfl)
theorem dX14_init_7 : decode cX14_init 7 = .ok (.iload_n 2, 1) := dk_28 (dk_at dksX14_init_0 7 rfl rfl)
theorem dX14_init_8 : decode cX14_init 8 = .ok (.invokespecial 9, 3) := dk_183 0 9 (dk_at dksX14_init_0 8 rfl rfl)
theorem dX14_init_11 : decode cX14_init 11 = .ok (.return_, 1) := dk_177 (dk_at dksX14_init_0 11 rfl rfl)
abbrev cX14_kind : ByteArray := prog_6_method_2_code
def yX14_kind : MethodName := ⟨RX14, "kind", "()I"⟩
theorem dX14_kind_0 : decode cX14_kind 0 = .ok (.iconst 4, 1) := by decide +kernel
theorem dX14_kind_1 : decode cX14_kind 1 = .ok (.ireturn, 1) := by decide +kernel
abbrev cX14_size : ByteArray := prog_6_method_3_code
def yX14_size : MethodName := ⟨RX14, "size", "(LTableArms$Trail;)I"⟩
def dkwX14_size_0 : List UInt8 := [43, 16, 13, 182, 0, 15, 5, 42, 43, 183, 0, 21, 104, 172]
abbrev dktX14_size_0 : List UInt8 := dkwX14_size_0 ++ []
theorem dksX14_size_0 : cX14_size.data.toList.drop 0 = dktX14_size_0 := by decide +kernel
theorem dX14_size_0 : decode cX14_size 0 = .ok (.aload_n 1, 1) := dk_43 (dk_at dksX14_size_0 0 rfl rfl)
theorem dX14_size_1 : decode cX14_size 1 = .ok (.bipush 13, 2) := dk_16 13 (dk_at dksX14_size_0 1 rfl rfl)
theorem dX14_size_3 : decode cX14_size 3 = .ok (.invokevirtual 15, 3) := dk_182 0 15 (dk_at dksX14_size_0 3 rfl rfl)
theorem dX14_size_6 : decode cX14_size 6 = .ok (.iconst 2, 1) := dk_5 (dk_at dksX14_size_0 6 rfl rfl)
theorem dX14_size_7 : decode cX14_size 7 = .ok (.aload_n 0, 1) := dk_42 (dk_at dksX14_size_0 7 rfl rfl)
theorem dX14_size_8 : decode cX14_size 8 = .ok (.aload_n 1, 1) := dk_43 (dk_at dksX14_size_0 8 rfl rfl)
theorem dX14_size_9 : decode cX14_size 9 = .ok (.invokespecial 21, 3) := dk_183 0 21 (dk_at dksX14_size_0 9 rfl rfl)
theorem dX14_size_12 : decode cX14_size 12 = .ok (.imul, 1) := dk_104 (dk_at dksX14_size_0 12 rfl rfl)
theorem dX14_size_13 : decode cX14_size 13 = .ok (.ireturn, 1) := dk_172 (dk_at dksX14_size_0 13 rfl rfl)
abbrev cX14_mark : ByteArray := prog_6_method_4_code
def yX14_mark : MethodName := ⟨RX14, "mark", "(LTableArms$Trail;)I"⟩
def dkwX14_mark_0 : List UInt8 := [43, 16, 22, 182, 0, 15, 42, 43, 183, 0, 25, 42, 43, 182, 0, 28, 96, 172]
abbrev dktX14_mark_0 : List UInt8 := dkwX14_mark_0 ++ []
theorem dksX14_mark_0 : cX14_mark.data.toList.drop 0 = dktX14_mark_0 := by decide +kernel
theorem dX14_mark_0 : decode cX14_mark 0 = .ok (.aload_n 1, 1) := dk_43 (dk_at dksX14_mark_0 0 rfl rfl)
theorem dX14_mark_1 : decode cX14_mark 1 = .ok (.bipush 22, 2) := dk_16 22 (dk_at dksX14_mark_0 1 rfl rfl)
theorem dX14_mark_3 : decode cX14_mark 3 = .ok (.invokevirtual 15, 3) := dk_182 0 15 (dk_at dksX14_mark_0 3 rfl rfl)
theorem dX14_mark_6 : decode cX14_mark 6 = .ok (.aload_n 0, 1) := dk_42 (dk_at dksX14_mark_0 6 rfl rfl)
theorem dX14_mark_7 : decode cX14_mark 7 = .ok (.aload_n 1, 1) := dk_43 (dk_at dksX14_mark_0 7 rfl rfl)
theorem dX14_mark_8 : decode cX14_mark 8 = .ok (.invokespecial 25, 3) := dk_183 0 25 (dk_at dksX14_mark_0 8 rfl rfl)
theorem dX14_mark_11 : decode cX14_mark 11 = .ok (.aload_n 0, 1) := dk_42 (dk_at dksX14_mark_0 11 rfl rfl)
theorem dX14_mark_12 : decode cX14_mark 12 = .ok (.aload_n 1, 1) := dk_43 (dk_at dksX14_mark_0 12 rfl rfl)
theorem dX14_mark_13 : decode cX14_mark 13 = .ok (.invokevirtual 28, 3) := dk_182 0 28 (dk_at dksX14_mark_0 13 rfl rfl)
theorem dX14_mark_16 : decode cX14_mark 16 = .ok (.iadd, 1) := dk_96 (dk_at dksX14_mark_0 16 rfl rfl)
theorem dX14_mark_17 : decode cX14_mark 17 = .ok (.ireturn, 1) := dk_172 (dk_at dksX14_mark_0 17 rfl rfl)
theorem q124 : (Jvm.Cond.initialized "TableArms$AsShut") ∈ lw_all := lw_g (lw_at lw_m1 35 rfl) rfl
theorem q689 : (Jvm.Cond.selects "TableArms$AsShut" ({ cls := "java/lang/Object", name := "getClass", desc := "()Ljava/lang/Class;" } : Jvm.MethodName) ({ cls := "java/lang/Object", name := "getClass", desc := "()Ljava/lang/Class;" } : Jvm.MethodName)) ∈ lw_all := lw_g (lw_at lw_m3 120 rfl) rfl
theorem q1211 : (Jvm.Cond.instantiable "TableArms$AsShut" (4 : Nat)) ∈ lw_all := lw_g (lw_at lw_m5 162 rfl) rfl
theorem q1213 : (Jvm.Cond.instanceMethod ({ cls := "TableArms$AsShut", name := "<init>", desc := "(LTableArms;I)V" } : Jvm.MethodName)) ∈ lw_all := lw_g (lw_at lw_m5 164 rfl) rfl
theorem q1214 : (Jvm.Cond.code ({ cls := "TableArms$AsShut", name := "<init>", desc := "(LTableArms;I)V" } : Jvm.MethodName) prog_6_method_1_code (3 : Nat) (Option.none : Option Jvm.ClassFile.FieldType)) ∈ lw_all := lw_g (lw_at lw_m5 165 rfl) rfl
theorem q1215 : (Jvm.Cond.methodLink "TableArms$AsShut" (9 : Nat) ({ cls := "TableArms$AsBox", name := "<init>", desc := "(LTableArms;I)V" } : Jvm.MethodName)) ∈ lw_all := lw_g (lw_at lw_m5 166 rfl) rfl
theorem q1219 : (Jvm.Cond.fieldLink "TableArms$AsShut" (3 : Nat) "TableArms$AsShut" "this$0" "LTableArms;") ∈ lw_all := lw_g (lw_at lw_m5 170 rfl) rfl
theorem q1221 : (Jvm.Cond.laysFinal "TableArms$AsShut" "TableArms$AsShut" "this$0" "LTableArms;") ∈ lw_all := lw_g (lw_at lw_m5 172 rfl) rfl
theorem q1222 : (Jvm.Cond.soleField "TableArms$AsShut" "this$0") ∈ lw_all := lw_g (lw_at lw_m5 173 rfl) rfl
theorem q1223 : (Jvm.Cond.laysFinal "TableArms$AsShut" "TableArms$AsBox" "this$0" "LTableArms;") ∈ lw_all := lw_g (lw_at lw_m5 174 rfl) rfl
theorem q1225 : (Jvm.Cond.laysFinal "TableArms$AsShut" "TableArms$AsThing" "number" "I") ∈ lw_all := lw_g (lw_at lw_m5 176 rfl) rfl
theorem q1226 : (Jvm.Cond.laysFinal "TableArms$AsShut" "TableArms$AsThing" "this$0" "LTableArms;") ∈ lw_all := lw_g (lw_at lw_m5 177 rfl) rfl
theorem q1227 : (Jvm.Cond.superclass "TableArms$AsShut" "TableArms$AsBox") ∈ lw_all := lw_g (lw_at lw_m5 178 rfl) rfl
theorem q1262 : (Jvm.Cond.selects "TableArms$AsShut" ({ cls := "TableArms$AsThing", name := "kind", desc := "()I" } : Jvm.MethodName) ({ cls := "TableArms$AsShut", name := "kind", desc := "()I" } : Jvm.MethodName)) ∈ lw_all := lw_g (lw_at lw_m5 213 rfl) rfl
theorem q1263 : (Jvm.Cond.instanceMethod ({ cls := "TableArms$AsShut", name := "kind", desc := "()I" } : Jvm.MethodName)) ∈ lw_all := lw_g (lw_at lw_m5 214 rfl) rfl
theorem q1264 : (Jvm.Cond.code ({ cls := "TableArms$AsShut", name := "kind", desc := "()I" } : Jvm.MethodName) prog_6_method_2_code (1 : Nat) (Option.some Jvm.ClassFile.FieldType.int)) ∈ lw_all := lw_g (lw_at lw_m5 215 rfl) rfl
theorem q1292 : (Jvm.Cond.selects "TableArms$AsShut" ({ cls := "TableArms$AsThing", name := "number", desc := "()I" } : Jvm.MethodName) ({ cls := "TableArms$AsThing", name := "number", desc := "()I" } : Jvm.MethodName)) ∈ lw_all := lw_g (lw_at lw_m6 3 rfl) rfl
theorem q1315 : (Jvm.Cond.selects "TableArms$AsShut" ({ cls := "TableArms$AsBox", name := "number", desc := "()I" } : Jvm.MethodName) ({ cls := "TableArms$AsThing", name := "number", desc := "()I" } : Jvm.MethodName)) ∈ lw_all := lw_g (lw_at lw_m6 26 rfl) rfl
theorem q1349 : (Jvm.Cond.castable "TableArms$AsShut" "TableArms$Marked") ∈ lw_tbl := lw_at lw_m6 60 rfl
theorem q1350 : (Jvm.Cond.selects "TableArms$AsShut" ({ cls := "TableArms$Marked", name := "number", desc := "()I" } : Jvm.MethodName) ({ cls := "TableArms$AsThing", name := "number", desc := "()I" } : Jvm.MethodName)) ∈ lw_all := lw_g (lw_at lw_m6 61 rfl) rfl
theorem q1351 : (Jvm.Cond.unhidden "TableArms$AsShut" "number" "()I") ∈ lw_tbl := lw_at lw_m6 62 rfl
theorem q1366 : (Jvm.Cond.selects "TableArms$AsShut" ({ cls := "TableArms$AsThing", name := "size", desc := "(LTableArms$Trail;)I" } : Jvm.MethodName) ({ cls := "TableArms$AsShut", name := "size", desc := "(LTableArms$Trail;)I" } : Jvm.MethodName)) ∈ lw_all := lw_g (lw_at lw_m6 77 rfl) rfl
theorem q1367 : (Jvm.Cond.instanceMethod ({ cls := "TableArms$AsShut", name := "size", desc := "(LTableArms$Trail;)I" } : Jvm.MethodName)) ∈ lw_all := lw_g (lw_at lw_m6 78 rfl) rfl
theorem q1368 : (Jvm.Cond.code ({ cls := "TableArms$AsShut", name := "size", desc := "(LTableArms$Trail;)I" } : Jvm.MethodName) prog_6_method_3_code (2 : Nat) (Option.some Jvm.ClassFile.FieldType.int)) ∈ lw_all := lw_g (lw_at lw_m6 79 rfl) rfl
theorem q1369 : (Jvm.Cond.methodLink "TableArms$AsShut" (15 : Nat) ({ cls := "TableArms$Trail", name := "begins", desc := "(I)V" } : Jvm.MethodName)) ∈ lw_all := lw_g (lw_at lw_m6 80 rfl) rfl
theorem q1370 : (Jvm.Cond.methodLink "TableArms$AsShut" (21 : Nat) ({ cls := "TableArms$AsBox", name := "size", desc := "(LTableArms$Trail;)I" } : Jvm.MethodName)) ∈ lw_all := lw_g (lw_at lw_m6 81 rfl) rfl
theorem q1378 : (Jvm.Cond.selects "TableArms$AsShut" ({ cls := "TableArms$Marked", name := "mark", desc := "(LTableArms$Trail;)I" } : Jvm.MethodName) ({ cls := "TableArms$AsShut", name := "mark", desc := "(LTableArms$Trail;)I" } : Jvm.MethodName)) ∈ lw_all := lw_g (lw_at lw_m6 89 rfl) rfl
theorem q1379 : (Jvm.Cond.instanceMethod ({ cls := "TableArms$AsShut", name := "mark", desc := "(LTableArms$Trail;)I" } : Jvm.MethodName)) ∈ lw_all := lw_g (lw_at lw_m6 90 rfl) rfl
theorem q1380 : (Jvm.Cond.code ({ cls := "TableArms$AsShut", name := "mark", desc := "(LTableArms$Trail;)I" } : Jvm.MethodName) prog_6_method_4_code (2 : Nat) (Option.some Jvm.ClassFile.FieldType.int)) ∈ lw_all := lw_g (lw_at lw_m6 91 rfl) rfl
theorem q1381 : (Jvm.Cond.methodLink "TableArms$AsShut" (28 : Nat) ({ cls := "TableArms$AsShut", name := "size", desc := "(LTableArms$Trail;)I" } : Jvm.MethodName)) ∈ lw_all := lw_g (lw_at lw_m6 92 rfl) rfl
theorem q1898 : (Jvm.Cond.selects "TableArms$AsShut" ({ cls := "TableArms$AsShut", name := "size", desc := "(LTableArms$Trail;)I" } : Jvm.MethodName) ({ cls := "TableArms$AsShut", name := "size", desc := "(LTableArms$Trail;)I" } : Jvm.MethodName)) ∈ lw_all := lw_g (lw_at lw_m8 129 rfl) rfl
theorem q1902 : (Jvm.Cond.castable "TableArms$AsShut" "TableArms$AsBox") ∈ lw_tbl := lw_at lw_m8 133 rfl
theorem q1919 : (Jvm.Cond.castable "TableArms$AsShut" "java/lang/Object") ∈ lw_tbl := lw_at lw_m8 150 rfl
theorem in_X14 : ∀ w ∈ wsX140, w ∈ lw_all := lw_in wsX140 [1225, 1226, 1223, 1221] (by decide +kernel) (by decide +kernel)
/-! TableArms$AsLid -/
set_option maxRecDepth 100000
def RX15 : String := "TableArms$AsLid"
def TX15 : u_T := fun k => match k with
  | 0 => ("TableArms$AsThing", "number", "I", true)
  | 1 => ("TableArms$AsThing", "this$0", "LTableArms;", true)
  | _ => ("TableArms$AsLid", "this$0", "LTableArms;", true)
def tyX15 : Nat → FieldType := fun k => match k with
  | 0 => .int
  | 1 => .object "TableArms"
  | _ => .object "TableArms"
abbrev wsX150 : List Cond := u_ws RX15 TX15 3
-- two fields of one name: no nmX15
theorem tyX15_ok : ∀ k, k < 3 → parseFieldDescriptor (TX15 k).2.2.1 = some (tyX15 k) := by decide +kernel
abbrev cX15_init : ByteArray := prog_5_method_1_code
def yX15_init : MethodName := ⟨RX15, "<init>", "(LTableArms;I)V"⟩
def dkwX15_init_0 : List UInt8 := [42, 43, 181, 0, 3, 42, 43, 28, 183, 0, 9, 177]
abbrev dktX15_init_0 : List UInt8 := dkwX15_init_0 ++ []
theorem dksX15_init_0 : cX15_init.data.toList.drop 0 = dktX15_init_0 := by decide +kernel
theorem dX15_init_0 : decode cX15_init 0 = .ok (.aload_n 0, 1) := dk_42 (dk_at dksX15_init_0 0 rfl rfl)
theorem dX15_init_1 : decode cX15_init 1 = .ok (.aload_n 1, 1) := dk_43 (dk_at dksX15_init_0 1 rfl rfl)
theorem dX15_init_2 : decode cX15_init 2 = .ok (.putfield 3, 3) := dk_181 0 3 (dk_at dksX15_init_0 2 rfl rfl)
theorem dX15_init_5 : decode cX15_init 5 = .ok (.aload_n 0, 1) := dk_42 (dk_at dksX15_init_0 5 rfl rfl)
theorem dX15_init_6 : decode cX15_init 6 = .ok (.aload_n 1, 1) := dk_43 (dk_at dksX15_init_0 6 rfl rfl)
theorem dX15_init_7 : decode cX15_init 7 = .ok (.iload_n 2, 1) := dk_28 (dk_at dksX15_init_0 7 rfl rfl)
theorem dX15_init_8 : decode cX15_init 8 = .ok (.invokespecial 9, 3) := dk_183 0 9 (dk_at dksX15_init_0 8 rfl rfl)
theorem dX15_init_11 : decode cX15_init 11 = .ok (.return_, 1) := dk_177 (dk_at dksX15_init_0 11 rfl rfl)
abbrev cX15_kind : ByteArray := prog_5_method_2_code
def yX15_kind : MethodName := ⟨RX15, "kind", "()I"⟩
theorem dX15_kind_0 : decode cX15_kind 0 = .ok (.iconst 5, 1) := by decide +kernel
theorem dX15_kind_1 : decode cX15_kind 1 = .ok (.ireturn, 1) := by decide +kernel
abbrev cX15_size : ByteArray := prog_5_method_3_code
def yX15_size : MethodName := ⟨RX15, "size", "(LTableArms$Trail;)I"⟩
def dkwX15_size_2 : List UInt8 := [167, 0, 4, 3, 96, 172]
abbrev dktX15_size_2 : List UInt8 := dkwX15_size_2 ++ []
def dkwX15_size_1 : List UInt8 := [182, 0, 35, 46, 18, 39, 160, 0, 20, 42, 180, 0, 3, 180, 0, 25, 42, 182, 0, 35, 182, 0, 40]
abbrev dktX15_size_1 : List UInt8 := dkwX15_size_1 ++ dktX15_size_2
def dkwX15_size_0 : List UInt8 := [43, 16, 14, 182, 0, 15, 42, 43, 183, 0, 21, 42, 180, 0, 3, 180, 0, 25, 180, 0, 29, 42]
abbrev dktX15_size_0 : List UInt8 := dkwX15_size_0 ++ dktX15_size_1
theorem dksX15_size_0 : cX15_size.data.toList.drop 0 = dktX15_size_0 := by decide +kernel
theorem dksX15_size_1 : cX15_size.data.toList.drop 22 = dktX15_size_1 := dk_seg dksX15_size_0 22 rfl rfl
theorem dksX15_size_2 : cX15_size.data.toList.drop 45 = dktX15_size_2 := dk_seg dksX15_size_1 23 rfl rfl
theorem dX15_size_0 : decode cX15_size 0 = .ok (.aload_n 1, 1) := dk_43 (dk_at dksX15_size_0 0 rfl rfl)
theorem dX15_size_1 : decode cX15_size 1 = .ok (.bipush 14, 2) := dk_16 14 (dk_at dksX15_size_0 1 rfl rfl)
theorem dX15_size_3 : decode cX15_size 3 = .ok (.invokevirtual 15, 3) := dk_182 0 15 (dk_at dksX15_size_0 3 rfl rfl)
theorem dX15_size_6 : decode cX15_size 6 = .ok (.aload_n 0, 1) := dk_42 (dk_at dksX15_size_0 6 rfl rfl)
theorem dX15_size_7 : decode cX15_size 7 = .ok (.aload_n 1, 1) := dk_43 (dk_at dksX15_size_0 7 rfl rfl)
theorem dX15_size_8 : decode cX15_size 8 = .ok (.invokespecial 21, 3) := dk_183 0 21 (dk_at dksX15_size_0 8 rfl rfl)
theorem dX15_size_11 : decode cX15_size 11 = .ok (.aload_n 0, 1) := dk_42 (dk_at dksX15_size_0 11 rfl rfl)
theorem dX15_size_12 : decode cX15_size 12 = .ok (.getfield 3, 3) := dk_180 0 3 (dk_at dksX15_size_0 12 rfl rfl)
theorem dX15_size_15 : decode cX15_size 15 = .ok (.getfield 25, 3) := dk_180 0 25 (dk_at dksX15_size_0 15 rfl rfl)
theorem dX15_size_18 : decode cX15_size 18 = .ok (.getfield 29, 3) := dk_180 0 29 (dk_at dksX15_size_0 18 rfl rfl)
theorem dX15_size_21 : decode cX15_size 21 = .ok (.aload_n 0, 1) := dk_42 (dk_at dksX15_size_0 21 rfl rfl)
theorem dX15_size_22 : decode cX15_size 22 = .ok (.invokevirtual 35, 3) := dk_182 0 35 (dk_at dksX15_size_1 0 rfl rfl)
theorem dX15_size_25 : decode cX15_size 25 = .ok (.iaload, 1) := dk_46 (dk_at dksX15_size_1 3 rfl rfl)
theorem dX15_size_26 : decode cX15_size 26 = .ok (.ldc 39, 2) := dk_18 39 (dk_at dksX15_size_1 4 rfl rfl)
theorem dX15_size_28 : decode cX15_size 28 = .ok (.if_icmp .ne 20, 3) := dk_160 0 20 (dk_at dksX15_size_1 6 rfl rfl)
theorem dX15_size_31 : decode cX15_size 31 = .ok (.aload_n 0, 1) := dk_42 (dk_at dksX15_size_1 9 rfl rfl)
theorem dX15_size_32 : decode cX15_size 32 = .ok (.getfield 3, 3) := dk_180 0 3 (dk_at dksX15_size_1 10 rfl rfl)
theorem dX15_size_35 : decode cX15_size 35 = .ok (.getfield 25, 3) := dk_180 0 25 (dk_at dksX15_size_1 13 rfl rfl)
theorem dX15_size_38 : decode cX15_size 38 = .ok (.aload_n 0, 1) := dk_42 (dk_at dksX15_size_1 16 rfl rfl)
theorem dX15_size_39 : decode cX15_size 39 = .ok (.invokevirtual 35, 3) := dk_182 0 35 (dk_at dksX15_size_1 17 rfl rfl)
theorem dX15_size_42 : decode cX15_size 42 = .ok (.invokevirtual 40, 3) := dk_182 0 40 (dk_at dksX15_size_1 20 rfl rfl)
theorem dX15_size_45 : decode cX15_size 45 = .ok (.goto 4, 3) := dk_167 0 4 (dk_at dksX15_size_2 0 rfl rfl)
theorem dX15_size_48 : decode cX15_size 48 = .ok (.iconst 0, 1) := dk_3 (dk_at dksX15_size_2 3 rfl rfl)
theorem dX15_size_49 : decode cX15_size 49 = .ok (.iadd, 1) := dk_96 (dk_at dksX15_size_2 4 rfl rfl)
theorem dX15_size_50 : decode cX15_size 50 = .ok (.ireturn, 1) := dk_172 (dk_at dksX15_size_2 5 rfl rfl)
theorem q125 : (Jvm.Cond.initialized "TableArms$AsLid") ∈ lw_all := lw_g (lw_at lw_m1 36 rfl) rfl
theorem q149 : (Jvm.Cond.fieldLinkNest "TableArms$AsLid" (29 : Nat) "TableArms$Table" "box" "[I" "TableArms") ∈ lw_tbl := lw_at lw_m1 60 rfl
theorem q217 : (Jvm.Cond.fieldLinkNest "TableArms$AsLid" (25 : Nat) "TableArms" "table" "LTableArms$Table;" "TableArms") ∈ lw_tbl := lw_at lw_m1 128 rfl
theorem q688 : (Jvm.Cond.selects "TableArms$AsLid" ({ cls := "java/lang/Object", name := "getClass", desc := "()Ljava/lang/Class;" } : Jvm.MethodName) ({ cls := "java/lang/Object", name := "getClass", desc := "()Ljava/lang/Class;" } : Jvm.MethodName)) ∈ lw_all := lw_g (lw_at lw_m3 119 rfl) rfl
theorem q1236 : (Jvm.Cond.instantiable "TableArms$AsLid" (3 : Nat)) ∈ lw_all := lw_g (lw_at lw_m5 187 rfl) rfl
theorem q1238 : (Jvm.Cond.instanceMethod ({ cls := "TableArms$AsLid", name := "<init>", desc := "(LTableArms;I)V" } : Jvm.MethodName)) ∈ lw_all := lw_g (lw_at lw_m5 189 rfl) rfl
theorem q1239 : (Jvm.Cond.code ({ cls := "TableArms$AsLid", name := "<init>", desc := "(LTableArms;I)V" } : Jvm.MethodName) prog_5_method_1_code (3 : Nat) (Option.none : Option Jvm.ClassFile.FieldType)) ∈ lw_all := lw_g (lw_at lw_m5 190 rfl) rfl
theorem q1240 : (Jvm.Cond.methodLink "TableArms$AsLid" (9 : Nat) ({ cls := "TableArms$AsThing", name := "<init>", desc := "(LTableArms;I)V" } : Jvm.MethodName)) ∈ lw_all := lw_g (lw_at lw_m5 191 rfl) rfl
theorem q1241 : (Jvm.Cond.fieldLink "TableArms$AsLid" (3 : Nat) "TableArms$AsLid" "this$0" "LTableArms;") ∈ lw_all := lw_g (lw_at lw_m5 192 rfl) rfl
theorem q1242 : (Jvm.Cond.laysFinal "TableArms$AsLid" "TableArms$AsLid" "this$0" "LTableArms;") ∈ lw_all := lw_g (lw_at lw_m5 193 rfl) rfl
theorem q1243 : (Jvm.Cond.soleField "TableArms$AsLid" "this$0") ∈ lw_all := lw_g (lw_at lw_m5 194 rfl) rfl
theorem q1244 : (Jvm.Cond.laysFinal "TableArms$AsLid" "TableArms$AsThing" "number" "I") ∈ lw_all := lw_g (lw_at lw_m5 195 rfl) rfl
theorem q1245 : (Jvm.Cond.laysFinal "TableArms$AsLid" "TableArms$AsThing" "this$0" "LTableArms;") ∈ lw_all := lw_g (lw_at lw_m5 196 rfl) rfl
theorem q1246 : (Jvm.Cond.superclass "TableArms$AsLid" "TableArms$AsThing") ∈ lw_all := lw_g (lw_at lw_m5 197 rfl) rfl
theorem q1259 : (Jvm.Cond.selects "TableArms$AsLid" ({ cls := "TableArms$AsThing", name := "kind", desc := "()I" } : Jvm.MethodName) ({ cls := "TableArms$AsLid", name := "kind", desc := "()I" } : Jvm.MethodName)) ∈ lw_all := lw_g (lw_at lw_m5 210 rfl) rfl
theorem q1260 : (Jvm.Cond.instanceMethod ({ cls := "TableArms$AsLid", name := "kind", desc := "()I" } : Jvm.MethodName)) ∈ lw_all := lw_g (lw_at lw_m5 211 rfl) rfl
theorem q1261 : (Jvm.Cond.code ({ cls := "TableArms$AsLid", name := "kind", desc := "()I" } : Jvm.MethodName) prog_5_method_2_code (1 : Nat) (Option.some Jvm.ClassFile.FieldType.int)) ∈ lw_all := lw_g (lw_at lw_m5 212 rfl) rfl
theorem q1291 : (Jvm.Cond.selects "TableArms$AsLid" ({ cls := "TableArms$AsThing", name := "number", desc := "()I" } : Jvm.MethodName) ({ cls := "TableArms$AsThing", name := "number", desc := "()I" } : Jvm.MethodName)) ∈ lw_all := lw_g (lw_at lw_m6 2 rfl) rfl
theorem q1346 : (Jvm.Cond.castable "TableArms$AsLid" "TableArms$Marked") ∈ lw_tbl := lw_at lw_m6 57 rfl
theorem q1347 : (Jvm.Cond.selects "TableArms$AsLid" ({ cls := "TableArms$Marked", name := "number", desc := "()I" } : Jvm.MethodName) ({ cls := "TableArms$AsThing", name := "number", desc := "()I" } : Jvm.MethodName)) ∈ lw_all := lw_g (lw_at lw_m6 58 rfl) rfl
theorem q1348 : (Jvm.Cond.unhidden "TableArms$AsLid" "number" "()I") ∈ lw_tbl := lw_at lw_m6 59 rfl
theorem q1356 : (Jvm.Cond.selects "TableArms$AsLid" ({ cls := "TableArms$AsThing", name := "size", desc := "(LTableArms$Trail;)I" } : Jvm.MethodName) ({ cls := "TableArms$AsLid", name := "size", desc := "(LTableArms$Trail;)I" } : Jvm.MethodName)) ∈ lw_all := lw_g (lw_at lw_m6 67 rfl) rfl
theorem q1357 : (Jvm.Cond.instanceMethod ({ cls := "TableArms$AsLid", name := "size", desc := "(LTableArms$Trail;)I" } : Jvm.MethodName)) ∈ lw_all := lw_g (lw_at lw_m6 68 rfl) rfl
theorem q1358 : (Jvm.Cond.code ({ cls := "TableArms$AsLid", name := "size", desc := "(LTableArms$Trail;)I" } : Jvm.MethodName) prog_5_method_3_code (2 : Nat) (Option.some Jvm.ClassFile.FieldType.int)) ∈ lw_all := lw_g (lw_at lw_m6 69 rfl) rfl
theorem q1359 : (Jvm.Cond.methodLink "TableArms$AsLid" (15 : Nat) ({ cls := "TableArms$Trail", name := "begins", desc := "(I)V" } : Jvm.MethodName)) ∈ lw_all := lw_g (lw_at lw_m6 70 rfl) rfl
theorem q1360 : (Jvm.Cond.methodLink "TableArms$AsLid" (21 : Nat) ({ cls := "TableArms$AsThing", name := "size", desc := "(LTableArms$Trail;)I" } : Jvm.MethodName)) ∈ lw_all := lw_g (lw_at lw_m6 71 rfl) rfl
theorem q1361 : (Jvm.Cond.methodLink "TableArms$AsLid" (35 : Nat) ({ cls := "TableArms$AsLid", name := "number", desc := "()I" } : Jvm.MethodName)) ∈ lw_all := lw_g (lw_at lw_m6 72 rfl) rfl
theorem q1362 : (Jvm.Cond.sameMethod "TableArms$AsLid" "TableArms$AsThing" "number" "()I") ∈ lw_all := lw_g (lw_at lw_m6 73 rfl) rfl
theorem q1363 : (Jvm.Cond.selects "TableArms$AsLid" ({ cls := "TableArms$AsLid", name := "number", desc := "()I" } : Jvm.MethodName) ({ cls := "TableArms$AsThing", name := "number", desc := "()I" } : Jvm.MethodName)) ∈ lw_all := lw_g (lw_at lw_m6 74 rfl) rfl
theorem q1364 : (Jvm.Cond.constant "TableArms$AsLid" (39 : Nat) (-1000000 : Int32)) ∈ lw_all := lw_g (lw_at lw_m6 75 rfl) rfl
theorem q1365 : (Jvm.Cond.methodLink "TableArms$AsLid" (40 : Nat) ({ cls := "TableArms$Table", name := "below", desc := "(I)I" } : Jvm.MethodName)) ∈ lw_all := lw_g (lw_at lw_m6 76 rfl) rfl
theorem q1377 : (Jvm.Cond.unhidden "TableArms$AsLid" "mark" "(LTableArms$Trail;)I") ∈ lw_tbl := lw_at lw_m6 88 rfl
theorem q1921 : (Jvm.Cond.castable "TableArms$AsLid" "java/lang/Object") ∈ lw_tbl := lw_at lw_m8 152 rfl
theorem in_X15 : ∀ w ∈ wsX150, w ∈ lw_all := lw_in wsX150 [1244, 1245, 1242] (by decide +kernel) (by decide +kernel)
/-! TableArms$Marked -/
set_option maxRecDepth 100000
def RX16 : String := "TableArms$Marked"
abbrev cX16_mark : ByteArray := prog_11_method_3_code
def yX16_mark : MethodName := ⟨RX16, "mark", "(LTableArms$Trail;)I"⟩
def dkwX16_mark_0 : List UInt8 := [43, 16, 20, 182, 0, 1, 42, 185, 0, 7, 1, 0, 172]
abbrev dktX16_mark_0 : List UInt8 := dkwX16_mark_0 ++ []
theorem dksX16_mark_0 : cX16_mark.data.toList.drop 0 = dktX16_mark_0 := by decide +kernel
theorem dX16_mark_0 : decode cX16_mark 0 = .ok (.aload_n 1, 1) := dk_43 (dk_at dksX16_mark_0 0 rfl rfl)
theorem dX16_mark_1 : decode cX16_mark 1 = .ok (.bipush 20, 2) := dk_16 20 (dk_at dksX16_mark_0 1 rfl rfl)
theorem dX16_mark_3 : decode cX16_mark 3 = .ok (.invokevirtual 1, 3) := dk_182 0 1 (dk_at dksX16_mark_0 3 rfl rfl)
theorem dX16_mark_6 : decode cX16_mark 6 = .ok (.aload_n 0, 1) := dk_42 (dk_at dksX16_mark_0 6 rfl rfl)
theorem dX16_mark_7 : decode cX16_mark 7 = .ok (.invokeinterface 7 1, 5) := by decide +kernel
theorem dX16_mark_12 : decode cX16_mark 12 = .ok (.ireturn, 1) := dk_172 (dk_at dksX16_mark_0 12 rfl rfl)
theorem q1328 : (Jvm.Cond.declares ({ cls := "TableArms$Marked", name := "mark", desc := "(LTableArms$Trail;)I" } : Jvm.MethodName)) ∈ lw_tbl := lw_at lw_m6 39 rfl
theorem q1329 : (Jvm.Cond.instanceMethod ({ cls := "TableArms$Marked", name := "mark", desc := "(LTableArms$Trail;)I" } : Jvm.MethodName)) ∈ lw_all := lw_g (lw_at lw_m6 40 rfl) rfl
theorem q1330 : (Jvm.Cond.code ({ cls := "TableArms$Marked", name := "mark", desc := "(LTableArms$Trail;)I" } : Jvm.MethodName) prog_11_method_3_code (2 : Nat) (Option.some Jvm.ClassFile.FieldType.int)) ∈ lw_all := lw_g (lw_at lw_m6 41 rfl) rfl
theorem q1331 : (Jvm.Cond.methodLink "TableArms$Marked" (1 : Nat) ({ cls := "TableArms$Trail", name := "begins", desc := "(I)V" } : Jvm.MethodName)) ∈ lw_all := lw_g (lw_at lw_m6 42 rfl) rfl
theorem q1332 : (Jvm.Cond.interfaceEntry "TableArms$Marked" (7 : Nat)) ∈ lw_tbl := lw_at lw_m6 43 rfl
theorem q1333 : (Jvm.Cond.methodLink "TableArms$Marked" (7 : Nat) ({ cls := "TableArms$Marked", name := "number", desc := "()I" } : Jvm.MethodName)) ∈ lw_all := lw_g (lw_at lw_m6 44 rfl) rfl
theorem q1334 : (Jvm.Cond.interfaceMethod "TableArms$Marked" "TableArms$Marked" "number" "()I") ∈ lw_tbl := lw_at lw_m6 45 rfl
theorem q1335 : (Jvm.Cond.declares ({ cls := "TableArms$Marked", name := "number", desc := "()I" } : Jvm.MethodName)) ∈ lw_tbl := lw_at lw_m6 46 rfl
theorem q1382 : (Jvm.Cond.publicMethod ({ cls := "TableArms$Marked", name := "mark", desc := "(LTableArms$Trail;)I" } : Jvm.MethodName)) ∈ lw_tbl := lw_at lw_m6 93 rfl
theorem q1900 : (Jvm.Cond.initialized "TableArms$Marked") ∈ lw_all := lw_g (lw_at lw_m8 131 rfl) rfl
