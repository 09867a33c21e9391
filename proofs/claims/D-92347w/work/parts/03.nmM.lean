/-! TableArmsModel -/
set_option maxRecDepth 100000
def RX3 : String := "TableArmsModel"
def TX3 : u_T := fun k => match k with
  | 0 => ("TableArmsModel", "thrown", "I", false)
  | 1 => ("TableArmsModel", "status", "I", false)
  | 2 => ("TableArmsModel", "table", "[I", true)
  | 3 => ("TableArmsModel", "things", "I", false)
  | 4 => ("TableArmsModel", "sort", "[I", true)
  | 5 => ("TableArmsModel", "weight", "[I", true)
  | 6 => ("TableArmsModel", "kept", "I", false)
  | 7 => ("TableArmsModel", "reaches", "[I", true)
  | 8 => ("TableArmsModel", "lessons", "I", false)
  | 9 => ("TableArmsModel", "start", "[I", true)
  | 10 => ("TableArmsModel", "end", "[I", true)
  | 11 => ("TableArmsModel", "isNo", "[Z", true)
  | 12 => ("TableArmsModel", "teacher", "[I", true)
  | 13 => ("TableArmsModel", "isTaken", "[Z", true)
  | 14 => ("TableArmsModel", "lane", "[I", true)
  | 15 => ("TableArmsModel", "many", "[I", true)
  | 16 => ("TableArmsModel", "item", "[I", true)
  | 17 => ("TableArmsModel", "nevers", "I", false)
  | 18 => ("TableArmsModel", "never", "[I", true)
  | 19 => ("TableArmsModel", "newNevers", "I", false)
  | 20 => ("TableArmsModel", "tape", "[I", true)
  | 21 => ("TableArmsModel", "taped", "I", false)
  | 22 => ("TableArmsModel", "latest", "I", false)
  | 23 => ("TableArmsModel", "length", "I", false)
  | 24 => ("TableArmsModel", "cursor", "I", false)
  | 25 => ("TableArmsModel", "token", "I", false)
  | 26 => ("TableArmsModel", "from", "I", false)
  | 27 => ("TableArmsModel", "till", "I", false)
  | 28 => ("TableArmsModel", "fault", "I", false)
  | 29 => ("TableArmsModel", "faultAt", "I", false)
  | 30 => ("TableArmsModel", "isReached", "[Z", true)
  | 31 => ("TableArmsModel", "isNew", "[Z", true)
  | 32 => ("TableArmsModel", "trace", "[I", true)
  | _ => ("TableArmsModel", "traced", "I", false)
def tyX3 : Nat → FieldType := fun k => match k with
  | 0 => .int
  | 1 => .int
  | 2 => .array .int
  | 3 => .int
  | 4 => .array .int
  | 5 => .array .int
  | 6 => .int
  | 7 => .array .int
  | 8 => .int
  | 9 => .array .int
  | 10 => .array .int
  | 11 => .array .boolean
  | 12 => .array .int
  | 13 => .array .boolean
  | 14 => .array .int
  | 15 => .array .int
  | 16 => .array .int
  | 17 => .int
  | 18 => .array .int
  | 19 => .int
  | 20 => .array .int
  | 21 => .int
  | 22 => .int
  | 23 => .int
  | 24 => .int
  | 25 => .int
  | 26 => .int
  | 27 => .int
  | 28 => .int
  | 29 => .int
  | 30 => .array .boolean
  | 31 => .array .boolean
  | 32 => .array .int
  | _ => .int
abbrev wsX30 : List Cond := u_ws RX3 TX3 34
set_option maxRecDepth 100000 in
theorem nmX3 : ∀ a, a < 34 → ∀ b, b < 34 → a ≠ b → (TX3 a).2.1 ≠ (TX3 b).2.1 := by decide +kernel
set_option maxRecDepth 100000 in
theorem tyX3_ok : ∀ k, k < 34 → parseFieldDescriptor (TX3 k).2.2.1 = some (tyX3 k) := by decide +kernel
abbrev cX3_init : ByteArray := prog_18_method_4_code
def yX3_init : MethodName := ⟨RX3, "<init>", "()V"⟩
def dkwX3_init_9 : List UInt8 := [112, 16, 7, 112, 154, 0, 7, 3, 167, 0, 4, 2, 79, 132, 1, 1, 167, 255, 216, 177]
abbrev dktX3_init_9 : List UInt8 := dkwX3_init_9 ++ []
def dkwX3_init_8 : List UInt8 := [27, 17, 26, 40, 162, 0, 39, 42, 180, 0, 17, 27, 27, 16, 62, 112, 16, 56, 162, 0, 17, 27, 16, 62]
abbrev dktX3_init_8 : List UInt8 := dkwX3_init_8 ++ dktX3_init_9
def dkwX3_init_7 : List UInt8 := [188, 4, 181, 0, 61, 42, 17, 0, 144, 188, 4, 181, 0, 64, 42, 16, 16, 188, 10, 181, 0, 67, 3, 60]
abbrev dktX3_init_7 : List UInt8 := dkwX3_init_7 ++ dktX3_init_8
def dkwX3_init_6 : List UInt8 := [181, 0, 52, 42, 16, 48, 188, 10, 181, 0, 55, 42, 17, 1, 44, 188, 10, 181, 0, 58, 42, 17, 0, 144]
abbrev dktX3_init_6 : List UInt8 := dkwX3_init_6 ++ dktX3_init_7
def dkwX3_init_5 : List UInt8 := [2, 79, 89, 16, 7, 2, 79, 181, 0, 46, 42, 16, 8, 188, 10, 181, 0, 49, 42, 17, 1, 64, 188, 10]
abbrev dktX3_init_5 : List UInt8 := dkwX3_init_5 ++ dktX3_init_6
def dkwX3_init_4 : List UInt8 := [79, 89, 4, 2, 79, 89, 5, 2, 79, 89, 6, 2, 79, 89, 7, 2, 79, 89, 8, 2, 79, 89, 16, 6]
abbrev dktX3_init_4 : List UInt8 := dkwX3_init_4 ++ dktX3_init_5
def dkwX3_init_3 : List UInt8 := [42, 16, 8, 188, 10, 181, 0, 40, 42, 16, 8, 188, 4, 181, 0, 43, 42, 16, 8, 188, 10, 89, 3, 2]
abbrev dktX3_init_3 : List UInt8 := dkwX3_init_3 ++ dktX3_init_4
def dkwX3_init_2 : List UInt8 := [42, 16, 8, 188, 10, 181, 0, 30, 42, 16, 8, 188, 10, 181, 0, 33, 42, 16, 8, 188, 4, 181, 0, 36]
abbrev dktX3_init_2 : List UInt8 := dkwX3_init_2 ++ dktX3_init_3
def dkwX3_init_1 : List UInt8 := [188, 10, 181, 0, 24, 42, 5, 188, 10, 89, 3, 17, 0, 255, 79, 89, 4, 17, 0, 255, 79, 181, 0, 27]
abbrev dktX3_init_1 : List UInt8 := dkwX3_init_1 ++ dktX3_init_2
def dkwX3_init_0 : List UInt8 := [42, 183, 0, 11, 42, 17, 26, 40, 188, 10, 181, 0, 17, 42, 16, 6, 188, 10, 181, 0, 21, 42, 16, 6]
abbrev dktX3_init_0 : List UInt8 := dkwX3_init_0 ++ dktX3_init_1
theorem dksX3_init_0 : cX3_init.data.toList.drop 0 = dktX3_init_0 := by decide +kernel
theorem dksX3_init_1 : cX3_init.data.toList.drop 24 = dktX3_init_1 := dk_seg dksX3_init_0 24 rfl rfl
theorem dksX3_init_2 : cX3_init.data.toList.drop 48 = dktX3_init_2 := dk_seg dksX3_init_1 24 rfl rfl
theorem dksX3_init_3 : cX3_init.data.toList.drop 72 = dktX3_init_3 := dk_seg dksX3_init_2 24 rfl rfl
theorem dksX3_init_4 : cX3_init.data.toList.drop 96 = dktX3_init_4 := dk_seg dksX3_init_3 24 rfl rfl
theorem dksX3_init_5 : cX3_init.data.toList.drop 120 = dktX3_init_5 := dk_seg dksX3_init_4 24 rfl rfl
theorem dksX3_init_6 : cX3_init.data.toList.drop 144 = dktX3_init_6 := dk_seg dksX3_init_5 24 rfl rfl
theorem dksX3_init_7 : cX3_init.data.toList.drop 168 = dktX3_init_7 := dk_seg dksX3_init_6 24 rfl rfl
theorem dksX3_init_8 : cX3_init.data.toList.drop 192 = dktX3_init_8 := dk_seg dksX3_init_7 24 rfl rfl
theorem dksX3_init_9 : cX3_init.data.toList.drop 216 = dktX3_init_9 := dk_seg dksX3_init_8 24 rfl rfl
theorem dX3_init_0 : decode cX3_init 0 = .ok (.aload_n 0, 1) := dk_42 (dk_at dksX3_init_0 0 rfl rfl)
theorem dX3_init_1 : decode cX3_init 1 = .ok (.invokespecial 11, 3) := dk_183 0 11 (dk_at dksX3_init_0 1 rfl rfl)
theorem dX3_init_4 : decode cX3_init 4 = .ok (.aload_n 0, 1) := dk_42 (dk_at dksX3_init_0 4 rfl rfl)
theorem dX3_init_5 : decode cX3_init 5 = .ok (.sipush 6696, 3) := dk_17 26 40 (dk_at dksX3_init_0 5 rfl rfl)
theorem dX3_init_8 : decode cX3_init 8 = .ok (.newarray .int, 2) := dk_188_10 (dk_at dksX3_init_0 8 rfl rfl)
theorem dX3_init_10 : decode cX3_init 10 = .ok (.putfield 17, 3) := dk_181 0 17 (dk_at dksX3_init_0 10 rfl rfl)
theorem dX3_init_13 : decode cX3_init 13 = .ok (.aload_n 0, 1) := dk_42 (dk_at dksX3_init_0 13 rfl rfl)
theorem dX3_init_14 : decode cX3_init 14 = .ok (.bipush 6, 2) := dk_16 6 (dk_at dksX3_init_0 14 rfl rfl)
theorem dX3_init_16 : decode cX3_init 16 = .ok (.newarray .int, 2) := dk_188_10 (dk_at dksX3_init_0 16 rfl rfl)
theorem dX3_init_18 : decode cX3_init 18 = .ok (.putfield 21, 3) := dk_181 0 21 (dk_at dksX3_init_0 18 rfl rfl)
theorem dX3_init_21 : decode cX3_init 21 = .ok (.aload_n 0, 1) := dk_42 (dk_at dksX3_init_0 21 rfl rfl)
theorem dX3_init_22 : decode cX3_init 22 = .ok (.bipush 6, 2) := dk_16 6 (dk_at dksX3_init_0 22 rfl rfl)
theorem dX3_init_24 : decode cX3_init 24 = .ok (.newarray .int, 2) := dk_188_10 (dk_at dksX3_init_1 0 rfl rfl)
theorem dX3_init_26 : decode cX3_init 26 = .ok (.putfield 24, 3) := dk_181 0 24 (dk_at dksX3_init_1 2 rfl rfl)
theorem dX3_init_29 : decode cX3_init 29 = .ok (.aload_n 0, 1) := dk_42 (dk_at dksX3_init_1 5 rfl rfl)
theorem dX3_init_30 : decode cX3_init 30 = .ok (.iconst 2, 1) := dk_5 (dk_at dksX3_init_1 6 rfl rfl)
theorem dX3_init_31 : decode cX3_init 31 = .ok (.newarray .int, 2) := dk_188_10 (dk_at dksX3_init_1 7 rfl rfl)
theorem dX3_init_33 : decode cX3_init 33 = .ok (.dup, 1) := dk_89 (dk_at dksX3_init_1 9 rfl rfl)
theorem dX3_init_34 : decode cX3_init 34 = .ok (.iconst 0, 1) := dk_3 (dk_at dksX3_init_1 10 rfl rfl)
theorem dX3_init_35 : decode cX3_init 35 = .ok (.sipush 255, 3) := dk_17 0 255 (dk_at dksX3_init_1 11 rfl rfl)
theorem dX3_init_38 : decode cX3_init 38 = .ok (.iastore, 1) := dk_79 (dk_at dksX3_init_1 14 rfl rfl)
theorem dX3_init_39 : decode cX3_init 39 = .ok (.dup, 1) := dk_89 (dk_at dksX3_init_1 15 rfl rfl)
theorem dX3_init_40 : decode cX3_init 40 = .ok (.iconst 1, 1) := dk_4 (dk_at dksX3_init_1 16 rfl rfl)
theorem dX3_init_41 : decode cX3_init 41 = .ok (.sipush 255, 3) := dk_17 0 255 (dk_at dksX3_init_1 17 rfl rfl)
theorem dX3_init_44 : decode cX3_init 44 = .ok (.iastore, 1) := dk_79 (dk_at dksX3_init_1 20 rfl rfl)
theorem dX3_init_45 : decode cX3_init 45 = .ok (.putfield 27, 3) := dk_181 0 27 (dk_at dksX3_init_1 21 rfl rfl)
theorem dX3_init_48 : decode cX3_init 48 = .ok (.aload_n 0, 1) := dk_42 (dk_at dksX3_init_2 0 rfl rfl)
theorem dX3_init_49 : decode cX3_init 49 = .ok (.bipush 8, 2) := dk_16 8 (dk_at dksX3_init_2 1 rfl rfl)
theorem dX3_init_51 : decode cX3_init 51 = .ok (.newarray .int, 2) := dk_188_10 (dk_at dksX3_init_2 3 rfl rfl)
theorem dX3_init_53 : decode cX3_init 53 = .ok (.putfield 30, 3) := dk_181 0 30 (dk_at dksX3_init_2 5 rfl rfl)
theorem dX3_init_56 : decode cX3_init 56 = .ok (.aload_n 0, 1) := dk_42 (dk_at dksX3_init_2 8 rfl rfl)
theorem dX3_init_57 : decode cX3_init 57 = .ok (.bipush 8, 2) := dk_16 8 (dk_at dksX3_init_2 9 rfl rfl)
theorem dX3_init_59 : decode cX3_init 59 = .ok (.newarray .int, 2) := dk_188_10 (dk_at dksX3_init_2 11 rfl rfl)
theorem dX3_init_61 : decode cX3_init 61 = .ok (.putfield 33, 3) := dk_181 0 33 (dk_at dksX3_init_2 13 rfl rfl)
theorem dX3_init_64 : decode cX3_init 64 = .ok (.aload_n 0, 1) := dk_42 (dk_at dksX3_init_2 16 rfl rfl)
theorem dX3_init_65 : decode cX3_init 65 = .ok (.bipush 8, 2) := dk_16 8 (dk_at dksX3_init_2 17 rfl rfl)
theorem dX3_init_67 : decode cX3_init 67 = .ok (.newarray .boolean, 2) := dk_188_4 (dk_at dksX3_init_2 19 rfl rfl)
theorem dX3_init_69 : decode cX3_init 69 = .ok (.putfield 36, 3) := dk_181 0 36 (dk_at dksX3_init_2 21 rfl rfl)
theorem dX3_init_72 : decode cX3_init 72 = .ok (.aload_n 0, 1) := dk_42 (dk_at dksX3_init_3 0 rfl rfl)
theorem dX3_init_73 : decode cX3_init 73 = .ok (.bipush 8, 2) := dk_16 8 (dk_at dksX3_init_3 1 rfl rfl)
theorem dX3_init_75 : decode cX3_init 75 = .ok (.newarray .int, 2) := dk_188_10 (dk_at dksX3_init_3 3 rfl rfl)
theorem dX3_init_77 : decode cX3_init 77 = .ok (.putfield 40, 3) := dk_181 0 40 (dk_at dksX3_init_3 5 rfl rfl)
theorem dX3_init_80 : decode cX3_init 80 = .ok (.aload_n 0, 1) := dk_42 (dk_at dksX3_init_3 8 rfl rfl)
theorem dX3_init_81 : decode cX3_init 81 = .ok (.bipush 8, 2) := dk_16 8 (dk_at dksX3_init_3 9 rfl rfl)
theorem dX3_init_83 : decode cX3_init 83 = .ok (.newarray .boolean, 2) := dk_188_4 (dk_at dksX3_init_3 11 rfl rfl)
theorem dX3_init_85 : decode cX3_init 85 = .ok (.putfield 43, 3) := dk_181 0 43 (dk_at dksX3_init_3 13 rfl rfl)
theorem dX3_init_88 : decode cX3_init 88 = .ok (.aload_n 0, 1) := dk_42 (dk_at dksX3_init_3 16 rfl rfl)
theorem dX3_init_89 : decode cX3_init 89 = .ok (.bipush 8, 2) := dk_16 8 (dk_at dksX3_init_3 17 rfl rfl)
theorem dX3_init_91 : decode cX3_init 91 = .ok (.newarray .int, 2) := dk_188_10 (dk_at dksX3_init_3 19 rfl rfl)
theorem dX3_init_93 : decode cX3_init 93 = .ok (.dup, 1) := dk_89 (dk_at dksX3_init_3 21 rfl rfl)
theorem dX3_init_94 : decode cX3_init 94 = .ok (.iconst 0, 1) := dk_3 (dk_at dksX3_init_3 22 rfl rfl)
theorem dX3_init_95 : decode cX3_init 95 = .ok (.iconst (-1), 1) := dk_2 (dk_at dksX3_init_3 23 rfl rfl)
theorem dX3_init_96 : decode cX3_init 96 = .ok (.iastore, 1) := dk_79 (dk_at dksX3_init_4 0 rfl rfl)
theorem dX3_init_97 : decode cX3_init 97 = .ok (.dup, 1) := dk_89 (dk_at dksX3_init_4 1 rfl rfl)
theorem dX3_init_98 : decode cX3_init 98 = .ok (.iconst 1, 1) := dk_4 (dk_at dksX3_init_4 2 rfl rfl)
theorem dX3_init_99 : decode cX3_init 99 = .ok (.iconst (-1), 1) := dk_2 (dk_at dksX3_init_4 3 rfl rfl)
theorem dX3_init_100 : decode cX3_init 100 = .ok (.iastore, 1) := dk_79 (dk_at dksX3_init_4 4 rfl rfl)
theorem dX3_init_101 : decode cX3_init 101 = .ok (.dup, 1) := dk_89 (dk_at dksX3_init_4 5 rfl rfl)
theorem dX3_init_102 : decode cX3_init 102 = .ok (.iconst 2, 1) := dk_5 (dk_at dksX3_init_4 6 rfl rfl)
theorem dX3_init_103 : decode cX3_init 103 = .ok (.iconst (-1), 1) := dk_2 (dk_at dksX3_init_4 7 rfl rfl)
theorem dX3_init_104 : decode cX3_init 104 = .ok (.iastore, 1) := dk_79 (dk_at dksX3_init_4 8 rfl rfl)
theorem dX3_init_105 : decode cX3_init 105 = .ok (.dup, 1) := dk_89 (dk_at dksX3_init_4 9 rfl rfl)
theorem dX3_init_106 : decode cX3_init 106 = .ok (.iconst 3, 1) := dk_6 (dk_at dksX3_init_4 10 rfl rfl)
theorem dX3_init_107 : decode cX3_init 107 = .ok (.iconst (-1), 1) := dk_2 (dk_at dksX3_init_4 11 rfl rfl)
theorem dX3_init_108 : decode cX3_init 108 = .ok (.iastore, 1) := dk_79 (dk_at dksX3_init_4 12 rfl rfl)
theorem dX3_init_109 : decode cX3_init 109 = .ok (.dup, 1) := dk_89 (dk_at dksX3_init_4 13 rfl rfl)
theorem dX3_init_110 : decode cX3_init 110 = .ok (.iconst 4, 1) := dk_7 (dk_at dksX3_init_4 14 rfl rfl)
theorem dX3_init_111 : decode cX3_init 111 = .ok (.iconst (-1), 1) := dk_2 (dk_at dksX3_init_4 15 rfl rfl)
theorem dX3_init_112 : decode cX3_init 112 = .ok (.iastore, 1) := dk_79 (dk_at dksX3_init_4 16 rfl rfl)
theorem dX3_init_113 : decode cX3_init 113 = .ok (.dup, 1) := dk_89 (dk_at dksX3_init_4 17 rfl rfl)
theorem dX3_init_114 : decode cX3_init 114 = .ok (.iconst 5, 1) := dk_8 (dk_at dksX3_init_4 18 rfl rfl)
theorem dX3_init_115 : decode cX3_init 115 = .ok (.iconst (-1), 1) := dk_2 (dk_at dksX3_init_4 19 rfl rfl)
theorem dX3_init_116 : decode cX3_init 116 = .ok (.iastore, 1) := dk_79 (dk_at dksX3_init_4 20 rfl rfl)
theorem dX3_init_117 : decode cX3_init 117 = .ok (.dup, 1) := dk_89 (dk_at dksX3_init_4 21 rfl rfl)
theorem dX3_init_118 : decode cX3_init 118 = .ok (.bipush 6, 2) := dk_16 6 (dk_at dksX3_init_4 22 rfl rfl)
theorem dX3_init_120 : decode cX3_init 120 = .ok (.iconst (-1), 1) := dk_2 (dk_at dksX3_init_5 0 rfl rfl)
theorem dX3_init_121 : decode cX3_init 121 = .ok (.iastore, 1) := dk_79 (dk_at dksX3_init_5 1 rfl rfl)
theorem dX3_init_122 : decode cX3_init 122 = .ok (.dup, 1) := dk_89 (dk_at dksX3_init_5 2 rfl rfl)
theorem dX3_init_123 : decode cX3_init 123 = .ok (.bipush 7, 2) := dk_16 7 (dk_at dksX3_init_5 3 rfl rfl)
theorem dX3_init_125 : decode cX3_init 125 = .ok (.iconst (-1), 1) := dk_2 (dk_at dksX3_init_5 5 rfl rfl)
theorem dX3_init_126 : decode cX3_init 126 = .ok (.iastore, 1) := dk_79 (dk_at dksX3_init_5 6 rfl rfl)
theorem dX3_init_127 : decode cX3_init 127 = .ok (.putfield 46, 3) := dk_181 0 46 (dk_at dksX3_init_5 7 rfl rfl)
theorem dX3_init_130 : decode cX3_init 130 = .ok (.aload_n 0, 1) := dk_42 (dk_at dksX3_init_5 10 rfl rfl)
theorem dX3_init_131 : decode cX3_init 131 = .ok (.bipush 8, 2) := dk_16 8 (dk_at dksX3_init_5 11 rfl rfl)
theorem dX3_init_133 : decode cX3_init 133 = .ok (.newarray .int, 2) := dk_188_10 (dk_at dksX3_init_5 13 rfl rfl)
theorem dX3_init_135 : decode cX3_init 135 = .ok (.putfield 49, 3) := dk_181 0 49 (dk_at dksX3_init_5 15 rfl rfl)
theorem dX3_init_138 : decode cX3_init 138 = .ok (.aload_n 0, 1) := dk_42 (dk_at dksX3_init_5 18 rfl rfl)
theorem dX3_init_139 : decode cX3_init 139 = .ok (.sipush 320, 3) := dk_17 1 64 (dk_at dksX3_init_5 19 rfl rfl)
theorem dX3_init_142 : decode cX3_init 142 = .ok (.newarray .int, 2) := dk_188_10 (dk_at dksX3_init_5 22 rfl rfl)
theorem dX3_init_144 : decode cX3_init 144 = .ok (.putfield 52, 3) := dk_181 0 52 (dk_at dksX3_init_6 0 rfl rfl)
theorem dX3_init_147 : decode cX3_init 147 = .ok (.aload_n 0, 1) := dk_42 (dk_at dksX3_init_6 3 rfl rfl)
theorem dX3_init_148 : decode cX3_init 148 = .ok (.bipush 48, 2) := dk_16 48 (dk_at dksX3_init_6 4 rfl rfl)
theorem dX3_init_150 : decode cX3_init 150 = .ok (.newarray .int, 2) := dk_188_10 (dk_at dksX3_init_6 6 rfl rfl)
theorem dX3_init_152 : decode cX3_init 152 = .ok (.putfield 55, 3) := dk_181 0 55 (dk_at dksX3_init_6 8 rfl rfl)
theorem dX3_init_155 : decode cX3_init 155 = .ok (.aload_n 0, 1) := dk_42 (dk_at dksX3_init_6 11 rfl rfl)
theorem dX3_init_156 : decode cX3_init 156 = .ok (.sipush 300, 3) := dk_17 1 44 (dk_at dksX3_init_6 12 rfl rfl)
theorem dX3_init_159 : decode cX3_init 159 = .ok (.newarray .int, 2) := dk_188_10 (dk_at dksX3_init_6 15 rfl rfl)
theorem dX3_init_161 : decode cX3_init 161 = .ok (.putfield 58, 3) := dk_181 0 58 (dk_at dksX3_init_6 17 rfl rfl)
theorem dX3_init_164 : decode cX3_init 164 = .ok (.aload_n 0, 1) := dk_42 (dk_at dksX3_init_6 20 rfl rfl)
theorem dX3_init_165 : decode cX3_init 165 = .ok (.sipush 144, 3) := dk_17 0 144 (dk_at dksX3_init_6 21 rfl rfl)
theorem dX3_init_168 : decode cX3_init 168 = .ok (.newarray .boolean, 2) := dk_188_4 (dk_at dksX3_init_7 0 rfl rfl)
theorem dX3_init_170 : decode cX3_init 170 = .ok (.putfield 61, 3) := dk_181 0 61 (dk_at dksX3_init_7 2 rfl rfl)
theorem dX3_init_173 : decode cX3_init 173 = .ok (.aload_n 0, 1) := dk_42 (dk_at dksX3_init_7 5 rfl rfl)
theorem dX3_init_174 : decode cX3_init 174 = .ok (.sipush 144, 3) := dk_17 0 144 (dk_at dksX3_init_7 6 rfl rfl)
theorem dX3_init_177 : decode cX3_init 177 = .ok (.newarray .boolean, 2) := dk_188_4 (dk_at dksX3_init_7 9 rfl rfl)
theorem dX3_init_179 : decode cX3_init 179 = .ok (.putfield 64, 3) := dk_181 0 64 (dk_at dksX3_init_7 11 rfl rfl)
theorem dX3_init_182 : decode cX3_init 182 = .ok (.aload_n 0, 1) := dk_42 (dk_at dksX3_init_7 14 rfl rfl)
theorem dX3_init_183 : decode cX3_init 183 = .ok (.bipush 16, 2) := dk_16 16 (dk_at dksX3_init_7 15 rfl rfl)
theorem dX3_init_185 : decode cX3_init 185 = .ok (.newarray .int, 2) := dk_188_10 (dk_at dksX3_init_7 17 rfl rfl)
theorem dX3_init_187 : decode cX3_init 187 = .ok (.putfield 67, 3) := dk_181 0 67 (dk_at dksX3_init_7 19 rfl rfl)
theorem dX3_init_190 : decode cX3_init 190 = .ok (.iconst 0, 1) := dk_3 (dk_at dksX3_init_7 22 rfl rfl)
theorem dX3_init_191 : decode cX3_init 191 = .ok (.istore_n 1, 1) := dk_60 (dk_at dksX3_init_7 23 rfl rfl)
theorem dX3_init_192 : decode cX3_init 192 = .ok (.iload_n 1, 1) := dk_27 (dk_at dksX3_init_8 0 rfl rfl)
theorem dX3_init_193 : decode cX3_init 193 = .ok (.sipush 6696, 3) := dk_17 26 40 (dk_at dksX3_init_8 1 rfl rfl)
theorem dX3_init_196 : decode cX3_init 196 = .ok (.if_icmp .ge 39, 3) := dk_162 0 39 (dk_at dksX3_init_8 4 rfl rfl)
theorem dX3_init_199 : decode cX3_init 199 = .ok (.aload_n 0, 1) := dk_42 (dk_at dksX3_init_8 7 rfl rfl)
theorem dX3_init_200 : decode cX3_init 200 = .ok (.getfield 17, 3) := dk_180 0 17 (dk_at dksX3_init_8 8 rfl rfl)
theorem dX3_init_203 : decode cX3_init 203 = .ok (.iload_n 1, 1) := dk_27 (dk_at dksX3_init_8 11 rfl rfl)
theorem dX3_init_204 : decode cX3_init 204 = .ok (.iload_n 1, 1) := dk_27 (dk_at dksX3_init_8 12 rfl rfl)
theorem dX3_init_205 : decode cX3_init 205 = .ok (.bipush 62, 2) := dk_16 62 (dk_at dksX3_init_8 13 rfl rfl)
theorem dX3_init_207 : decode cX3_init 207 = .ok (.irem, 1) := dk_112 (dk_at dksX3_init_8 15 rfl rfl)
theorem dX3_init_208 : decode cX3_init 208 = .ok (.bipush 56, 2) := dk_16 56 (dk_at dksX3_init_8 16 rfl rfl)
theorem dX3_init_210 : decode cX3_init 210 = .ok (.if_icmp .ge 17, 3) := dk_162 0 17 (dk_at dksX3_init_8 18 rfl rfl)
theorem dX3_init_213 : decode cX3_init 213 = .ok (.iload_n 1, 1) := dk_27 (dk_at dksX3_init_8 21 rfl rfl)
theorem dX3_init_214 : decode cX3_init 214 = .ok (.bipush 62, 2) := dk_16 62 (dk_at dksX3_init_8 22 rfl rfl)
theorem dX3_init_216 : decode cX3_init 216 = .ok (.irem, 1) := dk_112 (dk_at dksX3_init_9 0 rfl rfl)
theorem dX3_init_217 : decode cX3_init 217 = .ok (.bipush 7, 2) := dk_16 7 (dk_at dksX3_init_9 1 rfl rfl)
theorem dX3_init_219 : decode cX3_init 219 = .ok (.irem, 1) := dk_112 (dk_at dksX3_init_9 3 rfl rfl)
theorem dX3_init_220 : decode cX3_init 220 = .ok (.ifCond .ne 7, 3) := dk_154 0 7 (dk_at dksX3_init_9 4 rfl rfl)
theorem dX3_init_223 : decode cX3_init 223 = .ok (.iconst 0, 1) := dk_3 (dk_at dksX3_init_9 7 rfl rfl)
theorem dX3_init_224 : decode cX3_init 224 = .ok (.goto 4, 3) := dk_167 0 4 (dk_at dksX3_init_9 8 rfl rfl)
theorem dX3_init_227 : decode cX3_init 227 = .ok (.iconst (-1), 1) := dk_2 (dk_at dksX3_init_9 11 rfl rfl)
theorem dX3_init_228 : decode cX3_init 228 = .ok (.iastore, 1) := dk_79 (dk_at dksX3_init_9 12 rfl rfl)
theorem dX3_init_229 : decode cX3_init 229 = .ok (.iinc 1 1, 3) := dk_132 1 1 (dk_at dksX3_init_9 13 rfl rfl)
theorem dX3_init_232 : decode cX3_init 232 = .ok (.goto (-40), 3) := dk_167 255 216 (dk_at dksX3_init_9 16 rfl rfl)
theorem dX3_init_235 : decode cX3_init 235 = .ok (.return_, 1) := dk_177 (dk_at dksX3_init_9 19 rfl rfl)
abbrev cX3_order : ByteArray := prog_18_method_26_code
def yX3_order : MethodName := ⟨RX3, "order", "(I)I"⟩
def dkwX3_order_2 : List UInt8 := [172]
abbrev dktX3_order_2 : List UInt8 := dkwX3_order_2 ++ []
def dkwX3_order_1 : List UInt8 := [16, 9, 27, 182, 0, 147, 61, 28, 18, 81, 160, 0, 6, 18, 150, 172, 42, 16, 9, 3, 182, 0, 144, 28]
abbrev dktX3_order_1 : List UInt8 := dkwX3_order_1 ++ dktX3_order_2
def dkwX3_order_0 : List UInt8 := [42, 3, 181, 0, 1, 27, 184, 0, 139, 154, 0, 6, 18, 143, 172, 42, 3, 16, 9, 182, 0, 144, 42]
abbrev dktX3_order_0 : List UInt8 := dkwX3_order_0 ++ dktX3_order_1
theorem dksX3_order_0 : cX3_order.data.toList.drop 0 = dktX3_order_0 := by decide +kernel
theorem dksX3_order_1 : cX3_order.data.toList.drop 23 = dktX3_order_1 := dk_seg dksX3_order_0 23 rfl rfl
theorem dksX3_order_2 : cX3_order.data.toList.drop 47 = dktX3_order_2 := dk_seg dksX3_order_1 24 rfl rfl
theorem dX3_order_0 : decode cX3_order 0 = .ok (.aload_n 0, 1) := dk_42 (dk_at dksX3_order_0 0 rfl rfl)
theorem dX3_order_1 : decode cX3_order 1 = .ok (.iconst 0, 1) := dk_3 (dk_at dksX3_order_0 1 rfl rfl)
theorem dX3_order_2 : decode cX3_order 2 = .ok (.putfield 1, 3) := dk_181 0 1 (dk_at dksX3_order_0 2 rfl rfl)
theorem dX3_order_5 : decode cX3_order 5 = .ok (.iload_n 1, 1) := dk_27 (dk_at dksX3_order_0 5 rfl rfl)
theorem dX3_order_6 : decode cX3_order 6 = .ok (.invokestatic 139, 3) := dk_184 0 139 (dk_at dksX3_order_0 6 rfl rfl)
theorem dX3_order_9 : decode cX3_order 9 = .ok (.ifCond .ne 6, 3) := dk_154 0 6 (dk_at dksX3_order_0 9 rfl rfl)
theorem dX3_order_12 : decode cX3_order 12 = .ok (.ldc 143, 2) := dk_18 143 (dk_at dksX3_order_0 12 rfl rfl)
theorem dX3_order_14 : decode cX3_order 14 = .ok (.ireturn, 1) := dk_172 (dk_at dksX3_order_0 14 rfl rfl)
theorem dX3_order_15 : decode cX3_order 15 = .ok (.aload_n 0, 1) := dk_42 (dk_at dksX3_order_0 15 rfl rfl)
theorem dX3_order_16 : decode cX3_order 16 = .ok (.iconst 0, 1) := dk_3 (dk_at dksX3_order_0 16 rfl rfl)
theorem dX3_order_17 : decode cX3_order 17 = .ok (.bipush 9, 2) := dk_16 9 (dk_at dksX3_order_0 17 rfl rfl)
theorem dX3_order_19 : decode cX3_order 19 = .ok (.invokevirtual 144, 3) := dk_182 0 144 (dk_at dksX3_order_0 19 rfl rfl)
theorem dX3_order_22 : decode cX3_order 22 = .ok (.aload_n 0, 1) := dk_42 (dk_at dksX3_order_0 22 rfl rfl)
theorem dX3_order_23 : decode cX3_order 23 = .ok (.bipush 9, 2) := dk_16 9 (dk_at dksX3_order_1 0 rfl rfl)
theorem dX3_order_25 : decode cX3_order 25 = .ok (.iload_n 1, 1) := dk_27 (dk_at dksX3_order_1 2 rfl rfl)
theorem dX3_order_26 : decode cX3_order 26 = .ok (.invokevirtual 147, 3) := dk_182 0 147 (dk_at dksX3_order_1 3 rfl rfl)
theorem dX3_order_29 : decode cX3_order 29 = .ok (.istore_n 2, 1) := dk_61 (dk_at dksX3_order_1 6 rfl rfl)
theorem dX3_order_30 : decode cX3_order 30 = .ok (.iload_n 2, 1) := dk_28 (dk_at dksX3_order_1 7 rfl rfl)
theorem dX3_order_31 : decode cX3_order 31 = .ok (.ldc 81, 2) := dk_18 81 (dk_at dksX3_order_1 8 rfl rfl)
theorem dX3_order_33 : decode cX3_order 33 = .ok (.if_icmp .ne 6, 3) := dk_160 0 6 (dk_at dksX3_order_1 10 rfl rfl)
theorem dX3_order_36 : decode cX3_order 36 = .ok (.ldc 150, 2) := dk_18 150 (dk_at dksX3_order_1 13 rfl rfl)
theorem dX3_order_38 : decode cX3_order 38 = .ok (.ireturn, 1) := dk_172 (dk_at dksX3_order_1 15 rfl rfl)
theorem dX3_order_39 : decode cX3_order 39 = .ok (.aload_n 0, 1) := dk_42 (dk_at dksX3_order_1 16 rfl rfl)
theorem dX3_order_40 : decode cX3_order 40 = .ok (.bipush 9, 2) := dk_16 9 (dk_at dksX3_order_1 17 rfl rfl)
theorem dX3_order_42 : decode cX3_order 42 = .ok (.iconst 0, 1) := dk_3 (dk_at dksX3_order_1 19 rfl rfl)
theorem dX3_order_43 : decode cX3_order 43 = .ok (.invokevirtual 144, 3) := dk_182 0 144 (dk_at dksX3_order_1 20 rfl rfl)
theorem dX3_order_46 : decode cX3_order 46 = .ok (.iload_n 2, 1) := dk_28 (dk_at dksX3_order_1 23 rfl rfl)
theorem dX3_order_47 : decode cX3_order 47 = .ok (.ireturn, 1) := dk_172 (dk_at dksX3_order_2 0 rfl rfl)
abbrev cX3_isOrder : ByteArray := prog_18_method_25_code
def yX3_isOrder : MethodName := ⟨RX3, "isOrder", "(I)Z"⟩
def dkwX3_isOrder_0 : List UInt8 := [26, 133, 9, 20, 0, 133, 184, 0, 135, 172]
abbrev dktX3_isOrder_0 : List UInt8 := dkwX3_isOrder_0 ++ []
theorem dksX3_isOrder_0 : cX3_isOrder.data.toList.drop 0 = dktX3_isOrder_0 := by decide +kernel
theorem dX3_isOrder_0 : decode cX3_isOrder 0 = .ok (.iload_n 0, 1) := dk_26 (dk_at dksX3_isOrder_0 0 rfl rfl)
theorem dX3_isOrder_1 : decode cX3_isOrder 1 = .ok (.i2l, 1) := dk_133 (dk_at dksX3_isOrder_0 1 rfl rfl)
theorem dX3_isOrder_2 : decode cX3_isOrder 2 = .ok (.lconst 0, 1) := dk_9 (dk_at dksX3_isOrder_0 2 rfl rfl)
theorem dX3_isOrder_3 : decode cX3_isOrder 3 = .ok (.ldc2_w 133, 3) := dk_20 0 133 (dk_at dksX3_isOrder_0 3 rfl rfl)
theorem dX3_isOrder_6 : decode cX3_isOrder 6 = .ok (.invokestatic 135, 3) := dk_184 0 135 (dk_at dksX3_isOrder_0 6 rfl rfl)
theorem dX3_isOrder_9 : decode cX3_isOrder 9 = .ok (.ireturn, 1) := dk_172 (dk_at dksX3_isOrder_0 9 rfl rfl)
abbrev cX3_in : ByteArray := prog_18_method_2_code
def yX3_in : MethodName := ⟨RX3, "in", "(JJJ)Z"⟩
def dkwX3_in_0 : List UInt8 := [30, 32, 148, 155, 0, 14, 30, 22, 4, 148, 157, 0, 7, 4, 167, 0, 4, 3, 172]
abbrev dktX3_in_0 : List UInt8 := dkwX3_in_0 ++ []
theorem dksX3_in_0 : cX3_in.data.toList.drop 0 = dktX3_in_0 := by decide +kernel
theorem dX3_in_0 : decode cX3_in 0 = .ok (.lload_n 0, 1) := dk_30 (dk_at dksX3_in_0 0 rfl rfl)
theorem dX3_in_1 : decode cX3_in 1 = .ok (.lload_n 2, 1) := dk_32 (dk_at dksX3_in_0 1 rfl rfl)
theorem dX3_in_2 : decode cX3_in 2 = .ok (.lcmp, 1) := dk_148 (dk_at dksX3_in_0 2 rfl rfl)
theorem dX3_in_3 : decode cX3_in 3 = .ok (.ifCond .lt 14, 3) := dk_155 0 14 (dk_at dksX3_in_0 3 rfl rfl)
theorem dX3_in_6 : decode cX3_in 6 = .ok (.lload_n 0, 1) := dk_30 (dk_at dksX3_in_0 6 rfl rfl)
theorem dX3_in_7 : decode cX3_in 7 = .ok (.lload 4, 2) := dk_22 4 (dk_at dksX3_in_0 7 rfl rfl)
theorem dX3_in_9 : decode cX3_in 9 = .ok (.lcmp, 1) := dk_148 (dk_at dksX3_in_0 9 rfl rfl)
theorem dX3_in_10 : decode cX3_in 10 = .ok (.ifCond .gt 7, 3) := dk_157 0 7 (dk_at dksX3_in_0 10 rfl rfl)
theorem dX3_in_13 : decode cX3_in 13 = .ok (.iconst 1, 1) := dk_4 (dk_at dksX3_in_0 13 rfl rfl)
theorem dX3_in_14 : decode cX3_in 14 = .ok (.goto 4, 3) := dk_167 0 4 (dk_at dksX3_in_0 14 rfl rfl)
theorem dX3_in_17 : decode cX3_in 17 = .ok (.iconst 0, 1) := dk_3 (dk_at dksX3_in_0 17 rfl rfl)
theorem dX3_in_18 : decode cX3_in 18 = .ok (.ireturn, 1) := dk_172 (dk_at dksX3_in_0 18 rfl rfl)
abbrev cX3_copyTable : ByteArray := prog_18_method_5_code
def yX3_copyTable : MethodName := ⟨RX3, "copyTable", "(II)V"⟩
def dkwX3_copyTable_1 : List UInt8 := [27, 104, 29, 96, 46, 79, 132, 3, 1, 167, 255, 225, 177]
abbrev dktX3_copyTable_1 : List UInt8 := dkwX3_copyTable_1 ++ []
def dkwX3_copyTable_0 : List UInt8 := [3, 62, 29, 16, 62, 162, 0, 31, 42, 180, 0, 17, 16, 62, 28, 104, 29, 96, 42, 180, 0, 17, 16, 62]
abbrev dktX3_copyTable_0 : List UInt8 := dkwX3_copyTable_0 ++ dktX3_copyTable_1
theorem dksX3_copyTable_0 : cX3_copyTable.data.toList.drop 0 = dktX3_copyTable_0 := by decide +kernel
theorem dksX3_copyTable_1 : cX3_copyTable.data.toList.drop 24 = dktX3_copyTable_1 := dk_seg dksX3_copyTable_0 24 rfl rfl
theorem dX3_copyTable_0 : decode cX3_copyTable 0 = .ok (.iconst 0, 1) := dk_3 (dk_at dksX3_copyTable_0 0 rfl rfl)
theorem dX3_copyTable_1 : decode cX3_copyTable 1 = .ok (.istore_n 3, 1) := dk_62 (dk_at dksX3_copyTable_0 1 rfl rfl)
theorem dX3_copyTable_2 : decode cX3_copyTable 2 = .ok (.iload_n 3, 1) := dk_29 (dk_at dksX3_copyTable_0 2 rfl rfl)
theorem dX3_copyTable_3 : decode cX3_copyTable 3 = .ok (.bipush 62, 2) := dk_16 62 (dk_at dksX3_copyTable_0 3 rfl rfl)
theorem dX3_copyTable_5 : decode cX3_copyTable 5 = .ok (.if_icmp .ge 31, 3) := dk_162 0 31 (dk_at dksX3_copyTable_0 5 rfl rfl)
theorem dX3_copyTable_8 : decode cX3_copyTable 8 = .ok (.aload_n 0, 1) := dk_42 (dk_at dksX3_copyTable_0 8 rfl rfl)
theorem dX3_copyTable_9 : decode cX3_copyTable 9 = .ok (.getfield 17, 3) := dk_180 0 17 (dk_at dksX3_copyTable_0 9 rfl rfl)
theorem dX3_copyTable_12 : decode cX3_copyTable 12 = .ok (.bipush 62, 2) := dk_16 62 (dk_at dksX3_copyTable_0 12 rfl rfl)
theorem dX3_copyTable_14 : decode cX3_copyTable 14 = .ok (.iload_n 2, 1) := dk_28 (dk_at dksX3_copyTable_0 14 rfl rfl)
theorem dX3_copyTable_15 : decode cX3_copyTable 15 = .ok (.imul, 1) := dk_104 (dk_at dksX3_copyTable_0 15 rfl rfl)
theorem dX3_copyTable_16 : decode cX3_copyTable 16 = .ok (.iload_n 3, 1) := dk_29 (dk_at dksX3_copyTable_0 16 rfl rfl)
theorem dX3_copyTable_17 : decode cX3_copyTable 17 = .ok (.iadd, 1) := dk_96 (dk_at dksX3_copyTable_0 17 rfl rfl)
theorem dX3_copyTable_18 : decode cX3_copyTable 18 = .ok (.aload_n 0, 1) := dk_42 (dk_at dksX3_copyTable_0 18 rfl rfl)
theorem dX3_copyTable_19 : decode cX3_copyTable 19 = .ok (.getfield 17, 3) := dk_180 0 17 (dk_at dksX3_copyTable_0 19 rfl rfl)
theorem dX3_copyTable_22 : decode cX3_copyTable 22 = .ok (.bipush 62, 2) := dk_16 62 (dk_at dksX3_copyTable_0 22 rfl rfl)
theorem dX3_copyTable_24 : decode cX3_copyTable 24 = .ok (.iload_n 1, 1) := dk_27 (dk_at dksX3_copyTable_1 0 rfl rfl)
theorem dX3_copyTable_25 : decode cX3_copyTable 25 = .ok (.imul, 1) := dk_104 (dk_at dksX3_copyTable_1 1 rfl rfl)
theorem dX3_copyTable_26 : decode cX3_copyTable 26 = .ok (.iload_n 3, 1) := dk_29 (dk_at dksX3_copyTable_1 2 rfl rfl)
theorem dX3_copyTable_27 : decode cX3_copyTable 27 = .ok (.iadd, 1) := dk_96 (dk_at dksX3_copyTable_1 3 rfl rfl)
theorem dX3_copyTable_28 : decode cX3_copyTable 28 = .ok (.iaload, 1) := dk_46 (dk_at dksX3_copyTable_1 4 rfl rfl)
theorem dX3_copyTable_29 : decode cX3_copyTable 29 = .ok (.iastore, 1) := dk_79 (dk_at dksX3_copyTable_1 5 rfl rfl)
theorem dX3_copyTable_30 : decode cX3_copyTable 30 = .ok (.iinc 3 1, 3) := dk_132 3 1 (dk_at dksX3_copyTable_1 6 rfl rfl)
theorem dX3_copyTable_33 : decode cX3_copyTable 33 = .ok (.goto (-31), 3) := dk_167 255 225 (dk_at dksX3_copyTable_1 9 rfl rfl)
theorem dX3_copyTable_36 : decode cX3_copyTable 36 = .ok (.return_, 1) := dk_177 (dk_at dksX3_copyTable_1 12 rfl rfl)
abbrev cX3_doOrder : ByteArray := prog_18_method_24_code
def yX3_doOrder : MethodName := ⟨RX3, "doOrder", "(II)I"⟩
def dkwX3_doOrder_6 : List UInt8 := [153, 0, 13, 21, 7, 158, 0, 13, 21, 6, 154, 0, 8, 18, 81, 167, 0, 5, 21, 6, 172]
abbrev dktX3_doOrder_6 : List UInt8 := dkwX3_doOrder_6 ++ []
def dkwX3_doOrder_5 : List UInt8 := [182, 0, 130, 153, 0, 7, 4, 167, 0, 5, 18, 81, 172, 132, 8, 1, 167, 255, 151, 28, 5, 112]
abbrev dktX3_doOrder_5 : List UInt8 := dkwX3_doOrder_5 ++ dktX3_doOrder_6
def dkwX3_doOrder_4 : List UInt8 := [96, 54, 6, 167, 0, 34, 42, 27, 21, 8, 182, 0, 92, 153, 0, 24, 42, 27, 21, 8, 21, 4, 21, 5]
abbrev dktX3_doOrder_4 : List UInt8 := dkwX3_doOrder_4 ++ dktX3_doOrder_5
def dkwX3_doOrder_3 : List UInt8 := [132, 7, 1, 21, 6, 42, 27, 21, 8, 21, 4, 21, 5, 182, 0, 130, 153, 0, 7, 4, 167, 0, 4, 3]
abbrev dktX3_doOrder_3 : List UInt8 := dkwX3_doOrder_3 ++ dktX3_doOrder_4
def dkwX3_doOrder_2 : List UInt8 := [160, 0, 85, 42, 27, 21, 8, 21, 4, 21, 5, 182, 0, 126, 154, 0, 71, 28, 5, 112, 4, 160, 0, 33]
abbrev dktX3_doOrder_2 : List UInt8 := dkwX3_doOrder_2 ++ dktX3_doOrder_3
def dkwX3_doOrder_1 : List UInt8 := [54, 7, 3, 54, 8, 21, 8, 42, 180, 0, 85, 162, 0, 102, 42, 180, 0, 21, 21, 8, 46, 29]
abbrev dktX3_doOrder_1 : List UInt8 := dkwX3_doOrder_1 ++ dktX3_doOrder_2
def dkwX3_doOrder_0 : List UInt8 := [28, 5, 108, 7, 112, 62, 28, 16, 8, 108, 6, 112, 54, 4, 28, 16, 24, 108, 54, 5, 3, 54, 6, 3]
abbrev dktX3_doOrder_0 : List UInt8 := dkwX3_doOrder_0 ++ dktX3_doOrder_1
theorem dksX3_doOrder_0 : cX3_doOrder.data.toList.drop 0 = dktX3_doOrder_0 := by decide +kernel
theorem dksX3_doOrder_1 : cX3_doOrder.data.toList.drop 24 = dktX3_doOrder_1 := dk_seg dksX3_doOrder_0 24 rfl rfl
theorem dksX3_doOrder_2 : cX3_doOrder.data.toList.drop 46 = dktX3_doOrder_2 := dk_seg dksX3_doOrder_1 22 rfl rfl
theorem dksX3_doOrder_3 : cX3_doOrder.data.toList.drop 70 = dktX3_doOrder_3 := dk_seg dksX3_doOrder_2 24 rfl rfl
theorem dksX3_doOrder_4 : cX3_doOrder.data.toList.drop 94 = dktX3_doOrder_4 := dk_seg dksX3_doOrder_3 24 rfl rfl
theorem dksX3_doOrder_5 : cX3_doOrder.data.toList.drop 118 = dktX3_doOrder_5 := dk_seg dksX3_doOrder_4 24 rfl rfl
theorem dksX3_doOrder_6 : cX3_doOrder.data.toList.drop 140 = dktX3_doOrder_6 := dk_seg dksX3_doOrder_5 22 rfl rfl
theorem dX3_doOrder_0 : decode cX3_doOrder 0 = .ok (.iload_n 2, 1) := dk_28 (dk_at dksX3_doOrder_0 0 rfl rfl)
theorem dX3_doOrder_1 : decode cX3_doOrder 1 = .ok (.iconst 2, 1) := dk_5 (dk_at dksX3_doOrder_0 1 rfl rfl)
theorem dX3_doOrder_2 : decode cX3_doOrder 2 = .ok (.idiv, 1) := dk_108 (dk_at dksX3_doOrder_0 2 rfl rfl)
theorem dX3_doOrder_3 : decode cX3_doOrder 3 = .ok (.iconst 4, 1) := dk_7 (dk_at dksX3_doOrder_0 3 rfl rfl)
theorem dX3_doOrder_4 : decode cX3_doOrder 4 = .ok (.irem, 1) := dk_112 (dk_at dksX3_doOrder_0 4 rfl rfl)
theorem dX3_doOrder_5 : decode cX3_doOrder 5 = .ok (.istore_n 3, 1) := dk_62 (dk_at dksX3_doOrder_0 5 rfl rfl)
theorem dX3_doOrder_6 : decode cX3_doOrder 6 = .ok (.iload_n 2, 1) := dk_28 (dk_at dksX3_doOrder_0 6 rfl rfl)
theorem dX3_doOrder_7 : decode cX3_doOrder 7 = .ok (.bipush 8, 2) := dk_16 8 (dk_at dksX3_doOrder_0 7 rfl rfl)
theorem dX3_doOrder_9 : decode cX3_doOrder 9 = .ok (.idiv, 1) := dk_108 (dk_at dksX3_doOrder_0 9 rfl rfl)
theorem dX3_doOrder_10 : decode cX3_doOrder 10 = .ok (.iconst 3, 1) := dk_6 (dk_at dksX3_doOrder_0 10 rfl rfl)
theorem dX3_doOrder_11 : decode cX3_doOrder 11 = .ok (.irem, 1) := dk_112 (dk_at dksX3_doOrder_0 11 rfl rfl)
theorem dX3_doOrder_12 : decode cX3_doOrder 12 = .ok (.istore 4, 2) := dk_54 4 (dk_at dksX3_doOrder_0 12 rfl rfl)
theorem dX3_doOrder_14 : decode cX3_doOrder 14 = .ok (.iload_n 2, 1) := dk_28 (dk_at dksX3_doOrder_0 14 rfl rfl)
theorem dX3_doOrder_15 : decode cX3_doOrder 15 = .ok (.bipush 24, 2) := dk_16 24 (dk_at dksX3_doOrder_0 15 rfl rfl)
theorem dX3_doOrder_17 : decode cX3_doOrder 17 = .ok (.idiv, 1) := dk_108 (dk_at dksX3_doOrder_0 17 rfl rfl)
theorem dX3_doOrder_18 : decode cX3_doOrder 18 = .ok (.istore 5, 2) := dk_54 5 (dk_at dksX3_doOrder_0 18 rfl rfl)
theorem dX3_doOrder_20 : decode cX3_doOrder 20 = .ok (.iconst 0, 1) := dk_3 (dk_at dksX3_doOrder_0 20 rfl rfl)
theorem dX3_doOrder_21 : decode cX3_doOrder 21 = .ok (.istore 6, 2) := dk_54 6 (dk_at dksX3_doOrder_0 21 rfl rfl)
theorem dX3_doOrder_23 : decode cX3_doOrder 23 = .ok (.iconst 0, 1) := dk_3 (dk_at dksX3_doOrder_0 23 rfl rfl)
theorem dX3_doOrder_24 : decode cX3_doOrder 24 = .ok (.istore 7, 2) := dk_54 7 (dk_at dksX3_doOrder_1 0 rfl rfl)
theorem dX3_doOrder_26 : decode cX3_doOrder 26 = .ok (.iconst 0, 1) := dk_3 (dk_at dksX3_doOrder_1 2 rfl rfl)
theorem dX3_doOrder_27 : decode cX3_doOrder 27 = .ok (.istore 8, 2) := dk_54 8 (dk_at dksX3_doOrder_1 3 rfl rfl)
theorem dX3_doOrder_29 : decode cX3_doOrder 29 = .ok (.iload 8, 2) := dk_21 8 (dk_at dksX3_doOrder_1 5 rfl rfl)
theorem dX3_doOrder_31 : decode cX3_doOrder 31 = .ok (.aload_n 0, 1) := dk_42 (dk_at dksX3_doOrder_1 7 rfl rfl)
theorem dX3_doOrder_32 : decode cX3_doOrder 32 = .ok (.getfield 85, 3) := dk_180 0 85 (dk_at dksX3_doOrder_1 8 rfl rfl)
theorem dX3_doOrder_35 : decode cX3_doOrder 35 = .ok (.if_icmp .ge 102, 3) := dk_162 0 102 (dk_at dksX3_doOrder_1 11 rfl rfl)
theorem dX3_doOrder_38 : decode cX3_doOrder 38 = .ok (.aload_n 0, 1) := dk_42 (dk_at dksX3_doOrder_1 14 rfl rfl)
theorem dX3_doOrder_39 : decode cX3_doOrder 39 = .ok (.getfield 21, 3) := dk_180 0 21 (dk_at dksX3_doOrder_1 15 rfl rfl)
theorem dX3_doOrder_42 : decode cX3_doOrder 42 = .ok (.iload 8, 2) := dk_21 8 (dk_at dksX3_doOrder_1 18 rfl rfl)
theorem dX3_doOrder_44 : decode cX3_doOrder 44 = .ok (.iaload, 1) := dk_46 (dk_at dksX3_doOrder_1 20 rfl rfl)
theorem dX3_doOrder_45 : decode cX3_doOrder 45 = .ok (.iload_n 3, 1) := dk_29 (dk_at dksX3_doOrder_1 21 rfl rfl)
theorem dX3_doOrder_46 : decode cX3_doOrder 46 = .ok (.if_icmp .ne 85, 3) := dk_160 0 85 (dk_at dksX3_doOrder_2 0 rfl rfl)
theorem dX3_doOrder_49 : decode cX3_doOrder 49 = .ok (.aload_n 0, 1) := dk_42 (dk_at dksX3_doOrder_2 3 rfl rfl)
theorem dX3_doOrder_50 : decode cX3_doOrder 50 = .ok (.iload_n 1, 1) := dk_27 (dk_at dksX3_doOrder_2 4 rfl rfl)
theorem dX3_doOrder_51 : decode cX3_doOrder 51 = .ok (.iload 8, 2) := dk_21 8 (dk_at dksX3_doOrder_2 5 rfl rfl)
theorem dX3_doOrder_53 : decode cX3_doOrder 53 = .ok (.iload 4, 2) := dk_21 4 (dk_at dksX3_doOrder_2 7 rfl rfl)
theorem dX3_doOrder_55 : decode cX3_doOrder 55 = .ok (.iload 5, 2) := dk_21 5 (dk_at dksX3_doOrder_2 9 rfl rfl)
theorem dX3_doOrder_57 : decode cX3_doOrder 57 = .ok (.invokevirtual 126, 3) := dk_182 0 126 (dk_at dksX3_doOrder_2 11 rfl rfl)
theorem dX3_doOrder_60 : decode cX3_doOrder 60 = .ok (.ifCond .ne 71, 3) := dk_154 0 71 (dk_at dksX3_doOrder_2 14 rfl rfl)
theorem dX3_doOrder_63 : decode cX3_doOrder 63 = .ok (.iload_n 2, 1) := dk_28 (dk_at dksX3_doOrder_2 17 rfl rfl)
theorem dX3_doOrder_64 : decode cX3_doOrder 64 = .ok (.iconst 2, 1) := dk_5 (dk_at dksX3_doOrder_2 18 rfl rfl)
theorem dX3_doOrder_65 : decode cX3_doOrder 65 = .ok (.irem, 1) := dk_112 (dk_at dksX3_doOrder_2 19 rfl rfl)
theorem dX3_doOrder_66 : decode cX3_doOrder 66 = .ok (.iconst 1, 1) := dk_4 (dk_at dksX3_doOrder_2 20 rfl rfl)
theorem dX3_doOrder_67 : decode cX3_doOrder 67 = .ok (.if_icmp .ne 33, 3) := dk_160 0 33 (dk_at dksX3_doOrder_2 21 rfl rfl)
theorem dX3_doOrder_70 : decode cX3_doOrder 70 = .ok (.iinc 7 1, 3) := dk_132 7 1 (dk_at dksX3_doOrder_3 0 rfl rfl)
theorem dX3_doOrder_73 : decode cX3_doOrder 73 = .ok (.iload 6, 2) := dk_21 6 (dk_at dksX3_doOrder_3 3 rfl rfl)
theorem dX3_doOrder_75 : decode cX3_doOrder 75 = .ok (.aload_n 0, 1) := dk_42 (dk_at dksX3_doOrder_3 5 rfl rfl)
theorem dX3_doOrder_76 : decode cX3_doOrder 76 = .ok (.iload_n 1, 1) := dk_27 (dk_at dksX3_doOrder_3 6 rfl rfl)
theorem dX3_doOrder_77 : decode cX3_doOrder 77 = .ok (.iload 8, 2) := dk_21 8 (dk_at dksX3_doOrder_3 7 rfl rfl)
theorem dX3_doOrder_79 : decode cX3_doOrder 79 = .ok (.iload 4, 2) := dk_21 4 (dk_at dksX3_doOrder_3 9 rfl rfl)
theorem dX3_doOrder_81 : decode cX3_doOrder 81 = .ok (.iload 5, 2) := dk_21 5 (dk_at dksX3_doOrder_3 11 rfl rfl)
theorem dX3_doOrder_83 : decode cX3_doOrder 83 = .ok (.invokevirtual 130, 3) := dk_182 0 130 (dk_at dksX3_doOrder_3 13 rfl rfl)
theorem dX3_doOrder_86 : decode cX3_doOrder 86 = .ok (.ifCond .eq 7, 3) := dk_153 0 7 (dk_at dksX3_doOrder_3 16 rfl rfl)
theorem dX3_doOrder_89 : decode cX3_doOrder 89 = .ok (.iconst 1, 1) := dk_4 (dk_at dksX3_doOrder_3 19 rfl rfl)
theorem dX3_doOrder_90 : decode cX3_doOrder 90 = .ok (.goto 4, 3) := dk_167 0 4 (dk_at dksX3_doOrder_3 20 rfl rfl)
theorem dX3_doOrder_93 : decode cX3_doOrder 93 = .ok (.iconst 0, 1) := dk_3 (dk_at dksX3_doOrder_3 23 rfl rfl)
theorem dX3_doOrder_94 : decode cX3_doOrder 94 = .ok (.iadd, 1) := dk_96 (dk_at dksX3_doOrder_4 0 rfl rfl)
theorem dX3_doOrder_95 : decode cX3_doOrder 95 = .ok (.istore 6, 2) := dk_54 6 (dk_at dksX3_doOrder_4 1 rfl rfl)
theorem dX3_doOrder_97 : decode cX3_doOrder 97 = .ok (.goto 34, 3) := dk_167 0 34 (dk_at dksX3_doOrder_4 3 rfl rfl)
theorem dX3_doOrder_100 : decode cX3_doOrder 100 = .ok (.aload_n 0, 1) := dk_42 (dk_at dksX3_doOrder_4 6 rfl rfl)
theorem dX3_doOrder_101 : decode cX3_doOrder 101 = .ok (.iload_n 1, 1) := dk_27 (dk_at dksX3_doOrder_4 7 rfl rfl)
theorem dX3_doOrder_102 : decode cX3_doOrder 102 = .ok (.iload 8, 2) := dk_21 8 (dk_at dksX3_doOrder_4 8 rfl rfl)
theorem dX3_doOrder_104 : decode cX3_doOrder 104 = .ok (.invokevirtual 92, 3) := dk_182 0 92 (dk_at dksX3_doOrder_4 10 rfl rfl)
theorem dX3_doOrder_107 : decode cX3_doOrder 107 = .ok (.ifCond .eq 24, 3) := dk_153 0 24 (dk_at dksX3_doOrder_4 13 rfl rfl)
theorem dX3_doOrder_110 : decode cX3_doOrder 110 = .ok (.aload_n 0, 1) := dk_42 (dk_at dksX3_doOrder_4 16 rfl rfl)
theorem dX3_doOrder_111 : decode cX3_doOrder 111 = .ok (.iload_n 1, 1) := dk_27 (dk_at dksX3_doOrder_4 17 rfl rfl)
theorem dX3_doOrder_112 : decode cX3_doOrder 112 = .ok (.iload 8, 2) := dk_21 8 (dk_at dksX3_doOrder_4 18 rfl rfl)
theorem dX3_doOrder_114 : decode cX3_doOrder 114 = .ok (.iload 4, 2) := dk_21 4 (dk_at dksX3_doOrder_4 20 rfl rfl)
theorem dX3_doOrder_116 : decode cX3_doOrder 116 = .ok (.iload 5, 2) := dk_21 5 (dk_at dksX3_doOrder_4 22 rfl rfl)
theorem dX3_doOrder_118 : decode cX3_doOrder 118 = .ok (.invokevirtual 130, 3) := dk_182 0 130 (dk_at dksX3_doOrder_5 0 rfl rfl)
theorem dX3_doOrder_121 : decode cX3_doOrder 121 = .ok (.ifCond .eq 7, 3) := dk_153 0 7 (dk_at dksX3_doOrder_5 3 rfl rfl)
theorem dX3_doOrder_124 : decode cX3_doOrder 124 = .ok (.iconst 1, 1) := dk_4 (dk_at dksX3_doOrder_5 6 rfl rfl)
theorem dX3_doOrder_125 : decode cX3_doOrder 125 = .ok (.goto 5, 3) := dk_167 0 5 (dk_at dksX3_doOrder_5 7 rfl rfl)
theorem dX3_doOrder_128 : decode cX3_doOrder 128 = .ok (.ldc 81, 2) := dk_18 81 (dk_at dksX3_doOrder_5 10 rfl rfl)
theorem dX3_doOrder_130 : decode cX3_doOrder 130 = .ok (.ireturn, 1) := dk_172 (dk_at dksX3_doOrder_5 12 rfl rfl)
theorem dX3_doOrder_131 : decode cX3_doOrder 131 = .ok (.iinc 8 1, 3) := dk_132 8 1 (dk_at dksX3_doOrder_5 13 rfl rfl)
theorem dX3_doOrder_134 : decode cX3_doOrder 134 = .ok (.goto (-105), 3) := dk_167 255 151 (dk_at dksX3_doOrder_5 16 rfl rfl)
theorem dX3_doOrder_137 : decode cX3_doOrder 137 = .ok (.iload_n 2, 1) := dk_28 (dk_at dksX3_doOrder_5 19 rfl rfl)
theorem dX3_doOrder_138 : decode cX3_doOrder 138 = .ok (.iconst 2, 1) := dk_5 (dk_at dksX3_doOrder_5 20 rfl rfl)
theorem dX3_doOrder_139 : decode cX3_doOrder 139 = .ok (.irem, 1) := dk_112 (dk_at dksX3_doOrder_5 21 rfl rfl)
theorem dX3_doOrder_140 : decode cX3_doOrder 140 = .ok (.ifCond .eq 13, 3) := dk_153 0 13 (dk_at dksX3_doOrder_6 0 rfl rfl)
theorem dX3_doOrder_143 : decode cX3_doOrder 143 = .ok (.iload 7, 2) := dk_21 7 (dk_at dksX3_doOrder_6 3 rfl rfl)
theorem dX3_doOrder_145 : decode cX3_doOrder 145 = .ok (.ifCond .le 13, 3) := dk_158 0 13 (dk_at dksX3_doOrder_6 5 rfl rfl)
theorem dX3_doOrder_148 : decode cX3_doOrder 148 = .ok (.iload 6, 2) := dk_21 6 (dk_at dksX3_doOrder_6 8 rfl rfl)
theorem dX3_doOrder_150 : decode cX3_doOrder 150 = .ok (.ifCond .ne 8, 3) := dk_154 0 8 (dk_at dksX3_doOrder_6 10 rfl rfl)
theorem dX3_doOrder_153 : decode cX3_doOrder 153 = .ok (.ldc 81, 2) := dk_18 81 (dk_at dksX3_doOrder_6 13 rfl rfl)
theorem dX3_doOrder_155 : decode cX3_doOrder 155 = .ok (.goto 5, 3) := dk_167 0 5 (dk_at dksX3_doOrder_6 15 rfl rfl)
theorem dX3_doOrder_158 : decode cX3_doOrder 158 = .ok (.iload 6, 2) := dk_21 6 (dk_at dksX3_doOrder_6 18 rfl rfl)
theorem dX3_doOrder_160 : decode cX3_doOrder 160 = .ok (.ireturn, 1) := dk_172 (dk_at dksX3_doOrder_6 20 rfl rfl)
abbrev cX3_isAsTold : ByteArray := prog_18_method_21_code
def yX3_isAsTold : MethodName := ⟨RX3, "isAsTold", "(IIII)Z"⟩
def dkwX3_isAsTold_7 : List UInt8 := [167, 255, 200, 132, 8, 1, 167, 255, 179, 21, 7, 172]
abbrev dktX3_isAsTold_7 : List UInt8 := dkwX3_isAsTold_7 ++ []
def dkwX3_isAsTold_6 : List UInt8 := [21, 8, 21, 9, 182, 0, 77, 46, 21, 4, 160, 0, 7, 4, 167, 0, 4, 3, 54, 7, 132, 9, 1]
abbrev dktX3_isAsTold_6 : List UInt8 := dkwX3_isAsTold_6 ++ dktX3_isAsTold_7
def dkwX3_isAsTold_5 : List UInt8 := [162, 0, 50, 21, 7, 154, 0, 32, 21, 5, 21, 8, 184, 0, 113, 153, 0, 26, 42, 180, 0, 21, 42, 27]
abbrev dktX3_isAsTold_5 : List UInt8 := dkwX3_isAsTold_5 ++ dktX3_isAsTold_6
def dkwX3_isAsTold_4 : List UInt8 := [21, 8, 16, 8, 162, 0, 76, 21, 6, 154, 0, 71, 3, 54, 9, 21, 9, 42, 27, 21, 8, 182, 0, 74]
abbrev dktX3_isAsTold_4 : List UInt8 := dkwX3_isAsTold_4 ++ dktX3_isAsTold_5
def dkwX3_isAsTold_3 : List UInt8 := [4, 100, 182, 0, 77, 46, 21, 4, 160, 0, 7, 4, 167, 0, 4, 3, 172, 3, 54, 7, 3, 54, 8]
abbrev dktX3_isAsTold_3 : List UInt8 := dkwX3_isAsTold_3 ++ dktX3_isAsTold_4
def dkwX3_isAsTold_2 : List UInt8 := [182, 0, 110, 54, 6, 29, 154, 0, 35, 21, 6, 158, 0, 28, 42, 180, 0, 21, 42, 27, 21, 5, 21, 6]
abbrev dktX3_isAsTold_2 : List UInt8 := dkwX3_isAsTold_2 ++ dktX3_isAsTold_3
def dkwX3_isAsTold_1 : List UInt8 := [3, 172, 42, 27, 28, 182, 0, 70, 155, 0, 5, 3, 172, 42, 27, 28, 182, 0, 82, 54, 5, 42, 27, 28]
abbrev dktX3_isAsTold_1 : List UInt8 := dkwX3_isAsTold_1 ++ dktX3_isAsTold_2
def dkwX3_isAsTold_0 : List UInt8 := [29, 4, 160, 0, 24, 42, 27, 28, 182, 0, 70, 155, 0, 13, 21, 4, 5, 160, 0, 7, 4, 167, 0, 4]
abbrev dktX3_isAsTold_0 : List UInt8 := dkwX3_isAsTold_0 ++ dktX3_isAsTold_1
theorem dksX3_isAsTold_0 : cX3_isAsTold.data.toList.drop 0 = dktX3_isAsTold_0 := by decide +kernel
theorem dksX3_isAsTold_1 : cX3_isAsTold.data.toList.drop 24 = dktX3_isAsTold_1 := dk_seg dksX3_isAsTold_0 24 rfl rfl
theorem dksX3_isAsTold_2 : cX3_isAsTold.data.toList.drop 48 = dktX3_isAsTold_2 := dk_seg dksX3_isAsTold_1 24 rfl rfl
theorem dksX3_isAsTold_3 : cX3_isAsTold.data.toList.drop 72 = dktX3_isAsTold_3 := dk_seg dksX3_isAsTold_2 24 rfl rfl
theorem dksX3_isAsTold_4 : cX3_isAsTold.data.toList.drop 95 = dktX3_isAsTold_4 := dk_seg dksX3_isAsTold_3 23 rfl rfl
theorem dksX3_isAsTold_5 : cX3_isAsTold.data.toList.drop 119 = dktX3_isAsTold_5 := dk_seg dksX3_isAsTold_4 24 rfl rfl
theorem dksX3_isAsTold_6 : cX3_isAsTold.data.toList.drop 143 = dktX3_isAsTold_6 := dk_seg dksX3_isAsTold_5 24 rfl rfl
theorem dksX3_isAsTold_7 : cX3_isAsTold.data.toList.drop 166 = dktX3_isAsTold_7 := dk_seg dksX3_isAsTold_6 23 rfl rfl
theorem dX3_isAsTold_0 : decode cX3_isAsTold 0 = .ok (.iload_n 3, 1) := dk_29 (dk_at dksX3_isAsTold_0 0 rfl rfl)
theorem dX3_isAsTold_1 : decode cX3_isAsTold 1 = .ok (.iconst 1, 1) := dk_4 (dk_at dksX3_isAsTold_0 1 rfl rfl)
theorem dX3_isAsTold_2 : decode cX3_isAsTold 2 = .ok (.if_icmp .ne 24, 3) := dk_160 0 24 (dk_at dksX3_isAsTold_0 2 rfl rfl)
theorem dX3_isAsTold_5 : decode cX3_isAsTold 5 = .ok (.aload_n 0, 1) := dk_42 (dk_at dksX3_isAsTold_0 5 rfl rfl)
theorem dX3_isAsTold_6 : decode cX3_isAsTold 6 = .ok (.iload_n 1, 1) := dk_27 (dk_at dksX3_isAsTold_0 6 rfl rfl)
theorem dX3_isAsTold_7 : decode cX3_isAsTold 7 = .ok (.iload_n 2, 1) := dk_28 (dk_at dksX3_isAsTold_0 7 rfl rfl)
theorem dX3_isAsTold_8 : decode cX3_isAsTold 8 = .ok (.invokevirtual 70, 3) := dk_182 0 70 (dk_at dksX3_isAsTold_0 8 rfl rfl)
theorem dX3_isAsTold_11 : decode cX3_isAsTold 11 = .ok (.ifCond .lt 13, 3) := dk_155 0 13 (dk_at dksX3_isAsTold_0 11 rfl rfl)
theorem dX3_isAsTold_14 : decode cX3_isAsTold 14 = .ok (.iload 4, 2) := dk_21 4 (dk_at dksX3_isAsTold_0 14 rfl rfl)
theorem dX3_isAsTold_16 : decode cX3_isAsTold 16 = .ok (.iconst 2, 1) := dk_5 (dk_at dksX3_isAsTold_0 16 rfl rfl)
theorem dX3_isAsTold_17 : decode cX3_isAsTold 17 = .ok (.if_icmp .ne 7, 3) := dk_160 0 7 (dk_at dksX3_isAsTold_0 17 rfl rfl)
theorem dX3_isAsTold_20 : decode cX3_isAsTold 20 = .ok (.iconst 1, 1) := dk_4 (dk_at dksX3_isAsTold_0 20 rfl rfl)
theorem dX3_isAsTold_21 : decode cX3_isAsTold 21 = .ok (.goto 4, 3) := dk_167 0 4 (dk_at dksX3_isAsTold_0 21 rfl rfl)
theorem dX3_isAsTold_24 : decode cX3_isAsTold 24 = .ok (.iconst 0, 1) := dk_3 (dk_at dksX3_isAsTold_1 0 rfl rfl)
theorem dX3_isAsTold_25 : decode cX3_isAsTold 25 = .ok (.ireturn, 1) := dk_172 (dk_at dksX3_isAsTold_1 1 rfl rfl)
theorem dX3_isAsTold_26 : decode cX3_isAsTold 26 = .ok (.aload_n 0, 1) := dk_42 (dk_at dksX3_isAsTold_1 2 rfl rfl)
theorem dX3_isAsTold_27 : decode cX3_isAsTold 27 = .ok (.iload_n 1, 1) := dk_27 (dk_at dksX3_isAsTold_1 3 rfl rfl)
theorem dX3_isAsTold_28 : decode cX3_isAsTold 28 = .ok (.iload_n 2, 1) := dk_28 (dk_at dksX3_isAsTold_1 4 rfl rfl)
theorem dX3_isAsTold_29 : decode cX3_isAsTold 29 = .ok (.invokevirtual 70, 3) := dk_182 0 70 (dk_at dksX3_isAsTold_1 5 rfl rfl)
theorem dX3_isAsTold_32 : decode cX3_isAsTold 32 = .ok (.ifCond .lt 5, 3) := dk_155 0 5 (dk_at dksX3_isAsTold_1 8 rfl rfl)
theorem dX3_isAsTold_35 : decode cX3_isAsTold 35 = .ok (.iconst 0, 1) := dk_3 (dk_at dksX3_isAsTold_1 11 rfl rfl)
theorem dX3_isAsTold_36 : decode cX3_isAsTold 36 = .ok (.ireturn, 1) := dk_172 (dk_at dksX3_isAsTold_1 12 rfl rfl)
theorem dX3_isAsTold_37 : decode cX3_isAsTold 37 = .ok (.aload_n 0, 1) := dk_42 (dk_at dksX3_isAsTold_1 13 rfl rfl)
theorem dX3_isAsTold_38 : decode cX3_isAsTold 38 = .ok (.iload_n 1, 1) := dk_27 (dk_at dksX3_isAsTold_1 14 rfl rfl)
theorem dX3_isAsTold_39 : decode cX3_isAsTold 39 = .ok (.iload_n 2, 1) := dk_28 (dk_at dksX3_isAsTold_1 15 rfl rfl)
theorem dX3_isAsTold_40 : decode cX3_isAsTold 40 = .ok (.invokevirtual 82, 3) := dk_182 0 82 (dk_at dksX3_isAsTold_1 16 rfl rfl)
theorem dX3_isAsTold_43 : decode cX3_isAsTold 43 = .ok (.istore 5, 2) := dk_54 5 (dk_at dksX3_isAsTold_1 19 rfl rfl)
theorem dX3_isAsTold_45 : decode cX3_isAsTold 45 = .ok (.aload_n 0, 1) := dk_42 (dk_at dksX3_isAsTold_1 21 rfl rfl)
theorem dX3_isAsTold_46 : decode cX3_isAsTold 46 = .ok (.iload_n 1, 1) := dk_27 (dk_at dksX3_isAsTold_1 22 rfl rfl)
theorem dX3_isAsTold_47 : decode cX3_isAsTold 47 = .ok (.iload_n 2, 1) := dk_28 (dk_at dksX3_isAsTold_1 23 rfl rfl)
theorem dX3_isAsTold_48 : decode cX3_isAsTold 48 = .ok (.invokevirtual 110, 3) := dk_182 0 110 (dk_at dksX3_isAsTold_2 0 rfl rfl)
theorem dX3_isAsTold_51 : decode cX3_isAsTold 51 = .ok (.istore 6, 2) := dk_54 6 (dk_at dksX3_isAsTold_2 3 rfl rfl)
theorem dX3_isAsTold_53 : decode cX3_isAsTold 53 = .ok (.iload_n 3, 1) := dk_29 (dk_at dksX3_isAsTold_2 5 rfl rfl)
theorem dX3_isAsTold_54 : decode cX3_isAsTold 54 = .ok (.ifCond .ne 35, 3) := dk_154 0 35 (dk_at dksX3_isAsTold_2 6 rfl rfl)
theorem dX3_isAsTold_57 : decode cX3_isAsTold 57 = .ok (.iload 6, 2) := dk_21 6 (dk_at dksX3_isAsTold_2 9 rfl rfl)
theorem dX3_isAsTold_59 : decode cX3_isAsTold 59 = .ok (.ifCond .le 28, 3) := dk_158 0 28 (dk_at dksX3_isAsTold_2 11 rfl rfl)
theorem dX3_isAsTold_62 : decode cX3_isAsTold 62 = .ok (.aload_n 0, 1) := dk_42 (dk_at dksX3_isAsTold_2 14 rfl rfl)
theorem dX3_isAsTold_63 : decode cX3_isAsTold 63 = .ok (.getfield 21, 3) := dk_180 0 21 (dk_at dksX3_isAsTold_2 15 rfl rfl)
theorem dX3_isAsTold_66 : decode cX3_isAsTold 66 = .ok (.aload_n 0, 1) := dk_42 (dk_at dksX3_isAsTold_2 18 rfl rfl)
theorem dX3_isAsTold_67 : decode cX3_isAsTold 67 = .ok (.iload_n 1, 1) := dk_27 (dk_at dksX3_isAsTold_2 19 rfl rfl)
theorem dX3_isAsTold_68 : decode cX3_isAsTold 68 = .ok (.iload 5, 2) := dk_21 5 (dk_at dksX3_isAsTold_2 20 rfl rfl)
theorem dX3_isAsTold_70 : decode cX3_isAsTold 70 = .ok (.iload 6, 2) := dk_21 6 (dk_at dksX3_isAsTold_2 22 rfl rfl)
theorem dX3_isAsTold_72 : decode cX3_isAsTold 72 = .ok (.iconst 1, 1) := dk_4 (dk_at dksX3_isAsTold_3 0 rfl rfl)
theorem dX3_isAsTold_73 : decode cX3_isAsTold 73 = .ok (.isub, 1) := dk_100 (dk_at dksX3_isAsTold_3 1 rfl rfl)
theorem dX3_isAsTold_74 : decode cX3_isAsTold 74 = .ok (.invokevirtual 77, 3) := dk_182 0 77 (dk_at dksX3_isAsTold_3 2 rfl rfl)
theorem dX3_isAsTold_77 : decode cX3_isAsTold 77 = .ok (.iaload, 1) := dk_46 (dk_at dksX3_isAsTold_3 5 rfl rfl)
theorem dX3_isAsTold_78 : decode cX3_isAsTold 78 = .ok (.iload 4, 2) := dk_21 4 (dk_at dksX3_isAsTold_3 6 rfl rfl)
theorem dX3_isAsTold_80 : decode cX3_isAsTold 80 = .ok (.if_icmp .ne 7, 3) := dk_160 0 7 (dk_at dksX3_isAsTold_3 8 rfl rfl)
theorem dX3_isAsTold_83 : decode cX3_isAsTold 83 = .ok (.iconst 1, 1) := dk_4 (dk_at dksX3_isAsTold_3 11 rfl rfl)
theorem dX3_isAsTold_84 : decode cX3_isAsTold 84 = .ok (.goto 4, 3) := dk_167 0 4 (dk_at dksX3_isAsTold_3 12 rfl rfl)
theorem dX3_isAsTold_87 : decode cX3_isAsTold 87 = .ok (.iconst 0, 1) := dk_3 (dk_at dksX3_isAsTold_3 15 rfl rfl)
theorem dX3_isAsTold_88 : decode cX3_isAsTold 88 = .ok (.ireturn, 1) := dk_172 (dk_at dksX3_isAsTold_3 16 rfl rfl)
theorem dX3_isAsTold_89 : decode cX3_isAsTold 89 = .ok (.iconst 0, 1) := dk_3 (dk_at dksX3_isAsTold_3 17 rfl rfl)
theorem dX3_isAsTold_90 : decode cX3_isAsTold 90 = .ok (.istore 7, 2) := dk_54 7 (dk_at dksX3_isAsTold_3 18 rfl rfl)
theorem dX3_isAsTold_92 : decode cX3_isAsTold 92 = .ok (.iconst 0, 1) := dk_3 (dk_at dksX3_isAsTold_3 20 rfl rfl)
theorem dX3_isAsTold_93 : decode cX3_isAsTold 93 = .ok (.istore 8, 2) := dk_54 8 (dk_at dksX3_isAsTold_3 21 rfl rfl)
theorem dX3_isAsTold_95 : decode cX3_isAsTold 95 = .ok (.iload 8, 2) := dk_21 8 (dk_at dksX3_isAsTold_4 0 rfl rfl)
theorem dX3_isAsTold_97 : decode cX3_isAsTold 97 = .ok (.bipush 8, 2) := dk_16 8 (dk_at dksX3_isAsTold_4 2 rfl rfl)
theorem dX3_isAsTold_99 : decode cX3_isAsTold 99 = .ok (.if_icmp .ge 76, 3) := dk_162 0 76 (dk_at dksX3_isAsTold_4 4 rfl rfl)
theorem dX3_isAsTold_102 : decode cX3_isAsTold 102 = .ok (.iload 6, 2) := dk_21 6 (dk_at dksX3_isAsTold_4 7 rfl rfl)
theorem dX3_isAsTold_104 : decode cX3_isAsTold 104 = .ok (.ifCond .ne 71, 3) := dk_154 0 71 (dk_at dksX3_isAsTold_4 9 rfl rfl)
theorem dX3_isAsTold_107 : decode cX3_isAsTold 107 = .ok (.iconst 0, 1) := dk_3 (dk_at dksX3_isAsTold_4 12 rfl rfl)
theorem dX3_isAsTold_108 : decode cX3_isAsTold 108 = .ok (.istore 9, 2) := dk_54 9 (dk_at dksX3_isAsTold_4 13 rfl rfl)
theorem dX3_isAsTold_110 : decode cX3_isAsTold 110 = .ok (.iload 9, 2) := dk_21 9 (dk_at dksX3_isAsTold_4 15 rfl rfl)
theorem dX3_isAsTold_112 : decode cX3_isAsTold 112 = .ok (.aload_n 0, 1) := dk_42 (dk_at dksX3_isAsTold_4 17 rfl rfl)
theorem dX3_isAsTold_113 : decode cX3_isAsTold 113 = .ok (.iload_n 1, 1) := dk_27 (dk_at dksX3_isAsTold_4 18 rfl rfl)
theorem dX3_isAsTold_114 : decode cX3_isAsTold 114 = .ok (.iload 8, 2) := dk_21 8 (dk_at dksX3_isAsTold_4 19 rfl rfl)
theorem dX3_isAsTold_116 : decode cX3_isAsTold 116 = .ok (.invokevirtual 74, 3) := dk_182 0 74 (dk_at dksX3_isAsTold_4 21 rfl rfl)
theorem dX3_isAsTold_119 : decode cX3_isAsTold 119 = .ok (.if_icmp .ge 50, 3) := dk_162 0 50 (dk_at dksX3_isAsTold_5 0 rfl rfl)
theorem dX3_isAsTold_122 : decode cX3_isAsTold 122 = .ok (.iload 7, 2) := dk_21 7 (dk_at dksX3_isAsTold_5 3 rfl rfl)
theorem dX3_isAsTold_124 : decode cX3_isAsTold 124 = .ok (.ifCond .ne 32, 3) := dk_154 0 32 (dk_at dksX3_isAsTold_5 5 rfl rfl)
theorem dX3_isAsTold_127 : decode cX3_isAsTold 127 = .ok (.iload 5, 2) := dk_21 5 (dk_at dksX3_isAsTold_5 8 rfl rfl)
theorem dX3_isAsTold_129 : decode cX3_isAsTold 129 = .ok (.iload 8, 2) := dk_21 8 (dk_at dksX3_isAsTold_5 10 rfl rfl)
theorem dX3_isAsTold_131 : decode cX3_isAsTold 131 = .ok (.invokestatic 113, 3) := dk_184 0 113 (dk_at dksX3_isAsTold_5 12 rfl rfl)
theorem dX3_isAsTold_134 : decode cX3_isAsTold 134 = .ok (.ifCond .eq 26, 3) := dk_153 0 26 (dk_at dksX3_isAsTold_5 15 rfl rfl)
theorem dX3_isAsTold_137 : decode cX3_isAsTold 137 = .ok (.aload_n 0, 1) := dk_42 (dk_at dksX3_isAsTold_5 18 rfl rfl)
theorem dX3_isAsTold_138 : decode cX3_isAsTold 138 = .ok (.getfield 21, 3) := dk_180 0 21 (dk_at dksX3_isAsTold_5 19 rfl rfl)
theorem dX3_isAsTold_141 : decode cX3_isAsTold 141 = .ok (.aload_n 0, 1) := dk_42 (dk_at dksX3_isAsTold_5 22 rfl rfl)
theorem dX3_isAsTold_142 : decode cX3_isAsTold 142 = .ok (.iload_n 1, 1) := dk_27 (dk_at dksX3_isAsTold_5 23 rfl rfl)
theorem dX3_isAsTold_143 : decode cX3_isAsTold 143 = .ok (.iload 8, 2) := dk_21 8 (dk_at dksX3_isAsTold_6 0 rfl rfl)
theorem dX3_isAsTold_145 : decode cX3_isAsTold 145 = .ok (.iload 9, 2) := dk_21 9 (dk_at dksX3_isAsTold_6 2 rfl rfl)
theorem dX3_isAsTold_147 : decode cX3_isAsTold 147 = .ok (.invokevirtual 77, 3) := dk_182 0 77 (dk_at dksX3_isAsTold_6 4 rfl rfl)
theorem dX3_isAsTold_150 : decode cX3_isAsTold 150 = .ok (.iaload, 1) := dk_46 (dk_at dksX3_isAsTold_6 7 rfl rfl)
theorem dX3_isAsTold_151 : decode cX3_isAsTold 151 = .ok (.iload 4, 2) := dk_21 4 (dk_at dksX3_isAsTold_6 8 rfl rfl)
theorem dX3_isAsTold_153 : decode cX3_isAsTold 153 = .ok (.if_icmp .ne 7, 3) := dk_160 0 7 (dk_at dksX3_isAsTold_6 10 rfl rfl)
theorem dX3_isAsTold_156 : decode cX3_isAsTold 156 = .ok (.iconst 1, 1) := dk_4 (dk_at dksX3_isAsTold_6 13 rfl rfl)
theorem dX3_isAsTold_157 : decode cX3_isAsTold 157 = .ok (.goto 4, 3) := dk_167 0 4 (dk_at dksX3_isAsTold_6 14 rfl rfl)
theorem dX3_isAsTold_160 : decode cX3_isAsTold 160 = .ok (.iconst 0, 1) := dk_3 (dk_at dksX3_isAsTold_6 17 rfl rfl)
theorem dX3_isAsTold_161 : decode cX3_isAsTold 161 = .ok (.istore 7, 2) := dk_54 7 (dk_at dksX3_isAsTold_6 18 rfl rfl)
theorem dX3_isAsTold_163 : decode cX3_isAsTold 163 = .ok (.iinc 9 1, 3) := dk_132 9 1 (dk_at dksX3_isAsTold_6 20 rfl rfl)
theorem dX3_isAsTold_166 : decode cX3_isAsTold 166 = .ok (.goto (-56), 3) := dk_167 255 200 (dk_at dksX3_isAsTold_7 0 rfl rfl)
theorem dX3_isAsTold_169 : decode cX3_isAsTold 169 = .ok (.iinc 8 1, 3) := dk_132 8 1 (dk_at dksX3_isAsTold_7 3 rfl rfl)
theorem dX3_isAsTold_172 : decode cX3_isAsTold 172 = .ok (.goto (-77), 3) := dk_167 255 179 (dk_at dksX3_isAsTold_7 6 rfl rfl)
theorem dX3_isAsTold_175 : decode cX3_isAsTold 175 = .ok (.iload 7, 2) := dk_21 7 (dk_at dksX3_isAsTold_7 9 rfl rfl)
theorem dX3_isAsTold_177 : decode cX3_isAsTold 177 = .ok (.ireturn, 1) := dk_172 (dk_at dksX3_isAsTold_7 11 rfl rfl)
abbrev cX3_boxOf : ByteArray := prog_18_method_9_code
def yX3_boxOf : MethodName := ⟨RX3, "boxOf", "(II)I"⟩
def dkwX3_boxOf_0 : List UInt8 := [42, 180, 0, 17, 16, 62, 27, 104, 16, 56, 96, 28, 96, 46, 172]
abbrev dktX3_boxOf_0 : List UInt8 := dkwX3_boxOf_0 ++ []
theorem dksX3_boxOf_0 : cX3_boxOf.data.toList.drop 0 = dktX3_boxOf_0 := by decide +kernel
theorem dX3_boxOf_0 : decode cX3_boxOf 0 = .ok (.aload_n 0, 1) := dk_42 (dk_at dksX3_boxOf_0 0 rfl rfl)
theorem dX3_boxOf_1 : decode cX3_boxOf 1 = .ok (.getfield 17, 3) := dk_180 0 17 (dk_at dksX3_boxOf_0 1 rfl rfl)
theorem dX3_boxOf_4 : decode cX3_boxOf 4 = .ok (.bipush 62, 2) := dk_16 62 (dk_at dksX3_boxOf_0 4 rfl rfl)
theorem dX3_boxOf_6 : decode cX3_boxOf 6 = .ok (.iload_n 1, 1) := dk_27 (dk_at dksX3_boxOf_0 6 rfl rfl)
theorem dX3_boxOf_7 : decode cX3_boxOf 7 = .ok (.imul, 1) := dk_104 (dk_at dksX3_boxOf_0 7 rfl rfl)
theorem dX3_boxOf_8 : decode cX3_boxOf 8 = .ok (.bipush 56, 2) := dk_16 56 (dk_at dksX3_boxOf_0 8 rfl rfl)
theorem dX3_boxOf_10 : decode cX3_boxOf 10 = .ok (.iadd, 1) := dk_96 (dk_at dksX3_boxOf_0 10 rfl rfl)
theorem dX3_boxOf_11 : decode cX3_boxOf 11 = .ok (.iload_n 2, 1) := dk_28 (dk_at dksX3_boxOf_0 11 rfl rfl)
theorem dX3_boxOf_12 : decode cX3_boxOf 12 = .ok (.iadd, 1) := dk_96 (dk_at dksX3_boxOf_0 12 rfl rfl)
theorem dX3_boxOf_13 : decode cX3_boxOf 13 = .ok (.iaload, 1) := dk_46 (dk_at dksX3_boxOf_0 13 rfl rfl)
theorem dX3_boxOf_14 : decode cX3_boxOf 14 = .ok (.ireturn, 1) := dk_172 (dk_at dksX3_boxOf_0 14 rfl rfl)
abbrev cX3_cellOf : ByteArray := prog_18_method_10_code
def yX3_cellOf : MethodName := ⟨RX3, "cellOf", "(II)I"⟩
def dkwX3_cellOf_3 : List UInt8 := [167, 255, 209, 18, 81, 172]
abbrev dktX3_cellOf_3 : List UInt8 := dkwX3_cellOf_3 ++ []
def dkwX3_cellOf_2 : List UInt8 := [21, 4, 21, 5, 182, 0, 77, 29, 160, 0, 6, 21, 4, 172, 132, 5, 1, 167, 255, 225, 132, 4, 1]
abbrev dktX3_cellOf_2 : List UInt8 := dkwX3_cellOf_2 ++ dktX3_cellOf_3
def dkwX3_cellOf_1 : List UInt8 := [21, 4, 16, 8, 162, 0, 46, 3, 54, 5, 21, 5, 42, 27, 21, 4, 182, 0, 74, 162, 0, 25, 42, 27]
abbrev dktX3_cellOf_1 : List UInt8 := dkwX3_cellOf_1 ++ dktX3_cellOf_2
def dkwX3_cellOf_0 : List UInt8 := [42, 27, 28, 182, 0, 70, 155, 0, 12, 42, 27, 28, 182, 0, 70, 167, 0, 4, 28, 62, 3, 54, 4]
abbrev dktX3_cellOf_0 : List UInt8 := dkwX3_cellOf_0 ++ dktX3_cellOf_1
theorem dksX3_cellOf_0 : cX3_cellOf.data.toList.drop 0 = dktX3_cellOf_0 := by decide +kernel
theorem dksX3_cellOf_1 : cX3_cellOf.data.toList.drop 23 = dktX3_cellOf_1 := dk_seg dksX3_cellOf_0 23 rfl rfl
theorem dksX3_cellOf_2 : cX3_cellOf.data.toList.drop 47 = dktX3_cellOf_2 := dk_seg dksX3_cellOf_1 24 rfl rfl
theorem dksX3_cellOf_3 : cX3_cellOf.data.toList.drop 70 = dktX3_cellOf_3 := dk_seg dksX3_cellOf_2 23 rfl rfl
theorem dX3_cellOf_0 : decode cX3_cellOf 0 = .ok (.aload_n 0, 1) := dk_42 (dk_at dksX3_cellOf_0 0 rfl rfl)
theorem dX3_cellOf_1 : decode cX3_cellOf 1 = .ok (.iload_n 1, 1) := dk_27 (dk_at dksX3_cellOf_0 1 rfl rfl)
theorem dX3_cellOf_2 : decode cX3_cellOf 2 = .ok (.iload_n 2, 1) := dk_28 (dk_at dksX3_cellOf_0 2 rfl rfl)
theorem dX3_cellOf_3 : decode cX3_cellOf 3 = .ok (.invokevirtual 70, 3) := dk_182 0 70 (dk_at dksX3_cellOf_0 3 rfl rfl)
theorem dX3_cellOf_6 : decode cX3_cellOf 6 = .ok (.ifCond .lt 12, 3) := dk_155 0 12 (dk_at dksX3_cellOf_0 6 rfl rfl)
theorem dX3_cellOf_9 : decode cX3_cellOf 9 = .ok (.aload_n 0, 1) := dk_42 (dk_at dksX3_cellOf_0 9 rfl rfl)
theorem dX3_cellOf_10 : decode cX3_cellOf 10 = .ok (.iload_n 1, 1) := dk_27 (dk_at dksX3_cellOf_0 10 rfl rfl)
theorem dX3_cellOf_11 : decode cX3_cellOf 11 = .ok (.iload_n 2, 1) := dk_28 (dk_at dksX3_cellOf_0 11 rfl rfl)
theorem dX3_cellOf_12 : decode cX3_cellOf 12 = .ok (.invokevirtual 70, 3) := dk_182 0 70 (dk_at dksX3_cellOf_0 12 rfl rfl)
theorem dX3_cellOf_15 : decode cX3_cellOf 15 = .ok (.goto 4, 3) := dk_167 0 4 (dk_at dksX3_cellOf_0 15 rfl rfl)
theorem dX3_cellOf_18 : decode cX3_cellOf 18 = .ok (.iload_n 2, 1) := dk_28 (dk_at dksX3_cellOf_0 18 rfl rfl)
theorem dX3_cellOf_19 : decode cX3_cellOf 19 = .ok (.istore_n 3, 1) := dk_62 (dk_at dksX3_cellOf_0 19 rfl rfl)
theorem dX3_cellOf_20 : decode cX3_cellOf 20 = .ok (.iconst 0, 1) := dk_3 (dk_at dksX3_cellOf_0 20 rfl rfl)
theorem dX3_cellOf_21 : decode cX3_cellOf 21 = .ok (.istore 4, 2) := dk_54 4 (dk_at dksX3_cellOf_0 21 rfl rfl)
theorem dX3_cellOf_23 : decode cX3_cellOf 23 = .ok (.iload 4, 2) := dk_21 4 (dk_at dksX3_cellOf_1 0 rfl rfl)
theorem dX3_cellOf_25 : decode cX3_cellOf 25 = .ok (.bipush 8, 2) := dk_16 8 (dk_at dksX3_cellOf_1 2 rfl rfl)
theorem dX3_cellOf_27 : decode cX3_cellOf 27 = .ok (.if_icmp .ge 46, 3) := dk_162 0 46 (dk_at dksX3_cellOf_1 4 rfl rfl)
theorem dX3_cellOf_30 : decode cX3_cellOf 30 = .ok (.iconst 0, 1) := dk_3 (dk_at dksX3_cellOf_1 7 rfl rfl)
theorem dX3_cellOf_31 : decode cX3_cellOf 31 = .ok (.istore 5, 2) := dk_54 5 (dk_at dksX3_cellOf_1 8 rfl rfl)
theorem dX3_cellOf_33 : decode cX3_cellOf 33 = .ok (.iload 5, 2) := dk_21 5 (dk_at dksX3_cellOf_1 10 rfl rfl)
theorem dX3_cellOf_35 : decode cX3_cellOf 35 = .ok (.aload_n 0, 1) := dk_42 (dk_at dksX3_cellOf_1 12 rfl rfl)
theorem dX3_cellOf_36 : decode cX3_cellOf 36 = .ok (.iload_n 1, 1) := dk_27 (dk_at dksX3_cellOf_1 13 rfl rfl)
theorem dX3_cellOf_37 : decode cX3_cellOf 37 = .ok (.iload 4, 2) := dk_21 4 (dk_at dksX3_cellOf_1 14 rfl rfl)
theorem dX3_cellOf_39 : decode cX3_cellOf 39 = .ok (.invokevirtual 74, 3) := dk_182 0 74 (dk_at dksX3_cellOf_1 16 rfl rfl)
theorem dX3_cellOf_42 : decode cX3_cellOf 42 = .ok (.if_icmp .ge 25, 3) := dk_162 0 25 (dk_at dksX3_cellOf_1 19 rfl rfl)
theorem dX3_cellOf_45 : decode cX3_cellOf 45 = .ok (.aload_n 0, 1) := dk_42 (dk_at dksX3_cellOf_1 22 rfl rfl)
theorem dX3_cellOf_46 : decode cX3_cellOf 46 = .ok (.iload_n 1, 1) := dk_27 (dk_at dksX3_cellOf_1 23 rfl rfl)
theorem dX3_cellOf_47 : decode cX3_cellOf 47 = .ok (.iload 4, 2) := dk_21 4 (dk_at dksX3_cellOf_2 0 rfl rfl)
theorem dX3_cellOf_49 : decode cX3_cellOf 49 = .ok (.iload 5, 2) := dk_21 5 (dk_at dksX3_cellOf_2 2 rfl rfl)
theorem dX3_cellOf_51 : decode cX3_cellOf 51 = .ok (.invokevirtual 77, 3) := dk_182 0 77 (dk_at dksX3_cellOf_2 4 rfl rfl)
theorem dX3_cellOf_54 : decode cX3_cellOf 54 = .ok (.iload_n 3, 1) := dk_29 (dk_at dksX3_cellOf_2 7 rfl rfl)
theorem dX3_cellOf_55 : decode cX3_cellOf 55 = .ok (.if_icmp .ne 6, 3) := dk_160 0 6 (dk_at dksX3_cellOf_2 8 rfl rfl)
theorem dX3_cellOf_58 : decode cX3_cellOf 58 = .ok (.iload 4, 2) := dk_21 4 (dk_at dksX3_cellOf_2 11 rfl rfl)
theorem dX3_cellOf_60 : decode cX3_cellOf 60 = .ok (.ireturn, 1) := dk_172 (dk_at dksX3_cellOf_2 13 rfl rfl)
theorem dX3_cellOf_61 : decode cX3_cellOf 61 = .ok (.iinc 5 1, 3) := dk_132 5 1 (dk_at dksX3_cellOf_2 14 rfl rfl)
theorem dX3_cellOf_64 : decode cX3_cellOf 64 = .ok (.goto (-31), 3) := dk_167 255 225 (dk_at dksX3_cellOf_2 17 rfl rfl)
theorem dX3_cellOf_67 : decode cX3_cellOf 67 = .ok (.iinc 4 1, 3) := dk_132 4 1 (dk_at dksX3_cellOf_2 20 rfl rfl)
theorem dX3_cellOf_70 : decode cX3_cellOf 70 = .ok (.goto (-47), 3) := dk_167 255 209 (dk_at dksX3_cellOf_3 0 rfl rfl)
theorem dX3_cellOf_73 : decode cX3_cellOf 73 = .ok (.ldc 81, 2) := dk_18 81 (dk_at dksX3_cellOf_3 3 rfl rfl)
theorem dX3_cellOf_75 : decode cX3_cellOf 75 = .ok (.ireturn, 1) := dk_172 (dk_at dksX3_cellOf_3 5 rfl rfl)
abbrev cX3_sizeOf : ByteArray := prog_18_method_7_code
def yX3_sizeOf : MethodName := ⟨RX3, "sizeOf", "(II)I"⟩
def dkwX3_sizeOf_0 : List UInt8 := [42, 180, 0, 17, 16, 62, 27, 104, 16, 7, 28, 104, 96, 46, 172]
abbrev dktX3_sizeOf_0 : List UInt8 := dkwX3_sizeOf_0 ++ []
theorem dksX3_sizeOf_0 : cX3_sizeOf.data.toList.drop 0 = dktX3_sizeOf_0 := by decide +kernel
theorem dX3_sizeOf_0 : decode cX3_sizeOf 0 = .ok (.aload_n 0, 1) := dk_42 (dk_at dksX3_sizeOf_0 0 rfl rfl)
theorem dX3_sizeOf_1 : decode cX3_sizeOf 1 = .ok (.getfield 17, 3) := dk_180 0 17 (dk_at dksX3_sizeOf_0 1 rfl rfl)
theorem dX3_sizeOf_4 : decode cX3_sizeOf 4 = .ok (.bipush 62, 2) := dk_16 62 (dk_at dksX3_sizeOf_0 4 rfl rfl)
theorem dX3_sizeOf_6 : decode cX3_sizeOf 6 = .ok (.iload_n 1, 1) := dk_27 (dk_at dksX3_sizeOf_0 6 rfl rfl)
theorem dX3_sizeOf_7 : decode cX3_sizeOf 7 = .ok (.imul, 1) := dk_104 (dk_at dksX3_sizeOf_0 7 rfl rfl)
theorem dX3_sizeOf_8 : decode cX3_sizeOf 8 = .ok (.bipush 7, 2) := dk_16 7 (dk_at dksX3_sizeOf_0 8 rfl rfl)
theorem dX3_sizeOf_10 : decode cX3_sizeOf 10 = .ok (.iload_n 2, 1) := dk_28 (dk_at dksX3_sizeOf_0 10 rfl rfl)
theorem dX3_sizeOf_11 : decode cX3_sizeOf 11 = .ok (.imul, 1) := dk_104 (dk_at dksX3_sizeOf_0 11 rfl rfl)
theorem dX3_sizeOf_12 : decode cX3_sizeOf 12 = .ok (.iadd, 1) := dk_96 (dk_at dksX3_sizeOf_0 12 rfl rfl)
theorem dX3_sizeOf_13 : decode cX3_sizeOf 13 = .ok (.iaload, 1) := dk_46 (dk_at dksX3_sizeOf_0 13 rfl rfl)
theorem dX3_sizeOf_14 : decode cX3_sizeOf 14 = .ok (.ireturn, 1) := dk_172 (dk_at dksX3_sizeOf_0 14 rfl rfl)
abbrev cX3_thingAt : ByteArray := prog_18_method_8_code
def yX3_thingAt : MethodName := ⟨RX3, "thingAt", "(III)I"⟩
def dkwX3_thingAt_0 : List UInt8 := [42, 180, 0, 17, 16, 62, 27, 104, 16, 7, 28, 104, 96, 4, 96, 29, 96, 46, 172]
abbrev dktX3_thingAt_0 : List UInt8 := dkwX3_thingAt_0 ++ []
theorem dksX3_thingAt_0 : cX3_thingAt.data.toList.drop 0 = dktX3_thingAt_0 := by decide +kernel
theorem dX3_thingAt_0 : decode cX3_thingAt 0 = .ok (.aload_n 0, 1) := dk_42 (dk_at dksX3_thingAt_0 0 rfl rfl)
theorem dX3_thingAt_1 : decode cX3_thingAt 1 = .ok (.getfield 17, 3) := dk_180 0 17 (dk_at dksX3_thingAt_0 1 rfl rfl)
theorem dX3_thingAt_4 : decode cX3_thingAt 4 = .ok (.bipush 62, 2) := dk_16 62 (dk_at dksX3_thingAt_0 4 rfl rfl)
theorem dX3_thingAt_6 : decode cX3_thingAt 6 = .ok (.iload_n 1, 1) := dk_27 (dk_at dksX3_thingAt_0 6 rfl rfl)
theorem dX3_thingAt_7 : decode cX3_thingAt 7 = .ok (.imul, 1) := dk_104 (dk_at dksX3_thingAt_0 7 rfl rfl)
theorem dX3_thingAt_8 : decode cX3_thingAt 8 = .ok (.bipush 7, 2) := dk_16 7 (dk_at dksX3_thingAt_0 8 rfl rfl)
theorem dX3_thingAt_10 : decode cX3_thingAt 10 = .ok (.iload_n 2, 1) := dk_28 (dk_at dksX3_thingAt_0 10 rfl rfl)
theorem dX3_thingAt_11 : decode cX3_thingAt 11 = .ok (.imul, 1) := dk_104 (dk_at dksX3_thingAt_0 11 rfl rfl)
theorem dX3_thingAt_12 : decode cX3_thingAt 12 = .ok (.iadd, 1) := dk_96 (dk_at dksX3_thingAt_0 12 rfl rfl)
theorem dX3_thingAt_13 : decode cX3_thingAt 13 = .ok (.iconst 1, 1) := dk_4 (dk_at dksX3_thingAt_0 13 rfl rfl)
theorem dX3_thingAt_14 : decode cX3_thingAt 14 = .ok (.iadd, 1) := dk_96 (dk_at dksX3_thingAt_0 14 rfl rfl)
theorem dX3_thingAt_15 : decode cX3_thingAt 15 = .ok (.iload_n 3, 1) := dk_29 (dk_at dksX3_thingAt_0 15 rfl rfl)
theorem dX3_thingAt_16 : decode cX3_thingAt 16 = .ok (.iadd, 1) := dk_96 (dk_at dksX3_thingAt_0 16 rfl rfl)
theorem dX3_thingAt_17 : decode cX3_thingAt 17 = .ok (.iaload, 1) := dk_46 (dk_at dksX3_thingAt_0 17 rfl rfl)
theorem dX3_thingAt_18 : decode cX3_thingAt 18 = .ok (.ireturn, 1) := dk_172 (dk_at dksX3_thingAt_0 18 rfl rfl)
abbrev cX3_below : ByteArray := prog_18_method_11_code
def yX3_below : MethodName := ⟨RX3, "below", "(II)I"⟩
def dkwX3_below_1 : List UInt8 := [132, 4, 1, 167, 255, 241, 21, 4, 172]
abbrev dktX3_below_1 : List UInt8 := dkwX3_below_1 ++ []
def dkwX3_below_0 : List UInt8 := [42, 27, 28, 182, 0, 82, 62, 3, 54, 4, 42, 27, 29, 21, 4, 182, 0, 77, 28, 159, 0, 9]
abbrev dktX3_below_0 : List UInt8 := dkwX3_below_0 ++ dktX3_below_1
theorem dksX3_below_0 : cX3_below.data.toList.drop 0 = dktX3_below_0 := by decide +kernel
theorem dksX3_below_1 : cX3_below.data.toList.drop 22 = dktX3_below_1 := dk_seg dksX3_below_0 22 rfl rfl
theorem dX3_below_0 : decode cX3_below 0 = .ok (.aload_n 0, 1) := dk_42 (dk_at dksX3_below_0 0 rfl rfl)
theorem dX3_below_1 : decode cX3_below 1 = .ok (.iload_n 1, 1) := dk_27 (dk_at dksX3_below_0 1 rfl rfl)
theorem dX3_below_2 : decode cX3_below 2 = .ok (.iload_n 2, 1) := dk_28 (dk_at dksX3_below_0 2 rfl rfl)
theorem dX3_below_3 : decode cX3_below 3 = .ok (.invokevirtual 82, 3) := dk_182 0 82 (dk_at dksX3_below_0 3 rfl rfl)
theorem dX3_below_6 : decode cX3_below 6 = .ok (.istore_n 3, 1) := dk_62 (dk_at dksX3_below_0 6 rfl rfl)
theorem dX3_below_7 : decode cX3_below 7 = .ok (.iconst 0, 1) := dk_3 (dk_at dksX3_below_0 7 rfl rfl)
theorem dX3_below_8 : decode cX3_below 8 = .ok (.istore 4, 2) := dk_54 4 (dk_at dksX3_below_0 8 rfl rfl)
theorem dX3_below_10 : decode cX3_below 10 = .ok (.aload_n 0, 1) := dk_42 (dk_at dksX3_below_0 10 rfl rfl)
theorem dX3_below_11 : decode cX3_below 11 = .ok (.iload_n 1, 1) := dk_27 (dk_at dksX3_below_0 11 rfl rfl)
theorem dX3_below_12 : decode cX3_below 12 = .ok (.iload_n 3, 1) := dk_29 (dk_at dksX3_below_0 12 rfl rfl)
theorem dX3_below_13 : decode cX3_below 13 = .ok (.iload 4, 2) := dk_21 4 (dk_at dksX3_below_0 13 rfl rfl)
theorem dX3_below_15 : decode cX3_below 15 = .ok (.invokevirtual 77, 3) := dk_182 0 77 (dk_at dksX3_below_0 15 rfl rfl)
theorem dX3_below_18 : decode cX3_below 18 = .ok (.iload_n 2, 1) := dk_28 (dk_at dksX3_below_0 18 rfl rfl)
theorem dX3_below_19 : decode cX3_below 19 = .ok (.if_icmp .eq 9, 3) := dk_159 0 9 (dk_at dksX3_below_0 19 rfl rfl)
theorem dX3_below_22 : decode cX3_below 22 = .ok (.iinc 4 1, 3) := dk_132 4 1 (dk_at dksX3_below_1 0 rfl rfl)
theorem dX3_below_25 : decode cX3_below 25 = .ok (.goto (-15), 3) := dk_167 255 241 (dk_at dksX3_below_1 3 rfl rfl)
theorem dX3_below_28 : decode cX3_below 28 = .ok (.iload 4, 2) := dk_21 4 (dk_at dksX3_below_1 6 rfl rfl)
theorem dX3_below_30 : decode cX3_below 30 = .ok (.ireturn, 1) := dk_172 (dk_at dksX3_below_1 8 rfl rfl)
abbrev cX3_isNeighbour : ByteArray := prog_18_method_20_code
def yX3_isNeighbour : MethodName := ⟨RX3, "isNeighbour", "(II)Z"⟩
def dkwX3_isNeighbour_1 : List UInt8 := [160, 0, 7, 4, 167, 0, 4, 3, 172]
abbrev dktX3_isNeighbour_1 : List UInt8 := dkwX3_isNeighbour_1 ++ []
def dkwX3_isNeighbour_0 : List UInt8 := [26, 7, 112, 27, 7, 112, 100, 61, 26, 7, 108, 27, 7, 108, 100, 62, 28, 28, 104, 29, 29, 104, 96, 4]
abbrev dktX3_isNeighbour_0 : List UInt8 := dkwX3_isNeighbour_0 ++ dktX3_isNeighbour_1
theorem dksX3_isNeighbour_0 : cX3_isNeighbour.data.toList.drop 0 = dktX3_isNeighbour_0 := by decide +kernel
theorem dksX3_isNeighbour_1 : cX3_isNeighbour.data.toList.drop 24 = dktX3_isNeighbour_1 := dk_seg dksX3_isNeighbour_0 24 rfl rfl
theorem dX3_isNeighbour_0 : decode cX3_isNeighbour 0 = .ok (.iload_n 0, 1) := dk_26 (dk_at dksX3_isNeighbour_0 0 rfl rfl)
theorem dX3_isNeighbour_1 : decode cX3_isNeighbour 1 = .ok (.iconst 4, 1) := dk_7 (dk_at dksX3_isNeighbour_0 1 rfl rfl)
theorem dX3_isNeighbour_2 : decode cX3_isNeighbour 2 = .ok (.irem, 1) := dk_112 (dk_at dksX3_isNeighbour_0 2 rfl rfl)
theorem dX3_isNeighbour_3 : decode cX3_isNeighbour 3 = .ok (.iload_n 1, 1) := dk_27 (dk_at dksX3_isNeighbour_0 3 rfl rfl)
theorem dX3_isNeighbour_4 : decode cX3_isNeighbour 4 = .ok (.iconst 4, 1) := dk_7 (dk_at dksX3_isNeighbour_0 4 rfl rfl)
theorem dX3_isNeighbour_5 : decode cX3_isNeighbour 5 = .ok (.irem, 1) := dk_112 (dk_at dksX3_isNeighbour_0 5 rfl rfl)
theorem dX3_isNeighbour_6 : decode cX3_isNeighbour 6 = .ok (.isub, 1) := dk_100 (dk_at dksX3_isNeighbour_0 6 rfl rfl)
theorem dX3_isNeighbour_7 : decode cX3_isNeighbour 7 = .ok (.istore_n 2, 1) := dk_61 (dk_at dksX3_isNeighbour_0 7 rfl rfl)
theorem dX3_isNeighbour_8 : decode cX3_isNeighbour 8 = .ok (.iload_n 0, 1) := dk_26 (dk_at dksX3_isNeighbour_0 8 rfl rfl)
theorem dX3_isNeighbour_9 : decode cX3_isNeighbour 9 = .ok (.iconst 4, 1) := dk_7 (dk_at dksX3_isNeighbour_0 9 rfl rfl)
theorem dX3_isNeighbour_10 : decode cX3_isNeighbour 10 = .ok (.idiv, 1) := dk_108 (dk_at dksX3_isNeighbour_0 10 rfl rfl)
theorem dX3_isNeighbour_11 : decode cX3_isNeighbour 11 = .ok (.iload_n 1, 1) := dk_27 (dk_at dksX3_isNeighbour_0 11 rfl rfl)
theorem dX3_isNeighbour_12 : decode cX3_isNeighbour 12 = .ok (.iconst 4, 1) := dk_7 (dk_at dksX3_isNeighbour_0 12 rfl rfl)
theorem dX3_isNeighbour_13 : decode cX3_isNeighbour 13 = .ok (.idiv, 1) := dk_108 (dk_at dksX3_isNeighbour_0 13 rfl rfl)
theorem dX3_isNeighbour_14 : decode cX3_isNeighbour 14 = .ok (.isub, 1) := dk_100 (dk_at dksX3_isNeighbour_0 14 rfl rfl)
theorem dX3_isNeighbour_15 : decode cX3_isNeighbour 15 = .ok (.istore_n 3, 1) := dk_62 (dk_at dksX3_isNeighbour_0 15 rfl rfl)
theorem dX3_isNeighbour_16 : decode cX3_isNeighbour 16 = .ok (.iload_n 2, 1) := dk_28 (dk_at dksX3_isNeighbour_0 16 rfl rfl)
theorem dX3_isNeighbour_17 : decode cX3_isNeighbour 17 = .ok (.iload_n 2, 1) := dk_28 (dk_at dksX3_isNeighbour_0 17 rfl rfl)
theorem dX3_isNeighbour_18 : decode cX3_isNeighbour 18 = .ok (.imul, 1) := dk_104 (dk_at dksX3_isNeighbour_0 18 rfl rfl)
theorem dX3_isNeighbour_19 : decode cX3_isNeighbour 19 = .ok (.iload_n 3, 1) := dk_29 (dk_at dksX3_isNeighbour_0 19 rfl rfl)
theorem dX3_isNeighbour_20 : decode cX3_isNeighbour 20 = .ok (.iload_n 3, 1) := dk_29 (dk_at dksX3_isNeighbour_0 20 rfl rfl)
theorem dX3_isNeighbour_21 : decode cX3_isNeighbour 21 = .ok (.imul, 1) := dk_104 (dk_at dksX3_isNeighbour_0 21 rfl rfl)
theorem dX3_isNeighbour_22 : decode cX3_isNeighbour 22 = .ok (.iadd, 1) := dk_96 (dk_at dksX3_isNeighbour_0 22 rfl rfl)
theorem dX3_isNeighbour_23 : decode cX3_isNeighbour 23 = .ok (.iconst 1, 1) := dk_4 (dk_at dksX3_isNeighbour_0 23 rfl rfl)
theorem dX3_isNeighbour_24 : decode cX3_isNeighbour 24 = .ok (.if_icmp .ne 7, 3) := dk_160 0 7 (dk_at dksX3_isNeighbour_1 0 rfl rfl)
theorem dX3_isNeighbour_27 : decode cX3_isNeighbour 27 = .ok (.iconst 1, 1) := dk_4 (dk_at dksX3_isNeighbour_1 3 rfl rfl)
theorem dX3_isNeighbour_28 : decode cX3_isNeighbour 28 = .ok (.goto 4, 3) := dk_167 0 4 (dk_at dksX3_isNeighbour_1 4 rfl rfl)
theorem dX3_isNeighbour_31 : decode cX3_isNeighbour 31 = .ok (.iconst 0, 1) := dk_3 (dk_at dksX3_isNeighbour_1 7 rfl rfl)
theorem dX3_isNeighbour_32 : decode cX3_isNeighbour 32 = .ok (.ireturn, 1) := dk_172 (dk_at dksX3_isNeighbour_1 8 rfl rfl)
abbrev cX3_isPut : ByteArray := prog_18_method_23_code
def yX3_isPut : MethodName := ⟨RX3, "isPut", "(IIII)Z"⟩
def dkwX3_isPut_1 : List UInt8 := [182, 0, 120, 154, 0, 5, 3, 172, 42, 27, 28, 21, 5, 182, 0, 123, 4, 172]
abbrev dktX3_isPut_1 : List UInt8 := dkwX3_isPut_1 ++ []
def dkwX3_isPut_0 : List UInt8 := [42, 27, 28, 29, 21, 4, 182, 0, 116, 54, 5, 21, 5, 18, 81, 159, 0, 14, 42, 27, 28, 21, 5]
abbrev dktX3_isPut_0 : List UInt8 := dkwX3_isPut_0 ++ dktX3_isPut_1
theorem dksX3_isPut_0 : cX3_isPut.data.toList.drop 0 = dktX3_isPut_0 := by decide +kernel
theorem dksX3_isPut_1 : cX3_isPut.data.toList.drop 23 = dktX3_isPut_1 := dk_seg dksX3_isPut_0 23 rfl rfl
theorem dX3_isPut_0 : decode cX3_isPut 0 = .ok (.aload_n 0, 1) := dk_42 (dk_at dksX3_isPut_0 0 rfl rfl)
theorem dX3_isPut_1 : decode cX3_isPut 1 = .ok (.iload_n 1, 1) := dk_27 (dk_at dksX3_isPut_0 1 rfl rfl)
theorem dX3_isPut_2 : decode cX3_isPut 2 = .ok (.iload_n 2, 1) := dk_28 (dk_at dksX3_isPut_0 2 rfl rfl)
theorem dX3_isPut_3 : decode cX3_isPut 3 = .ok (.iload_n 3, 1) := dk_29 (dk_at dksX3_isPut_0 3 rfl rfl)
theorem dX3_isPut_4 : decode cX3_isPut 4 = .ok (.iload 4, 2) := dk_21 4 (dk_at dksX3_isPut_0 4 rfl rfl)
theorem dX3_isPut_6 : decode cX3_isPut 6 = .ok (.invokevirtual 116, 3) := dk_182 0 116 (dk_at dksX3_isPut_0 6 rfl rfl)
theorem dX3_isPut_9 : decode cX3_isPut 9 = .ok (.istore 5, 2) := dk_54 5 (dk_at dksX3_isPut_0 9 rfl rfl)
theorem dX3_isPut_11 : decode cX3_isPut 11 = .ok (.iload 5, 2) := dk_21 5 (dk_at dksX3_isPut_0 11 rfl rfl)
theorem dX3_isPut_13 : decode cX3_isPut 13 = .ok (.ldc 81, 2) := dk_18 81 (dk_at dksX3_isPut_0 13 rfl rfl)
theorem dX3_isPut_15 : decode cX3_isPut 15 = .ok (.if_icmp .eq 14, 3) := dk_159 0 14 (dk_at dksX3_isPut_0 15 rfl rfl)
theorem dX3_isPut_18 : decode cX3_isPut 18 = .ok (.aload_n 0, 1) := dk_42 (dk_at dksX3_isPut_0 18 rfl rfl)
theorem dX3_isPut_19 : decode cX3_isPut 19 = .ok (.iload_n 1, 1) := dk_27 (dk_at dksX3_isPut_0 19 rfl rfl)
theorem dX3_isPut_20 : decode cX3_isPut 20 = .ok (.iload_n 2, 1) := dk_28 (dk_at dksX3_isPut_0 20 rfl rfl)
theorem dX3_isPut_21 : decode cX3_isPut 21 = .ok (.iload 5, 2) := dk_21 5 (dk_at dksX3_isPut_0 21 rfl rfl)
theorem dX3_isPut_23 : decode cX3_isPut 23 = .ok (.invokevirtual 120, 3) := dk_182 0 120 (dk_at dksX3_isPut_1 0 rfl rfl)
theorem dX3_isPut_26 : decode cX3_isPut 26 = .ok (.ifCond .ne 5, 3) := dk_154 0 5 (dk_at dksX3_isPut_1 3 rfl rfl)
theorem dX3_isPut_29 : decode cX3_isPut 29 = .ok (.iconst 0, 1) := dk_3 (dk_at dksX3_isPut_1 6 rfl rfl)
theorem dX3_isPut_30 : decode cX3_isPut 30 = .ok (.ireturn, 1) := dk_172 (dk_at dksX3_isPut_1 7 rfl rfl)
theorem dX3_isPut_31 : decode cX3_isPut 31 = .ok (.aload_n 0, 1) := dk_42 (dk_at dksX3_isPut_1 8 rfl rfl)
theorem dX3_isPut_32 : decode cX3_isPut 32 = .ok (.iload_n 1, 1) := dk_27 (dk_at dksX3_isPut_1 9 rfl rfl)
theorem dX3_isPut_33 : decode cX3_isPut 33 = .ok (.iload_n 2, 1) := dk_28 (dk_at dksX3_isPut_1 10 rfl rfl)
theorem dX3_isPut_34 : decode cX3_isPut 34 = .ok (.iload 5, 2) := dk_21 5 (dk_at dksX3_isPut_1 11 rfl rfl)
theorem dX3_isPut_36 : decode cX3_isPut 36 = .ok (.invokevirtual 123, 3) := dk_182 0 123 (dk_at dksX3_isPut_1 13 rfl rfl)
theorem dX3_isPut_39 : decode cX3_isPut 39 = .ok (.iconst 1, 1) := dk_4 (dk_at dksX3_isPut_1 16 rfl rfl)
theorem dX3_isPut_40 : decode cX3_isPut 40 = .ok (.ireturn, 1) := dk_172 (dk_at dksX3_isPut_1 17 rfl rfl)
abbrev cX3_whereTo : ByteArray := prog_18_method_22_code
def yX3_whereTo : MethodName := ⟨RX3, "whereTo", "(IIII)I"⟩
def dkwX3_whereTo_8 : List UInt8 := [18, 81, 172]
abbrev dktX3_whereTo_8 : List UInt8 := dkwX3_whereTo_8 ++ []
def dkwX3_whereTo_7 : List UInt8 := [182, 0, 74, 154, 0, 6, 21, 7, 172, 132, 7, 1, 167, 255, 223, 18, 81, 172, 132, 5, 1, 167, 255, 141]
abbrev dktX3_whereTo_7 : List UInt8 := dkwX3_whereTo_7 ++ dktX3_whereTo_8
def dkwX3_whereTo_6 : List UInt8 := [54, 7, 21, 7, 16, 8, 162, 0, 32, 21, 6, 21, 7, 184, 0, 113, 153, 0, 16, 42, 27, 21, 7]
abbrev dktX3_whereTo_6 : List UInt8 := dkwX3_whereTo_6 ++ dktX3_whereTo_7
def dkwX3_whereTo_5 : List UInt8 := [182, 0, 70, 156, 0, 61, 42, 27, 21, 5, 182, 0, 82, 54, 6, 29, 154, 0, 6, 21, 6, 172, 3]
abbrev dktX3_whereTo_5 : List UInt8 := dkwX3_whereTo_5 ++ dktX3_whereTo_6
def dkwX3_whereTo_4 : List UInt8 := [160, 0, 88, 29, 154, 0, 16, 42, 27, 21, 5, 182, 0, 88, 153, 0, 74, 167, 0, 13, 42, 27, 21, 5]
abbrev dktX3_whereTo_4 : List UInt8 := dkwX3_whereTo_4 ++ dktX3_whereTo_5
def dkwX3_whereTo_3 : List UInt8 := [21, 5, 42, 180, 0, 85, 162, 0, 112, 21, 5, 28, 159, 0, 100, 42, 180, 0, 21, 21, 5, 46, 21, 4]
abbrev dktX3_whereTo_3 : List UInt8 := dkwX3_whereTo_3 ++ dktX3_whereTo_4
def dkwX3_whereTo_2 : List UInt8 := [182, 0, 95, 156, 0, 9, 16, 8, 21, 5, 96, 172, 132, 5, 1, 167, 255, 201, 18, 81, 172, 3, 54, 5]
abbrev dktX3_whereTo_2 : List UInt8 := dkwX3_whereTo_2 ++ dktX3_whereTo_3
def dkwX3_whereTo_1 : List UInt8 := [180, 0, 21, 21, 5, 46, 5, 160, 0, 29, 42, 27, 21, 5, 182, 0, 88, 153, 0, 19, 42, 27, 21, 5]
abbrev dktX3_whereTo_1 : List UInt8 := dkwX3_whereTo_1 ++ dktX3_whereTo_2
def dkwX3_whereTo_0 : List UInt8 := [29, 4, 160, 0, 67, 3, 54, 5, 21, 5, 42, 180, 0, 85, 162, 0, 52, 21, 4, 5, 160, 0, 40, 42]
abbrev dktX3_whereTo_0 : List UInt8 := dkwX3_whereTo_0 ++ dktX3_whereTo_1
theorem dksX3_whereTo_0 : cX3_whereTo.data.toList.drop 0 = dktX3_whereTo_0 := by decide +kernel
theorem dksX3_whereTo_1 : cX3_whereTo.data.toList.drop 24 = dktX3_whereTo_1 := dk_seg dksX3_whereTo_0 24 rfl rfl
theorem dksX3_whereTo_2 : cX3_whereTo.data.toList.drop 48 = dktX3_whereTo_2 := dk_seg dksX3_whereTo_1 24 rfl rfl
theorem dksX3_whereTo_3 : cX3_whereTo.data.toList.drop 72 = dktX3_whereTo_3 := dk_seg dksX3_whereTo_2 24 rfl rfl
theorem dksX3_whereTo_4 : cX3_whereTo.data.toList.drop 96 = dktX3_whereTo_4 := dk_seg dksX3_whereTo_3 24 rfl rfl
theorem dksX3_whereTo_5 : cX3_whereTo.data.toList.drop 120 = dktX3_whereTo_5 := dk_seg dksX3_whereTo_4 24 rfl rfl
theorem dksX3_whereTo_6 : cX3_whereTo.data.toList.drop 143 = dktX3_whereTo_6 := dk_seg dksX3_whereTo_5 23 rfl rfl
theorem dksX3_whereTo_7 : cX3_whereTo.data.toList.drop 166 = dktX3_whereTo_7 := dk_seg dksX3_whereTo_6 23 rfl rfl
theorem dksX3_whereTo_8 : cX3_whereTo.data.toList.drop 190 = dktX3_whereTo_8 := dk_seg dksX3_whereTo_7 24 rfl rfl
theorem dX3_whereTo_0 : decode cX3_whereTo 0 = .ok (.iload_n 3, 1) := dk_29 (dk_at dksX3_whereTo_0 0 rfl rfl)
theorem dX3_whereTo_1 : decode cX3_whereTo 1 = .ok (.iconst 1, 1) := dk_4 (dk_at dksX3_whereTo_0 1 rfl rfl)
theorem dX3_whereTo_2 : decode cX3_whereTo 2 = .ok (.if_icmp .ne 67, 3) := dk_160 0 67 (dk_at dksX3_whereTo_0 2 rfl rfl)
theorem dX3_whereTo_5 : decode cX3_whereTo 5 = .ok (.iconst 0, 1) := dk_3 (dk_at dksX3_whereTo_0 5 rfl rfl)
theorem dX3_whereTo_6 : decode cX3_whereTo 6 = .ok (.istore 5, 2) := dk_54 5 (dk_at dksX3_whereTo_0 6 rfl rfl)
theorem dX3_whereTo_8 : decode cX3_whereTo 8 = .ok (.iload 5, 2) := dk_21 5 (dk_at dksX3_whereTo_0 8 rfl rfl)
theorem dX3_whereTo_10 : decode cX3_whereTo 10 = .ok (.aload_n 0, 1) := dk_42 (dk_at dksX3_whereTo_0 10 rfl rfl)
theorem dX3_whereTo_11 : decode cX3_whereTo 11 = .ok (.getfield 85, 3) := dk_180 0 85 (dk_at dksX3_whereTo_0 11 rfl rfl)
theorem dX3_whereTo_14 : decode cX3_whereTo 14 = .ok (.if_icmp .ge 52, 3) := dk_162 0 52 (dk_at dksX3_whereTo_0 14 rfl rfl)
theorem dX3_whereTo_17 : decode cX3_whereTo 17 = .ok (.iload 4, 2) := dk_21 4 (dk_at dksX3_whereTo_0 17 rfl rfl)
theorem dX3_whereTo_19 : decode cX3_whereTo 19 = .ok (.iconst 2, 1) := dk_5 (dk_at dksX3_whereTo_0 19 rfl rfl)
theorem dX3_whereTo_20 : decode cX3_whereTo 20 = .ok (.if_icmp .ne 40, 3) := dk_160 0 40 (dk_at dksX3_whereTo_0 20 rfl rfl)
theorem dX3_whereTo_23 : decode cX3_whereTo 23 = .ok (.aload_n 0, 1) := dk_42 (dk_at dksX3_whereTo_0 23 rfl rfl)
theorem dX3_whereTo_24 : decode cX3_whereTo 24 = .ok (.getfield 21, 3) := dk_180 0 21 (dk_at dksX3_whereTo_1 0 rfl rfl)
theorem dX3_whereTo_27 : decode cX3_whereTo 27 = .ok (.iload 5, 2) := dk_21 5 (dk_at dksX3_whereTo_1 3 rfl rfl)
theorem dX3_whereTo_29 : decode cX3_whereTo 29 = .ok (.iaload, 1) := dk_46 (dk_at dksX3_whereTo_1 5 rfl rfl)
theorem dX3_whereTo_30 : decode cX3_whereTo 30 = .ok (.iconst 2, 1) := dk_5 (dk_at dksX3_whereTo_1 6 rfl rfl)
theorem dX3_whereTo_31 : decode cX3_whereTo 31 = .ok (.if_icmp .ne 29, 3) := dk_160 0 29 (dk_at dksX3_whereTo_1 7 rfl rfl)
theorem dX3_whereTo_34 : decode cX3_whereTo 34 = .ok (.aload_n 0, 1) := dk_42 (dk_at dksX3_whereTo_1 10 rfl rfl)
theorem dX3_whereTo_35 : decode cX3_whereTo 35 = .ok (.iload_n 1, 1) := dk_27 (dk_at dksX3_whereTo_1 11 rfl rfl)
theorem dX3_whereTo_36 : decode cX3_whereTo 36 = .ok (.iload 5, 2) := dk_21 5 (dk_at dksX3_whereTo_1 12 rfl rfl)
theorem dX3_whereTo_38 : decode cX3_whereTo 38 = .ok (.invokevirtual 88, 3) := dk_182 0 88 (dk_at dksX3_whereTo_1 14 rfl rfl)
theorem dX3_whereTo_41 : decode cX3_whereTo 41 = .ok (.ifCond .eq 19, 3) := dk_153 0 19 (dk_at dksX3_whereTo_1 17 rfl rfl)
theorem dX3_whereTo_44 : decode cX3_whereTo 44 = .ok (.aload_n 0, 1) := dk_42 (dk_at dksX3_whereTo_1 20 rfl rfl)
theorem dX3_whereTo_45 : decode cX3_whereTo 45 = .ok (.iload_n 1, 1) := dk_27 (dk_at dksX3_whereTo_1 21 rfl rfl)
theorem dX3_whereTo_46 : decode cX3_whereTo 46 = .ok (.iload 5, 2) := dk_21 5 (dk_at dksX3_whereTo_1 22 rfl rfl)
theorem dX3_whereTo_48 : decode cX3_whereTo 48 = .ok (.invokevirtual 95, 3) := dk_182 0 95 (dk_at dksX3_whereTo_2 0 rfl rfl)
theorem dX3_whereTo_51 : decode cX3_whereTo 51 = .ok (.ifCond .ge 9, 3) := dk_156 0 9 (dk_at dksX3_whereTo_2 3 rfl rfl)
theorem dX3_whereTo_54 : decode cX3_whereTo 54 = .ok (.bipush 8, 2) := dk_16 8 (dk_at dksX3_whereTo_2 6 rfl rfl)
theorem dX3_whereTo_56 : decode cX3_whereTo 56 = .ok (.iload 5, 2) := dk_21 5 (dk_at dksX3_whereTo_2 8 rfl rfl)
theorem dX3_whereTo_58 : decode cX3_whereTo 58 = .ok (.iadd, 1) := dk_96 (dk_at dksX3_whereTo_2 10 rfl rfl)
theorem dX3_whereTo_59 : decode cX3_whereTo 59 = .ok (.ireturn, 1) := dk_172 (dk_at dksX3_whereTo_2 11 rfl rfl)
theorem dX3_whereTo_60 : decode cX3_whereTo 60 = .ok (.iinc 5 1, 3) := dk_132 5 1 (dk_at dksX3_whereTo_2 12 rfl rfl)
theorem dX3_whereTo_63 : decode cX3_whereTo 63 = .ok (.goto (-55), 3) := dk_167 255 201 (dk_at dksX3_whereTo_2 15 rfl rfl)
theorem dX3_whereTo_66 : decode cX3_whereTo 66 = .ok (.ldc 81, 2) := dk_18 81 (dk_at dksX3_whereTo_2 18 rfl rfl)
theorem dX3_whereTo_68 : decode cX3_whereTo 68 = .ok (.ireturn, 1) := dk_172 (dk_at dksX3_whereTo_2 20 rfl rfl)
theorem dX3_whereTo_69 : decode cX3_whereTo 69 = .ok (.iconst 0, 1) := dk_3 (dk_at dksX3_whereTo_2 21 rfl rfl)
theorem dX3_whereTo_70 : decode cX3_whereTo 70 = .ok (.istore 5, 2) := dk_54 5 (dk_at dksX3_whereTo_2 22 rfl rfl)
theorem dX3_whereTo_72 : decode cX3_whereTo 72 = .ok (.iload 5, 2) := dk_21 5 (dk_at dksX3_whereTo_3 0 rfl rfl)
theorem dX3_whereTo_74 : decode cX3_whereTo 74 = .ok (.aload_n 0, 1) := dk_42 (dk_at dksX3_whereTo_3 2 rfl rfl)
theorem dX3_whereTo_75 : decode cX3_whereTo 75 = .ok (.getfield 85, 3) := dk_180 0 85 (dk_at dksX3_whereTo_3 3 rfl rfl)
theorem dX3_whereTo_78 : decode cX3_whereTo 78 = .ok (.if_icmp .ge 112, 3) := dk_162 0 112 (dk_at dksX3_whereTo_3 6 rfl rfl)
theorem dX3_whereTo_81 : decode cX3_whereTo 81 = .ok (.iload 5, 2) := dk_21 5 (dk_at dksX3_whereTo_3 9 rfl rfl)
theorem dX3_whereTo_83 : decode cX3_whereTo 83 = .ok (.iload_n 2, 1) := dk_28 (dk_at dksX3_whereTo_3 11 rfl rfl)
theorem dX3_whereTo_84 : decode cX3_whereTo 84 = .ok (.if_icmp .eq 100, 3) := dk_159 0 100 (dk_at dksX3_whereTo_3 12 rfl rfl)
theorem dX3_whereTo_87 : decode cX3_whereTo 87 = .ok (.aload_n 0, 1) := dk_42 (dk_at dksX3_whereTo_3 15 rfl rfl)
theorem dX3_whereTo_88 : decode cX3_whereTo 88 = .ok (.getfield 21, 3) := dk_180 0 21 (dk_at dksX3_whereTo_3 16 rfl rfl)
theorem dX3_whereTo_91 : decode cX3_whereTo 91 = .ok (.iload 5, 2) := dk_21 5 (dk_at dksX3_whereTo_3 19 rfl rfl)
theorem dX3_whereTo_93 : decode cX3_whereTo 93 = .ok (.iaload, 1) := dk_46 (dk_at dksX3_whereTo_3 21 rfl rfl)
theorem dX3_whereTo_94 : decode cX3_whereTo 94 = .ok (.iload 4, 2) := dk_21 4 (dk_at dksX3_whereTo_3 22 rfl rfl)
theorem dX3_whereTo_96 : decode cX3_whereTo 96 = .ok (.if_icmp .ne 88, 3) := dk_160 0 88 (dk_at dksX3_whereTo_4 0 rfl rfl)
theorem dX3_whereTo_99 : decode cX3_whereTo 99 = .ok (.iload_n 3, 1) := dk_29 (dk_at dksX3_whereTo_4 3 rfl rfl)
theorem dX3_whereTo_100 : decode cX3_whereTo 100 = .ok (.ifCond .ne 16, 3) := dk_154 0 16 (dk_at dksX3_whereTo_4 4 rfl rfl)
theorem dX3_whereTo_103 : decode cX3_whereTo 103 = .ok (.aload_n 0, 1) := dk_42 (dk_at dksX3_whereTo_4 7 rfl rfl)
theorem dX3_whereTo_104 : decode cX3_whereTo 104 = .ok (.iload_n 1, 1) := dk_27 (dk_at dksX3_whereTo_4 8 rfl rfl)
theorem dX3_whereTo_105 : decode cX3_whereTo 105 = .ok (.iload 5, 2) := dk_21 5 (dk_at dksX3_whereTo_4 9 rfl rfl)
theorem dX3_whereTo_107 : decode cX3_whereTo 107 = .ok (.invokevirtual 88, 3) := dk_182 0 88 (dk_at dksX3_whereTo_4 11 rfl rfl)
theorem dX3_whereTo_110 : decode cX3_whereTo 110 = .ok (.ifCond .eq 74, 3) := dk_153 0 74 (dk_at dksX3_whereTo_4 14 rfl rfl)
theorem dX3_whereTo_113 : decode cX3_whereTo 113 = .ok (.goto 13, 3) := dk_167 0 13 (dk_at dksX3_whereTo_4 17 rfl rfl)
theorem dX3_whereTo_116 : decode cX3_whereTo 116 = .ok (.aload_n 0, 1) := dk_42 (dk_at dksX3_whereTo_4 20 rfl rfl)
theorem dX3_whereTo_117 : decode cX3_whereTo 117 = .ok (.iload_n 1, 1) := dk_27 (dk_at dksX3_whereTo_4 21 rfl rfl)
theorem dX3_whereTo_118 : decode cX3_whereTo 118 = .ok (.iload 5, 2) := dk_21 5 (dk_at dksX3_whereTo_4 22 rfl rfl)
theorem dX3_whereTo_120 : decode cX3_whereTo 120 = .ok (.invokevirtual 70, 3) := dk_182 0 70 (dk_at dksX3_whereTo_5 0 rfl rfl)
theorem dX3_whereTo_123 : decode cX3_whereTo 123 = .ok (.ifCond .ge 61, 3) := dk_156 0 61 (dk_at dksX3_whereTo_5 3 rfl rfl)
theorem dX3_whereTo_126 : decode cX3_whereTo 126 = .ok (.aload_n 0, 1) := dk_42 (dk_at dksX3_whereTo_5 6 rfl rfl)
theorem dX3_whereTo_127 : decode cX3_whereTo 127 = .ok (.iload_n 1, 1) := dk_27 (dk_at dksX3_whereTo_5 7 rfl rfl)
theorem dX3_whereTo_128 : decode cX3_whereTo 128 = .ok (.iload 5, 2) := dk_21 5 (dk_at dksX3_whereTo_5 8 rfl rfl)
theorem dX3_whereTo_130 : decode cX3_whereTo 130 = .ok (.invokevirtual 82, 3) := dk_182 0 82 (dk_at dksX3_whereTo_5 10 rfl rfl)
theorem dX3_whereTo_133 : decode cX3_whereTo 133 = .ok (.istore 6, 2) := dk_54 6 (dk_at dksX3_whereTo_5 13 rfl rfl)
theorem dX3_whereTo_135 : decode cX3_whereTo 135 = .ok (.iload_n 3, 1) := dk_29 (dk_at dksX3_whereTo_5 15 rfl rfl)
theorem dX3_whereTo_136 : decode cX3_whereTo 136 = .ok (.ifCond .ne 6, 3) := dk_154 0 6 (dk_at dksX3_whereTo_5 16 rfl rfl)
theorem dX3_whereTo_139 : decode cX3_whereTo 139 = .ok (.iload 6, 2) := dk_21 6 (dk_at dksX3_whereTo_5 19 rfl rfl)
theorem dX3_whereTo_141 : decode cX3_whereTo 141 = .ok (.ireturn, 1) := dk_172 (dk_at dksX3_whereTo_5 21 rfl rfl)
theorem dX3_whereTo_142 : decode cX3_whereTo 142 = .ok (.iconst 0, 1) := dk_3 (dk_at dksX3_whereTo_5 22 rfl rfl)
theorem dX3_whereTo_143 : decode cX3_whereTo 143 = .ok (.istore 7, 2) := dk_54 7 (dk_at dksX3_whereTo_6 0 rfl rfl)
theorem dX3_whereTo_145 : decode cX3_whereTo 145 = .ok (.iload 7, 2) := dk_21 7 (dk_at dksX3_whereTo_6 2 rfl rfl)
theorem dX3_whereTo_147 : decode cX3_whereTo 147 = .ok (.bipush 8, 2) := dk_16 8 (dk_at dksX3_whereTo_6 4 rfl rfl)
theorem dX3_whereTo_149 : decode cX3_whereTo 149 = .ok (.if_icmp .ge 32, 3) := dk_162 0 32 (dk_at dksX3_whereTo_6 6 rfl rfl)
theorem dX3_whereTo_152 : decode cX3_whereTo 152 = .ok (.iload 6, 2) := dk_21 6 (dk_at dksX3_whereTo_6 9 rfl rfl)
theorem dX3_whereTo_154 : decode cX3_whereTo 154 = .ok (.iload 7, 2) := dk_21 7 (dk_at dksX3_whereTo_6 11 rfl rfl)
theorem dX3_whereTo_156 : decode cX3_whereTo 156 = .ok (.invokestatic 113, 3) := dk_184 0 113 (dk_at dksX3_whereTo_6 13 rfl rfl)
theorem dX3_whereTo_159 : decode cX3_whereTo 159 = .ok (.ifCond .eq 16, 3) := dk_153 0 16 (dk_at dksX3_whereTo_6 16 rfl rfl)
theorem dX3_whereTo_162 : decode cX3_whereTo 162 = .ok (.aload_n 0, 1) := dk_42 (dk_at dksX3_whereTo_6 19 rfl rfl)
theorem dX3_whereTo_163 : decode cX3_whereTo 163 = .ok (.iload_n 1, 1) := dk_27 (dk_at dksX3_whereTo_6 20 rfl rfl)
theorem dX3_whereTo_164 : decode cX3_whereTo 164 = .ok (.iload 7, 2) := dk_21 7 (dk_at dksX3_whereTo_6 21 rfl rfl)
theorem dX3_whereTo_166 : decode cX3_whereTo 166 = .ok (.invokevirtual 74, 3) := dk_182 0 74 (dk_at dksX3_whereTo_7 0 rfl rfl)
theorem dX3_whereTo_169 : decode cX3_whereTo 169 = .ok (.ifCond .ne 6, 3) := dk_154 0 6 (dk_at dksX3_whereTo_7 3 rfl rfl)
theorem dX3_whereTo_172 : decode cX3_whereTo 172 = .ok (.iload 7, 2) := dk_21 7 (dk_at dksX3_whereTo_7 6 rfl rfl)
theorem dX3_whereTo_174 : decode cX3_whereTo 174 = .ok (.ireturn, 1) := dk_172 (dk_at dksX3_whereTo_7 8 rfl rfl)
theorem dX3_whereTo_175 : decode cX3_whereTo 175 = .ok (.iinc 7 1, 3) := dk_132 7 1 (dk_at dksX3_whereTo_7 9 rfl rfl)
theorem dX3_whereTo_178 : decode cX3_whereTo 178 = .ok (.goto (-33), 3) := dk_167 255 223 (dk_at dksX3_whereTo_7 12 rfl rfl)
theorem dX3_whereTo_181 : decode cX3_whereTo 181 = .ok (.ldc 81, 2) := dk_18 81 (dk_at dksX3_whereTo_7 15 rfl rfl)
theorem dX3_whereTo_183 : decode cX3_whereTo 183 = .ok (.ireturn, 1) := dk_172 (dk_at dksX3_whereTo_7 17 rfl rfl)
theorem dX3_whereTo_184 : decode cX3_whereTo 184 = .ok (.iinc 5 1, 3) := dk_132 5 1 (dk_at dksX3_whereTo_7 18 rfl rfl)
theorem dX3_whereTo_187 : decode cX3_whereTo 187 = .ok (.goto (-115), 3) := dk_167 255 141 (dk_at dksX3_whereTo_7 21 rfl rfl)
theorem dX3_whereTo_190 : decode cX3_whereTo 190 = .ok (.ldc 81, 2) := dk_18 81 (dk_at dksX3_whereTo_8 0 rfl rfl)
theorem dX3_whereTo_192 : decode cX3_whereTo 192 = .ok (.ireturn, 1) := dk_172 (dk_at dksX3_whereTo_8 2 rfl rfl)
abbrev cX3_isClear : ByteArray := prog_18_method_12_code
def yX3_isClear : MethodName := ⟨RX3, "isClear", "(II)Z"⟩
def dkwX3_isClear_1 : List UInt8 := [182, 0, 74, 4, 100, 182, 0, 77, 28, 160, 0, 7, 4, 167, 0, 4, 3, 172]
abbrev dktX3_isClear_1 : List UInt8 := dkwX3_isClear_1 ++ []
def dkwX3_isClear_0 : List UInt8 := [42, 27, 28, 182, 0, 82, 62, 42, 27, 28, 182, 0, 70, 156, 0, 25, 42, 27, 29, 42, 27, 29]
abbrev dktX3_isClear_0 : List UInt8 := dkwX3_isClear_0 ++ dktX3_isClear_1
theorem dksX3_isClear_0 : cX3_isClear.data.toList.drop 0 = dktX3_isClear_0 := by decide +kernel
theorem dksX3_isClear_1 : cX3_isClear.data.toList.drop 22 = dktX3_isClear_1 := dk_seg dksX3_isClear_0 22 rfl rfl
theorem dX3_isClear_0 : decode cX3_isClear 0 = .ok (.aload_n 0, 1) := dk_42 (dk_at dksX3_isClear_0 0 rfl rfl)
theorem dX3_isClear_1 : decode cX3_isClear 1 = .ok (.iload_n 1, 1) := dk_27 (dk_at dksX3_isClear_0 1 rfl rfl)
theorem dX3_isClear_2 : decode cX3_isClear 2 = .ok (.iload_n 2, 1) := dk_28 (dk_at dksX3_isClear_0 2 rfl rfl)
theorem dX3_isClear_3 : decode cX3_isClear 3 = .ok (.invokevirtual 82, 3) := dk_182 0 82 (dk_at dksX3_isClear_0 3 rfl rfl)
theorem dX3_isClear_6 : decode cX3_isClear 6 = .ok (.istore_n 3, 1) := dk_62 (dk_at dksX3_isClear_0 6 rfl rfl)
theorem dX3_isClear_7 : decode cX3_isClear 7 = .ok (.aload_n 0, 1) := dk_42 (dk_at dksX3_isClear_0 7 rfl rfl)
theorem dX3_isClear_8 : decode cX3_isClear 8 = .ok (.iload_n 1, 1) := dk_27 (dk_at dksX3_isClear_0 8 rfl rfl)
theorem dX3_isClear_9 : decode cX3_isClear 9 = .ok (.iload_n 2, 1) := dk_28 (dk_at dksX3_isClear_0 9 rfl rfl)
theorem dX3_isClear_10 : decode cX3_isClear 10 = .ok (.invokevirtual 70, 3) := dk_182 0 70 (dk_at dksX3_isClear_0 10 rfl rfl)
theorem dX3_isClear_13 : decode cX3_isClear 13 = .ok (.ifCond .ge 25, 3) := dk_156 0 25 (dk_at dksX3_isClear_0 13 rfl rfl)
theorem dX3_isClear_16 : decode cX3_isClear 16 = .ok (.aload_n 0, 1) := dk_42 (dk_at dksX3_isClear_0 16 rfl rfl)
theorem dX3_isClear_17 : decode cX3_isClear 17 = .ok (.iload_n 1, 1) := dk_27 (dk_at dksX3_isClear_0 17 rfl rfl)
theorem dX3_isClear_18 : decode cX3_isClear 18 = .ok (.iload_n 3, 1) := dk_29 (dk_at dksX3_isClear_0 18 rfl rfl)
theorem dX3_isClear_19 : decode cX3_isClear 19 = .ok (.aload_n 0, 1) := dk_42 (dk_at dksX3_isClear_0 19 rfl rfl)
theorem dX3_isClear_20 : decode cX3_isClear 20 = .ok (.iload_n 1, 1) := dk_27 (dk_at dksX3_isClear_0 20 rfl rfl)
theorem dX3_isClear_21 : decode cX3_isClear 21 = .ok (.iload_n 3, 1) := dk_29 (dk_at dksX3_isClear_0 21 rfl rfl)
theorem dX3_isClear_22 : decode cX3_isClear 22 = .ok (.invokevirtual 74, 3) := dk_182 0 74 (dk_at dksX3_isClear_1 0 rfl rfl)
theorem dX3_isClear_25 : decode cX3_isClear 25 = .ok (.iconst 1, 1) := dk_4 (dk_at dksX3_isClear_1 3 rfl rfl)
theorem dX3_isClear_26 : decode cX3_isClear 26 = .ok (.isub, 1) := dk_100 (dk_at dksX3_isClear_1 4 rfl rfl)
theorem dX3_isClear_27 : decode cX3_isClear 27 = .ok (.invokevirtual 77, 3) := dk_182 0 77 (dk_at dksX3_isClear_1 5 rfl rfl)
theorem dX3_isClear_30 : decode cX3_isClear 30 = .ok (.iload_n 2, 1) := dk_28 (dk_at dksX3_isClear_1 8 rfl rfl)
theorem dX3_isClear_31 : decode cX3_isClear 31 = .ok (.if_icmp .ne 7, 3) := dk_160 0 7 (dk_at dksX3_isClear_1 9 rfl rfl)
theorem dX3_isClear_34 : decode cX3_isClear 34 = .ok (.iconst 1, 1) := dk_4 (dk_at dksX3_isClear_1 12 rfl rfl)
theorem dX3_isClear_35 : decode cX3_isClear 35 = .ok (.goto 4, 3) := dk_167 0 4 (dk_at dksX3_isClear_1 13 rfl rfl)
theorem dX3_isClear_38 : decode cX3_isClear 38 = .ok (.iconst 0, 1) := dk_3 (dk_at dksX3_isClear_1 16 rfl rfl)
theorem dX3_isClear_39 : decode cX3_isClear 39 = .ok (.ireturn, 1) := dk_172 (dk_at dksX3_isClear_1 17 rfl rfl)
abbrev cX3_insideOf : ByteArray := prog_18_method_13_code
def yX3_insideOf : MethodName := ⟨RX3, "insideOf", "(II)I"⟩
def dkwX3_insideOf_1 : List UInt8 := [160, 0, 8, 21, 4, 167, 0, 4, 29, 62, 132, 4, 1, 167, 255, 226, 29, 172]
abbrev dktX3_insideOf_1 : List UInt8 := dkwX3_insideOf_1 ++ []
def dkwX3_insideOf_0 : List UInt8 := [2, 62, 3, 54, 4, 21, 4, 42, 180, 0, 85, 162, 0, 27, 42, 27, 21, 4, 182, 0, 70, 28]
abbrev dktX3_insideOf_0 : List UInt8 := dkwX3_insideOf_0 ++ dktX3_insideOf_1
theorem dksX3_insideOf_0 : cX3_insideOf.data.toList.drop 0 = dktX3_insideOf_0 := by decide +kernel
theorem dksX3_insideOf_1 : cX3_insideOf.data.toList.drop 22 = dktX3_insideOf_1 := dk_seg dksX3_insideOf_0 22 rfl rfl
theorem dX3_insideOf_0 : decode cX3_insideOf 0 = .ok (.iconst (-1), 1) := dk_2 (dk_at dksX3_insideOf_0 0 rfl rfl)
theorem dX3_insideOf_1 : decode cX3_insideOf 1 = .ok (.istore_n 3, 1) := dk_62 (dk_at dksX3_insideOf_0 1 rfl rfl)
theorem dX3_insideOf_2 : decode cX3_insideOf 2 = .ok (.iconst 0, 1) := dk_3 (dk_at dksX3_insideOf_0 2 rfl rfl)
theorem dX3_insideOf_3 : decode cX3_insideOf 3 = .ok (.istore 4, 2) := dk_54 4 (dk_at dksX3_insideOf_0 3 rfl rfl)
theorem dX3_insideOf_5 : decode cX3_insideOf 5 = .ok (.iload 4, 2) := dk_21 4 (dk_at dksX3_insideOf_0 5 rfl rfl)
theorem dX3_insideOf_7 : decode cX3_insideOf 7 = .ok (.aload_n 0, 1) := dk_42 (dk_at dksX3_insideOf_0 7 rfl rfl)
theorem dX3_insideOf_8 : decode cX3_insideOf 8 = .ok (.getfield 85, 3) := dk_180 0 85 (dk_at dksX3_insideOf_0 8 rfl rfl)
theorem dX3_insideOf_11 : decode cX3_insideOf 11 = .ok (.if_icmp .ge 27, 3) := dk_162 0 27 (dk_at dksX3_insideOf_0 11 rfl rfl)
theorem dX3_insideOf_14 : decode cX3_insideOf 14 = .ok (.aload_n 0, 1) := dk_42 (dk_at dksX3_insideOf_0 14 rfl rfl)
theorem dX3_insideOf_15 : decode cX3_insideOf 15 = .ok (.iload_n 1, 1) := dk_27 (dk_at dksX3_insideOf_0 15 rfl rfl)
theorem dX3_insideOf_16 : decode cX3_insideOf 16 = .ok (.iload 4, 2) := dk_21 4 (dk_at dksX3_insideOf_0 16 rfl rfl)
theorem dX3_insideOf_18 : decode cX3_insideOf 18 = .ok (.invokevirtual 70, 3) := dk_182 0 70 (dk_at dksX3_insideOf_0 18 rfl rfl)
theorem dX3_insideOf_21 : decode cX3_insideOf 21 = .ok (.iload_n 2, 1) := dk_28 (dk_at dksX3_insideOf_0 21 rfl rfl)
theorem dX3_insideOf_22 : decode cX3_insideOf 22 = .ok (.if_icmp .ne 8, 3) := dk_160 0 8 (dk_at dksX3_insideOf_1 0 rfl rfl)
theorem dX3_insideOf_25 : decode cX3_insideOf 25 = .ok (.iload 4, 2) := dk_21 4 (dk_at dksX3_insideOf_1 3 rfl rfl)
theorem dX3_insideOf_27 : decode cX3_insideOf 27 = .ok (.goto 4, 3) := dk_167 0 4 (dk_at dksX3_insideOf_1 5 rfl rfl)
theorem dX3_insideOf_30 : decode cX3_insideOf 30 = .ok (.iload_n 3, 1) := dk_29 (dk_at dksX3_insideOf_1 8 rfl rfl)
theorem dX3_insideOf_31 : decode cX3_insideOf 31 = .ok (.istore_n 3, 1) := dk_62 (dk_at dksX3_insideOf_1 9 rfl rfl)
theorem dX3_insideOf_32 : decode cX3_insideOf 32 = .ok (.iinc 4 1, 3) := dk_132 4 1 (dk_at dksX3_insideOf_1 10 rfl rfl)
theorem dX3_insideOf_35 : decode cX3_insideOf 35 = .ok (.goto (-30), 3) := dk_167 255 226 (dk_at dksX3_insideOf_1 13 rfl rfl)
theorem dX3_insideOf_38 : decode cX3_insideOf 38 = .ok (.iload_n 3, 1) := dk_29 (dk_at dksX3_insideOf_1 16 rfl rfl)
theorem dX3_insideOf_39 : decode cX3_insideOf 39 = .ok (.ireturn, 1) := dk_172 (dk_at dksX3_insideOf_1 17 rfl rfl)
abbrev cX3_canMove : ByteArray := prog_18_method_18_code
def yX3_canMove : MethodName := ⟨RX3, "canMove", "(III)Z"⟩
def dkwX3_canMove_1 : List UInt8 := [182, 0, 98, 172]
abbrev dktX3_canMove_1 : List UInt8 := dkwX3_canMove_1 ++ []
def dkwX3_canMove_0 : List UInt8 := [29, 16, 8, 162, 0, 12, 42, 27, 28, 182, 0, 92, 167, 0, 13, 42, 27, 28, 29, 16, 8, 100]
abbrev dktX3_canMove_0 : List UInt8 := dkwX3_canMove_0 ++ dktX3_canMove_1
theorem dksX3_canMove_0 : cX3_canMove.data.toList.drop 0 = dktX3_canMove_0 := by decide +kernel
theorem dksX3_canMove_1 : cX3_canMove.data.toList.drop 22 = dktX3_canMove_1 := dk_seg dksX3_canMove_0 22 rfl rfl
theorem dX3_canMove_0 : decode cX3_canMove 0 = .ok (.iload_n 3, 1) := dk_29 (dk_at dksX3_canMove_0 0 rfl rfl)
theorem dX3_canMove_1 : decode cX3_canMove 1 = .ok (.bipush 8, 2) := dk_16 8 (dk_at dksX3_canMove_0 1 rfl rfl)
theorem dX3_canMove_3 : decode cX3_canMove 3 = .ok (.if_icmp .ge 12, 3) := dk_162 0 12 (dk_at dksX3_canMove_0 3 rfl rfl)
theorem dX3_canMove_6 : decode cX3_canMove 6 = .ok (.aload_n 0, 1) := dk_42 (dk_at dksX3_canMove_0 6 rfl rfl)
theorem dX3_canMove_7 : decode cX3_canMove 7 = .ok (.iload_n 1, 1) := dk_27 (dk_at dksX3_canMove_0 7 rfl rfl)
theorem dX3_canMove_8 : decode cX3_canMove 8 = .ok (.iload_n 2, 1) := dk_28 (dk_at dksX3_canMove_0 8 rfl rfl)
theorem dX3_canMove_9 : decode cX3_canMove 9 = .ok (.invokevirtual 92, 3) := dk_182 0 92 (dk_at dksX3_canMove_0 9 rfl rfl)
theorem dX3_canMove_12 : decode cX3_canMove 12 = .ok (.goto 13, 3) := dk_167 0 13 (dk_at dksX3_canMove_0 12 rfl rfl)
theorem dX3_canMove_15 : decode cX3_canMove 15 = .ok (.aload_n 0, 1) := dk_42 (dk_at dksX3_canMove_0 15 rfl rfl)
theorem dX3_canMove_16 : decode cX3_canMove 16 = .ok (.iload_n 1, 1) := dk_27 (dk_at dksX3_canMove_0 16 rfl rfl)
theorem dX3_canMove_17 : decode cX3_canMove 17 = .ok (.iload_n 2, 1) := dk_28 (dk_at dksX3_canMove_0 17 rfl rfl)
theorem dX3_canMove_18 : decode cX3_canMove 18 = .ok (.iload_n 3, 1) := dk_29 (dk_at dksX3_canMove_0 18 rfl rfl)
theorem dX3_canMove_19 : decode cX3_canMove 19 = .ok (.bipush 8, 2) := dk_16 8 (dk_at dksX3_canMove_0 19 rfl rfl)
theorem dX3_canMove_21 : decode cX3_canMove 21 = .ok (.isub, 1) := dk_100 (dk_at dksX3_canMove_0 21 rfl rfl)
theorem dX3_canMove_22 : decode cX3_canMove 22 = .ok (.invokevirtual 98, 3) := dk_182 0 98 (dk_at dksX3_canMove_1 0 rfl rfl)
theorem dX3_canMove_25 : decode cX3_canMove 25 = .ok (.ireturn, 1) := dk_172 (dk_at dksX3_canMove_1 3 rfl rfl)
abbrev cX3_isLoose : ByteArray := prog_18_method_14_code
def yX3_isLoose : MethodName := ⟨RX3, "isLoose", "(II)Z"⟩
def dkwX3_isLoose_1 : List UInt8 := [172]
abbrev dktX3_isLoose_1 : List UInt8 := dkwX3_isLoose_1 ++ []
def dkwX3_isLoose_0 : List UInt8 := [42, 27, 42, 27, 28, 182, 0, 70, 155, 0, 12, 42, 27, 28, 182, 0, 70, 167, 0, 4, 28, 182, 0, 88]
abbrev dktX3_isLoose_0 : List UInt8 := dkwX3_isLoose_0 ++ dktX3_isLoose_1
theorem dksX3_isLoose_0 : cX3_isLoose.data.toList.drop 0 = dktX3_isLoose_0 := by decide +kernel
theorem dksX3_isLoose_1 : cX3_isLoose.data.toList.drop 24 = dktX3_isLoose_1 := dk_seg dksX3_isLoose_0 24 rfl rfl
theorem dX3_isLoose_0 : decode cX3_isLoose 0 = .ok (.aload_n 0, 1) := dk_42 (dk_at dksX3_isLoose_0 0 rfl rfl)
theorem dX3_isLoose_1 : decode cX3_isLoose 1 = .ok (.iload_n 1, 1) := dk_27 (dk_at dksX3_isLoose_0 1 rfl rfl)
theorem dX3_isLoose_2 : decode cX3_isLoose 2 = .ok (.aload_n 0, 1) := dk_42 (dk_at dksX3_isLoose_0 2 rfl rfl)
theorem dX3_isLoose_3 : decode cX3_isLoose 3 = .ok (.iload_n 1, 1) := dk_27 (dk_at dksX3_isLoose_0 3 rfl rfl)
theorem dX3_isLoose_4 : decode cX3_isLoose 4 = .ok (.iload_n 2, 1) := dk_28 (dk_at dksX3_isLoose_0 4 rfl rfl)
theorem dX3_isLoose_5 : decode cX3_isLoose 5 = .ok (.invokevirtual 70, 3) := dk_182 0 70 (dk_at dksX3_isLoose_0 5 rfl rfl)
theorem dX3_isLoose_8 : decode cX3_isLoose 8 = .ok (.ifCond .lt 12, 3) := dk_155 0 12 (dk_at dksX3_isLoose_0 8 rfl rfl)
theorem dX3_isLoose_11 : decode cX3_isLoose 11 = .ok (.aload_n 0, 1) := dk_42 (dk_at dksX3_isLoose_0 11 rfl rfl)
theorem dX3_isLoose_12 : decode cX3_isLoose 12 = .ok (.iload_n 1, 1) := dk_27 (dk_at dksX3_isLoose_0 12 rfl rfl)
theorem dX3_isLoose_13 : decode cX3_isLoose 13 = .ok (.iload_n 2, 1) := dk_28 (dk_at dksX3_isLoose_0 13 rfl rfl)
theorem dX3_isLoose_14 : decode cX3_isLoose 14 = .ok (.invokevirtual 70, 3) := dk_182 0 70 (dk_at dksX3_isLoose_0 14 rfl rfl)
theorem dX3_isLoose_17 : decode cX3_isLoose 17 = .ok (.goto 4, 3) := dk_167 0 4 (dk_at dksX3_isLoose_0 17 rfl rfl)
theorem dX3_isLoose_20 : decode cX3_isLoose 20 = .ok (.iload_n 2, 1) := dk_28 (dk_at dksX3_isLoose_0 20 rfl rfl)
theorem dX3_isLoose_21 : decode cX3_isLoose 21 = .ok (.invokevirtual 88, 3) := dk_182 0 88 (dk_at dksX3_isLoose_0 21 rfl rfl)
theorem dX3_isLoose_24 : decode cX3_isLoose 24 = .ok (.ireturn, 1) := dk_172 (dk_at dksX3_isLoose_1 0 rfl rfl)
abbrev cX3_mayInto : ByteArray := prog_18_method_17_code
def yX3_mayInto : MethodName := ⟨RX3, "mayInto", "(III)Z"⟩
def dkwX3_mayInto_1 : List UInt8 := [182, 0, 88, 153, 0, 16, 42, 27, 29, 182, 0, 95, 156, 0, 7, 4, 167, 0, 4, 3, 172]
abbrev dktX3_mayInto_1 : List UInt8 := dkwX3_mayInto_1 ++ []
def dkwX3_mayInto_0 : List UInt8 := [42, 27, 28, 182, 0, 92, 153, 0, 35, 42, 180, 0, 21, 28, 46, 5, 159, 0, 25, 42, 27, 29]
abbrev dktX3_mayInto_0 : List UInt8 := dkwX3_mayInto_0 ++ dktX3_mayInto_1
theorem dksX3_mayInto_0 : cX3_mayInto.data.toList.drop 0 = dktX3_mayInto_0 := by decide +kernel
theorem dksX3_mayInto_1 : cX3_mayInto.data.toList.drop 22 = dktX3_mayInto_1 := dk_seg dksX3_mayInto_0 22 rfl rfl
theorem dX3_mayInto_0 : decode cX3_mayInto 0 = .ok (.aload_n 0, 1) := dk_42 (dk_at dksX3_mayInto_0 0 rfl rfl)
theorem dX3_mayInto_1 : decode cX3_mayInto 1 = .ok (.iload_n 1, 1) := dk_27 (dk_at dksX3_mayInto_0 1 rfl rfl)
theorem dX3_mayInto_2 : decode cX3_mayInto 2 = .ok (.iload_n 2, 1) := dk_28 (dk_at dksX3_mayInto_0 2 rfl rfl)
theorem dX3_mayInto_3 : decode cX3_mayInto 3 = .ok (.invokevirtual 92, 3) := dk_182 0 92 (dk_at dksX3_mayInto_0 3 rfl rfl)
theorem dX3_mayInto_6 : decode cX3_mayInto 6 = .ok (.ifCond .eq 35, 3) := dk_153 0 35 (dk_at dksX3_mayInto_0 6 rfl rfl)
theorem dX3_mayInto_9 : decode cX3_mayInto 9 = .ok (.aload_n 0, 1) := dk_42 (dk_at dksX3_mayInto_0 9 rfl rfl)
theorem dX3_mayInto_10 : decode cX3_mayInto 10 = .ok (.getfield 21, 3) := dk_180 0 21 (dk_at dksX3_mayInto_0 10 rfl rfl)
theorem dX3_mayInto_13 : decode cX3_mayInto 13 = .ok (.iload_n 2, 1) := dk_28 (dk_at dksX3_mayInto_0 13 rfl rfl)
theorem dX3_mayInto_14 : decode cX3_mayInto 14 = .ok (.iaload, 1) := dk_46 (dk_at dksX3_mayInto_0 14 rfl rfl)
theorem dX3_mayInto_15 : decode cX3_mayInto 15 = .ok (.iconst 2, 1) := dk_5 (dk_at dksX3_mayInto_0 15 rfl rfl)
theorem dX3_mayInto_16 : decode cX3_mayInto 16 = .ok (.if_icmp .eq 25, 3) := dk_159 0 25 (dk_at dksX3_mayInto_0 16 rfl rfl)
theorem dX3_mayInto_19 : decode cX3_mayInto 19 = .ok (.aload_n 0, 1) := dk_42 (dk_at dksX3_mayInto_0 19 rfl rfl)
theorem dX3_mayInto_20 : decode cX3_mayInto 20 = .ok (.iload_n 1, 1) := dk_27 (dk_at dksX3_mayInto_0 20 rfl rfl)
theorem dX3_mayInto_21 : decode cX3_mayInto 21 = .ok (.iload_n 3, 1) := dk_29 (dk_at dksX3_mayInto_0 21 rfl rfl)
theorem dX3_mayInto_22 : decode cX3_mayInto 22 = .ok (.invokevirtual 88, 3) := dk_182 0 88 (dk_at dksX3_mayInto_1 0 rfl rfl)
theorem dX3_mayInto_25 : decode cX3_mayInto 25 = .ok (.ifCond .eq 16, 3) := dk_153 0 16 (dk_at dksX3_mayInto_1 3 rfl rfl)
theorem dX3_mayInto_28 : decode cX3_mayInto 28 = .ok (.aload_n 0, 1) := dk_42 (dk_at dksX3_mayInto_1 6 rfl rfl)
theorem dX3_mayInto_29 : decode cX3_mayInto 29 = .ok (.iload_n 1, 1) := dk_27 (dk_at dksX3_mayInto_1 7 rfl rfl)
theorem dX3_mayInto_30 : decode cX3_mayInto 30 = .ok (.iload_n 3, 1) := dk_29 (dk_at dksX3_mayInto_1 8 rfl rfl)
theorem dX3_mayInto_31 : decode cX3_mayInto 31 = .ok (.invokevirtual 95, 3) := dk_182 0 95 (dk_at dksX3_mayInto_1 9 rfl rfl)
theorem dX3_mayInto_34 : decode cX3_mayInto 34 = .ok (.ifCond .ge 7, 3) := dk_156 0 7 (dk_at dksX3_mayInto_1 12 rfl rfl)
theorem dX3_mayInto_37 : decode cX3_mayInto 37 = .ok (.iconst 1, 1) := dk_4 (dk_at dksX3_mayInto_1 15 rfl rfl)
theorem dX3_mayInto_38 : decode cX3_mayInto 38 = .ok (.goto 4, 3) := dk_167 0 4 (dk_at dksX3_mayInto_1 16 rfl rfl)
theorem dX3_mayInto_41 : decode cX3_mayInto 41 = .ok (.iconst 0, 1) := dk_3 (dk_at dksX3_mayInto_1 19 rfl rfl)
theorem dX3_mayInto_42 : decode cX3_mayInto 42 = .ok (.ireturn, 1) := dk_172 (dk_at dksX3_mayInto_1 20 rfl rfl)
abbrev cX3_doMove : ByteArray := prog_18_method_19_code
def yX3_doMove : MethodName := ⟨RX3, "doMove", "(III)V"⟩
def dkwX3_doMove_2 : List UInt8 := [29, 159, 0, 16, 42, 27, 28, 182, 0, 102, 42, 27, 28, 29, 182, 0, 106, 177]
abbrev dktX3_doMove_2 : List UInt8 := dkwX3_doMove_2 ++ []
def dkwX3_doMove_1 : List UInt8 := [96, 29, 16, 8, 100, 79, 167, 0, 35, 42, 27, 28, 182, 0, 70, 156, 0, 13, 42, 27, 28, 182, 0, 82]
abbrev dktX3_doMove_1 : List UInt8 := dkwX3_doMove_1 ++ dktX3_doMove_2
def dkwX3_doMove_0 : List UInt8 := [29, 16, 8, 161, 0, 30, 42, 27, 28, 182, 0, 102, 42, 180, 0, 17, 16, 62, 27, 104, 16, 56, 96, 28]
abbrev dktX3_doMove_0 : List UInt8 := dkwX3_doMove_0 ++ dktX3_doMove_1
theorem dksX3_doMove_0 : cX3_doMove.data.toList.drop 0 = dktX3_doMove_0 := by decide +kernel
theorem dksX3_doMove_1 : cX3_doMove.data.toList.drop 24 = dktX3_doMove_1 := dk_seg dksX3_doMove_0 24 rfl rfl
theorem dksX3_doMove_2 : cX3_doMove.data.toList.drop 48 = dktX3_doMove_2 := dk_seg dksX3_doMove_1 24 rfl rfl
theorem dX3_doMove_0 : decode cX3_doMove 0 = .ok (.iload_n 3, 1) := dk_29 (dk_at dksX3_doMove_0 0 rfl rfl)
theorem dX3_doMove_1 : decode cX3_doMove 1 = .ok (.bipush 8, 2) := dk_16 8 (dk_at dksX3_doMove_0 1 rfl rfl)
theorem dX3_doMove_3 : decode cX3_doMove 3 = .ok (.if_icmp .lt 30, 3) := dk_161 0 30 (dk_at dksX3_doMove_0 3 rfl rfl)
theorem dX3_doMove_6 : decode cX3_doMove 6 = .ok (.aload_n 0, 1) := dk_42 (dk_at dksX3_doMove_0 6 rfl rfl)
theorem dX3_doMove_7 : decode cX3_doMove 7 = .ok (.iload_n 1, 1) := dk_27 (dk_at dksX3_doMove_0 7 rfl rfl)
theorem dX3_doMove_8 : decode cX3_doMove 8 = .ok (.iload_n 2, 1) := dk_28 (dk_at dksX3_doMove_0 8 rfl rfl)
theorem dX3_doMove_9 : decode cX3_doMove 9 = .ok (.invokevirtual 102, 3) := dk_182 0 102 (dk_at dksX3_doMove_0 9 rfl rfl)
theorem dX3_doMove_12 : decode cX3_doMove 12 = .ok (.aload_n 0, 1) := dk_42 (dk_at dksX3_doMove_0 12 rfl rfl)
theorem dX3_doMove_13 : decode cX3_doMove 13 = .ok (.getfield 17, 3) := dk_180 0 17 (dk_at dksX3_doMove_0 13 rfl rfl)
theorem dX3_doMove_16 : decode cX3_doMove 16 = .ok (.bipush 62, 2) := dk_16 62 (dk_at dksX3_doMove_0 16 rfl rfl)
theorem dX3_doMove_18 : decode cX3_doMove 18 = .ok (.iload_n 1, 1) := dk_27 (dk_at dksX3_doMove_0 18 rfl rfl)
theorem dX3_doMove_19 : decode cX3_doMove 19 = .ok (.imul, 1) := dk_104 (dk_at dksX3_doMove_0 19 rfl rfl)
theorem dX3_doMove_20 : decode cX3_doMove 20 = .ok (.bipush 56, 2) := dk_16 56 (dk_at dksX3_doMove_0 20 rfl rfl)
theorem dX3_doMove_22 : decode cX3_doMove 22 = .ok (.iadd, 1) := dk_96 (dk_at dksX3_doMove_0 22 rfl rfl)
theorem dX3_doMove_23 : decode cX3_doMove 23 = .ok (.iload_n 2, 1) := dk_28 (dk_at dksX3_doMove_0 23 rfl rfl)
theorem dX3_doMove_24 : decode cX3_doMove 24 = .ok (.iadd, 1) := dk_96 (dk_at dksX3_doMove_1 0 rfl rfl)
theorem dX3_doMove_25 : decode cX3_doMove 25 = .ok (.iload_n 3, 1) := dk_29 (dk_at dksX3_doMove_1 1 rfl rfl)
theorem dX3_doMove_26 : decode cX3_doMove 26 = .ok (.bipush 8, 2) := dk_16 8 (dk_at dksX3_doMove_1 2 rfl rfl)
theorem dX3_doMove_28 : decode cX3_doMove 28 = .ok (.isub, 1) := dk_100 (dk_at dksX3_doMove_1 4 rfl rfl)
theorem dX3_doMove_29 : decode cX3_doMove 29 = .ok (.iastore, 1) := dk_79 (dk_at dksX3_doMove_1 5 rfl rfl)
theorem dX3_doMove_30 : decode cX3_doMove 30 = .ok (.goto 35, 3) := dk_167 0 35 (dk_at dksX3_doMove_1 6 rfl rfl)
theorem dX3_doMove_33 : decode cX3_doMove 33 = .ok (.aload_n 0, 1) := dk_42 (dk_at dksX3_doMove_1 9 rfl rfl)
theorem dX3_doMove_34 : decode cX3_doMove 34 = .ok (.iload_n 1, 1) := dk_27 (dk_at dksX3_doMove_1 10 rfl rfl)
theorem dX3_doMove_35 : decode cX3_doMove 35 = .ok (.iload_n 2, 1) := dk_28 (dk_at dksX3_doMove_1 11 rfl rfl)
theorem dX3_doMove_36 : decode cX3_doMove 36 = .ok (.invokevirtual 70, 3) := dk_182 0 70 (dk_at dksX3_doMove_1 12 rfl rfl)
theorem dX3_doMove_39 : decode cX3_doMove 39 = .ok (.ifCond .ge 13, 3) := dk_156 0 13 (dk_at dksX3_doMove_1 15 rfl rfl)
theorem dX3_doMove_42 : decode cX3_doMove 42 = .ok (.aload_n 0, 1) := dk_42 (dk_at dksX3_doMove_1 18 rfl rfl)
theorem dX3_doMove_43 : decode cX3_doMove 43 = .ok (.iload_n 1, 1) := dk_27 (dk_at dksX3_doMove_1 19 rfl rfl)
theorem dX3_doMove_44 : decode cX3_doMove 44 = .ok (.iload_n 2, 1) := dk_28 (dk_at dksX3_doMove_1 20 rfl rfl)
theorem dX3_doMove_45 : decode cX3_doMove 45 = .ok (.invokevirtual 82, 3) := dk_182 0 82 (dk_at dksX3_doMove_1 21 rfl rfl)
theorem dX3_doMove_48 : decode cX3_doMove 48 = .ok (.iload_n 3, 1) := dk_29 (dk_at dksX3_doMove_2 0 rfl rfl)
theorem dX3_doMove_49 : decode cX3_doMove 49 = .ok (.if_icmp .eq 16, 3) := dk_159 0 16 (dk_at dksX3_doMove_2 1 rfl rfl)
theorem dX3_doMove_52 : decode cX3_doMove 52 = .ok (.aload_n 0, 1) := dk_42 (dk_at dksX3_doMove_2 4 rfl rfl)
theorem dX3_doMove_53 : decode cX3_doMove 53 = .ok (.iload_n 1, 1) := dk_27 (dk_at dksX3_doMove_2 5 rfl rfl)
theorem dX3_doMove_54 : decode cX3_doMove 54 = .ok (.iload_n 2, 1) := dk_28 (dk_at dksX3_doMove_2 6 rfl rfl)
theorem dX3_doMove_55 : decode cX3_doMove 55 = .ok (.invokevirtual 102, 3) := dk_182 0 102 (dk_at dksX3_doMove_2 7 rfl rfl)
theorem dX3_doMove_58 : decode cX3_doMove 58 = .ok (.aload_n 0, 1) := dk_42 (dk_at dksX3_doMove_2 10 rfl rfl)
theorem dX3_doMove_59 : decode cX3_doMove 59 = .ok (.iload_n 1, 1) := dk_27 (dk_at dksX3_doMove_2 11 rfl rfl)
theorem dX3_doMove_60 : decode cX3_doMove 60 = .ok (.iload_n 2, 1) := dk_28 (dk_at dksX3_doMove_2 12 rfl rfl)
theorem dX3_doMove_61 : decode cX3_doMove 61 = .ok (.iload_n 3, 1) := dk_29 (dk_at dksX3_doMove_2 13 rfl rfl)
theorem dX3_doMove_62 : decode cX3_doMove 62 = .ok (.invokevirtual 106, 3) := dk_182 0 106 (dk_at dksX3_doMove_2 14 rfl rfl)
theorem dX3_doMove_65 : decode cX3_doMove 65 = .ok (.return_, 1) := dk_177 (dk_at dksX3_doMove_2 17 rfl rfl)
abbrev cX3_takeUp : ByteArray := prog_18_method_16_code
def yX3_takeUp : MethodName := ⟨RX3, "takeUp", "(II)V"⟩
def dkwX3_takeUp_2 : List UInt8 := [46, 4, 100, 79, 42, 180, 0, 17, 29, 4, 96, 42, 180, 0, 17, 29, 46, 96, 2, 79, 177]
abbrev dktX3_takeUp_2 : List UInt8 := dkwX3_takeUp_2 ++ []
def dkwX3_takeUp_1 : List UInt8 := [167, 0, 44, 16, 62, 27, 104, 16, 7, 42, 27, 28, 182, 0, 82, 104, 96, 62, 42, 180, 0, 17, 29, 92]
abbrev dktX3_takeUp_1 : List UInt8 := dkwX3_takeUp_1 ++ dktX3_takeUp_2
def dkwX3_takeUp_0 : List UInt8 := [42, 27, 28, 182, 0, 70, 155, 0, 21, 42, 180, 0, 17, 16, 62, 27, 104, 16, 56, 96, 28, 96, 2, 79]
abbrev dktX3_takeUp_0 : List UInt8 := dkwX3_takeUp_0 ++ dktX3_takeUp_1
theorem dksX3_takeUp_0 : cX3_takeUp.data.toList.drop 0 = dktX3_takeUp_0 := by decide +kernel
theorem dksX3_takeUp_1 : cX3_takeUp.data.toList.drop 24 = dktX3_takeUp_1 := dk_seg dksX3_takeUp_0 24 rfl rfl
theorem dksX3_takeUp_2 : cX3_takeUp.data.toList.drop 48 = dktX3_takeUp_2 := dk_seg dksX3_takeUp_1 24 rfl rfl
theorem dX3_takeUp_0 : decode cX3_takeUp 0 = .ok (.aload_n 0, 1) := dk_42 (dk_at dksX3_takeUp_0 0 rfl rfl)
theorem dX3_takeUp_1 : decode cX3_takeUp 1 = .ok (.iload_n 1, 1) := dk_27 (dk_at dksX3_takeUp_0 1 rfl rfl)
theorem dX3_takeUp_2 : decode cX3_takeUp 2 = .ok (.iload_n 2, 1) := dk_28 (dk_at dksX3_takeUp_0 2 rfl rfl)
theorem dX3_takeUp_3 : decode cX3_takeUp 3 = .ok (.invokevirtual 70, 3) := dk_182 0 70 (dk_at dksX3_takeUp_0 3 rfl rfl)
theorem dX3_takeUp_6 : decode cX3_takeUp 6 = .ok (.ifCond .lt 21, 3) := dk_155 0 21 (dk_at dksX3_takeUp_0 6 rfl rfl)
theorem dX3_takeUp_9 : decode cX3_takeUp 9 = .ok (.aload_n 0, 1) := dk_42 (dk_at dksX3_takeUp_0 9 rfl rfl)
theorem dX3_takeUp_10 : decode cX3_takeUp 10 = .ok (.getfield 17, 3) := dk_180 0 17 (dk_at dksX3_takeUp_0 10 rfl rfl)
theorem dX3_takeUp_13 : decode cX3_takeUp 13 = .ok (.bipush 62, 2) := dk_16 62 (dk_at dksX3_takeUp_0 13 rfl rfl)
theorem dX3_takeUp_15 : decode cX3_takeUp 15 = .ok (.iload_n 1, 1) := dk_27 (dk_at dksX3_takeUp_0 15 rfl rfl)
theorem dX3_takeUp_16 : decode cX3_takeUp 16 = .ok (.imul, 1) := dk_104 (dk_at dksX3_takeUp_0 16 rfl rfl)
theorem dX3_takeUp_17 : decode cX3_takeUp 17 = .ok (.bipush 56, 2) := dk_16 56 (dk_at dksX3_takeUp_0 17 rfl rfl)
theorem dX3_takeUp_19 : decode cX3_takeUp 19 = .ok (.iadd, 1) := dk_96 (dk_at dksX3_takeUp_0 19 rfl rfl)
theorem dX3_takeUp_20 : decode cX3_takeUp 20 = .ok (.iload_n 2, 1) := dk_28 (dk_at dksX3_takeUp_0 20 rfl rfl)
theorem dX3_takeUp_21 : decode cX3_takeUp 21 = .ok (.iadd, 1) := dk_96 (dk_at dksX3_takeUp_0 21 rfl rfl)
theorem dX3_takeUp_22 : decode cX3_takeUp 22 = .ok (.iconst (-1), 1) := dk_2 (dk_at dksX3_takeUp_0 22 rfl rfl)
theorem dX3_takeUp_23 : decode cX3_takeUp 23 = .ok (.iastore, 1) := dk_79 (dk_at dksX3_takeUp_0 23 rfl rfl)
theorem dX3_takeUp_24 : decode cX3_takeUp 24 = .ok (.goto 44, 3) := dk_167 0 44 (dk_at dksX3_takeUp_1 0 rfl rfl)
theorem dX3_takeUp_27 : decode cX3_takeUp 27 = .ok (.bipush 62, 2) := dk_16 62 (dk_at dksX3_takeUp_1 3 rfl rfl)
theorem dX3_takeUp_29 : decode cX3_takeUp 29 = .ok (.iload_n 1, 1) := dk_27 (dk_at dksX3_takeUp_1 5 rfl rfl)
theorem dX3_takeUp_30 : decode cX3_takeUp 30 = .ok (.imul, 1) := dk_104 (dk_at dksX3_takeUp_1 6 rfl rfl)
theorem dX3_takeUp_31 : decode cX3_takeUp 31 = .ok (.bipush 7, 2) := dk_16 7 (dk_at dksX3_takeUp_1 7 rfl rfl)
theorem dX3_takeUp_33 : decode cX3_takeUp 33 = .ok (.aload_n 0, 1) := dk_42 (dk_at dksX3_takeUp_1 9 rfl rfl)
theorem dX3_takeUp_34 : decode cX3_takeUp 34 = .ok (.iload_n 1, 1) := dk_27 (dk_at dksX3_takeUp_1 10 rfl rfl)
theorem dX3_takeUp_35 : decode cX3_takeUp 35 = .ok (.iload_n 2, 1) := dk_28 (dk_at dksX3_takeUp_1 11 rfl rfl)
theorem dX3_takeUp_36 : decode cX3_takeUp 36 = .ok (.invokevirtual 82, 3) := dk_182 0 82 (dk_at dksX3_takeUp_1 12 rfl rfl)
theorem dX3_takeUp_39 : decode cX3_takeUp 39 = .ok (.imul, 1) := dk_104 (dk_at dksX3_takeUp_1 15 rfl rfl)
theorem dX3_takeUp_40 : decode cX3_takeUp 40 = .ok (.iadd, 1) := dk_96 (dk_at dksX3_takeUp_1 16 rfl rfl)
theorem dX3_takeUp_41 : decode cX3_takeUp 41 = .ok (.istore_n 3, 1) := dk_62 (dk_at dksX3_takeUp_1 17 rfl rfl)
theorem dX3_takeUp_42 : decode cX3_takeUp 42 = .ok (.aload_n 0, 1) := dk_42 (dk_at dksX3_takeUp_1 18 rfl rfl)
theorem dX3_takeUp_43 : decode cX3_takeUp 43 = .ok (.getfield 17, 3) := dk_180 0 17 (dk_at dksX3_takeUp_1 19 rfl rfl)
theorem dX3_takeUp_46 : decode cX3_takeUp 46 = .ok (.iload_n 3, 1) := dk_29 (dk_at dksX3_takeUp_1 22 rfl rfl)
theorem dX3_takeUp_47 : decode cX3_takeUp 47 = .ok (.dup2, 1) := dk_92 (dk_at dksX3_takeUp_1 23 rfl rfl)
theorem dX3_takeUp_48 : decode cX3_takeUp 48 = .ok (.iaload, 1) := dk_46 (dk_at dksX3_takeUp_2 0 rfl rfl)
theorem dX3_takeUp_49 : decode cX3_takeUp 49 = .ok (.iconst 1, 1) := dk_4 (dk_at dksX3_takeUp_2 1 rfl rfl)
theorem dX3_takeUp_50 : decode cX3_takeUp 50 = .ok (.isub, 1) := dk_100 (dk_at dksX3_takeUp_2 2 rfl rfl)
theorem dX3_takeUp_51 : decode cX3_takeUp 51 = .ok (.iastore, 1) := dk_79 (dk_at dksX3_takeUp_2 3 rfl rfl)
theorem dX3_takeUp_52 : decode cX3_takeUp 52 = .ok (.aload_n 0, 1) := dk_42 (dk_at dksX3_takeUp_2 4 rfl rfl)
theorem dX3_takeUp_53 : decode cX3_takeUp 53 = .ok (.getfield 17, 3) := dk_180 0 17 (dk_at dksX3_takeUp_2 5 rfl rfl)
theorem dX3_takeUp_56 : decode cX3_takeUp 56 = .ok (.iload_n 3, 1) := dk_29 (dk_at dksX3_takeUp_2 8 rfl rfl)
theorem dX3_takeUp_57 : decode cX3_takeUp 57 = .ok (.iconst 1, 1) := dk_4 (dk_at dksX3_takeUp_2 9 rfl rfl)
theorem dX3_takeUp_58 : decode cX3_takeUp 58 = .ok (.iadd, 1) := dk_96 (dk_at dksX3_takeUp_2 10 rfl rfl)
theorem dX3_takeUp_59 : decode cX3_takeUp 59 = .ok (.aload_n 0, 1) := dk_42 (dk_at dksX3_takeUp_2 11 rfl rfl)
theorem dX3_takeUp_60 : decode cX3_takeUp 60 = .ok (.getfield 17, 3) := dk_180 0 17 (dk_at dksX3_takeUp_2 12 rfl rfl)
theorem dX3_takeUp_63 : decode cX3_takeUp 63 = .ok (.iload_n 3, 1) := dk_29 (dk_at dksX3_takeUp_2 15 rfl rfl)
theorem dX3_takeUp_64 : decode cX3_takeUp 64 = .ok (.iaload, 1) := dk_46 (dk_at dksX3_takeUp_2 16 rfl rfl)
theorem dX3_takeUp_65 : decode cX3_takeUp 65 = .ok (.iadd, 1) := dk_96 (dk_at dksX3_takeUp_2 17 rfl rfl)
theorem dX3_takeUp_66 : decode cX3_takeUp 66 = .ok (.iconst (-1), 1) := dk_2 (dk_at dksX3_takeUp_2 18 rfl rfl)
theorem dX3_takeUp_67 : decode cX3_takeUp 67 = .ok (.iastore, 1) := dk_79 (dk_at dksX3_takeUp_2 19 rfl rfl)
theorem dX3_takeUp_68 : decode cX3_takeUp 68 = .ok (.return_, 1) := dk_177 (dk_at dksX3_takeUp_2 20 rfl rfl)
abbrev cX3_putOn : ByteArray := prog_18_method_15_code
def yX3_putOn : MethodName := ⟨RX3, "putOn", "(III)V"⟩
def dkwX3_putOn_1 : List UInt8 := [21, 4, 46, 96, 28, 79, 42, 180, 0, 17, 21, 4, 92, 46, 4, 96, 79, 177]
abbrev dktX3_putOn_1 : List UInt8 := dkwX3_putOn_1 ++ []
def dkwX3_putOn_0 : List UInt8 := [16, 62, 27, 104, 16, 7, 29, 104, 96, 54, 4, 42, 180, 0, 17, 21, 4, 4, 96, 42, 180, 0, 17]
abbrev dktX3_putOn_0 : List UInt8 := dkwX3_putOn_0 ++ dktX3_putOn_1
theorem dksX3_putOn_0 : cX3_putOn.data.toList.drop 0 = dktX3_putOn_0 := by decide +kernel
theorem dksX3_putOn_1 : cX3_putOn.data.toList.drop 23 = dktX3_putOn_1 := dk_seg dksX3_putOn_0 23 rfl rfl
theorem dX3_putOn_0 : decode cX3_putOn 0 = .ok (.bipush 62, 2) := dk_16 62 (dk_at dksX3_putOn_0 0 rfl rfl)
theorem dX3_putOn_2 : decode cX3_putOn 2 = .ok (.iload_n 1, 1) := dk_27 (dk_at dksX3_putOn_0 2 rfl rfl)
theorem dX3_putOn_3 : decode cX3_putOn 3 = .ok (.imul, 1) := dk_104 (dk_at dksX3_putOn_0 3 rfl rfl)
theorem dX3_putOn_4 : decode cX3_putOn 4 = .ok (.bipush 7, 2) := dk_16 7 (dk_at dksX3_putOn_0 4 rfl rfl)
theorem dX3_putOn_6 : decode cX3_putOn 6 = .ok (.iload_n 3, 1) := dk_29 (dk_at dksX3_putOn_0 6 rfl rfl)
theorem dX3_putOn_7 : decode cX3_putOn 7 = .ok (.imul, 1) := dk_104 (dk_at dksX3_putOn_0 7 rfl rfl)
theorem dX3_putOn_8 : decode cX3_putOn 8 = .ok (.iadd, 1) := dk_96 (dk_at dksX3_putOn_0 8 rfl rfl)
theorem dX3_putOn_9 : decode cX3_putOn 9 = .ok (.istore 4, 2) := dk_54 4 (dk_at dksX3_putOn_0 9 rfl rfl)
theorem dX3_putOn_11 : decode cX3_putOn 11 = .ok (.aload_n 0, 1) := dk_42 (dk_at dksX3_putOn_0 11 rfl rfl)
theorem dX3_putOn_12 : decode cX3_putOn 12 = .ok (.getfield 17, 3) := dk_180 0 17 (dk_at dksX3_putOn_0 12 rfl rfl)
theorem dX3_putOn_15 : decode cX3_putOn 15 = .ok (.iload 4, 2) := dk_21 4 (dk_at dksX3_putOn_0 15 rfl rfl)
theorem dX3_putOn_17 : decode cX3_putOn 17 = .ok (.iconst 1, 1) := dk_4 (dk_at dksX3_putOn_0 17 rfl rfl)
theorem dX3_putOn_18 : decode cX3_putOn 18 = .ok (.iadd, 1) := dk_96 (dk_at dksX3_putOn_0 18 rfl rfl)
theorem dX3_putOn_19 : decode cX3_putOn 19 = .ok (.aload_n 0, 1) := dk_42 (dk_at dksX3_putOn_0 19 rfl rfl)
theorem dX3_putOn_20 : decode cX3_putOn 20 = .ok (.getfield 17, 3) := dk_180 0 17 (dk_at dksX3_putOn_0 20 rfl rfl)
theorem dX3_putOn_23 : decode cX3_putOn 23 = .ok (.iload 4, 2) := dk_21 4 (dk_at dksX3_putOn_1 0 rfl rfl)
theorem dX3_putOn_25 : decode cX3_putOn 25 = .ok (.iaload, 1) := dk_46 (dk_at dksX3_putOn_1 2 rfl rfl)
theorem dX3_putOn_26 : decode cX3_putOn 26 = .ok (.iadd, 1) := dk_96 (dk_at dksX3_putOn_1 3 rfl rfl)
theorem dX3_putOn_27 : decode cX3_putOn 27 = .ok (.iload_n 2, 1) := dk_28 (dk_at dksX3_putOn_1 4 rfl rfl)
theorem dX3_putOn_28 : decode cX3_putOn 28 = .ok (.iastore, 1) := dk_79 (dk_at dksX3_putOn_1 5 rfl rfl)
theorem dX3_putOn_29 : decode cX3_putOn 29 = .ok (.aload_n 0, 1) := dk_42 (dk_at dksX3_putOn_1 6 rfl rfl)
theorem dX3_putOn_30 : decode cX3_putOn 30 = .ok (.getfield 17, 3) := dk_180 0 17 (dk_at dksX3_putOn_1 7 rfl rfl)
theorem dX3_putOn_33 : decode cX3_putOn 33 = .ok (.iload 4, 2) := dk_21 4 (dk_at dksX3_putOn_1 10 rfl rfl)
theorem dX3_putOn_35 : decode cX3_putOn 35 = .ok (.dup2, 1) := dk_92 (dk_at dksX3_putOn_1 12 rfl rfl)
theorem dX3_putOn_36 : decode cX3_putOn 36 = .ok (.iaload, 1) := dk_46 (dk_at dksX3_putOn_1 13 rfl rfl)
theorem dX3_putOn_37 : decode cX3_putOn 37 = .ok (.iconst 1, 1) := dk_4 (dk_at dksX3_putOn_1 14 rfl rfl)
theorem dX3_putOn_38 : decode cX3_putOn 38 = .ok (.iadd, 1) := dk_96 (dk_at dksX3_putOn_1 15 rfl rfl)
theorem dX3_putOn_39 : decode cX3_putOn 39 = .ok (.iastore, 1) := dk_79 (dk_at dksX3_putOn_1 16 rfl rfl)
theorem dX3_putOn_40 : decode cX3_putOn 40 = .ok (.return_, 1) := dk_177 (dk_at dksX3_putOn_1 17 rfl rfl)
abbrev cX3_thing : ByteArray := prog_18_method_29_code
def yX3_thing : MethodName := ⟨RX3, "thing", "(III)I"⟩
def dkwX3_thing_5 : List UInt8 := [100, 172]
abbrev dktX3_thing_5 : List UInt8 := dkwX3_thing_5 ++ []
def dkwX3_thing_4 : List UInt8 := [182, 0, 106, 132, 4, 1, 167, 255, 233, 42, 89, 180, 0, 85, 4, 96, 181, 0, 85, 42, 180, 0, 85, 4]
abbrev dktX3_thing_4 : List UInt8 := dkwX3_thing_4 ++ dktX3_thing_5
def dkwX3_thing_3 : List UInt8 := [28, 79, 3, 54, 4, 21, 4, 42, 180, 0, 161, 163, 0, 20, 42, 21, 4, 42, 180, 0, 85, 29]
abbrev dktX3_thing_3 : List UInt8 := dkwX3_thing_3 ++ dktX3_thing_4
def dkwX3_thing_2 : List UInt8 := [160, 0, 6, 18, 160, 172, 42, 180, 0, 21, 42, 180, 0, 85, 27, 79, 42, 180, 0, 24, 42, 180, 0, 85]
abbrev dktX3_thing_2 : List UInt8 := dkwX3_thing_2 ++ dktX3_thing_3
def dkwX3_thing_1 : List UInt8 := [184, 0, 135, 153, 0, 10, 29, 184, 0, 157, 154, 0, 6, 18, 143, 172, 42, 180, 0, 85, 16, 6]
abbrev dktX3_thing_1 : List UInt8 := dkwX3_thing_1 ++ dktX3_thing_2
def dkwX3_thing_0 : List UInt8 := [42, 3, 181, 0, 1, 27, 133, 9, 20, 0, 153, 184, 0, 135, 153, 0, 22, 28, 133, 10, 20, 0, 155]
abbrev dktX3_thing_0 : List UInt8 := dkwX3_thing_0 ++ dktX3_thing_1
theorem dksX3_thing_0 : cX3_thing.data.toList.drop 0 = dktX3_thing_0 := by decide +kernel
theorem dksX3_thing_1 : cX3_thing.data.toList.drop 23 = dktX3_thing_1 := dk_seg dksX3_thing_0 23 rfl rfl
theorem dksX3_thing_2 : cX3_thing.data.toList.drop 45 = dktX3_thing_2 := dk_seg dksX3_thing_1 22 rfl rfl
theorem dksX3_thing_3 : cX3_thing.data.toList.drop 69 = dktX3_thing_3 := dk_seg dksX3_thing_2 24 rfl rfl
theorem dksX3_thing_4 : cX3_thing.data.toList.drop 91 = dktX3_thing_4 := dk_seg dksX3_thing_3 22 rfl rfl
theorem dksX3_thing_5 : cX3_thing.data.toList.drop 115 = dktX3_thing_5 := dk_seg dksX3_thing_4 24 rfl rfl
theorem dX3_thing_0 : decode cX3_thing 0 = .ok (.aload_n 0, 1) := dk_42 (dk_at dksX3_thing_0 0 rfl rfl)
theorem dX3_thing_1 : decode cX3_thing 1 = .ok (.iconst 0, 1) := dk_3 (dk_at dksX3_thing_0 1 rfl rfl)
theorem dX3_thing_2 : decode cX3_thing 2 = .ok (.putfield 1, 3) := dk_181 0 1 (dk_at dksX3_thing_0 2 rfl rfl)
theorem dX3_thing_5 : decode cX3_thing 5 = .ok (.iload_n 1, 1) := dk_27 (dk_at dksX3_thing_0 5 rfl rfl)
theorem dX3_thing_6 : decode cX3_thing 6 = .ok (.i2l, 1) := dk_133 (dk_at dksX3_thing_0 6 rfl rfl)
theorem dX3_thing_7 : decode cX3_thing 7 = .ok (.lconst 0, 1) := dk_9 (dk_at dksX3_thing_0 7 rfl rfl)
theorem dX3_thing_8 : decode cX3_thing 8 = .ok (.ldc2_w 153, 3) := dk_20 0 153 (dk_at dksX3_thing_0 8 rfl rfl)
theorem dX3_thing_11 : decode cX3_thing 11 = .ok (.invokestatic 135, 3) := dk_184 0 135 (dk_at dksX3_thing_0 11 rfl rfl)
theorem dX3_thing_14 : decode cX3_thing 14 = .ok (.ifCond .eq 22, 3) := dk_153 0 22 (dk_at dksX3_thing_0 14 rfl rfl)
theorem dX3_thing_17 : decode cX3_thing 17 = .ok (.iload_n 2, 1) := dk_28 (dk_at dksX3_thing_0 17 rfl rfl)
theorem dX3_thing_18 : decode cX3_thing 18 = .ok (.i2l, 1) := dk_133 (dk_at dksX3_thing_0 18 rfl rfl)
theorem dX3_thing_19 : decode cX3_thing 19 = .ok (.lconst 1, 1) := dk_10 (dk_at dksX3_thing_0 19 rfl rfl)
theorem dX3_thing_20 : decode cX3_thing 20 = .ok (.ldc2_w 155, 3) := dk_20 0 155 (dk_at dksX3_thing_0 20 rfl rfl)
theorem dX3_thing_23 : decode cX3_thing 23 = .ok (.invokestatic 135, 3) := dk_184 0 135 (dk_at dksX3_thing_1 0 rfl rfl)
theorem dX3_thing_26 : decode cX3_thing 26 = .ok (.ifCond .eq 10, 3) := dk_153 0 10 (dk_at dksX3_thing_1 3 rfl rfl)
theorem dX3_thing_29 : decode cX3_thing 29 = .ok (.iload_n 3, 1) := dk_29 (dk_at dksX3_thing_1 6 rfl rfl)
theorem dX3_thing_30 : decode cX3_thing 30 = .ok (.invokestatic 157, 3) := dk_184 0 157 (dk_at dksX3_thing_1 7 rfl rfl)
theorem dX3_thing_33 : decode cX3_thing 33 = .ok (.ifCond .ne 6, 3) := dk_154 0 6 (dk_at dksX3_thing_1 10 rfl rfl)
theorem dX3_thing_36 : decode cX3_thing 36 = .ok (.ldc 143, 2) := dk_18 143 (dk_at dksX3_thing_1 13 rfl rfl)
theorem dX3_thing_38 : decode cX3_thing 38 = .ok (.ireturn, 1) := dk_172 (dk_at dksX3_thing_1 15 rfl rfl)
theorem dX3_thing_39 : decode cX3_thing 39 = .ok (.aload_n 0, 1) := dk_42 (dk_at dksX3_thing_1 16 rfl rfl)
theorem dX3_thing_40 : decode cX3_thing 40 = .ok (.getfield 85, 3) := dk_180 0 85 (dk_at dksX3_thing_1 17 rfl rfl)
theorem dX3_thing_43 : decode cX3_thing 43 = .ok (.bipush 6, 2) := dk_16 6 (dk_at dksX3_thing_1 20 rfl rfl)
theorem dX3_thing_45 : decode cX3_thing 45 = .ok (.if_icmp .ne 6, 3) := dk_160 0 6 (dk_at dksX3_thing_2 0 rfl rfl)
theorem dX3_thing_48 : decode cX3_thing 48 = .ok (.ldc 160, 2) := dk_18 160 (dk_at dksX3_thing_2 3 rfl rfl)
theorem dX3_thing_50 : decode cX3_thing 50 = .ok (.ireturn, 1) := dk_172 (dk_at dksX3_thing_2 5 rfl rfl)
theorem dX3_thing_51 : decode cX3_thing 51 = .ok (.aload_n 0, 1) := dk_42 (dk_at dksX3_thing_2 6 rfl rfl)
theorem dX3_thing_52 : decode cX3_thing 52 = .ok (.getfield 21, 3) := dk_180 0 21 (dk_at dksX3_thing_2 7 rfl rfl)
theorem dX3_thing_55 : decode cX3_thing 55 = .ok (.aload_n 0, 1) := dk_42 (dk_at dksX3_thing_2 10 rfl rfl)
theorem dX3_thing_56 : decode cX3_thing 56 = .ok (.getfield 85, 3) := dk_180 0 85 (dk_at dksX3_thing_2 11 rfl rfl)
theorem dX3_thing_59 : decode cX3_thing 59 = .ok (.iload_n 1, 1) := dk_27 (dk_at dksX3_thing_2 14 rfl rfl)
theorem dX3_thing_60 : decode cX3_thing 60 = .ok (.iastore, 1) := dk_79 (dk_at dksX3_thing_2 15 rfl rfl)
theorem dX3_thing_61 : decode cX3_thing 61 = .ok (.aload_n 0, 1) := dk_42 (dk_at dksX3_thing_2 16 rfl rfl)
theorem dX3_thing_62 : decode cX3_thing 62 = .ok (.getfield 24, 3) := dk_180 0 24 (dk_at dksX3_thing_2 17 rfl rfl)
theorem dX3_thing_65 : decode cX3_thing 65 = .ok (.aload_n 0, 1) := dk_42 (dk_at dksX3_thing_2 20 rfl rfl)
theorem dX3_thing_66 : decode cX3_thing 66 = .ok (.getfield 85, 3) := dk_180 0 85 (dk_at dksX3_thing_2 21 rfl rfl)
theorem dX3_thing_69 : decode cX3_thing 69 = .ok (.iload_n 2, 1) := dk_28 (dk_at dksX3_thing_3 0 rfl rfl)
theorem dX3_thing_70 : decode cX3_thing 70 = .ok (.iastore, 1) := dk_79 (dk_at dksX3_thing_3 1 rfl rfl)
theorem dX3_thing_71 : decode cX3_thing 71 = .ok (.iconst 0, 1) := dk_3 (dk_at dksX3_thing_3 2 rfl rfl)
theorem dX3_thing_72 : decode cX3_thing 72 = .ok (.istore 4, 2) := dk_54 4 (dk_at dksX3_thing_3 3 rfl rfl)
theorem dX3_thing_74 : decode cX3_thing 74 = .ok (.iload 4, 2) := dk_21 4 (dk_at dksX3_thing_3 5 rfl rfl)
theorem dX3_thing_76 : decode cX3_thing 76 = .ok (.aload_n 0, 1) := dk_42 (dk_at dksX3_thing_3 7 rfl rfl)
theorem dX3_thing_77 : decode cX3_thing 77 = .ok (.getfield 161, 3) := dk_180 0 161 (dk_at dksX3_thing_3 8 rfl rfl)
theorem dX3_thing_80 : decode cX3_thing 80 = .ok (.if_icmp .gt 20, 3) := dk_163 0 20 (dk_at dksX3_thing_3 11 rfl rfl)
theorem dX3_thing_83 : decode cX3_thing 83 = .ok (.aload_n 0, 1) := dk_42 (dk_at dksX3_thing_3 14 rfl rfl)
theorem dX3_thing_84 : decode cX3_thing 84 = .ok (.iload 4, 2) := dk_21 4 (dk_at dksX3_thing_3 15 rfl rfl)
theorem dX3_thing_86 : decode cX3_thing 86 = .ok (.aload_n 0, 1) := dk_42 (dk_at dksX3_thing_3 17 rfl rfl)
theorem dX3_thing_87 : decode cX3_thing 87 = .ok (.getfield 85, 3) := dk_180 0 85 (dk_at dksX3_thing_3 18 rfl rfl)
theorem dX3_thing_90 : decode cX3_thing 90 = .ok (.iload_n 3, 1) := dk_29 (dk_at dksX3_thing_3 21 rfl rfl)
theorem dX3_thing_91 : decode cX3_thing 91 = .ok (.invokevirtual 106, 3) := dk_182 0 106 (dk_at dksX3_thing_4 0 rfl rfl)
theorem dX3_thing_94 : decode cX3_thing 94 = .ok (.iinc 4 1, 3) := dk_132 4 1 (dk_at dksX3_thing_4 3 rfl rfl)
theorem dX3_thing_97 : decode cX3_thing 97 = .ok (.goto (-23), 3) := dk_167 255 233 (dk_at dksX3_thing_4 6 rfl rfl)
theorem dX3_thing_100 : decode cX3_thing 100 = .ok (.aload_n 0, 1) := dk_42 (dk_at dksX3_thing_4 9 rfl rfl)
theorem dX3_thing_101 : decode cX3_thing 101 = .ok (.dup, 1) := dk_89 (dk_at dksX3_thing_4 10 rfl rfl)
theorem dX3_thing_102 : decode cX3_thing 102 = .ok (.getfield 85, 3) := dk_180 0 85 (dk_at dksX3_thing_4 11 rfl rfl)
theorem dX3_thing_105 : decode cX3_thing 105 = .ok (.iconst 1, 1) := dk_4 (dk_at dksX3_thing_4 14 rfl rfl)
theorem dX3_thing_106 : decode cX3_thing 106 = .ok (.iadd, 1) := dk_96 (dk_at dksX3_thing_4 15 rfl rfl)
theorem dX3_thing_107 : decode cX3_thing 107 = .ok (.putfield 85, 3) := dk_181 0 85 (dk_at dksX3_thing_4 16 rfl rfl)
theorem dX3_thing_110 : decode cX3_thing 110 = .ok (.aload_n 0, 1) := dk_42 (dk_at dksX3_thing_4 19 rfl rfl)
theorem dX3_thing_111 : decode cX3_thing 111 = .ok (.getfield 85, 3) := dk_180 0 85 (dk_at dksX3_thing_4 20 rfl rfl)
theorem dX3_thing_114 : decode cX3_thing 114 = .ok (.iconst 1, 1) := dk_4 (dk_at dksX3_thing_4 23 rfl rfl)
theorem dX3_thing_115 : decode cX3_thing 115 = .ok (.isub, 1) := dk_100 (dk_at dksX3_thing_5 0 rfl rfl)
theorem dX3_thing_116 : decode cX3_thing 116 = .ok (.ireturn, 1) := dk_172 (dk_at dksX3_thing_5 1 rfl rfl)
abbrev cX3_isCell : ByteArray := prog_18_method_28_code
def yX3_isCell : MethodName := ⟨RX3, "isCell", "(I)Z"⟩
def dkwX3_isCell_0 : List UInt8 := [26, 133, 9, 20, 0, 151, 184, 0, 135, 172]
abbrev dktX3_isCell_0 : List UInt8 := dkwX3_isCell_0 ++ []
theorem dksX3_isCell_0 : cX3_isCell.data.toList.drop 0 = dktX3_isCell_0 := by decide +kernel
theorem dX3_isCell_0 : decode cX3_isCell 0 = .ok (.iload_n 0, 1) := dk_26 (dk_at dksX3_isCell_0 0 rfl rfl)
theorem dX3_isCell_1 : decode cX3_isCell 1 = .ok (.i2l, 1) := dk_133 (dk_at dksX3_isCell_0 1 rfl rfl)
theorem dX3_isCell_2 : decode cX3_isCell 2 = .ok (.lconst 0, 1) := dk_9 (dk_at dksX3_isCell_0 2 rfl rfl)
theorem dX3_isCell_3 : decode cX3_isCell 3 = .ok (.ldc2_w 151, 3) := dk_20 0 151 (dk_at dksX3_isCell_0 3 rfl rfl)
theorem dX3_isCell_6 : decode cX3_isCell 6 = .ok (.invokestatic 135, 3) := dk_184 0 135 (dk_at dksX3_isCell_0 6 rfl rfl)
theorem dX3_isCell_9 : decode cX3_isCell 9 = .ok (.ireturn, 1) := dk_172 (dk_at dksX3_isCell_0 9 rfl rfl)
abbrev cX3_where : ByteArray := prog_18_method_30_code
def yX3_where : MethodName := ⟨RX3, "where", "(II)I"⟩
def dkwX3_where_6 : List UInt8 := [42, 3, 27, 182, 0, 95, 156, 0, 8, 18, 81, 167, 0, 9, 42, 3, 27, 182, 0, 95, 172]
abbrev dktX3_where_6 : List UInt8 := dkwX3_where_6 ++ []
def dkwX3_where_5 : List UInt8 := [182, 0, 70, 167, 0, 5, 18, 81, 172, 42, 3, 27, 182, 0, 88, 153, 0, 7, 4, 167, 0, 4, 3, 172]
abbrev dktX3_where_5 : List UInt8 := dkwX3_where_5 ++ dktX3_where_6
def dkwX3_where_4 : List UInt8 := [153, 0, 8, 18, 81, 167, 0, 9, 42, 3, 27, 182, 0, 110, 172, 29, 153, 0, 12, 42, 3, 27]
abbrev dktX3_where_4 : List UInt8 := dkwX3_where_4 ++ dktX3_where_5
def dkwX3_where_3 : List UInt8 := [42, 180, 0, 21, 27, 46, 172, 42, 180, 0, 24, 27, 46, 172, 42, 3, 27, 182, 0, 82, 172, 29]
abbrev dktX3_where_3 : List UInt8 := dkwX3_where_3 ++ dktX3_where_4
def dkwX3_where_2 : List UInt8 := [170, 0, 0, 0, 0, 0, 0, 108, 0, 0, 0, 0, 0, 0, 0, 5, 0, 0, 0, 40, 0, 0, 0, 47, 0, 0, 0, 54, 0, 0, 0, 61, 0, 0, 0, 77, 0, 0, 0, 93]
abbrev dktX3_where_2 : List UInt8 := dkwX3_where_2 ++ dktX3_where_3
def dkwX3_where_1 : List UInt8 := [154, 0, 6, 18, 143, 172, 42, 3, 27, 182, 0, 70, 155, 0, 7, 4, 167, 0, 4, 3, 62, 28]
abbrev dktX3_where_1 : List UInt8 := dkwX3_where_1 ++ dktX3_where_2
def dkwX3_where_0 : List UInt8 := [42, 3, 181, 0, 1, 42, 27, 182, 0, 164, 153, 0, 15, 28, 133, 9, 20, 0, 167, 184, 0, 135]
abbrev dktX3_where_0 : List UInt8 := dkwX3_where_0 ++ dktX3_where_1
theorem dksX3_where_0 : cX3_where.data.toList.drop 0 = dktX3_where_0 := by decide +kernel
theorem dksX3_where_1 : cX3_where.data.toList.drop 22 = dktX3_where_1 := dk_seg dksX3_where_0 22 rfl rfl
theorem dksX3_where_2 : cX3_where.data.toList.drop 44 = dktX3_where_2 := dk_seg dksX3_where_1 22 rfl rfl
theorem dksX3_where_3 : cX3_where.data.toList.drop 84 = dktX3_where_3 := dk_seg dksX3_where_2 40 rfl rfl
theorem dksX3_where_4 : cX3_where.data.toList.drop 106 = dktX3_where_4 := dk_seg dksX3_where_3 22 rfl rfl
theorem dksX3_where_5 : cX3_where.data.toList.drop 128 = dktX3_where_5 := dk_seg dksX3_where_4 22 rfl rfl
theorem dksX3_where_6 : cX3_where.data.toList.drop 152 = dktX3_where_6 := dk_seg dksX3_where_5 24 rfl rfl
theorem dX3_where_0 : decode cX3_where 0 = .ok (.aload_n 0, 1) := dk_42 (dk_at dksX3_where_0 0 rfl rfl)
theorem dX3_where_1 : decode cX3_where 1 = .ok (.iconst 0, 1) := dk_3 (dk_at dksX3_where_0 1 rfl rfl)
theorem dX3_where_2 : decode cX3_where 2 = .ok (.putfield 1, 3) := dk_181 0 1 (dk_at dksX3_where_0 2 rfl rfl)
theorem dX3_where_5 : decode cX3_where 5 = .ok (.aload_n 0, 1) := dk_42 (dk_at dksX3_where_0 5 rfl rfl)
theorem dX3_where_6 : decode cX3_where 6 = .ok (.iload_n 1, 1) := dk_27 (dk_at dksX3_where_0 6 rfl rfl)
theorem dX3_where_7 : decode cX3_where 7 = .ok (.invokevirtual 164, 3) := dk_182 0 164 (dk_at dksX3_where_0 7 rfl rfl)
theorem dX3_where_10 : decode cX3_where 10 = .ok (.ifCond .eq 15, 3) := dk_153 0 15 (dk_at dksX3_where_0 10 rfl rfl)
theorem dX3_where_13 : decode cX3_where 13 = .ok (.iload_n 2, 1) := dk_28 (dk_at dksX3_where_0 13 rfl rfl)
theorem dX3_where_14 : decode cX3_where 14 = .ok (.i2l, 1) := dk_133 (dk_at dksX3_where_0 14 rfl rfl)
theorem dX3_where_15 : decode cX3_where 15 = .ok (.lconst 0, 1) := dk_9 (dk_at dksX3_where_0 15 rfl rfl)
theorem dX3_where_16 : decode cX3_where 16 = .ok (.ldc2_w 167, 3) := dk_20 0 167 (dk_at dksX3_where_0 16 rfl rfl)
theorem dX3_where_19 : decode cX3_where 19 = .ok (.invokestatic 135, 3) := dk_184 0 135 (dk_at dksX3_where_0 19 rfl rfl)
theorem dX3_where_22 : decode cX3_where 22 = .ok (.ifCond .ne 6, 3) := dk_154 0 6 (dk_at dksX3_where_1 0 rfl rfl)
theorem dX3_where_25 : decode cX3_where 25 = .ok (.ldc 143, 2) := dk_18 143 (dk_at dksX3_where_1 3 rfl rfl)
theorem dX3_where_27 : decode cX3_where 27 = .ok (.ireturn, 1) := dk_172 (dk_at dksX3_where_1 5 rfl rfl)
theorem dX3_where_28 : decode cX3_where 28 = .ok (.aload_n 0, 1) := dk_42 (dk_at dksX3_where_1 6 rfl rfl)
theorem dX3_where_29 : decode cX3_where 29 = .ok (.iconst 0, 1) := dk_3 (dk_at dksX3_where_1 7 rfl rfl)
theorem dX3_where_30 : decode cX3_where 30 = .ok (.iload_n 1, 1) := dk_27 (dk_at dksX3_where_1 8 rfl rfl)
theorem dX3_where_31 : decode cX3_where 31 = .ok (.invokevirtual 70, 3) := dk_182 0 70 (dk_at dksX3_where_1 9 rfl rfl)
theorem dX3_where_34 : decode cX3_where 34 = .ok (.ifCond .lt 7, 3) := dk_155 0 7 (dk_at dksX3_where_1 12 rfl rfl)
theorem dX3_where_37 : decode cX3_where 37 = .ok (.iconst 1, 1) := dk_4 (dk_at dksX3_where_1 15 rfl rfl)
theorem dX3_where_38 : decode cX3_where 38 = .ok (.goto 4, 3) := dk_167 0 4 (dk_at dksX3_where_1 16 rfl rfl)
theorem dX3_where_41 : decode cX3_where 41 = .ok (.iconst 0, 1) := dk_3 (dk_at dksX3_where_1 19 rfl rfl)
theorem dX3_where_42 : decode cX3_where 42 = .ok (.istore_n 3, 1) := dk_62 (dk_at dksX3_where_1 20 rfl rfl)
theorem dX3_where_43 : decode cX3_where 43 = .ok (.iload_n 2, 1) := dk_28 (dk_at dksX3_where_1 21 rfl rfl)
theorem dX3_where_44 : decode cX3_where 44 = .ok (.tableswitch 108 0 5 #[40, 47, 54, 61, 77, 93], 40) := by decide +kernel
theorem dX3_where_84 : decode cX3_where 84 = .ok (.aload_n 0, 1) := dk_42 (dk_at dksX3_where_3 0 rfl rfl)
theorem dX3_where_85 : decode cX3_where 85 = .ok (.getfield 21, 3) := dk_180 0 21 (dk_at dksX3_where_3 1 rfl rfl)
theorem dX3_where_88 : decode cX3_where 88 = .ok (.iload_n 1, 1) := dk_27 (dk_at dksX3_where_3 4 rfl rfl)
theorem dX3_where_89 : decode cX3_where 89 = .ok (.iaload, 1) := dk_46 (dk_at dksX3_where_3 5 rfl rfl)
theorem dX3_where_90 : decode cX3_where 90 = .ok (.ireturn, 1) := dk_172 (dk_at dksX3_where_3 6 rfl rfl)
theorem dX3_where_91 : decode cX3_where 91 = .ok (.aload_n 0, 1) := dk_42 (dk_at dksX3_where_3 7 rfl rfl)
theorem dX3_where_92 : decode cX3_where 92 = .ok (.getfield 24, 3) := dk_180 0 24 (dk_at dksX3_where_3 8 rfl rfl)
theorem dX3_where_95 : decode cX3_where 95 = .ok (.iload_n 1, 1) := dk_27 (dk_at dksX3_where_3 11 rfl rfl)
theorem dX3_where_96 : decode cX3_where 96 = .ok (.iaload, 1) := dk_46 (dk_at dksX3_where_3 12 rfl rfl)
theorem dX3_where_97 : decode cX3_where 97 = .ok (.ireturn, 1) := dk_172 (dk_at dksX3_where_3 13 rfl rfl)
theorem dX3_where_98 : decode cX3_where 98 = .ok (.aload_n 0, 1) := dk_42 (dk_at dksX3_where_3 14 rfl rfl)
theorem dX3_where_99 : decode cX3_where 99 = .ok (.iconst 0, 1) := dk_3 (dk_at dksX3_where_3 15 rfl rfl)
theorem dX3_where_100 : decode cX3_where 100 = .ok (.iload_n 1, 1) := dk_27 (dk_at dksX3_where_3 16 rfl rfl)
theorem dX3_where_101 : decode cX3_where 101 = .ok (.invokevirtual 82, 3) := dk_182 0 82 (dk_at dksX3_where_3 17 rfl rfl)
theorem dX3_where_104 : decode cX3_where 104 = .ok (.ireturn, 1) := dk_172 (dk_at dksX3_where_3 20 rfl rfl)
theorem dX3_where_105 : decode cX3_where 105 = .ok (.iload_n 3, 1) := dk_29 (dk_at dksX3_where_3 21 rfl rfl)
theorem dX3_where_106 : decode cX3_where 106 = .ok (.ifCond .eq 8, 3) := dk_153 0 8 (dk_at dksX3_where_4 0 rfl rfl)
theorem dX3_where_109 : decode cX3_where 109 = .ok (.ldc 81, 2) := dk_18 81 (dk_at dksX3_where_4 3 rfl rfl)
theorem dX3_where_111 : decode cX3_where 111 = .ok (.goto 9, 3) := dk_167 0 9 (dk_at dksX3_where_4 5 rfl rfl)
theorem dX3_where_114 : decode cX3_where 114 = .ok (.aload_n 0, 1) := dk_42 (dk_at dksX3_where_4 8 rfl rfl)
theorem dX3_where_115 : decode cX3_where 115 = .ok (.iconst 0, 1) := dk_3 (dk_at dksX3_where_4 9 rfl rfl)
theorem dX3_where_116 : decode cX3_where 116 = .ok (.iload_n 1, 1) := dk_27 (dk_at dksX3_where_4 10 rfl rfl)
theorem dX3_where_117 : decode cX3_where 117 = .ok (.invokevirtual 110, 3) := dk_182 0 110 (dk_at dksX3_where_4 11 rfl rfl)
theorem dX3_where_120 : decode cX3_where 120 = .ok (.ireturn, 1) := dk_172 (dk_at dksX3_where_4 14 rfl rfl)
theorem dX3_where_121 : decode cX3_where 121 = .ok (.iload_n 3, 1) := dk_29 (dk_at dksX3_where_4 15 rfl rfl)
theorem dX3_where_122 : decode cX3_where 122 = .ok (.ifCond .eq 12, 3) := dk_153 0 12 (dk_at dksX3_where_4 16 rfl rfl)
theorem dX3_where_125 : decode cX3_where 125 = .ok (.aload_n 0, 1) := dk_42 (dk_at dksX3_where_4 19 rfl rfl)
theorem dX3_where_126 : decode cX3_where 126 = .ok (.iconst 0, 1) := dk_3 (dk_at dksX3_where_4 20 rfl rfl)
theorem dX3_where_127 : decode cX3_where 127 = .ok (.iload_n 1, 1) := dk_27 (dk_at dksX3_where_4 21 rfl rfl)
theorem dX3_where_128 : decode cX3_where 128 = .ok (.invokevirtual 70, 3) := dk_182 0 70 (dk_at dksX3_where_5 0 rfl rfl)
theorem dX3_where_131 : decode cX3_where 131 = .ok (.goto 5, 3) := dk_167 0 5 (dk_at dksX3_where_5 3 rfl rfl)
theorem dX3_where_134 : decode cX3_where 134 = .ok (.ldc 81, 2) := dk_18 81 (dk_at dksX3_where_5 6 rfl rfl)
theorem dX3_where_136 : decode cX3_where 136 = .ok (.ireturn, 1) := dk_172 (dk_at dksX3_where_5 8 rfl rfl)
theorem dX3_where_137 : decode cX3_where 137 = .ok (.aload_n 0, 1) := dk_42 (dk_at dksX3_where_5 9 rfl rfl)
theorem dX3_where_138 : decode cX3_where 138 = .ok (.iconst 0, 1) := dk_3 (dk_at dksX3_where_5 10 rfl rfl)
theorem dX3_where_139 : decode cX3_where 139 = .ok (.iload_n 1, 1) := dk_27 (dk_at dksX3_where_5 11 rfl rfl)
theorem dX3_where_140 : decode cX3_where 140 = .ok (.invokevirtual 88, 3) := dk_182 0 88 (dk_at dksX3_where_5 12 rfl rfl)
theorem dX3_where_143 : decode cX3_where 143 = .ok (.ifCond .eq 7, 3) := dk_153 0 7 (dk_at dksX3_where_5 15 rfl rfl)
theorem dX3_where_146 : decode cX3_where 146 = .ok (.iconst 1, 1) := dk_4 (dk_at dksX3_where_5 18 rfl rfl)
theorem dX3_where_147 : decode cX3_where 147 = .ok (.goto 4, 3) := dk_167 0 4 (dk_at dksX3_where_5 19 rfl rfl)
theorem dX3_where_150 : decode cX3_where 150 = .ok (.iconst 0, 1) := dk_3 (dk_at dksX3_where_5 22 rfl rfl)
theorem dX3_where_151 : decode cX3_where 151 = .ok (.ireturn, 1) := dk_172 (dk_at dksX3_where_5 23 rfl rfl)
theorem dX3_where_152 : decode cX3_where 152 = .ok (.aload_n 0, 1) := dk_42 (dk_at dksX3_where_6 0 rfl rfl)
theorem dX3_where_153 : decode cX3_where 153 = .ok (.iconst 0, 1) := dk_3 (dk_at dksX3_where_6 1 rfl rfl)
theorem dX3_where_154 : decode cX3_where 154 = .ok (.iload_n 1, 1) := dk_27 (dk_at dksX3_where_6 2 rfl rfl)
theorem dX3_where_155 : decode cX3_where 155 = .ok (.invokevirtual 95, 3) := dk_182 0 95 (dk_at dksX3_where_6 3 rfl rfl)
theorem dX3_where_158 : decode cX3_where 158 = .ok (.ifCond .ge 8, 3) := dk_156 0 8 (dk_at dksX3_where_6 6 rfl rfl)
theorem dX3_where_161 : decode cX3_where 161 = .ok (.ldc 81, 2) := dk_18 81 (dk_at dksX3_where_6 9 rfl rfl)
theorem dX3_where_163 : decode cX3_where 163 = .ok (.goto 9, 3) := dk_167 0 9 (dk_at dksX3_where_6 11 rfl rfl)
theorem dX3_where_166 : decode cX3_where 166 = .ok (.aload_n 0, 1) := dk_42 (dk_at dksX3_where_6 14 rfl rfl)
theorem dX3_where_167 : decode cX3_where 167 = .ok (.iconst 0, 1) := dk_3 (dk_at dksX3_where_6 15 rfl rfl)
theorem dX3_where_168 : decode cX3_where 168 = .ok (.iload_n 1, 1) := dk_27 (dk_at dksX3_where_6 16 rfl rfl)
theorem dX3_where_169 : decode cX3_where 169 = .ok (.invokevirtual 95, 3) := dk_182 0 95 (dk_at dksX3_where_6 17 rfl rfl)
theorem dX3_where_172 : decode cX3_where 172 = .ok (.ireturn, 1) := dk_172 (dk_at dksX3_where_6 20 rfl rfl)
abbrev cX3_isThing : ByteArray := prog_18_method_27_code
def yX3_isThing : MethodName := ⟨RX3, "isThing", "(I)Z"⟩
def dkwX3_isThing_0 : List UInt8 := [27, 133, 9, 42, 180, 0, 85, 4, 100, 133, 184, 0, 135, 172]
abbrev dktX3_isThing_0 : List UInt8 := dkwX3_isThing_0 ++ []
theorem dksX3_isThing_0 : cX3_isThing.data.toList.drop 0 = dktX3_isThing_0 := by decide +kernel
theorem dX3_isThing_0 : decode cX3_isThing 0 = .ok (.iload_n 1, 1) := dk_27 (dk_at dksX3_isThing_0 0 rfl rfl)
theorem dX3_isThing_1 : decode cX3_isThing 1 = .ok (.i2l, 1) := dk_133 (dk_at dksX3_isThing_0 1 rfl rfl)
theorem dX3_isThing_2 : decode cX3_isThing 2 = .ok (.lconst 0, 1) := dk_9 (dk_at dksX3_isThing_0 2 rfl rfl)
theorem dX3_isThing_3 : decode cX3_isThing 3 = .ok (.aload_n 0, 1) := dk_42 (dk_at dksX3_isThing_0 3 rfl rfl)
theorem dX3_isThing_4 : decode cX3_isThing 4 = .ok (.getfield 85, 3) := dk_180 0 85 (dk_at dksX3_isThing_0 4 rfl rfl)
theorem dX3_isThing_7 : decode cX3_isThing 7 = .ok (.iconst 1, 1) := dk_4 (dk_at dksX3_isThing_0 7 rfl rfl)
theorem dX3_isThing_8 : decode cX3_isThing 8 = .ok (.isub, 1) := dk_100 (dk_at dksX3_isThing_0 8 rfl rfl)
theorem dX3_isThing_9 : decode cX3_isThing 9 = .ok (.i2l, 1) := dk_133 (dk_at dksX3_isThing_0 9 rfl rfl)
theorem dX3_isThing_10 : decode cX3_isThing 10 = .ok (.invokestatic 135, 3) := dk_184 0 135 (dk_at dksX3_isThing_0 10 rfl rfl)
theorem dX3_isThing_13 : decode cX3_isThing 13 = .ok (.ireturn, 1) := dk_172 (dk_at dksX3_isThing_0 13 rfl rfl)
abbrev cX3_pile : ByteArray := prog_18_method_31_code
def yX3_pile : MethodName := ⟨RX3, "pile", "(II)I"⟩
def dkwX3_pile_2 : List UInt8 := [27, 28, 182, 0, 77, 167, 0, 5, 18, 81, 172]
abbrev dktX3_pile_2 : List UInt8 := dkwX3_pile_2 ++ []
def dkwX3_pile_1 : List UInt8 := [160, 0, 12, 42, 3, 27, 182, 0, 74, 167, 0, 25, 28, 42, 3, 27, 182, 0, 74, 162, 0, 13, 42, 3]
abbrev dktX3_pile_1 : List UInt8 := dkwX3_pile_1 ++ dktX3_pile_2
def dkwX3_pile_0 : List UInt8 := [42, 3, 181, 0, 1, 27, 184, 0, 157, 153, 0, 8, 28, 2, 162, 0, 8, 18, 143, 167, 0, 39, 28, 2]
abbrev dktX3_pile_0 : List UInt8 := dkwX3_pile_0 ++ dktX3_pile_1
theorem dksX3_pile_0 : cX3_pile.data.toList.drop 0 = dktX3_pile_0 := by decide +kernel
theorem dksX3_pile_1 : cX3_pile.data.toList.drop 24 = dktX3_pile_1 := dk_seg dksX3_pile_0 24 rfl rfl
theorem dksX3_pile_2 : cX3_pile.data.toList.drop 48 = dktX3_pile_2 := dk_seg dksX3_pile_1 24 rfl rfl
theorem dX3_pile_0 : decode cX3_pile 0 = .ok (.aload_n 0, 1) := dk_42 (dk_at dksX3_pile_0 0 rfl rfl)
theorem dX3_pile_1 : decode cX3_pile 1 = .ok (.iconst 0, 1) := dk_3 (dk_at dksX3_pile_0 1 rfl rfl)
theorem dX3_pile_2 : decode cX3_pile 2 = .ok (.putfield 1, 3) := dk_181 0 1 (dk_at dksX3_pile_0 2 rfl rfl)
theorem dX3_pile_5 : decode cX3_pile 5 = .ok (.iload_n 1, 1) := dk_27 (dk_at dksX3_pile_0 5 rfl rfl)
theorem dX3_pile_6 : decode cX3_pile 6 = .ok (.invokestatic 157, 3) := dk_184 0 157 (dk_at dksX3_pile_0 6 rfl rfl)
theorem dX3_pile_9 : decode cX3_pile 9 = .ok (.ifCond .eq 8, 3) := dk_153 0 8 (dk_at dksX3_pile_0 9 rfl rfl)
theorem dX3_pile_12 : decode cX3_pile 12 = .ok (.iload_n 2, 1) := dk_28 (dk_at dksX3_pile_0 12 rfl rfl)
theorem dX3_pile_13 : decode cX3_pile 13 = .ok (.iconst (-1), 1) := dk_2 (dk_at dksX3_pile_0 13 rfl rfl)
theorem dX3_pile_14 : decode cX3_pile 14 = .ok (.if_icmp .ge 8, 3) := dk_162 0 8 (dk_at dksX3_pile_0 14 rfl rfl)
theorem dX3_pile_17 : decode cX3_pile 17 = .ok (.ldc 143, 2) := dk_18 143 (dk_at dksX3_pile_0 17 rfl rfl)
theorem dX3_pile_19 : decode cX3_pile 19 = .ok (.goto 39, 3) := dk_167 0 39 (dk_at dksX3_pile_0 19 rfl rfl)
theorem dX3_pile_22 : decode cX3_pile 22 = .ok (.iload_n 2, 1) := dk_28 (dk_at dksX3_pile_0 22 rfl rfl)
theorem dX3_pile_23 : decode cX3_pile 23 = .ok (.iconst (-1), 1) := dk_2 (dk_at dksX3_pile_0 23 rfl rfl)
theorem dX3_pile_24 : decode cX3_pile 24 = .ok (.if_icmp .ne 12, 3) := dk_160 0 12 (dk_at dksX3_pile_1 0 rfl rfl)
theorem dX3_pile_27 : decode cX3_pile 27 = .ok (.aload_n 0, 1) := dk_42 (dk_at dksX3_pile_1 3 rfl rfl)
theorem dX3_pile_28 : decode cX3_pile 28 = .ok (.iconst 0, 1) := dk_3 (dk_at dksX3_pile_1 4 rfl rfl)
theorem dX3_pile_29 : decode cX3_pile 29 = .ok (.iload_n 1, 1) := dk_27 (dk_at dksX3_pile_1 5 rfl rfl)
theorem dX3_pile_30 : decode cX3_pile 30 = .ok (.invokevirtual 74, 3) := dk_182 0 74 (dk_at dksX3_pile_1 6 rfl rfl)
theorem dX3_pile_33 : decode cX3_pile 33 = .ok (.goto 25, 3) := dk_167 0 25 (dk_at dksX3_pile_1 9 rfl rfl)
theorem dX3_pile_36 : decode cX3_pile 36 = .ok (.iload_n 2, 1) := dk_28 (dk_at dksX3_pile_1 12 rfl rfl)
theorem dX3_pile_37 : decode cX3_pile 37 = .ok (.aload_n 0, 1) := dk_42 (dk_at dksX3_pile_1 13 rfl rfl)
theorem dX3_pile_38 : decode cX3_pile 38 = .ok (.iconst 0, 1) := dk_3 (dk_at dksX3_pile_1 14 rfl rfl)
theorem dX3_pile_39 : decode cX3_pile 39 = .ok (.iload_n 1, 1) := dk_27 (dk_at dksX3_pile_1 15 rfl rfl)
theorem dX3_pile_40 : decode cX3_pile 40 = .ok (.invokevirtual 74, 3) := dk_182 0 74 (dk_at dksX3_pile_1 16 rfl rfl)
theorem dX3_pile_43 : decode cX3_pile 43 = .ok (.if_icmp .ge 13, 3) := dk_162 0 13 (dk_at dksX3_pile_1 19 rfl rfl)
theorem dX3_pile_46 : decode cX3_pile 46 = .ok (.aload_n 0, 1) := dk_42 (dk_at dksX3_pile_1 22 rfl rfl)
theorem dX3_pile_47 : decode cX3_pile 47 = .ok (.iconst 0, 1) := dk_3 (dk_at dksX3_pile_1 23 rfl rfl)
theorem dX3_pile_48 : decode cX3_pile 48 = .ok (.iload_n 1, 1) := dk_27 (dk_at dksX3_pile_2 0 rfl rfl)
theorem dX3_pile_49 : decode cX3_pile 49 = .ok (.iload_n 2, 1) := dk_28 (dk_at dksX3_pile_2 1 rfl rfl)
theorem dX3_pile_50 : decode cX3_pile 50 = .ok (.invokevirtual 77, 3) := dk_182 0 77 (dk_at dksX3_pile_2 2 rfl rfl)
theorem dX3_pile_53 : decode cX3_pile 53 = .ok (.goto 5, 3) := dk_167 0 5 (dk_at dksX3_pile_2 5 rfl rfl)
theorem dX3_pile_56 : decode cX3_pile 56 = .ok (.ldc 81, 2) := dk_18 81 (dk_at dksX3_pile_2 8 rfl rfl)
theorem dX3_pile_58 : decode cX3_pile 58 = .ok (.ireturn, 1) := dk_172 (dk_at dksX3_pile_2 10 rfl rfl)
abbrev cX3_reach : ByteArray := prog_18_method_33_code
def yX3_reach : MethodName := ⟨RX3, "reach", "(II)I"⟩
def dkwX3_reach_1 : List UInt8 := [18, 143, 172, 42, 180, 0, 27, 27, 46, 62, 42, 180, 0, 27, 27, 28, 79, 29, 172]
abbrev dktX3_reach_1 : List UInt8 := dkwX3_reach_1 ++ []
def dkwX3_reach_0 : List UInt8 := [42, 3, 181, 0, 1, 27, 184, 0, 169, 153, 0, 15, 28, 133, 9, 20, 0, 172, 184, 0, 135, 154, 0, 6]
abbrev dktX3_reach_0 : List UInt8 := dkwX3_reach_0 ++ dktX3_reach_1
theorem dksX3_reach_0 : cX3_reach.data.toList.drop 0 = dktX3_reach_0 := by decide +kernel
theorem dksX3_reach_1 : cX3_reach.data.toList.drop 24 = dktX3_reach_1 := dk_seg dksX3_reach_0 24 rfl rfl
theorem dX3_reach_0 : decode cX3_reach 0 = .ok (.aload_n 0, 1) := dk_42 (dk_at dksX3_reach_0 0 rfl rfl)
theorem dX3_reach_1 : decode cX3_reach 1 = .ok (.iconst 0, 1) := dk_3 (dk_at dksX3_reach_0 1 rfl rfl)
theorem dX3_reach_2 : decode cX3_reach 2 = .ok (.putfield 1, 3) := dk_181 0 1 (dk_at dksX3_reach_0 2 rfl rfl)
theorem dX3_reach_5 : decode cX3_reach 5 = .ok (.iload_n 1, 1) := dk_27 (dk_at dksX3_reach_0 5 rfl rfl)
theorem dX3_reach_6 : decode cX3_reach 6 = .ok (.invokestatic 169, 3) := dk_184 0 169 (dk_at dksX3_reach_0 6 rfl rfl)
theorem dX3_reach_9 : decode cX3_reach 9 = .ok (.ifCond .eq 15, 3) := dk_153 0 15 (dk_at dksX3_reach_0 9 rfl rfl)
theorem dX3_reach_12 : decode cX3_reach 12 = .ok (.iload_n 2, 1) := dk_28 (dk_at dksX3_reach_0 12 rfl rfl)
theorem dX3_reach_13 : decode cX3_reach 13 = .ok (.i2l, 1) := dk_133 (dk_at dksX3_reach_0 13 rfl rfl)
theorem dX3_reach_14 : decode cX3_reach 14 = .ok (.lconst 0, 1) := dk_9 (dk_at dksX3_reach_0 14 rfl rfl)
theorem dX3_reach_15 : decode cX3_reach 15 = .ok (.ldc2_w 172, 3) := dk_20 0 172 (dk_at dksX3_reach_0 15 rfl rfl)
theorem dX3_reach_18 : decode cX3_reach 18 = .ok (.invokestatic 135, 3) := dk_184 0 135 (dk_at dksX3_reach_0 18 rfl rfl)
theorem dX3_reach_21 : decode cX3_reach 21 = .ok (.ifCond .ne 6, 3) := dk_154 0 6 (dk_at dksX3_reach_0 21 rfl rfl)
theorem dX3_reach_24 : decode cX3_reach 24 = .ok (.ldc 143, 2) := dk_18 143 (dk_at dksX3_reach_1 0 rfl rfl)
theorem dX3_reach_26 : decode cX3_reach 26 = .ok (.ireturn, 1) := dk_172 (dk_at dksX3_reach_1 2 rfl rfl)
theorem dX3_reach_27 : decode cX3_reach 27 = .ok (.aload_n 0, 1) := dk_42 (dk_at dksX3_reach_1 3 rfl rfl)
theorem dX3_reach_28 : decode cX3_reach 28 = .ok (.getfield 27, 3) := dk_180 0 27 (dk_at dksX3_reach_1 4 rfl rfl)
theorem dX3_reach_31 : decode cX3_reach 31 = .ok (.iload_n 1, 1) := dk_27 (dk_at dksX3_reach_1 7 rfl rfl)
theorem dX3_reach_32 : decode cX3_reach 32 = .ok (.iaload, 1) := dk_46 (dk_at dksX3_reach_1 8 rfl rfl)
theorem dX3_reach_33 : decode cX3_reach 33 = .ok (.istore_n 3, 1) := dk_62 (dk_at dksX3_reach_1 9 rfl rfl)
theorem dX3_reach_34 : decode cX3_reach 34 = .ok (.aload_n 0, 1) := dk_42 (dk_at dksX3_reach_1 10 rfl rfl)
theorem dX3_reach_35 : decode cX3_reach 35 = .ok (.getfield 27, 3) := dk_180 0 27 (dk_at dksX3_reach_1 11 rfl rfl)
theorem dX3_reach_38 : decode cX3_reach 38 = .ok (.iload_n 1, 1) := dk_27 (dk_at dksX3_reach_1 14 rfl rfl)
theorem dX3_reach_39 : decode cX3_reach 39 = .ok (.iload_n 2, 1) := dk_28 (dk_at dksX3_reach_1 15 rfl rfl)
theorem dX3_reach_40 : decode cX3_reach 40 = .ok (.iastore, 1) := dk_79 (dk_at dksX3_reach_1 16 rfl rfl)
theorem dX3_reach_41 : decode cX3_reach 41 = .ok (.iload_n 3, 1) := dk_29 (dk_at dksX3_reach_1 17 rfl rfl)
theorem dX3_reach_42 : decode cX3_reach 42 = .ok (.ireturn, 1) := dk_172 (dk_at dksX3_reach_1 18 rfl rfl)
abbrev cX3_isArm : ByteArray := prog_18_method_32_code
def yX3_isArm : MethodName := ⟨RX3, "isArm", "(I)Z"⟩
def dkwX3_isArm_0 : List UInt8 := [26, 133, 9, 10, 184, 0, 135, 172]
abbrev dktX3_isArm_0 : List UInt8 := dkwX3_isArm_0 ++ []
theorem dksX3_isArm_0 : cX3_isArm.data.toList.drop 0 = dktX3_isArm_0 := by decide +kernel
theorem dX3_isArm_0 : decode cX3_isArm 0 = .ok (.iload_n 0, 1) := dk_26 (dk_at dksX3_isArm_0 0 rfl rfl)
theorem dX3_isArm_1 : decode cX3_isArm 1 = .ok (.i2l, 1) := dk_133 (dk_at dksX3_isArm_0 1 rfl rfl)
theorem dX3_isArm_2 : decode cX3_isArm 2 = .ok (.lconst 0, 1) := dk_9 (dk_at dksX3_isArm_0 2 rfl rfl)
theorem dX3_isArm_3 : decode cX3_isArm 3 = .ok (.lconst 1, 1) := dk_10 (dk_at dksX3_isArm_0 3 rfl rfl)
theorem dX3_isArm_4 : decode cX3_isArm 4 = .ok (.invokestatic 135, 3) := dk_184 0 135 (dk_at dksX3_isArm_0 4 rfl rfl)
theorem dX3_isArm_7 : decode cX3_isArm 7 = .ok (.ireturn, 1) := dk_172 (dk_at dksX3_isArm_0 7 rfl rfl)
abbrev cX3_move : ByteArray := prog_18_method_36_code
def yX3_move : MethodName := ⟨RX3, "move", "(III)I"⟩
def dkwX3_move_2 : List UInt8 := [182, 0, 181, 154, 0, 6, 18, 150, 172, 42, 3, 28, 29, 182, 0, 123, 4, 172]
abbrev dktX3_move_2 : List UInt8 := dkwX3_move_2 ++ []
def dkwX3_move_1 : List UInt8 := [182, 0, 178, 154, 0, 6, 18, 143, 172, 42, 3, 28, 29, 182, 0, 120, 153, 0, 14, 42, 3, 27, 28, 29]
abbrev dktX3_move_1 : List UInt8 := dkwX3_move_1 ++ dktX3_move_2
def dkwX3_move_0 : List UInt8 := [42, 3, 181, 0, 1, 27, 184, 0, 169, 153, 0, 19, 42, 28, 182, 0, 164, 153, 0, 11, 42, 29]
abbrev dktX3_move_0 : List UInt8 := dkwX3_move_0 ++ dktX3_move_1
theorem dksX3_move_0 : cX3_move.data.toList.drop 0 = dktX3_move_0 := by decide +kernel
theorem dksX3_move_1 : cX3_move.data.toList.drop 22 = dktX3_move_1 := dk_seg dksX3_move_0 22 rfl rfl
theorem dksX3_move_2 : cX3_move.data.toList.drop 46 = dktX3_move_2 := dk_seg dksX3_move_1 24 rfl rfl
theorem dX3_move_0 : decode cX3_move 0 = .ok (.aload_n 0, 1) := dk_42 (dk_at dksX3_move_0 0 rfl rfl)
theorem dX3_move_1 : decode cX3_move 1 = .ok (.iconst 0, 1) := dk_3 (dk_at dksX3_move_0 1 rfl rfl)
theorem dX3_move_2 : decode cX3_move 2 = .ok (.putfield 1, 3) := dk_181 0 1 (dk_at dksX3_move_0 2 rfl rfl)
theorem dX3_move_5 : decode cX3_move 5 = .ok (.iload_n 1, 1) := dk_27 (dk_at dksX3_move_0 5 rfl rfl)
theorem dX3_move_6 : decode cX3_move 6 = .ok (.invokestatic 169, 3) := dk_184 0 169 (dk_at dksX3_move_0 6 rfl rfl)
theorem dX3_move_9 : decode cX3_move 9 = .ok (.ifCond .eq 19, 3) := dk_153 0 19 (dk_at dksX3_move_0 9 rfl rfl)
theorem dX3_move_12 : decode cX3_move 12 = .ok (.aload_n 0, 1) := dk_42 (dk_at dksX3_move_0 12 rfl rfl)
theorem dX3_move_13 : decode cX3_move 13 = .ok (.iload_n 2, 1) := dk_28 (dk_at dksX3_move_0 13 rfl rfl)
theorem dX3_move_14 : decode cX3_move 14 = .ok (.invokevirtual 164, 3) := dk_182 0 164 (dk_at dksX3_move_0 14 rfl rfl)
theorem dX3_move_17 : decode cX3_move 17 = .ok (.ifCond .eq 11, 3) := dk_153 0 11 (dk_at dksX3_move_0 17 rfl rfl)
theorem dX3_move_20 : decode cX3_move 20 = .ok (.aload_n 0, 1) := dk_42 (dk_at dksX3_move_0 20 rfl rfl)
theorem dX3_move_21 : decode cX3_move 21 = .ok (.iload_n 3, 1) := dk_29 (dk_at dksX3_move_0 21 rfl rfl)
theorem dX3_move_22 : decode cX3_move 22 = .ok (.invokevirtual 178, 3) := dk_182 0 178 (dk_at dksX3_move_1 0 rfl rfl)
theorem dX3_move_25 : decode cX3_move 25 = .ok (.ifCond .ne 6, 3) := dk_154 0 6 (dk_at dksX3_move_1 3 rfl rfl)
theorem dX3_move_28 : decode cX3_move 28 = .ok (.ldc 143, 2) := dk_18 143 (dk_at dksX3_move_1 6 rfl rfl)
theorem dX3_move_30 : decode cX3_move 30 = .ok (.ireturn, 1) := dk_172 (dk_at dksX3_move_1 8 rfl rfl)
theorem dX3_move_31 : decode cX3_move 31 = .ok (.aload_n 0, 1) := dk_42 (dk_at dksX3_move_1 9 rfl rfl)
theorem dX3_move_32 : decode cX3_move 32 = .ok (.iconst 0, 1) := dk_3 (dk_at dksX3_move_1 10 rfl rfl)
theorem dX3_move_33 : decode cX3_move 33 = .ok (.iload_n 2, 1) := dk_28 (dk_at dksX3_move_1 11 rfl rfl)
theorem dX3_move_34 : decode cX3_move 34 = .ok (.iload_n 3, 1) := dk_29 (dk_at dksX3_move_1 12 rfl rfl)
theorem dX3_move_35 : decode cX3_move 35 = .ok (.invokevirtual 120, 3) := dk_182 0 120 (dk_at dksX3_move_1 13 rfl rfl)
theorem dX3_move_38 : decode cX3_move 38 = .ok (.ifCond .eq 14, 3) := dk_153 0 14 (dk_at dksX3_move_1 16 rfl rfl)
theorem dX3_move_41 : decode cX3_move 41 = .ok (.aload_n 0, 1) := dk_42 (dk_at dksX3_move_1 19 rfl rfl)
theorem dX3_move_42 : decode cX3_move 42 = .ok (.iconst 0, 1) := dk_3 (dk_at dksX3_move_1 20 rfl rfl)
theorem dX3_move_43 : decode cX3_move 43 = .ok (.iload_n 1, 1) := dk_27 (dk_at dksX3_move_1 21 rfl rfl)
theorem dX3_move_44 : decode cX3_move 44 = .ok (.iload_n 2, 1) := dk_28 (dk_at dksX3_move_1 22 rfl rfl)
theorem dX3_move_45 : decode cX3_move 45 = .ok (.iload_n 3, 1) := dk_29 (dk_at dksX3_move_1 23 rfl rfl)
theorem dX3_move_46 : decode cX3_move 46 = .ok (.invokevirtual 181, 3) := dk_182 0 181 (dk_at dksX3_move_2 0 rfl rfl)
theorem dX3_move_49 : decode cX3_move 49 = .ok (.ifCond .ne 6, 3) := dk_154 0 6 (dk_at dksX3_move_2 3 rfl rfl)
theorem dX3_move_52 : decode cX3_move 52 = .ok (.ldc 150, 2) := dk_18 150 (dk_at dksX3_move_2 6 rfl rfl)
theorem dX3_move_54 : decode cX3_move 54 = .ok (.ireturn, 1) := dk_172 (dk_at dksX3_move_2 8 rfl rfl)
theorem dX3_move_55 : decode cX3_move 55 = .ok (.aload_n 0, 1) := dk_42 (dk_at dksX3_move_2 9 rfl rfl)
theorem dX3_move_56 : decode cX3_move 56 = .ok (.iconst 0, 1) := dk_3 (dk_at dksX3_move_2 10 rfl rfl)
theorem dX3_move_57 : decode cX3_move 57 = .ok (.iload_n 2, 1) := dk_28 (dk_at dksX3_move_2 11 rfl rfl)
theorem dX3_move_58 : decode cX3_move 58 = .ok (.iload_n 3, 1) := dk_29 (dk_at dksX3_move_2 12 rfl rfl)
theorem dX3_move_59 : decode cX3_move 59 = .ok (.invokevirtual 123, 3) := dk_182 0 123 (dk_at dksX3_move_2 13 rfl rfl)
theorem dX3_move_62 : decode cX3_move 62 = .ok (.iconst 1, 1) := dk_4 (dk_at dksX3_move_2 16 rfl rfl)
theorem dX3_move_63 : decode cX3_move 63 = .ok (.ireturn, 1) := dk_172 (dk_at dksX3_move_2 17 rfl rfl)
abbrev cX3_isTo : ByteArray := prog_18_method_35_code
def yX3_isTo : MethodName := ⟨RX3, "isTo", "(I)Z"⟩
def dkwX3_isTo_2 : List UInt8 := [167, 0, 4, 3, 172]
abbrev dktX3_isTo_2 : List UInt8 := dkwX3_isTo_2 ++ []
def dkwX3_isTo_1 : List UInt8 := [16, 8, 100, 182, 0, 164, 153, 0, 20, 42, 180, 0, 21, 27, 16, 8, 100, 46, 5, 160, 0, 7, 4]
abbrev dktX3_isTo_1 : List UInt8 := dkwX3_isTo_1 ++ dktX3_isTo_2
def dkwX3_isTo_0 : List UInt8 := [27, 184, 0, 157, 154, 0, 41, 27, 133, 20, 0, 174, 20, 0, 176, 184, 0, 135, 153, 0, 31, 42, 27]
abbrev dktX3_isTo_0 : List UInt8 := dkwX3_isTo_0 ++ dktX3_isTo_1
theorem dksX3_isTo_0 : cX3_isTo.data.toList.drop 0 = dktX3_isTo_0 := by decide +kernel
theorem dksX3_isTo_1 : cX3_isTo.data.toList.drop 23 = dktX3_isTo_1 := dk_seg dksX3_isTo_0 23 rfl rfl
theorem dksX3_isTo_2 : cX3_isTo.data.toList.drop 46 = dktX3_isTo_2 := dk_seg dksX3_isTo_1 23 rfl rfl
theorem dX3_isTo_0 : decode cX3_isTo 0 = .ok (.iload_n 1, 1) := dk_27 (dk_at dksX3_isTo_0 0 rfl rfl)
theorem dX3_isTo_1 : decode cX3_isTo 1 = .ok (.invokestatic 157, 3) := dk_184 0 157 (dk_at dksX3_isTo_0 1 rfl rfl)
theorem dX3_isTo_4 : decode cX3_isTo 4 = .ok (.ifCond .ne 41, 3) := dk_154 0 41 (dk_at dksX3_isTo_0 4 rfl rfl)
theorem dX3_isTo_7 : decode cX3_isTo 7 = .ok (.iload_n 1, 1) := dk_27 (dk_at dksX3_isTo_0 7 rfl rfl)
theorem dX3_isTo_8 : decode cX3_isTo 8 = .ok (.i2l, 1) := dk_133 (dk_at dksX3_isTo_0 8 rfl rfl)
theorem dX3_isTo_9 : decode cX3_isTo 9 = .ok (.ldc2_w 174, 3) := dk_20 0 174 (dk_at dksX3_isTo_0 9 rfl rfl)
theorem dX3_isTo_12 : decode cX3_isTo 12 = .ok (.ldc2_w 176, 3) := dk_20 0 176 (dk_at dksX3_isTo_0 12 rfl rfl)
theorem dX3_isTo_15 : decode cX3_isTo 15 = .ok (.invokestatic 135, 3) := dk_184 0 135 (dk_at dksX3_isTo_0 15 rfl rfl)
theorem dX3_isTo_18 : decode cX3_isTo 18 = .ok (.ifCond .eq 31, 3) := dk_153 0 31 (dk_at dksX3_isTo_0 18 rfl rfl)
theorem dX3_isTo_21 : decode cX3_isTo 21 = .ok (.aload_n 0, 1) := dk_42 (dk_at dksX3_isTo_0 21 rfl rfl)
theorem dX3_isTo_22 : decode cX3_isTo 22 = .ok (.iload_n 1, 1) := dk_27 (dk_at dksX3_isTo_0 22 rfl rfl)
theorem dX3_isTo_23 : decode cX3_isTo 23 = .ok (.bipush 8, 2) := dk_16 8 (dk_at dksX3_isTo_1 0 rfl rfl)
theorem dX3_isTo_25 : decode cX3_isTo 25 = .ok (.isub, 1) := dk_100 (dk_at dksX3_isTo_1 2 rfl rfl)
theorem dX3_isTo_26 : decode cX3_isTo 26 = .ok (.invokevirtual 164, 3) := dk_182 0 164 (dk_at dksX3_isTo_1 3 rfl rfl)
theorem dX3_isTo_29 : decode cX3_isTo 29 = .ok (.ifCond .eq 20, 3) := dk_153 0 20 (dk_at dksX3_isTo_1 6 rfl rfl)
theorem dX3_isTo_32 : decode cX3_isTo 32 = .ok (.aload_n 0, 1) := dk_42 (dk_at dksX3_isTo_1 9 rfl rfl)
theorem dX3_isTo_33 : decode cX3_isTo 33 = .ok (.getfield 21, 3) := dk_180 0 21 (dk_at dksX3_isTo_1 10 rfl rfl)
theorem dX3_isTo_36 : decode cX3_isTo 36 = .ok (.iload_n 1, 1) := dk_27 (dk_at dksX3_isTo_1 13 rfl rfl)
theorem dX3_isTo_37 : decode cX3_isTo 37 = .ok (.bipush 8, 2) := dk_16 8 (dk_at dksX3_isTo_1 14 rfl rfl)
theorem dX3_isTo_39 : decode cX3_isTo 39 = .ok (.isub, 1) := dk_100 (dk_at dksX3_isTo_1 16 rfl rfl)
theorem dX3_isTo_40 : decode cX3_isTo 40 = .ok (.iaload, 1) := dk_46 (dk_at dksX3_isTo_1 17 rfl rfl)
theorem dX3_isTo_41 : decode cX3_isTo 41 = .ok (.iconst 2, 1) := dk_5 (dk_at dksX3_isTo_1 18 rfl rfl)
theorem dX3_isTo_42 : decode cX3_isTo 42 = .ok (.if_icmp .ne 7, 3) := dk_160 0 7 (dk_at dksX3_isTo_1 19 rfl rfl)
theorem dX3_isTo_45 : decode cX3_isTo 45 = .ok (.iconst 1, 1) := dk_4 (dk_at dksX3_isTo_1 22 rfl rfl)
theorem dX3_isTo_46 : decode cX3_isTo 46 = .ok (.goto 4, 3) := dk_167 0 4 (dk_at dksX3_isTo_2 0 rfl rfl)
theorem dX3_isTo_49 : decode cX3_isTo 49 = .ok (.iconst 0, 1) := dk_3 (dk_at dksX3_isTo_2 3 rfl rfl)
theorem dX3_isTo_50 : decode cX3_isTo 50 = .ok (.ireturn, 1) := dk_172 (dk_at dksX3_isTo_2 4 rfl rfl)
abbrev cX3_doesReach : ByteArray := prog_18_method_34_code
def yX3_doesReach : MethodName := ⟨RX3, "doesReach", "(IIII)Z"⟩
def dkwX3_doesReach_2 : List UInt8 := [46, 21, 5, 122, 4, 126, 4, 160, 0, 7, 4, 167, 0, 4, 3, 172]
abbrev dktX3_doesReach_2 : List UInt8 := dkwX3_doesReach_2 ++ []
def dkwX3_doesReach_1 : List UInt8 := [42, 180, 0, 27, 28, 46, 42, 27, 29, 182, 0, 82, 122, 4, 126, 4, 160, 0, 22, 42, 180, 0, 27, 28]
abbrev dktX3_doesReach_1 : List UInt8 := dkwX3_doesReach_1 ++ dktX3_doesReach_2
def dkwX3_doesReach_0 : List UInt8 := [21, 4, 16, 8, 162, 0, 8, 21, 4, 167, 0, 13, 42, 27, 21, 4, 16, 8, 100, 182, 0, 82, 54, 5]
abbrev dktX3_doesReach_0 : List UInt8 := dkwX3_doesReach_0 ++ dktX3_doesReach_1
theorem dksX3_doesReach_0 : cX3_doesReach.data.toList.drop 0 = dktX3_doesReach_0 := by decide +kernel
theorem dksX3_doesReach_1 : cX3_doesReach.data.toList.drop 24 = dktX3_doesReach_1 := dk_seg dksX3_doesReach_0 24 rfl rfl
theorem dksX3_doesReach_2 : cX3_doesReach.data.toList.drop 48 = dktX3_doesReach_2 := dk_seg dksX3_doesReach_1 24 rfl rfl
theorem dX3_doesReach_0 : decode cX3_doesReach 0 = .ok (.iload 4, 2) := dk_21 4 (dk_at dksX3_doesReach_0 0 rfl rfl)
theorem dX3_doesReach_2 : decode cX3_doesReach 2 = .ok (.bipush 8, 2) := dk_16 8 (dk_at dksX3_doesReach_0 2 rfl rfl)
theorem dX3_doesReach_4 : decode cX3_doesReach 4 = .ok (.if_icmp .ge 8, 3) := dk_162 0 8 (dk_at dksX3_doesReach_0 4 rfl rfl)
theorem dX3_doesReach_7 : decode cX3_doesReach 7 = .ok (.iload 4, 2) := dk_21 4 (dk_at dksX3_doesReach_0 7 rfl rfl)
theorem dX3_doesReach_9 : decode cX3_doesReach 9 = .ok (.goto 13, 3) := dk_167 0 13 (dk_at dksX3_doesReach_0 9 rfl rfl)
theorem dX3_doesReach_12 : decode cX3_doesReach 12 = .ok (.aload_n 0, 1) := dk_42 (dk_at dksX3_doesReach_0 12 rfl rfl)
theorem dX3_doesReach_13 : decode cX3_doesReach 13 = .ok (.iload_n 1, 1) := dk_27 (dk_at dksX3_doesReach_0 13 rfl rfl)
theorem dX3_doesReach_14 : decode cX3_doesReach 14 = .ok (.iload 4, 2) := dk_21 4 (dk_at dksX3_doesReach_0 14 rfl rfl)
theorem dX3_doesReach_16 : decode cX3_doesReach 16 = .ok (.bipush 8, 2) := dk_16 8 (dk_at dksX3_doesReach_0 16 rfl rfl)
theorem dX3_doesReach_18 : decode cX3_doesReach 18 = .ok (.isub, 1) := dk_100 (dk_at dksX3_doesReach_0 18 rfl rfl)
theorem dX3_doesReach_19 : decode cX3_doesReach 19 = .ok (.invokevirtual 82, 3) := dk_182 0 82 (dk_at dksX3_doesReach_0 19 rfl rfl)
theorem dX3_doesReach_22 : decode cX3_doesReach 22 = .ok (.istore 5, 2) := dk_54 5 (dk_at dksX3_doesReach_0 22 rfl rfl)
theorem dX3_doesReach_24 : decode cX3_doesReach 24 = .ok (.aload_n 0, 1) := dk_42 (dk_at dksX3_doesReach_1 0 rfl rfl)
theorem dX3_doesReach_25 : decode cX3_doesReach 25 = .ok (.getfield 27, 3) := dk_180 0 27 (dk_at dksX3_doesReach_1 1 rfl rfl)
theorem dX3_doesReach_28 : decode cX3_doesReach 28 = .ok (.iload_n 2, 1) := dk_28 (dk_at dksX3_doesReach_1 4 rfl rfl)
theorem dX3_doesReach_29 : decode cX3_doesReach 29 = .ok (.iaload, 1) := dk_46 (dk_at dksX3_doesReach_1 5 rfl rfl)
theorem dX3_doesReach_30 : decode cX3_doesReach 30 = .ok (.aload_n 0, 1) := dk_42 (dk_at dksX3_doesReach_1 6 rfl rfl)
theorem dX3_doesReach_31 : decode cX3_doesReach 31 = .ok (.iload_n 1, 1) := dk_27 (dk_at dksX3_doesReach_1 7 rfl rfl)
theorem dX3_doesReach_32 : decode cX3_doesReach 32 = .ok (.iload_n 3, 1) := dk_29 (dk_at dksX3_doesReach_1 8 rfl rfl)
theorem dX3_doesReach_33 : decode cX3_doesReach 33 = .ok (.invokevirtual 82, 3) := dk_182 0 82 (dk_at dksX3_doesReach_1 9 rfl rfl)
theorem dX3_doesReach_36 : decode cX3_doesReach 36 = .ok (.ishr, 1) := dk_122 (dk_at dksX3_doesReach_1 12 rfl rfl)
theorem dX3_doesReach_37 : decode cX3_doesReach 37 = .ok (.iconst 1, 1) := dk_4 (dk_at dksX3_doesReach_1 13 rfl rfl)
theorem dX3_doesReach_38 : decode cX3_doesReach 38 = .ok (.iand, 1) := dk_126 (dk_at dksX3_doesReach_1 14 rfl rfl)
theorem dX3_doesReach_39 : decode cX3_doesReach 39 = .ok (.iconst 1, 1) := dk_4 (dk_at dksX3_doesReach_1 15 rfl rfl)
theorem dX3_doesReach_40 : decode cX3_doesReach 40 = .ok (.if_icmp .ne 22, 3) := dk_160 0 22 (dk_at dksX3_doesReach_1 16 rfl rfl)
theorem dX3_doesReach_43 : decode cX3_doesReach 43 = .ok (.aload_n 0, 1) := dk_42 (dk_at dksX3_doesReach_1 19 rfl rfl)
theorem dX3_doesReach_44 : decode cX3_doesReach 44 = .ok (.getfield 27, 3) := dk_180 0 27 (dk_at dksX3_doesReach_1 20 rfl rfl)
theorem dX3_doesReach_47 : decode cX3_doesReach 47 = .ok (.iload_n 2, 1) := dk_28 (dk_at dksX3_doesReach_1 23 rfl rfl)
theorem dX3_doesReach_48 : decode cX3_doesReach 48 = .ok (.iaload, 1) := dk_46 (dk_at dksX3_doesReach_2 0 rfl rfl)
theorem dX3_doesReach_49 : decode cX3_doesReach 49 = .ok (.iload 5, 2) := dk_21 5 (dk_at dksX3_doesReach_2 1 rfl rfl)
theorem dX3_doesReach_51 : decode cX3_doesReach 51 = .ok (.ishr, 1) := dk_122 (dk_at dksX3_doesReach_2 3 rfl rfl)
theorem dX3_doesReach_52 : decode cX3_doesReach 52 = .ok (.iconst 1, 1) := dk_4 (dk_at dksX3_doesReach_2 4 rfl rfl)
theorem dX3_doesReach_53 : decode cX3_doesReach 53 = .ok (.iand, 1) := dk_126 (dk_at dksX3_doesReach_2 5 rfl rfl)
theorem dX3_doesReach_54 : decode cX3_doesReach 54 = .ok (.iconst 1, 1) := dk_4 (dk_at dksX3_doesReach_2 6 rfl rfl)
theorem dX3_doesReach_55 : decode cX3_doesReach 55 = .ok (.if_icmp .ne 7, 3) := dk_160 0 7 (dk_at dksX3_doesReach_2 7 rfl rfl)
theorem dX3_doesReach_58 : decode cX3_doesReach 58 = .ok (.iconst 1, 1) := dk_4 (dk_at dksX3_doesReach_2 10 rfl rfl)
theorem dX3_doesReach_59 : decode cX3_doesReach 59 = .ok (.goto 4, 3) := dk_167 0 4 (dk_at dksX3_doesReach_2 11 rfl rfl)
theorem dX3_doesReach_62 : decode cX3_doesReach 62 = .ok (.iconst 0, 1) := dk_3 (dk_at dksX3_doesReach_2 14 rfl rfl)
theorem dX3_doesReach_63 : decode cX3_doesReach 63 = .ok (.ireturn, 1) := dk_172 (dk_at dksX3_doesReach_2 15 rfl rfl)
abbrev cX3_keep : ByteArray := prog_18_method_37_code
def yX3_keep : MethodName := ⟨RX3, "keep", "()I"⟩
def dkwX3_keep_1 : List UInt8 := [181, 0, 161, 42, 3, 42, 180, 0, 161, 182, 0, 144, 42, 180, 0, 161, 4, 100, 172]
abbrev dktX3_keep_1 : List UInt8 := dkwX3_keep_1 ++ []
def dkwX3_keep_0 : List UInt8 := [42, 3, 181, 0, 1, 42, 180, 0, 161, 16, 8, 160, 0, 6, 18, 160, 172, 42, 89, 180, 0, 161, 4, 96]
abbrev dktX3_keep_0 : List UInt8 := dkwX3_keep_0 ++ dktX3_keep_1
theorem dksX3_keep_0 : cX3_keep.data.toList.drop 0 = dktX3_keep_0 := by decide +kernel
theorem dksX3_keep_1 : cX3_keep.data.toList.drop 24 = dktX3_keep_1 := dk_seg dksX3_keep_0 24 rfl rfl
theorem dX3_keep_0 : decode cX3_keep 0 = .ok (.aload_n 0, 1) := dk_42 (dk_at dksX3_keep_0 0 rfl rfl)
theorem dX3_keep_1 : decode cX3_keep 1 = .ok (.iconst 0, 1) := dk_3 (dk_at dksX3_keep_0 1 rfl rfl)
theorem dX3_keep_2 : decode cX3_keep 2 = .ok (.putfield 1, 3) := dk_181 0 1 (dk_at dksX3_keep_0 2 rfl rfl)
theorem dX3_keep_5 : decode cX3_keep 5 = .ok (.aload_n 0, 1) := dk_42 (dk_at dksX3_keep_0 5 rfl rfl)
theorem dX3_keep_6 : decode cX3_keep 6 = .ok (.getfield 161, 3) := dk_180 0 161 (dk_at dksX3_keep_0 6 rfl rfl)
theorem dX3_keep_9 : decode cX3_keep 9 = .ok (.bipush 8, 2) := dk_16 8 (dk_at dksX3_keep_0 9 rfl rfl)
theorem dX3_keep_11 : decode cX3_keep 11 = .ok (.if_icmp .ne 6, 3) := dk_160 0 6 (dk_at dksX3_keep_0 11 rfl rfl)
theorem dX3_keep_14 : decode cX3_keep 14 = .ok (.ldc 160, 2) := dk_18 160 (dk_at dksX3_keep_0 14 rfl rfl)
theorem dX3_keep_16 : decode cX3_keep 16 = .ok (.ireturn, 1) := dk_172 (dk_at dksX3_keep_0 16 rfl rfl)
theorem dX3_keep_17 : decode cX3_keep 17 = .ok (.aload_n 0, 1) := dk_42 (dk_at dksX3_keep_0 17 rfl rfl)
theorem dX3_keep_18 : decode cX3_keep 18 = .ok (.dup, 1) := dk_89 (dk_at dksX3_keep_0 18 rfl rfl)
theorem dX3_keep_19 : decode cX3_keep 19 = .ok (.getfield 161, 3) := dk_180 0 161 (dk_at dksX3_keep_0 19 rfl rfl)
theorem dX3_keep_22 : decode cX3_keep 22 = .ok (.iconst 1, 1) := dk_4 (dk_at dksX3_keep_0 22 rfl rfl)
theorem dX3_keep_23 : decode cX3_keep 23 = .ok (.iadd, 1) := dk_96 (dk_at dksX3_keep_0 23 rfl rfl)
theorem dX3_keep_24 : decode cX3_keep 24 = .ok (.putfield 161, 3) := dk_181 0 161 (dk_at dksX3_keep_1 0 rfl rfl)
theorem dX3_keep_27 : decode cX3_keep 27 = .ok (.aload_n 0, 1) := dk_42 (dk_at dksX3_keep_1 3 rfl rfl)
theorem dX3_keep_28 : decode cX3_keep 28 = .ok (.iconst 0, 1) := dk_3 (dk_at dksX3_keep_1 4 rfl rfl)
theorem dX3_keep_29 : decode cX3_keep 29 = .ok (.aload_n 0, 1) := dk_42 (dk_at dksX3_keep_1 5 rfl rfl)
theorem dX3_keep_30 : decode cX3_keep 30 = .ok (.getfield 161, 3) := dk_180 0 161 (dk_at dksX3_keep_1 6 rfl rfl)
theorem dX3_keep_33 : decode cX3_keep 33 = .ok (.invokevirtual 144, 3) := dk_182 0 144 (dk_at dksX3_keep_1 9 rfl rfl)
theorem dX3_keep_36 : decode cX3_keep 36 = .ok (.aload_n 0, 1) := dk_42 (dk_at dksX3_keep_1 12 rfl rfl)
theorem dX3_keep_37 : decode cX3_keep 37 = .ok (.getfield 161, 3) := dk_180 0 161 (dk_at dksX3_keep_1 13 rfl rfl)
theorem dX3_keep_40 : decode cX3_keep 40 = .ok (.iconst 1, 1) := dk_4 (dk_at dksX3_keep_1 16 rfl rfl)
theorem dX3_keep_41 : decode cX3_keep 41 = .ok (.isub, 1) := dk_100 (dk_at dksX3_keep_1 17 rfl rfl)
theorem dX3_keep_42 : decode cX3_keep 42 = .ok (.ireturn, 1) := dk_172 (dk_at dksX3_keep_1 18 rfl rfl)
abbrev cX3_back : ByteArray := prog_18_method_39_code
def yX3_back : MethodName := ⟨RX3, "back", "(I)I"⟩
def dkwX3_back_1 : List UInt8 := [4, 172]
abbrev dktX3_back_1 : List UInt8 := dkwX3_back_1 ++ []
def dkwX3_back_0 : List UInt8 := [42, 3, 181, 0, 1, 42, 27, 182, 0, 184, 154, 0, 6, 18, 143, 172, 42, 27, 4, 96, 3, 182, 0, 144]
abbrev dktX3_back_0 : List UInt8 := dkwX3_back_0 ++ dktX3_back_1
theorem dksX3_back_0 : cX3_back.data.toList.drop 0 = dktX3_back_0 := by decide +kernel
theorem dksX3_back_1 : cX3_back.data.toList.drop 24 = dktX3_back_1 := dk_seg dksX3_back_0 24 rfl rfl
theorem dX3_back_0 : decode cX3_back 0 = .ok (.aload_n 0, 1) := dk_42 (dk_at dksX3_back_0 0 rfl rfl)
theorem dX3_back_1 : decode cX3_back 1 = .ok (.iconst 0, 1) := dk_3 (dk_at dksX3_back_0 1 rfl rfl)
theorem dX3_back_2 : decode cX3_back 2 = .ok (.putfield 1, 3) := dk_181 0 1 (dk_at dksX3_back_0 2 rfl rfl)
theorem dX3_back_5 : decode cX3_back 5 = .ok (.aload_n 0, 1) := dk_42 (dk_at dksX3_back_0 5 rfl rfl)
theorem dX3_back_6 : decode cX3_back 6 = .ok (.iload_n 1, 1) := dk_27 (dk_at dksX3_back_0 6 rfl rfl)
theorem dX3_back_7 : decode cX3_back 7 = .ok (.invokevirtual 184, 3) := dk_182 0 184 (dk_at dksX3_back_0 7 rfl rfl)
theorem dX3_back_10 : decode cX3_back 10 = .ok (.ifCond .ne 6, 3) := dk_154 0 6 (dk_at dksX3_back_0 10 rfl rfl)
theorem dX3_back_13 : decode cX3_back 13 = .ok (.ldc 143, 2) := dk_18 143 (dk_at dksX3_back_0 13 rfl rfl)
theorem dX3_back_15 : decode cX3_back 15 = .ok (.ireturn, 1) := dk_172 (dk_at dksX3_back_0 15 rfl rfl)
theorem dX3_back_16 : decode cX3_back 16 = .ok (.aload_n 0, 1) := dk_42 (dk_at dksX3_back_0 16 rfl rfl)
theorem dX3_back_17 : decode cX3_back 17 = .ok (.iload_n 1, 1) := dk_27 (dk_at dksX3_back_0 17 rfl rfl)
theorem dX3_back_18 : decode cX3_back 18 = .ok (.iconst 1, 1) := dk_4 (dk_at dksX3_back_0 18 rfl rfl)
theorem dX3_back_19 : decode cX3_back 19 = .ok (.iadd, 1) := dk_96 (dk_at dksX3_back_0 19 rfl rfl)
theorem dX3_back_20 : decode cX3_back 20 = .ok (.iconst 0, 1) := dk_3 (dk_at dksX3_back_0 20 rfl rfl)
theorem dX3_back_21 : decode cX3_back 21 = .ok (.invokevirtual 144, 3) := dk_182 0 144 (dk_at dksX3_back_0 21 rfl rfl)
theorem dX3_back_24 : decode cX3_back 24 = .ok (.iconst 1, 1) := dk_4 (dk_at dksX3_back_1 0 rfl rfl)
theorem dX3_back_25 : decode cX3_back 25 = .ok (.ireturn, 1) := dk_172 (dk_at dksX3_back_1 1 rfl rfl)
abbrev cX3_isKept : ByteArray := prog_18_method_38_code
def yX3_isKept : MethodName := ⟨RX3, "isKept", "(I)Z"⟩
def dkwX3_isKept_0 : List UInt8 := [27, 133, 9, 42, 180, 0, 161, 4, 100, 133, 184, 0, 135, 172]
abbrev dktX3_isKept_0 : List UInt8 := dkwX3_isKept_0 ++ []
theorem dksX3_isKept_0 : cX3_isKept.data.toList.drop 0 = dktX3_isKept_0 := by decide +kernel
theorem dX3_isKept_0 : decode cX3_isKept 0 = .ok (.iload_n 1, 1) := dk_27 (dk_at dksX3_isKept_0 0 rfl rfl)
theorem dX3_isKept_1 : decode cX3_isKept 1 = .ok (.i2l, 1) := dk_133 (dk_at dksX3_isKept_0 1 rfl rfl)
theorem dX3_isKept_2 : decode cX3_isKept 2 = .ok (.lconst 0, 1) := dk_9 (dk_at dksX3_isKept_0 2 rfl rfl)
theorem dX3_isKept_3 : decode cX3_isKept 3 = .ok (.aload_n 0, 1) := dk_42 (dk_at dksX3_isKept_0 3 rfl rfl)
theorem dX3_isKept_4 : decode cX3_isKept 4 = .ok (.getfield 161, 3) := dk_180 0 161 (dk_at dksX3_isKept_0 4 rfl rfl)
theorem dX3_isKept_7 : decode cX3_isKept 7 = .ok (.iconst 1, 1) := dk_4 (dk_at dksX3_isKept_0 7 rfl rfl)
theorem dX3_isKept_8 : decode cX3_isKept 8 = .ok (.isub, 1) := dk_100 (dk_at dksX3_isKept_0 8 rfl rfl)
theorem dX3_isKept_9 : decode cX3_isKept 9 = .ok (.i2l, 1) := dk_133 (dk_at dksX3_isKept_0 9 rfl rfl)
theorem dX3_isKept_10 : decode cX3_isKept 10 = .ok (.invokestatic 135, 3) := dk_184 0 135 (dk_at dksX3_isKept_0 10 rfl rfl)
theorem dX3_isKept_13 : decode cX3_isKept 13 = .ok (.ireturn, 1) := dk_172 (dk_at dksX3_isKept_0 13 rfl rfl)
abbrev cX3_same : ByteArray := prog_18_method_40_code
def yX3_same : MethodName := ⟨RX3, "same", "(II)I"⟩
def dkwX3_same_3 : List UInt8 := [153, 0, 7, 4, 167, 0, 4, 3, 172]
abbrev dktX3_same_3 : List UInt8 := dkwX3_same_3 ++ []
def dkwX3_same_2 : List UInt8 := [167, 0, 6, 27, 4, 96, 28, 18, 81, 160, 0, 7, 3, 167, 0, 6, 28, 4, 96, 182, 0, 187]
abbrev dktX3_same_2 : List UInt8 := dkwX3_same_2 ++ dktX3_same_3
def dkwX3_same_1 : List UInt8 := [159, 0, 14, 42, 28, 182, 0, 184, 154, 0, 6, 18, 143, 172, 42, 27, 18, 81, 160, 0, 7, 3]
abbrev dktX3_same_1 : List UInt8 := dkwX3_same_1 ++ dktX3_same_2
def dkwX3_same_0 : List UInt8 := [42, 3, 181, 0, 1, 27, 18, 81, 159, 0, 11, 42, 27, 182, 0, 184, 153, 0, 17, 28, 18, 81]
abbrev dktX3_same_0 : List UInt8 := dkwX3_same_0 ++ dktX3_same_1
theorem dksX3_same_0 : cX3_same.data.toList.drop 0 = dktX3_same_0 := by decide +kernel
theorem dksX3_same_1 : cX3_same.data.toList.drop 22 = dktX3_same_1 := dk_seg dksX3_same_0 22 rfl rfl
theorem dksX3_same_2 : cX3_same.data.toList.drop 44 = dktX3_same_2 := dk_seg dksX3_same_1 22 rfl rfl
theorem dksX3_same_3 : cX3_same.data.toList.drop 66 = dktX3_same_3 := dk_seg dksX3_same_2 22 rfl rfl
theorem dX3_same_0 : decode cX3_same 0 = .ok (.aload_n 0, 1) := dk_42 (dk_at dksX3_same_0 0 rfl rfl)
theorem dX3_same_1 : decode cX3_same 1 = .ok (.iconst 0, 1) := dk_3 (dk_at dksX3_same_0 1 rfl rfl)
theorem dX3_same_2 : decode cX3_same 2 = .ok (.putfield 1, 3) := dk_181 0 1 (dk_at dksX3_same_0 2 rfl rfl)
theorem dX3_same_5 : decode cX3_same 5 = .ok (.iload_n 1, 1) := dk_27 (dk_at dksX3_same_0 5 rfl rfl)
theorem dX3_same_6 : decode cX3_same 6 = .ok (.ldc 81, 2) := dk_18 81 (dk_at dksX3_same_0 6 rfl rfl)
theorem dX3_same_8 : decode cX3_same 8 = .ok (.if_icmp .eq 11, 3) := dk_159 0 11 (dk_at dksX3_same_0 8 rfl rfl)
theorem dX3_same_11 : decode cX3_same 11 = .ok (.aload_n 0, 1) := dk_42 (dk_at dksX3_same_0 11 rfl rfl)
theorem dX3_same_12 : decode cX3_same 12 = .ok (.iload_n 1, 1) := dk_27 (dk_at dksX3_same_0 12 rfl rfl)
theorem dX3_same_13 : decode cX3_same 13 = .ok (.invokevirtual 184, 3) := dk_182 0 184 (dk_at dksX3_same_0 13 rfl rfl)
theorem dX3_same_16 : decode cX3_same 16 = .ok (.ifCond .eq 17, 3) := dk_153 0 17 (dk_at dksX3_same_0 16 rfl rfl)
theorem dX3_same_19 : decode cX3_same 19 = .ok (.iload_n 2, 1) := dk_28 (dk_at dksX3_same_0 19 rfl rfl)
theorem dX3_same_20 : decode cX3_same 20 = .ok (.ldc 81, 2) := dk_18 81 (dk_at dksX3_same_0 20 rfl rfl)
theorem dX3_same_22 : decode cX3_same 22 = .ok (.if_icmp .eq 14, 3) := dk_159 0 14 (dk_at dksX3_same_1 0 rfl rfl)
theorem dX3_same_25 : decode cX3_same 25 = .ok (.aload_n 0, 1) := dk_42 (dk_at dksX3_same_1 3 rfl rfl)
theorem dX3_same_26 : decode cX3_same 26 = .ok (.iload_n 2, 1) := dk_28 (dk_at dksX3_same_1 4 rfl rfl)
theorem dX3_same_27 : decode cX3_same 27 = .ok (.invokevirtual 184, 3) := dk_182 0 184 (dk_at dksX3_same_1 5 rfl rfl)
theorem dX3_same_30 : decode cX3_same 30 = .ok (.ifCond .ne 6, 3) := dk_154 0 6 (dk_at dksX3_same_1 8 rfl rfl)
theorem dX3_same_33 : decode cX3_same 33 = .ok (.ldc 143, 2) := dk_18 143 (dk_at dksX3_same_1 11 rfl rfl)
theorem dX3_same_35 : decode cX3_same 35 = .ok (.ireturn, 1) := dk_172 (dk_at dksX3_same_1 13 rfl rfl)
theorem dX3_same_36 : decode cX3_same 36 = .ok (.aload_n 0, 1) := dk_42 (dk_at dksX3_same_1 14 rfl rfl)
theorem dX3_same_37 : decode cX3_same 37 = .ok (.iload_n 1, 1) := dk_27 (dk_at dksX3_same_1 15 rfl rfl)
theorem dX3_same_38 : decode cX3_same 38 = .ok (.ldc 81, 2) := dk_18 81 (dk_at dksX3_same_1 16 rfl rfl)
theorem dX3_same_40 : decode cX3_same 40 = .ok (.if_icmp .ne 7, 3) := dk_160 0 7 (dk_at dksX3_same_1 18 rfl rfl)
theorem dX3_same_43 : decode cX3_same 43 = .ok (.iconst 0, 1) := dk_3 (dk_at dksX3_same_1 21 rfl rfl)
theorem dX3_same_44 : decode cX3_same 44 = .ok (.goto 6, 3) := dk_167 0 6 (dk_at dksX3_same_2 0 rfl rfl)
theorem dX3_same_47 : decode cX3_same 47 = .ok (.iload_n 1, 1) := dk_27 (dk_at dksX3_same_2 3 rfl rfl)
theorem dX3_same_48 : decode cX3_same 48 = .ok (.iconst 1, 1) := dk_4 (dk_at dksX3_same_2 4 rfl rfl)
theorem dX3_same_49 : decode cX3_same 49 = .ok (.iadd, 1) := dk_96 (dk_at dksX3_same_2 5 rfl rfl)
theorem dX3_same_50 : decode cX3_same 50 = .ok (.iload_n 2, 1) := dk_28 (dk_at dksX3_same_2 6 rfl rfl)
theorem dX3_same_51 : decode cX3_same 51 = .ok (.ldc 81, 2) := dk_18 81 (dk_at dksX3_same_2 7 rfl rfl)
theorem dX3_same_53 : decode cX3_same 53 = .ok (.if_icmp .ne 7, 3) := dk_160 0 7 (dk_at dksX3_same_2 9 rfl rfl)
theorem dX3_same_56 : decode cX3_same 56 = .ok (.iconst 0, 1) := dk_3 (dk_at dksX3_same_2 12 rfl rfl)
theorem dX3_same_57 : decode cX3_same 57 = .ok (.goto 6, 3) := dk_167 0 6 (dk_at dksX3_same_2 13 rfl rfl)
theorem dX3_same_60 : decode cX3_same 60 = .ok (.iload_n 2, 1) := dk_28 (dk_at dksX3_same_2 16 rfl rfl)
theorem dX3_same_61 : decode cX3_same 61 = .ok (.iconst 1, 1) := dk_4 (dk_at dksX3_same_2 17 rfl rfl)
theorem dX3_same_62 : decode cX3_same 62 = .ok (.iadd, 1) := dk_96 (dk_at dksX3_same_2 18 rfl rfl)
theorem dX3_same_63 : decode cX3_same 63 = .ok (.invokevirtual 187, 3) := dk_182 0 187 (dk_at dksX3_same_2 19 rfl rfl)
theorem dX3_same_66 : decode cX3_same 66 = .ok (.ifCond .eq 7, 3) := dk_153 0 7 (dk_at dksX3_same_3 0 rfl rfl)
theorem dX3_same_69 : decode cX3_same 69 = .ok (.iconst 1, 1) := dk_4 (dk_at dksX3_same_3 3 rfl rfl)
theorem dX3_same_70 : decode cX3_same 70 = .ok (.goto 4, 3) := dk_167 0 4 (dk_at dksX3_same_3 4 rfl rfl)
theorem dX3_same_73 : decode cX3_same 73 = .ok (.iconst 0, 1) := dk_3 (dk_at dksX3_same_3 7 rfl rfl)
theorem dX3_same_74 : decode cX3_same 74 = .ok (.ireturn, 1) := dk_172 (dk_at dksX3_same_3 8 rfl rfl)
abbrev cX3_isSame : ByteArray := prog_18_method_6_code
def yX3_isSame : MethodName := ⟨RX3, "isSame", "(II)Z"⟩
def dkwX3_isSame_2 : List UInt8 := [62, 132, 4, 1, 167, 255, 209, 29, 172]
abbrev dktX3_isSame_2 : List UInt8 := dkwX3_isSame_2 ++ []
def dkwX3_isSame_1 : List UInt8 := [21, 4, 96, 46, 42, 180, 0, 17, 16, 62, 28, 104, 21, 4, 96, 46, 160, 0, 7, 4, 167, 0, 4, 3]
abbrev dktX3_isSame_1 : List UInt8 := dkwX3_isSame_1 ++ dktX3_isSame_2
def dkwX3_isSame_0 : List UInt8 := [4, 62, 3, 54, 4, 21, 4, 16, 62, 162, 0, 46, 29, 153, 0, 42, 42, 180, 0, 17, 16, 62, 27, 104]
abbrev dktX3_isSame_0 : List UInt8 := dkwX3_isSame_0 ++ dktX3_isSame_1
theorem dksX3_isSame_0 : cX3_isSame.data.toList.drop 0 = dktX3_isSame_0 := by decide +kernel
theorem dksX3_isSame_1 : cX3_isSame.data.toList.drop 24 = dktX3_isSame_1 := dk_seg dksX3_isSame_0 24 rfl rfl
theorem dksX3_isSame_2 : cX3_isSame.data.toList.drop 48 = dktX3_isSame_2 := dk_seg dksX3_isSame_1 24 rfl rfl
theorem dX3_isSame_0 : decode cX3_isSame 0 = .ok (.iconst 1, 1) := dk_4 (dk_at dksX3_isSame_0 0 rfl rfl)
theorem dX3_isSame_1 : decode cX3_isSame 1 = .ok (.istore_n 3, 1) := dk_62 (dk_at dksX3_isSame_0 1 rfl rfl)
theorem dX3_isSame_2 : decode cX3_isSame 2 = .ok (.iconst 0, 1) := dk_3 (dk_at dksX3_isSame_0 2 rfl rfl)
theorem dX3_isSame_3 : decode cX3_isSame 3 = .ok (.istore 4, 2) := dk_54 4 (dk_at dksX3_isSame_0 3 rfl rfl)
theorem dX3_isSame_5 : decode cX3_isSame 5 = .ok (.iload 4, 2) := dk_21 4 (dk_at dksX3_isSame_0 5 rfl rfl)
theorem dX3_isSame_7 : decode cX3_isSame 7 = .ok (.bipush 62, 2) := dk_16 62 (dk_at dksX3_isSame_0 7 rfl rfl)
theorem dX3_isSame_9 : decode cX3_isSame 9 = .ok (.if_icmp .ge 46, 3) := dk_162 0 46 (dk_at dksX3_isSame_0 9 rfl rfl)
theorem dX3_isSame_12 : decode cX3_isSame 12 = .ok (.iload_n 3, 1) := dk_29 (dk_at dksX3_isSame_0 12 rfl rfl)
theorem dX3_isSame_13 : decode cX3_isSame 13 = .ok (.ifCond .eq 42, 3) := dk_153 0 42 (dk_at dksX3_isSame_0 13 rfl rfl)
theorem dX3_isSame_16 : decode cX3_isSame 16 = .ok (.aload_n 0, 1) := dk_42 (dk_at dksX3_isSame_0 16 rfl rfl)
theorem dX3_isSame_17 : decode cX3_isSame 17 = .ok (.getfield 17, 3) := dk_180 0 17 (dk_at dksX3_isSame_0 17 rfl rfl)
theorem dX3_isSame_20 : decode cX3_isSame 20 = .ok (.bipush 62, 2) := dk_16 62 (dk_at dksX3_isSame_0 20 rfl rfl)
theorem dX3_isSame_22 : decode cX3_isSame 22 = .ok (.iload_n 1, 1) := dk_27 (dk_at dksX3_isSame_0 22 rfl rfl)
theorem dX3_isSame_23 : decode cX3_isSame 23 = .ok (.imul, 1) := dk_104 (dk_at dksX3_isSame_0 23 rfl rfl)
theorem dX3_isSame_24 : decode cX3_isSame 24 = .ok (.iload 4, 2) := dk_21 4 (dk_at dksX3_isSame_1 0 rfl rfl)
theorem dX3_isSame_26 : decode cX3_isSame 26 = .ok (.iadd, 1) := dk_96 (dk_at dksX3_isSame_1 2 rfl rfl)
theorem dX3_isSame_27 : decode cX3_isSame 27 = .ok (.iaload, 1) := dk_46 (dk_at dksX3_isSame_1 3 rfl rfl)
theorem dX3_isSame_28 : decode cX3_isSame 28 = .ok (.aload_n 0, 1) := dk_42 (dk_at dksX3_isSame_1 4 rfl rfl)
theorem dX3_isSame_29 : decode cX3_isSame 29 = .ok (.getfield 17, 3) := dk_180 0 17 (dk_at dksX3_isSame_1 5 rfl rfl)
theorem dX3_isSame_32 : decode cX3_isSame 32 = .ok (.bipush 62, 2) := dk_16 62 (dk_at dksX3_isSame_1 8 rfl rfl)
theorem dX3_isSame_34 : decode cX3_isSame 34 = .ok (.iload_n 2, 1) := dk_28 (dk_at dksX3_isSame_1 10 rfl rfl)
theorem dX3_isSame_35 : decode cX3_isSame 35 = .ok (.imul, 1) := dk_104 (dk_at dksX3_isSame_1 11 rfl rfl)
theorem dX3_isSame_36 : decode cX3_isSame 36 = .ok (.iload 4, 2) := dk_21 4 (dk_at dksX3_isSame_1 12 rfl rfl)
theorem dX3_isSame_38 : decode cX3_isSame 38 = .ok (.iadd, 1) := dk_96 (dk_at dksX3_isSame_1 14 rfl rfl)
theorem dX3_isSame_39 : decode cX3_isSame 39 = .ok (.iaload, 1) := dk_46 (dk_at dksX3_isSame_1 15 rfl rfl)
theorem dX3_isSame_40 : decode cX3_isSame 40 = .ok (.if_icmp .ne 7, 3) := dk_160 0 7 (dk_at dksX3_isSame_1 16 rfl rfl)
theorem dX3_isSame_43 : decode cX3_isSame 43 = .ok (.iconst 1, 1) := dk_4 (dk_at dksX3_isSame_1 19 rfl rfl)
theorem dX3_isSame_44 : decode cX3_isSame 44 = .ok (.goto 4, 3) := dk_167 0 4 (dk_at dksX3_isSame_1 20 rfl rfl)
theorem dX3_isSame_47 : decode cX3_isSame 47 = .ok (.iconst 0, 1) := dk_3 (dk_at dksX3_isSame_1 23 rfl rfl)
theorem dX3_isSame_48 : decode cX3_isSame 48 = .ok (.istore_n 3, 1) := dk_62 (dk_at dksX3_isSame_2 0 rfl rfl)
theorem dX3_isSame_49 : decode cX3_isSame 49 = .ok (.iinc 4 1, 3) := dk_132 4 1 (dk_at dksX3_isSame_2 1 rfl rfl)
theorem dX3_isSame_52 : decode cX3_isSame 52 = .ok (.goto (-47), 3) := dk_167 255 209 (dk_at dksX3_isSame_2 4 rfl rfl)
theorem dX3_isSame_55 : decode cX3_isSame 55 = .ok (.iload_n 3, 1) := dk_29 (dk_at dksX3_isSame_2 7 rfl rfl)
theorem dX3_isSame_56 : decode cX3_isSame 56 = .ok (.ireturn, 1) := dk_172 (dk_at dksX3_isSame_2 8 rfl rfl)
abbrev cX3_lesson : ByteArray := prog_18_method_42_code
def yX3_lesson : MethodName := ⟨RX3, "lesson", "(IIII)I"⟩
def dkwX3_lesson_0 : List UInt8 := [42, 3, 181, 0, 1, 42, 27, 28, 29, 21, 4, 182, 0, 195, 172]
abbrev dktX3_lesson_0 : List UInt8 := dkwX3_lesson_0 ++ []
theorem dksX3_lesson_0 : cX3_lesson.data.toList.drop 0 = dktX3_lesson_0 := by decide +kernel
theorem dX3_lesson_0 : decode cX3_lesson 0 = .ok (.aload_n 0, 1) := dk_42 (dk_at dksX3_lesson_0 0 rfl rfl)
theorem dX3_lesson_1 : decode cX3_lesson 1 = .ok (.iconst 0, 1) := dk_3 (dk_at dksX3_lesson_0 1 rfl rfl)
theorem dX3_lesson_2 : decode cX3_lesson 2 = .ok (.putfield 1, 3) := dk_181 0 1 (dk_at dksX3_lesson_0 2 rfl rfl)
theorem dX3_lesson_5 : decode cX3_lesson 5 = .ok (.aload_n 0, 1) := dk_42 (dk_at dksX3_lesson_0 5 rfl rfl)
theorem dX3_lesson_6 : decode cX3_lesson 6 = .ok (.iload_n 1, 1) := dk_27 (dk_at dksX3_lesson_0 6 rfl rfl)
theorem dX3_lesson_7 : decode cX3_lesson 7 = .ok (.iload_n 2, 1) := dk_28 (dk_at dksX3_lesson_0 7 rfl rfl)
theorem dX3_lesson_8 : decode cX3_lesson 8 = .ok (.iload_n 3, 1) := dk_29 (dk_at dksX3_lesson_0 8 rfl rfl)
theorem dX3_lesson_9 : decode cX3_lesson 9 = .ok (.iload 4, 2) := dk_21 4 (dk_at dksX3_lesson_0 9 rfl rfl)
theorem dX3_lesson_11 : decode cX3_lesson 11 = .ok (.invokevirtual 195, 3) := dk_182 0 195 (dk_at dksX3_lesson_0 11 rfl rfl)
theorem dX3_lesson_14 : decode cX3_lesson 14 = .ok (.ireturn, 1) := dk_172 (dk_at dksX3_lesson_0 14 rfl rfl)
abbrev cX3_teach : ByteArray := prog_18_method_41_code
def yX3_teach : MethodName := ⟨RX3, "teach", "(IIII)I"⟩
def dkwX3_teach_5 : List UInt8 := [180, 0, 192, 4, 100, 172]
abbrev dktX3_teach_5 : List UInt8 := dkwX3_teach_5 ++ []
def dkwX3_teach_4 : List UInt8 := [42, 180, 0, 40, 42, 180, 0, 192, 21, 4, 79, 42, 89, 180, 0, 192, 4, 96, 181, 0, 192, 42]
abbrev dktX3_teach_4 : List UInt8 := dkwX3_teach_4 ++ dktX3_teach_5
def dkwX3_teach_3 : List UInt8 := [180, 0, 192, 28, 79, 42, 180, 0, 36, 42, 180, 0, 192, 29, 4, 160, 0, 7, 4, 167, 0, 4, 3, 84]
abbrev dktX3_teach_3 : List UInt8 := dkwX3_teach_3 ++ dktX3_teach_4
def dkwX3_teach_2 : List UInt8 := [16, 8, 160, 0, 6, 18, 160, 172, 42, 180, 0, 30, 42, 180, 0, 192, 27, 79, 42, 180, 0, 33, 42]
abbrev dktX3_teach_2 : List UInt8 := dkwX3_teach_2 ++ dktX3_teach_3
def dkwX3_teach_1 : List UInt8 := [153, 0, 16, 21, 4, 133, 9, 20, 0, 190, 184, 0, 135, 154, 0, 6, 18, 143, 172, 42, 180, 0, 192]
abbrev dktX3_teach_1 : List UInt8 := dkwX3_teach_1 ++ dktX3_teach_2
def dkwX3_teach_0 : List UInt8 := [42, 27, 182, 0, 184, 153, 0, 34, 42, 28, 182, 0, 184, 153, 0, 26, 29, 133, 9, 10, 184, 0, 135]
abbrev dktX3_teach_0 : List UInt8 := dkwX3_teach_0 ++ dktX3_teach_1
theorem dksX3_teach_0 : cX3_teach.data.toList.drop 0 = dktX3_teach_0 := by decide +kernel
theorem dksX3_teach_1 : cX3_teach.data.toList.drop 23 = dktX3_teach_1 := dk_seg dksX3_teach_0 23 rfl rfl
theorem dksX3_teach_2 : cX3_teach.data.toList.drop 46 = dktX3_teach_2 := dk_seg dksX3_teach_1 23 rfl rfl
theorem dksX3_teach_3 : cX3_teach.data.toList.drop 69 = dktX3_teach_3 := dk_seg dksX3_teach_2 23 rfl rfl
theorem dksX3_teach_4 : cX3_teach.data.toList.drop 93 = dktX3_teach_4 := dk_seg dksX3_teach_3 24 rfl rfl
theorem dksX3_teach_5 : cX3_teach.data.toList.drop 115 = dktX3_teach_5 := dk_seg dksX3_teach_4 22 rfl rfl
theorem dX3_teach_0 : decode cX3_teach 0 = .ok (.aload_n 0, 1) := dk_42 (dk_at dksX3_teach_0 0 rfl rfl)
theorem dX3_teach_1 : decode cX3_teach 1 = .ok (.iload_n 1, 1) := dk_27 (dk_at dksX3_teach_0 1 rfl rfl)
theorem dX3_teach_2 : decode cX3_teach 2 = .ok (.invokevirtual 184, 3) := dk_182 0 184 (dk_at dksX3_teach_0 2 rfl rfl)
theorem dX3_teach_5 : decode cX3_teach 5 = .ok (.ifCond .eq 34, 3) := dk_153 0 34 (dk_at dksX3_teach_0 5 rfl rfl)
theorem dX3_teach_8 : decode cX3_teach 8 = .ok (.aload_n 0, 1) := dk_42 (dk_at dksX3_teach_0 8 rfl rfl)
theorem dX3_teach_9 : decode cX3_teach 9 = .ok (.iload_n 2, 1) := dk_28 (dk_at dksX3_teach_0 9 rfl rfl)
theorem dX3_teach_10 : decode cX3_teach 10 = .ok (.invokevirtual 184, 3) := dk_182 0 184 (dk_at dksX3_teach_0 10 rfl rfl)
theorem dX3_teach_13 : decode cX3_teach 13 = .ok (.ifCond .eq 26, 3) := dk_153 0 26 (dk_at dksX3_teach_0 13 rfl rfl)
theorem dX3_teach_16 : decode cX3_teach 16 = .ok (.iload_n 3, 1) := dk_29 (dk_at dksX3_teach_0 16 rfl rfl)
theorem dX3_teach_17 : decode cX3_teach 17 = .ok (.i2l, 1) := dk_133 (dk_at dksX3_teach_0 17 rfl rfl)
theorem dX3_teach_18 : decode cX3_teach 18 = .ok (.lconst 0, 1) := dk_9 (dk_at dksX3_teach_0 18 rfl rfl)
theorem dX3_teach_19 : decode cX3_teach 19 = .ok (.lconst 1, 1) := dk_10 (dk_at dksX3_teach_0 19 rfl rfl)
theorem dX3_teach_20 : decode cX3_teach 20 = .ok (.invokestatic 135, 3) := dk_184 0 135 (dk_at dksX3_teach_0 20 rfl rfl)
theorem dX3_teach_23 : decode cX3_teach 23 = .ok (.ifCond .eq 16, 3) := dk_153 0 16 (dk_at dksX3_teach_1 0 rfl rfl)
theorem dX3_teach_26 : decode cX3_teach 26 = .ok (.iload 4, 2) := dk_21 4 (dk_at dksX3_teach_1 3 rfl rfl)
theorem dX3_teach_28 : decode cX3_teach 28 = .ok (.i2l, 1) := dk_133 (dk_at dksX3_teach_1 5 rfl rfl)
theorem dX3_teach_29 : decode cX3_teach 29 = .ok (.lconst 0, 1) := dk_9 (dk_at dksX3_teach_1 6 rfl rfl)
theorem dX3_teach_30 : decode cX3_teach 30 = .ok (.ldc2_w 190, 3) := dk_20 0 190 (dk_at dksX3_teach_1 7 rfl rfl)
theorem dX3_teach_33 : decode cX3_teach 33 = .ok (.invokestatic 135, 3) := dk_184 0 135 (dk_at dksX3_teach_1 10 rfl rfl)
theorem dX3_teach_36 : decode cX3_teach 36 = .ok (.ifCond .ne 6, 3) := dk_154 0 6 (dk_at dksX3_teach_1 13 rfl rfl)
theorem dX3_teach_39 : decode cX3_teach 39 = .ok (.ldc 143, 2) := dk_18 143 (dk_at dksX3_teach_1 16 rfl rfl)
theorem dX3_teach_41 : decode cX3_teach 41 = .ok (.ireturn, 1) := dk_172 (dk_at dksX3_teach_1 18 rfl rfl)
theorem dX3_teach_42 : decode cX3_teach 42 = .ok (.aload_n 0, 1) := dk_42 (dk_at dksX3_teach_1 19 rfl rfl)
theorem dX3_teach_43 : decode cX3_teach 43 = .ok (.getfield 192, 3) := dk_180 0 192 (dk_at dksX3_teach_1 20 rfl rfl)
theorem dX3_teach_46 : decode cX3_teach 46 = .ok (.bipush 8, 2) := dk_16 8 (dk_at dksX3_teach_2 0 rfl rfl)
theorem dX3_teach_48 : decode cX3_teach 48 = .ok (.if_icmp .ne 6, 3) := dk_160 0 6 (dk_at dksX3_teach_2 2 rfl rfl)
theorem dX3_teach_51 : decode cX3_teach 51 = .ok (.ldc 160, 2) := dk_18 160 (dk_at dksX3_teach_2 5 rfl rfl)
theorem dX3_teach_53 : decode cX3_teach 53 = .ok (.ireturn, 1) := dk_172 (dk_at dksX3_teach_2 7 rfl rfl)
theorem dX3_teach_54 : decode cX3_teach 54 = .ok (.aload_n 0, 1) := dk_42 (dk_at dksX3_teach_2 8 rfl rfl)
theorem dX3_teach_55 : decode cX3_teach 55 = .ok (.getfield 30, 3) := dk_180 0 30 (dk_at dksX3_teach_2 9 rfl rfl)
theorem dX3_teach_58 : decode cX3_teach 58 = .ok (.aload_n 0, 1) := dk_42 (dk_at dksX3_teach_2 12 rfl rfl)
theorem dX3_teach_59 : decode cX3_teach 59 = .ok (.getfield 192, 3) := dk_180 0 192 (dk_at dksX3_teach_2 13 rfl rfl)
theorem dX3_teach_62 : decode cX3_teach 62 = .ok (.iload_n 1, 1) := dk_27 (dk_at dksX3_teach_2 16 rfl rfl)
theorem dX3_teach_63 : decode cX3_teach 63 = .ok (.iastore, 1) := dk_79 (dk_at dksX3_teach_2 17 rfl rfl)
theorem dX3_teach_64 : decode cX3_teach 64 = .ok (.aload_n 0, 1) := dk_42 (dk_at dksX3_teach_2 18 rfl rfl)
theorem dX3_teach_65 : decode cX3_teach 65 = .ok (.getfield 33, 3) := dk_180 0 33 (dk_at dksX3_teach_2 19 rfl rfl)
theorem dX3_teach_68 : decode cX3_teach 68 = .ok (.aload_n 0, 1) := dk_42 (dk_at dksX3_teach_2 22 rfl rfl)
theorem dX3_teach_69 : decode cX3_teach 69 = .ok (.getfield 192, 3) := dk_180 0 192 (dk_at dksX3_teach_3 0 rfl rfl)
theorem dX3_teach_72 : decode cX3_teach 72 = .ok (.iload_n 2, 1) := dk_28 (dk_at dksX3_teach_3 3 rfl rfl)
theorem dX3_teach_73 : decode cX3_teach 73 = .ok (.iastore, 1) := dk_79 (dk_at dksX3_teach_3 4 rfl rfl)
theorem dX3_teach_74 : decode cX3_teach 74 = .ok (.aload_n 0, 1) := dk_42 (dk_at dksX3_teach_3 5 rfl rfl)
theorem dX3_teach_75 : decode cX3_teach 75 = .ok (.getfield 36, 3) := dk_180 0 36 (dk_at dksX3_teach_3 6 rfl rfl)
theorem dX3_teach_78 : decode cX3_teach 78 = .ok (.aload_n 0, 1) := dk_42 (dk_at dksX3_teach_3 9 rfl rfl)
theorem dX3_teach_79 : decode cX3_teach 79 = .ok (.getfield 192, 3) := dk_180 0 192 (dk_at dksX3_teach_3 10 rfl rfl)
theorem dX3_teach_82 : decode cX3_teach 82 = .ok (.iload_n 3, 1) := dk_29 (dk_at dksX3_teach_3 13 rfl rfl)
theorem dX3_teach_83 : decode cX3_teach 83 = .ok (.iconst 1, 1) := dk_4 (dk_at dksX3_teach_3 14 rfl rfl)
theorem dX3_teach_84 : decode cX3_teach 84 = .ok (.if_icmp .ne 7, 3) := dk_160 0 7 (dk_at dksX3_teach_3 15 rfl rfl)
theorem dX3_teach_87 : decode cX3_teach 87 = .ok (.iconst 1, 1) := dk_4 (dk_at dksX3_teach_3 18 rfl rfl)
theorem dX3_teach_88 : decode cX3_teach 88 = .ok (.goto 4, 3) := dk_167 0 4 (dk_at dksX3_teach_3 19 rfl rfl)
theorem dX3_teach_91 : decode cX3_teach 91 = .ok (.iconst 0, 1) := dk_3 (dk_at dksX3_teach_3 22 rfl rfl)
theorem dX3_teach_92 : decode cX3_teach 92 = .ok (.bastore, 1) := dk_84 (dk_at dksX3_teach_3 23 rfl rfl)
theorem dX3_teach_93 : decode cX3_teach 93 = .ok (.aload_n 0, 1) := dk_42 (dk_at dksX3_teach_4 0 rfl rfl)
theorem dX3_teach_94 : decode cX3_teach 94 = .ok (.getfield 40, 3) := dk_180 0 40 (dk_at dksX3_teach_4 1 rfl rfl)
theorem dX3_teach_97 : decode cX3_teach 97 = .ok (.aload_n 0, 1) := dk_42 (dk_at dksX3_teach_4 4 rfl rfl)
theorem dX3_teach_98 : decode cX3_teach 98 = .ok (.getfield 192, 3) := dk_180 0 192 (dk_at dksX3_teach_4 5 rfl rfl)
theorem dX3_teach_101 : decode cX3_teach 101 = .ok (.iload 4, 2) := dk_21 4 (dk_at dksX3_teach_4 8 rfl rfl)
theorem dX3_teach_103 : decode cX3_teach 103 = .ok (.iastore, 1) := dk_79 (dk_at dksX3_teach_4 10 rfl rfl)
theorem dX3_teach_104 : decode cX3_teach 104 = .ok (.aload_n 0, 1) := dk_42 (dk_at dksX3_teach_4 11 rfl rfl)
theorem dX3_teach_105 : decode cX3_teach 105 = .ok (.dup, 1) := dk_89 (dk_at dksX3_teach_4 12 rfl rfl)
theorem dX3_teach_106 : decode cX3_teach 106 = .ok (.getfield 192, 3) := dk_180 0 192 (dk_at dksX3_teach_4 13 rfl rfl)
theorem dX3_teach_109 : decode cX3_teach 109 = .ok (.iconst 1, 1) := dk_4 (dk_at dksX3_teach_4 16 rfl rfl)
theorem dX3_teach_110 : decode cX3_teach 110 = .ok (.iadd, 1) := dk_96 (dk_at dksX3_teach_4 17 rfl rfl)
theorem dX3_teach_111 : decode cX3_teach 111 = .ok (.putfield 192, 3) := dk_181 0 192 (dk_at dksX3_teach_4 18 rfl rfl)
theorem dX3_teach_114 : decode cX3_teach 114 = .ok (.aload_n 0, 1) := dk_42 (dk_at dksX3_teach_4 21 rfl rfl)
theorem dX3_teach_115 : decode cX3_teach 115 = .ok (.getfield 192, 3) := dk_180 0 192 (dk_at dksX3_teach_5 0 rfl rfl)
theorem dX3_teach_118 : decode cX3_teach 118 = .ok (.iconst 1, 1) := dk_4 (dk_at dksX3_teach_5 3 rfl rfl)
theorem dX3_teach_119 : decode cX3_teach 119 = .ok (.isub, 1) := dk_100 (dk_at dksX3_teach_5 4 rfl rfl)
theorem dX3_teach_120 : decode cX3_teach 120 = .ok (.ireturn, 1) := dk_172 (dk_at dksX3_teach_5 5 rfl rfl)
abbrev cX3_lessons : ByteArray := prog_18_method_43_code
def yX3_lessons : MethodName := ⟨RX3, "lessons", "(III)I"⟩
def dkwX3_lessons_5 : List UInt8 := [167, 0, 4, 3, 96, 54, 5, 132, 6, 1, 167, 255, 183, 21, 5, 172]
abbrev dktX3_lessons_5 : List UInt8 := dkwX3_lessons_5 ++ []
def dkwX3_lessons_4 : List UInt8 := [180, 0, 52, 21, 7, 5, 96, 46, 42, 180, 0, 52, 21, 7, 6, 96, 46, 182, 0, 195, 155, 0, 7, 4]
abbrev dktX3_lessons_4 : List UInt8 := dkwX3_lessons_4 ++ dktX3_lessons_5
def dkwX3_lessons_3 : List UInt8 := [104, 96, 54, 7, 21, 5, 42, 42, 180, 0, 52, 21, 7, 46, 42, 180, 0, 52, 21, 7, 4, 96, 46, 42]
abbrev dktX3_lessons_3 : List UInt8 := dkwX3_lessons_3 ++ dktX3_lessons_4
def dkwX3_lessons_2 : List UInt8 := [181, 0, 7, 3, 54, 5, 3, 54, 6, 21, 6, 29, 162, 0, 73, 16, 40, 27, 104, 28, 96, 7, 21, 6]
abbrev dktX3_lessons_2 : List UInt8 := dkwX3_lessons_2 ++ dktX3_lessons_3
def dkwX3_lessons_1 : List UInt8 := [18, 143, 172, 42, 27, 28, 7, 29, 104, 182, 0, 203, 54, 4, 21, 4, 156, 0, 6, 21, 4, 172, 42, 3]
abbrev dktX3_lessons_1 : List UInt8 := dkwX3_lessons_1 ++ dktX3_lessons_2
def dkwX3_lessons_0 : List UInt8 := [42, 3, 181, 0, 1, 27, 184, 0, 198, 153, 0, 15, 29, 133, 10, 20, 0, 201, 184, 0, 135, 154, 0, 6]
abbrev dktX3_lessons_0 : List UInt8 := dkwX3_lessons_0 ++ dktX3_lessons_1
theorem dksX3_lessons_0 : cX3_lessons.data.toList.drop 0 = dktX3_lessons_0 := by decide +kernel
theorem dksX3_lessons_1 : cX3_lessons.data.toList.drop 24 = dktX3_lessons_1 := dk_seg dksX3_lessons_0 24 rfl rfl
theorem dksX3_lessons_2 : cX3_lessons.data.toList.drop 48 = dktX3_lessons_2 := dk_seg dksX3_lessons_1 24 rfl rfl
theorem dksX3_lessons_3 : cX3_lessons.data.toList.drop 72 = dktX3_lessons_3 := dk_seg dksX3_lessons_2 24 rfl rfl
theorem dksX3_lessons_4 : cX3_lessons.data.toList.drop 96 = dktX3_lessons_4 := dk_seg dksX3_lessons_3 24 rfl rfl
theorem dksX3_lessons_5 : cX3_lessons.data.toList.drop 120 = dktX3_lessons_5 := dk_seg dksX3_lessons_4 24 rfl rfl
theorem dX3_lessons_0 : decode cX3_lessons 0 = .ok (.aload_n 0, 1) := dk_42 (dk_at dksX3_lessons_0 0 rfl rfl)
theorem dX3_lessons_1 : decode cX3_lessons 1 = .ok (.iconst 0, 1) := dk_3 (dk_at dksX3_lessons_0 1 rfl rfl)
theorem dX3_lessons_2 : decode cX3_lessons 2 = .ok (.putfield 1, 3) := dk_181 0 1 (dk_at dksX3_lessons_0 2 rfl rfl)
theorem dX3_lessons_5 : decode cX3_lessons 5 = .ok (.iload_n 1, 1) := dk_27 (dk_at dksX3_lessons_0 5 rfl rfl)
theorem dX3_lessons_6 : decode cX3_lessons 6 = .ok (.invokestatic 198, 3) := dk_184 0 198 (dk_at dksX3_lessons_0 6 rfl rfl)
theorem dX3_lessons_9 : decode cX3_lessons 9 = .ok (.ifCond .eq 15, 3) := dk_153 0 15 (dk_at dksX3_lessons_0 9 rfl rfl)
theorem dX3_lessons_12 : decode cX3_lessons 12 = .ok (.iload_n 3, 1) := dk_29 (dk_at dksX3_lessons_0 12 rfl rfl)
theorem dX3_lessons_13 : decode cX3_lessons 13 = .ok (.i2l, 1) := dk_133 (dk_at dksX3_lessons_0 13 rfl rfl)
theorem dX3_lessons_14 : decode cX3_lessons 14 = .ok (.lconst 1, 1) := dk_10 (dk_at dksX3_lessons_0 14 rfl rfl)
theorem dX3_lessons_15 : decode cX3_lessons 15 = .ok (.ldc2_w 201, 3) := dk_20 0 201 (dk_at dksX3_lessons_0 15 rfl rfl)
theorem dX3_lessons_18 : decode cX3_lessons 18 = .ok (.invokestatic 135, 3) := dk_184 0 135 (dk_at dksX3_lessons_0 18 rfl rfl)
theorem dX3_lessons_21 : decode cX3_lessons 21 = .ok (.ifCond .ne 6, 3) := dk_154 0 6 (dk_at dksX3_lessons_0 21 rfl rfl)
theorem dX3_lessons_24 : decode cX3_lessons 24 = .ok (.ldc 143, 2) := dk_18 143 (dk_at dksX3_lessons_1 0 rfl rfl)
theorem dX3_lessons_26 : decode cX3_lessons 26 = .ok (.ireturn, 1) := dk_172 (dk_at dksX3_lessons_1 2 rfl rfl)
theorem dX3_lessons_27 : decode cX3_lessons 27 = .ok (.aload_n 0, 1) := dk_42 (dk_at dksX3_lessons_1 3 rfl rfl)
theorem dX3_lessons_28 : decode cX3_lessons 28 = .ok (.iload_n 1, 1) := dk_27 (dk_at dksX3_lessons_1 4 rfl rfl)
theorem dX3_lessons_29 : decode cX3_lessons 29 = .ok (.iload_n 2, 1) := dk_28 (dk_at dksX3_lessons_1 5 rfl rfl)
theorem dX3_lessons_30 : decode cX3_lessons 30 = .ok (.iconst 4, 1) := dk_7 (dk_at dksX3_lessons_1 6 rfl rfl)
theorem dX3_lessons_31 : decode cX3_lessons 31 = .ok (.iload_n 3, 1) := dk_29 (dk_at dksX3_lessons_1 7 rfl rfl)
theorem dX3_lessons_32 : decode cX3_lessons 32 = .ok (.imul, 1) := dk_104 (dk_at dksX3_lessons_1 8 rfl rfl)
theorem dX3_lessons_33 : decode cX3_lessons 33 = .ok (.invokevirtual 203, 3) := dk_182 0 203 (dk_at dksX3_lessons_1 9 rfl rfl)
theorem dX3_lessons_36 : decode cX3_lessons 36 = .ok (.istore 4, 2) := dk_54 4 (dk_at dksX3_lessons_1 12 rfl rfl)
theorem dX3_lessons_38 : decode cX3_lessons 38 = .ok (.iload 4, 2) := dk_21 4 (dk_at dksX3_lessons_1 14 rfl rfl)
theorem dX3_lessons_40 : decode cX3_lessons 40 = .ok (.ifCond .ge 6, 3) := dk_156 0 6 (dk_at dksX3_lessons_1 16 rfl rfl)
theorem dX3_lessons_43 : decode cX3_lessons 43 = .ok (.iload 4, 2) := dk_21 4 (dk_at dksX3_lessons_1 19 rfl rfl)
theorem dX3_lessons_45 : decode cX3_lessons 45 = .ok (.ireturn, 1) := dk_172 (dk_at dksX3_lessons_1 21 rfl rfl)
theorem dX3_lessons_46 : decode cX3_lessons 46 = .ok (.aload_n 0, 1) := dk_42 (dk_at dksX3_lessons_1 22 rfl rfl)
theorem dX3_lessons_47 : decode cX3_lessons 47 = .ok (.iconst 0, 1) := dk_3 (dk_at dksX3_lessons_1 23 rfl rfl)
theorem dX3_lessons_48 : decode cX3_lessons 48 = .ok (.putfield 7, 3) := dk_181 0 7 (dk_at dksX3_lessons_2 0 rfl rfl)
theorem dX3_lessons_51 : decode cX3_lessons 51 = .ok (.iconst 0, 1) := dk_3 (dk_at dksX3_lessons_2 3 rfl rfl)
theorem dX3_lessons_52 : decode cX3_lessons 52 = .ok (.istore 5, 2) := dk_54 5 (dk_at dksX3_lessons_2 4 rfl rfl)
theorem dX3_lessons_54 : decode cX3_lessons 54 = .ok (.iconst 0, 1) := dk_3 (dk_at dksX3_lessons_2 6 rfl rfl)
theorem dX3_lessons_55 : decode cX3_lessons 55 = .ok (.istore 6, 2) := dk_54 6 (dk_at dksX3_lessons_2 7 rfl rfl)
theorem dX3_lessons_57 : decode cX3_lessons 57 = .ok (.iload 6, 2) := dk_21 6 (dk_at dksX3_lessons_2 9 rfl rfl)
theorem dX3_lessons_59 : decode cX3_lessons 59 = .ok (.iload_n 3, 1) := dk_29 (dk_at dksX3_lessons_2 11 rfl rfl)
theorem dX3_lessons_60 : decode cX3_lessons 60 = .ok (.if_icmp .ge 73, 3) := dk_162 0 73 (dk_at dksX3_lessons_2 12 rfl rfl)
theorem dX3_lessons_63 : decode cX3_lessons 63 = .ok (.bipush 40, 2) := dk_16 40 (dk_at dksX3_lessons_2 15 rfl rfl)
theorem dX3_lessons_65 : decode cX3_lessons 65 = .ok (.iload_n 1, 1) := dk_27 (dk_at dksX3_lessons_2 17 rfl rfl)
theorem dX3_lessons_66 : decode cX3_lessons 66 = .ok (.imul, 1) := dk_104 (dk_at dksX3_lessons_2 18 rfl rfl)
theorem dX3_lessons_67 : decode cX3_lessons 67 = .ok (.iload_n 2, 1) := dk_28 (dk_at dksX3_lessons_2 19 rfl rfl)
theorem dX3_lessons_68 : decode cX3_lessons 68 = .ok (.iadd, 1) := dk_96 (dk_at dksX3_lessons_2 20 rfl rfl)
theorem dX3_lessons_69 : decode cX3_lessons 69 = .ok (.iconst 4, 1) := dk_7 (dk_at dksX3_lessons_2 21 rfl rfl)
theorem dX3_lessons_70 : decode cX3_lessons 70 = .ok (.iload 6, 2) := dk_21 6 (dk_at dksX3_lessons_2 22 rfl rfl)
theorem dX3_lessons_72 : decode cX3_lessons 72 = .ok (.imul, 1) := dk_104 (dk_at dksX3_lessons_3 0 rfl rfl)
theorem dX3_lessons_73 : decode cX3_lessons 73 = .ok (.iadd, 1) := dk_96 (dk_at dksX3_lessons_3 1 rfl rfl)
theorem dX3_lessons_74 : decode cX3_lessons 74 = .ok (.istore 7, 2) := dk_54 7 (dk_at dksX3_lessons_3 2 rfl rfl)
theorem dX3_lessons_76 : decode cX3_lessons 76 = .ok (.iload 5, 2) := dk_21 5 (dk_at dksX3_lessons_3 4 rfl rfl)
theorem dX3_lessons_78 : decode cX3_lessons 78 = .ok (.aload_n 0, 1) := dk_42 (dk_at dksX3_lessons_3 6 rfl rfl)
theorem dX3_lessons_79 : decode cX3_lessons 79 = .ok (.aload_n 0, 1) := dk_42 (dk_at dksX3_lessons_3 7 rfl rfl)
theorem dX3_lessons_80 : decode cX3_lessons 80 = .ok (.getfield 52, 3) := dk_180 0 52 (dk_at dksX3_lessons_3 8 rfl rfl)
theorem dX3_lessons_83 : decode cX3_lessons 83 = .ok (.iload 7, 2) := dk_21 7 (dk_at dksX3_lessons_3 11 rfl rfl)
theorem dX3_lessons_85 : decode cX3_lessons 85 = .ok (.iaload, 1) := dk_46 (dk_at dksX3_lessons_3 13 rfl rfl)
theorem dX3_lessons_86 : decode cX3_lessons 86 = .ok (.aload_n 0, 1) := dk_42 (dk_at dksX3_lessons_3 14 rfl rfl)
theorem dX3_lessons_87 : decode cX3_lessons 87 = .ok (.getfield 52, 3) := dk_180 0 52 (dk_at dksX3_lessons_3 15 rfl rfl)
theorem dX3_lessons_90 : decode cX3_lessons 90 = .ok (.iload 7, 2) := dk_21 7 (dk_at dksX3_lessons_3 18 rfl rfl)
theorem dX3_lessons_92 : decode cX3_lessons 92 = .ok (.iconst 1, 1) := dk_4 (dk_at dksX3_lessons_3 20 rfl rfl)
theorem dX3_lessons_93 : decode cX3_lessons 93 = .ok (.iadd, 1) := dk_96 (dk_at dksX3_lessons_3 21 rfl rfl)
theorem dX3_lessons_94 : decode cX3_lessons 94 = .ok (.iaload, 1) := dk_46 (dk_at dksX3_lessons_3 22 rfl rfl)
theorem dX3_lessons_95 : decode cX3_lessons 95 = .ok (.aload_n 0, 1) := dk_42 (dk_at dksX3_lessons_3 23 rfl rfl)
theorem dX3_lessons_96 : decode cX3_lessons 96 = .ok (.getfield 52, 3) := dk_180 0 52 (dk_at dksX3_lessons_4 0 rfl rfl)
theorem dX3_lessons_99 : decode cX3_lessons 99 = .ok (.iload 7, 2) := dk_21 7 (dk_at dksX3_lessons_4 3 rfl rfl)
theorem dX3_lessons_101 : decode cX3_lessons 101 = .ok (.iconst 2, 1) := dk_5 (dk_at dksX3_lessons_4 5 rfl rfl)
theorem dX3_lessons_102 : decode cX3_lessons 102 = .ok (.iadd, 1) := dk_96 (dk_at dksX3_lessons_4 6 rfl rfl)
theorem dX3_lessons_103 : decode cX3_lessons 103 = .ok (.iaload, 1) := dk_46 (dk_at dksX3_lessons_4 7 rfl rfl)
theorem dX3_lessons_104 : decode cX3_lessons 104 = .ok (.aload_n 0, 1) := dk_42 (dk_at dksX3_lessons_4 8 rfl rfl)
theorem dX3_lessons_105 : decode cX3_lessons 105 = .ok (.getfield 52, 3) := dk_180 0 52 (dk_at dksX3_lessons_4 9 rfl rfl)
theorem dX3_lessons_108 : decode cX3_lessons 108 = .ok (.iload 7, 2) := dk_21 7 (dk_at dksX3_lessons_4 12 rfl rfl)
theorem dX3_lessons_110 : decode cX3_lessons 110 = .ok (.iconst 3, 1) := dk_6 (dk_at dksX3_lessons_4 14 rfl rfl)
theorem dX3_lessons_111 : decode cX3_lessons 111 = .ok (.iadd, 1) := dk_96 (dk_at dksX3_lessons_4 15 rfl rfl)
theorem dX3_lessons_112 : decode cX3_lessons 112 = .ok (.iaload, 1) := dk_46 (dk_at dksX3_lessons_4 16 rfl rfl)
theorem dX3_lessons_113 : decode cX3_lessons 113 = .ok (.invokevirtual 195, 3) := dk_182 0 195 (dk_at dksX3_lessons_4 17 rfl rfl)
theorem dX3_lessons_116 : decode cX3_lessons 116 = .ok (.ifCond .lt 7, 3) := dk_155 0 7 (dk_at dksX3_lessons_4 20 rfl rfl)
theorem dX3_lessons_119 : decode cX3_lessons 119 = .ok (.iconst 1, 1) := dk_4 (dk_at dksX3_lessons_4 23 rfl rfl)
theorem dX3_lessons_120 : decode cX3_lessons 120 = .ok (.goto 4, 3) := dk_167 0 4 (dk_at dksX3_lessons_5 0 rfl rfl)
theorem dX3_lessons_123 : decode cX3_lessons 123 = .ok (.iconst 0, 1) := dk_3 (dk_at dksX3_lessons_5 3 rfl rfl)
theorem dX3_lessons_124 : decode cX3_lessons 124 = .ok (.iadd, 1) := dk_96 (dk_at dksX3_lessons_5 4 rfl rfl)
theorem dX3_lessons_125 : decode cX3_lessons 125 = .ok (.istore 5, 2) := dk_54 5 (dk_at dksX3_lessons_5 5 rfl rfl)
theorem dX3_lessons_127 : decode cX3_lessons 127 = .ok (.iinc 6 1, 3) := dk_132 6 1 (dk_at dksX3_lessons_5 7 rfl rfl)
theorem dX3_lessons_130 : decode cX3_lessons 130 = .ok (.goto (-73), 3) := dk_167 255 183 (dk_at dksX3_lessons_5 10 rfl rfl)
theorem dX3_lessons_133 : decode cX3_lessons 133 = .ok (.iload 5, 2) := dk_21 5 (dk_at dksX3_lessons_5 13 rfl rfl)
theorem dX3_lessons_135 : decode cX3_lessons 135 = .ok (.ireturn, 1) := dk_172 (dk_at dksX3_lessons_5 15 rfl rfl)
abbrev cX3_isSheet : ByteArray := prog_18_method_58_code
def yX3_isSheet : MethodName := ⟨RX3, "isSheet", "(I)Z"⟩
def dkwX3_isSheet_0 : List UInt8 := [26, 133, 9, 20, 0, 151, 184, 0, 135, 172]
abbrev dktX3_isSheet_0 : List UInt8 := dkwX3_isSheet_0 ++ []
theorem dksX3_isSheet_0 : cX3_isSheet.data.toList.drop 0 = dktX3_isSheet_0 := by decide +kernel
theorem dX3_isSheet_0 : decode cX3_isSheet 0 = .ok (.iload_n 0, 1) := dk_26 (dk_at dksX3_isSheet_0 0 rfl rfl)
theorem dX3_isSheet_1 : decode cX3_isSheet 1 = .ok (.i2l, 1) := dk_133 (dk_at dksX3_isSheet_0 1 rfl rfl)
theorem dX3_isSheet_2 : decode cX3_isSheet 2 = .ok (.lconst 0, 1) := dk_9 (dk_at dksX3_isSheet_0 2 rfl rfl)
theorem dX3_isSheet_3 : decode cX3_isSheet 3 = .ok (.ldc2_w 151, 3) := dk_20 0 151 (dk_at dksX3_isSheet_0 3 rfl rfl)
theorem dX3_isSheet_6 : decode cX3_isSheet 6 = .ok (.invokestatic 135, 3) := dk_184 0 135 (dk_at dksX3_isSheet_0 6 rfl rfl)
theorem dX3_isSheet_9 : decode cX3_isSheet 9 = .ok (.ireturn, 1) := dk_172 (dk_at dksX3_isSheet_0 9 rfl rfl)
abbrev cX3_lookItems : ByteArray := prog_18_method_63_code
def yX3_lookItems : MethodName := ⟨RX3, "lookItems", "(III)I"⟩
def dkwX3_lookItems_1 : List UInt8 := [42, 180, 0, 49, 27, 46, 133, 148, 158, 0, 11, 42, 5, 182, 0, 234, 167, 0, 4, 3, 172]
abbrev dktX3_lookItems_1 : List UInt8 := dkwX3_lookItems_1 ++ []
def dkwX3_lookItems_0 : List UInt8 := [42, 180, 0, 46, 27, 46, 156, 0, 9, 42, 4, 182, 0, 234, 172, 28, 155, 0, 19, 28, 133, 29, 133, 97]
abbrev dktX3_lookItems_0 : List UInt8 := dkwX3_lookItems_0 ++ dktX3_lookItems_1
theorem dksX3_lookItems_0 : cX3_lookItems.data.toList.drop 0 = dktX3_lookItems_0 := by decide +kernel
theorem dksX3_lookItems_1 : cX3_lookItems.data.toList.drop 24 = dktX3_lookItems_1 := dk_seg dksX3_lookItems_0 24 rfl rfl
theorem dX3_lookItems_0 : decode cX3_lookItems 0 = .ok (.aload_n 0, 1) := dk_42 (dk_at dksX3_lookItems_0 0 rfl rfl)
theorem dX3_lookItems_1 : decode cX3_lookItems 1 = .ok (.getfield 46, 3) := dk_180 0 46 (dk_at dksX3_lookItems_0 1 rfl rfl)
theorem dX3_lookItems_4 : decode cX3_lookItems 4 = .ok (.iload_n 1, 1) := dk_27 (dk_at dksX3_lookItems_0 4 rfl rfl)
theorem dX3_lookItems_5 : decode cX3_lookItems 5 = .ok (.iaload, 1) := dk_46 (dk_at dksX3_lookItems_0 5 rfl rfl)
theorem dX3_lookItems_6 : decode cX3_lookItems 6 = .ok (.ifCond .ge 9, 3) := dk_156 0 9 (dk_at dksX3_lookItems_0 6 rfl rfl)
theorem dX3_lookItems_9 : decode cX3_lookItems 9 = .ok (.aload_n 0, 1) := dk_42 (dk_at dksX3_lookItems_0 9 rfl rfl)
theorem dX3_lookItems_10 : decode cX3_lookItems 10 = .ok (.iconst 1, 1) := dk_4 (dk_at dksX3_lookItems_0 10 rfl rfl)
theorem dX3_lookItems_11 : decode cX3_lookItems 11 = .ok (.invokevirtual 234, 3) := dk_182 0 234 (dk_at dksX3_lookItems_0 11 rfl rfl)
theorem dX3_lookItems_14 : decode cX3_lookItems 14 = .ok (.ireturn, 1) := dk_172 (dk_at dksX3_lookItems_0 14 rfl rfl)
theorem dX3_lookItems_15 : decode cX3_lookItems 15 = .ok (.iload_n 2, 1) := dk_28 (dk_at dksX3_lookItems_0 15 rfl rfl)
theorem dX3_lookItems_16 : decode cX3_lookItems 16 = .ok (.ifCond .lt 19, 3) := dk_155 0 19 (dk_at dksX3_lookItems_0 16 rfl rfl)
theorem dX3_lookItems_19 : decode cX3_lookItems 19 = .ok (.iload_n 2, 1) := dk_28 (dk_at dksX3_lookItems_0 19 rfl rfl)
theorem dX3_lookItems_20 : decode cX3_lookItems 20 = .ok (.i2l, 1) := dk_133 (dk_at dksX3_lookItems_0 20 rfl rfl)
theorem dX3_lookItems_21 : decode cX3_lookItems 21 = .ok (.iload_n 3, 1) := dk_29 (dk_at dksX3_lookItems_0 21 rfl rfl)
theorem dX3_lookItems_22 : decode cX3_lookItems 22 = .ok (.i2l, 1) := dk_133 (dk_at dksX3_lookItems_0 22 rfl rfl)
theorem dX3_lookItems_23 : decode cX3_lookItems 23 = .ok (.ladd, 1) := dk_97 (dk_at dksX3_lookItems_0 23 rfl rfl)
theorem dX3_lookItems_24 : decode cX3_lookItems 24 = .ok (.aload_n 0, 1) := dk_42 (dk_at dksX3_lookItems_1 0 rfl rfl)
theorem dX3_lookItems_25 : decode cX3_lookItems 25 = .ok (.getfield 49, 3) := dk_180 0 49 (dk_at dksX3_lookItems_1 1 rfl rfl)
theorem dX3_lookItems_28 : decode cX3_lookItems 28 = .ok (.iload_n 1, 1) := dk_27 (dk_at dksX3_lookItems_1 4 rfl rfl)
theorem dX3_lookItems_29 : decode cX3_lookItems 29 = .ok (.iaload, 1) := dk_46 (dk_at dksX3_lookItems_1 5 rfl rfl)
theorem dX3_lookItems_30 : decode cX3_lookItems 30 = .ok (.i2l, 1) := dk_133 (dk_at dksX3_lookItems_1 6 rfl rfl)
theorem dX3_lookItems_31 : decode cX3_lookItems 31 = .ok (.lcmp, 1) := dk_148 (dk_at dksX3_lookItems_1 7 rfl rfl)
theorem dX3_lookItems_32 : decode cX3_lookItems 32 = .ok (.ifCond .le 11, 3) := dk_158 0 11 (dk_at dksX3_lookItems_1 8 rfl rfl)
theorem dX3_lookItems_35 : decode cX3_lookItems 35 = .ok (.aload_n 0, 1) := dk_42 (dk_at dksX3_lookItems_1 11 rfl rfl)
theorem dX3_lookItems_36 : decode cX3_lookItems 36 = .ok (.iconst 2, 1) := dk_5 (dk_at dksX3_lookItems_1 12 rfl rfl)
theorem dX3_lookItems_37 : decode cX3_lookItems 37 = .ok (.invokevirtual 234, 3) := dk_182 0 234 (dk_at dksX3_lookItems_1 13 rfl rfl)
theorem dX3_lookItems_40 : decode cX3_lookItems 40 = .ok (.goto 4, 3) := dk_167 0 4 (dk_at dksX3_lookItems_1 16 rfl rfl)
theorem dX3_lookItems_43 : decode cX3_lookItems 43 = .ok (.iconst 0, 1) := dk_3 (dk_at dksX3_lookItems_1 19 rfl rfl)
theorem dX3_lookItems_44 : decode cX3_lookItems 44 = .ok (.ireturn, 1) := dk_172 (dk_at dksX3_lookItems_1 20 rfl rfl)
abbrev cX3_finding : ByteArray := prog_18_method_3_code
def yX3_finding : MethodName := ⟨RX3, "finding", "(I)I"⟩
def dkwX3_finding_0 : List UInt8 := [42, 27, 181, 0, 7, 18, 10, 27, 100, 172]
abbrev dktX3_finding_0 : List UInt8 := dkwX3_finding_0 ++ []
theorem dksX3_finding_0 : cX3_finding.data.toList.drop 0 = dktX3_finding_0 := by decide +kernel
theorem dX3_finding_0 : decode cX3_finding 0 = .ok (.aload_n 0, 1) := dk_42 (dk_at dksX3_finding_0 0 rfl rfl)
theorem dX3_finding_1 : decode cX3_finding 1 = .ok (.iload_n 1, 1) := dk_27 (dk_at dksX3_finding_0 1 rfl rfl)
theorem dX3_finding_2 : decode cX3_finding 2 = .ok (.putfield 7, 3) := dk_181 0 7 (dk_at dksX3_finding_0 2 rfl rfl)
theorem dX3_finding_5 : decode cX3_finding 5 = .ok (.ldc 10, 2) := dk_18 10 (dk_at dksX3_finding_0 5 rfl rfl)
theorem dX3_finding_7 : decode cX3_finding 7 = .ok (.iload_n 1, 1) := dk_27 (dk_at dksX3_finding_0 7 rfl rfl)
theorem dX3_finding_8 : decode cX3_finding 8 = .ok (.isub, 1) := dk_100 (dk_at dksX3_finding_0 8 rfl rfl)
theorem dX3_finding_9 : decode cX3_finding 9 = .ok (.ireturn, 1) := dk_172 (dk_at dksX3_finding_0 9 rfl rfl)
abbrev cX3_unteach : ByteArray := prog_18_method_44_code
def yX3_unteach : MethodName := ⟨RX3, "unteach", "(I)I"⟩
def dkwX3_unteach_1 : List UInt8 := [42, 180, 0, 43, 27, 51, 153, 0, 6, 18, 150, 172, 42, 180, 0, 43, 27, 4, 84, 4, 172]
abbrev dktX3_unteach_1 : List UInt8 := dkwX3_unteach_1 ++ []
def dkwX3_unteach_0 : List UInt8 := [42, 3, 181, 0, 1, 27, 133, 9, 42, 180, 0, 192, 4, 100, 133, 184, 0, 135, 154, 0, 6, 18, 143, 172]
abbrev dktX3_unteach_0 : List UInt8 := dkwX3_unteach_0 ++ dktX3_unteach_1
theorem dksX3_unteach_0 : cX3_unteach.data.toList.drop 0 = dktX3_unteach_0 := by decide +kernel
theorem dksX3_unteach_1 : cX3_unteach.data.toList.drop 24 = dktX3_unteach_1 := dk_seg dksX3_unteach_0 24 rfl rfl
theorem dX3_unteach_0 : decode cX3_unteach 0 = .ok (.aload_n 0, 1) := dk_42 (dk_at dksX3_unteach_0 0 rfl rfl)
theorem dX3_unteach_1 : decode cX3_unteach 1 = .ok (.iconst 0, 1) := dk_3 (dk_at dksX3_unteach_0 1 rfl rfl)
theorem dX3_unteach_2 : decode cX3_unteach 2 = .ok (.putfield 1, 3) := dk_181 0 1 (dk_at dksX3_unteach_0 2 rfl rfl)
theorem dX3_unteach_5 : decode cX3_unteach 5 = .ok (.iload_n 1, 1) := dk_27 (dk_at dksX3_unteach_0 5 rfl rfl)
theorem dX3_unteach_6 : decode cX3_unteach 6 = .ok (.i2l, 1) := dk_133 (dk_at dksX3_unteach_0 6 rfl rfl)
theorem dX3_unteach_7 : decode cX3_unteach 7 = .ok (.lconst 0, 1) := dk_9 (dk_at dksX3_unteach_0 7 rfl rfl)
theorem dX3_unteach_8 : decode cX3_unteach 8 = .ok (.aload_n 0, 1) := dk_42 (dk_at dksX3_unteach_0 8 rfl rfl)
theorem dX3_unteach_9 : decode cX3_unteach 9 = .ok (.getfield 192, 3) := dk_180 0 192 (dk_at dksX3_unteach_0 9 rfl rfl)
theorem dX3_unteach_12 : decode cX3_unteach 12 = .ok (.iconst 1, 1) := dk_4 (dk_at dksX3_unteach_0 12 rfl rfl)
theorem dX3_unteach_13 : decode cX3_unteach 13 = .ok (.isub, 1) := dk_100 (dk_at dksX3_unteach_0 13 rfl rfl)
theorem dX3_unteach_14 : decode cX3_unteach 14 = .ok (.i2l, 1) := dk_133 (dk_at dksX3_unteach_0 14 rfl rfl)
theorem dX3_unteach_15 : decode cX3_unteach 15 = .ok (.invokestatic 135, 3) := dk_184 0 135 (dk_at dksX3_unteach_0 15 rfl rfl)
theorem dX3_unteach_18 : decode cX3_unteach 18 = .ok (.ifCond .ne 6, 3) := dk_154 0 6 (dk_at dksX3_unteach_0 18 rfl rfl)
theorem dX3_unteach_21 : decode cX3_unteach 21 = .ok (.ldc 143, 2) := dk_18 143 (dk_at dksX3_unteach_0 21 rfl rfl)
theorem dX3_unteach_23 : decode cX3_unteach 23 = .ok (.ireturn, 1) := dk_172 (dk_at dksX3_unteach_0 23 rfl rfl)
theorem dX3_unteach_24 : decode cX3_unteach 24 = .ok (.aload_n 0, 1) := dk_42 (dk_at dksX3_unteach_1 0 rfl rfl)
theorem dX3_unteach_25 : decode cX3_unteach 25 = .ok (.getfield 43, 3) := dk_180 0 43 (dk_at dksX3_unteach_1 1 rfl rfl)
theorem dX3_unteach_28 : decode cX3_unteach 28 = .ok (.iload_n 1, 1) := dk_27 (dk_at dksX3_unteach_1 4 rfl rfl)
theorem dX3_unteach_29 : decode cX3_unteach 29 = .ok (.baload, 1) := dk_51 (dk_at dksX3_unteach_1 5 rfl rfl)
theorem dX3_unteach_30 : decode cX3_unteach 30 = .ok (.ifCond .eq 6, 3) := dk_153 0 6 (dk_at dksX3_unteach_1 6 rfl rfl)
theorem dX3_unteach_33 : decode cX3_unteach 33 = .ok (.ldc 150, 2) := dk_18 150 (dk_at dksX3_unteach_1 9 rfl rfl)
theorem dX3_unteach_35 : decode cX3_unteach 35 = .ok (.ireturn, 1) := dk_172 (dk_at dksX3_unteach_1 11 rfl rfl)
theorem dX3_unteach_36 : decode cX3_unteach 36 = .ok (.aload_n 0, 1) := dk_42 (dk_at dksX3_unteach_1 12 rfl rfl)
theorem dX3_unteach_37 : decode cX3_unteach 37 = .ok (.getfield 43, 3) := dk_180 0 43 (dk_at dksX3_unteach_1 13 rfl rfl)
theorem dX3_unteach_40 : decode cX3_unteach 40 = .ok (.iload_n 1, 1) := dk_27 (dk_at dksX3_unteach_1 16 rfl rfl)
theorem dX3_unteach_41 : decode cX3_unteach 41 = .ok (.iconst 1, 1) := dk_4 (dk_at dksX3_unteach_1 17 rfl rfl)
theorem dX3_unteach_42 : decode cX3_unteach 42 = .ok (.bastore, 1) := dk_84 (dk_at dksX3_unteach_1 18 rfl rfl)
theorem dX3_unteach_43 : decode cX3_unteach 43 = .ok (.iconst 1, 1) := dk_4 (dk_at dksX3_unteach_1 19 rfl rfl)
theorem dX3_unteach_44 : decode cX3_unteach 44 = .ok (.ireturn, 1) := dk_172 (dk_at dksX3_unteach_1 20 rfl rfl)
abbrev cX3_fits : ByteArray := prog_18_method_48_code
def yX3_fits : MethodName := ⟨RX3, "fits", "(I)I"⟩
def dkwX3_fits_2 : List UInt8 := [132, 3, 1, 167, 255, 223, 27, 2, 160, 0, 7, 28, 167, 0, 5, 18, 81, 172]
abbrev dktX3_fits_2 : List UInt8 := dkwX3_fits_2 ++ []
def dkwX3_fits_1 : List UInt8 := [29, 42, 182, 0, 209, 182, 0, 213, 18, 81, 160, 0, 13, 28, 27, 160, 0, 5, 29, 172, 132, 2, 1]
abbrev dktX3_fits_1 : List UInt8 := dkwX3_fits_1 ++ dktX3_fits_2
def dkwX3_fits_0 : List UInt8 := [42, 3, 181, 0, 1, 27, 2, 162, 0, 6, 18, 143, 172, 3, 61, 3, 62, 29, 16, 96, 162, 0, 33, 42]
abbrev dktX3_fits_0 : List UInt8 := dkwX3_fits_0 ++ dktX3_fits_1
theorem dksX3_fits_0 : cX3_fits.data.toList.drop 0 = dktX3_fits_0 := by decide +kernel
theorem dksX3_fits_1 : cX3_fits.data.toList.drop 24 = dktX3_fits_1 := dk_seg dksX3_fits_0 24 rfl rfl
theorem dksX3_fits_2 : cX3_fits.data.toList.drop 47 = dktX3_fits_2 := dk_seg dksX3_fits_1 23 rfl rfl
theorem dX3_fits_0 : decode cX3_fits 0 = .ok (.aload_n 0, 1) := dk_42 (dk_at dksX3_fits_0 0 rfl rfl)
theorem dX3_fits_1 : decode cX3_fits 1 = .ok (.iconst 0, 1) := dk_3 (dk_at dksX3_fits_0 1 rfl rfl)
theorem dX3_fits_2 : decode cX3_fits 2 = .ok (.putfield 1, 3) := dk_181 0 1 (dk_at dksX3_fits_0 2 rfl rfl)
theorem dX3_fits_5 : decode cX3_fits 5 = .ok (.iload_n 1, 1) := dk_27 (dk_at dksX3_fits_0 5 rfl rfl)
theorem dX3_fits_6 : decode cX3_fits 6 = .ok (.iconst (-1), 1) := dk_2 (dk_at dksX3_fits_0 6 rfl rfl)
theorem dX3_fits_7 : decode cX3_fits 7 = .ok (.if_icmp .ge 6, 3) := dk_162 0 6 (dk_at dksX3_fits_0 7 rfl rfl)
theorem dX3_fits_10 : decode cX3_fits 10 = .ok (.ldc 143, 2) := dk_18 143 (dk_at dksX3_fits_0 10 rfl rfl)
theorem dX3_fits_12 : decode cX3_fits 12 = .ok (.ireturn, 1) := dk_172 (dk_at dksX3_fits_0 12 rfl rfl)
theorem dX3_fits_13 : decode cX3_fits 13 = .ok (.iconst 0, 1) := dk_3 (dk_at dksX3_fits_0 13 rfl rfl)
theorem dX3_fits_14 : decode cX3_fits 14 = .ok (.istore_n 2, 1) := dk_61 (dk_at dksX3_fits_0 14 rfl rfl)
theorem dX3_fits_15 : decode cX3_fits 15 = .ok (.iconst 0, 1) := dk_3 (dk_at dksX3_fits_0 15 rfl rfl)
theorem dX3_fits_16 : decode cX3_fits 16 = .ok (.istore_n 3, 1) := dk_62 (dk_at dksX3_fits_0 16 rfl rfl)
theorem dX3_fits_17 : decode cX3_fits 17 = .ok (.iload_n 3, 1) := dk_29 (dk_at dksX3_fits_0 17 rfl rfl)
theorem dX3_fits_18 : decode cX3_fits 18 = .ok (.bipush 96, 2) := dk_16 96 (dk_at dksX3_fits_0 18 rfl rfl)
theorem dX3_fits_20 : decode cX3_fits 20 = .ok (.if_icmp .ge 33, 3) := dk_162 0 33 (dk_at dksX3_fits_0 20 rfl rfl)
theorem dX3_fits_23 : decode cX3_fits 23 = .ok (.aload_n 0, 1) := dk_42 (dk_at dksX3_fits_0 23 rfl rfl)
theorem dX3_fits_24 : decode cX3_fits 24 = .ok (.iload_n 3, 1) := dk_29 (dk_at dksX3_fits_1 0 rfl rfl)
theorem dX3_fits_25 : decode cX3_fits 25 = .ok (.aload_n 0, 1) := dk_42 (dk_at dksX3_fits_1 1 rfl rfl)
theorem dX3_fits_26 : decode cX3_fits 26 = .ok (.invokevirtual 209, 3) := dk_182 0 209 (dk_at dksX3_fits_1 2 rfl rfl)
theorem dX3_fits_29 : decode cX3_fits 29 = .ok (.invokevirtual 213, 3) := dk_182 0 213 (dk_at dksX3_fits_1 5 rfl rfl)
theorem dX3_fits_32 : decode cX3_fits 32 = .ok (.ldc 81, 2) := dk_18 81 (dk_at dksX3_fits_1 8 rfl rfl)
theorem dX3_fits_34 : decode cX3_fits 34 = .ok (.if_icmp .ne 13, 3) := dk_160 0 13 (dk_at dksX3_fits_1 10 rfl rfl)
theorem dX3_fits_37 : decode cX3_fits 37 = .ok (.iload_n 2, 1) := dk_28 (dk_at dksX3_fits_1 13 rfl rfl)
theorem dX3_fits_38 : decode cX3_fits 38 = .ok (.iload_n 1, 1) := dk_27 (dk_at dksX3_fits_1 14 rfl rfl)
theorem dX3_fits_39 : decode cX3_fits 39 = .ok (.if_icmp .ne 5, 3) := dk_160 0 5 (dk_at dksX3_fits_1 15 rfl rfl)
theorem dX3_fits_42 : decode cX3_fits 42 = .ok (.iload_n 3, 1) := dk_29 (dk_at dksX3_fits_1 18 rfl rfl)
theorem dX3_fits_43 : decode cX3_fits 43 = .ok (.ireturn, 1) := dk_172 (dk_at dksX3_fits_1 19 rfl rfl)
theorem dX3_fits_44 : decode cX3_fits 44 = .ok (.iinc 2 1, 3) := dk_132 2 1 (dk_at dksX3_fits_1 20 rfl rfl)
theorem dX3_fits_47 : decode cX3_fits 47 = .ok (.iinc 3 1, 3) := dk_132 3 1 (dk_at dksX3_fits_2 0 rfl rfl)
theorem dX3_fits_50 : decode cX3_fits 50 = .ok (.goto (-33), 3) := dk_167 255 223 (dk_at dksX3_fits_2 3 rfl rfl)
theorem dX3_fits_53 : decode cX3_fits 53 = .ok (.iload_n 1, 1) := dk_27 (dk_at dksX3_fits_2 6 rfl rfl)
theorem dX3_fits_54 : decode cX3_fits 54 = .ok (.iconst (-1), 1) := dk_2 (dk_at dksX3_fits_2 7 rfl rfl)
theorem dX3_fits_55 : decode cX3_fits 55 = .ok (.if_icmp .ne 7, 3) := dk_160 0 7 (dk_at dksX3_fits_2 8 rfl rfl)
theorem dX3_fits_58 : decode cX3_fits 58 = .ok (.iload_n 2, 1) := dk_28 (dk_at dksX3_fits_2 11 rfl rfl)
theorem dX3_fits_59 : decode cX3_fits 59 = .ok (.goto 5, 3) := dk_167 0 5 (dk_at dksX3_fits_2 12 rfl rfl)
theorem dX3_fits_62 : decode cX3_fits 62 = .ok (.ldc 81, 2) := dk_18 81 (dk_at dksX3_fits_2 15 rfl rfl)
theorem dX3_fits_64 : decode cX3_fits 64 = .ok (.ireturn, 1) := dk_172 (dk_at dksX3_fits_2 17 rfl rfl)
abbrev cX3_standing : ByteArray := prog_18_method_47_code
def yX3_standing : MethodName := ⟨RX3, "standing", "()I"⟩
def dkwX3_standing_1 : List UInt8 := [167, 0, 6, 4, 28, 120, 128, 60, 132, 2, 1, 167, 255, 226, 27, 172]
abbrev dktX3_standing_1 : List UInt8 := dkwX3_standing_1 ++ []
def dkwX3_standing_0 : List UInt8 := [3, 60, 3, 61, 28, 42, 180, 0, 192, 162, 0, 28, 27, 42, 180, 0, 43, 28, 51, 153, 0, 7, 3]
abbrev dktX3_standing_0 : List UInt8 := dkwX3_standing_0 ++ dktX3_standing_1
theorem dksX3_standing_0 : cX3_standing.data.toList.drop 0 = dktX3_standing_0 := by decide +kernel
theorem dksX3_standing_1 : cX3_standing.data.toList.drop 23 = dktX3_standing_1 := dk_seg dksX3_standing_0 23 rfl rfl
theorem dX3_standing_0 : decode cX3_standing 0 = .ok (.iconst 0, 1) := dk_3 (dk_at dksX3_standing_0 0 rfl rfl)
theorem dX3_standing_1 : decode cX3_standing 1 = .ok (.istore_n 1, 1) := dk_60 (dk_at dksX3_standing_0 1 rfl rfl)
theorem dX3_standing_2 : decode cX3_standing 2 = .ok (.iconst 0, 1) := dk_3 (dk_at dksX3_standing_0 2 rfl rfl)
theorem dX3_standing_3 : decode cX3_standing 3 = .ok (.istore_n 2, 1) := dk_61 (dk_at dksX3_standing_0 3 rfl rfl)
theorem dX3_standing_4 : decode cX3_standing 4 = .ok (.iload_n 2, 1) := dk_28 (dk_at dksX3_standing_0 4 rfl rfl)
theorem dX3_standing_5 : decode cX3_standing 5 = .ok (.aload_n 0, 1) := dk_42 (dk_at dksX3_standing_0 5 rfl rfl)
theorem dX3_standing_6 : decode cX3_standing 6 = .ok (.getfield 192, 3) := dk_180 0 192 (dk_at dksX3_standing_0 6 rfl rfl)
theorem dX3_standing_9 : decode cX3_standing 9 = .ok (.if_icmp .ge 28, 3) := dk_162 0 28 (dk_at dksX3_standing_0 9 rfl rfl)
theorem dX3_standing_12 : decode cX3_standing 12 = .ok (.iload_n 1, 1) := dk_27 (dk_at dksX3_standing_0 12 rfl rfl)
theorem dX3_standing_13 : decode cX3_standing 13 = .ok (.aload_n 0, 1) := dk_42 (dk_at dksX3_standing_0 13 rfl rfl)
theorem dX3_standing_14 : decode cX3_standing 14 = .ok (.getfield 43, 3) := dk_180 0 43 (dk_at dksX3_standing_0 14 rfl rfl)
theorem dX3_standing_17 : decode cX3_standing 17 = .ok (.iload_n 2, 1) := dk_28 (dk_at dksX3_standing_0 17 rfl rfl)
theorem dX3_standing_18 : decode cX3_standing 18 = .ok (.baload, 1) := dk_51 (dk_at dksX3_standing_0 18 rfl rfl)
theorem dX3_standing_19 : decode cX3_standing 19 = .ok (.ifCond .eq 7, 3) := dk_153 0 7 (dk_at dksX3_standing_0 19 rfl rfl)
theorem dX3_standing_22 : decode cX3_standing 22 = .ok (.iconst 0, 1) := dk_3 (dk_at dksX3_standing_0 22 rfl rfl)
theorem dX3_standing_23 : decode cX3_standing 23 = .ok (.goto 6, 3) := dk_167 0 6 (dk_at dksX3_standing_1 0 rfl rfl)
theorem dX3_standing_26 : decode cX3_standing 26 = .ok (.iconst 1, 1) := dk_4 (dk_at dksX3_standing_1 3 rfl rfl)
theorem dX3_standing_27 : decode cX3_standing 27 = .ok (.iload_n 2, 1) := dk_28 (dk_at dksX3_standing_1 4 rfl rfl)
theorem dX3_standing_28 : decode cX3_standing 28 = .ok (.ishl, 1) := dk_120 (dk_at dksX3_standing_1 5 rfl rfl)
theorem dX3_standing_29 : decode cX3_standing 29 = .ok (.ior, 1) := dk_128 (dk_at dksX3_standing_1 6 rfl rfl)
theorem dX3_standing_30 : decode cX3_standing 30 = .ok (.istore_n 1, 1) := dk_60 (dk_at dksX3_standing_1 7 rfl rfl)
theorem dX3_standing_31 : decode cX3_standing 31 = .ok (.iinc 2 1, 3) := dk_132 2 1 (dk_at dksX3_standing_1 8 rfl rfl)
theorem dX3_standing_34 : decode cX3_standing 34 = .ok (.goto (-30), 3) := dk_167 255 226 (dk_at dksX3_standing_1 11 rfl rfl)
theorem dX3_standing_37 : decode cX3_standing 37 = .ok (.iload_n 1, 1) := dk_27 (dk_at dksX3_standing_1 14 rfl rfl)
theorem dX3_standing_38 : decode cX3_standing 38 = .ok (.ireturn, 1) := dk_172 (dk_at dksX3_standing_1 15 rfl rfl)
abbrev cX3_barredBy : ByteArray := prog_18_method_46_code
def yX3_barredBy : MethodName := ⟨RX3, "barredBy", "(II)I"⟩
def dkwX3_barredBy_1 : List UInt8 := [182, 0, 206, 153, 0, 5, 29, 172, 132, 3, 1, 167, 255, 225, 18, 81, 172]
abbrev dktX3_barredBy_1 : List UInt8 := dkwX3_barredBy_1 ++ []
def dkwX3_barredBy_0 : List UInt8 := [3, 62, 29, 42, 180, 0, 192, 162, 0, 29, 28, 29, 122, 4, 126, 4, 160, 0, 14, 42, 29, 27]
abbrev dktX3_barredBy_0 : List UInt8 := dkwX3_barredBy_0 ++ dktX3_barredBy_1
theorem dksX3_barredBy_0 : cX3_barredBy.data.toList.drop 0 = dktX3_barredBy_0 := by decide +kernel
theorem dksX3_barredBy_1 : cX3_barredBy.data.toList.drop 22 = dktX3_barredBy_1 := dk_seg dksX3_barredBy_0 22 rfl rfl
theorem dX3_barredBy_0 : decode cX3_barredBy 0 = .ok (.iconst 0, 1) := dk_3 (dk_at dksX3_barredBy_0 0 rfl rfl)
theorem dX3_barredBy_1 : decode cX3_barredBy 1 = .ok (.istore_n 3, 1) := dk_62 (dk_at dksX3_barredBy_0 1 rfl rfl)
theorem dX3_barredBy_2 : decode cX3_barredBy 2 = .ok (.iload_n 3, 1) := dk_29 (dk_at dksX3_barredBy_0 2 rfl rfl)
theorem dX3_barredBy_3 : decode cX3_barredBy 3 = .ok (.aload_n 0, 1) := dk_42 (dk_at dksX3_barredBy_0 3 rfl rfl)
theorem dX3_barredBy_4 : decode cX3_barredBy 4 = .ok (.getfield 192, 3) := dk_180 0 192 (dk_at dksX3_barredBy_0 4 rfl rfl)
theorem dX3_barredBy_7 : decode cX3_barredBy 7 = .ok (.if_icmp .ge 29, 3) := dk_162 0 29 (dk_at dksX3_barredBy_0 7 rfl rfl)
theorem dX3_barredBy_10 : decode cX3_barredBy 10 = .ok (.iload_n 2, 1) := dk_28 (dk_at dksX3_barredBy_0 10 rfl rfl)
theorem dX3_barredBy_11 : decode cX3_barredBy 11 = .ok (.iload_n 3, 1) := dk_29 (dk_at dksX3_barredBy_0 11 rfl rfl)
theorem dX3_barredBy_12 : decode cX3_barredBy 12 = .ok (.ishr, 1) := dk_122 (dk_at dksX3_barredBy_0 12 rfl rfl)
theorem dX3_barredBy_13 : decode cX3_barredBy 13 = .ok (.iconst 1, 1) := dk_4 (dk_at dksX3_barredBy_0 13 rfl rfl)
theorem dX3_barredBy_14 : decode cX3_barredBy 14 = .ok (.iand, 1) := dk_126 (dk_at dksX3_barredBy_0 14 rfl rfl)
theorem dX3_barredBy_15 : decode cX3_barredBy 15 = .ok (.iconst 1, 1) := dk_4 (dk_at dksX3_barredBy_0 15 rfl rfl)
theorem dX3_barredBy_16 : decode cX3_barredBy 16 = .ok (.if_icmp .ne 14, 3) := dk_160 0 14 (dk_at dksX3_barredBy_0 16 rfl rfl)
theorem dX3_barredBy_19 : decode cX3_barredBy 19 = .ok (.aload_n 0, 1) := dk_42 (dk_at dksX3_barredBy_0 19 rfl rfl)
theorem dX3_barredBy_20 : decode cX3_barredBy 20 = .ok (.iload_n 3, 1) := dk_29 (dk_at dksX3_barredBy_0 20 rfl rfl)
theorem dX3_barredBy_21 : decode cX3_barredBy 21 = .ok (.iload_n 1, 1) := dk_27 (dk_at dksX3_barredBy_0 21 rfl rfl)
theorem dX3_barredBy_22 : decode cX3_barredBy 22 = .ok (.invokevirtual 206, 3) := dk_182 0 206 (dk_at dksX3_barredBy_1 0 rfl rfl)
theorem dX3_barredBy_25 : decode cX3_barredBy 25 = .ok (.ifCond .eq 5, 3) := dk_153 0 5 (dk_at dksX3_barredBy_1 3 rfl rfl)
theorem dX3_barredBy_28 : decode cX3_barredBy 28 = .ok (.iload_n 3, 1) := dk_29 (dk_at dksX3_barredBy_1 6 rfl rfl)
theorem dX3_barredBy_29 : decode cX3_barredBy 29 = .ok (.ireturn, 1) := dk_172 (dk_at dksX3_barredBy_1 7 rfl rfl)
theorem dX3_barredBy_30 : decode cX3_barredBy 30 = .ok (.iinc 3 1, 3) := dk_132 3 1 (dk_at dksX3_barredBy_1 8 rfl rfl)
theorem dX3_barredBy_33 : decode cX3_barredBy 33 = .ok (.goto (-31), 3) := dk_167 255 225 (dk_at dksX3_barredBy_1 11 rfl rfl)
theorem dX3_barredBy_36 : decode cX3_barredBy 36 = .ok (.ldc 81, 2) := dk_18 81 (dk_at dksX3_barredBy_1 14 rfl rfl)
theorem dX3_barredBy_38 : decode cX3_barredBy 38 = .ok (.ireturn, 1) := dk_172 (dk_at dksX3_barredBy_1 16 rfl rfl)
abbrev cX3_isBarring : ByteArray := prog_18_method_45_code
def yX3_isBarring : MethodName := ⟨RX3, "isBarring", "(II)Z"⟩
def dkwX3_isBarring_3 : List UInt8 := [167, 0, 13, 21, 4, 154, 0, 7, 4, 167, 0, 4, 3, 172]
abbrev dktX3_isBarring_3 : List UInt8 := dkwX3_isBarring_3 ++ []
def dkwX3_isBarring_2 : List UInt8 := [182, 0, 187, 153, 0, 7, 4, 167, 0, 4, 3, 54, 4, 42, 180, 0, 36, 27, 51, 153, 0, 8, 21, 4]
abbrev dktX3_isBarring_2 : List UInt8 := dkwX3_isBarring_2 ++ dktX3_isBarring_3
def dkwX3_isBarring_1 : List UInt8 := [160, 0, 7, 4, 167, 0, 4, 3, 62, 29, 154, 0, 24, 42, 16, 9, 42, 180, 0, 33, 27, 46, 4, 96]
abbrev dktX3_isBarring_1 : List UInt8 := dkwX3_isBarring_1 ++ dktX3_isBarring_2
def dkwX3_isBarring_0 : List UInt8 := [42, 42, 180, 0, 30, 27, 46, 4, 96, 16, 9, 182, 0, 144, 42, 16, 9, 28, 182, 0, 147, 18, 81]
abbrev dktX3_isBarring_0 : List UInt8 := dkwX3_isBarring_0 ++ dktX3_isBarring_1
theorem dksX3_isBarring_0 : cX3_isBarring.data.toList.drop 0 = dktX3_isBarring_0 := by decide +kernel
theorem dksX3_isBarring_1 : cX3_isBarring.data.toList.drop 23 = dktX3_isBarring_1 := dk_seg dksX3_isBarring_0 23 rfl rfl
theorem dksX3_isBarring_2 : cX3_isBarring.data.toList.drop 47 = dktX3_isBarring_2 := dk_seg dksX3_isBarring_1 24 rfl rfl
theorem dksX3_isBarring_3 : cX3_isBarring.data.toList.drop 71 = dktX3_isBarring_3 := dk_seg dksX3_isBarring_2 24 rfl rfl
theorem dX3_isBarring_0 : decode cX3_isBarring 0 = .ok (.aload_n 0, 1) := dk_42 (dk_at dksX3_isBarring_0 0 rfl rfl)
theorem dX3_isBarring_1 : decode cX3_isBarring 1 = .ok (.aload_n 0, 1) := dk_42 (dk_at dksX3_isBarring_0 1 rfl rfl)
theorem dX3_isBarring_2 : decode cX3_isBarring 2 = .ok (.getfield 30, 3) := dk_180 0 30 (dk_at dksX3_isBarring_0 2 rfl rfl)
theorem dX3_isBarring_5 : decode cX3_isBarring 5 = .ok (.iload_n 1, 1) := dk_27 (dk_at dksX3_isBarring_0 5 rfl rfl)
theorem dX3_isBarring_6 : decode cX3_isBarring 6 = .ok (.iaload, 1) := dk_46 (dk_at dksX3_isBarring_0 6 rfl rfl)
theorem dX3_isBarring_7 : decode cX3_isBarring 7 = .ok (.iconst 1, 1) := dk_4 (dk_at dksX3_isBarring_0 7 rfl rfl)
theorem dX3_isBarring_8 : decode cX3_isBarring 8 = .ok (.iadd, 1) := dk_96 (dk_at dksX3_isBarring_0 8 rfl rfl)
theorem dX3_isBarring_9 : decode cX3_isBarring 9 = .ok (.bipush 9, 2) := dk_16 9 (dk_at dksX3_isBarring_0 9 rfl rfl)
theorem dX3_isBarring_11 : decode cX3_isBarring 11 = .ok (.invokevirtual 144, 3) := dk_182 0 144 (dk_at dksX3_isBarring_0 11 rfl rfl)
theorem dX3_isBarring_14 : decode cX3_isBarring 14 = .ok (.aload_n 0, 1) := dk_42 (dk_at dksX3_isBarring_0 14 rfl rfl)
theorem dX3_isBarring_15 : decode cX3_isBarring 15 = .ok (.bipush 9, 2) := dk_16 9 (dk_at dksX3_isBarring_0 15 rfl rfl)
theorem dX3_isBarring_17 : decode cX3_isBarring 17 = .ok (.iload_n 2, 1) := dk_28 (dk_at dksX3_isBarring_0 17 rfl rfl)
theorem dX3_isBarring_18 : decode cX3_isBarring 18 = .ok (.invokevirtual 147, 3) := dk_182 0 147 (dk_at dksX3_isBarring_0 18 rfl rfl)
theorem dX3_isBarring_21 : decode cX3_isBarring 21 = .ok (.ldc 81, 2) := dk_18 81 (dk_at dksX3_isBarring_0 21 rfl rfl)
theorem dX3_isBarring_23 : decode cX3_isBarring 23 = .ok (.if_icmp .ne 7, 3) := dk_160 0 7 (dk_at dksX3_isBarring_1 0 rfl rfl)
theorem dX3_isBarring_26 : decode cX3_isBarring 26 = .ok (.iconst 1, 1) := dk_4 (dk_at dksX3_isBarring_1 3 rfl rfl)
theorem dX3_isBarring_27 : decode cX3_isBarring 27 = .ok (.goto 4, 3) := dk_167 0 4 (dk_at dksX3_isBarring_1 4 rfl rfl)
theorem dX3_isBarring_30 : decode cX3_isBarring 30 = .ok (.iconst 0, 1) := dk_3 (dk_at dksX3_isBarring_1 7 rfl rfl)
theorem dX3_isBarring_31 : decode cX3_isBarring 31 = .ok (.istore_n 3, 1) := dk_62 (dk_at dksX3_isBarring_1 8 rfl rfl)
theorem dX3_isBarring_32 : decode cX3_isBarring 32 = .ok (.iload_n 3, 1) := dk_29 (dk_at dksX3_isBarring_1 9 rfl rfl)
theorem dX3_isBarring_33 : decode cX3_isBarring 33 = .ok (.ifCond .ne 24, 3) := dk_154 0 24 (dk_at dksX3_isBarring_1 10 rfl rfl)
theorem dX3_isBarring_36 : decode cX3_isBarring 36 = .ok (.aload_n 0, 1) := dk_42 (dk_at dksX3_isBarring_1 13 rfl rfl)
theorem dX3_isBarring_37 : decode cX3_isBarring 37 = .ok (.bipush 9, 2) := dk_16 9 (dk_at dksX3_isBarring_1 14 rfl rfl)
theorem dX3_isBarring_39 : decode cX3_isBarring 39 = .ok (.aload_n 0, 1) := dk_42 (dk_at dksX3_isBarring_1 16 rfl rfl)
theorem dX3_isBarring_40 : decode cX3_isBarring 40 = .ok (.getfield 33, 3) := dk_180 0 33 (dk_at dksX3_isBarring_1 17 rfl rfl)
theorem dX3_isBarring_43 : decode cX3_isBarring 43 = .ok (.iload_n 1, 1) := dk_27 (dk_at dksX3_isBarring_1 20 rfl rfl)
theorem dX3_isBarring_44 : decode cX3_isBarring 44 = .ok (.iaload, 1) := dk_46 (dk_at dksX3_isBarring_1 21 rfl rfl)
theorem dX3_isBarring_45 : decode cX3_isBarring 45 = .ok (.iconst 1, 1) := dk_4 (dk_at dksX3_isBarring_1 22 rfl rfl)
theorem dX3_isBarring_46 : decode cX3_isBarring 46 = .ok (.iadd, 1) := dk_96 (dk_at dksX3_isBarring_1 23 rfl rfl)
theorem dX3_isBarring_47 : decode cX3_isBarring 47 = .ok (.invokevirtual 187, 3) := dk_182 0 187 (dk_at dksX3_isBarring_2 0 rfl rfl)
theorem dX3_isBarring_50 : decode cX3_isBarring 50 = .ok (.ifCond .eq 7, 3) := dk_153 0 7 (dk_at dksX3_isBarring_2 3 rfl rfl)
theorem dX3_isBarring_53 : decode cX3_isBarring 53 = .ok (.iconst 1, 1) := dk_4 (dk_at dksX3_isBarring_2 6 rfl rfl)
theorem dX3_isBarring_54 : decode cX3_isBarring 54 = .ok (.goto 4, 3) := dk_167 0 4 (dk_at dksX3_isBarring_2 7 rfl rfl)
theorem dX3_isBarring_57 : decode cX3_isBarring 57 = .ok (.iconst 0, 1) := dk_3 (dk_at dksX3_isBarring_2 10 rfl rfl)
theorem dX3_isBarring_58 : decode cX3_isBarring 58 = .ok (.istore 4, 2) := dk_54 4 (dk_at dksX3_isBarring_2 11 rfl rfl)
theorem dX3_isBarring_60 : decode cX3_isBarring 60 = .ok (.aload_n 0, 1) := dk_42 (dk_at dksX3_isBarring_2 13 rfl rfl)
theorem dX3_isBarring_61 : decode cX3_isBarring 61 = .ok (.getfield 36, 3) := dk_180 0 36 (dk_at dksX3_isBarring_2 14 rfl rfl)
theorem dX3_isBarring_64 : decode cX3_isBarring 64 = .ok (.iload_n 1, 1) := dk_27 (dk_at dksX3_isBarring_2 17 rfl rfl)
theorem dX3_isBarring_65 : decode cX3_isBarring 65 = .ok (.baload, 1) := dk_51 (dk_at dksX3_isBarring_2 18 rfl rfl)
theorem dX3_isBarring_66 : decode cX3_isBarring 66 = .ok (.ifCond .eq 8, 3) := dk_153 0 8 (dk_at dksX3_isBarring_2 19 rfl rfl)
theorem dX3_isBarring_69 : decode cX3_isBarring 69 = .ok (.iload 4, 2) := dk_21 4 (dk_at dksX3_isBarring_2 22 rfl rfl)
theorem dX3_isBarring_71 : decode cX3_isBarring 71 = .ok (.goto 13, 3) := dk_167 0 13 (dk_at dksX3_isBarring_3 0 rfl rfl)
theorem dX3_isBarring_74 : decode cX3_isBarring 74 = .ok (.iload 4, 2) := dk_21 4 (dk_at dksX3_isBarring_3 3 rfl rfl)
theorem dX3_isBarring_76 : decode cX3_isBarring 76 = .ok (.ifCond .ne 7, 3) := dk_154 0 7 (dk_at dksX3_isBarring_3 5 rfl rfl)
theorem dX3_isBarring_79 : decode cX3_isBarring 79 = .ok (.iconst 1, 1) := dk_4 (dk_at dksX3_isBarring_3 8 rfl rfl)
theorem dX3_isBarring_80 : decode cX3_isBarring 80 = .ok (.goto 4, 3) := dk_167 0 4 (dk_at dksX3_isBarring_3 9 rfl rfl)
theorem dX3_isBarring_83 : decode cX3_isBarring 83 = .ok (.iconst 0, 1) := dk_3 (dk_at dksX3_isBarring_3 12 rfl rfl)
theorem dX3_isBarring_84 : decode cX3_isBarring 84 = .ok (.ireturn, 1) := dk_172 (dk_at dksX3_isBarring_3 13 rfl rfl)
abbrev cX3_barred : ByteArray := prog_18_method_49_code
def yX3_barred : MethodName := ⟨RX3, "barred", "(II)I"⟩
def dkwX3_barred_2 : List UInt8 := [154, 0, 7, 29, 167, 0, 9, 42, 180, 0, 40, 29, 46, 172]
abbrev dktX3_barred_2 : List UInt8 := dkwX3_barred_2 ++ []
def dkwX3_barred_1 : List UInt8 := [172, 42, 27, 42, 182, 0, 209, 182, 0, 213, 62, 29, 18, 81, 160, 0, 8, 18, 81, 167, 0, 17, 28]
abbrev dktX3_barred_1 : List UInt8 := dkwX3_barred_1 ++ dktX3_barred_2
def dkwX3_barred_0 : List UInt8 := [42, 3, 181, 0, 1, 27, 184, 0, 139, 153, 0, 13, 28, 133, 9, 10, 184, 0, 135, 154, 0, 6, 18, 143]
abbrev dktX3_barred_0 : List UInt8 := dkwX3_barred_0 ++ dktX3_barred_1
theorem dksX3_barred_0 : cX3_barred.data.toList.drop 0 = dktX3_barred_0 := by decide +kernel
theorem dksX3_barred_1 : cX3_barred.data.toList.drop 24 = dktX3_barred_1 := dk_seg dksX3_barred_0 24 rfl rfl
theorem dksX3_barred_2 : cX3_barred.data.toList.drop 47 = dktX3_barred_2 := dk_seg dksX3_barred_1 23 rfl rfl
theorem dX3_barred_0 : decode cX3_barred 0 = .ok (.aload_n 0, 1) := dk_42 (dk_at dksX3_barred_0 0 rfl rfl)
theorem dX3_barred_1 : decode cX3_barred 1 = .ok (.iconst 0, 1) := dk_3 (dk_at dksX3_barred_0 1 rfl rfl)
theorem dX3_barred_2 : decode cX3_barred 2 = .ok (.putfield 1, 3) := dk_181 0 1 (dk_at dksX3_barred_0 2 rfl rfl)
theorem dX3_barred_5 : decode cX3_barred 5 = .ok (.iload_n 1, 1) := dk_27 (dk_at dksX3_barred_0 5 rfl rfl)
theorem dX3_barred_6 : decode cX3_barred 6 = .ok (.invokestatic 139, 3) := dk_184 0 139 (dk_at dksX3_barred_0 6 rfl rfl)
theorem dX3_barred_9 : decode cX3_barred 9 = .ok (.ifCond .eq 13, 3) := dk_153 0 13 (dk_at dksX3_barred_0 9 rfl rfl)
theorem dX3_barred_12 : decode cX3_barred 12 = .ok (.iload_n 2, 1) := dk_28 (dk_at dksX3_barred_0 12 rfl rfl)
theorem dX3_barred_13 : decode cX3_barred 13 = .ok (.i2l, 1) := dk_133 (dk_at dksX3_barred_0 13 rfl rfl)
theorem dX3_barred_14 : decode cX3_barred 14 = .ok (.lconst 0, 1) := dk_9 (dk_at dksX3_barred_0 14 rfl rfl)
theorem dX3_barred_15 : decode cX3_barred 15 = .ok (.lconst 1, 1) := dk_10 (dk_at dksX3_barred_0 15 rfl rfl)
theorem dX3_barred_16 : decode cX3_barred 16 = .ok (.invokestatic 135, 3) := dk_184 0 135 (dk_at dksX3_barred_0 16 rfl rfl)
theorem dX3_barred_19 : decode cX3_barred 19 = .ok (.ifCond .ne 6, 3) := dk_154 0 6 (dk_at dksX3_barred_0 19 rfl rfl)
theorem dX3_barred_22 : decode cX3_barred 22 = .ok (.ldc 143, 2) := dk_18 143 (dk_at dksX3_barred_0 22 rfl rfl)
theorem dX3_barred_24 : decode cX3_barred 24 = .ok (.ireturn, 1) := dk_172 (dk_at dksX3_barred_1 0 rfl rfl)
theorem dX3_barred_25 : decode cX3_barred 25 = .ok (.aload_n 0, 1) := dk_42 (dk_at dksX3_barred_1 1 rfl rfl)
theorem dX3_barred_26 : decode cX3_barred 26 = .ok (.iload_n 1, 1) := dk_27 (dk_at dksX3_barred_1 2 rfl rfl)
theorem dX3_barred_27 : decode cX3_barred 27 = .ok (.aload_n 0, 1) := dk_42 (dk_at dksX3_barred_1 3 rfl rfl)
theorem dX3_barred_28 : decode cX3_barred 28 = .ok (.invokevirtual 209, 3) := dk_182 0 209 (dk_at dksX3_barred_1 4 rfl rfl)
theorem dX3_barred_31 : decode cX3_barred 31 = .ok (.invokevirtual 213, 3) := dk_182 0 213 (dk_at dksX3_barred_1 7 rfl rfl)
theorem dX3_barred_34 : decode cX3_barred 34 = .ok (.istore_n 3, 1) := dk_62 (dk_at dksX3_barred_1 10 rfl rfl)
theorem dX3_barred_35 : decode cX3_barred 35 = .ok (.iload_n 3, 1) := dk_29 (dk_at dksX3_barred_1 11 rfl rfl)
theorem dX3_barred_36 : decode cX3_barred 36 = .ok (.ldc 81, 2) := dk_18 81 (dk_at dksX3_barred_1 12 rfl rfl)
theorem dX3_barred_38 : decode cX3_barred 38 = .ok (.if_icmp .ne 8, 3) := dk_160 0 8 (dk_at dksX3_barred_1 14 rfl rfl)
theorem dX3_barred_41 : decode cX3_barred 41 = .ok (.ldc 81, 2) := dk_18 81 (dk_at dksX3_barred_1 17 rfl rfl)
theorem dX3_barred_43 : decode cX3_barred 43 = .ok (.goto 17, 3) := dk_167 0 17 (dk_at dksX3_barred_1 19 rfl rfl)
theorem dX3_barred_46 : decode cX3_barred 46 = .ok (.iload_n 2, 1) := dk_28 (dk_at dksX3_barred_1 22 rfl rfl)
theorem dX3_barred_47 : decode cX3_barred 47 = .ok (.ifCond .ne 7, 3) := dk_154 0 7 (dk_at dksX3_barred_2 0 rfl rfl)
theorem dX3_barred_50 : decode cX3_barred 50 = .ok (.iload_n 3, 1) := dk_29 (dk_at dksX3_barred_2 3 rfl rfl)
theorem dX3_barred_51 : decode cX3_barred 51 = .ok (.goto 9, 3) := dk_167 0 9 (dk_at dksX3_barred_2 4 rfl rfl)
theorem dX3_barred_54 : decode cX3_barred 54 = .ok (.aload_n 0, 1) := dk_42 (dk_at dksX3_barred_2 7 rfl rfl)
theorem dX3_barred_55 : decode cX3_barred 55 = .ok (.getfield 40, 3) := dk_180 0 40 (dk_at dksX3_barred_2 8 rfl rfl)
theorem dX3_barred_58 : decode cX3_barred 58 = .ok (.iload_n 3, 1) := dk_29 (dk_at dksX3_barred_2 11 rfl rfl)
theorem dX3_barred_59 : decode cX3_barred 59 = .ok (.iaload, 1) := dk_46 (dk_at dksX3_barred_2 12 rfl rfl)
theorem dX3_barred_60 : decode cX3_barred 60 = .ok (.ireturn, 1) := dk_172 (dk_at dksX3_barred_2 13 rfl rfl)
abbrev cX3_question : ByteArray := prog_18_method_51_code
def yX3_question : MethodName := ⟨RX3, "question", "(I)I"⟩
def dkwX3_question_3 : List UInt8 := [154, 0, 7, 28, 167, 0, 4, 29, 172]
abbrev dktX3_question_3 : List UInt8 := dkwX3_question_3 ++ []
def dkwX3_question_2 : List UInt8 := [159, 0, 9, 21, 5, 29, 164, 0, 9, 21, 4, 61, 21, 5, 62, 132, 4, 1, 167, 255, 218, 27]
abbrev dktX3_question_2 : List UInt8 := dkwX3_question_2 ++ dktX3_question_3
def dkwX3_question_1 : List UInt8 := [54, 4, 21, 4, 42, 180, 0, 161, 162, 0, 35, 42, 21, 4, 182, 0, 216, 54, 5, 28, 18, 81]
abbrev dktX3_question_1 : List UInt8 := dkwX3_question_1 ++ dktX3_question_2
def dkwX3_question_0 : List UInt8 := [42, 3, 181, 0, 1, 27, 133, 9, 10, 184, 0, 135, 154, 0, 6, 18, 143, 172, 18, 81, 61, 3, 62, 3]
abbrev dktX3_question_0 : List UInt8 := dkwX3_question_0 ++ dktX3_question_1
theorem dksX3_question_0 : cX3_question.data.toList.drop 0 = dktX3_question_0 := by decide +kernel
theorem dksX3_question_1 : cX3_question.data.toList.drop 24 = dktX3_question_1 := dk_seg dksX3_question_0 24 rfl rfl
theorem dksX3_question_2 : cX3_question.data.toList.drop 46 = dktX3_question_2 := dk_seg dksX3_question_1 22 rfl rfl
theorem dksX3_question_3 : cX3_question.data.toList.drop 68 = dktX3_question_3 := dk_seg dksX3_question_2 22 rfl rfl
theorem dX3_question_0 : decode cX3_question 0 = .ok (.aload_n 0, 1) := dk_42 (dk_at dksX3_question_0 0 rfl rfl)
theorem dX3_question_1 : decode cX3_question 1 = .ok (.iconst 0, 1) := dk_3 (dk_at dksX3_question_0 1 rfl rfl)
theorem dX3_question_2 : decode cX3_question 2 = .ok (.putfield 1, 3) := dk_181 0 1 (dk_at dksX3_question_0 2 rfl rfl)
theorem dX3_question_5 : decode cX3_question 5 = .ok (.iload_n 1, 1) := dk_27 (dk_at dksX3_question_0 5 rfl rfl)
theorem dX3_question_6 : decode cX3_question 6 = .ok (.i2l, 1) := dk_133 (dk_at dksX3_question_0 6 rfl rfl)
theorem dX3_question_7 : decode cX3_question 7 = .ok (.lconst 0, 1) := dk_9 (dk_at dksX3_question_0 7 rfl rfl)
theorem dX3_question_8 : decode cX3_question 8 = .ok (.lconst 1, 1) := dk_10 (dk_at dksX3_question_0 8 rfl rfl)
theorem dX3_question_9 : decode cX3_question 9 = .ok (.invokestatic 135, 3) := dk_184 0 135 (dk_at dksX3_question_0 9 rfl rfl)
theorem dX3_question_12 : decode cX3_question 12 = .ok (.ifCond .ne 6, 3) := dk_154 0 6 (dk_at dksX3_question_0 12 rfl rfl)
theorem dX3_question_15 : decode cX3_question 15 = .ok (.ldc 143, 2) := dk_18 143 (dk_at dksX3_question_0 15 rfl rfl)
theorem dX3_question_17 : decode cX3_question 17 = .ok (.ireturn, 1) := dk_172 (dk_at dksX3_question_0 17 rfl rfl)
theorem dX3_question_18 : decode cX3_question 18 = .ok (.ldc 81, 2) := dk_18 81 (dk_at dksX3_question_0 18 rfl rfl)
theorem dX3_question_20 : decode cX3_question 20 = .ok (.istore_n 2, 1) := dk_61 (dk_at dksX3_question_0 20 rfl rfl)
theorem dX3_question_21 : decode cX3_question 21 = .ok (.iconst 0, 1) := dk_3 (dk_at dksX3_question_0 21 rfl rfl)
theorem dX3_question_22 : decode cX3_question 22 = .ok (.istore_n 3, 1) := dk_62 (dk_at dksX3_question_0 22 rfl rfl)
theorem dX3_question_23 : decode cX3_question 23 = .ok (.iconst 0, 1) := dk_3 (dk_at dksX3_question_0 23 rfl rfl)
theorem dX3_question_24 : decode cX3_question 24 = .ok (.istore 4, 2) := dk_54 4 (dk_at dksX3_question_1 0 rfl rfl)
theorem dX3_question_26 : decode cX3_question 26 = .ok (.iload 4, 2) := dk_21 4 (dk_at dksX3_question_1 2 rfl rfl)
theorem dX3_question_28 : decode cX3_question 28 = .ok (.aload_n 0, 1) := dk_42 (dk_at dksX3_question_1 4 rfl rfl)
theorem dX3_question_29 : decode cX3_question 29 = .ok (.getfield 161, 3) := dk_180 0 161 (dk_at dksX3_question_1 5 rfl rfl)
theorem dX3_question_32 : decode cX3_question 32 = .ok (.if_icmp .ge 35, 3) := dk_162 0 35 (dk_at dksX3_question_1 8 rfl rfl)
theorem dX3_question_35 : decode cX3_question 35 = .ok (.aload_n 0, 1) := dk_42 (dk_at dksX3_question_1 11 rfl rfl)
theorem dX3_question_36 : decode cX3_question 36 = .ok (.iload 4, 2) := dk_21 4 (dk_at dksX3_question_1 12 rfl rfl)
theorem dX3_question_38 : decode cX3_question 38 = .ok (.invokevirtual 216, 3) := dk_182 0 216 (dk_at dksX3_question_1 14 rfl rfl)
theorem dX3_question_41 : decode cX3_question 41 = .ok (.istore 5, 2) := dk_54 5 (dk_at dksX3_question_1 17 rfl rfl)
theorem dX3_question_43 : decode cX3_question 43 = .ok (.iload_n 2, 1) := dk_28 (dk_at dksX3_question_1 19 rfl rfl)
theorem dX3_question_44 : decode cX3_question 44 = .ok (.ldc 81, 2) := dk_18 81 (dk_at dksX3_question_1 20 rfl rfl)
theorem dX3_question_46 : decode cX3_question 46 = .ok (.if_icmp .eq 9, 3) := dk_159 0 9 (dk_at dksX3_question_2 0 rfl rfl)
theorem dX3_question_49 : decode cX3_question 49 = .ok (.iload 5, 2) := dk_21 5 (dk_at dksX3_question_2 3 rfl rfl)
theorem dX3_question_51 : decode cX3_question 51 = .ok (.iload_n 3, 1) := dk_29 (dk_at dksX3_question_2 5 rfl rfl)
theorem dX3_question_52 : decode cX3_question 52 = .ok (.if_icmp .le 9, 3) := dk_164 0 9 (dk_at dksX3_question_2 6 rfl rfl)
theorem dX3_question_55 : decode cX3_question 55 = .ok (.iload 4, 2) := dk_21 4 (dk_at dksX3_question_2 9 rfl rfl)
theorem dX3_question_57 : decode cX3_question 57 = .ok (.istore_n 2, 1) := dk_61 (dk_at dksX3_question_2 11 rfl rfl)
theorem dX3_question_58 : decode cX3_question 58 = .ok (.iload 5, 2) := dk_21 5 (dk_at dksX3_question_2 12 rfl rfl)
theorem dX3_question_60 : decode cX3_question 60 = .ok (.istore_n 3, 1) := dk_62 (dk_at dksX3_question_2 14 rfl rfl)
theorem dX3_question_61 : decode cX3_question 61 = .ok (.iinc 4 1, 3) := dk_132 4 1 (dk_at dksX3_question_2 15 rfl rfl)
theorem dX3_question_64 : decode cX3_question 64 = .ok (.goto (-38), 3) := dk_167 255 218 (dk_at dksX3_question_2 18 rfl rfl)
theorem dX3_question_67 : decode cX3_question 67 = .ok (.iload_n 1, 1) := dk_27 (dk_at dksX3_question_2 21 rfl rfl)
theorem dX3_question_68 : decode cX3_question 68 = .ok (.ifCond .ne 7, 3) := dk_154 0 7 (dk_at dksX3_question_3 0 rfl rfl)
theorem dX3_question_71 : decode cX3_question 71 = .ok (.iload_n 2, 1) := dk_28 (dk_at dksX3_question_3 3 rfl rfl)
theorem dX3_question_72 : decode cX3_question 72 = .ok (.goto 4, 3) := dk_167 0 4 (dk_at dksX3_question_3 4 rfl rfl)
theorem dX3_question_75 : decode cX3_question 75 = .ok (.iload_n 3, 1) := dk_29 (dk_at dksX3_question_3 7 rfl rfl)
theorem dX3_question_76 : decode cX3_question 76 = .ok (.ireturn, 1) := dk_172 (dk_at dksX3_question_3 8 rfl rfl)
abbrev cX3_unlike : ByteArray := prog_18_method_50_code
def yX3_unlike : MethodName := ⟨RX3, "unlike", "(I)I"⟩
def dkwX3_unlike_5 : List UInt8 := [167, 255, 149, 28, 29, 96, 172]
abbrev dktX3_unlike_5 : List UInt8 := dkwX3_unlike_5 ++ []
def dkwX3_unlike_4 : List UInt8 := [132, 6, 1, 167, 255, 227, 28, 21, 5, 153, 0, 7, 3, 167, 0, 4, 4, 96, 61, 132, 4, 1]
abbrev dktX3_unlike_4 : List UInt8 := dkwX3_unlike_4 ++ dktX3_unlike_5
def dkwX3_unlike_3 : List UInt8 := [162, 0, 29, 21, 5, 154, 0, 24, 42, 16, 12, 21, 6, 96, 16, 12, 28, 96, 182, 0, 187, 54, 5]
abbrev dktX3_unlike_3 : List UInt8 := dkwX3_unlike_3 ++ dktX3_unlike_4
def dkwX3_unlike_2 : List UInt8 := [182, 0, 147, 18, 81, 160, 0, 8, 4, 62, 167, 0, 54, 3, 54, 5, 3, 54, 6, 21, 6, 28]
abbrev dktX3_unlike_2 : List UInt8 := dkwX3_unlike_2 ++ dktX3_unlike_3
def dkwX3_unlike_1 : List UInt8 := [18, 81, 160, 0, 85, 42, 27, 4, 96, 16, 12, 28, 96, 182, 0, 144, 42, 16, 12, 28, 96, 21, 4]
abbrev dktX3_unlike_1 : List UInt8 := dkwX3_unlike_1 ++ dktX3_unlike_2
def dkwX3_unlike_0 : List UInt8 := [3, 61, 3, 62, 3, 54, 4, 21, 4, 16, 96, 162, 0, 106, 42, 21, 4, 42, 182, 0, 209, 182, 0, 213]
abbrev dktX3_unlike_0 : List UInt8 := dkwX3_unlike_0 ++ dktX3_unlike_1
theorem dksX3_unlike_0 : cX3_unlike.data.toList.drop 0 = dktX3_unlike_0 := by decide +kernel
theorem dksX3_unlike_1 : cX3_unlike.data.toList.drop 24 = dktX3_unlike_1 := dk_seg dksX3_unlike_0 24 rfl rfl
theorem dksX3_unlike_2 : cX3_unlike.data.toList.drop 47 = dktX3_unlike_2 := dk_seg dksX3_unlike_1 23 rfl rfl
theorem dksX3_unlike_3 : cX3_unlike.data.toList.drop 69 = dktX3_unlike_3 := dk_seg dksX3_unlike_2 22 rfl rfl
theorem dksX3_unlike_4 : cX3_unlike.data.toList.drop 92 = dktX3_unlike_4 := dk_seg dksX3_unlike_3 23 rfl rfl
theorem dksX3_unlike_5 : cX3_unlike.data.toList.drop 114 = dktX3_unlike_5 := dk_seg dksX3_unlike_4 22 rfl rfl
theorem dX3_unlike_0 : decode cX3_unlike 0 = .ok (.iconst 0, 1) := dk_3 (dk_at dksX3_unlike_0 0 rfl rfl)
theorem dX3_unlike_1 : decode cX3_unlike 1 = .ok (.istore_n 2, 1) := dk_61 (dk_at dksX3_unlike_0 1 rfl rfl)
theorem dX3_unlike_2 : decode cX3_unlike 2 = .ok (.iconst 0, 1) := dk_3 (dk_at dksX3_unlike_0 2 rfl rfl)
theorem dX3_unlike_3 : decode cX3_unlike 3 = .ok (.istore_n 3, 1) := dk_62 (dk_at dksX3_unlike_0 3 rfl rfl)
theorem dX3_unlike_4 : decode cX3_unlike 4 = .ok (.iconst 0, 1) := dk_3 (dk_at dksX3_unlike_0 4 rfl rfl)
theorem dX3_unlike_5 : decode cX3_unlike 5 = .ok (.istore 4, 2) := dk_54 4 (dk_at dksX3_unlike_0 5 rfl rfl)
theorem dX3_unlike_7 : decode cX3_unlike 7 = .ok (.iload 4, 2) := dk_21 4 (dk_at dksX3_unlike_0 7 rfl rfl)
theorem dX3_unlike_9 : decode cX3_unlike 9 = .ok (.bipush 96, 2) := dk_16 96 (dk_at dksX3_unlike_0 9 rfl rfl)
theorem dX3_unlike_11 : decode cX3_unlike 11 = .ok (.if_icmp .ge 106, 3) := dk_162 0 106 (dk_at dksX3_unlike_0 11 rfl rfl)
theorem dX3_unlike_14 : decode cX3_unlike 14 = .ok (.aload_n 0, 1) := dk_42 (dk_at dksX3_unlike_0 14 rfl rfl)
theorem dX3_unlike_15 : decode cX3_unlike 15 = .ok (.iload 4, 2) := dk_21 4 (dk_at dksX3_unlike_0 15 rfl rfl)
theorem dX3_unlike_17 : decode cX3_unlike 17 = .ok (.aload_n 0, 1) := dk_42 (dk_at dksX3_unlike_0 17 rfl rfl)
theorem dX3_unlike_18 : decode cX3_unlike 18 = .ok (.invokevirtual 209, 3) := dk_182 0 209 (dk_at dksX3_unlike_0 18 rfl rfl)
theorem dX3_unlike_21 : decode cX3_unlike 21 = .ok (.invokevirtual 213, 3) := dk_182 0 213 (dk_at dksX3_unlike_0 21 rfl rfl)
theorem dX3_unlike_24 : decode cX3_unlike 24 = .ok (.ldc 81, 2) := dk_18 81 (dk_at dksX3_unlike_1 0 rfl rfl)
theorem dX3_unlike_26 : decode cX3_unlike 26 = .ok (.if_icmp .ne 85, 3) := dk_160 0 85 (dk_at dksX3_unlike_1 2 rfl rfl)
theorem dX3_unlike_29 : decode cX3_unlike 29 = .ok (.aload_n 0, 1) := dk_42 (dk_at dksX3_unlike_1 5 rfl rfl)
theorem dX3_unlike_30 : decode cX3_unlike 30 = .ok (.iload_n 1, 1) := dk_27 (dk_at dksX3_unlike_1 6 rfl rfl)
theorem dX3_unlike_31 : decode cX3_unlike 31 = .ok (.iconst 1, 1) := dk_4 (dk_at dksX3_unlike_1 7 rfl rfl)
theorem dX3_unlike_32 : decode cX3_unlike 32 = .ok (.iadd, 1) := dk_96 (dk_at dksX3_unlike_1 8 rfl rfl)
theorem dX3_unlike_33 : decode cX3_unlike 33 = .ok (.bipush 12, 2) := dk_16 12 (dk_at dksX3_unlike_1 9 rfl rfl)
theorem dX3_unlike_35 : decode cX3_unlike 35 = .ok (.iload_n 2, 1) := dk_28 (dk_at dksX3_unlike_1 11 rfl rfl)
theorem dX3_unlike_36 : decode cX3_unlike 36 = .ok (.iadd, 1) := dk_96 (dk_at dksX3_unlike_1 12 rfl rfl)
theorem dX3_unlike_37 : decode cX3_unlike 37 = .ok (.invokevirtual 144, 3) := dk_182 0 144 (dk_at dksX3_unlike_1 13 rfl rfl)
theorem dX3_unlike_40 : decode cX3_unlike 40 = .ok (.aload_n 0, 1) := dk_42 (dk_at dksX3_unlike_1 16 rfl rfl)
theorem dX3_unlike_41 : decode cX3_unlike 41 = .ok (.bipush 12, 2) := dk_16 12 (dk_at dksX3_unlike_1 17 rfl rfl)
theorem dX3_unlike_43 : decode cX3_unlike 43 = .ok (.iload_n 2, 1) := dk_28 (dk_at dksX3_unlike_1 19 rfl rfl)
theorem dX3_unlike_44 : decode cX3_unlike 44 = .ok (.iadd, 1) := dk_96 (dk_at dksX3_unlike_1 20 rfl rfl)
theorem dX3_unlike_45 : decode cX3_unlike 45 = .ok (.iload 4, 2) := dk_21 4 (dk_at dksX3_unlike_1 21 rfl rfl)
theorem dX3_unlike_47 : decode cX3_unlike 47 = .ok (.invokevirtual 147, 3) := dk_182 0 147 (dk_at dksX3_unlike_2 0 rfl rfl)
theorem dX3_unlike_50 : decode cX3_unlike 50 = .ok (.ldc 81, 2) := dk_18 81 (dk_at dksX3_unlike_2 3 rfl rfl)
theorem dX3_unlike_52 : decode cX3_unlike 52 = .ok (.if_icmp .ne 8, 3) := dk_160 0 8 (dk_at dksX3_unlike_2 5 rfl rfl)
theorem dX3_unlike_55 : decode cX3_unlike 55 = .ok (.iconst 1, 1) := dk_4 (dk_at dksX3_unlike_2 8 rfl rfl)
theorem dX3_unlike_56 : decode cX3_unlike 56 = .ok (.istore_n 3, 1) := dk_62 (dk_at dksX3_unlike_2 9 rfl rfl)
theorem dX3_unlike_57 : decode cX3_unlike 57 = .ok (.goto 54, 3) := dk_167 0 54 (dk_at dksX3_unlike_2 10 rfl rfl)
theorem dX3_unlike_60 : decode cX3_unlike 60 = .ok (.iconst 0, 1) := dk_3 (dk_at dksX3_unlike_2 13 rfl rfl)
theorem dX3_unlike_61 : decode cX3_unlike 61 = .ok (.istore 5, 2) := dk_54 5 (dk_at dksX3_unlike_2 14 rfl rfl)
theorem dX3_unlike_63 : decode cX3_unlike 63 = .ok (.iconst 0, 1) := dk_3 (dk_at dksX3_unlike_2 16 rfl rfl)
theorem dX3_unlike_64 : decode cX3_unlike 64 = .ok (.istore 6, 2) := dk_54 6 (dk_at dksX3_unlike_2 17 rfl rfl)
theorem dX3_unlike_66 : decode cX3_unlike 66 = .ok (.iload 6, 2) := dk_21 6 (dk_at dksX3_unlike_2 19 rfl rfl)
theorem dX3_unlike_68 : decode cX3_unlike 68 = .ok (.iload_n 2, 1) := dk_28 (dk_at dksX3_unlike_2 21 rfl rfl)
theorem dX3_unlike_69 : decode cX3_unlike 69 = .ok (.if_icmp .ge 29, 3) := dk_162 0 29 (dk_at dksX3_unlike_3 0 rfl rfl)
theorem dX3_unlike_72 : decode cX3_unlike 72 = .ok (.iload 5, 2) := dk_21 5 (dk_at dksX3_unlike_3 3 rfl rfl)
theorem dX3_unlike_74 : decode cX3_unlike 74 = .ok (.ifCond .ne 24, 3) := dk_154 0 24 (dk_at dksX3_unlike_3 5 rfl rfl)
theorem dX3_unlike_77 : decode cX3_unlike 77 = .ok (.aload_n 0, 1) := dk_42 (dk_at dksX3_unlike_3 8 rfl rfl)
theorem dX3_unlike_78 : decode cX3_unlike 78 = .ok (.bipush 12, 2) := dk_16 12 (dk_at dksX3_unlike_3 9 rfl rfl)
theorem dX3_unlike_80 : decode cX3_unlike 80 = .ok (.iload 6, 2) := dk_21 6 (dk_at dksX3_unlike_3 11 rfl rfl)
theorem dX3_unlike_82 : decode cX3_unlike 82 = .ok (.iadd, 1) := dk_96 (dk_at dksX3_unlike_3 13 rfl rfl)
theorem dX3_unlike_83 : decode cX3_unlike 83 = .ok (.bipush 12, 2) := dk_16 12 (dk_at dksX3_unlike_3 14 rfl rfl)
theorem dX3_unlike_85 : decode cX3_unlike 85 = .ok (.iload_n 2, 1) := dk_28 (dk_at dksX3_unlike_3 16 rfl rfl)
theorem dX3_unlike_86 : decode cX3_unlike 86 = .ok (.iadd, 1) := dk_96 (dk_at dksX3_unlike_3 17 rfl rfl)
theorem dX3_unlike_87 : decode cX3_unlike 87 = .ok (.invokevirtual 187, 3) := dk_182 0 187 (dk_at dksX3_unlike_3 18 rfl rfl)
theorem dX3_unlike_90 : decode cX3_unlike 90 = .ok (.istore 5, 2) := dk_54 5 (dk_at dksX3_unlike_3 21 rfl rfl)
theorem dX3_unlike_92 : decode cX3_unlike 92 = .ok (.iinc 6 1, 3) := dk_132 6 1 (dk_at dksX3_unlike_4 0 rfl rfl)
theorem dX3_unlike_95 : decode cX3_unlike 95 = .ok (.goto (-29), 3) := dk_167 255 227 (dk_at dksX3_unlike_4 3 rfl rfl)
theorem dX3_unlike_98 : decode cX3_unlike 98 = .ok (.iload_n 2, 1) := dk_28 (dk_at dksX3_unlike_4 6 rfl rfl)
theorem dX3_unlike_99 : decode cX3_unlike 99 = .ok (.iload 5, 2) := dk_21 5 (dk_at dksX3_unlike_4 7 rfl rfl)
theorem dX3_unlike_101 : decode cX3_unlike 101 = .ok (.ifCond .eq 7, 3) := dk_153 0 7 (dk_at dksX3_unlike_4 9 rfl rfl)
theorem dX3_unlike_104 : decode cX3_unlike 104 = .ok (.iconst 0, 1) := dk_3 (dk_at dksX3_unlike_4 12 rfl rfl)
theorem dX3_unlike_105 : decode cX3_unlike 105 = .ok (.goto 4, 3) := dk_167 0 4 (dk_at dksX3_unlike_4 13 rfl rfl)
theorem dX3_unlike_108 : decode cX3_unlike 108 = .ok (.iconst 1, 1) := dk_4 (dk_at dksX3_unlike_4 16 rfl rfl)
theorem dX3_unlike_109 : decode cX3_unlike 109 = .ok (.iadd, 1) := dk_96 (dk_at dksX3_unlike_4 17 rfl rfl)
theorem dX3_unlike_110 : decode cX3_unlike 110 = .ok (.istore_n 2, 1) := dk_61 (dk_at dksX3_unlike_4 18 rfl rfl)
theorem dX3_unlike_111 : decode cX3_unlike 111 = .ok (.iinc 4 1, 3) := dk_132 4 1 (dk_at dksX3_unlike_4 19 rfl rfl)
theorem dX3_unlike_114 : decode cX3_unlike 114 = .ok (.goto (-107), 3) := dk_167 255 149 (dk_at dksX3_unlike_5 0 rfl rfl)
theorem dX3_unlike_117 : decode cX3_unlike 117 = .ok (.iload_n 2, 1) := dk_28 (dk_at dksX3_unlike_5 3 rfl rfl)
theorem dX3_unlike_118 : decode cX3_unlike 118 = .ok (.iload_n 3, 1) := dk_29 (dk_at dksX3_unlike_5 4 rfl rfl)
theorem dX3_unlike_119 : decode cX3_unlike 119 = .ok (.iadd, 1) := dk_96 (dk_at dksX3_unlike_5 5 rfl rfl)
theorem dX3_unlike_120 : decode cX3_unlike 120 = .ok (.ireturn, 1) := dk_172 (dk_at dksX3_unlike_5 6 rfl rfl)
abbrev cX3_quarrel : ByteArray := prog_18_method_53_code
def yX3_quarrel : MethodName := ⟨RX3, "quarrel", "()I"⟩
def dkwX3_quarrel_4 : List UInt8 := [160, 0, 14, 21, 4, 28, 162, 0, 8, 21, 4, 167, 0, 4, 28, 61, 132, 3, 1, 167, 255, 156, 28, 172]
abbrev dktX3_quarrel_4 : List UInt8 := dkwX3_quarrel_4 ++ []
def dkwX3_quarrel_3 : List UInt8 := [167, 255, 211, 21, 4, 184, 0, 220, 28, 184, 0, 220, 161, 0, 21, 21, 4, 184, 0, 220, 28, 184, 0, 220]
abbrev dktX3_quarrel_3 : List UInt8 := dkwX3_quarrel_3 ++ dktX3_quarrel_4
def dkwX3_quarrel_2 : List UInt8 := [21, 5, 29, 182, 0, 206, 153, 0, 10, 4, 21, 5, 120, 167, 0, 4, 3, 128, 54, 4, 132, 5, 1]
abbrev dktX3_quarrel_2 : List UInt8 := dkwX3_quarrel_2 ++ dktX3_quarrel_3
def dkwX3_quarrel_1 : List UInt8 := [54, 5, 21, 5, 42, 180, 0, 192, 162, 0, 42, 21, 4, 27, 21, 5, 122, 4, 126, 4, 160, 0, 20, 42]
abbrev dktX3_quarrel_1 : List UInt8 := dkwX3_quarrel_1 ++ dktX3_quarrel_2
def dkwX3_quarrel_0 : List UInt8 := [42, 3, 181, 0, 1, 42, 182, 0, 209, 60, 27, 61, 3, 62, 29, 16, 96, 162, 0, 100, 3, 54, 4, 3]
abbrev dktX3_quarrel_0 : List UInt8 := dkwX3_quarrel_0 ++ dktX3_quarrel_1
theorem dksX3_quarrel_0 : cX3_quarrel.data.toList.drop 0 = dktX3_quarrel_0 := by decide +kernel
theorem dksX3_quarrel_1 : cX3_quarrel.data.toList.drop 24 = dktX3_quarrel_1 := dk_seg dksX3_quarrel_0 24 rfl rfl
theorem dksX3_quarrel_2 : cX3_quarrel.data.toList.drop 48 = dktX3_quarrel_2 := dk_seg dksX3_quarrel_1 24 rfl rfl
theorem dksX3_quarrel_3 : cX3_quarrel.data.toList.drop 71 = dktX3_quarrel_3 := dk_seg dksX3_quarrel_2 23 rfl rfl
theorem dksX3_quarrel_4 : cX3_quarrel.data.toList.drop 95 = dktX3_quarrel_4 := dk_seg dksX3_quarrel_3 24 rfl rfl
theorem dX3_quarrel_0 : decode cX3_quarrel 0 = .ok (.aload_n 0, 1) := dk_42 (dk_at dksX3_quarrel_0 0 rfl rfl)
theorem dX3_quarrel_1 : decode cX3_quarrel 1 = .ok (.iconst 0, 1) := dk_3 (dk_at dksX3_quarrel_0 1 rfl rfl)
theorem dX3_quarrel_2 : decode cX3_quarrel 2 = .ok (.putfield 1, 3) := dk_181 0 1 (dk_at dksX3_quarrel_0 2 rfl rfl)
theorem dX3_quarrel_5 : decode cX3_quarrel 5 = .ok (.aload_n 0, 1) := dk_42 (dk_at dksX3_quarrel_0 5 rfl rfl)
theorem dX3_quarrel_6 : decode cX3_quarrel 6 = .ok (.invokevirtual 209, 3) := dk_182 0 209 (dk_at dksX3_quarrel_0 6 rfl rfl)
theorem dX3_quarrel_9 : decode cX3_quarrel 9 = .ok (.istore_n 1, 1) := dk_60 (dk_at dksX3_quarrel_0 9 rfl rfl)
theorem dX3_quarrel_10 : decode cX3_quarrel 10 = .ok (.iload_n 1, 1) := dk_27 (dk_at dksX3_quarrel_0 10 rfl rfl)
theorem dX3_quarrel_11 : decode cX3_quarrel 11 = .ok (.istore_n 2, 1) := dk_61 (dk_at dksX3_quarrel_0 11 rfl rfl)
theorem dX3_quarrel_12 : decode cX3_quarrel 12 = .ok (.iconst 0, 1) := dk_3 (dk_at dksX3_quarrel_0 12 rfl rfl)
theorem dX3_quarrel_13 : decode cX3_quarrel 13 = .ok (.istore_n 3, 1) := dk_62 (dk_at dksX3_quarrel_0 13 rfl rfl)
theorem dX3_quarrel_14 : decode cX3_quarrel 14 = .ok (.iload_n 3, 1) := dk_29 (dk_at dksX3_quarrel_0 14 rfl rfl)
theorem dX3_quarrel_15 : decode cX3_quarrel 15 = .ok (.bipush 96, 2) := dk_16 96 (dk_at dksX3_quarrel_0 15 rfl rfl)
theorem dX3_quarrel_17 : decode cX3_quarrel 17 = .ok (.if_icmp .ge 100, 3) := dk_162 0 100 (dk_at dksX3_quarrel_0 17 rfl rfl)
theorem dX3_quarrel_20 : decode cX3_quarrel 20 = .ok (.iconst 0, 1) := dk_3 (dk_at dksX3_quarrel_0 20 rfl rfl)
theorem dX3_quarrel_21 : decode cX3_quarrel 21 = .ok (.istore 4, 2) := dk_54 4 (dk_at dksX3_quarrel_0 21 rfl rfl)
theorem dX3_quarrel_23 : decode cX3_quarrel 23 = .ok (.iconst 0, 1) := dk_3 (dk_at dksX3_quarrel_0 23 rfl rfl)
theorem dX3_quarrel_24 : decode cX3_quarrel 24 = .ok (.istore 5, 2) := dk_54 5 (dk_at dksX3_quarrel_1 0 rfl rfl)
theorem dX3_quarrel_26 : decode cX3_quarrel 26 = .ok (.iload 5, 2) := dk_21 5 (dk_at dksX3_quarrel_1 2 rfl rfl)
theorem dX3_quarrel_28 : decode cX3_quarrel 28 = .ok (.aload_n 0, 1) := dk_42 (dk_at dksX3_quarrel_1 4 rfl rfl)
theorem dX3_quarrel_29 : decode cX3_quarrel 29 = .ok (.getfield 192, 3) := dk_180 0 192 (dk_at dksX3_quarrel_1 5 rfl rfl)
theorem dX3_quarrel_32 : decode cX3_quarrel 32 = .ok (.if_icmp .ge 42, 3) := dk_162 0 42 (dk_at dksX3_quarrel_1 8 rfl rfl)
theorem dX3_quarrel_35 : decode cX3_quarrel 35 = .ok (.iload 4, 2) := dk_21 4 (dk_at dksX3_quarrel_1 11 rfl rfl)
theorem dX3_quarrel_37 : decode cX3_quarrel 37 = .ok (.iload_n 1, 1) := dk_27 (dk_at dksX3_quarrel_1 13 rfl rfl)
theorem dX3_quarrel_38 : decode cX3_quarrel 38 = .ok (.iload 5, 2) := dk_21 5 (dk_at dksX3_quarrel_1 14 rfl rfl)
theorem dX3_quarrel_40 : decode cX3_quarrel 40 = .ok (.ishr, 1) := dk_122 (dk_at dksX3_quarrel_1 16 rfl rfl)
theorem dX3_quarrel_41 : decode cX3_quarrel 41 = .ok (.iconst 1, 1) := dk_4 (dk_at dksX3_quarrel_1 17 rfl rfl)
theorem dX3_quarrel_42 : decode cX3_quarrel 42 = .ok (.iand, 1) := dk_126 (dk_at dksX3_quarrel_1 18 rfl rfl)
theorem dX3_quarrel_43 : decode cX3_quarrel 43 = .ok (.iconst 1, 1) := dk_4 (dk_at dksX3_quarrel_1 19 rfl rfl)
theorem dX3_quarrel_44 : decode cX3_quarrel 44 = .ok (.if_icmp .ne 20, 3) := dk_160 0 20 (dk_at dksX3_quarrel_1 20 rfl rfl)
theorem dX3_quarrel_47 : decode cX3_quarrel 47 = .ok (.aload_n 0, 1) := dk_42 (dk_at dksX3_quarrel_1 23 rfl rfl)
theorem dX3_quarrel_48 : decode cX3_quarrel 48 = .ok (.iload 5, 2) := dk_21 5 (dk_at dksX3_quarrel_2 0 rfl rfl)
theorem dX3_quarrel_50 : decode cX3_quarrel 50 = .ok (.iload_n 3, 1) := dk_29 (dk_at dksX3_quarrel_2 2 rfl rfl)
theorem dX3_quarrel_51 : decode cX3_quarrel 51 = .ok (.invokevirtual 206, 3) := dk_182 0 206 (dk_at dksX3_quarrel_2 3 rfl rfl)
theorem dX3_quarrel_54 : decode cX3_quarrel 54 = .ok (.ifCond .eq 10, 3) := dk_153 0 10 (dk_at dksX3_quarrel_2 6 rfl rfl)
theorem dX3_quarrel_57 : decode cX3_quarrel 57 = .ok (.iconst 1, 1) := dk_4 (dk_at dksX3_quarrel_2 9 rfl rfl)
theorem dX3_quarrel_58 : decode cX3_quarrel 58 = .ok (.iload 5, 2) := dk_21 5 (dk_at dksX3_quarrel_2 10 rfl rfl)
theorem dX3_quarrel_60 : decode cX3_quarrel 60 = .ok (.ishl, 1) := dk_120 (dk_at dksX3_quarrel_2 12 rfl rfl)
theorem dX3_quarrel_61 : decode cX3_quarrel 61 = .ok (.goto 4, 3) := dk_167 0 4 (dk_at dksX3_quarrel_2 13 rfl rfl)
theorem dX3_quarrel_64 : decode cX3_quarrel 64 = .ok (.iconst 0, 1) := dk_3 (dk_at dksX3_quarrel_2 16 rfl rfl)
theorem dX3_quarrel_65 : decode cX3_quarrel 65 = .ok (.ior, 1) := dk_128 (dk_at dksX3_quarrel_2 17 rfl rfl)
theorem dX3_quarrel_66 : decode cX3_quarrel 66 = .ok (.istore 4, 2) := dk_54 4 (dk_at dksX3_quarrel_2 18 rfl rfl)
theorem dX3_quarrel_68 : decode cX3_quarrel 68 = .ok (.iinc 5 1, 3) := dk_132 5 1 (dk_at dksX3_quarrel_2 20 rfl rfl)
theorem dX3_quarrel_71 : decode cX3_quarrel 71 = .ok (.goto (-45), 3) := dk_167 255 211 (dk_at dksX3_quarrel_3 0 rfl rfl)
theorem dX3_quarrel_74 : decode cX3_quarrel 74 = .ok (.iload 4, 2) := dk_21 4 (dk_at dksX3_quarrel_3 3 rfl rfl)
theorem dX3_quarrel_76 : decode cX3_quarrel 76 = .ok (.invokestatic 220, 3) := dk_184 0 220 (dk_at dksX3_quarrel_3 5 rfl rfl)
theorem dX3_quarrel_79 : decode cX3_quarrel 79 = .ok (.iload_n 2, 1) := dk_28 (dk_at dksX3_quarrel_3 8 rfl rfl)
theorem dX3_quarrel_80 : decode cX3_quarrel 80 = .ok (.invokestatic 220, 3) := dk_184 0 220 (dk_at dksX3_quarrel_3 9 rfl rfl)
theorem dX3_quarrel_83 : decode cX3_quarrel 83 = .ok (.if_icmp .lt 21, 3) := dk_161 0 21 (dk_at dksX3_quarrel_3 12 rfl rfl)
theorem dX3_quarrel_86 : decode cX3_quarrel 86 = .ok (.iload 4, 2) := dk_21 4 (dk_at dksX3_quarrel_3 15 rfl rfl)
theorem dX3_quarrel_88 : decode cX3_quarrel 88 = .ok (.invokestatic 220, 3) := dk_184 0 220 (dk_at dksX3_quarrel_3 17 rfl rfl)
theorem dX3_quarrel_91 : decode cX3_quarrel 91 = .ok (.iload_n 2, 1) := dk_28 (dk_at dksX3_quarrel_3 20 rfl rfl)
theorem dX3_quarrel_92 : decode cX3_quarrel 92 = .ok (.invokestatic 220, 3) := dk_184 0 220 (dk_at dksX3_quarrel_3 21 rfl rfl)
theorem dX3_quarrel_95 : decode cX3_quarrel 95 = .ok (.if_icmp .ne 14, 3) := dk_160 0 14 (dk_at dksX3_quarrel_4 0 rfl rfl)
theorem dX3_quarrel_98 : decode cX3_quarrel 98 = .ok (.iload 4, 2) := dk_21 4 (dk_at dksX3_quarrel_4 3 rfl rfl)
theorem dX3_quarrel_100 : decode cX3_quarrel 100 = .ok (.iload_n 2, 1) := dk_28 (dk_at dksX3_quarrel_4 5 rfl rfl)
theorem dX3_quarrel_101 : decode cX3_quarrel 101 = .ok (.if_icmp .ge 8, 3) := dk_162 0 8 (dk_at dksX3_quarrel_4 6 rfl rfl)
theorem dX3_quarrel_104 : decode cX3_quarrel 104 = .ok (.iload 4, 2) := dk_21 4 (dk_at dksX3_quarrel_4 9 rfl rfl)
theorem dX3_quarrel_106 : decode cX3_quarrel 106 = .ok (.goto 4, 3) := dk_167 0 4 (dk_at dksX3_quarrel_4 11 rfl rfl)
theorem dX3_quarrel_109 : decode cX3_quarrel 109 = .ok (.iload_n 2, 1) := dk_28 (dk_at dksX3_quarrel_4 14 rfl rfl)
theorem dX3_quarrel_110 : decode cX3_quarrel 110 = .ok (.istore_n 2, 1) := dk_61 (dk_at dksX3_quarrel_4 15 rfl rfl)
theorem dX3_quarrel_111 : decode cX3_quarrel 111 = .ok (.iinc 3 1, 3) := dk_132 3 1 (dk_at dksX3_quarrel_4 16 rfl rfl)
theorem dX3_quarrel_114 : decode cX3_quarrel 114 = .ok (.goto (-100), 3) := dk_167 255 156 (dk_at dksX3_quarrel_4 19 rfl rfl)
theorem dX3_quarrel_117 : decode cX3_quarrel 117 = .ok (.iload_n 2, 1) := dk_28 (dk_at dksX3_quarrel_4 22 rfl rfl)
theorem dX3_quarrel_118 : decode cX3_quarrel 118 = .ok (.ireturn, 1) := dk_172 (dk_at dksX3_quarrel_4 23 rfl rfl)
abbrev cX3_bits : ByteArray := prog_18_method_52_code
def yX3_bits : MethodName := ⟨RX3, "bits", "(I)I"⟩
def dkwX3_bits_1 : List UInt8 := [27, 172]
abbrev dktX3_bits_1 : List UInt8 := dkwX3_bits_1 ++ []
def dkwX3_bits_0 : List UInt8 := [3, 60, 3, 61, 28, 16, 8, 162, 0, 17, 27, 26, 28, 122, 4, 126, 96, 60, 132, 2, 1, 167, 255, 239]
abbrev dktX3_bits_0 : List UInt8 := dkwX3_bits_0 ++ dktX3_bits_1
theorem dksX3_bits_0 : cX3_bits.data.toList.drop 0 = dktX3_bits_0 := by decide +kernel
theorem dksX3_bits_1 : cX3_bits.data.toList.drop 24 = dktX3_bits_1 := dk_seg dksX3_bits_0 24 rfl rfl
theorem dX3_bits_0 : decode cX3_bits 0 = .ok (.iconst 0, 1) := dk_3 (dk_at dksX3_bits_0 0 rfl rfl)
theorem dX3_bits_1 : decode cX3_bits 1 = .ok (.istore_n 1, 1) := dk_60 (dk_at dksX3_bits_0 1 rfl rfl)
theorem dX3_bits_2 : decode cX3_bits 2 = .ok (.iconst 0, 1) := dk_3 (dk_at dksX3_bits_0 2 rfl rfl)
theorem dX3_bits_3 : decode cX3_bits 3 = .ok (.istore_n 2, 1) := dk_61 (dk_at dksX3_bits_0 3 rfl rfl)
theorem dX3_bits_4 : decode cX3_bits 4 = .ok (.iload_n 2, 1) := dk_28 (dk_at dksX3_bits_0 4 rfl rfl)
theorem dX3_bits_5 : decode cX3_bits 5 = .ok (.bipush 8, 2) := dk_16 8 (dk_at dksX3_bits_0 5 rfl rfl)
theorem dX3_bits_7 : decode cX3_bits 7 = .ok (.if_icmp .ge 17, 3) := dk_162 0 17 (dk_at dksX3_bits_0 7 rfl rfl)
theorem dX3_bits_10 : decode cX3_bits 10 = .ok (.iload_n 1, 1) := dk_27 (dk_at dksX3_bits_0 10 rfl rfl)
theorem dX3_bits_11 : decode cX3_bits 11 = .ok (.iload_n 0, 1) := dk_26 (dk_at dksX3_bits_0 11 rfl rfl)
theorem dX3_bits_12 : decode cX3_bits 12 = .ok (.iload_n 2, 1) := dk_28 (dk_at dksX3_bits_0 12 rfl rfl)
theorem dX3_bits_13 : decode cX3_bits 13 = .ok (.ishr, 1) := dk_122 (dk_at dksX3_bits_0 13 rfl rfl)
theorem dX3_bits_14 : decode cX3_bits 14 = .ok (.iconst 1, 1) := dk_4 (dk_at dksX3_bits_0 14 rfl rfl)
theorem dX3_bits_15 : decode cX3_bits 15 = .ok (.iand, 1) := dk_126 (dk_at dksX3_bits_0 15 rfl rfl)
theorem dX3_bits_16 : decode cX3_bits 16 = .ok (.iadd, 1) := dk_96 (dk_at dksX3_bits_0 16 rfl rfl)
theorem dX3_bits_17 : decode cX3_bits 17 = .ok (.istore_n 1, 1) := dk_60 (dk_at dksX3_bits_0 17 rfl rfl)
theorem dX3_bits_18 : decode cX3_bits 18 = .ok (.iinc 2 1, 3) := dk_132 2 1 (dk_at dksX3_bits_0 18 rfl rfl)
theorem dX3_bits_21 : decode cX3_bits 21 = .ok (.goto (-17), 3) := dk_167 255 239 (dk_at dksX3_bits_0 21 rfl rfl)
theorem dX3_bits_24 : decode cX3_bits 24 = .ok (.iload_n 1, 1) := dk_27 (dk_at dksX3_bits_1 0 rfl rfl)
theorem dX3_bits_25 : decode cX3_bits 25 = .ok (.ireturn, 1) := dk_172 (dk_at dksX3_bits_1 1 rfl rfl)
abbrev cX3_plan : ByteArray := prog_18_method_57_code
def yX3_plan : MethodName := ⟨RX3, "plan", "(II)I"⟩
def dkwX3_plan_7 : List UInt8 := [167, 255, 140, 18, 81, 172]
abbrev dktX3_plan_7 : List UInt8 := dkwX3_plan_7 ++ []
def dkwX3_plan_6 : List UInt8 := [21, 4, 104, 21, 5, 96, 172, 132, 5, 1, 167, 255, 172, 132, 4, 1, 167, 255, 154, 132, 3, 1]
abbrev dktX3_plan_6 : List UInt8 := dkwX3_plan_6 ++ dktX3_plan_7
def dkwX3_plan_5 : List UInt8 := [167, 0, 13, 42, 16, 9, 27, 182, 0, 229, 153, 0, 20, 28, 154, 0, 7, 29, 167, 0, 11, 16, 16]
abbrev dktX3_plan_5 : List UInt8 := dkwX3_plan_5 ++ dktX3_plan_6
def dkwX3_plan_4 : List UInt8 := [16, 9, 21, 4, 21, 5, 182, 0, 123, 29, 4, 160, 0, 16, 42, 16, 9, 27, 182, 0, 226, 153, 0, 33]
abbrev dktX3_plan_4 : List UInt8 := dkwX3_plan_4 ++ dktX3_plan_5
def dkwX3_plan_3 : List UInt8 := [162, 0, 83, 42, 3, 21, 4, 21, 5, 182, 0, 223, 153, 0, 65, 42, 3, 16, 9, 182, 0, 144, 42]
abbrev dktX3_plan_3 : List UInt8 := dkwX3_plan_3 ++ dktX3_plan_4
def dkwX3_plan_2 : List UInt8 := [6, 162, 0, 117, 3, 54, 4, 21, 4, 42, 180, 0, 85, 162, 0, 99, 3, 54, 5, 21, 5, 16, 14]
abbrev dktX3_plan_2 : List UInt8 := dkwX3_plan_2 ++ dktX3_plan_3
def dkwX3_plan_1 : List UInt8 := [172, 42, 3, 27, 182, 0, 226, 153, 0, 14, 28, 154, 0, 7, 3, 167, 0, 5, 18, 81, 172, 4, 62, 29]
abbrev dktX3_plan_1 : List UInt8 := dkwX3_plan_1 ++ dktX3_plan_2
def dkwX3_plan_0 : List UInt8 := [42, 3, 181, 0, 1, 27, 184, 0, 139, 153, 0, 13, 28, 133, 9, 10, 184, 0, 135, 154, 0, 6, 18, 143]
abbrev dktX3_plan_0 : List UInt8 := dkwX3_plan_0 ++ dktX3_plan_1
theorem dksX3_plan_0 : cX3_plan.data.toList.drop 0 = dktX3_plan_0 := by decide +kernel
theorem dksX3_plan_1 : cX3_plan.data.toList.drop 24 = dktX3_plan_1 := dk_seg dksX3_plan_0 24 rfl rfl
theorem dksX3_plan_2 : cX3_plan.data.toList.drop 48 = dktX3_plan_2 := dk_seg dksX3_plan_1 24 rfl rfl
theorem dksX3_plan_3 : cX3_plan.data.toList.drop 71 = dktX3_plan_3 := dk_seg dksX3_plan_2 23 rfl rfl
theorem dksX3_plan_4 : cX3_plan.data.toList.drop 94 = dktX3_plan_4 := dk_seg dksX3_plan_3 23 rfl rfl
theorem dksX3_plan_5 : cX3_plan.data.toList.drop 118 = dktX3_plan_5 := dk_seg dksX3_plan_4 24 rfl rfl
theorem dksX3_plan_6 : cX3_plan.data.toList.drop 141 = dktX3_plan_6 := dk_seg dksX3_plan_5 23 rfl rfl
theorem dksX3_plan_7 : cX3_plan.data.toList.drop 163 = dktX3_plan_7 := dk_seg dksX3_plan_6 22 rfl rfl
theorem dX3_plan_0 : decode cX3_plan 0 = .ok (.aload_n 0, 1) := dk_42 (dk_at dksX3_plan_0 0 rfl rfl)
theorem dX3_plan_1 : decode cX3_plan 1 = .ok (.iconst 0, 1) := dk_3 (dk_at dksX3_plan_0 1 rfl rfl)
theorem dX3_plan_2 : decode cX3_plan 2 = .ok (.putfield 1, 3) := dk_181 0 1 (dk_at dksX3_plan_0 2 rfl rfl)
theorem dX3_plan_5 : decode cX3_plan 5 = .ok (.iload_n 1, 1) := dk_27 (dk_at dksX3_plan_0 5 rfl rfl)
theorem dX3_plan_6 : decode cX3_plan 6 = .ok (.invokestatic 139, 3) := dk_184 0 139 (dk_at dksX3_plan_0 6 rfl rfl)
theorem dX3_plan_9 : decode cX3_plan 9 = .ok (.ifCond .eq 13, 3) := dk_153 0 13 (dk_at dksX3_plan_0 9 rfl rfl)
theorem dX3_plan_12 : decode cX3_plan 12 = .ok (.iload_n 2, 1) := dk_28 (dk_at dksX3_plan_0 12 rfl rfl)
theorem dX3_plan_13 : decode cX3_plan 13 = .ok (.i2l, 1) := dk_133 (dk_at dksX3_plan_0 13 rfl rfl)
theorem dX3_plan_14 : decode cX3_plan 14 = .ok (.lconst 0, 1) := dk_9 (dk_at dksX3_plan_0 14 rfl rfl)
theorem dX3_plan_15 : decode cX3_plan 15 = .ok (.lconst 1, 1) := dk_10 (dk_at dksX3_plan_0 15 rfl rfl)
theorem dX3_plan_16 : decode cX3_plan 16 = .ok (.invokestatic 135, 3) := dk_184 0 135 (dk_at dksX3_plan_0 16 rfl rfl)
theorem dX3_plan_19 : decode cX3_plan 19 = .ok (.ifCond .ne 6, 3) := dk_154 0 6 (dk_at dksX3_plan_0 19 rfl rfl)
theorem dX3_plan_22 : decode cX3_plan 22 = .ok (.ldc 143, 2) := dk_18 143 (dk_at dksX3_plan_0 22 rfl rfl)
theorem dX3_plan_24 : decode cX3_plan 24 = .ok (.ireturn, 1) := dk_172 (dk_at dksX3_plan_1 0 rfl rfl)
theorem dX3_plan_25 : decode cX3_plan 25 = .ok (.aload_n 0, 1) := dk_42 (dk_at dksX3_plan_1 1 rfl rfl)
theorem dX3_plan_26 : decode cX3_plan 26 = .ok (.iconst 0, 1) := dk_3 (dk_at dksX3_plan_1 2 rfl rfl)
theorem dX3_plan_27 : decode cX3_plan 27 = .ok (.iload_n 1, 1) := dk_27 (dk_at dksX3_plan_1 3 rfl rfl)
theorem dX3_plan_28 : decode cX3_plan 28 = .ok (.invokevirtual 226, 3) := dk_182 0 226 (dk_at dksX3_plan_1 4 rfl rfl)
theorem dX3_plan_31 : decode cX3_plan 31 = .ok (.ifCond .eq 14, 3) := dk_153 0 14 (dk_at dksX3_plan_1 7 rfl rfl)
theorem dX3_plan_34 : decode cX3_plan 34 = .ok (.iload_n 2, 1) := dk_28 (dk_at dksX3_plan_1 10 rfl rfl)
theorem dX3_plan_35 : decode cX3_plan 35 = .ok (.ifCond .ne 7, 3) := dk_154 0 7 (dk_at dksX3_plan_1 11 rfl rfl)
theorem dX3_plan_38 : decode cX3_plan 38 = .ok (.iconst 0, 1) := dk_3 (dk_at dksX3_plan_1 14 rfl rfl)
theorem dX3_plan_39 : decode cX3_plan 39 = .ok (.goto 5, 3) := dk_167 0 5 (dk_at dksX3_plan_1 15 rfl rfl)
theorem dX3_plan_42 : decode cX3_plan 42 = .ok (.ldc 81, 2) := dk_18 81 (dk_at dksX3_plan_1 18 rfl rfl)
theorem dX3_plan_44 : decode cX3_plan 44 = .ok (.ireturn, 1) := dk_172 (dk_at dksX3_plan_1 20 rfl rfl)
theorem dX3_plan_45 : decode cX3_plan 45 = .ok (.iconst 1, 1) := dk_4 (dk_at dksX3_plan_1 21 rfl rfl)
theorem dX3_plan_46 : decode cX3_plan 46 = .ok (.istore_n 3, 1) := dk_62 (dk_at dksX3_plan_1 22 rfl rfl)
theorem dX3_plan_47 : decode cX3_plan 47 = .ok (.iload_n 3, 1) := dk_29 (dk_at dksX3_plan_1 23 rfl rfl)
theorem dX3_plan_48 : decode cX3_plan 48 = .ok (.iconst 3, 1) := dk_6 (dk_at dksX3_plan_2 0 rfl rfl)
theorem dX3_plan_49 : decode cX3_plan 49 = .ok (.if_icmp .ge 117, 3) := dk_162 0 117 (dk_at dksX3_plan_2 1 rfl rfl)
theorem dX3_plan_52 : decode cX3_plan 52 = .ok (.iconst 0, 1) := dk_3 (dk_at dksX3_plan_2 4 rfl rfl)
theorem dX3_plan_53 : decode cX3_plan 53 = .ok (.istore 4, 2) := dk_54 4 (dk_at dksX3_plan_2 5 rfl rfl)
theorem dX3_plan_55 : decode cX3_plan 55 = .ok (.iload 4, 2) := dk_21 4 (dk_at dksX3_plan_2 7 rfl rfl)
theorem dX3_plan_57 : decode cX3_plan 57 = .ok (.aload_n 0, 1) := dk_42 (dk_at dksX3_plan_2 9 rfl rfl)
theorem dX3_plan_58 : decode cX3_plan 58 = .ok (.getfield 85, 3) := dk_180 0 85 (dk_at dksX3_plan_2 10 rfl rfl)
theorem dX3_plan_61 : decode cX3_plan 61 = .ok (.if_icmp .ge 99, 3) := dk_162 0 99 (dk_at dksX3_plan_2 13 rfl rfl)
theorem dX3_plan_64 : decode cX3_plan 64 = .ok (.iconst 0, 1) := dk_3 (dk_at dksX3_plan_2 16 rfl rfl)
theorem dX3_plan_65 : decode cX3_plan 65 = .ok (.istore 5, 2) := dk_54 5 (dk_at dksX3_plan_2 17 rfl rfl)
theorem dX3_plan_67 : decode cX3_plan 67 = .ok (.iload 5, 2) := dk_21 5 (dk_at dksX3_plan_2 19 rfl rfl)
theorem dX3_plan_69 : decode cX3_plan 69 = .ok (.bipush 14, 2) := dk_16 14 (dk_at dksX3_plan_2 21 rfl rfl)
theorem dX3_plan_71 : decode cX3_plan 71 = .ok (.if_icmp .ge 83, 3) := dk_162 0 83 (dk_at dksX3_plan_3 0 rfl rfl)
theorem dX3_plan_74 : decode cX3_plan 74 = .ok (.aload_n 0, 1) := dk_42 (dk_at dksX3_plan_3 3 rfl rfl)
theorem dX3_plan_75 : decode cX3_plan 75 = .ok (.iconst 0, 1) := dk_3 (dk_at dksX3_plan_3 4 rfl rfl)
theorem dX3_plan_76 : decode cX3_plan 76 = .ok (.iload 4, 2) := dk_21 4 (dk_at dksX3_plan_3 5 rfl rfl)
theorem dX3_plan_78 : decode cX3_plan 78 = .ok (.iload 5, 2) := dk_21 5 (dk_at dksX3_plan_3 7 rfl rfl)
theorem dX3_plan_80 : decode cX3_plan 80 = .ok (.invokevirtual 223, 3) := dk_182 0 223 (dk_at dksX3_plan_3 9 rfl rfl)
theorem dX3_plan_83 : decode cX3_plan 83 = .ok (.ifCond .eq 65, 3) := dk_153 0 65 (dk_at dksX3_plan_3 12 rfl rfl)
theorem dX3_plan_86 : decode cX3_plan 86 = .ok (.aload_n 0, 1) := dk_42 (dk_at dksX3_plan_3 15 rfl rfl)
theorem dX3_plan_87 : decode cX3_plan 87 = .ok (.iconst 0, 1) := dk_3 (dk_at dksX3_plan_3 16 rfl rfl)
theorem dX3_plan_88 : decode cX3_plan 88 = .ok (.bipush 9, 2) := dk_16 9 (dk_at dksX3_plan_3 17 rfl rfl)
theorem dX3_plan_90 : decode cX3_plan 90 = .ok (.invokevirtual 144, 3) := dk_182 0 144 (dk_at dksX3_plan_3 19 rfl rfl)
theorem dX3_plan_93 : decode cX3_plan 93 = .ok (.aload_n 0, 1) := dk_42 (dk_at dksX3_plan_3 22 rfl rfl)
theorem dX3_plan_94 : decode cX3_plan 94 = .ok (.bipush 9, 2) := dk_16 9 (dk_at dksX3_plan_4 0 rfl rfl)
theorem dX3_plan_96 : decode cX3_plan 96 = .ok (.iload 4, 2) := dk_21 4 (dk_at dksX3_plan_4 2 rfl rfl)
theorem dX3_plan_98 : decode cX3_plan 98 = .ok (.iload 5, 2) := dk_21 5 (dk_at dksX3_plan_4 4 rfl rfl)
theorem dX3_plan_100 : decode cX3_plan 100 = .ok (.invokevirtual 123, 3) := dk_182 0 123 (dk_at dksX3_plan_4 6 rfl rfl)
theorem dX3_plan_103 : decode cX3_plan 103 = .ok (.iload_n 3, 1) := dk_29 (dk_at dksX3_plan_4 9 rfl rfl)
theorem dX3_plan_104 : decode cX3_plan 104 = .ok (.iconst 1, 1) := dk_4 (dk_at dksX3_plan_4 10 rfl rfl)
theorem dX3_plan_105 : decode cX3_plan 105 = .ok (.if_icmp .ne 16, 3) := dk_160 0 16 (dk_at dksX3_plan_4 11 rfl rfl)
theorem dX3_plan_108 : decode cX3_plan 108 = .ok (.aload_n 0, 1) := dk_42 (dk_at dksX3_plan_4 14 rfl rfl)
theorem dX3_plan_109 : decode cX3_plan 109 = .ok (.bipush 9, 2) := dk_16 9 (dk_at dksX3_plan_4 15 rfl rfl)
theorem dX3_plan_111 : decode cX3_plan 111 = .ok (.iload_n 1, 1) := dk_27 (dk_at dksX3_plan_4 17 rfl rfl)
theorem dX3_plan_112 : decode cX3_plan 112 = .ok (.invokevirtual 226, 3) := dk_182 0 226 (dk_at dksX3_plan_4 18 rfl rfl)
theorem dX3_plan_115 : decode cX3_plan 115 = .ok (.ifCond .eq 33, 3) := dk_153 0 33 (dk_at dksX3_plan_4 21 rfl rfl)
theorem dX3_plan_118 : decode cX3_plan 118 = .ok (.goto 13, 3) := dk_167 0 13 (dk_at dksX3_plan_5 0 rfl rfl)
theorem dX3_plan_121 : decode cX3_plan 121 = .ok (.aload_n 0, 1) := dk_42 (dk_at dksX3_plan_5 3 rfl rfl)
theorem dX3_plan_122 : decode cX3_plan 122 = .ok (.bipush 9, 2) := dk_16 9 (dk_at dksX3_plan_5 4 rfl rfl)
theorem dX3_plan_124 : decode cX3_plan 124 = .ok (.iload_n 1, 1) := dk_27 (dk_at dksX3_plan_5 6 rfl rfl)
theorem dX3_plan_125 : decode cX3_plan 125 = .ok (.invokevirtual 229, 3) := dk_182 0 229 (dk_at dksX3_plan_5 7 rfl rfl)
theorem dX3_plan_128 : decode cX3_plan 128 = .ok (.ifCond .eq 20, 3) := dk_153 0 20 (dk_at dksX3_plan_5 10 rfl rfl)
theorem dX3_plan_131 : decode cX3_plan 131 = .ok (.iload_n 2, 1) := dk_28 (dk_at dksX3_plan_5 13 rfl rfl)
theorem dX3_plan_132 : decode cX3_plan 132 = .ok (.ifCond .ne 7, 3) := dk_154 0 7 (dk_at dksX3_plan_5 14 rfl rfl)
theorem dX3_plan_135 : decode cX3_plan 135 = .ok (.iload_n 3, 1) := dk_29 (dk_at dksX3_plan_5 17 rfl rfl)
theorem dX3_plan_136 : decode cX3_plan 136 = .ok (.goto 11, 3) := dk_167 0 11 (dk_at dksX3_plan_5 18 rfl rfl)
theorem dX3_plan_139 : decode cX3_plan 139 = .ok (.bipush 16, 2) := dk_16 16 (dk_at dksX3_plan_5 21 rfl rfl)
theorem dX3_plan_141 : decode cX3_plan 141 = .ok (.iload 4, 2) := dk_21 4 (dk_at dksX3_plan_6 0 rfl rfl)
theorem dX3_plan_143 : decode cX3_plan 143 = .ok (.imul, 1) := dk_104 (dk_at dksX3_plan_6 2 rfl rfl)
theorem dX3_plan_144 : decode cX3_plan 144 = .ok (.iload 5, 2) := dk_21 5 (dk_at dksX3_plan_6 3 rfl rfl)
theorem dX3_plan_146 : decode cX3_plan 146 = .ok (.iadd, 1) := dk_96 (dk_at dksX3_plan_6 5 rfl rfl)
theorem dX3_plan_147 : decode cX3_plan 147 = .ok (.ireturn, 1) := dk_172 (dk_at dksX3_plan_6 6 rfl rfl)
theorem dX3_plan_148 : decode cX3_plan 148 = .ok (.iinc 5 1, 3) := dk_132 5 1 (dk_at dksX3_plan_6 7 rfl rfl)
theorem dX3_plan_151 : decode cX3_plan 151 = .ok (.goto (-84), 3) := dk_167 255 172 (dk_at dksX3_plan_6 10 rfl rfl)
theorem dX3_plan_154 : decode cX3_plan 154 = .ok (.iinc 4 1, 3) := dk_132 4 1 (dk_at dksX3_plan_6 13 rfl rfl)
theorem dX3_plan_157 : decode cX3_plan 157 = .ok (.goto (-102), 3) := dk_167 255 154 (dk_at dksX3_plan_6 16 rfl rfl)
theorem dX3_plan_160 : decode cX3_plan 160 = .ok (.iinc 3 1, 3) := dk_132 3 1 (dk_at dksX3_plan_6 19 rfl rfl)
theorem dX3_plan_163 : decode cX3_plan 163 = .ok (.goto (-116), 3) := dk_167 255 140 (dk_at dksX3_plan_7 0 rfl rfl)
theorem dX3_plan_166 : decode cX3_plan 166 = .ok (.ldc 81, 2) := dk_18 81 (dk_at dksX3_plan_7 3 rfl rfl)
theorem dX3_plan_168 : decode cX3_plan 168 = .ok (.ireturn, 1) := dk_172 (dk_at dksX3_plan_7 5 rfl rfl)
abbrev cX3_isEnd : ByteArray := prog_18_method_54_code
def yX3_isEnd : MethodName := ⟨RX3, "isEnd", "(II)Z"⟩
def dkwX3_isEnd_4 : List UInt8 := [158, 0, 14, 21, 4, 21, 5, 160, 0, 7, 4, 167, 0, 4, 3, 172]
abbrev dktX3_isEnd_4 : List UInt8 := dkwX3_isEnd_4 ++ []
def dkwX3_isEnd_3 : List UInt8 := [167, 255, 200, 28, 5, 112, 154, 0, 16, 21, 4, 158, 0, 7, 4, 167, 0, 24, 3, 167, 0, 20, 21, 5]
abbrev dktX3_isEnd_3 : List UInt8 := dkwX3_isEnd_3 ++ dktX3_isEnd_4
def dkwX3_isEnd_2 : List UInt8 := [6, 112, 28, 16, 24, 108, 182, 0, 126, 153, 0, 7, 4, 167, 0, 4, 3, 96, 54, 4, 132, 6, 1]
abbrev dktX3_isEnd_2 : List UInt8 := dkwX3_isEnd_2 ++ dktX3_isEnd_3
def dkwX3_isEnd_1 : List UInt8 := [42, 180, 0, 21, 21, 6, 46, 29, 160, 0, 36, 132, 5, 1, 21, 4, 42, 27, 21, 6, 28, 16, 8, 108]
abbrev dktX3_isEnd_1 : List UInt8 := dkwX3_isEnd_1 ++ dktX3_isEnd_2
def dkwX3_isEnd_0 : List UInt8 := [28, 5, 108, 7, 112, 62, 3, 54, 4, 3, 54, 5, 3, 54, 6, 21, 6, 42, 180, 0, 85, 162, 0, 53]
abbrev dktX3_isEnd_0 : List UInt8 := dkwX3_isEnd_0 ++ dktX3_isEnd_1
theorem dksX3_isEnd_0 : cX3_isEnd.data.toList.drop 0 = dktX3_isEnd_0 := by decide +kernel
theorem dksX3_isEnd_1 : cX3_isEnd.data.toList.drop 24 = dktX3_isEnd_1 := dk_seg dksX3_isEnd_0 24 rfl rfl
theorem dksX3_isEnd_2 : cX3_isEnd.data.toList.drop 48 = dktX3_isEnd_2 := dk_seg dksX3_isEnd_1 24 rfl rfl
theorem dksX3_isEnd_3 : cX3_isEnd.data.toList.drop 71 = dktX3_isEnd_3 := dk_seg dksX3_isEnd_2 23 rfl rfl
theorem dksX3_isEnd_4 : cX3_isEnd.data.toList.drop 95 = dktX3_isEnd_4 := dk_seg dksX3_isEnd_3 24 rfl rfl
theorem dX3_isEnd_0 : decode cX3_isEnd 0 = .ok (.iload_n 2, 1) := dk_28 (dk_at dksX3_isEnd_0 0 rfl rfl)
theorem dX3_isEnd_1 : decode cX3_isEnd 1 = .ok (.iconst 2, 1) := dk_5 (dk_at dksX3_isEnd_0 1 rfl rfl)
theorem dX3_isEnd_2 : decode cX3_isEnd 2 = .ok (.idiv, 1) := dk_108 (dk_at dksX3_isEnd_0 2 rfl rfl)
theorem dX3_isEnd_3 : decode cX3_isEnd 3 = .ok (.iconst 4, 1) := dk_7 (dk_at dksX3_isEnd_0 3 rfl rfl)
theorem dX3_isEnd_4 : decode cX3_isEnd 4 = .ok (.irem, 1) := dk_112 (dk_at dksX3_isEnd_0 4 rfl rfl)
theorem dX3_isEnd_5 : decode cX3_isEnd 5 = .ok (.istore_n 3, 1) := dk_62 (dk_at dksX3_isEnd_0 5 rfl rfl)
theorem dX3_isEnd_6 : decode cX3_isEnd 6 = .ok (.iconst 0, 1) := dk_3 (dk_at dksX3_isEnd_0 6 rfl rfl)
theorem dX3_isEnd_7 : decode cX3_isEnd 7 = .ok (.istore 4, 2) := dk_54 4 (dk_at dksX3_isEnd_0 7 rfl rfl)
theorem dX3_isEnd_9 : decode cX3_isEnd 9 = .ok (.iconst 0, 1) := dk_3 (dk_at dksX3_isEnd_0 9 rfl rfl)
theorem dX3_isEnd_10 : decode cX3_isEnd 10 = .ok (.istore 5, 2) := dk_54 5 (dk_at dksX3_isEnd_0 10 rfl rfl)
theorem dX3_isEnd_12 : decode cX3_isEnd 12 = .ok (.iconst 0, 1) := dk_3 (dk_at dksX3_isEnd_0 12 rfl rfl)
theorem dX3_isEnd_13 : decode cX3_isEnd 13 = .ok (.istore 6, 2) := dk_54 6 (dk_at dksX3_isEnd_0 13 rfl rfl)
theorem dX3_isEnd_15 : decode cX3_isEnd 15 = .ok (.iload 6, 2) := dk_21 6 (dk_at dksX3_isEnd_0 15 rfl rfl)
theorem dX3_isEnd_17 : decode cX3_isEnd 17 = .ok (.aload_n 0, 1) := dk_42 (dk_at dksX3_isEnd_0 17 rfl rfl)
theorem dX3_isEnd_18 : decode cX3_isEnd 18 = .ok (.getfield 85, 3) := dk_180 0 85 (dk_at dksX3_isEnd_0 18 rfl rfl)
theorem dX3_isEnd_21 : decode cX3_isEnd 21 = .ok (.if_icmp .ge 53, 3) := dk_162 0 53 (dk_at dksX3_isEnd_0 21 rfl rfl)
theorem dX3_isEnd_24 : decode cX3_isEnd 24 = .ok (.aload_n 0, 1) := dk_42 (dk_at dksX3_isEnd_1 0 rfl rfl)
theorem dX3_isEnd_25 : decode cX3_isEnd 25 = .ok (.getfield 21, 3) := dk_180 0 21 (dk_at dksX3_isEnd_1 1 rfl rfl)
theorem dX3_isEnd_28 : decode cX3_isEnd 28 = .ok (.iload 6, 2) := dk_21 6 (dk_at dksX3_isEnd_1 4 rfl rfl)
theorem dX3_isEnd_30 : decode cX3_isEnd 30 = .ok (.iaload, 1) := dk_46 (dk_at dksX3_isEnd_1 6 rfl rfl)
theorem dX3_isEnd_31 : decode cX3_isEnd 31 = .ok (.iload_n 3, 1) := dk_29 (dk_at dksX3_isEnd_1 7 rfl rfl)
theorem dX3_isEnd_32 : decode cX3_isEnd 32 = .ok (.if_icmp .ne 36, 3) := dk_160 0 36 (dk_at dksX3_isEnd_1 8 rfl rfl)
theorem dX3_isEnd_35 : decode cX3_isEnd 35 = .ok (.iinc 5 1, 3) := dk_132 5 1 (dk_at dksX3_isEnd_1 11 rfl rfl)
theorem dX3_isEnd_38 : decode cX3_isEnd 38 = .ok (.iload 4, 2) := dk_21 4 (dk_at dksX3_isEnd_1 14 rfl rfl)
theorem dX3_isEnd_40 : decode cX3_isEnd 40 = .ok (.aload_n 0, 1) := dk_42 (dk_at dksX3_isEnd_1 16 rfl rfl)
theorem dX3_isEnd_41 : decode cX3_isEnd 41 = .ok (.iload_n 1, 1) := dk_27 (dk_at dksX3_isEnd_1 17 rfl rfl)
theorem dX3_isEnd_42 : decode cX3_isEnd 42 = .ok (.iload 6, 2) := dk_21 6 (dk_at dksX3_isEnd_1 18 rfl rfl)
theorem dX3_isEnd_44 : decode cX3_isEnd 44 = .ok (.iload_n 2, 1) := dk_28 (dk_at dksX3_isEnd_1 20 rfl rfl)
theorem dX3_isEnd_45 : decode cX3_isEnd 45 = .ok (.bipush 8, 2) := dk_16 8 (dk_at dksX3_isEnd_1 21 rfl rfl)
theorem dX3_isEnd_47 : decode cX3_isEnd 47 = .ok (.idiv, 1) := dk_108 (dk_at dksX3_isEnd_1 23 rfl rfl)
theorem dX3_isEnd_48 : decode cX3_isEnd 48 = .ok (.iconst 3, 1) := dk_6 (dk_at dksX3_isEnd_2 0 rfl rfl)
theorem dX3_isEnd_49 : decode cX3_isEnd 49 = .ok (.irem, 1) := dk_112 (dk_at dksX3_isEnd_2 1 rfl rfl)
theorem dX3_isEnd_50 : decode cX3_isEnd 50 = .ok (.iload_n 2, 1) := dk_28 (dk_at dksX3_isEnd_2 2 rfl rfl)
theorem dX3_isEnd_51 : decode cX3_isEnd 51 = .ok (.bipush 24, 2) := dk_16 24 (dk_at dksX3_isEnd_2 3 rfl rfl)
theorem dX3_isEnd_53 : decode cX3_isEnd 53 = .ok (.idiv, 1) := dk_108 (dk_at dksX3_isEnd_2 5 rfl rfl)
theorem dX3_isEnd_54 : decode cX3_isEnd 54 = .ok (.invokevirtual 126, 3) := dk_182 0 126 (dk_at dksX3_isEnd_2 6 rfl rfl)
theorem dX3_isEnd_57 : decode cX3_isEnd 57 = .ok (.ifCond .eq 7, 3) := dk_153 0 7 (dk_at dksX3_isEnd_2 9 rfl rfl)
theorem dX3_isEnd_60 : decode cX3_isEnd 60 = .ok (.iconst 1, 1) := dk_4 (dk_at dksX3_isEnd_2 12 rfl rfl)
theorem dX3_isEnd_61 : decode cX3_isEnd 61 = .ok (.goto 4, 3) := dk_167 0 4 (dk_at dksX3_isEnd_2 13 rfl rfl)
theorem dX3_isEnd_64 : decode cX3_isEnd 64 = .ok (.iconst 0, 1) := dk_3 (dk_at dksX3_isEnd_2 16 rfl rfl)
theorem dX3_isEnd_65 : decode cX3_isEnd 65 = .ok (.iadd, 1) := dk_96 (dk_at dksX3_isEnd_2 17 rfl rfl)
theorem dX3_isEnd_66 : decode cX3_isEnd 66 = .ok (.istore 4, 2) := dk_54 4 (dk_at dksX3_isEnd_2 18 rfl rfl)
theorem dX3_isEnd_68 : decode cX3_isEnd 68 = .ok (.iinc 6 1, 3) := dk_132 6 1 (dk_at dksX3_isEnd_2 20 rfl rfl)
theorem dX3_isEnd_71 : decode cX3_isEnd 71 = .ok (.goto (-56), 3) := dk_167 255 200 (dk_at dksX3_isEnd_3 0 rfl rfl)
theorem dX3_isEnd_74 : decode cX3_isEnd 74 = .ok (.iload_n 2, 1) := dk_28 (dk_at dksX3_isEnd_3 3 rfl rfl)
theorem dX3_isEnd_75 : decode cX3_isEnd 75 = .ok (.iconst 2, 1) := dk_5 (dk_at dksX3_isEnd_3 4 rfl rfl)
theorem dX3_isEnd_76 : decode cX3_isEnd 76 = .ok (.irem, 1) := dk_112 (dk_at dksX3_isEnd_3 5 rfl rfl)
theorem dX3_isEnd_77 : decode cX3_isEnd 77 = .ok (.ifCond .ne 16, 3) := dk_154 0 16 (dk_at dksX3_isEnd_3 6 rfl rfl)
theorem dX3_isEnd_80 : decode cX3_isEnd 80 = .ok (.iload 4, 2) := dk_21 4 (dk_at dksX3_isEnd_3 9 rfl rfl)
theorem dX3_isEnd_82 : decode cX3_isEnd 82 = .ok (.ifCond .le 7, 3) := dk_158 0 7 (dk_at dksX3_isEnd_3 11 rfl rfl)
theorem dX3_isEnd_85 : decode cX3_isEnd 85 = .ok (.iconst 1, 1) := dk_4 (dk_at dksX3_isEnd_3 14 rfl rfl)
theorem dX3_isEnd_86 : decode cX3_isEnd 86 = .ok (.goto 24, 3) := dk_167 0 24 (dk_at dksX3_isEnd_3 15 rfl rfl)
theorem dX3_isEnd_89 : decode cX3_isEnd 89 = .ok (.iconst 0, 1) := dk_3 (dk_at dksX3_isEnd_3 18 rfl rfl)
theorem dX3_isEnd_90 : decode cX3_isEnd 90 = .ok (.goto 20, 3) := dk_167 0 20 (dk_at dksX3_isEnd_3 19 rfl rfl)
theorem dX3_isEnd_93 : decode cX3_isEnd 93 = .ok (.iload 5, 2) := dk_21 5 (dk_at dksX3_isEnd_3 22 rfl rfl)
theorem dX3_isEnd_95 : decode cX3_isEnd 95 = .ok (.ifCond .le 14, 3) := dk_158 0 14 (dk_at dksX3_isEnd_4 0 rfl rfl)
theorem dX3_isEnd_98 : decode cX3_isEnd 98 = .ok (.iload 4, 2) := dk_21 4 (dk_at dksX3_isEnd_4 3 rfl rfl)
theorem dX3_isEnd_100 : decode cX3_isEnd 100 = .ok (.iload 5, 2) := dk_21 5 (dk_at dksX3_isEnd_4 5 rfl rfl)
theorem dX3_isEnd_102 : decode cX3_isEnd 102 = .ok (.if_icmp .ne 7, 3) := dk_160 0 7 (dk_at dksX3_isEnd_4 7 rfl rfl)
theorem dX3_isEnd_105 : decode cX3_isEnd 105 = .ok (.iconst 1, 1) := dk_4 (dk_at dksX3_isEnd_4 10 rfl rfl)
theorem dX3_isEnd_106 : decode cX3_isEnd 106 = .ok (.goto 4, 3) := dk_167 0 4 (dk_at dksX3_isEnd_4 11 rfl rfl)
theorem dX3_isEnd_109 : decode cX3_isEnd 109 = .ok (.iconst 0, 1) := dk_3 (dk_at dksX3_isEnd_4 14 rfl rfl)
theorem dX3_isEnd_110 : decode cX3_isEnd 110 = .ok (.ireturn, 1) := dk_172 (dk_at dksX3_isEnd_4 15 rfl rfl)
abbrev cX3_canBySome : ByteArray := prog_18_method_55_code
def yX3_canBySome : MethodName := ⟨RX3, "canBySome", "(III)Z"⟩
def dkwX3_canBySome_1 : List UInt8 := [182, 0, 181, 154, 0, 14, 42, 27, 4, 28, 29, 182, 0, 181, 153, 0, 7, 4, 167, 0, 4, 3, 172]
abbrev dktX3_canBySome_1 : List UInt8 := dkwX3_canBySome_1 ++ []
def dkwX3_canBySome_0 : List UInt8 := [42, 29, 182, 0, 178, 153, 0, 39, 42, 27, 28, 29, 182, 0, 120, 153, 0, 29, 42, 27, 3, 28, 29]
abbrev dktX3_canBySome_0 : List UInt8 := dkwX3_canBySome_0 ++ dktX3_canBySome_1
theorem dksX3_canBySome_0 : cX3_canBySome.data.toList.drop 0 = dktX3_canBySome_0 := by decide +kernel
theorem dksX3_canBySome_1 : cX3_canBySome.data.toList.drop 23 = dktX3_canBySome_1 := dk_seg dksX3_canBySome_0 23 rfl rfl
theorem dX3_canBySome_0 : decode cX3_canBySome 0 = .ok (.aload_n 0, 1) := dk_42 (dk_at dksX3_canBySome_0 0 rfl rfl)
theorem dX3_canBySome_1 : decode cX3_canBySome 1 = .ok (.iload_n 3, 1) := dk_29 (dk_at dksX3_canBySome_0 1 rfl rfl)
theorem dX3_canBySome_2 : decode cX3_canBySome 2 = .ok (.invokevirtual 178, 3) := dk_182 0 178 (dk_at dksX3_canBySome_0 2 rfl rfl)
theorem dX3_canBySome_5 : decode cX3_canBySome 5 = .ok (.ifCond .eq 39, 3) := dk_153 0 39 (dk_at dksX3_canBySome_0 5 rfl rfl)
theorem dX3_canBySome_8 : decode cX3_canBySome 8 = .ok (.aload_n 0, 1) := dk_42 (dk_at dksX3_canBySome_0 8 rfl rfl)
theorem dX3_canBySome_9 : decode cX3_canBySome 9 = .ok (.iload_n 1, 1) := dk_27 (dk_at dksX3_canBySome_0 9 rfl rfl)
theorem dX3_canBySome_10 : decode cX3_canBySome 10 = .ok (.iload_n 2, 1) := dk_28 (dk_at dksX3_canBySome_0 10 rfl rfl)
theorem dX3_canBySome_11 : decode cX3_canBySome 11 = .ok (.iload_n 3, 1) := dk_29 (dk_at dksX3_canBySome_0 11 rfl rfl)
theorem dX3_canBySome_12 : decode cX3_canBySome 12 = .ok (.invokevirtual 120, 3) := dk_182 0 120 (dk_at dksX3_canBySome_0 12 rfl rfl)
theorem dX3_canBySome_15 : decode cX3_canBySome 15 = .ok (.ifCond .eq 29, 3) := dk_153 0 29 (dk_at dksX3_canBySome_0 15 rfl rfl)
theorem dX3_canBySome_18 : decode cX3_canBySome 18 = .ok (.aload_n 0, 1) := dk_42 (dk_at dksX3_canBySome_0 18 rfl rfl)
theorem dX3_canBySome_19 : decode cX3_canBySome 19 = .ok (.iload_n 1, 1) := dk_27 (dk_at dksX3_canBySome_0 19 rfl rfl)
theorem dX3_canBySome_20 : decode cX3_canBySome 20 = .ok (.iconst 0, 1) := dk_3 (dk_at dksX3_canBySome_0 20 rfl rfl)
theorem dX3_canBySome_21 : decode cX3_canBySome 21 = .ok (.iload_n 2, 1) := dk_28 (dk_at dksX3_canBySome_0 21 rfl rfl)
theorem dX3_canBySome_22 : decode cX3_canBySome 22 = .ok (.iload_n 3, 1) := dk_29 (dk_at dksX3_canBySome_0 22 rfl rfl)
theorem dX3_canBySome_23 : decode cX3_canBySome 23 = .ok (.invokevirtual 181, 3) := dk_182 0 181 (dk_at dksX3_canBySome_1 0 rfl rfl)
theorem dX3_canBySome_26 : decode cX3_canBySome 26 = .ok (.ifCond .ne 14, 3) := dk_154 0 14 (dk_at dksX3_canBySome_1 3 rfl rfl)
theorem dX3_canBySome_29 : decode cX3_canBySome 29 = .ok (.aload_n 0, 1) := dk_42 (dk_at dksX3_canBySome_1 6 rfl rfl)
theorem dX3_canBySome_30 : decode cX3_canBySome 30 = .ok (.iload_n 1, 1) := dk_27 (dk_at dksX3_canBySome_1 7 rfl rfl)
theorem dX3_canBySome_31 : decode cX3_canBySome 31 = .ok (.iconst 1, 1) := dk_4 (dk_at dksX3_canBySome_1 8 rfl rfl)
theorem dX3_canBySome_32 : decode cX3_canBySome 32 = .ok (.iload_n 2, 1) := dk_28 (dk_at dksX3_canBySome_1 9 rfl rfl)
theorem dX3_canBySome_33 : decode cX3_canBySome 33 = .ok (.iload_n 3, 1) := dk_29 (dk_at dksX3_canBySome_1 10 rfl rfl)
theorem dX3_canBySome_34 : decode cX3_canBySome 34 = .ok (.invokevirtual 181, 3) := dk_182 0 181 (dk_at dksX3_canBySome_1 11 rfl rfl)
theorem dX3_canBySome_37 : decode cX3_canBySome 37 = .ok (.ifCond .eq 7, 3) := dk_153 0 7 (dk_at dksX3_canBySome_1 14 rfl rfl)
theorem dX3_canBySome_40 : decode cX3_canBySome 40 = .ok (.iconst 1, 1) := dk_4 (dk_at dksX3_canBySome_1 17 rfl rfl)
theorem dX3_canBySome_41 : decode cX3_canBySome 41 = .ok (.goto 4, 3) := dk_167 0 4 (dk_at dksX3_canBySome_1 18 rfl rfl)
theorem dX3_canBySome_44 : decode cX3_canBySome 44 = .ok (.iconst 0, 1) := dk_3 (dk_at dksX3_canBySome_1 21 rfl rfl)
theorem dX3_canBySome_45 : decode cX3_canBySome 45 = .ok (.ireturn, 1) := dk_172 (dk_at dksX3_canBySome_1 22 rfl rfl)
abbrev cX3_endsByOne : ByteArray := prog_18_method_56_code
def yX3_endsByOne : MethodName := ⟨RX3, "endsByOne", "(II)Z"⟩
def dkwX3_endsByOne_3 : List UInt8 := [3, 172]
abbrev dktX3_endsByOne_3 : List UInt8 := dkwX3_endsByOne_3 ++ []
def dkwX3_endsByOne_2 : List UInt8 := [42, 16, 10, 28, 182, 0, 226, 153, 0, 5, 4, 172, 132, 4, 1, 167, 255, 207, 132, 3, 1, 167, 255, 190]
abbrev dktX3_endsByOne_2 : List UInt8 := dkwX3_endsByOne_2 ++ dktX3_endsByOne_3
def dkwX3_endsByOne_1 : List UInt8 := [21, 4, 182, 0, 223, 153, 0, 31, 42, 27, 16, 10, 182, 0, 144, 42, 16, 10, 29, 21, 4, 182, 0, 123]
abbrev dktX3_endsByOne_1 : List UInt8 := dkwX3_endsByOne_1 ++ dktX3_endsByOne_2
def dkwX3_endsByOne_0 : List UInt8 := [3, 62, 29, 42, 180, 0, 85, 162, 0, 64, 3, 54, 4, 21, 4, 16, 14, 162, 0, 48, 42, 27, 29]
abbrev dktX3_endsByOne_0 : List UInt8 := dkwX3_endsByOne_0 ++ dktX3_endsByOne_1
theorem dksX3_endsByOne_0 : cX3_endsByOne.data.toList.drop 0 = dktX3_endsByOne_0 := by decide +kernel
theorem dksX3_endsByOne_1 : cX3_endsByOne.data.toList.drop 23 = dktX3_endsByOne_1 := dk_seg dksX3_endsByOne_0 23 rfl rfl
theorem dksX3_endsByOne_2 : cX3_endsByOne.data.toList.drop 47 = dktX3_endsByOne_2 := dk_seg dksX3_endsByOne_1 24 rfl rfl
theorem dksX3_endsByOne_3 : cX3_endsByOne.data.toList.drop 71 = dktX3_endsByOne_3 := dk_seg dksX3_endsByOne_2 24 rfl rfl
theorem dX3_endsByOne_0 : decode cX3_endsByOne 0 = .ok (.iconst 0, 1) := dk_3 (dk_at dksX3_endsByOne_0 0 rfl rfl)
theorem dX3_endsByOne_1 : decode cX3_endsByOne 1 = .ok (.istore_n 3, 1) := dk_62 (dk_at dksX3_endsByOne_0 1 rfl rfl)
theorem dX3_endsByOne_2 : decode cX3_endsByOne 2 = .ok (.iload_n 3, 1) := dk_29 (dk_at dksX3_endsByOne_0 2 rfl rfl)
theorem dX3_endsByOne_3 : decode cX3_endsByOne 3 = .ok (.aload_n 0, 1) := dk_42 (dk_at dksX3_endsByOne_0 3 rfl rfl)
theorem dX3_endsByOne_4 : decode cX3_endsByOne 4 = .ok (.getfield 85, 3) := dk_180 0 85 (dk_at dksX3_endsByOne_0 4 rfl rfl)
theorem dX3_endsByOne_7 : decode cX3_endsByOne 7 = .ok (.if_icmp .ge 64, 3) := dk_162 0 64 (dk_at dksX3_endsByOne_0 7 rfl rfl)
theorem dX3_endsByOne_10 : decode cX3_endsByOne 10 = .ok (.iconst 0, 1) := dk_3 (dk_at dksX3_endsByOne_0 10 rfl rfl)
theorem dX3_endsByOne_11 : decode cX3_endsByOne 11 = .ok (.istore 4, 2) := dk_54 4 (dk_at dksX3_endsByOne_0 11 rfl rfl)
theorem dX3_endsByOne_13 : decode cX3_endsByOne 13 = .ok (.iload 4, 2) := dk_21 4 (dk_at dksX3_endsByOne_0 13 rfl rfl)
theorem dX3_endsByOne_15 : decode cX3_endsByOne 15 = .ok (.bipush 14, 2) := dk_16 14 (dk_at dksX3_endsByOne_0 15 rfl rfl)
theorem dX3_endsByOne_17 : decode cX3_endsByOne 17 = .ok (.if_icmp .ge 48, 3) := dk_162 0 48 (dk_at dksX3_endsByOne_0 17 rfl rfl)
theorem dX3_endsByOne_20 : decode cX3_endsByOne 20 = .ok (.aload_n 0, 1) := dk_42 (dk_at dksX3_endsByOne_0 20 rfl rfl)
theorem dX3_endsByOne_21 : decode cX3_endsByOne 21 = .ok (.iload_n 1, 1) := dk_27 (dk_at dksX3_endsByOne_0 21 rfl rfl)
theorem dX3_endsByOne_22 : decode cX3_endsByOne 22 = .ok (.iload_n 3, 1) := dk_29 (dk_at dksX3_endsByOne_0 22 rfl rfl)
theorem dX3_endsByOne_23 : decode cX3_endsByOne 23 = .ok (.iload 4, 2) := dk_21 4 (dk_at dksX3_endsByOne_1 0 rfl rfl)
theorem dX3_endsByOne_25 : decode cX3_endsByOne 25 = .ok (.invokevirtual 223, 3) := dk_182 0 223 (dk_at dksX3_endsByOne_1 2 rfl rfl)
theorem dX3_endsByOne_28 : decode cX3_endsByOne 28 = .ok (.ifCond .eq 31, 3) := dk_153 0 31 (dk_at dksX3_endsByOne_1 5 rfl rfl)
theorem dX3_endsByOne_31 : decode cX3_endsByOne 31 = .ok (.aload_n 0, 1) := dk_42 (dk_at dksX3_endsByOne_1 8 rfl rfl)
theorem dX3_endsByOne_32 : decode cX3_endsByOne 32 = .ok (.iload_n 1, 1) := dk_27 (dk_at dksX3_endsByOne_1 9 rfl rfl)
theorem dX3_endsByOne_33 : decode cX3_endsByOne 33 = .ok (.bipush 10, 2) := dk_16 10 (dk_at dksX3_endsByOne_1 10 rfl rfl)
theorem dX3_endsByOne_35 : decode cX3_endsByOne 35 = .ok (.invokevirtual 144, 3) := dk_182 0 144 (dk_at dksX3_endsByOne_1 12 rfl rfl)
theorem dX3_endsByOne_38 : decode cX3_endsByOne 38 = .ok (.aload_n 0, 1) := dk_42 (dk_at dksX3_endsByOne_1 15 rfl rfl)
theorem dX3_endsByOne_39 : decode cX3_endsByOne 39 = .ok (.bipush 10, 2) := dk_16 10 (dk_at dksX3_endsByOne_1 16 rfl rfl)
theorem dX3_endsByOne_41 : decode cX3_endsByOne 41 = .ok (.iload_n 3, 1) := dk_29 (dk_at dksX3_endsByOne_1 18 rfl rfl)
theorem dX3_endsByOne_42 : decode cX3_endsByOne 42 = .ok (.iload 4, 2) := dk_21 4 (dk_at dksX3_endsByOne_1 19 rfl rfl)
theorem dX3_endsByOne_44 : decode cX3_endsByOne 44 = .ok (.invokevirtual 123, 3) := dk_182 0 123 (dk_at dksX3_endsByOne_1 21 rfl rfl)
theorem dX3_endsByOne_47 : decode cX3_endsByOne 47 = .ok (.aload_n 0, 1) := dk_42 (dk_at dksX3_endsByOne_2 0 rfl rfl)
theorem dX3_endsByOne_48 : decode cX3_endsByOne 48 = .ok (.bipush 10, 2) := dk_16 10 (dk_at dksX3_endsByOne_2 1 rfl rfl)
theorem dX3_endsByOne_50 : decode cX3_endsByOne 50 = .ok (.iload_n 2, 1) := dk_28 (dk_at dksX3_endsByOne_2 3 rfl rfl)
theorem dX3_endsByOne_51 : decode cX3_endsByOne 51 = .ok (.invokevirtual 226, 3) := dk_182 0 226 (dk_at dksX3_endsByOne_2 4 rfl rfl)
theorem dX3_endsByOne_54 : decode cX3_endsByOne 54 = .ok (.ifCond .eq 5, 3) := dk_153 0 5 (dk_at dksX3_endsByOne_2 7 rfl rfl)
theorem dX3_endsByOne_57 : decode cX3_endsByOne 57 = .ok (.iconst 1, 1) := dk_4 (dk_at dksX3_endsByOne_2 10 rfl rfl)
theorem dX3_endsByOne_58 : decode cX3_endsByOne 58 = .ok (.ireturn, 1) := dk_172 (dk_at dksX3_endsByOne_2 11 rfl rfl)
theorem dX3_endsByOne_59 : decode cX3_endsByOne 59 = .ok (.iinc 4 1, 3) := dk_132 4 1 (dk_at dksX3_endsByOne_2 12 rfl rfl)
theorem dX3_endsByOne_62 : decode cX3_endsByOne 62 = .ok (.goto (-49), 3) := dk_167 255 207 (dk_at dksX3_endsByOne_2 15 rfl rfl)
theorem dX3_endsByOne_65 : decode cX3_endsByOne 65 = .ok (.iinc 3 1, 3) := dk_132 3 1 (dk_at dksX3_endsByOne_2 18 rfl rfl)
theorem dX3_endsByOne_68 : decode cX3_endsByOne 68 = .ok (.goto (-66), 3) := dk_167 255 190 (dk_at dksX3_endsByOne_2 21 rfl rfl)
theorem dX3_endsByOne_71 : decode cX3_endsByOne 71 = .ok (.iconst 0, 1) := dk_3 (dk_at dksX3_endsByOne_3 0 rfl rfl)
theorem dX3_endsByOne_72 : decode cX3_endsByOne 72 = .ok (.ireturn, 1) := dk_172 (dk_at dksX3_endsByOne_3 1 rfl rfl)
abbrev cX3_sheet : ByteArray := prog_18_method_59_code
def yX3_sheet : MethodName := ⟨RX3, "sheet", "(III)I"⟩
def dkwX3_sheet_3 : List UInt8 := [42, 180, 0, 52, 16, 40, 27, 104, 21, 4, 96, 3, 79, 132, 4, 1, 167, 255, 233, 29, 172]
abbrev dktX3_sheet_3 : List UInt8 := dkwX3_sheet_3 ++ []
def dkwX3_sheet_2 : List UInt8 := [42, 180, 0, 46, 27, 28, 79, 42, 180, 0, 49, 27, 29, 79, 3, 54, 4, 21, 4, 16, 40, 162, 0, 22]
abbrev dktX3_sheet_2 : List UInt8 := dkwX3_sheet_2 ++ dktX3_sheet_3
def dkwX3_sheet_1 : List UInt8 := [29, 16, 40, 164, 0, 6, 18, 143, 172, 42, 3, 181, 0, 7, 29, 156, 0, 9, 42, 7, 182, 0, 234, 172]
abbrev dktX3_sheet_1 : List UInt8 := dkwX3_sheet_1 ++ dktX3_sheet_2
def dkwX3_sheet_0 : List UInt8 := [42, 3, 181, 0, 1, 27, 184, 0, 198, 153, 0, 21, 28, 133, 9, 20, 0, 232, 184, 0, 135, 153, 0, 9]
abbrev dktX3_sheet_0 : List UInt8 := dkwX3_sheet_0 ++ dktX3_sheet_1
theorem dksX3_sheet_0 : cX3_sheet.data.toList.drop 0 = dktX3_sheet_0 := by decide +kernel
theorem dksX3_sheet_1 : cX3_sheet.data.toList.drop 24 = dktX3_sheet_1 := dk_seg dksX3_sheet_0 24 rfl rfl
theorem dksX3_sheet_2 : cX3_sheet.data.toList.drop 48 = dktX3_sheet_2 := dk_seg dksX3_sheet_1 24 rfl rfl
theorem dksX3_sheet_3 : cX3_sheet.data.toList.drop 72 = dktX3_sheet_3 := dk_seg dksX3_sheet_2 24 rfl rfl
theorem dX3_sheet_0 : decode cX3_sheet 0 = .ok (.aload_n 0, 1) := dk_42 (dk_at dksX3_sheet_0 0 rfl rfl)
theorem dX3_sheet_1 : decode cX3_sheet 1 = .ok (.iconst 0, 1) := dk_3 (dk_at dksX3_sheet_0 1 rfl rfl)
theorem dX3_sheet_2 : decode cX3_sheet 2 = .ok (.putfield 1, 3) := dk_181 0 1 (dk_at dksX3_sheet_0 2 rfl rfl)
theorem dX3_sheet_5 : decode cX3_sheet 5 = .ok (.iload_n 1, 1) := dk_27 (dk_at dksX3_sheet_0 5 rfl rfl)
theorem dX3_sheet_6 : decode cX3_sheet 6 = .ok (.invokestatic 198, 3) := dk_184 0 198 (dk_at dksX3_sheet_0 6 rfl rfl)
theorem dX3_sheet_9 : decode cX3_sheet 9 = .ok (.ifCond .eq 21, 3) := dk_153 0 21 (dk_at dksX3_sheet_0 9 rfl rfl)
theorem dX3_sheet_12 : decode cX3_sheet 12 = .ok (.iload_n 2, 1) := dk_28 (dk_at dksX3_sheet_0 12 rfl rfl)
theorem dX3_sheet_13 : decode cX3_sheet 13 = .ok (.i2l, 1) := dk_133 (dk_at dksX3_sheet_0 13 rfl rfl)
theorem dX3_sheet_14 : decode cX3_sheet 14 = .ok (.lconst 0, 1) := dk_9 (dk_at dksX3_sheet_0 14 rfl rfl)
theorem dX3_sheet_15 : decode cX3_sheet 15 = .ok (.ldc2_w 232, 3) := dk_20 0 232 (dk_at dksX3_sheet_0 15 rfl rfl)
theorem dX3_sheet_18 : decode cX3_sheet 18 = .ok (.invokestatic 135, 3) := dk_184 0 135 (dk_at dksX3_sheet_0 18 rfl rfl)
theorem dX3_sheet_21 : decode cX3_sheet 21 = .ok (.ifCond .eq 9, 3) := dk_153 0 9 (dk_at dksX3_sheet_0 21 rfl rfl)
theorem dX3_sheet_24 : decode cX3_sheet 24 = .ok (.iload_n 3, 1) := dk_29 (dk_at dksX3_sheet_1 0 rfl rfl)
theorem dX3_sheet_25 : decode cX3_sheet 25 = .ok (.bipush 40, 2) := dk_16 40 (dk_at dksX3_sheet_1 1 rfl rfl)
theorem dX3_sheet_27 : decode cX3_sheet 27 = .ok (.if_icmp .le 6, 3) := dk_164 0 6 (dk_at dksX3_sheet_1 3 rfl rfl)
theorem dX3_sheet_30 : decode cX3_sheet 30 = .ok (.ldc 143, 2) := dk_18 143 (dk_at dksX3_sheet_1 6 rfl rfl)
theorem dX3_sheet_32 : decode cX3_sheet 32 = .ok (.ireturn, 1) := dk_172 (dk_at dksX3_sheet_1 8 rfl rfl)
theorem dX3_sheet_33 : decode cX3_sheet 33 = .ok (.aload_n 0, 1) := dk_42 (dk_at dksX3_sheet_1 9 rfl rfl)
theorem dX3_sheet_34 : decode cX3_sheet 34 = .ok (.iconst 0, 1) := dk_3 (dk_at dksX3_sheet_1 10 rfl rfl)
theorem dX3_sheet_35 : decode cX3_sheet 35 = .ok (.putfield 7, 3) := dk_181 0 7 (dk_at dksX3_sheet_1 11 rfl rfl)
theorem dX3_sheet_38 : decode cX3_sheet 38 = .ok (.iload_n 3, 1) := dk_29 (dk_at dksX3_sheet_1 14 rfl rfl)
theorem dX3_sheet_39 : decode cX3_sheet 39 = .ok (.ifCond .ge 9, 3) := dk_156 0 9 (dk_at dksX3_sheet_1 15 rfl rfl)
theorem dX3_sheet_42 : decode cX3_sheet 42 = .ok (.aload_n 0, 1) := dk_42 (dk_at dksX3_sheet_1 18 rfl rfl)
theorem dX3_sheet_43 : decode cX3_sheet 43 = .ok (.iconst 4, 1) := dk_7 (dk_at dksX3_sheet_1 19 rfl rfl)
theorem dX3_sheet_44 : decode cX3_sheet 44 = .ok (.invokevirtual 234, 3) := dk_182 0 234 (dk_at dksX3_sheet_1 20 rfl rfl)
theorem dX3_sheet_47 : decode cX3_sheet 47 = .ok (.ireturn, 1) := dk_172 (dk_at dksX3_sheet_1 23 rfl rfl)
theorem dX3_sheet_48 : decode cX3_sheet 48 = .ok (.aload_n 0, 1) := dk_42 (dk_at dksX3_sheet_2 0 rfl rfl)
theorem dX3_sheet_49 : decode cX3_sheet 49 = .ok (.getfield 46, 3) := dk_180 0 46 (dk_at dksX3_sheet_2 1 rfl rfl)
theorem dX3_sheet_52 : decode cX3_sheet 52 = .ok (.iload_n 1, 1) := dk_27 (dk_at dksX3_sheet_2 4 rfl rfl)
theorem dX3_sheet_53 : decode cX3_sheet 53 = .ok (.iload_n 2, 1) := dk_28 (dk_at dksX3_sheet_2 5 rfl rfl)
theorem dX3_sheet_54 : decode cX3_sheet 54 = .ok (.iastore, 1) := dk_79 (dk_at dksX3_sheet_2 6 rfl rfl)
theorem dX3_sheet_55 : decode cX3_sheet 55 = .ok (.aload_n 0, 1) := dk_42 (dk_at dksX3_sheet_2 7 rfl rfl)
theorem dX3_sheet_56 : decode cX3_sheet 56 = .ok (.getfield 49, 3) := dk_180 0 49 (dk_at dksX3_sheet_2 8 rfl rfl)
theorem dX3_sheet_59 : decode cX3_sheet 59 = .ok (.iload_n 1, 1) := dk_27 (dk_at dksX3_sheet_2 11 rfl rfl)
theorem dX3_sheet_60 : decode cX3_sheet 60 = .ok (.iload_n 3, 1) := dk_29 (dk_at dksX3_sheet_2 12 rfl rfl)
theorem dX3_sheet_61 : decode cX3_sheet 61 = .ok (.iastore, 1) := dk_79 (dk_at dksX3_sheet_2 13 rfl rfl)
theorem dX3_sheet_62 : decode cX3_sheet 62 = .ok (.iconst 0, 1) := dk_3 (dk_at dksX3_sheet_2 14 rfl rfl)
theorem dX3_sheet_63 : decode cX3_sheet 63 = .ok (.istore 4, 2) := dk_54 4 (dk_at dksX3_sheet_2 15 rfl rfl)
theorem dX3_sheet_65 : decode cX3_sheet 65 = .ok (.iload 4, 2) := dk_21 4 (dk_at dksX3_sheet_2 17 rfl rfl)
theorem dX3_sheet_67 : decode cX3_sheet 67 = .ok (.bipush 40, 2) := dk_16 40 (dk_at dksX3_sheet_2 19 rfl rfl)
theorem dX3_sheet_69 : decode cX3_sheet 69 = .ok (.if_icmp .ge 22, 3) := dk_162 0 22 (dk_at dksX3_sheet_2 21 rfl rfl)
theorem dX3_sheet_72 : decode cX3_sheet 72 = .ok (.aload_n 0, 1) := dk_42 (dk_at dksX3_sheet_3 0 rfl rfl)
theorem dX3_sheet_73 : decode cX3_sheet 73 = .ok (.getfield 52, 3) := dk_180 0 52 (dk_at dksX3_sheet_3 1 rfl rfl)
theorem dX3_sheet_76 : decode cX3_sheet 76 = .ok (.bipush 40, 2) := dk_16 40 (dk_at dksX3_sheet_3 4 rfl rfl)
theorem dX3_sheet_78 : decode cX3_sheet 78 = .ok (.iload_n 1, 1) := dk_27 (dk_at dksX3_sheet_3 6 rfl rfl)
theorem dX3_sheet_79 : decode cX3_sheet 79 = .ok (.imul, 1) := dk_104 (dk_at dksX3_sheet_3 7 rfl rfl)
theorem dX3_sheet_80 : decode cX3_sheet 80 = .ok (.iload 4, 2) := dk_21 4 (dk_at dksX3_sheet_3 8 rfl rfl)
theorem dX3_sheet_82 : decode cX3_sheet 82 = .ok (.iadd, 1) := dk_96 (dk_at dksX3_sheet_3 10 rfl rfl)
theorem dX3_sheet_83 : decode cX3_sheet 83 = .ok (.iconst 0, 1) := dk_3 (dk_at dksX3_sheet_3 11 rfl rfl)
theorem dX3_sheet_84 : decode cX3_sheet 84 = .ok (.iastore, 1) := dk_79 (dk_at dksX3_sheet_3 12 rfl rfl)
theorem dX3_sheet_85 : decode cX3_sheet 85 = .ok (.iinc 4 1, 3) := dk_132 4 1 (dk_at dksX3_sheet_3 13 rfl rfl)
theorem dX3_sheet_88 : decode cX3_sheet 88 = .ok (.goto (-23), 3) := dk_167 255 233 (dk_at dksX3_sheet_3 16 rfl rfl)
theorem dX3_sheet_91 : decode cX3_sheet 91 = .ok (.iload_n 3, 1) := dk_29 (dk_at dksX3_sheet_3 19 rfl rfl)
theorem dX3_sheet_92 : decode cX3_sheet 92 = .ok (.ireturn, 1) := dk_172 (dk_at dksX3_sheet_3 20 rfl rfl)
abbrev cX3_set : ByteArray := prog_18_method_60_code
def yX3_set : MethodName := ⟨RX3, "set", "(III)I"⟩
def dkwX3_set_4 : List UInt8 := [147, 167, 0, 4, 29, 79, 42, 180, 0, 52, 16, 40, 27, 104, 28, 96, 46, 172]
abbrev dktX3_set_4 : List UInt8 := dkwX3_set_4 ++ []
def dkwX3_set_3 : List UInt8 := [180, 0, 46, 27, 46, 154, 0, 8, 29, 145, 167, 0, 19, 42, 180, 0, 46, 27, 46, 4, 160, 0, 8, 29]
abbrev dktX3_set_3 : List UInt8 := dkwX3_set_3 ++ dktX3_set_4
def dkwX3_set_2 : List UInt8 := [184, 0, 135, 154, 0, 9, 42, 5, 182, 0, 234, 172, 42, 180, 0, 52, 16, 40, 27, 104, 28, 96, 42]
abbrev dktX3_set_2 : List UInt8 := dkwX3_set_2 ++ dktX3_set_3
def dkwX3_set_1 : List UInt8 := [27, 46, 156, 0, 9, 42, 4, 182, 0, 234, 172, 28, 133, 9, 42, 180, 0, 49, 27, 46, 4, 100, 133]
abbrev dktX3_set_1 : List UInt8 := dkwX3_set_1 ++ dktX3_set_2
def dkwX3_set_0 : List UInt8 := [42, 3, 181, 0, 1, 27, 184, 0, 198, 154, 0, 6, 18, 143, 172, 42, 3, 181, 0, 7, 42, 180, 0, 46]
abbrev dktX3_set_0 : List UInt8 := dkwX3_set_0 ++ dktX3_set_1
theorem dksX3_set_0 : cX3_set.data.toList.drop 0 = dktX3_set_0 := by decide +kernel
theorem dksX3_set_1 : cX3_set.data.toList.drop 24 = dktX3_set_1 := dk_seg dksX3_set_0 24 rfl rfl
theorem dksX3_set_2 : cX3_set.data.toList.drop 47 = dktX3_set_2 := dk_seg dksX3_set_1 23 rfl rfl
theorem dksX3_set_3 : cX3_set.data.toList.drop 70 = dktX3_set_3 := dk_seg dksX3_set_2 23 rfl rfl
theorem dksX3_set_4 : cX3_set.data.toList.drop 94 = dktX3_set_4 := dk_seg dksX3_set_3 24 rfl rfl
theorem dX3_set_0 : decode cX3_set 0 = .ok (.aload_n 0, 1) := dk_42 (dk_at dksX3_set_0 0 rfl rfl)
theorem dX3_set_1 : decode cX3_set 1 = .ok (.iconst 0, 1) := dk_3 (dk_at dksX3_set_0 1 rfl rfl)
theorem dX3_set_2 : decode cX3_set 2 = .ok (.putfield 1, 3) := dk_181 0 1 (dk_at dksX3_set_0 2 rfl rfl)
theorem dX3_set_5 : decode cX3_set 5 = .ok (.iload_n 1, 1) := dk_27 (dk_at dksX3_set_0 5 rfl rfl)
theorem dX3_set_6 : decode cX3_set 6 = .ok (.invokestatic 198, 3) := dk_184 0 198 (dk_at dksX3_set_0 6 rfl rfl)
theorem dX3_set_9 : decode cX3_set 9 = .ok (.ifCond .ne 6, 3) := dk_154 0 6 (dk_at dksX3_set_0 9 rfl rfl)
theorem dX3_set_12 : decode cX3_set 12 = .ok (.ldc 143, 2) := dk_18 143 (dk_at dksX3_set_0 12 rfl rfl)
theorem dX3_set_14 : decode cX3_set 14 = .ok (.ireturn, 1) := dk_172 (dk_at dksX3_set_0 14 rfl rfl)
theorem dX3_set_15 : decode cX3_set 15 = .ok (.aload_n 0, 1) := dk_42 (dk_at dksX3_set_0 15 rfl rfl)
theorem dX3_set_16 : decode cX3_set 16 = .ok (.iconst 0, 1) := dk_3 (dk_at dksX3_set_0 16 rfl rfl)
theorem dX3_set_17 : decode cX3_set 17 = .ok (.putfield 7, 3) := dk_181 0 7 (dk_at dksX3_set_0 17 rfl rfl)
theorem dX3_set_20 : decode cX3_set 20 = .ok (.aload_n 0, 1) := dk_42 (dk_at dksX3_set_0 20 rfl rfl)
theorem dX3_set_21 : decode cX3_set 21 = .ok (.getfield 46, 3) := dk_180 0 46 (dk_at dksX3_set_0 21 rfl rfl)
theorem dX3_set_24 : decode cX3_set 24 = .ok (.iload_n 1, 1) := dk_27 (dk_at dksX3_set_1 0 rfl rfl)
theorem dX3_set_25 : decode cX3_set 25 = .ok (.iaload, 1) := dk_46 (dk_at dksX3_set_1 1 rfl rfl)
theorem dX3_set_26 : decode cX3_set 26 = .ok (.ifCond .ge 9, 3) := dk_156 0 9 (dk_at dksX3_set_1 2 rfl rfl)
theorem dX3_set_29 : decode cX3_set 29 = .ok (.aload_n 0, 1) := dk_42 (dk_at dksX3_set_1 5 rfl rfl)
theorem dX3_set_30 : decode cX3_set 30 = .ok (.iconst 1, 1) := dk_4 (dk_at dksX3_set_1 6 rfl rfl)
theorem dX3_set_31 : decode cX3_set 31 = .ok (.invokevirtual 234, 3) := dk_182 0 234 (dk_at dksX3_set_1 7 rfl rfl)
theorem dX3_set_34 : decode cX3_set 34 = .ok (.ireturn, 1) := dk_172 (dk_at dksX3_set_1 10 rfl rfl)
theorem dX3_set_35 : decode cX3_set 35 = .ok (.iload_n 2, 1) := dk_28 (dk_at dksX3_set_1 11 rfl rfl)
theorem dX3_set_36 : decode cX3_set 36 = .ok (.i2l, 1) := dk_133 (dk_at dksX3_set_1 12 rfl rfl)
theorem dX3_set_37 : decode cX3_set 37 = .ok (.lconst 0, 1) := dk_9 (dk_at dksX3_set_1 13 rfl rfl)
theorem dX3_set_38 : decode cX3_set 38 = .ok (.aload_n 0, 1) := dk_42 (dk_at dksX3_set_1 14 rfl rfl)
theorem dX3_set_39 : decode cX3_set 39 = .ok (.getfield 49, 3) := dk_180 0 49 (dk_at dksX3_set_1 15 rfl rfl)
theorem dX3_set_42 : decode cX3_set 42 = .ok (.iload_n 1, 1) := dk_27 (dk_at dksX3_set_1 18 rfl rfl)
theorem dX3_set_43 : decode cX3_set 43 = .ok (.iaload, 1) := dk_46 (dk_at dksX3_set_1 19 rfl rfl)
theorem dX3_set_44 : decode cX3_set 44 = .ok (.iconst 1, 1) := dk_4 (dk_at dksX3_set_1 20 rfl rfl)
theorem dX3_set_45 : decode cX3_set 45 = .ok (.isub, 1) := dk_100 (dk_at dksX3_set_1 21 rfl rfl)
theorem dX3_set_46 : decode cX3_set 46 = .ok (.i2l, 1) := dk_133 (dk_at dksX3_set_1 22 rfl rfl)
theorem dX3_set_47 : decode cX3_set 47 = .ok (.invokestatic 135, 3) := dk_184 0 135 (dk_at dksX3_set_2 0 rfl rfl)
theorem dX3_set_50 : decode cX3_set 50 = .ok (.ifCond .ne 9, 3) := dk_154 0 9 (dk_at dksX3_set_2 3 rfl rfl)
theorem dX3_set_53 : decode cX3_set 53 = .ok (.aload_n 0, 1) := dk_42 (dk_at dksX3_set_2 6 rfl rfl)
theorem dX3_set_54 : decode cX3_set 54 = .ok (.iconst 2, 1) := dk_5 (dk_at dksX3_set_2 7 rfl rfl)
theorem dX3_set_55 : decode cX3_set 55 = .ok (.invokevirtual 234, 3) := dk_182 0 234 (dk_at dksX3_set_2 8 rfl rfl)
theorem dX3_set_58 : decode cX3_set 58 = .ok (.ireturn, 1) := dk_172 (dk_at dksX3_set_2 11 rfl rfl)
theorem dX3_set_59 : decode cX3_set 59 = .ok (.aload_n 0, 1) := dk_42 (dk_at dksX3_set_2 12 rfl rfl)
theorem dX3_set_60 : decode cX3_set 60 = .ok (.getfield 52, 3) := dk_180 0 52 (dk_at dksX3_set_2 13 rfl rfl)
theorem dX3_set_63 : decode cX3_set 63 = .ok (.bipush 40, 2) := dk_16 40 (dk_at dksX3_set_2 16 rfl rfl)
theorem dX3_set_65 : decode cX3_set 65 = .ok (.iload_n 1, 1) := dk_27 (dk_at dksX3_set_2 18 rfl rfl)
theorem dX3_set_66 : decode cX3_set 66 = .ok (.imul, 1) := dk_104 (dk_at dksX3_set_2 19 rfl rfl)
theorem dX3_set_67 : decode cX3_set 67 = .ok (.iload_n 2, 1) := dk_28 (dk_at dksX3_set_2 20 rfl rfl)
theorem dX3_set_68 : decode cX3_set 68 = .ok (.iadd, 1) := dk_96 (dk_at dksX3_set_2 21 rfl rfl)
theorem dX3_set_69 : decode cX3_set 69 = .ok (.aload_n 0, 1) := dk_42 (dk_at dksX3_set_2 22 rfl rfl)
theorem dX3_set_70 : decode cX3_set 70 = .ok (.getfield 46, 3) := dk_180 0 46 (dk_at dksX3_set_3 0 rfl rfl)
theorem dX3_set_73 : decode cX3_set 73 = .ok (.iload_n 1, 1) := dk_27 (dk_at dksX3_set_3 3 rfl rfl)
theorem dX3_set_74 : decode cX3_set 74 = .ok (.iaload, 1) := dk_46 (dk_at dksX3_set_3 4 rfl rfl)
theorem dX3_set_75 : decode cX3_set 75 = .ok (.ifCond .ne 8, 3) := dk_154 0 8 (dk_at dksX3_set_3 5 rfl rfl)
theorem dX3_set_78 : decode cX3_set 78 = .ok (.iload_n 3, 1) := dk_29 (dk_at dksX3_set_3 8 rfl rfl)
theorem dX3_set_79 : decode cX3_set 79 = .ok (.i2b, 1) := dk_145 (dk_at dksX3_set_3 9 rfl rfl)
theorem dX3_set_80 : decode cX3_set 80 = .ok (.goto 19, 3) := dk_167 0 19 (dk_at dksX3_set_3 10 rfl rfl)
theorem dX3_set_83 : decode cX3_set 83 = .ok (.aload_n 0, 1) := dk_42 (dk_at dksX3_set_3 13 rfl rfl)
theorem dX3_set_84 : decode cX3_set 84 = .ok (.getfield 46, 3) := dk_180 0 46 (dk_at dksX3_set_3 14 rfl rfl)
theorem dX3_set_87 : decode cX3_set 87 = .ok (.iload_n 1, 1) := dk_27 (dk_at dksX3_set_3 17 rfl rfl)
theorem dX3_set_88 : decode cX3_set 88 = .ok (.iaload, 1) := dk_46 (dk_at dksX3_set_3 18 rfl rfl)
theorem dX3_set_89 : decode cX3_set 89 = .ok (.iconst 1, 1) := dk_4 (dk_at dksX3_set_3 19 rfl rfl)
theorem dX3_set_90 : decode cX3_set 90 = .ok (.if_icmp .ne 8, 3) := dk_160 0 8 (dk_at dksX3_set_3 20 rfl rfl)
theorem dX3_set_93 : decode cX3_set 93 = .ok (.iload_n 3, 1) := dk_29 (dk_at dksX3_set_3 23 rfl rfl)
theorem dX3_set_94 : decode cX3_set 94 = .ok (.i2s, 1) := dk_147 (dk_at dksX3_set_4 0 rfl rfl)
theorem dX3_set_95 : decode cX3_set 95 = .ok (.goto 4, 3) := dk_167 0 4 (dk_at dksX3_set_4 1 rfl rfl)
theorem dX3_set_98 : decode cX3_set 98 = .ok (.iload_n 3, 1) := dk_29 (dk_at dksX3_set_4 4 rfl rfl)
theorem dX3_set_99 : decode cX3_set 99 = .ok (.iastore, 1) := dk_79 (dk_at dksX3_set_4 5 rfl rfl)
theorem dX3_set_100 : decode cX3_set 100 = .ok (.aload_n 0, 1) := dk_42 (dk_at dksX3_set_4 6 rfl rfl)
theorem dX3_set_101 : decode cX3_set 101 = .ok (.getfield 52, 3) := dk_180 0 52 (dk_at dksX3_set_4 7 rfl rfl)
theorem dX3_set_104 : decode cX3_set 104 = .ok (.bipush 40, 2) := dk_16 40 (dk_at dksX3_set_4 10 rfl rfl)
theorem dX3_set_106 : decode cX3_set 106 = .ok (.iload_n 1, 1) := dk_27 (dk_at dksX3_set_4 12 rfl rfl)
theorem dX3_set_107 : decode cX3_set 107 = .ok (.imul, 1) := dk_104 (dk_at dksX3_set_4 13 rfl rfl)
theorem dX3_set_108 : decode cX3_set 108 = .ok (.iload_n 2, 1) := dk_28 (dk_at dksX3_set_4 14 rfl rfl)
theorem dX3_set_109 : decode cX3_set 109 = .ok (.iadd, 1) := dk_96 (dk_at dksX3_set_4 15 rfl rfl)
theorem dX3_set_110 : decode cX3_set 110 = .ok (.iaload, 1) := dk_46 (dk_at dksX3_set_4 16 rfl rfl)
theorem dX3_set_111 : decode cX3_set 111 = .ok (.ireturn, 1) := dk_172 (dk_at dksX3_set_4 17 rfl rfl)
abbrev cX3_copy : ByteArray := prog_18_method_61_code
def yX3_copy : MethodName := ⟨RX3, "copy", "(IIIII)I"⟩
def dkwX3_copy_8 : List UInt8 := [16, 40, 27, 104, 28, 96, 21, 8, 96, 46, 79, 132, 7, 1, 167, 255, 198, 21, 5, 172]
abbrev dktX3_copy_8 : List UInt8 := dkwX3_copy_8 ++ []
def dkwX3_copy_7 : List UInt8 := [21, 7, 100, 54, 8, 42, 180, 0, 52, 16, 40, 29, 104, 21, 4, 96, 21, 8, 96, 42, 180, 0, 52]
abbrev dktX3_copy_7 : List UInt8 := dkwX3_copy_7 ++ dktX3_copy_8
def dkwX3_copy_6 : List UInt8 := [54, 7, 21, 7, 21, 5, 162, 0, 57, 21, 6, 153, 0, 8, 21, 7, 167, 0, 10, 21, 5, 4, 100]
abbrev dktX3_copy_6 : List UInt8 := dkwX3_copy_6 ++ dktX3_copy_7
def dkwX3_copy_5 : List UInt8 := [148, 158, 0, 9, 42, 5, 182, 0, 234, 172, 28, 21, 4, 161, 0, 7, 4, 167, 0, 4, 3, 54, 6, 3]
abbrev dktX3_copy_5 : List UInt8 := dkwX3_copy_5 ++ dktX3_copy_6
def dkwX3_copy_4 : List UInt8 := [180, 0, 49, 27, 46, 133, 148, 157, 0, 21, 21, 4, 133, 21, 5, 133, 97, 42, 180, 0, 49, 29, 46, 133]
abbrev dktX3_copy_4 : List UInt8 := dkwX3_copy_4 ++ dktX3_copy_5
def dkwX3_copy_3 : List UInt8 := [172, 28, 155, 0, 48, 21, 4, 155, 0, 43, 21, 5, 155, 0, 38, 28, 133, 21, 5, 133, 97, 42]
abbrev dktX3_copy_3 : List UInt8 := dkwX3_copy_3 ++ dktX3_copy_4
def dkwX3_copy_2 : List UInt8 := [182, 0, 234, 172, 42, 180, 0, 46, 27, 46, 42, 180, 0, 46, 29, 46, 159, 0, 9, 42, 8, 182, 0, 234]
abbrev dktX3_copy_2 : List UInt8 := dkwX3_copy_2 ++ dktX3_copy_3
def dkwX3_copy_1 : List UInt8 := [181, 0, 7, 42, 180, 0, 46, 27, 46, 155, 0, 12, 42, 180, 0, 46, 29, 46, 156, 0, 9, 42, 4]
abbrev dktX3_copy_1 : List UInt8 := dkwX3_copy_1 ++ dktX3_copy_2
def dkwX3_copy_0 : List UInt8 := [42, 3, 181, 0, 1, 27, 184, 0, 198, 153, 0, 10, 29, 184, 0, 198, 154, 0, 6, 18, 143, 172, 42, 3]
abbrev dktX3_copy_0 : List UInt8 := dkwX3_copy_0 ++ dktX3_copy_1
theorem dksX3_copy_0 : cX3_copy.data.toList.drop 0 = dktX3_copy_0 := by decide +kernel
theorem dksX3_copy_1 : cX3_copy.data.toList.drop 24 = dktX3_copy_1 := dk_seg dksX3_copy_0 24 rfl rfl
theorem dksX3_copy_2 : cX3_copy.data.toList.drop 47 = dktX3_copy_2 := dk_seg dksX3_copy_1 23 rfl rfl
theorem dksX3_copy_3 : cX3_copy.data.toList.drop 71 = dktX3_copy_3 := dk_seg dksX3_copy_2 24 rfl rfl
theorem dksX3_copy_4 : cX3_copy.data.toList.drop 93 = dktX3_copy_4 := dk_seg dksX3_copy_3 22 rfl rfl
theorem dksX3_copy_5 : cX3_copy.data.toList.drop 117 = dktX3_copy_5 := dk_seg dksX3_copy_4 24 rfl rfl
theorem dksX3_copy_6 : cX3_copy.data.toList.drop 141 = dktX3_copy_6 := dk_seg dksX3_copy_5 24 rfl rfl
theorem dksX3_copy_7 : cX3_copy.data.toList.drop 164 = dktX3_copy_7 := dk_seg dksX3_copy_6 23 rfl rfl
theorem dksX3_copy_8 : cX3_copy.data.toList.drop 187 = dktX3_copy_8 := dk_seg dksX3_copy_7 23 rfl rfl
theorem dX3_copy_0 : decode cX3_copy 0 = .ok (.aload_n 0, 1) := dk_42 (dk_at dksX3_copy_0 0 rfl rfl)
theorem dX3_copy_1 : decode cX3_copy 1 = .ok (.iconst 0, 1) := dk_3 (dk_at dksX3_copy_0 1 rfl rfl)
theorem dX3_copy_2 : decode cX3_copy 2 = .ok (.putfield 1, 3) := dk_181 0 1 (dk_at dksX3_copy_0 2 rfl rfl)
theorem dX3_copy_5 : decode cX3_copy 5 = .ok (.iload_n 1, 1) := dk_27 (dk_at dksX3_copy_0 5 rfl rfl)
theorem dX3_copy_6 : decode cX3_copy 6 = .ok (.invokestatic 198, 3) := dk_184 0 198 (dk_at dksX3_copy_0 6 rfl rfl)
theorem dX3_copy_9 : decode cX3_copy 9 = .ok (.ifCond .eq 10, 3) := dk_153 0 10 (dk_at dksX3_copy_0 9 rfl rfl)
theorem dX3_copy_12 : decode cX3_copy 12 = .ok (.iload_n 3, 1) := dk_29 (dk_at dksX3_copy_0 12 rfl rfl)
theorem dX3_copy_13 : decode cX3_copy 13 = .ok (.invokestatic 198, 3) := dk_184 0 198 (dk_at dksX3_copy_0 13 rfl rfl)
theorem dX3_copy_16 : decode cX3_copy 16 = .ok (.ifCond .ne 6, 3) := dk_154 0 6 (dk_at dksX3_copy_0 16 rfl rfl)
theorem dX3_copy_19 : decode cX3_copy 19 = .ok (.ldc 143, 2) := dk_18 143 (dk_at dksX3_copy_0 19 rfl rfl)
theorem dX3_copy_21 : decode cX3_copy 21 = .ok (.ireturn, 1) := dk_172 (dk_at dksX3_copy_0 21 rfl rfl)
theorem dX3_copy_22 : decode cX3_copy 22 = .ok (.aload_n 0, 1) := dk_42 (dk_at dksX3_copy_0 22 rfl rfl)
theorem dX3_copy_23 : decode cX3_copy 23 = .ok (.iconst 0, 1) := dk_3 (dk_at dksX3_copy_0 23 rfl rfl)
theorem dX3_copy_24 : decode cX3_copy 24 = .ok (.putfield 7, 3) := dk_181 0 7 (dk_at dksX3_copy_1 0 rfl rfl)
theorem dX3_copy_27 : decode cX3_copy 27 = .ok (.aload_n 0, 1) := dk_42 (dk_at dksX3_copy_1 3 rfl rfl)
theorem dX3_copy_28 : decode cX3_copy 28 = .ok (.getfield 46, 3) := dk_180 0 46 (dk_at dksX3_copy_1 4 rfl rfl)
theorem dX3_copy_31 : decode cX3_copy 31 = .ok (.iload_n 1, 1) := dk_27 (dk_at dksX3_copy_1 7 rfl rfl)
theorem dX3_copy_32 : decode cX3_copy 32 = .ok (.iaload, 1) := dk_46 (dk_at dksX3_copy_1 8 rfl rfl)
theorem dX3_copy_33 : decode cX3_copy 33 = .ok (.ifCond .lt 12, 3) := dk_155 0 12 (dk_at dksX3_copy_1 9 rfl rfl)
theorem dX3_copy_36 : decode cX3_copy 36 = .ok (.aload_n 0, 1) := dk_42 (dk_at dksX3_copy_1 12 rfl rfl)
theorem dX3_copy_37 : decode cX3_copy 37 = .ok (.getfield 46, 3) := dk_180 0 46 (dk_at dksX3_copy_1 13 rfl rfl)
theorem dX3_copy_40 : decode cX3_copy 40 = .ok (.iload_n 3, 1) := dk_29 (dk_at dksX3_copy_1 16 rfl rfl)
theorem dX3_copy_41 : decode cX3_copy 41 = .ok (.iaload, 1) := dk_46 (dk_at dksX3_copy_1 17 rfl rfl)
theorem dX3_copy_42 : decode cX3_copy 42 = .ok (.ifCond .ge 9, 3) := dk_156 0 9 (dk_at dksX3_copy_1 18 rfl rfl)
theorem dX3_copy_45 : decode cX3_copy 45 = .ok (.aload_n 0, 1) := dk_42 (dk_at dksX3_copy_1 21 rfl rfl)
theorem dX3_copy_46 : decode cX3_copy 46 = .ok (.iconst 1, 1) := dk_4 (dk_at dksX3_copy_1 22 rfl rfl)
theorem dX3_copy_47 : decode cX3_copy 47 = .ok (.invokevirtual 234, 3) := dk_182 0 234 (dk_at dksX3_copy_2 0 rfl rfl)
theorem dX3_copy_50 : decode cX3_copy 50 = .ok (.ireturn, 1) := dk_172 (dk_at dksX3_copy_2 3 rfl rfl)
theorem dX3_copy_51 : decode cX3_copy 51 = .ok (.aload_n 0, 1) := dk_42 (dk_at dksX3_copy_2 4 rfl rfl)
theorem dX3_copy_52 : decode cX3_copy 52 = .ok (.getfield 46, 3) := dk_180 0 46 (dk_at dksX3_copy_2 5 rfl rfl)
theorem dX3_copy_55 : decode cX3_copy 55 = .ok (.iload_n 1, 1) := dk_27 (dk_at dksX3_copy_2 8 rfl rfl)
theorem dX3_copy_56 : decode cX3_copy 56 = .ok (.iaload, 1) := dk_46 (dk_at dksX3_copy_2 9 rfl rfl)
theorem dX3_copy_57 : decode cX3_copy 57 = .ok (.aload_n 0, 1) := dk_42 (dk_at dksX3_copy_2 10 rfl rfl)
theorem dX3_copy_58 : decode cX3_copy 58 = .ok (.getfield 46, 3) := dk_180 0 46 (dk_at dksX3_copy_2 11 rfl rfl)
theorem dX3_copy_61 : decode cX3_copy 61 = .ok (.iload_n 3, 1) := dk_29 (dk_at dksX3_copy_2 14 rfl rfl)
theorem dX3_copy_62 : decode cX3_copy 62 = .ok (.iaload, 1) := dk_46 (dk_at dksX3_copy_2 15 rfl rfl)
theorem dX3_copy_63 : decode cX3_copy 63 = .ok (.if_icmp .eq 9, 3) := dk_159 0 9 (dk_at dksX3_copy_2 16 rfl rfl)
theorem dX3_copy_66 : decode cX3_copy 66 = .ok (.aload_n 0, 1) := dk_42 (dk_at dksX3_copy_2 19 rfl rfl)
theorem dX3_copy_67 : decode cX3_copy 67 = .ok (.iconst 5, 1) := dk_8 (dk_at dksX3_copy_2 20 rfl rfl)
theorem dX3_copy_68 : decode cX3_copy 68 = .ok (.invokevirtual 234, 3) := dk_182 0 234 (dk_at dksX3_copy_2 21 rfl rfl)
theorem dX3_copy_71 : decode cX3_copy 71 = .ok (.ireturn, 1) := dk_172 (dk_at dksX3_copy_3 0 rfl rfl)
theorem dX3_copy_72 : decode cX3_copy 72 = .ok (.iload_n 2, 1) := dk_28 (dk_at dksX3_copy_3 1 rfl rfl)
theorem dX3_copy_73 : decode cX3_copy 73 = .ok (.ifCond .lt 48, 3) := dk_155 0 48 (dk_at dksX3_copy_3 2 rfl rfl)
theorem dX3_copy_76 : decode cX3_copy 76 = .ok (.iload 4, 2) := dk_21 4 (dk_at dksX3_copy_3 5 rfl rfl)
theorem dX3_copy_78 : decode cX3_copy 78 = .ok (.ifCond .lt 43, 3) := dk_155 0 43 (dk_at dksX3_copy_3 7 rfl rfl)
theorem dX3_copy_81 : decode cX3_copy 81 = .ok (.iload 5, 2) := dk_21 5 (dk_at dksX3_copy_3 10 rfl rfl)
theorem dX3_copy_83 : decode cX3_copy 83 = .ok (.ifCond .lt 38, 3) := dk_155 0 38 (dk_at dksX3_copy_3 12 rfl rfl)
theorem dX3_copy_86 : decode cX3_copy 86 = .ok (.iload_n 2, 1) := dk_28 (dk_at dksX3_copy_3 15 rfl rfl)
theorem dX3_copy_87 : decode cX3_copy 87 = .ok (.i2l, 1) := dk_133 (dk_at dksX3_copy_3 16 rfl rfl)
theorem dX3_copy_88 : decode cX3_copy 88 = .ok (.iload 5, 2) := dk_21 5 (dk_at dksX3_copy_3 17 rfl rfl)
theorem dX3_copy_90 : decode cX3_copy 90 = .ok (.i2l, 1) := dk_133 (dk_at dksX3_copy_3 19 rfl rfl)
theorem dX3_copy_91 : decode cX3_copy 91 = .ok (.ladd, 1) := dk_97 (dk_at dksX3_copy_3 20 rfl rfl)
theorem dX3_copy_92 : decode cX3_copy 92 = .ok (.aload_n 0, 1) := dk_42 (dk_at dksX3_copy_3 21 rfl rfl)
theorem dX3_copy_93 : decode cX3_copy 93 = .ok (.getfield 49, 3) := dk_180 0 49 (dk_at dksX3_copy_4 0 rfl rfl)
theorem dX3_copy_96 : decode cX3_copy 96 = .ok (.iload_n 1, 1) := dk_27 (dk_at dksX3_copy_4 3 rfl rfl)
theorem dX3_copy_97 : decode cX3_copy 97 = .ok (.iaload, 1) := dk_46 (dk_at dksX3_copy_4 4 rfl rfl)
theorem dX3_copy_98 : decode cX3_copy 98 = .ok (.i2l, 1) := dk_133 (dk_at dksX3_copy_4 5 rfl rfl)
theorem dX3_copy_99 : decode cX3_copy 99 = .ok (.lcmp, 1) := dk_148 (dk_at dksX3_copy_4 6 rfl rfl)
theorem dX3_copy_100 : decode cX3_copy 100 = .ok (.ifCond .gt 21, 3) := dk_157 0 21 (dk_at dksX3_copy_4 7 rfl rfl)
theorem dX3_copy_103 : decode cX3_copy 103 = .ok (.iload 4, 2) := dk_21 4 (dk_at dksX3_copy_4 10 rfl rfl)
theorem dX3_copy_105 : decode cX3_copy 105 = .ok (.i2l, 1) := dk_133 (dk_at dksX3_copy_4 12 rfl rfl)
theorem dX3_copy_106 : decode cX3_copy 106 = .ok (.iload 5, 2) := dk_21 5 (dk_at dksX3_copy_4 13 rfl rfl)
theorem dX3_copy_108 : decode cX3_copy 108 = .ok (.i2l, 1) := dk_133 (dk_at dksX3_copy_4 15 rfl rfl)
theorem dX3_copy_109 : decode cX3_copy 109 = .ok (.ladd, 1) := dk_97 (dk_at dksX3_copy_4 16 rfl rfl)
theorem dX3_copy_110 : decode cX3_copy 110 = .ok (.aload_n 0, 1) := dk_42 (dk_at dksX3_copy_4 17 rfl rfl)
theorem dX3_copy_111 : decode cX3_copy 111 = .ok (.getfield 49, 3) := dk_180 0 49 (dk_at dksX3_copy_4 18 rfl rfl)
theorem dX3_copy_114 : decode cX3_copy 114 = .ok (.iload_n 3, 1) := dk_29 (dk_at dksX3_copy_4 21 rfl rfl)
theorem dX3_copy_115 : decode cX3_copy 115 = .ok (.iaload, 1) := dk_46 (dk_at dksX3_copy_4 22 rfl rfl)
theorem dX3_copy_116 : decode cX3_copy 116 = .ok (.i2l, 1) := dk_133 (dk_at dksX3_copy_4 23 rfl rfl)
theorem dX3_copy_117 : decode cX3_copy 117 = .ok (.lcmp, 1) := dk_148 (dk_at dksX3_copy_5 0 rfl rfl)
theorem dX3_copy_118 : decode cX3_copy 118 = .ok (.ifCond .le 9, 3) := dk_158 0 9 (dk_at dksX3_copy_5 1 rfl rfl)
theorem dX3_copy_121 : decode cX3_copy 121 = .ok (.aload_n 0, 1) := dk_42 (dk_at dksX3_copy_5 4 rfl rfl)
theorem dX3_copy_122 : decode cX3_copy 122 = .ok (.iconst 2, 1) := dk_5 (dk_at dksX3_copy_5 5 rfl rfl)
theorem dX3_copy_123 : decode cX3_copy 123 = .ok (.invokevirtual 234, 3) := dk_182 0 234 (dk_at dksX3_copy_5 6 rfl rfl)
theorem dX3_copy_126 : decode cX3_copy 126 = .ok (.ireturn, 1) := dk_172 (dk_at dksX3_copy_5 9 rfl rfl)
theorem dX3_copy_127 : decode cX3_copy 127 = .ok (.iload_n 2, 1) := dk_28 (dk_at dksX3_copy_5 10 rfl rfl)
theorem dX3_copy_128 : decode cX3_copy 128 = .ok (.iload 4, 2) := dk_21 4 (dk_at dksX3_copy_5 11 rfl rfl)
theorem dX3_copy_130 : decode cX3_copy 130 = .ok (.if_icmp .lt 7, 3) := dk_161 0 7 (dk_at dksX3_copy_5 13 rfl rfl)
theorem dX3_copy_133 : decode cX3_copy 133 = .ok (.iconst 1, 1) := dk_4 (dk_at dksX3_copy_5 16 rfl rfl)
theorem dX3_copy_134 : decode cX3_copy 134 = .ok (.goto 4, 3) := dk_167 0 4 (dk_at dksX3_copy_5 17 rfl rfl)
theorem dX3_copy_137 : decode cX3_copy 137 = .ok (.iconst 0, 1) := dk_3 (dk_at dksX3_copy_5 20 rfl rfl)
theorem dX3_copy_138 : decode cX3_copy 138 = .ok (.istore 6, 2) := dk_54 6 (dk_at dksX3_copy_5 21 rfl rfl)
theorem dX3_copy_140 : decode cX3_copy 140 = .ok (.iconst 0, 1) := dk_3 (dk_at dksX3_copy_5 23 rfl rfl)
theorem dX3_copy_141 : decode cX3_copy 141 = .ok (.istore 7, 2) := dk_54 7 (dk_at dksX3_copy_6 0 rfl rfl)
theorem dX3_copy_143 : decode cX3_copy 143 = .ok (.iload 7, 2) := dk_21 7 (dk_at dksX3_copy_6 2 rfl rfl)
theorem dX3_copy_145 : decode cX3_copy 145 = .ok (.iload 5, 2) := dk_21 5 (dk_at dksX3_copy_6 4 rfl rfl)
theorem dX3_copy_147 : decode cX3_copy 147 = .ok (.if_icmp .ge 57, 3) := dk_162 0 57 (dk_at dksX3_copy_6 6 rfl rfl)
theorem dX3_copy_150 : decode cX3_copy 150 = .ok (.iload 6, 2) := dk_21 6 (dk_at dksX3_copy_6 9 rfl rfl)
theorem dX3_copy_152 : decode cX3_copy 152 = .ok (.ifCond .eq 8, 3) := dk_153 0 8 (dk_at dksX3_copy_6 11 rfl rfl)
theorem dX3_copy_155 : decode cX3_copy 155 = .ok (.iload 7, 2) := dk_21 7 (dk_at dksX3_copy_6 14 rfl rfl)
theorem dX3_copy_157 : decode cX3_copy 157 = .ok (.goto 10, 3) := dk_167 0 10 (dk_at dksX3_copy_6 16 rfl rfl)
theorem dX3_copy_160 : decode cX3_copy 160 = .ok (.iload 5, 2) := dk_21 5 (dk_at dksX3_copy_6 19 rfl rfl)
theorem dX3_copy_162 : decode cX3_copy 162 = .ok (.iconst 1, 1) := dk_4 (dk_at dksX3_copy_6 21 rfl rfl)
theorem dX3_copy_163 : decode cX3_copy 163 = .ok (.isub, 1) := dk_100 (dk_at dksX3_copy_6 22 rfl rfl)
theorem dX3_copy_164 : decode cX3_copy 164 = .ok (.iload 7, 2) := dk_21 7 (dk_at dksX3_copy_7 0 rfl rfl)
theorem dX3_copy_166 : decode cX3_copy 166 = .ok (.isub, 1) := dk_100 (dk_at dksX3_copy_7 2 rfl rfl)
theorem dX3_copy_167 : decode cX3_copy 167 = .ok (.istore 8, 2) := dk_54 8 (dk_at dksX3_copy_7 3 rfl rfl)
theorem dX3_copy_169 : decode cX3_copy 169 = .ok (.aload_n 0, 1) := dk_42 (dk_at dksX3_copy_7 5 rfl rfl)
theorem dX3_copy_170 : decode cX3_copy 170 = .ok (.getfield 52, 3) := dk_180 0 52 (dk_at dksX3_copy_7 6 rfl rfl)
theorem dX3_copy_173 : decode cX3_copy 173 = .ok (.bipush 40, 2) := dk_16 40 (dk_at dksX3_copy_7 9 rfl rfl)
theorem dX3_copy_175 : decode cX3_copy 175 = .ok (.iload_n 3, 1) := dk_29 (dk_at dksX3_copy_7 11 rfl rfl)
theorem dX3_copy_176 : decode cX3_copy 176 = .ok (.imul, 1) := dk_104 (dk_at dksX3_copy_7 12 rfl rfl)
theorem dX3_copy_177 : decode cX3_copy 177 = .ok (.iload 4, 2) := dk_21 4 (dk_at dksX3_copy_7 13 rfl rfl)
theorem dX3_copy_179 : decode cX3_copy 179 = .ok (.iadd, 1) := dk_96 (dk_at dksX3_copy_7 15 rfl rfl)
theorem dX3_copy_180 : decode cX3_copy 180 = .ok (.iload 8, 2) := dk_21 8 (dk_at dksX3_copy_7 16 rfl rfl)
theorem dX3_copy_182 : decode cX3_copy 182 = .ok (.iadd, 1) := dk_96 (dk_at dksX3_copy_7 18 rfl rfl)
theorem dX3_copy_183 : decode cX3_copy 183 = .ok (.aload_n 0, 1) := dk_42 (dk_at dksX3_copy_7 19 rfl rfl)
theorem dX3_copy_184 : decode cX3_copy 184 = .ok (.getfield 52, 3) := dk_180 0 52 (dk_at dksX3_copy_7 20 rfl rfl)
theorem dX3_copy_187 : decode cX3_copy 187 = .ok (.bipush 40, 2) := dk_16 40 (dk_at dksX3_copy_8 0 rfl rfl)
theorem dX3_copy_189 : decode cX3_copy 189 = .ok (.iload_n 1, 1) := dk_27 (dk_at dksX3_copy_8 2 rfl rfl)
theorem dX3_copy_190 : decode cX3_copy 190 = .ok (.imul, 1) := dk_104 (dk_at dksX3_copy_8 3 rfl rfl)
theorem dX3_copy_191 : decode cX3_copy 191 = .ok (.iload_n 2, 1) := dk_28 (dk_at dksX3_copy_8 4 rfl rfl)
theorem dX3_copy_192 : decode cX3_copy 192 = .ok (.iadd, 1) := dk_96 (dk_at dksX3_copy_8 5 rfl rfl)
theorem dX3_copy_193 : decode cX3_copy 193 = .ok (.iload 8, 2) := dk_21 8 (dk_at dksX3_copy_8 6 rfl rfl)
theorem dX3_copy_195 : decode cX3_copy 195 = .ok (.iadd, 1) := dk_96 (dk_at dksX3_copy_8 8 rfl rfl)
theorem dX3_copy_196 : decode cX3_copy 196 = .ok (.iaload, 1) := dk_46 (dk_at dksX3_copy_8 9 rfl rfl)
theorem dX3_copy_197 : decode cX3_copy 197 = .ok (.iastore, 1) := dk_79 (dk_at dksX3_copy_8 10 rfl rfl)
theorem dX3_copy_198 : decode cX3_copy 198 = .ok (.iinc 7 1, 3) := dk_132 7 1 (dk_at dksX3_copy_8 11 rfl rfl)
theorem dX3_copy_201 : decode cX3_copy 201 = .ok (.goto (-58), 3) := dk_167 255 198 (dk_at dksX3_copy_8 14 rfl rfl)
theorem dX3_copy_204 : decode cX3_copy 204 = .ok (.iload 5, 2) := dk_21 5 (dk_at dksX3_copy_8 17 rfl rfl)
theorem dX3_copy_206 : decode cX3_copy 206 = .ok (.ireturn, 1) := dk_172 (dk_at dksX3_copy_8 19 rfl rfl)
abbrev cX3_drop : ByteArray := prog_18_method_62_code
def yX3_drop : MethodName := ⟨RX3, "drop", "(I)I"⟩
def dkwX3_drop_2 : List UInt8 := [172]
abbrev dktX3_drop_2 : List UInt8 := dkwX3_drop_2 ++ []
def dkwX3_drop_1 : List UInt8 := [27, 46, 156, 0, 9, 42, 4, 182, 0, 234, 172, 42, 180, 0, 46, 27, 2, 79, 42, 180, 0, 49, 27, 46]
abbrev dktX3_drop_1 : List UInt8 := dkwX3_drop_1 ++ dktX3_drop_2
def dkwX3_drop_0 : List UInt8 := [42, 3, 181, 0, 1, 27, 184, 0, 198, 154, 0, 6, 18, 143, 172, 42, 3, 181, 0, 7, 42, 180, 0, 46]
abbrev dktX3_drop_0 : List UInt8 := dkwX3_drop_0 ++ dktX3_drop_1
theorem dksX3_drop_0 : cX3_drop.data.toList.drop 0 = dktX3_drop_0 := by decide +kernel
theorem dksX3_drop_1 : cX3_drop.data.toList.drop 24 = dktX3_drop_1 := dk_seg dksX3_drop_0 24 rfl rfl
theorem dksX3_drop_2 : cX3_drop.data.toList.drop 48 = dktX3_drop_2 := dk_seg dksX3_drop_1 24 rfl rfl
theorem dX3_drop_0 : decode cX3_drop 0 = .ok (.aload_n 0, 1) := dk_42 (dk_at dksX3_drop_0 0 rfl rfl)
theorem dX3_drop_1 : decode cX3_drop 1 = .ok (.iconst 0, 1) := dk_3 (dk_at dksX3_drop_0 1 rfl rfl)
theorem dX3_drop_2 : decode cX3_drop 2 = .ok (.putfield 1, 3) := dk_181 0 1 (dk_at dksX3_drop_0 2 rfl rfl)
theorem dX3_drop_5 : decode cX3_drop 5 = .ok (.iload_n 1, 1) := dk_27 (dk_at dksX3_drop_0 5 rfl rfl)
theorem dX3_drop_6 : decode cX3_drop 6 = .ok (.invokestatic 198, 3) := dk_184 0 198 (dk_at dksX3_drop_0 6 rfl rfl)
theorem dX3_drop_9 : decode cX3_drop 9 = .ok (.ifCond .ne 6, 3) := dk_154 0 6 (dk_at dksX3_drop_0 9 rfl rfl)
theorem dX3_drop_12 : decode cX3_drop 12 = .ok (.ldc 143, 2) := dk_18 143 (dk_at dksX3_drop_0 12 rfl rfl)
theorem dX3_drop_14 : decode cX3_drop 14 = .ok (.ireturn, 1) := dk_172 (dk_at dksX3_drop_0 14 rfl rfl)
theorem dX3_drop_15 : decode cX3_drop 15 = .ok (.aload_n 0, 1) := dk_42 (dk_at dksX3_drop_0 15 rfl rfl)
theorem dX3_drop_16 : decode cX3_drop 16 = .ok (.iconst 0, 1) := dk_3 (dk_at dksX3_drop_0 16 rfl rfl)
theorem dX3_drop_17 : decode cX3_drop 17 = .ok (.putfield 7, 3) := dk_181 0 7 (dk_at dksX3_drop_0 17 rfl rfl)
theorem dX3_drop_20 : decode cX3_drop 20 = .ok (.aload_n 0, 1) := dk_42 (dk_at dksX3_drop_0 20 rfl rfl)
theorem dX3_drop_21 : decode cX3_drop 21 = .ok (.getfield 46, 3) := dk_180 0 46 (dk_at dksX3_drop_0 21 rfl rfl)
theorem dX3_drop_24 : decode cX3_drop 24 = .ok (.iload_n 1, 1) := dk_27 (dk_at dksX3_drop_1 0 rfl rfl)
theorem dX3_drop_25 : decode cX3_drop 25 = .ok (.iaload, 1) := dk_46 (dk_at dksX3_drop_1 1 rfl rfl)
theorem dX3_drop_26 : decode cX3_drop 26 = .ok (.ifCond .ge 9, 3) := dk_156 0 9 (dk_at dksX3_drop_1 2 rfl rfl)
theorem dX3_drop_29 : decode cX3_drop 29 = .ok (.aload_n 0, 1) := dk_42 (dk_at dksX3_drop_1 5 rfl rfl)
theorem dX3_drop_30 : decode cX3_drop 30 = .ok (.iconst 1, 1) := dk_4 (dk_at dksX3_drop_1 6 rfl rfl)
theorem dX3_drop_31 : decode cX3_drop 31 = .ok (.invokevirtual 234, 3) := dk_182 0 234 (dk_at dksX3_drop_1 7 rfl rfl)
theorem dX3_drop_34 : decode cX3_drop 34 = .ok (.ireturn, 1) := dk_172 (dk_at dksX3_drop_1 10 rfl rfl)
theorem dX3_drop_35 : decode cX3_drop 35 = .ok (.aload_n 0, 1) := dk_42 (dk_at dksX3_drop_1 11 rfl rfl)
theorem dX3_drop_36 : decode cX3_drop 36 = .ok (.getfield 46, 3) := dk_180 0 46 (dk_at dksX3_drop_1 12 rfl rfl)
theorem dX3_drop_39 : decode cX3_drop 39 = .ok (.iload_n 1, 1) := dk_27 (dk_at dksX3_drop_1 15 rfl rfl)
theorem dX3_drop_40 : decode cX3_drop 40 = .ok (.iconst (-1), 1) := dk_2 (dk_at dksX3_drop_1 16 rfl rfl)
theorem dX3_drop_41 : decode cX3_drop 41 = .ok (.iastore, 1) := dk_79 (dk_at dksX3_drop_1 17 rfl rfl)
theorem dX3_drop_42 : decode cX3_drop 42 = .ok (.aload_n 0, 1) := dk_42 (dk_at dksX3_drop_1 18 rfl rfl)
theorem dX3_drop_43 : decode cX3_drop 43 = .ok (.getfield 49, 3) := dk_180 0 49 (dk_at dksX3_drop_1 19 rfl rfl)
theorem dX3_drop_46 : decode cX3_drop 46 = .ok (.iload_n 1, 1) := dk_27 (dk_at dksX3_drop_1 22 rfl rfl)
theorem dX3_drop_47 : decode cX3_drop 47 = .ok (.iaload, 1) := dk_46 (dk_at dksX3_drop_1 23 rfl rfl)
theorem dX3_drop_48 : decode cX3_drop 48 = .ok (.ireturn, 1) := dk_172 (dk_at dksX3_drop_2 0 rfl rfl)
abbrev cX3_feed : ByteArray := prog_18_method_64_code
def yX3_feed : MethodName := ⟨RX3, "feed", "(JI)I"⟩
def dkwX3_feed_3 : List UInt8 := [180, 0, 237, 4, 96, 181, 0, 237, 132, 4, 255, 167, 255, 217, 42, 180, 0, 237, 172]
abbrev dktX3_feed_3 : List UInt8 := dkwX3_feed_3 ++ []
def dkwX3_feed_2 : List UInt8 := [180, 0, 58, 42, 180, 0, 237, 31, 16, 8, 21, 4, 104, 123, 20, 0, 172, 127, 136, 79, 42, 89]
abbrev dktX3_feed_2 : List UInt8 := dkwX3_feed_2 ++ dktX3_feed_3
def dkwX3_feed_1 : List UInt8 := [29, 96, 17, 1, 44, 164, 0, 6, 18, 160, 172, 29, 4, 100, 54, 4, 21, 4, 155, 0, 40, 42]
abbrev dktX3_feed_1 : List UInt8 := dkwX3_feed_1 ++ dktX3_feed_2
def dkwX3_feed_0 : List UInt8 := [42, 3, 181, 0, 1, 29, 133, 10, 20, 0, 174, 184, 0, 135, 154, 0, 6, 18, 143, 172, 42, 180, 0, 237]
abbrev dktX3_feed_0 : List UInt8 := dkwX3_feed_0 ++ dktX3_feed_1
theorem dksX3_feed_0 : cX3_feed.data.toList.drop 0 = dktX3_feed_0 := by decide +kernel
theorem dksX3_feed_1 : cX3_feed.data.toList.drop 24 = dktX3_feed_1 := dk_seg dksX3_feed_0 24 rfl rfl
theorem dksX3_feed_2 : cX3_feed.data.toList.drop 46 = dktX3_feed_2 := dk_seg dksX3_feed_1 22 rfl rfl
theorem dksX3_feed_3 : cX3_feed.data.toList.drop 68 = dktX3_feed_3 := dk_seg dksX3_feed_2 22 rfl rfl
theorem dX3_feed_0 : decode cX3_feed 0 = .ok (.aload_n 0, 1) := dk_42 (dk_at dksX3_feed_0 0 rfl rfl)
theorem dX3_feed_1 : decode cX3_feed 1 = .ok (.iconst 0, 1) := dk_3 (dk_at dksX3_feed_0 1 rfl rfl)
theorem dX3_feed_2 : decode cX3_feed 2 = .ok (.putfield 1, 3) := dk_181 0 1 (dk_at dksX3_feed_0 2 rfl rfl)
theorem dX3_feed_5 : decode cX3_feed 5 = .ok (.iload_n 3, 1) := dk_29 (dk_at dksX3_feed_0 5 rfl rfl)
theorem dX3_feed_6 : decode cX3_feed 6 = .ok (.i2l, 1) := dk_133 (dk_at dksX3_feed_0 6 rfl rfl)
theorem dX3_feed_7 : decode cX3_feed 7 = .ok (.lconst 1, 1) := dk_10 (dk_at dksX3_feed_0 7 rfl rfl)
theorem dX3_feed_8 : decode cX3_feed 8 = .ok (.ldc2_w 174, 3) := dk_20 0 174 (dk_at dksX3_feed_0 8 rfl rfl)
theorem dX3_feed_11 : decode cX3_feed 11 = .ok (.invokestatic 135, 3) := dk_184 0 135 (dk_at dksX3_feed_0 11 rfl rfl)
theorem dX3_feed_14 : decode cX3_feed 14 = .ok (.ifCond .ne 6, 3) := dk_154 0 6 (dk_at dksX3_feed_0 14 rfl rfl)
theorem dX3_feed_17 : decode cX3_feed 17 = .ok (.ldc 143, 2) := dk_18 143 (dk_at dksX3_feed_0 17 rfl rfl)
theorem dX3_feed_19 : decode cX3_feed 19 = .ok (.ireturn, 1) := dk_172 (dk_at dksX3_feed_0 19 rfl rfl)
theorem dX3_feed_20 : decode cX3_feed 20 = .ok (.aload_n 0, 1) := dk_42 (dk_at dksX3_feed_0 20 rfl rfl)
theorem dX3_feed_21 : decode cX3_feed 21 = .ok (.getfield 237, 3) := dk_180 0 237 (dk_at dksX3_feed_0 21 rfl rfl)
theorem dX3_feed_24 : decode cX3_feed 24 = .ok (.iload_n 3, 1) := dk_29 (dk_at dksX3_feed_1 0 rfl rfl)
theorem dX3_feed_25 : decode cX3_feed 25 = .ok (.iadd, 1) := dk_96 (dk_at dksX3_feed_1 1 rfl rfl)
theorem dX3_feed_26 : decode cX3_feed 26 = .ok (.sipush 300, 3) := dk_17 1 44 (dk_at dksX3_feed_1 2 rfl rfl)
theorem dX3_feed_29 : decode cX3_feed 29 = .ok (.if_icmp .le 6, 3) := dk_164 0 6 (dk_at dksX3_feed_1 5 rfl rfl)
theorem dX3_feed_32 : decode cX3_feed 32 = .ok (.ldc 160, 2) := dk_18 160 (dk_at dksX3_feed_1 8 rfl rfl)
theorem dX3_feed_34 : decode cX3_feed 34 = .ok (.ireturn, 1) := dk_172 (dk_at dksX3_feed_1 10 rfl rfl)
theorem dX3_feed_35 : decode cX3_feed 35 = .ok (.iload_n 3, 1) := dk_29 (dk_at dksX3_feed_1 11 rfl rfl)
theorem dX3_feed_36 : decode cX3_feed 36 = .ok (.iconst 1, 1) := dk_4 (dk_at dksX3_feed_1 12 rfl rfl)
theorem dX3_feed_37 : decode cX3_feed 37 = .ok (.isub, 1) := dk_100 (dk_at dksX3_feed_1 13 rfl rfl)
theorem dX3_feed_38 : decode cX3_feed 38 = .ok (.istore 4, 2) := dk_54 4 (dk_at dksX3_feed_1 14 rfl rfl)
theorem dX3_feed_40 : decode cX3_feed 40 = .ok (.iload 4, 2) := dk_21 4 (dk_at dksX3_feed_1 16 rfl rfl)
theorem dX3_feed_42 : decode cX3_feed 42 = .ok (.ifCond .lt 40, 3) := dk_155 0 40 (dk_at dksX3_feed_1 18 rfl rfl)
theorem dX3_feed_45 : decode cX3_feed 45 = .ok (.aload_n 0, 1) := dk_42 (dk_at dksX3_feed_1 21 rfl rfl)
theorem dX3_feed_46 : decode cX3_feed 46 = .ok (.getfield 58, 3) := dk_180 0 58 (dk_at dksX3_feed_2 0 rfl rfl)
theorem dX3_feed_49 : decode cX3_feed 49 = .ok (.aload_n 0, 1) := dk_42 (dk_at dksX3_feed_2 3 rfl rfl)
theorem dX3_feed_50 : decode cX3_feed 50 = .ok (.getfield 237, 3) := dk_180 0 237 (dk_at dksX3_feed_2 4 rfl rfl)
theorem dX3_feed_53 : decode cX3_feed 53 = .ok (.lload_n 1, 1) := dk_31 (dk_at dksX3_feed_2 7 rfl rfl)
theorem dX3_feed_54 : decode cX3_feed 54 = .ok (.bipush 8, 2) := dk_16 8 (dk_at dksX3_feed_2 8 rfl rfl)
theorem dX3_feed_56 : decode cX3_feed 56 = .ok (.iload 4, 2) := dk_21 4 (dk_at dksX3_feed_2 10 rfl rfl)
theorem dX3_feed_58 : decode cX3_feed 58 = .ok (.imul, 1) := dk_104 (dk_at dksX3_feed_2 12 rfl rfl)
theorem dX3_feed_59 : decode cX3_feed 59 = .ok (.lshr, 1) := dk_123 (dk_at dksX3_feed_2 13 rfl rfl)
theorem dX3_feed_60 : decode cX3_feed 60 = .ok (.ldc2_w 172, 3) := dk_20 0 172 (dk_at dksX3_feed_2 14 rfl rfl)
theorem dX3_feed_63 : decode cX3_feed 63 = .ok (.land, 1) := dk_127 (dk_at dksX3_feed_2 17 rfl rfl)
theorem dX3_feed_64 : decode cX3_feed 64 = .ok (.l2i, 1) := dk_136 (dk_at dksX3_feed_2 18 rfl rfl)
theorem dX3_feed_65 : decode cX3_feed 65 = .ok (.iastore, 1) := dk_79 (dk_at dksX3_feed_2 19 rfl rfl)
theorem dX3_feed_66 : decode cX3_feed 66 = .ok (.aload_n 0, 1) := dk_42 (dk_at dksX3_feed_2 20 rfl rfl)
theorem dX3_feed_67 : decode cX3_feed 67 = .ok (.dup, 1) := dk_89 (dk_at dksX3_feed_2 21 rfl rfl)
theorem dX3_feed_68 : decode cX3_feed 68 = .ok (.getfield 237, 3) := dk_180 0 237 (dk_at dksX3_feed_3 0 rfl rfl)
theorem dX3_feed_71 : decode cX3_feed 71 = .ok (.iconst 1, 1) := dk_4 (dk_at dksX3_feed_3 3 rfl rfl)
theorem dX3_feed_72 : decode cX3_feed 72 = .ok (.iadd, 1) := dk_96 (dk_at dksX3_feed_3 4 rfl rfl)
theorem dX3_feed_73 : decode cX3_feed 73 = .ok (.putfield 237, 3) := dk_181 0 237 (dk_at dksX3_feed_3 5 rfl rfl)
theorem dX3_feed_76 : decode cX3_feed 76 = .ok (.iinc 4 (-1), 3) := dk_132 4 255 (dk_at dksX3_feed_3 8 rfl rfl)
theorem dX3_feed_79 : decode cX3_feed 79 = .ok (.goto (-39), 3) := dk_167 255 217 (dk_at dksX3_feed_3 11 rfl rfl)
theorem dX3_feed_82 : decode cX3_feed 82 = .ok (.aload_n 0, 1) := dk_42 (dk_at dksX3_feed_3 14 rfl rfl)
theorem dX3_feed_83 : decode cX3_feed 83 = .ok (.getfield 237, 3) := dk_180 0 237 (dk_at dksX3_feed_3 15 rfl rfl)
theorem dX3_feed_86 : decode cX3_feed 86 = .ok (.ireturn, 1) := dk_172 (dk_at dksX3_feed_3 18 rfl rfl)
abbrev cX3_nevers : ByteArray := prog_18_method_75_code
def yX3_nevers : MethodName := ⟨RX3, "nevers", "()I"⟩
def dkwX3_nevers_4 : List UInt8 := [180, 1, 58, 172]
abbrev dktX3_nevers_4 : List UInt8 := dkwX3_nevers_4 ++ []
def dkwX3_nevers_3 : List UInt8 := [180, 1, 8, 181, 1, 64, 19, 1, 67, 42, 180, 1, 11, 100, 172, 42, 42, 180, 1, 41, 181, 1, 58, 42]
abbrev dktX3_nevers_3 : List UInt8 := dkwX3_nevers_3 ++ dktX3_nevers_4
def dkwX3_nevers_2 : List UInt8 := [180, 0, 252, 4, 159, 0, 10, 42, 182, 1, 61, 167, 255, 237, 42, 180, 1, 8, 158, 0, 20, 42, 42]
abbrev dktX3_nevers_2 : List UInt8 := dkwX3_nevers_2 ++ dktX3_nevers_3
def dkwX3_nevers_1 : List UInt8 := [3, 181, 1, 8, 42, 42, 180, 1, 58, 181, 1, 41, 42, 182, 1, 18, 42, 180, 1, 8, 154, 0, 18, 42]
abbrev dktX3_nevers_1 : List UInt8 := dkwX3_nevers_1 ++ dktX3_nevers_2
def dkwX3_nevers_0 : List UInt8 := [42, 3, 181, 0, 1, 42, 42, 180, 0, 237, 181, 0, 240, 42, 3, 181, 0, 237, 42, 3, 181, 0, 243, 42]
abbrev dktX3_nevers_0 : List UInt8 := dkwX3_nevers_0 ++ dktX3_nevers_1
theorem dksX3_nevers_0 : cX3_nevers.data.toList.drop 0 = dktX3_nevers_0 := by decide +kernel
theorem dksX3_nevers_1 : cX3_nevers.data.toList.drop 24 = dktX3_nevers_1 := dk_seg dksX3_nevers_0 24 rfl rfl
theorem dksX3_nevers_2 : cX3_nevers.data.toList.drop 48 = dktX3_nevers_2 := dk_seg dksX3_nevers_1 24 rfl rfl
theorem dksX3_nevers_3 : cX3_nevers.data.toList.drop 71 = dktX3_nevers_3 := dk_seg dksX3_nevers_2 23 rfl rfl
theorem dksX3_nevers_4 : cX3_nevers.data.toList.drop 95 = dktX3_nevers_4 := dk_seg dksX3_nevers_3 24 rfl rfl
theorem dX3_nevers_0 : decode cX3_nevers 0 = .ok (.aload_n 0, 1) := dk_42 (dk_at dksX3_nevers_0 0 rfl rfl)
theorem dX3_nevers_1 : decode cX3_nevers 1 = .ok (.iconst 0, 1) := dk_3 (dk_at dksX3_nevers_0 1 rfl rfl)
theorem dX3_nevers_2 : decode cX3_nevers 2 = .ok (.putfield 1, 3) := dk_181 0 1 (dk_at dksX3_nevers_0 2 rfl rfl)
theorem dX3_nevers_5 : decode cX3_nevers 5 = .ok (.aload_n 0, 1) := dk_42 (dk_at dksX3_nevers_0 5 rfl rfl)
theorem dX3_nevers_6 : decode cX3_nevers 6 = .ok (.aload_n 0, 1) := dk_42 (dk_at dksX3_nevers_0 6 rfl rfl)
theorem dX3_nevers_7 : decode cX3_nevers 7 = .ok (.getfield 237, 3) := dk_180 0 237 (dk_at dksX3_nevers_0 7 rfl rfl)
theorem dX3_nevers_10 : decode cX3_nevers 10 = .ok (.putfield 240, 3) := dk_181 0 240 (dk_at dksX3_nevers_0 10 rfl rfl)
theorem dX3_nevers_13 : decode cX3_nevers 13 = .ok (.aload_n 0, 1) := dk_42 (dk_at dksX3_nevers_0 13 rfl rfl)
theorem dX3_nevers_14 : decode cX3_nevers 14 = .ok (.iconst 0, 1) := dk_3 (dk_at dksX3_nevers_0 14 rfl rfl)
theorem dX3_nevers_15 : decode cX3_nevers 15 = .ok (.putfield 237, 3) := dk_181 0 237 (dk_at dksX3_nevers_0 15 rfl rfl)
theorem dX3_nevers_18 : decode cX3_nevers 18 = .ok (.aload_n 0, 1) := dk_42 (dk_at dksX3_nevers_0 18 rfl rfl)
theorem dX3_nevers_19 : decode cX3_nevers 19 = .ok (.iconst 0, 1) := dk_3 (dk_at dksX3_nevers_0 19 rfl rfl)
theorem dX3_nevers_20 : decode cX3_nevers 20 = .ok (.putfield 243, 3) := dk_181 0 243 (dk_at dksX3_nevers_0 20 rfl rfl)
theorem dX3_nevers_23 : decode cX3_nevers 23 = .ok (.aload_n 0, 1) := dk_42 (dk_at dksX3_nevers_0 23 rfl rfl)
theorem dX3_nevers_24 : decode cX3_nevers 24 = .ok (.iconst 0, 1) := dk_3 (dk_at dksX3_nevers_1 0 rfl rfl)
theorem dX3_nevers_25 : decode cX3_nevers 25 = .ok (.putfield 264, 3) := dk_181 1 8 (dk_at dksX3_nevers_1 1 rfl rfl)
theorem dX3_nevers_28 : decode cX3_nevers 28 = .ok (.aload_n 0, 1) := dk_42 (dk_at dksX3_nevers_1 4 rfl rfl)
theorem dX3_nevers_29 : decode cX3_nevers 29 = .ok (.aload_n 0, 1) := dk_42 (dk_at dksX3_nevers_1 5 rfl rfl)
theorem dX3_nevers_30 : decode cX3_nevers 30 = .ok (.getfield 314, 3) := dk_180 1 58 (dk_at dksX3_nevers_1 6 rfl rfl)
theorem dX3_nevers_33 : decode cX3_nevers 33 = .ok (.putfield 297, 3) := dk_181 1 41 (dk_at dksX3_nevers_1 9 rfl rfl)
theorem dX3_nevers_36 : decode cX3_nevers 36 = .ok (.aload_n 0, 1) := dk_42 (dk_at dksX3_nevers_1 12 rfl rfl)
theorem dX3_nevers_37 : decode cX3_nevers 37 = .ok (.invokevirtual 274, 3) := dk_182 1 18 (dk_at dksX3_nevers_1 13 rfl rfl)
theorem dX3_nevers_40 : decode cX3_nevers 40 = .ok (.aload_n 0, 1) := dk_42 (dk_at dksX3_nevers_1 16 rfl rfl)
theorem dX3_nevers_41 : decode cX3_nevers 41 = .ok (.getfield 264, 3) := dk_180 1 8 (dk_at dksX3_nevers_1 17 rfl rfl)
theorem dX3_nevers_44 : decode cX3_nevers 44 = .ok (.ifCond .ne 18, 3) := dk_154 0 18 (dk_at dksX3_nevers_1 20 rfl rfl)
theorem dX3_nevers_47 : decode cX3_nevers 47 = .ok (.aload_n 0, 1) := dk_42 (dk_at dksX3_nevers_1 23 rfl rfl)
theorem dX3_nevers_48 : decode cX3_nevers 48 = .ok (.getfield 252, 3) := dk_180 0 252 (dk_at dksX3_nevers_2 0 rfl rfl)
theorem dX3_nevers_51 : decode cX3_nevers 51 = .ok (.iconst 1, 1) := dk_4 (dk_at dksX3_nevers_2 3 rfl rfl)
theorem dX3_nevers_52 : decode cX3_nevers 52 = .ok (.if_icmp .eq 10, 3) := dk_159 0 10 (dk_at dksX3_nevers_2 4 rfl rfl)
theorem dX3_nevers_55 : decode cX3_nevers 55 = .ok (.aload_n 0, 1) := dk_42 (dk_at dksX3_nevers_2 7 rfl rfl)
theorem dX3_nevers_56 : decode cX3_nevers 56 = .ok (.invokevirtual 317, 3) := dk_182 1 61 (dk_at dksX3_nevers_2 8 rfl rfl)
theorem dX3_nevers_59 : decode cX3_nevers 59 = .ok (.goto (-19), 3) := dk_167 255 237 (dk_at dksX3_nevers_2 11 rfl rfl)
theorem dX3_nevers_62 : decode cX3_nevers 62 = .ok (.aload_n 0, 1) := dk_42 (dk_at dksX3_nevers_2 14 rfl rfl)
theorem dX3_nevers_63 : decode cX3_nevers 63 = .ok (.getfield 264, 3) := dk_180 1 8 (dk_at dksX3_nevers_2 15 rfl rfl)
theorem dX3_nevers_66 : decode cX3_nevers 66 = .ok (.ifCond .le 20, 3) := dk_158 0 20 (dk_at dksX3_nevers_2 18 rfl rfl)
theorem dX3_nevers_69 : decode cX3_nevers 69 = .ok (.aload_n 0, 1) := dk_42 (dk_at dksX3_nevers_2 21 rfl rfl)
theorem dX3_nevers_70 : decode cX3_nevers 70 = .ok (.aload_n 0, 1) := dk_42 (dk_at dksX3_nevers_2 22 rfl rfl)
theorem dX3_nevers_71 : decode cX3_nevers 71 = .ok (.getfield 264, 3) := dk_180 1 8 (dk_at dksX3_nevers_3 0 rfl rfl)
theorem dX3_nevers_74 : decode cX3_nevers 74 = .ok (.putfield 320, 3) := dk_181 1 64 (dk_at dksX3_nevers_3 3 rfl rfl)
theorem dX3_nevers_77 : decode cX3_nevers 77 = .ok (.ldc_w 323, 3) := dk_19 1 67 (dk_at dksX3_nevers_3 6 rfl rfl)
theorem dX3_nevers_80 : decode cX3_nevers 80 = .ok (.aload_n 0, 1) := dk_42 (dk_at dksX3_nevers_3 9 rfl rfl)
theorem dX3_nevers_81 : decode cX3_nevers 81 = .ok (.getfield 267, 3) := dk_180 1 11 (dk_at dksX3_nevers_3 10 rfl rfl)
theorem dX3_nevers_84 : decode cX3_nevers 84 = .ok (.isub, 1) := dk_100 (dk_at dksX3_nevers_3 13 rfl rfl)
theorem dX3_nevers_85 : decode cX3_nevers 85 = .ok (.ireturn, 1) := dk_172 (dk_at dksX3_nevers_3 14 rfl rfl)
theorem dX3_nevers_86 : decode cX3_nevers 86 = .ok (.aload_n 0, 1) := dk_42 (dk_at dksX3_nevers_3 15 rfl rfl)
theorem dX3_nevers_87 : decode cX3_nevers 87 = .ok (.aload_n 0, 1) := dk_42 (dk_at dksX3_nevers_3 16 rfl rfl)
theorem dX3_nevers_88 : decode cX3_nevers 88 = .ok (.getfield 297, 3) := dk_180 1 41 (dk_at dksX3_nevers_3 17 rfl rfl)
theorem dX3_nevers_91 : decode cX3_nevers 91 = .ok (.putfield 314, 3) := dk_181 1 58 (dk_at dksX3_nevers_3 20 rfl rfl)
theorem dX3_nevers_94 : decode cX3_nevers 94 = .ok (.aload_n 0, 1) := dk_42 (dk_at dksX3_nevers_3 23 rfl rfl)
theorem dX3_nevers_95 : decode cX3_nevers 95 = .ok (.getfield 314, 3) := dk_180 1 58 (dk_at dksX3_nevers_4 0 rfl rfl)
theorem dX3_nevers_98 : decode cX3_nevers 98 = .ok (.ireturn, 1) := dk_172 (dk_at dksX3_nevers_4 3 rfl rfl)
abbrev cX3_step : ByteArray := prog_18_method_68_code
def yX3_step : MethodName := ⟨RX3, "step", "()V"⟩
def dkwX3_step_8 : List UInt8 := [7, 167, 0, 4, 3, 181, 0, 252, 42, 42, 180, 0, 243, 181, 1, 5, 177]
abbrev dktX3_step_8 : List UInt8 := dkwX3_step_8 ++ []
def dkwX3_step_7 : List UInt8 := [6, 181, 0, 252, 167, 0, 28, 42, 89, 180, 0, 243, 4, 96, 181, 0, 243, 42, 27, 16, 59, 160, 0, 7]
abbrev dktX3_step_7 : List UInt8 := dkwX3_step_7 ++ dktX3_step_8
def dkwX3_step_6 : List UInt8 := [181, 0, 243, 167, 255, 232, 42, 42, 180, 0, 243, 42, 180, 0, 249, 100, 6, 164, 0, 7, 3, 167, 0, 4]
abbrev dktX3_step_6 : List UInt8 := dkwX3_step_6 ++ dktX3_step_7
def dkwX3_step_5 : List UInt8 := [153, 0, 55, 42, 42, 180, 0, 243, 182, 0, 246, 184, 1, 2, 153, 0, 16, 42, 89, 180, 0, 243, 4, 96]
abbrev dktX3_step_5 : List UInt8 := dkwX3_step_5 ++ dktX3_step_6
def dkwX3_step_4 : List UInt8 := [180, 0, 243, 4, 96, 181, 0, 243, 167, 255, 232, 42, 5, 181, 0, 252, 167, 0, 87, 27, 184, 1, 2]
abbrev dktX3_step_4 : List UInt8 := dkwX3_step_4 ++ dktX3_step_5
def dkwX3_step_3 : List UInt8 := [184, 0, 255, 153, 0, 38, 42, 42, 180, 0, 243, 182, 0, 246, 184, 0, 255, 153, 0, 16, 42, 89]
abbrev dktX3_step_3 : List UInt8 := dkwX3_step_3 ++ dktX3_step_4
def dkwX3_step_2 : List UInt8 := [42, 42, 180, 0, 243, 182, 0, 246, 60, 27, 18, 81, 160, 0, 11, 42, 4, 181, 0, 252, 167, 0, 129, 27]
abbrev dktX3_step_2 : List UInt8 := dkwX3_step_2 ++ dktX3_step_3
def dkwX3_step_1 : List UInt8 := [160, 0, 16, 42, 89, 180, 0, 243, 4, 96, 181, 0, 243, 167, 255, 220, 42, 42, 180, 0, 243, 181, 0, 249]
abbrev dktX3_step_1 : List UInt8 := dkwX3_step_1 ++ dktX3_step_2
def dkwX3_step_0 : List UInt8 := [42, 42, 180, 0, 243, 182, 0, 246, 16, 32, 159, 0, 16, 42, 42, 180, 0, 243, 182, 0, 246, 16, 10]
abbrev dktX3_step_0 : List UInt8 := dkwX3_step_0 ++ dktX3_step_1
theorem dksX3_step_0 : cX3_step.data.toList.drop 0 = dktX3_step_0 := by decide +kernel
theorem dksX3_step_1 : cX3_step.data.toList.drop 23 = dktX3_step_1 := dk_seg dksX3_step_0 23 rfl rfl
theorem dksX3_step_2 : cX3_step.data.toList.drop 47 = dktX3_step_2 := dk_seg dksX3_step_1 24 rfl rfl
theorem dksX3_step_3 : cX3_step.data.toList.drop 71 = dktX3_step_3 := dk_seg dksX3_step_2 24 rfl rfl
theorem dksX3_step_4 : cX3_step.data.toList.drop 93 = dktX3_step_4 := dk_seg dksX3_step_3 22 rfl rfl
theorem dksX3_step_5 : cX3_step.data.toList.drop 116 = dktX3_step_5 := dk_seg dksX3_step_4 23 rfl rfl
theorem dksX3_step_6 : cX3_step.data.toList.drop 140 = dktX3_step_6 := dk_seg dksX3_step_5 24 rfl rfl
theorem dksX3_step_7 : cX3_step.data.toList.drop 164 = dktX3_step_7 := dk_seg dksX3_step_6 24 rfl rfl
theorem dksX3_step_8 : cX3_step.data.toList.drop 188 = dktX3_step_8 := dk_seg dksX3_step_7 24 rfl rfl
theorem dX3_step_0 : decode cX3_step 0 = .ok (.aload_n 0, 1) := dk_42 (dk_at dksX3_step_0 0 rfl rfl)
theorem dX3_step_1 : decode cX3_step 1 = .ok (.aload_n 0, 1) := dk_42 (dk_at dksX3_step_0 1 rfl rfl)
theorem dX3_step_2 : decode cX3_step 2 = .ok (.getfield 243, 3) := dk_180 0 243 (dk_at dksX3_step_0 2 rfl rfl)
theorem dX3_step_5 : decode cX3_step 5 = .ok (.invokevirtual 246, 3) := dk_182 0 246 (dk_at dksX3_step_0 5 rfl rfl)
theorem dX3_step_8 : decode cX3_step 8 = .ok (.bipush 32, 2) := dk_16 32 (dk_at dksX3_step_0 8 rfl rfl)
theorem dX3_step_10 : decode cX3_step 10 = .ok (.if_icmp .eq 16, 3) := dk_159 0 16 (dk_at dksX3_step_0 10 rfl rfl)
theorem dX3_step_13 : decode cX3_step 13 = .ok (.aload_n 0, 1) := dk_42 (dk_at dksX3_step_0 13 rfl rfl)
theorem dX3_step_14 : decode cX3_step 14 = .ok (.aload_n 0, 1) := dk_42 (dk_at dksX3_step_0 14 rfl rfl)
theorem dX3_step_15 : decode cX3_step 15 = .ok (.getfield 243, 3) := dk_180 0 243 (dk_at dksX3_step_0 15 rfl rfl)
theorem dX3_step_18 : decode cX3_step 18 = .ok (.invokevirtual 246, 3) := dk_182 0 246 (dk_at dksX3_step_0 18 rfl rfl)
theorem dX3_step_21 : decode cX3_step 21 = .ok (.bipush 10, 2) := dk_16 10 (dk_at dksX3_step_0 21 rfl rfl)
theorem dX3_step_23 : decode cX3_step 23 = .ok (.if_icmp .ne 16, 3) := dk_160 0 16 (dk_at dksX3_step_1 0 rfl rfl)
theorem dX3_step_26 : decode cX3_step 26 = .ok (.aload_n 0, 1) := dk_42 (dk_at dksX3_step_1 3 rfl rfl)
theorem dX3_step_27 : decode cX3_step 27 = .ok (.dup, 1) := dk_89 (dk_at dksX3_step_1 4 rfl rfl)
theorem dX3_step_28 : decode cX3_step 28 = .ok (.getfield 243, 3) := dk_180 0 243 (dk_at dksX3_step_1 5 rfl rfl)
theorem dX3_step_31 : decode cX3_step 31 = .ok (.iconst 1, 1) := dk_4 (dk_at dksX3_step_1 8 rfl rfl)
theorem dX3_step_32 : decode cX3_step 32 = .ok (.iadd, 1) := dk_96 (dk_at dksX3_step_1 9 rfl rfl)
theorem dX3_step_33 : decode cX3_step 33 = .ok (.putfield 243, 3) := dk_181 0 243 (dk_at dksX3_step_1 10 rfl rfl)
theorem dX3_step_36 : decode cX3_step 36 = .ok (.goto (-36), 3) := dk_167 255 220 (dk_at dksX3_step_1 13 rfl rfl)
theorem dX3_step_39 : decode cX3_step 39 = .ok (.aload_n 0, 1) := dk_42 (dk_at dksX3_step_1 16 rfl rfl)
theorem dX3_step_40 : decode cX3_step 40 = .ok (.aload_n 0, 1) := dk_42 (dk_at dksX3_step_1 17 rfl rfl)
theorem dX3_step_41 : decode cX3_step 41 = .ok (.getfield 243, 3) := dk_180 0 243 (dk_at dksX3_step_1 18 rfl rfl)
theorem dX3_step_44 : decode cX3_step 44 = .ok (.putfield 249, 3) := dk_181 0 249 (dk_at dksX3_step_1 21 rfl rfl)
theorem dX3_step_47 : decode cX3_step 47 = .ok (.aload_n 0, 1) := dk_42 (dk_at dksX3_step_2 0 rfl rfl)
theorem dX3_step_48 : decode cX3_step 48 = .ok (.aload_n 0, 1) := dk_42 (dk_at dksX3_step_2 1 rfl rfl)
theorem dX3_step_49 : decode cX3_step 49 = .ok (.getfield 243, 3) := dk_180 0 243 (dk_at dksX3_step_2 2 rfl rfl)
theorem dX3_step_52 : decode cX3_step 52 = .ok (.invokevirtual 246, 3) := dk_182 0 246 (dk_at dksX3_step_2 5 rfl rfl)
theorem dX3_step_55 : decode cX3_step 55 = .ok (.istore_n 1, 1) := dk_60 (dk_at dksX3_step_2 8 rfl rfl)
theorem dX3_step_56 : decode cX3_step 56 = .ok (.iload_n 1, 1) := dk_27 (dk_at dksX3_step_2 9 rfl rfl)
theorem dX3_step_57 : decode cX3_step 57 = .ok (.ldc 81, 2) := dk_18 81 (dk_at dksX3_step_2 10 rfl rfl)
theorem dX3_step_59 : decode cX3_step 59 = .ok (.if_icmp .ne 11, 3) := dk_160 0 11 (dk_at dksX3_step_2 12 rfl rfl)
theorem dX3_step_62 : decode cX3_step 62 = .ok (.aload_n 0, 1) := dk_42 (dk_at dksX3_step_2 15 rfl rfl)
theorem dX3_step_63 : decode cX3_step 63 = .ok (.iconst 1, 1) := dk_4 (dk_at dksX3_step_2 16 rfl rfl)
theorem dX3_step_64 : decode cX3_step 64 = .ok (.putfield 252, 3) := dk_181 0 252 (dk_at dksX3_step_2 17 rfl rfl)
theorem dX3_step_67 : decode cX3_step 67 = .ok (.goto 129, 3) := dk_167 0 129 (dk_at dksX3_step_2 20 rfl rfl)
theorem dX3_step_70 : decode cX3_step 70 = .ok (.iload_n 1, 1) := dk_27 (dk_at dksX3_step_2 23 rfl rfl)
theorem dX3_step_71 : decode cX3_step 71 = .ok (.invokestatic 255, 3) := dk_184 0 255 (dk_at dksX3_step_3 0 rfl rfl)
theorem dX3_step_74 : decode cX3_step 74 = .ok (.ifCond .eq 38, 3) := dk_153 0 38 (dk_at dksX3_step_3 3 rfl rfl)
theorem dX3_step_77 : decode cX3_step 77 = .ok (.aload_n 0, 1) := dk_42 (dk_at dksX3_step_3 6 rfl rfl)
theorem dX3_step_78 : decode cX3_step 78 = .ok (.aload_n 0, 1) := dk_42 (dk_at dksX3_step_3 7 rfl rfl)
theorem dX3_step_79 : decode cX3_step 79 = .ok (.getfield 243, 3) := dk_180 0 243 (dk_at dksX3_step_3 8 rfl rfl)
theorem dX3_step_82 : decode cX3_step 82 = .ok (.invokevirtual 246, 3) := dk_182 0 246 (dk_at dksX3_step_3 11 rfl rfl)
theorem dX3_step_85 : decode cX3_step 85 = .ok (.invokestatic 255, 3) := dk_184 0 255 (dk_at dksX3_step_3 14 rfl rfl)
theorem dX3_step_88 : decode cX3_step 88 = .ok (.ifCond .eq 16, 3) := dk_153 0 16 (dk_at dksX3_step_3 17 rfl rfl)
theorem dX3_step_91 : decode cX3_step 91 = .ok (.aload_n 0, 1) := dk_42 (dk_at dksX3_step_3 20 rfl rfl)
theorem dX3_step_92 : decode cX3_step 92 = .ok (.dup, 1) := dk_89 (dk_at dksX3_step_3 21 rfl rfl)
theorem dX3_step_93 : decode cX3_step 93 = .ok (.getfield 243, 3) := dk_180 0 243 (dk_at dksX3_step_4 0 rfl rfl)
theorem dX3_step_96 : decode cX3_step 96 = .ok (.iconst 1, 1) := dk_4 (dk_at dksX3_step_4 3 rfl rfl)
theorem dX3_step_97 : decode cX3_step 97 = .ok (.iadd, 1) := dk_96 (dk_at dksX3_step_4 4 rfl rfl)
theorem dX3_step_98 : decode cX3_step 98 = .ok (.putfield 243, 3) := dk_181 0 243 (dk_at dksX3_step_4 5 rfl rfl)
theorem dX3_step_101 : decode cX3_step 101 = .ok (.goto (-24), 3) := dk_167 255 232 (dk_at dksX3_step_4 8 rfl rfl)
theorem dX3_step_104 : decode cX3_step 104 = .ok (.aload_n 0, 1) := dk_42 (dk_at dksX3_step_4 11 rfl rfl)
theorem dX3_step_105 : decode cX3_step 105 = .ok (.iconst 2, 1) := dk_5 (dk_at dksX3_step_4 12 rfl rfl)
theorem dX3_step_106 : decode cX3_step 106 = .ok (.putfield 252, 3) := dk_181 0 252 (dk_at dksX3_step_4 13 rfl rfl)
theorem dX3_step_109 : decode cX3_step 109 = .ok (.goto 87, 3) := dk_167 0 87 (dk_at dksX3_step_4 16 rfl rfl)
theorem dX3_step_112 : decode cX3_step 112 = .ok (.iload_n 1, 1) := dk_27 (dk_at dksX3_step_4 19 rfl rfl)
theorem dX3_step_113 : decode cX3_step 113 = .ok (.invokestatic 258, 3) := dk_184 1 2 (dk_at dksX3_step_4 20 rfl rfl)
theorem dX3_step_116 : decode cX3_step 116 = .ok (.ifCond .eq 55, 3) := dk_153 0 55 (dk_at dksX3_step_5 0 rfl rfl)
theorem dX3_step_119 : decode cX3_step 119 = .ok (.aload_n 0, 1) := dk_42 (dk_at dksX3_step_5 3 rfl rfl)
theorem dX3_step_120 : decode cX3_step 120 = .ok (.aload_n 0, 1) := dk_42 (dk_at dksX3_step_5 4 rfl rfl)
theorem dX3_step_121 : decode cX3_step 121 = .ok (.getfield 243, 3) := dk_180 0 243 (dk_at dksX3_step_5 5 rfl rfl)
theorem dX3_step_124 : decode cX3_step 124 = .ok (.invokevirtual 246, 3) := dk_182 0 246 (dk_at dksX3_step_5 8 rfl rfl)
theorem dX3_step_127 : decode cX3_step 127 = .ok (.invokestatic 258, 3) := dk_184 1 2 (dk_at dksX3_step_5 11 rfl rfl)
theorem dX3_step_130 : decode cX3_step 130 = .ok (.ifCond .eq 16, 3) := dk_153 0 16 (dk_at dksX3_step_5 14 rfl rfl)
theorem dX3_step_133 : decode cX3_step 133 = .ok (.aload_n 0, 1) := dk_42 (dk_at dksX3_step_5 17 rfl rfl)
theorem dX3_step_134 : decode cX3_step 134 = .ok (.dup, 1) := dk_89 (dk_at dksX3_step_5 18 rfl rfl)
theorem dX3_step_135 : decode cX3_step 135 = .ok (.getfield 243, 3) := dk_180 0 243 (dk_at dksX3_step_5 19 rfl rfl)
theorem dX3_step_138 : decode cX3_step 138 = .ok (.iconst 1, 1) := dk_4 (dk_at dksX3_step_5 22 rfl rfl)
theorem dX3_step_139 : decode cX3_step 139 = .ok (.iadd, 1) := dk_96 (dk_at dksX3_step_5 23 rfl rfl)
theorem dX3_step_140 : decode cX3_step 140 = .ok (.putfield 243, 3) := dk_181 0 243 (dk_at dksX3_step_6 0 rfl rfl)
theorem dX3_step_143 : decode cX3_step 143 = .ok (.goto (-24), 3) := dk_167 255 232 (dk_at dksX3_step_6 3 rfl rfl)
theorem dX3_step_146 : decode cX3_step 146 = .ok (.aload_n 0, 1) := dk_42 (dk_at dksX3_step_6 6 rfl rfl)
theorem dX3_step_147 : decode cX3_step 147 = .ok (.aload_n 0, 1) := dk_42 (dk_at dksX3_step_6 7 rfl rfl)
theorem dX3_step_148 : decode cX3_step 148 = .ok (.getfield 243, 3) := dk_180 0 243 (dk_at dksX3_step_6 8 rfl rfl)
theorem dX3_step_151 : decode cX3_step 151 = .ok (.aload_n 0, 1) := dk_42 (dk_at dksX3_step_6 11 rfl rfl)
theorem dX3_step_152 : decode cX3_step 152 = .ok (.getfield 249, 3) := dk_180 0 249 (dk_at dksX3_step_6 12 rfl rfl)
theorem dX3_step_155 : decode cX3_step 155 = .ok (.isub, 1) := dk_100 (dk_at dksX3_step_6 15 rfl rfl)
theorem dX3_step_156 : decode cX3_step 156 = .ok (.iconst 3, 1) := dk_6 (dk_at dksX3_step_6 16 rfl rfl)
theorem dX3_step_157 : decode cX3_step 157 = .ok (.if_icmp .le 7, 3) := dk_164 0 7 (dk_at dksX3_step_6 17 rfl rfl)
theorem dX3_step_160 : decode cX3_step 160 = .ok (.iconst 0, 1) := dk_3 (dk_at dksX3_step_6 20 rfl rfl)
theorem dX3_step_161 : decode cX3_step 161 = .ok (.goto 4, 3) := dk_167 0 4 (dk_at dksX3_step_6 21 rfl rfl)
theorem dX3_step_164 : decode cX3_step 164 = .ok (.iconst 3, 1) := dk_6 (dk_at dksX3_step_7 0 rfl rfl)
theorem dX3_step_165 : decode cX3_step 165 = .ok (.putfield 252, 3) := dk_181 0 252 (dk_at dksX3_step_7 1 rfl rfl)
theorem dX3_step_168 : decode cX3_step 168 = .ok (.goto 28, 3) := dk_167 0 28 (dk_at dksX3_step_7 4 rfl rfl)
theorem dX3_step_171 : decode cX3_step 171 = .ok (.aload_n 0, 1) := dk_42 (dk_at dksX3_step_7 7 rfl rfl)
theorem dX3_step_172 : decode cX3_step 172 = .ok (.dup, 1) := dk_89 (dk_at dksX3_step_7 8 rfl rfl)
theorem dX3_step_173 : decode cX3_step 173 = .ok (.getfield 243, 3) := dk_180 0 243 (dk_at dksX3_step_7 9 rfl rfl)
theorem dX3_step_176 : decode cX3_step 176 = .ok (.iconst 1, 1) := dk_4 (dk_at dksX3_step_7 12 rfl rfl)
theorem dX3_step_177 : decode cX3_step 177 = .ok (.iadd, 1) := dk_96 (dk_at dksX3_step_7 13 rfl rfl)
theorem dX3_step_178 : decode cX3_step 178 = .ok (.putfield 243, 3) := dk_181 0 243 (dk_at dksX3_step_7 14 rfl rfl)
theorem dX3_step_181 : decode cX3_step 181 = .ok (.aload_n 0, 1) := dk_42 (dk_at dksX3_step_7 17 rfl rfl)
theorem dX3_step_182 : decode cX3_step 182 = .ok (.iload_n 1, 1) := dk_27 (dk_at dksX3_step_7 18 rfl rfl)
theorem dX3_step_183 : decode cX3_step 183 = .ok (.bipush 59, 2) := dk_16 59 (dk_at dksX3_step_7 19 rfl rfl)
theorem dX3_step_185 : decode cX3_step 185 = .ok (.if_icmp .ne 7, 3) := dk_160 0 7 (dk_at dksX3_step_7 21 rfl rfl)
theorem dX3_step_188 : decode cX3_step 188 = .ok (.iconst 4, 1) := dk_7 (dk_at dksX3_step_8 0 rfl rfl)
theorem dX3_step_189 : decode cX3_step 189 = .ok (.goto 4, 3) := dk_167 0 4 (dk_at dksX3_step_8 1 rfl rfl)
theorem dX3_step_192 : decode cX3_step 192 = .ok (.iconst 0, 1) := dk_3 (dk_at dksX3_step_8 4 rfl rfl)
theorem dX3_step_193 : decode cX3_step 193 = .ok (.putfield 252, 3) := dk_181 0 252 (dk_at dksX3_step_8 5 rfl rfl)
theorem dX3_step_196 : decode cX3_step 196 = .ok (.aload_n 0, 1) := dk_42 (dk_at dksX3_step_8 8 rfl rfl)
theorem dX3_step_197 : decode cX3_step 197 = .ok (.aload_n 0, 1) := dk_42 (dk_at dksX3_step_8 9 rfl rfl)
theorem dX3_step_198 : decode cX3_step 198 = .ok (.getfield 243, 3) := dk_180 0 243 (dk_at dksX3_step_8 10 rfl rfl)
theorem dX3_step_201 : decode cX3_step 201 = .ok (.putfield 261, 3) := dk_181 1 5 (dk_at dksX3_step_8 13 rfl rfl)
theorem dX3_step_204 : decode cX3_step 204 = .ok (.return_, 1) := dk_177 (dk_at dksX3_step_8 16 rfl rfl)
abbrev cX3_byteAt : ByteArray := prog_18_method_65_code
def yX3_byteAt : MethodName := ⟨RX3, "byteAt", "(I)I"⟩
def dkwX3_byteAt_0 : List UInt8 := [27, 42, 180, 0, 240, 162, 0, 12, 42, 180, 0, 58, 27, 46, 167, 0, 5, 18, 81, 172]
abbrev dktX3_byteAt_0 : List UInt8 := dkwX3_byteAt_0 ++ []
theorem dksX3_byteAt_0 : cX3_byteAt.data.toList.drop 0 = dktX3_byteAt_0 := by decide +kernel
theorem dX3_byteAt_0 : decode cX3_byteAt 0 = .ok (.iload_n 1, 1) := dk_27 (dk_at dksX3_byteAt_0 0 rfl rfl)
theorem dX3_byteAt_1 : decode cX3_byteAt 1 = .ok (.aload_n 0, 1) := dk_42 (dk_at dksX3_byteAt_0 1 rfl rfl)
theorem dX3_byteAt_2 : decode cX3_byteAt 2 = .ok (.getfield 240, 3) := dk_180 0 240 (dk_at dksX3_byteAt_0 2 rfl rfl)
theorem dX3_byteAt_5 : decode cX3_byteAt 5 = .ok (.if_icmp .ge 12, 3) := dk_162 0 12 (dk_at dksX3_byteAt_0 5 rfl rfl)
theorem dX3_byteAt_8 : decode cX3_byteAt 8 = .ok (.aload_n 0, 1) := dk_42 (dk_at dksX3_byteAt_0 8 rfl rfl)
theorem dX3_byteAt_9 : decode cX3_byteAt 9 = .ok (.getfield 58, 3) := dk_180 0 58 (dk_at dksX3_byteAt_0 9 rfl rfl)
theorem dX3_byteAt_12 : decode cX3_byteAt 12 = .ok (.iload_n 1, 1) := dk_27 (dk_at dksX3_byteAt_0 12 rfl rfl)
theorem dX3_byteAt_13 : decode cX3_byteAt 13 = .ok (.iaload, 1) := dk_46 (dk_at dksX3_byteAt_0 13 rfl rfl)
theorem dX3_byteAt_14 : decode cX3_byteAt 14 = .ok (.goto 5, 3) := dk_167 0 5 (dk_at dksX3_byteAt_0 14 rfl rfl)
theorem dX3_byteAt_17 : decode cX3_byteAt 17 = .ok (.ldc 81, 2) := dk_18 81 (dk_at dksX3_byteAt_0 17 rfl rfl)
theorem dX3_byteAt_19 : decode cX3_byteAt 19 = .ok (.ireturn, 1) := dk_172 (dk_at dksX3_byteAt_0 19 rfl rfl)
abbrev cX3_isLetter : ByteArray := prog_18_method_66_code
def yX3_isLetter : MethodName := ⟨RX3, "isLetter", "(I)Z"⟩
def dkwX3_isLetter_0 : List UInt8 := [26, 16, 97, 161, 0, 13, 26, 16, 122, 163, 0, 7, 4, 167, 0, 4, 3, 172]
abbrev dktX3_isLetter_0 : List UInt8 := dkwX3_isLetter_0 ++ []
theorem dksX3_isLetter_0 : cX3_isLetter.data.toList.drop 0 = dktX3_isLetter_0 := by decide +kernel
theorem dX3_isLetter_0 : decode cX3_isLetter 0 = .ok (.iload_n 0, 1) := dk_26 (dk_at dksX3_isLetter_0 0 rfl rfl)
theorem dX3_isLetter_1 : decode cX3_isLetter 1 = .ok (.bipush 97, 2) := dk_16 97 (dk_at dksX3_isLetter_0 1 rfl rfl)
theorem dX3_isLetter_3 : decode cX3_isLetter 3 = .ok (.if_icmp .lt 13, 3) := dk_161 0 13 (dk_at dksX3_isLetter_0 3 rfl rfl)
theorem dX3_isLetter_6 : decode cX3_isLetter 6 = .ok (.iload_n 0, 1) := dk_26 (dk_at dksX3_isLetter_0 6 rfl rfl)
theorem dX3_isLetter_7 : decode cX3_isLetter 7 = .ok (.bipush 122, 2) := dk_16 122 (dk_at dksX3_isLetter_0 7 rfl rfl)
theorem dX3_isLetter_9 : decode cX3_isLetter 9 = .ok (.if_icmp .gt 7, 3) := dk_163 0 7 (dk_at dksX3_isLetter_0 9 rfl rfl)
theorem dX3_isLetter_12 : decode cX3_isLetter 12 = .ok (.iconst 1, 1) := dk_4 (dk_at dksX3_isLetter_0 12 rfl rfl)
theorem dX3_isLetter_13 : decode cX3_isLetter 13 = .ok (.goto 4, 3) := dk_167 0 4 (dk_at dksX3_isLetter_0 13 rfl rfl)
theorem dX3_isLetter_16 : decode cX3_isLetter 16 = .ok (.iconst 0, 1) := dk_3 (dk_at dksX3_isLetter_0 16 rfl rfl)
theorem dX3_isLetter_17 : decode cX3_isLetter 17 = .ok (.ireturn, 1) := dk_172 (dk_at dksX3_isLetter_0 17 rfl rfl)
abbrev cX3_isFigure : ByteArray := prog_18_method_67_code
def yX3_isFigure : MethodName := ⟨RX3, "isFigure", "(I)Z"⟩
def dkwX3_isFigure_0 : List UInt8 := [26, 16, 48, 161, 0, 13, 26, 16, 57, 163, 0, 7, 4, 167, 0, 4, 3, 172]
abbrev dktX3_isFigure_0 : List UInt8 := dkwX3_isFigure_0 ++ []
theorem dksX3_isFigure_0 : cX3_isFigure.data.toList.drop 0 = dktX3_isFigure_0 := by decide +kernel
theorem dX3_isFigure_0 : decode cX3_isFigure 0 = .ok (.iload_n 0, 1) := dk_26 (dk_at dksX3_isFigure_0 0 rfl rfl)
theorem dX3_isFigure_1 : decode cX3_isFigure 1 = .ok (.bipush 48, 2) := dk_16 48 (dk_at dksX3_isFigure_0 1 rfl rfl)
theorem dX3_isFigure_3 : decode cX3_isFigure 3 = .ok (.if_icmp .lt 13, 3) := dk_161 0 13 (dk_at dksX3_isFigure_0 3 rfl rfl)
theorem dX3_isFigure_6 : decode cX3_isFigure 6 = .ok (.iload_n 0, 1) := dk_26 (dk_at dksX3_isFigure_0 6 rfl rfl)
theorem dX3_isFigure_7 : decode cX3_isFigure 7 = .ok (.bipush 57, 2) := dk_16 57 (dk_at dksX3_isFigure_0 7 rfl rfl)
theorem dX3_isFigure_9 : decode cX3_isFigure 9 = .ok (.if_icmp .gt 7, 3) := dk_163 0 7 (dk_at dksX3_isFigure_0 9 rfl rfl)
theorem dX3_isFigure_12 : decode cX3_isFigure 12 = .ok (.iconst 1, 1) := dk_4 (dk_at dksX3_isFigure_0 12 rfl rfl)
theorem dX3_isFigure_13 : decode cX3_isFigure 13 = .ok (.goto 4, 3) := dk_167 0 4 (dk_at dksX3_isFigure_0 13 rfl rfl)
theorem dX3_isFigure_16 : decode cX3_isFigure 16 = .ok (.iconst 0, 1) := dk_3 (dk_at dksX3_isFigure_0 16 rfl rfl)
theorem dX3_isFigure_17 : decode cX3_isFigure 17 = .ok (.ireturn, 1) := dk_172 (dk_at dksX3_isFigure_0 17 rfl rfl)
abbrev cX3_readNever : ByteArray := prog_18_method_74_code
def yX3_readNever : MethodName := ⟨RX3, "readNever", "()V"⟩
def dkwX3_readNever_12 : List UInt8 := [3, 182, 1, 21, 42, 89, 180, 1, 41, 4, 96, 181, 1, 41, 177]
abbrev dktX3_readNever_12 : List UInt8 := dkwX3_readNever_12 ++ []
def dkwX3_readNever_11 : List UInt8 := [182, 1, 47, 79, 42, 180, 1, 8, 154, 0, 20, 42, 42, 180, 0, 252, 7, 160, 0, 7, 4, 167, 0, 4]
abbrev dktX3_readNever_11 : List UInt8 := dkwX3_readNever_11 ++ dktX3_readNever_12
def dkwX3_readNever_10 : List UInt8 := [180, 0, 55, 21, 4, 4, 96, 46, 6, 160, 0, 12, 42, 16, 7, 182, 1, 44, 167, 0, 7, 42]
abbrev dktX3_readNever_10 : List UInt8 := dkwX3_readNever_10 ++ dktX3_readNever_11
def dkwX3_readNever_9 : List UInt8 := [96, 46, 18, 81, 159, 0, 7, 4, 167, 0, 4, 3, 182, 1, 21, 42, 180, 0, 55, 21, 4, 5, 96, 42]
abbrev dktX3_readNever_9 : List UInt8 := dkwX3_readNever_9 ++ dktX3_readNever_10
def dkwX3_readNever_8 : List UInt8 := [22, 5, 20, 1, 56, 148, 154, 0, 7, 6, 167, 0, 5, 18, 81, 79, 42, 42, 180, 0, 55, 21, 4, 4]
abbrev dktX3_readNever_8 : List UInt8 := dkwX3_readNever_8 ++ dktX3_readNever_9
def dkwX3_readNever_7 : List UInt8 := [20, 1, 52, 148, 154, 0, 7, 4, 167, 0, 31, 22, 5, 20, 1, 54, 148, 154, 0, 7, 5, 167, 0, 18]
abbrev dktX3_readNever_7 : List UInt8 := dkwX3_readNever_7 ++ dktX3_readNever_8
def dkwX3_readNever_6 : List UInt8 := [180, 0, 55, 21, 4, 4, 96, 22, 5, 20, 1, 50, 148, 154, 0, 7, 3, 167, 0, 44, 22, 5]
abbrev dktX3_readNever_6 : List UInt8 := dkwX3_readNever_6 ++ dktX3_readNever_7
def dkwX3_readNever_5 : List UInt8 := [180, 0, 55, 21, 4, 42, 182, 1, 47, 79, 42, 180, 1, 8, 154, 0, 95, 42, 182, 1, 25, 55, 5, 42]
abbrev dktX3_readNever_5 : List UInt8 := dkwX3_readNever_5 ++ dktX3_readNever_6
def dkwX3_readNever_4 : List UInt8 := [96, 7, 79, 42, 180, 0, 55, 21, 4, 5, 96, 42, 17, 0, 200, 182, 1, 44, 79, 167, 0, 148, 42]
abbrev dktX3_readNever_4 : List UInt8 := dkwX3_readNever_4 ++ dktX3_readNever_5
def dkwX3_readNever_3 : List UInt8 := [148, 154, 0, 45, 42, 180, 0, 55, 21, 4, 42, 16, 7, 182, 1, 44, 79, 42, 180, 0, 55, 21, 4, 4]
abbrev dktX3_readNever_3 : List UInt8 := dkwX3_readNever_3 ++ dktX3_readNever_4
def dkwX3_readNever_2 : List UInt8 := [29, 182, 1, 21, 42, 180, 1, 8, 158, 0, 4, 177, 6, 42, 180, 1, 41, 104, 54, 4, 31, 20, 1, 39]
abbrev dktX3_readNever_2 : List UInt8 := dkwX3_readNever_2 ++ dktX3_readNever_3
def dkwX3_readNever_1 : List UInt8 := [167, 0, 4, 3, 62, 29, 153, 0, 17, 42, 180, 1, 41, 16, 16, 160, 0, 8, 42, 6, 182, 1, 14, 42]
abbrev dktX3_readNever_1 : List UInt8 := dkwX3_readNever_1 ++ dktX3_readNever_2
def dkwX3_readNever_0 : List UInt8 := [42, 182, 1, 25, 64, 31, 20, 1, 37, 148, 153, 0, 11, 31, 20, 1, 39, 148, 154, 0, 7, 4]
abbrev dktX3_readNever_0 : List UInt8 := dkwX3_readNever_0 ++ dktX3_readNever_1
theorem dksX3_readNever_0 : cX3_readNever.data.toList.drop 0 = dktX3_readNever_0 := by decide +kernel
theorem dksX3_readNever_1 : cX3_readNever.data.toList.drop 22 = dktX3_readNever_1 := dk_seg dksX3_readNever_0 22 rfl rfl
theorem dksX3_readNever_2 : cX3_readNever.data.toList.drop 46 = dktX3_readNever_2 := dk_seg dksX3_readNever_1 24 rfl rfl
theorem dksX3_readNever_3 : cX3_readNever.data.toList.drop 70 = dktX3_readNever_3 := dk_seg dksX3_readNever_2 24 rfl rfl
theorem dksX3_readNever_4 : cX3_readNever.data.toList.drop 94 = dktX3_readNever_4 := dk_seg dksX3_readNever_3 24 rfl rfl
theorem dksX3_readNever_5 : cX3_readNever.data.toList.drop 117 = dktX3_readNever_5 := dk_seg dksX3_readNever_4 23 rfl rfl
theorem dksX3_readNever_6 : cX3_readNever.data.toList.drop 141 = dktX3_readNever_6 := dk_seg dksX3_readNever_5 24 rfl rfl
theorem dksX3_readNever_7 : cX3_readNever.data.toList.drop 163 = dktX3_readNever_7 := dk_seg dksX3_readNever_6 22 rfl rfl
theorem dksX3_readNever_8 : cX3_readNever.data.toList.drop 187 = dktX3_readNever_8 := dk_seg dksX3_readNever_7 24 rfl rfl
theorem dksX3_readNever_9 : cX3_readNever.data.toList.drop 211 = dktX3_readNever_9 := dk_seg dksX3_readNever_8 24 rfl rfl
theorem dksX3_readNever_10 : cX3_readNever.data.toList.drop 235 = dktX3_readNever_10 := dk_seg dksX3_readNever_9 24 rfl rfl
theorem dksX3_readNever_11 : cX3_readNever.data.toList.drop 257 = dktX3_readNever_11 := dk_seg dksX3_readNever_10 22 rfl rfl
theorem dksX3_readNever_12 : cX3_readNever.data.toList.drop 281 = dktX3_readNever_12 := dk_seg dksX3_readNever_11 24 rfl rfl
theorem dX3_readNever_0 : decode cX3_readNever 0 = .ok (.aload_n 0, 1) := dk_42 (dk_at dksX3_readNever_0 0 rfl rfl)
theorem dX3_readNever_1 : decode cX3_readNever 1 = .ok (.invokevirtual 281, 3) := dk_182 1 25 (dk_at dksX3_readNever_0 1 rfl rfl)
theorem dX3_readNever_4 : decode cX3_readNever 4 = .ok (.lstore_n 1, 1) := dk_64 (dk_at dksX3_readNever_0 4 rfl rfl)
theorem dX3_readNever_5 : decode cX3_readNever 5 = .ok (.lload_n 1, 1) := dk_31 (dk_at dksX3_readNever_0 5 rfl rfl)
theorem dX3_readNever_6 : decode cX3_readNever 6 = .ok (.ldc2_w 293, 3) := dk_20 1 37 (dk_at dksX3_readNever_0 6 rfl rfl)
theorem dX3_readNever_9 : decode cX3_readNever 9 = .ok (.lcmp, 1) := dk_148 (dk_at dksX3_readNever_0 9 rfl rfl)
theorem dX3_readNever_10 : decode cX3_readNever 10 = .ok (.ifCond .eq 11, 3) := dk_153 0 11 (dk_at dksX3_readNever_0 10 rfl rfl)
theorem dX3_readNever_13 : decode cX3_readNever 13 = .ok (.lload_n 1, 1) := dk_31 (dk_at dksX3_readNever_0 13 rfl rfl)
theorem dX3_readNever_14 : decode cX3_readNever 14 = .ok (.ldc2_w 295, 3) := dk_20 1 39 (dk_at dksX3_readNever_0 14 rfl rfl)
theorem dX3_readNever_17 : decode cX3_readNever 17 = .ok (.lcmp, 1) := dk_148 (dk_at dksX3_readNever_0 17 rfl rfl)
theorem dX3_readNever_18 : decode cX3_readNever 18 = .ok (.ifCond .ne 7, 3) := dk_154 0 7 (dk_at dksX3_readNever_0 18 rfl rfl)
theorem dX3_readNever_21 : decode cX3_readNever 21 = .ok (.iconst 1, 1) := dk_4 (dk_at dksX3_readNever_0 21 rfl rfl)
theorem dX3_readNever_22 : decode cX3_readNever 22 = .ok (.goto 4, 3) := dk_167 0 4 (dk_at dksX3_readNever_1 0 rfl rfl)
theorem dX3_readNever_25 : decode cX3_readNever 25 = .ok (.iconst 0, 1) := dk_3 (dk_at dksX3_readNever_1 3 rfl rfl)
theorem dX3_readNever_26 : decode cX3_readNever 26 = .ok (.istore_n 3, 1) := dk_62 (dk_at dksX3_readNever_1 4 rfl rfl)
theorem dX3_readNever_27 : decode cX3_readNever 27 = .ok (.iload_n 3, 1) := dk_29 (dk_at dksX3_readNever_1 5 rfl rfl)
theorem dX3_readNever_28 : decode cX3_readNever 28 = .ok (.ifCond .eq 17, 3) := dk_153 0 17 (dk_at dksX3_readNever_1 6 rfl rfl)
theorem dX3_readNever_31 : decode cX3_readNever 31 = .ok (.aload_n 0, 1) := dk_42 (dk_at dksX3_readNever_1 9 rfl rfl)
theorem dX3_readNever_32 : decode cX3_readNever 32 = .ok (.getfield 297, 3) := dk_180 1 41 (dk_at dksX3_readNever_1 10 rfl rfl)
theorem dX3_readNever_35 : decode cX3_readNever 35 = .ok (.bipush 16, 2) := dk_16 16 (dk_at dksX3_readNever_1 13 rfl rfl)
theorem dX3_readNever_37 : decode cX3_readNever 37 = .ok (.if_icmp .ne 8, 3) := dk_160 0 8 (dk_at dksX3_readNever_1 15 rfl rfl)
theorem dX3_readNever_40 : decode cX3_readNever 40 = .ok (.aload_n 0, 1) := dk_42 (dk_at dksX3_readNever_1 18 rfl rfl)
theorem dX3_readNever_41 : decode cX3_readNever 41 = .ok (.iconst 3, 1) := dk_6 (dk_at dksX3_readNever_1 19 rfl rfl)
theorem dX3_readNever_42 : decode cX3_readNever 42 = .ok (.invokevirtual 270, 3) := dk_182 1 14 (dk_at dksX3_readNever_1 20 rfl rfl)
theorem dX3_readNever_45 : decode cX3_readNever 45 = .ok (.aload_n 0, 1) := dk_42 (dk_at dksX3_readNever_1 23 rfl rfl)
theorem dX3_readNever_46 : decode cX3_readNever 46 = .ok (.iload_n 3, 1) := dk_29 (dk_at dksX3_readNever_2 0 rfl rfl)
theorem dX3_readNever_47 : decode cX3_readNever 47 = .ok (.invokevirtual 277, 3) := dk_182 1 21 (dk_at dksX3_readNever_2 1 rfl rfl)
theorem dX3_readNever_50 : decode cX3_readNever 50 = .ok (.aload_n 0, 1) := dk_42 (dk_at dksX3_readNever_2 4 rfl rfl)
theorem dX3_readNever_51 : decode cX3_readNever 51 = .ok (.getfield 264, 3) := dk_180 1 8 (dk_at dksX3_readNever_2 5 rfl rfl)
theorem dX3_readNever_54 : decode cX3_readNever 54 = .ok (.ifCond .le 4, 3) := dk_158 0 4 (dk_at dksX3_readNever_2 8 rfl rfl)
theorem dX3_readNever_57 : decode cX3_readNever 57 = .ok (.return_, 1) := dk_177 (dk_at dksX3_readNever_2 11 rfl rfl)
theorem dX3_readNever_58 : decode cX3_readNever 58 = .ok (.iconst 3, 1) := dk_6 (dk_at dksX3_readNever_2 12 rfl rfl)
theorem dX3_readNever_59 : decode cX3_readNever 59 = .ok (.aload_n 0, 1) := dk_42 (dk_at dksX3_readNever_2 13 rfl rfl)
theorem dX3_readNever_60 : decode cX3_readNever 60 = .ok (.getfield 297, 3) := dk_180 1 41 (dk_at dksX3_readNever_2 14 rfl rfl)
theorem dX3_readNever_63 : decode cX3_readNever 63 = .ok (.imul, 1) := dk_104 (dk_at dksX3_readNever_2 17 rfl rfl)
theorem dX3_readNever_64 : decode cX3_readNever 64 = .ok (.istore 4, 2) := dk_54 4 (dk_at dksX3_readNever_2 18 rfl rfl)
theorem dX3_readNever_66 : decode cX3_readNever 66 = .ok (.lload_n 1, 1) := dk_31 (dk_at dksX3_readNever_2 20 rfl rfl)
theorem dX3_readNever_67 : decode cX3_readNever 67 = .ok (.ldc2_w 295, 3) := dk_20 1 39 (dk_at dksX3_readNever_2 21 rfl rfl)
theorem dX3_readNever_70 : decode cX3_readNever 70 = .ok (.lcmp, 1) := dk_148 (dk_at dksX3_readNever_3 0 rfl rfl)
theorem dX3_readNever_71 : decode cX3_readNever 71 = .ok (.ifCond .ne 45, 3) := dk_154 0 45 (dk_at dksX3_readNever_3 1 rfl rfl)
theorem dX3_readNever_74 : decode cX3_readNever 74 = .ok (.aload_n 0, 1) := dk_42 (dk_at dksX3_readNever_3 4 rfl rfl)
theorem dX3_readNever_75 : decode cX3_readNever 75 = .ok (.getfield 55, 3) := dk_180 0 55 (dk_at dksX3_readNever_3 5 rfl rfl)
theorem dX3_readNever_78 : decode cX3_readNever 78 = .ok (.iload 4, 2) := dk_21 4 (dk_at dksX3_readNever_3 8 rfl rfl)
theorem dX3_readNever_80 : decode cX3_readNever 80 = .ok (.aload_n 0, 1) := dk_42 (dk_at dksX3_readNever_3 10 rfl rfl)
theorem dX3_readNever_81 : decode cX3_readNever 81 = .ok (.bipush 7, 2) := dk_16 7 (dk_at dksX3_readNever_3 11 rfl rfl)
theorem dX3_readNever_83 : decode cX3_readNever 83 = .ok (.invokevirtual 300, 3) := dk_182 1 44 (dk_at dksX3_readNever_3 13 rfl rfl)
theorem dX3_readNever_86 : decode cX3_readNever 86 = .ok (.iastore, 1) := dk_79 (dk_at dksX3_readNever_3 16 rfl rfl)
theorem dX3_readNever_87 : decode cX3_readNever 87 = .ok (.aload_n 0, 1) := dk_42 (dk_at dksX3_readNever_3 17 rfl rfl)
theorem dX3_readNever_88 : decode cX3_readNever 88 = .ok (.getfield 55, 3) := dk_180 0 55 (dk_at dksX3_readNever_3 18 rfl rfl)
theorem dX3_readNever_91 : decode cX3_readNever 91 = .ok (.iload 4, 2) := dk_21 4 (dk_at dksX3_readNever_3 21 rfl rfl)
theorem dX3_readNever_93 : decode cX3_readNever 93 = .ok (.iconst 1, 1) := dk_4 (dk_at dksX3_readNever_3 23 rfl rfl)
theorem dX3_readNever_94 : decode cX3_readNever 94 = .ok (.iadd, 1) := dk_96 (dk_at dksX3_readNever_4 0 rfl rfl)
theorem dX3_readNever_95 : decode cX3_readNever 95 = .ok (.iconst 4, 1) := dk_7 (dk_at dksX3_readNever_4 1 rfl rfl)
theorem dX3_readNever_96 : decode cX3_readNever 96 = .ok (.iastore, 1) := dk_79 (dk_at dksX3_readNever_4 2 rfl rfl)
theorem dX3_readNever_97 : decode cX3_readNever 97 = .ok (.aload_n 0, 1) := dk_42 (dk_at dksX3_readNever_4 3 rfl rfl)
theorem dX3_readNever_98 : decode cX3_readNever 98 = .ok (.getfield 55, 3) := dk_180 0 55 (dk_at dksX3_readNever_4 4 rfl rfl)
theorem dX3_readNever_101 : decode cX3_readNever 101 = .ok (.iload 4, 2) := dk_21 4 (dk_at dksX3_readNever_4 7 rfl rfl)
theorem dX3_readNever_103 : decode cX3_readNever 103 = .ok (.iconst 2, 1) := dk_5 (dk_at dksX3_readNever_4 9 rfl rfl)
theorem dX3_readNever_104 : decode cX3_readNever 104 = .ok (.iadd, 1) := dk_96 (dk_at dksX3_readNever_4 10 rfl rfl)
theorem dX3_readNever_105 : decode cX3_readNever 105 = .ok (.aload_n 0, 1) := dk_42 (dk_at dksX3_readNever_4 11 rfl rfl)
theorem dX3_readNever_106 : decode cX3_readNever 106 = .ok (.sipush 200, 3) := dk_17 0 200 (dk_at dksX3_readNever_4 12 rfl rfl)
theorem dX3_readNever_109 : decode cX3_readNever 109 = .ok (.invokevirtual 300, 3) := dk_182 1 44 (dk_at dksX3_readNever_4 15 rfl rfl)
theorem dX3_readNever_112 : decode cX3_readNever 112 = .ok (.iastore, 1) := dk_79 (dk_at dksX3_readNever_4 18 rfl rfl)
theorem dX3_readNever_113 : decode cX3_readNever 113 = .ok (.goto 148, 3) := dk_167 0 148 (dk_at dksX3_readNever_4 19 rfl rfl)
theorem dX3_readNever_116 : decode cX3_readNever 116 = .ok (.aload_n 0, 1) := dk_42 (dk_at dksX3_readNever_4 22 rfl rfl)
theorem dX3_readNever_117 : decode cX3_readNever 117 = .ok (.getfield 55, 3) := dk_180 0 55 (dk_at dksX3_readNever_5 0 rfl rfl)
theorem dX3_readNever_120 : decode cX3_readNever 120 = .ok (.iload 4, 2) := dk_21 4 (dk_at dksX3_readNever_5 3 rfl rfl)
theorem dX3_readNever_122 : decode cX3_readNever 122 = .ok (.aload_n 0, 1) := dk_42 (dk_at dksX3_readNever_5 5 rfl rfl)
theorem dX3_readNever_123 : decode cX3_readNever 123 = .ok (.invokevirtual 303, 3) := dk_182 1 47 (dk_at dksX3_readNever_5 6 rfl rfl)
theorem dX3_readNever_126 : decode cX3_readNever 126 = .ok (.iastore, 1) := dk_79 (dk_at dksX3_readNever_5 9 rfl rfl)
theorem dX3_readNever_127 : decode cX3_readNever 127 = .ok (.aload_n 0, 1) := dk_42 (dk_at dksX3_readNever_5 10 rfl rfl)
theorem dX3_readNever_128 : decode cX3_readNever 128 = .ok (.getfield 264, 3) := dk_180 1 8 (dk_at dksX3_readNever_5 11 rfl rfl)
theorem dX3_readNever_131 : decode cX3_readNever 131 = .ok (.ifCond .ne 95, 3) := dk_154 0 95 (dk_at dksX3_readNever_5 14 rfl rfl)
theorem dX3_readNever_134 : decode cX3_readNever 134 = .ok (.aload_n 0, 1) := dk_42 (dk_at dksX3_readNever_5 17 rfl rfl)
theorem dX3_readNever_135 : decode cX3_readNever 135 = .ok (.invokevirtual 281, 3) := dk_182 1 25 (dk_at dksX3_readNever_5 18 rfl rfl)
theorem dX3_readNever_138 : decode cX3_readNever 138 = .ok (.lstore 5, 2) := dk_55 5 (dk_at dksX3_readNever_5 21 rfl rfl)
theorem dX3_readNever_140 : decode cX3_readNever 140 = .ok (.aload_n 0, 1) := dk_42 (dk_at dksX3_readNever_5 23 rfl rfl)
theorem dX3_readNever_141 : decode cX3_readNever 141 = .ok (.getfield 55, 3) := dk_180 0 55 (dk_at dksX3_readNever_6 0 rfl rfl)
theorem dX3_readNever_144 : decode cX3_readNever 144 = .ok (.iload 4, 2) := dk_21 4 (dk_at dksX3_readNever_6 3 rfl rfl)
theorem dX3_readNever_146 : decode cX3_readNever 146 = .ok (.iconst 1, 1) := dk_4 (dk_at dksX3_readNever_6 5 rfl rfl)
theorem dX3_readNever_147 : decode cX3_readNever 147 = .ok (.iadd, 1) := dk_96 (dk_at dksX3_readNever_6 6 rfl rfl)
theorem dX3_readNever_148 : decode cX3_readNever 148 = .ok (.lload 5, 2) := dk_22 5 (dk_at dksX3_readNever_6 7 rfl rfl)
theorem dX3_readNever_150 : decode cX3_readNever 150 = .ok (.ldc2_w 306, 3) := dk_20 1 50 (dk_at dksX3_readNever_6 9 rfl rfl)
theorem dX3_readNever_153 : decode cX3_readNever 153 = .ok (.lcmp, 1) := dk_148 (dk_at dksX3_readNever_6 12 rfl rfl)
theorem dX3_readNever_154 : decode cX3_readNever 154 = .ok (.ifCond .ne 7, 3) := dk_154 0 7 (dk_at dksX3_readNever_6 13 rfl rfl)
theorem dX3_readNever_157 : decode cX3_readNever 157 = .ok (.iconst 0, 1) := dk_3 (dk_at dksX3_readNever_6 16 rfl rfl)
theorem dX3_readNever_158 : decode cX3_readNever 158 = .ok (.goto 44, 3) := dk_167 0 44 (dk_at dksX3_readNever_6 17 rfl rfl)
theorem dX3_readNever_161 : decode cX3_readNever 161 = .ok (.lload 5, 2) := dk_22 5 (dk_at dksX3_readNever_6 20 rfl rfl)
theorem dX3_readNever_163 : decode cX3_readNever 163 = .ok (.ldc2_w 308, 3) := dk_20 1 52 (dk_at dksX3_readNever_7 0 rfl rfl)
theorem dX3_readNever_166 : decode cX3_readNever 166 = .ok (.lcmp, 1) := dk_148 (dk_at dksX3_readNever_7 3 rfl rfl)
theorem dX3_readNever_167 : decode cX3_readNever 167 = .ok (.ifCond .ne 7, 3) := dk_154 0 7 (dk_at dksX3_readNever_7 4 rfl rfl)
theorem dX3_readNever_170 : decode cX3_readNever 170 = .ok (.iconst 1, 1) := dk_4 (dk_at dksX3_readNever_7 7 rfl rfl)
theorem dX3_readNever_171 : decode cX3_readNever 171 = .ok (.goto 31, 3) := dk_167 0 31 (dk_at dksX3_readNever_7 8 rfl rfl)
theorem dX3_readNever_174 : decode cX3_readNever 174 = .ok (.lload 5, 2) := dk_22 5 (dk_at dksX3_readNever_7 11 rfl rfl)
theorem dX3_readNever_176 : decode cX3_readNever 176 = .ok (.ldc2_w 310, 3) := dk_20 1 54 (dk_at dksX3_readNever_7 13 rfl rfl)
theorem dX3_readNever_179 : decode cX3_readNever 179 = .ok (.lcmp, 1) := dk_148 (dk_at dksX3_readNever_7 16 rfl rfl)
theorem dX3_readNever_180 : decode cX3_readNever 180 = .ok (.ifCond .ne 7, 3) := dk_154 0 7 (dk_at dksX3_readNever_7 17 rfl rfl)
theorem dX3_readNever_183 : decode cX3_readNever 183 = .ok (.iconst 2, 1) := dk_5 (dk_at dksX3_readNever_7 20 rfl rfl)
theorem dX3_readNever_184 : decode cX3_readNever 184 = .ok (.goto 18, 3) := dk_167 0 18 (dk_at dksX3_readNever_7 21 rfl rfl)
theorem dX3_readNever_187 : decode cX3_readNever 187 = .ok (.lload 5, 2) := dk_22 5 (dk_at dksX3_readNever_8 0 rfl rfl)
theorem dX3_readNever_189 : decode cX3_readNever 189 = .ok (.ldc2_w 312, 3) := dk_20 1 56 (dk_at dksX3_readNever_8 2 rfl rfl)
theorem dX3_readNever_192 : decode cX3_readNever 192 = .ok (.lcmp, 1) := dk_148 (dk_at dksX3_readNever_8 5 rfl rfl)
theorem dX3_readNever_193 : decode cX3_readNever 193 = .ok (.ifCond .ne 7, 3) := dk_154 0 7 (dk_at dksX3_readNever_8 6 rfl rfl)
theorem dX3_readNever_196 : decode cX3_readNever 196 = .ok (.iconst 3, 1) := dk_6 (dk_at dksX3_readNever_8 9 rfl rfl)
theorem dX3_readNever_197 : decode cX3_readNever 197 = .ok (.goto 5, 3) := dk_167 0 5 (dk_at dksX3_readNever_8 10 rfl rfl)
theorem dX3_readNever_200 : decode cX3_readNever 200 = .ok (.ldc 81, 2) := dk_18 81 (dk_at dksX3_readNever_8 13 rfl rfl)
theorem dX3_readNever_202 : decode cX3_readNever 202 = .ok (.iastore, 1) := dk_79 (dk_at dksX3_readNever_8 15 rfl rfl)
theorem dX3_readNever_203 : decode cX3_readNever 203 = .ok (.aload_n 0, 1) := dk_42 (dk_at dksX3_readNever_8 16 rfl rfl)
theorem dX3_readNever_204 : decode cX3_readNever 204 = .ok (.aload_n 0, 1) := dk_42 (dk_at dksX3_readNever_8 17 rfl rfl)
theorem dX3_readNever_205 : decode cX3_readNever 205 = .ok (.getfield 55, 3) := dk_180 0 55 (dk_at dksX3_readNever_8 18 rfl rfl)
theorem dX3_readNever_208 : decode cX3_readNever 208 = .ok (.iload 4, 2) := dk_21 4 (dk_at dksX3_readNever_8 21 rfl rfl)
theorem dX3_readNever_210 : decode cX3_readNever 210 = .ok (.iconst 1, 1) := dk_4 (dk_at dksX3_readNever_8 23 rfl rfl)
theorem dX3_readNever_211 : decode cX3_readNever 211 = .ok (.iadd, 1) := dk_96 (dk_at dksX3_readNever_9 0 rfl rfl)
theorem dX3_readNever_212 : decode cX3_readNever 212 = .ok (.iaload, 1) := dk_46 (dk_at dksX3_readNever_9 1 rfl rfl)
theorem dX3_readNever_213 : decode cX3_readNever 213 = .ok (.ldc 81, 2) := dk_18 81 (dk_at dksX3_readNever_9 2 rfl rfl)
theorem dX3_readNever_215 : decode cX3_readNever 215 = .ok (.if_icmp .eq 7, 3) := dk_159 0 7 (dk_at dksX3_readNever_9 4 rfl rfl)
theorem dX3_readNever_218 : decode cX3_readNever 218 = .ok (.iconst 1, 1) := dk_4 (dk_at dksX3_readNever_9 7 rfl rfl)
theorem dX3_readNever_219 : decode cX3_readNever 219 = .ok (.goto 4, 3) := dk_167 0 4 (dk_at dksX3_readNever_9 8 rfl rfl)
theorem dX3_readNever_222 : decode cX3_readNever 222 = .ok (.iconst 0, 1) := dk_3 (dk_at dksX3_readNever_9 11 rfl rfl)
theorem dX3_readNever_223 : decode cX3_readNever 223 = .ok (.invokevirtual 277, 3) := dk_182 1 21 (dk_at dksX3_readNever_9 12 rfl rfl)
theorem dX3_readNever_226 : decode cX3_readNever 226 = .ok (.aload_n 0, 1) := dk_42 (dk_at dksX3_readNever_9 15 rfl rfl)
theorem dX3_readNever_227 : decode cX3_readNever 227 = .ok (.getfield 55, 3) := dk_180 0 55 (dk_at dksX3_readNever_9 16 rfl rfl)
theorem dX3_readNever_230 : decode cX3_readNever 230 = .ok (.iload 4, 2) := dk_21 4 (dk_at dksX3_readNever_9 19 rfl rfl)
theorem dX3_readNever_232 : decode cX3_readNever 232 = .ok (.iconst 2, 1) := dk_5 (dk_at dksX3_readNever_9 21 rfl rfl)
theorem dX3_readNever_233 : decode cX3_readNever 233 = .ok (.iadd, 1) := dk_96 (dk_at dksX3_readNever_9 22 rfl rfl)
theorem dX3_readNever_234 : decode cX3_readNever 234 = .ok (.aload_n 0, 1) := dk_42 (dk_at dksX3_readNever_9 23 rfl rfl)
theorem dX3_readNever_235 : decode cX3_readNever 235 = .ok (.getfield 55, 3) := dk_180 0 55 (dk_at dksX3_readNever_10 0 rfl rfl)
theorem dX3_readNever_238 : decode cX3_readNever 238 = .ok (.iload 4, 2) := dk_21 4 (dk_at dksX3_readNever_10 3 rfl rfl)
theorem dX3_readNever_240 : decode cX3_readNever 240 = .ok (.iconst 1, 1) := dk_4 (dk_at dksX3_readNever_10 5 rfl rfl)
theorem dX3_readNever_241 : decode cX3_readNever 241 = .ok (.iadd, 1) := dk_96 (dk_at dksX3_readNever_10 6 rfl rfl)
theorem dX3_readNever_242 : decode cX3_readNever 242 = .ok (.iaload, 1) := dk_46 (dk_at dksX3_readNever_10 7 rfl rfl)
theorem dX3_readNever_243 : decode cX3_readNever 243 = .ok (.iconst 3, 1) := dk_6 (dk_at dksX3_readNever_10 8 rfl rfl)
theorem dX3_readNever_244 : decode cX3_readNever 244 = .ok (.if_icmp .ne 12, 3) := dk_160 0 12 (dk_at dksX3_readNever_10 9 rfl rfl)
theorem dX3_readNever_247 : decode cX3_readNever 247 = .ok (.aload_n 0, 1) := dk_42 (dk_at dksX3_readNever_10 12 rfl rfl)
theorem dX3_readNever_248 : decode cX3_readNever 248 = .ok (.bipush 7, 2) := dk_16 7 (dk_at dksX3_readNever_10 13 rfl rfl)
theorem dX3_readNever_250 : decode cX3_readNever 250 = .ok (.invokevirtual 300, 3) := dk_182 1 44 (dk_at dksX3_readNever_10 15 rfl rfl)
theorem dX3_readNever_253 : decode cX3_readNever 253 = .ok (.goto 7, 3) := dk_167 0 7 (dk_at dksX3_readNever_10 18 rfl rfl)
theorem dX3_readNever_256 : decode cX3_readNever 256 = .ok (.aload_n 0, 1) := dk_42 (dk_at dksX3_readNever_10 21 rfl rfl)
theorem dX3_readNever_257 : decode cX3_readNever 257 = .ok (.invokevirtual 303, 3) := dk_182 1 47 (dk_at dksX3_readNever_11 0 rfl rfl)
theorem dX3_readNever_260 : decode cX3_readNever 260 = .ok (.iastore, 1) := dk_79 (dk_at dksX3_readNever_11 3 rfl rfl)
theorem dX3_readNever_261 : decode cX3_readNever 261 = .ok (.aload_n 0, 1) := dk_42 (dk_at dksX3_readNever_11 4 rfl rfl)
theorem dX3_readNever_262 : decode cX3_readNever 262 = .ok (.getfield 264, 3) := dk_180 1 8 (dk_at dksX3_readNever_11 5 rfl rfl)
theorem dX3_readNever_265 : decode cX3_readNever 265 = .ok (.ifCond .ne 20, 3) := dk_154 0 20 (dk_at dksX3_readNever_11 8 rfl rfl)
theorem dX3_readNever_268 : decode cX3_readNever 268 = .ok (.aload_n 0, 1) := dk_42 (dk_at dksX3_readNever_11 11 rfl rfl)
theorem dX3_readNever_269 : decode cX3_readNever 269 = .ok (.aload_n 0, 1) := dk_42 (dk_at dksX3_readNever_11 12 rfl rfl)
theorem dX3_readNever_270 : decode cX3_readNever 270 = .ok (.getfield 252, 3) := dk_180 0 252 (dk_at dksX3_readNever_11 13 rfl rfl)
theorem dX3_readNever_273 : decode cX3_readNever 273 = .ok (.iconst 4, 1) := dk_7 (dk_at dksX3_readNever_11 16 rfl rfl)
theorem dX3_readNever_274 : decode cX3_readNever 274 = .ok (.if_icmp .ne 7, 3) := dk_160 0 7 (dk_at dksX3_readNever_11 17 rfl rfl)
theorem dX3_readNever_277 : decode cX3_readNever 277 = .ok (.iconst 1, 1) := dk_4 (dk_at dksX3_readNever_11 20 rfl rfl)
theorem dX3_readNever_278 : decode cX3_readNever 278 = .ok (.goto 4, 3) := dk_167 0 4 (dk_at dksX3_readNever_11 21 rfl rfl)
theorem dX3_readNever_281 : decode cX3_readNever 281 = .ok (.iconst 0, 1) := dk_3 (dk_at dksX3_readNever_12 0 rfl rfl)
theorem dX3_readNever_282 : decode cX3_readNever 282 = .ok (.invokevirtual 277, 3) := dk_182 1 21 (dk_at dksX3_readNever_12 1 rfl rfl)
theorem dX3_readNever_285 : decode cX3_readNever 285 = .ok (.aload_n 0, 1) := dk_42 (dk_at dksX3_readNever_12 4 rfl rfl)
theorem dX3_readNever_286 : decode cX3_readNever 286 = .ok (.dup, 1) := dk_89 (dk_at dksX3_readNever_12 5 rfl rfl)
theorem dX3_readNever_287 : decode cX3_readNever 287 = .ok (.getfield 297, 3) := dk_180 1 41 (dk_at dksX3_readNever_12 6 rfl rfl)
theorem dX3_readNever_290 : decode cX3_readNever 290 = .ok (.iconst 1, 1) := dk_4 (dk_at dksX3_readNever_12 9 rfl rfl)
theorem dX3_readNever_291 : decode cX3_readNever 291 = .ok (.iadd, 1) := dk_96 (dk_at dksX3_readNever_12 10 rfl rfl)
theorem dX3_readNever_292 : decode cX3_readNever 292 = .ok (.putfield 297, 3) := dk_181 1 41 (dk_at dksX3_readNever_12 11 rfl rfl)
theorem dX3_readNever_295 : decode cX3_readNever 295 = .ok (.return_, 1) := dk_177 (dk_at dksX3_readNever_12 14 rfl rfl)
abbrev cX3_word : ByteArray := prog_18_method_71_code
def yX3_word : MethodName := ⟨RX3, "word", "()J"⟩
def dkwX3_word_2 : List UInt8 := [129, 64, 132, 3, 1, 167, 255, 210, 31, 173]
abbrev dktX3_word_2 : List UInt8 := dkwX3_word_2 ++ []
def dkwX3_word_1 : List UInt8 := [180, 1, 5, 42, 180, 0, 249, 100, 16, 8, 162, 0, 22, 31, 16, 8, 121, 42, 180, 0, 58, 29, 46, 133]
abbrev dktX3_word_1 : List UInt8 := dkwX3_word_1 ++ dktX3_word_2
def dkwX3_word_0 : List UInt8 := [9, 64, 42, 180, 0, 249, 62, 29, 42, 180, 1, 5, 162, 0, 44, 42, 180, 0, 252, 5, 160, 0, 36, 42]
abbrev dktX3_word_0 : List UInt8 := dkwX3_word_0 ++ dktX3_word_1
theorem dksX3_word_0 : cX3_word.data.toList.drop 0 = dktX3_word_0 := by decide +kernel
theorem dksX3_word_1 : cX3_word.data.toList.drop 24 = dktX3_word_1 := dk_seg dksX3_word_0 24 rfl rfl
theorem dksX3_word_2 : cX3_word.data.toList.drop 48 = dktX3_word_2 := dk_seg dksX3_word_1 24 rfl rfl
theorem dX3_word_0 : decode cX3_word 0 = .ok (.lconst 0, 1) := dk_9 (dk_at dksX3_word_0 0 rfl rfl)
theorem dX3_word_1 : decode cX3_word 1 = .ok (.lstore_n 1, 1) := dk_64 (dk_at dksX3_word_0 1 rfl rfl)
theorem dX3_word_2 : decode cX3_word 2 = .ok (.aload_n 0, 1) := dk_42 (dk_at dksX3_word_0 2 rfl rfl)
theorem dX3_word_3 : decode cX3_word 3 = .ok (.getfield 249, 3) := dk_180 0 249 (dk_at dksX3_word_0 3 rfl rfl)
theorem dX3_word_6 : decode cX3_word 6 = .ok (.istore_n 3, 1) := dk_62 (dk_at dksX3_word_0 6 rfl rfl)
theorem dX3_word_7 : decode cX3_word 7 = .ok (.iload_n 3, 1) := dk_29 (dk_at dksX3_word_0 7 rfl rfl)
theorem dX3_word_8 : decode cX3_word 8 = .ok (.aload_n 0, 1) := dk_42 (dk_at dksX3_word_0 8 rfl rfl)
theorem dX3_word_9 : decode cX3_word 9 = .ok (.getfield 261, 3) := dk_180 1 5 (dk_at dksX3_word_0 9 rfl rfl)
theorem dX3_word_12 : decode cX3_word 12 = .ok (.if_icmp .ge 44, 3) := dk_162 0 44 (dk_at dksX3_word_0 12 rfl rfl)
theorem dX3_word_15 : decode cX3_word 15 = .ok (.aload_n 0, 1) := dk_42 (dk_at dksX3_word_0 15 rfl rfl)
theorem dX3_word_16 : decode cX3_word 16 = .ok (.getfield 252, 3) := dk_180 0 252 (dk_at dksX3_word_0 16 rfl rfl)
theorem dX3_word_19 : decode cX3_word 19 = .ok (.iconst 2, 1) := dk_5 (dk_at dksX3_word_0 19 rfl rfl)
theorem dX3_word_20 : decode cX3_word 20 = .ok (.if_icmp .ne 36, 3) := dk_160 0 36 (dk_at dksX3_word_0 20 rfl rfl)
theorem dX3_word_23 : decode cX3_word 23 = .ok (.aload_n 0, 1) := dk_42 (dk_at dksX3_word_0 23 rfl rfl)
theorem dX3_word_24 : decode cX3_word 24 = .ok (.getfield 261, 3) := dk_180 1 5 (dk_at dksX3_word_1 0 rfl rfl)
theorem dX3_word_27 : decode cX3_word 27 = .ok (.aload_n 0, 1) := dk_42 (dk_at dksX3_word_1 3 rfl rfl)
theorem dX3_word_28 : decode cX3_word 28 = .ok (.getfield 249, 3) := dk_180 0 249 (dk_at dksX3_word_1 4 rfl rfl)
theorem dX3_word_31 : decode cX3_word 31 = .ok (.isub, 1) := dk_100 (dk_at dksX3_word_1 7 rfl rfl)
theorem dX3_word_32 : decode cX3_word 32 = .ok (.bipush 8, 2) := dk_16 8 (dk_at dksX3_word_1 8 rfl rfl)
theorem dX3_word_34 : decode cX3_word 34 = .ok (.if_icmp .ge 22, 3) := dk_162 0 22 (dk_at dksX3_word_1 10 rfl rfl)
theorem dX3_word_37 : decode cX3_word 37 = .ok (.lload_n 1, 1) := dk_31 (dk_at dksX3_word_1 13 rfl rfl)
theorem dX3_word_38 : decode cX3_word 38 = .ok (.bipush 8, 2) := dk_16 8 (dk_at dksX3_word_1 14 rfl rfl)
theorem dX3_word_40 : decode cX3_word 40 = .ok (.lshl, 1) := dk_121 (dk_at dksX3_word_1 16 rfl rfl)
theorem dX3_word_41 : decode cX3_word 41 = .ok (.aload_n 0, 1) := dk_42 (dk_at dksX3_word_1 17 rfl rfl)
theorem dX3_word_42 : decode cX3_word 42 = .ok (.getfield 58, 3) := dk_180 0 58 (dk_at dksX3_word_1 18 rfl rfl)
theorem dX3_word_45 : decode cX3_word 45 = .ok (.iload_n 3, 1) := dk_29 (dk_at dksX3_word_1 21 rfl rfl)
theorem dX3_word_46 : decode cX3_word 46 = .ok (.iaload, 1) := dk_46 (dk_at dksX3_word_1 22 rfl rfl)
theorem dX3_word_47 : decode cX3_word 47 = .ok (.i2l, 1) := dk_133 (dk_at dksX3_word_1 23 rfl rfl)
theorem dX3_word_48 : decode cX3_word 48 = .ok (.lor, 1) := dk_129 (dk_at dksX3_word_2 0 rfl rfl)
theorem dX3_word_49 : decode cX3_word 49 = .ok (.lstore_n 1, 1) := dk_64 (dk_at dksX3_word_2 1 rfl rfl)
theorem dX3_word_50 : decode cX3_word 50 = .ok (.iinc 3 1, 3) := dk_132 3 1 (dk_at dksX3_word_2 2 rfl rfl)
theorem dX3_word_53 : decode cX3_word 53 = .ok (.goto (-46), 3) := dk_167 255 210 (dk_at dksX3_word_2 5 rfl rfl)
theorem dX3_word_56 : decode cX3_word 56 = .ok (.lload_n 1, 1) := dk_31 (dk_at dksX3_word_2 8 rfl rfl)
theorem dX3_word_57 : decode cX3_word 57 = .ok (.lreturn, 1) := dk_173 (dk_at dksX3_word_2 9 rfl rfl)
abbrev cX3_bad : ByteArray := prog_18_method_69_code
def yX3_bad : MethodName := ⟨RX3, "bad", "(I)V"⟩
def dkwX3_bad_0 : List UInt8 := [42, 180, 1, 8, 154, 0, 16, 42, 27, 181, 1, 8, 42, 42, 180, 0, 249, 181, 1, 11, 177]
abbrev dktX3_bad_0 : List UInt8 := dkwX3_bad_0 ++ []
theorem dksX3_bad_0 : cX3_bad.data.toList.drop 0 = dktX3_bad_0 := by decide +kernel
theorem dX3_bad_0 : decode cX3_bad 0 = .ok (.aload_n 0, 1) := dk_42 (dk_at dksX3_bad_0 0 rfl rfl)
theorem dX3_bad_1 : decode cX3_bad 1 = .ok (.getfield 264, 3) := dk_180 1 8 (dk_at dksX3_bad_0 1 rfl rfl)
theorem dX3_bad_4 : decode cX3_bad 4 = .ok (.ifCond .ne 16, 3) := dk_154 0 16 (dk_at dksX3_bad_0 4 rfl rfl)
theorem dX3_bad_7 : decode cX3_bad 7 = .ok (.aload_n 0, 1) := dk_42 (dk_at dksX3_bad_0 7 rfl rfl)
theorem dX3_bad_8 : decode cX3_bad 8 = .ok (.iload_n 1, 1) := dk_27 (dk_at dksX3_bad_0 8 rfl rfl)
theorem dX3_bad_9 : decode cX3_bad 9 = .ok (.putfield 264, 3) := dk_181 1 8 (dk_at dksX3_bad_0 9 rfl rfl)
theorem dX3_bad_12 : decode cX3_bad 12 = .ok (.aload_n 0, 1) := dk_42 (dk_at dksX3_bad_0 12 rfl rfl)
theorem dX3_bad_13 : decode cX3_bad 13 = .ok (.aload_n 0, 1) := dk_42 (dk_at dksX3_bad_0 13 rfl rfl)
theorem dX3_bad_14 : decode cX3_bad 14 = .ok (.getfield 249, 3) := dk_180 0 249 (dk_at dksX3_bad_0 14 rfl rfl)
theorem dX3_bad_17 : decode cX3_bad 17 = .ok (.putfield 267, 3) := dk_181 1 11 (dk_at dksX3_bad_0 17 rfl rfl)
theorem dX3_bad_20 : decode cX3_bad 20 = .ok (.return_, 1) := dk_177 (dk_at dksX3_bad_0 20 rfl rfl)
abbrev cX3_must : ByteArray := prog_18_method_70_code
def yX3_must : MethodName := ⟨RX3, "must", "(Z)V"⟩
def dkwX3_must_0 : List UInt8 := [27, 154, 0, 8, 42, 4, 182, 1, 14, 42, 180, 1, 8, 154, 0, 7, 42, 182, 1, 18, 177]
abbrev dktX3_must_0 : List UInt8 := dkwX3_must_0 ++ []
theorem dksX3_must_0 : cX3_must.data.toList.drop 0 = dktX3_must_0 := by decide +kernel
theorem dX3_must_0 : decode cX3_must 0 = .ok (.iload_n 1, 1) := dk_27 (dk_at dksX3_must_0 0 rfl rfl)
theorem dX3_must_1 : decode cX3_must 1 = .ok (.ifCond .ne 8, 3) := dk_154 0 8 (dk_at dksX3_must_0 1 rfl rfl)
theorem dX3_must_4 : decode cX3_must 4 = .ok (.aload_n 0, 1) := dk_42 (dk_at dksX3_must_0 4 rfl rfl)
theorem dX3_must_5 : decode cX3_must 5 = .ok (.iconst 1, 1) := dk_4 (dk_at dksX3_must_0 5 rfl rfl)
theorem dX3_must_6 : decode cX3_must 6 = .ok (.invokevirtual 270, 3) := dk_182 1 14 (dk_at dksX3_must_0 6 rfl rfl)
theorem dX3_must_9 : decode cX3_must 9 = .ok (.aload_n 0, 1) := dk_42 (dk_at dksX3_must_0 9 rfl rfl)
theorem dX3_must_10 : decode cX3_must 10 = .ok (.getfield 264, 3) := dk_180 1 8 (dk_at dksX3_must_0 10 rfl rfl)
theorem dX3_must_13 : decode cX3_must 13 = .ok (.ifCond .ne 7, 3) := dk_154 0 7 (dk_at dksX3_must_0 13 rfl rfl)
theorem dX3_must_16 : decode cX3_must 16 = .ok (.aload_n 0, 1) := dk_42 (dk_at dksX3_must_0 16 rfl rfl)
theorem dX3_must_17 : decode cX3_must 17 = .ok (.invokevirtual 274, 3) := dk_182 1 18 (dk_at dksX3_must_0 17 rfl rfl)
theorem dX3_must_20 : decode cX3_must 20 = .ok (.return_, 1) := dk_177 (dk_at dksX3_must_0 20 rfl rfl)
abbrev cX3_numberTo : ByteArray := prog_18_method_72_code
def yX3_numberTo : MethodName := ⟨RX3, "numberTo", "(I)I"⟩
def dkwX3_numberTo_3 : List UInt8 := [42, 42, 180, 0, 252, 6, 160, 0, 7, 4, 167, 0, 4, 3, 182, 1, 21, 28, 172]
abbrev dktX3_numberTo_3 : List UInt8 := dkwX3_numberTo_3 ++ []
def dkwX3_numberTo_2 : List UInt8 := [132, 3, 1, 167, 255, 222, 42, 180, 0, 252, 6, 160, 0, 13, 28, 27, 164, 0, 8, 42, 5, 182, 1, 14]
abbrev dktX3_numberTo_2 : List UInt8 := dkwX3_numberTo_2 ++ dktX3_numberTo_3
def dkwX3_numberTo_1 : List UInt8 := [42, 180, 0, 252, 6, 160, 0, 24, 16, 10, 28, 104, 42, 180, 0, 58, 29, 46, 96, 16, 48, 100, 61]
abbrev dktX3_numberTo_1 : List UInt8 := dkwX3_numberTo_1 ++ dktX3_numberTo_2
def dkwX3_numberTo_0 : List UInt8 := [42, 180, 1, 8, 158, 0, 5, 3, 172, 3, 61, 42, 180, 0, 249, 62, 29, 42, 180, 1, 5, 162, 0, 32]
abbrev dktX3_numberTo_0 : List UInt8 := dkwX3_numberTo_0 ++ dktX3_numberTo_1
theorem dksX3_numberTo_0 : cX3_numberTo.data.toList.drop 0 = dktX3_numberTo_0 := by decide +kernel
theorem dksX3_numberTo_1 : cX3_numberTo.data.toList.drop 24 = dktX3_numberTo_1 := dk_seg dksX3_numberTo_0 24 rfl rfl
theorem dksX3_numberTo_2 : cX3_numberTo.data.toList.drop 47 = dktX3_numberTo_2 := dk_seg dksX3_numberTo_1 23 rfl rfl
theorem dksX3_numberTo_3 : cX3_numberTo.data.toList.drop 71 = dktX3_numberTo_3 := dk_seg dksX3_numberTo_2 24 rfl rfl
theorem dX3_numberTo_0 : decode cX3_numberTo 0 = .ok (.aload_n 0, 1) := dk_42 (dk_at dksX3_numberTo_0 0 rfl rfl)
theorem dX3_numberTo_1 : decode cX3_numberTo 1 = .ok (.getfield 264, 3) := dk_180 1 8 (dk_at dksX3_numberTo_0 1 rfl rfl)
theorem dX3_numberTo_4 : decode cX3_numberTo 4 = .ok (.ifCond .le 5, 3) := dk_158 0 5 (dk_at dksX3_numberTo_0 4 rfl rfl)
theorem dX3_numberTo_7 : decode cX3_numberTo 7 = .ok (.iconst 0, 1) := dk_3 (dk_at dksX3_numberTo_0 7 rfl rfl)
theorem dX3_numberTo_8 : decode cX3_numberTo 8 = .ok (.ireturn, 1) := dk_172 (dk_at dksX3_numberTo_0 8 rfl rfl)
theorem dX3_numberTo_9 : decode cX3_numberTo 9 = .ok (.iconst 0, 1) := dk_3 (dk_at dksX3_numberTo_0 9 rfl rfl)
theorem dX3_numberTo_10 : decode cX3_numberTo 10 = .ok (.istore_n 2, 1) := dk_61 (dk_at dksX3_numberTo_0 10 rfl rfl)
theorem dX3_numberTo_11 : decode cX3_numberTo 11 = .ok (.aload_n 0, 1) := dk_42 (dk_at dksX3_numberTo_0 11 rfl rfl)
theorem dX3_numberTo_12 : decode cX3_numberTo 12 = .ok (.getfield 249, 3) := dk_180 0 249 (dk_at dksX3_numberTo_0 12 rfl rfl)
theorem dX3_numberTo_15 : decode cX3_numberTo 15 = .ok (.istore_n 3, 1) := dk_62 (dk_at dksX3_numberTo_0 15 rfl rfl)
theorem dX3_numberTo_16 : decode cX3_numberTo 16 = .ok (.iload_n 3, 1) := dk_29 (dk_at dksX3_numberTo_0 16 rfl rfl)
theorem dX3_numberTo_17 : decode cX3_numberTo 17 = .ok (.aload_n 0, 1) := dk_42 (dk_at dksX3_numberTo_0 17 rfl rfl)
theorem dX3_numberTo_18 : decode cX3_numberTo 18 = .ok (.getfield 261, 3) := dk_180 1 5 (dk_at dksX3_numberTo_0 18 rfl rfl)
theorem dX3_numberTo_21 : decode cX3_numberTo 21 = .ok (.if_icmp .ge 32, 3) := dk_162 0 32 (dk_at dksX3_numberTo_0 21 rfl rfl)
theorem dX3_numberTo_24 : decode cX3_numberTo 24 = .ok (.aload_n 0, 1) := dk_42 (dk_at dksX3_numberTo_1 0 rfl rfl)
theorem dX3_numberTo_25 : decode cX3_numberTo 25 = .ok (.getfield 252, 3) := dk_180 0 252 (dk_at dksX3_numberTo_1 1 rfl rfl)
theorem dX3_numberTo_28 : decode cX3_numberTo 28 = .ok (.iconst 3, 1) := dk_6 (dk_at dksX3_numberTo_1 4 rfl rfl)
theorem dX3_numberTo_29 : decode cX3_numberTo 29 = .ok (.if_icmp .ne 24, 3) := dk_160 0 24 (dk_at dksX3_numberTo_1 5 rfl rfl)
theorem dX3_numberTo_32 : decode cX3_numberTo 32 = .ok (.bipush 10, 2) := dk_16 10 (dk_at dksX3_numberTo_1 8 rfl rfl)
theorem dX3_numberTo_34 : decode cX3_numberTo 34 = .ok (.iload_n 2, 1) := dk_28 (dk_at dksX3_numberTo_1 10 rfl rfl)
theorem dX3_numberTo_35 : decode cX3_numberTo 35 = .ok (.imul, 1) := dk_104 (dk_at dksX3_numberTo_1 11 rfl rfl)
theorem dX3_numberTo_36 : decode cX3_numberTo 36 = .ok (.aload_n 0, 1) := dk_42 (dk_at dksX3_numberTo_1 12 rfl rfl)
theorem dX3_numberTo_37 : decode cX3_numberTo 37 = .ok (.getfield 58, 3) := dk_180 0 58 (dk_at dksX3_numberTo_1 13 rfl rfl)
theorem dX3_numberTo_40 : decode cX3_numberTo 40 = .ok (.iload_n 3, 1) := dk_29 (dk_at dksX3_numberTo_1 16 rfl rfl)
theorem dX3_numberTo_41 : decode cX3_numberTo 41 = .ok (.iaload, 1) := dk_46 (dk_at dksX3_numberTo_1 17 rfl rfl)
theorem dX3_numberTo_42 : decode cX3_numberTo 42 = .ok (.iadd, 1) := dk_96 (dk_at dksX3_numberTo_1 18 rfl rfl)
theorem dX3_numberTo_43 : decode cX3_numberTo 43 = .ok (.bipush 48, 2) := dk_16 48 (dk_at dksX3_numberTo_1 19 rfl rfl)
theorem dX3_numberTo_45 : decode cX3_numberTo 45 = .ok (.isub, 1) := dk_100 (dk_at dksX3_numberTo_1 21 rfl rfl)
theorem dX3_numberTo_46 : decode cX3_numberTo 46 = .ok (.istore_n 2, 1) := dk_61 (dk_at dksX3_numberTo_1 22 rfl rfl)
theorem dX3_numberTo_47 : decode cX3_numberTo 47 = .ok (.iinc 3 1, 3) := dk_132 3 1 (dk_at dksX3_numberTo_2 0 rfl rfl)
theorem dX3_numberTo_50 : decode cX3_numberTo 50 = .ok (.goto (-34), 3) := dk_167 255 222 (dk_at dksX3_numberTo_2 3 rfl rfl)
theorem dX3_numberTo_53 : decode cX3_numberTo 53 = .ok (.aload_n 0, 1) := dk_42 (dk_at dksX3_numberTo_2 6 rfl rfl)
theorem dX3_numberTo_54 : decode cX3_numberTo 54 = .ok (.getfield 252, 3) := dk_180 0 252 (dk_at dksX3_numberTo_2 7 rfl rfl)
theorem dX3_numberTo_57 : decode cX3_numberTo 57 = .ok (.iconst 3, 1) := dk_6 (dk_at dksX3_numberTo_2 10 rfl rfl)
theorem dX3_numberTo_58 : decode cX3_numberTo 58 = .ok (.if_icmp .ne 13, 3) := dk_160 0 13 (dk_at dksX3_numberTo_2 11 rfl rfl)
theorem dX3_numberTo_61 : decode cX3_numberTo 61 = .ok (.iload_n 2, 1) := dk_28 (dk_at dksX3_numberTo_2 14 rfl rfl)
theorem dX3_numberTo_62 : decode cX3_numberTo 62 = .ok (.iload_n 1, 1) := dk_27 (dk_at dksX3_numberTo_2 15 rfl rfl)
theorem dX3_numberTo_63 : decode cX3_numberTo 63 = .ok (.if_icmp .le 8, 3) := dk_164 0 8 (dk_at dksX3_numberTo_2 16 rfl rfl)
theorem dX3_numberTo_66 : decode cX3_numberTo 66 = .ok (.aload_n 0, 1) := dk_42 (dk_at dksX3_numberTo_2 19 rfl rfl)
theorem dX3_numberTo_67 : decode cX3_numberTo 67 = .ok (.iconst 2, 1) := dk_5 (dk_at dksX3_numberTo_2 20 rfl rfl)
theorem dX3_numberTo_68 : decode cX3_numberTo 68 = .ok (.invokevirtual 270, 3) := dk_182 1 14 (dk_at dksX3_numberTo_2 21 rfl rfl)
theorem dX3_numberTo_71 : decode cX3_numberTo 71 = .ok (.aload_n 0, 1) := dk_42 (dk_at dksX3_numberTo_3 0 rfl rfl)
theorem dX3_numberTo_72 : decode cX3_numberTo 72 = .ok (.aload_n 0, 1) := dk_42 (dk_at dksX3_numberTo_3 1 rfl rfl)
theorem dX3_numberTo_73 : decode cX3_numberTo 73 = .ok (.getfield 252, 3) := dk_180 0 252 (dk_at dksX3_numberTo_3 2 rfl rfl)
theorem dX3_numberTo_76 : decode cX3_numberTo 76 = .ok (.iconst 3, 1) := dk_6 (dk_at dksX3_numberTo_3 5 rfl rfl)
theorem dX3_numberTo_77 : decode cX3_numberTo 77 = .ok (.if_icmp .ne 7, 3) := dk_160 0 7 (dk_at dksX3_numberTo_3 6 rfl rfl)
theorem dX3_numberTo_80 : decode cX3_numberTo 80 = .ok (.iconst 1, 1) := dk_4 (dk_at dksX3_numberTo_3 9 rfl rfl)
theorem dX3_numberTo_81 : decode cX3_numberTo 81 = .ok (.goto 4, 3) := dk_167 0 4 (dk_at dksX3_numberTo_3 10 rfl rfl)
theorem dX3_numberTo_84 : decode cX3_numberTo 84 = .ok (.iconst 0, 1) := dk_3 (dk_at dksX3_numberTo_3 13 rfl rfl)
theorem dX3_numberTo_85 : decode cX3_numberTo 85 = .ok (.invokevirtual 277, 3) := dk_182 1 21 (dk_at dksX3_numberTo_3 14 rfl rfl)
theorem dX3_numberTo_88 : decode cX3_numberTo 88 = .ok (.iload_n 2, 1) := dk_28 (dk_at dksX3_numberTo_3 17 rfl rfl)
theorem dX3_numberTo_89 : decode cX3_numberTo 89 = .ok (.ireturn, 1) := dk_172 (dk_at dksX3_numberTo_3 18 rfl rfl)
abbrev cX3_sortHere : ByteArray := prog_18_method_73_code
def yX3_sortHere : MethodName := ⟨RX3, "sortHere", "()I"⟩
def dkwX3_sortHere_3 : List UInt8 := [159, 0, 7, 4, 167, 0, 4, 3, 182, 1, 21, 29, 172]
abbrev dktX3_sortHere_3 : List UInt8 := dkwX3_sortHere_3 ++ []
def dkwX3_sortHere_2 : List UInt8 := [167, 0, 17, 31, 20, 1, 35, 148, 154, 0, 7, 6, 167, 0, 5, 18, 81, 62, 42, 29, 18, 81]
abbrev dktX3_sortHere_2 : List UInt8 := dkwX3_sortHere_2 ++ dktX3_sortHere_3
def dkwX3_sortHere_1 : List UInt8 := [167, 0, 41, 31, 20, 1, 31, 148, 154, 0, 7, 4, 167, 0, 29, 31, 20, 1, 33, 148, 154, 0, 7, 5]
abbrev dktX3_sortHere_1 : List UInt8 := dkwX3_sortHere_1 ++ dktX3_sortHere_2
def dkwX3_sortHere_0 : List UInt8 := [42, 180, 1, 8, 158, 0, 5, 3, 172, 42, 182, 1, 25, 64, 31, 20, 1, 29, 148, 154, 0, 7, 3]
abbrev dktX3_sortHere_0 : List UInt8 := dkwX3_sortHere_0 ++ dktX3_sortHere_1
theorem dksX3_sortHere_0 : cX3_sortHere.data.toList.drop 0 = dktX3_sortHere_0 := by decide +kernel
theorem dksX3_sortHere_1 : cX3_sortHere.data.toList.drop 23 = dktX3_sortHere_1 := dk_seg dksX3_sortHere_0 23 rfl rfl
theorem dksX3_sortHere_2 : cX3_sortHere.data.toList.drop 47 = dktX3_sortHere_2 := dk_seg dksX3_sortHere_1 24 rfl rfl
theorem dksX3_sortHere_3 : cX3_sortHere.data.toList.drop 69 = dktX3_sortHere_3 := dk_seg dksX3_sortHere_2 22 rfl rfl
theorem dX3_sortHere_0 : decode cX3_sortHere 0 = .ok (.aload_n 0, 1) := dk_42 (dk_at dksX3_sortHere_0 0 rfl rfl)
theorem dX3_sortHere_1 : decode cX3_sortHere 1 = .ok (.getfield 264, 3) := dk_180 1 8 (dk_at dksX3_sortHere_0 1 rfl rfl)
theorem dX3_sortHere_4 : decode cX3_sortHere 4 = .ok (.ifCond .le 5, 3) := dk_158 0 5 (dk_at dksX3_sortHere_0 4 rfl rfl)
theorem dX3_sortHere_7 : decode cX3_sortHere 7 = .ok (.iconst 0, 1) := dk_3 (dk_at dksX3_sortHere_0 7 rfl rfl)
theorem dX3_sortHere_8 : decode cX3_sortHere 8 = .ok (.ireturn, 1) := dk_172 (dk_at dksX3_sortHere_0 8 rfl rfl)
theorem dX3_sortHere_9 : decode cX3_sortHere 9 = .ok (.aload_n 0, 1) := dk_42 (dk_at dksX3_sortHere_0 9 rfl rfl)
theorem dX3_sortHere_10 : decode cX3_sortHere 10 = .ok (.invokevirtual 281, 3) := dk_182 1 25 (dk_at dksX3_sortHere_0 10 rfl rfl)
theorem dX3_sortHere_13 : decode cX3_sortHere 13 = .ok (.lstore_n 1, 1) := dk_64 (dk_at dksX3_sortHere_0 13 rfl rfl)
theorem dX3_sortHere_14 : decode cX3_sortHere 14 = .ok (.lload_n 1, 1) := dk_31 (dk_at dksX3_sortHere_0 14 rfl rfl)
theorem dX3_sortHere_15 : decode cX3_sortHere 15 = .ok (.ldc2_w 285, 3) := dk_20 1 29 (dk_at dksX3_sortHere_0 15 rfl rfl)
theorem dX3_sortHere_18 : decode cX3_sortHere 18 = .ok (.lcmp, 1) := dk_148 (dk_at dksX3_sortHere_0 18 rfl rfl)
theorem dX3_sortHere_19 : decode cX3_sortHere 19 = .ok (.ifCond .ne 7, 3) := dk_154 0 7 (dk_at dksX3_sortHere_0 19 rfl rfl)
theorem dX3_sortHere_22 : decode cX3_sortHere 22 = .ok (.iconst 0, 1) := dk_3 (dk_at dksX3_sortHere_0 22 rfl rfl)
theorem dX3_sortHere_23 : decode cX3_sortHere 23 = .ok (.goto 41, 3) := dk_167 0 41 (dk_at dksX3_sortHere_1 0 rfl rfl)
theorem dX3_sortHere_26 : decode cX3_sortHere 26 = .ok (.lload_n 1, 1) := dk_31 (dk_at dksX3_sortHere_1 3 rfl rfl)
theorem dX3_sortHere_27 : decode cX3_sortHere 27 = .ok (.ldc2_w 287, 3) := dk_20 1 31 (dk_at dksX3_sortHere_1 4 rfl rfl)
theorem dX3_sortHere_30 : decode cX3_sortHere 30 = .ok (.lcmp, 1) := dk_148 (dk_at dksX3_sortHere_1 7 rfl rfl)
theorem dX3_sortHere_31 : decode cX3_sortHere 31 = .ok (.ifCond .ne 7, 3) := dk_154 0 7 (dk_at dksX3_sortHere_1 8 rfl rfl)
theorem dX3_sortHere_34 : decode cX3_sortHere 34 = .ok (.iconst 1, 1) := dk_4 (dk_at dksX3_sortHere_1 11 rfl rfl)
theorem dX3_sortHere_35 : decode cX3_sortHere 35 = .ok (.goto 29, 3) := dk_167 0 29 (dk_at dksX3_sortHere_1 12 rfl rfl)
theorem dX3_sortHere_38 : decode cX3_sortHere 38 = .ok (.lload_n 1, 1) := dk_31 (dk_at dksX3_sortHere_1 15 rfl rfl)
theorem dX3_sortHere_39 : decode cX3_sortHere 39 = .ok (.ldc2_w 289, 3) := dk_20 1 33 (dk_at dksX3_sortHere_1 16 rfl rfl)
theorem dX3_sortHere_42 : decode cX3_sortHere 42 = .ok (.lcmp, 1) := dk_148 (dk_at dksX3_sortHere_1 19 rfl rfl)
theorem dX3_sortHere_43 : decode cX3_sortHere 43 = .ok (.ifCond .ne 7, 3) := dk_154 0 7 (dk_at dksX3_sortHere_1 20 rfl rfl)
theorem dX3_sortHere_46 : decode cX3_sortHere 46 = .ok (.iconst 2, 1) := dk_5 (dk_at dksX3_sortHere_1 23 rfl rfl)
theorem dX3_sortHere_47 : decode cX3_sortHere 47 = .ok (.goto 17, 3) := dk_167 0 17 (dk_at dksX3_sortHere_2 0 rfl rfl)
theorem dX3_sortHere_50 : decode cX3_sortHere 50 = .ok (.lload_n 1, 1) := dk_31 (dk_at dksX3_sortHere_2 3 rfl rfl)
theorem dX3_sortHere_51 : decode cX3_sortHere 51 = .ok (.ldc2_w 291, 3) := dk_20 1 35 (dk_at dksX3_sortHere_2 4 rfl rfl)
theorem dX3_sortHere_54 : decode cX3_sortHere 54 = .ok (.lcmp, 1) := dk_148 (dk_at dksX3_sortHere_2 7 rfl rfl)
theorem dX3_sortHere_55 : decode cX3_sortHere 55 = .ok (.ifCond .ne 7, 3) := dk_154 0 7 (dk_at dksX3_sortHere_2 8 rfl rfl)
theorem dX3_sortHere_58 : decode cX3_sortHere 58 = .ok (.iconst 3, 1) := dk_6 (dk_at dksX3_sortHere_2 11 rfl rfl)
theorem dX3_sortHere_59 : decode cX3_sortHere 59 = .ok (.goto 5, 3) := dk_167 0 5 (dk_at dksX3_sortHere_2 12 rfl rfl)
theorem dX3_sortHere_62 : decode cX3_sortHere 62 = .ok (.ldc 81, 2) := dk_18 81 (dk_at dksX3_sortHere_2 15 rfl rfl)
theorem dX3_sortHere_64 : decode cX3_sortHere 64 = .ok (.istore_n 3, 1) := dk_62 (dk_at dksX3_sortHere_2 17 rfl rfl)
theorem dX3_sortHere_65 : decode cX3_sortHere 65 = .ok (.aload_n 0, 1) := dk_42 (dk_at dksX3_sortHere_2 18 rfl rfl)
theorem dX3_sortHere_66 : decode cX3_sortHere 66 = .ok (.iload_n 3, 1) := dk_29 (dk_at dksX3_sortHere_2 19 rfl rfl)
theorem dX3_sortHere_67 : decode cX3_sortHere 67 = .ok (.ldc 81, 2) := dk_18 81 (dk_at dksX3_sortHere_2 20 rfl rfl)
theorem dX3_sortHere_69 : decode cX3_sortHere 69 = .ok (.if_icmp .eq 7, 3) := dk_159 0 7 (dk_at dksX3_sortHere_3 0 rfl rfl)
theorem dX3_sortHere_72 : decode cX3_sortHere 72 = .ok (.iconst 1, 1) := dk_4 (dk_at dksX3_sortHere_3 3 rfl rfl)
theorem dX3_sortHere_73 : decode cX3_sortHere 73 = .ok (.goto 4, 3) := dk_167 0 4 (dk_at dksX3_sortHere_3 4 rfl rfl)
theorem dX3_sortHere_76 : decode cX3_sortHere 76 = .ok (.iconst 0, 1) := dk_3 (dk_at dksX3_sortHere_3 7 rfl rfl)
theorem dX3_sortHere_77 : decode cX3_sortHere 77 = .ok (.invokevirtual 277, 3) := dk_182 1 21 (dk_at dksX3_sortHere_3 8 rfl rfl)
theorem dX3_sortHere_80 : decode cX3_sortHere 80 = .ok (.iload_n 3, 1) := dk_29 (dk_at dksX3_sortHere_3 11 rfl rfl)
theorem dX3_sortHere_81 : decode cX3_sortHere 81 = .ok (.ireturn, 1) := dk_172 (dk_at dksX3_sortHere_3 12 rfl rfl)
abbrev cX3_fault : ByteArray := prog_18_method_76_code
def yX3_fault : MethodName := ⟨RX3, "fault", "()I"⟩
def dkwX3_fault_0 : List UInt8 := [42, 3, 181, 0, 1, 42, 180, 1, 64, 172]
abbrev dktX3_fault_0 : List UInt8 := dkwX3_fault_0 ++ []
theorem dksX3_fault_0 : cX3_fault.data.toList.drop 0 = dktX3_fault_0 := by decide +kernel
theorem dX3_fault_0 : decode cX3_fault 0 = .ok (.aload_n 0, 1) := dk_42 (dk_at dksX3_fault_0 0 rfl rfl)
theorem dX3_fault_1 : decode cX3_fault 1 = .ok (.iconst 0, 1) := dk_3 (dk_at dksX3_fault_0 1 rfl rfl)
theorem dX3_fault_2 : decode cX3_fault 2 = .ok (.putfield 1, 3) := dk_181 0 1 (dk_at dksX3_fault_0 2 rfl rfl)
theorem dX3_fault_5 : decode cX3_fault 5 = .ok (.aload_n 0, 1) := dk_42 (dk_at dksX3_fault_0 5 rfl rfl)
theorem dX3_fault_6 : decode cX3_fault 6 = .ok (.getfield 320, 3) := dk_180 1 64 (dk_at dksX3_fault_0 6 rfl rfl)
theorem dX3_fault_9 : decode cX3_fault 9 = .ok (.ireturn, 1) := dk_172 (dk_at dksX3_fault_0 9 rfl rfl)
abbrev cX3_broken : ByteArray := prog_18_method_79_code
def yX3_broken : MethodName := ⟨RX3, "broken", "()I"⟩
def dkwX3_broken_0 : List UInt8 := [42, 3, 181, 0, 1, 42, 3, 182, 1, 71, 172]
abbrev dktX3_broken_0 : List UInt8 := dkwX3_broken_0 ++ []
theorem dksX3_broken_0 : cX3_broken.data.toList.drop 0 = dktX3_broken_0 := by decide +kernel
theorem dX3_broken_0 : decode cX3_broken 0 = .ok (.aload_n 0, 1) := dk_42 (dk_at dksX3_broken_0 0 rfl rfl)
theorem dX3_broken_1 : decode cX3_broken 1 = .ok (.iconst 0, 1) := dk_3 (dk_at dksX3_broken_0 1 rfl rfl)
theorem dX3_broken_2 : decode cX3_broken 2 = .ok (.putfield 1, 3) := dk_181 0 1 (dk_at dksX3_broken_0 2 rfl rfl)
theorem dX3_broken_5 : decode cX3_broken 5 = .ok (.aload_n 0, 1) := dk_42 (dk_at dksX3_broken_0 5 rfl rfl)
theorem dX3_broken_6 : decode cX3_broken 6 = .ok (.iconst 0, 1) := dk_3 (dk_at dksX3_broken_0 6 rfl rfl)
theorem dX3_broken_7 : decode cX3_broken 7 = .ok (.invokevirtual 327, 3) := dk_182 1 71 (dk_at dksX3_broken_0 7 rfl rfl)
theorem dX3_broken_10 : decode cX3_broken 10 = .ok (.ireturn, 1) := dk_172 (dk_at dksX3_broken_0 10 rfl rfl)
abbrev cX3_brokenOn : ByteArray := prog_18_method_78_code
def yX3_brokenOn : MethodName := ⟨RX3, "brokenOn", "(I)I"⟩
def dkwX3_brokenOn_1 : List UInt8 := [167, 0, 4, 3, 96, 61, 132, 3, 1, 167, 255, 228, 28, 172]
abbrev dktX3_brokenOn_1 : List UInt8 := dkwX3_brokenOn_1 ++ []
def dkwX3_brokenOn_0 : List UInt8 := [3, 61, 3, 62, 29, 42, 180, 1, 58, 162, 0, 26, 28, 42, 27, 29, 182, 1, 68, 153, 0, 7, 4]
abbrev dktX3_brokenOn_0 : List UInt8 := dkwX3_brokenOn_0 ++ dktX3_brokenOn_1
theorem dksX3_brokenOn_0 : cX3_brokenOn.data.toList.drop 0 = dktX3_brokenOn_0 := by decide +kernel
theorem dksX3_brokenOn_1 : cX3_brokenOn.data.toList.drop 23 = dktX3_brokenOn_1 := dk_seg dksX3_brokenOn_0 23 rfl rfl
theorem dX3_brokenOn_0 : decode cX3_brokenOn 0 = .ok (.iconst 0, 1) := dk_3 (dk_at dksX3_brokenOn_0 0 rfl rfl)
theorem dX3_brokenOn_1 : decode cX3_brokenOn 1 = .ok (.istore_n 2, 1) := dk_61 (dk_at dksX3_brokenOn_0 1 rfl rfl)
theorem dX3_brokenOn_2 : decode cX3_brokenOn 2 = .ok (.iconst 0, 1) := dk_3 (dk_at dksX3_brokenOn_0 2 rfl rfl)
theorem dX3_brokenOn_3 : decode cX3_brokenOn 3 = .ok (.istore_n 3, 1) := dk_62 (dk_at dksX3_brokenOn_0 3 rfl rfl)
theorem dX3_brokenOn_4 : decode cX3_brokenOn 4 = .ok (.iload_n 3, 1) := dk_29 (dk_at dksX3_brokenOn_0 4 rfl rfl)
theorem dX3_brokenOn_5 : decode cX3_brokenOn 5 = .ok (.aload_n 0, 1) := dk_42 (dk_at dksX3_brokenOn_0 5 rfl rfl)
theorem dX3_brokenOn_6 : decode cX3_brokenOn 6 = .ok (.getfield 314, 3) := dk_180 1 58 (dk_at dksX3_brokenOn_0 6 rfl rfl)
theorem dX3_brokenOn_9 : decode cX3_brokenOn 9 = .ok (.if_icmp .ge 26, 3) := dk_162 0 26 (dk_at dksX3_brokenOn_0 9 rfl rfl)
theorem dX3_brokenOn_12 : decode cX3_brokenOn 12 = .ok (.iload_n 2, 1) := dk_28 (dk_at dksX3_brokenOn_0 12 rfl rfl)
theorem dX3_brokenOn_13 : decode cX3_brokenOn 13 = .ok (.aload_n 0, 1) := dk_42 (dk_at dksX3_brokenOn_0 13 rfl rfl)
theorem dX3_brokenOn_14 : decode cX3_brokenOn 14 = .ok (.iload_n 1, 1) := dk_27 (dk_at dksX3_brokenOn_0 14 rfl rfl)
theorem dX3_brokenOn_15 : decode cX3_brokenOn 15 = .ok (.iload_n 3, 1) := dk_29 (dk_at dksX3_brokenOn_0 15 rfl rfl)
theorem dX3_brokenOn_16 : decode cX3_brokenOn 16 = .ok (.invokevirtual 324, 3) := dk_182 1 68 (dk_at dksX3_brokenOn_0 16 rfl rfl)
theorem dX3_brokenOn_19 : decode cX3_brokenOn 19 = .ok (.ifCond .eq 7, 3) := dk_153 0 7 (dk_at dksX3_brokenOn_0 19 rfl rfl)
theorem dX3_brokenOn_22 : decode cX3_brokenOn 22 = .ok (.iconst 1, 1) := dk_4 (dk_at dksX3_brokenOn_0 22 rfl rfl)
theorem dX3_brokenOn_23 : decode cX3_brokenOn 23 = .ok (.goto 4, 3) := dk_167 0 4 (dk_at dksX3_brokenOn_1 0 rfl rfl)
theorem dX3_brokenOn_26 : decode cX3_brokenOn 26 = .ok (.iconst 0, 1) := dk_3 (dk_at dksX3_brokenOn_1 3 rfl rfl)
theorem dX3_brokenOn_27 : decode cX3_brokenOn 27 = .ok (.iadd, 1) := dk_96 (dk_at dksX3_brokenOn_1 4 rfl rfl)
theorem dX3_brokenOn_28 : decode cX3_brokenOn 28 = .ok (.istore_n 2, 1) := dk_61 (dk_at dksX3_brokenOn_1 5 rfl rfl)
theorem dX3_brokenOn_29 : decode cX3_brokenOn 29 = .ok (.iinc 3 1, 3) := dk_132 3 1 (dk_at dksX3_brokenOn_1 6 rfl rfl)
theorem dX3_brokenOn_32 : decode cX3_brokenOn 32 = .ok (.goto (-28), 3) := dk_167 255 228 (dk_at dksX3_brokenOn_1 9 rfl rfl)
theorem dX3_brokenOn_35 : decode cX3_brokenOn 35 = .ok (.iload_n 2, 1) := dk_28 (dk_at dksX3_brokenOn_1 12 rfl rfl)
theorem dX3_brokenOn_36 : decode cX3_brokenOn 36 = .ok (.ireturn, 1) := dk_172 (dk_at dksX3_brokenOn_1 13 rfl rfl)
abbrev cX3_isBroken : ByteArray := prog_18_method_77_code
def yX3_isBroken : MethodName := ⟨RX3, "isBroken", "(II)Z"⟩
def dkwX3_isBroken_9 : List UInt8 := [21, 7, 172]
abbrev dktX3_isBroken_9 : List UInt8 := dkwX3_isBroken_9 ++ []
def dkwX3_isBroken_8 : List UInt8 := [167, 255, 117, 21, 4, 7, 160, 0, 18, 21, 6, 21, 5, 164, 0, 7, 4, 167, 0, 9, 3, 167, 0, 5]
abbrev dktX3_isBroken_8 : List UInt8 := dkwX3_isBroken_8 ++ dktX3_isBroken_9
def dkwX3_isBroken_7 : List UInt8 := [21, 8, 21, 4, 21, 5, 182, 0, 126, 153, 0, 7, 4, 167, 0, 4, 3, 54, 7, 132, 8, 1]
abbrev dktX3_isBroken_7 : List UInt8 := dkwX3_isBroken_7 ++ dktX3_isBroken_8
def dkwX3_isBroken_6 : List UInt8 := [54, 7, 167, 0, 40, 21, 7, 154, 0, 28, 42, 180, 0, 21, 21, 8, 46, 29, 160, 0, 21, 42, 27]
abbrev dktX3_isBroken_6 : List UInt8 := dkwX3_isBroken_6 ++ dktX3_isBroken_7
def dkwX3_isBroken_5 : List UInt8 := [182, 0, 70, 156, 0, 19, 42, 27, 21, 8, 182, 0, 82, 21, 5, 160, 0, 7, 4, 167, 0, 4, 3]
abbrev dktX3_isBroken_5 : List UInt8 := dkwX3_isBroken_5 ++ dktX3_isBroken_6
def dkwX3_isBroken_4 : List UInt8 := [160, 0, 51, 21, 7, 154, 0, 36, 42, 180, 0, 21, 21, 8, 46, 29, 160, 0, 29, 42, 27, 21, 8]
abbrev dktX3_isBroken_4 : List UInt8 := dkwX3_isBroken_4 ++ dktX3_isBroken_5
def dkwX3_isBroken_3 : List UInt8 := [160, 0, 13, 42, 180, 0, 24, 21, 8, 46, 167, 0, 4, 3, 96, 54, 6, 167, 0, 94, 21, 4, 6]
abbrev dktX3_isBroken_3 : List UInt8 := dkwX3_isBroken_3 ++ dktX3_isBroken_4
def dkwX3_isBroken_2 : List UInt8 := [180, 0, 85, 162, 0, 136, 21, 4, 7, 160, 0, 33, 21, 6, 42, 27, 21, 8, 182, 0, 82, 29]
abbrev dktX3_isBroken_2 : List UInt8 := dkwX3_isBroken_2 ++ dktX3_isBroken_3
def dkwX3_isBroken_1 : List UInt8 := [180, 0, 55, 6, 28, 104, 5, 96, 46, 54, 5, 3, 54, 6, 3, 54, 7, 3, 54, 8, 21, 8, 42]
abbrev dktX3_isBroken_1 : List UInt8 := dkwX3_isBroken_1 ++ dktX3_isBroken_2
def dkwX3_isBroken_0 : List UInt8 := [42, 180, 0, 55, 6, 28, 104, 46, 62, 42, 180, 0, 55, 6, 28, 104, 4, 96, 46, 54, 4, 42]
abbrev dktX3_isBroken_0 : List UInt8 := dkwX3_isBroken_0 ++ dktX3_isBroken_1
theorem dksX3_isBroken_0 : cX3_isBroken.data.toList.drop 0 = dktX3_isBroken_0 := by decide +kernel
theorem dksX3_isBroken_1 : cX3_isBroken.data.toList.drop 22 = dktX3_isBroken_1 := dk_seg dksX3_isBroken_0 22 rfl rfl
theorem dksX3_isBroken_2 : cX3_isBroken.data.toList.drop 45 = dktX3_isBroken_2 := dk_seg dksX3_isBroken_1 23 rfl rfl
theorem dksX3_isBroken_3 : cX3_isBroken.data.toList.drop 67 = dktX3_isBroken_3 := dk_seg dksX3_isBroken_2 22 rfl rfl
theorem dksX3_isBroken_4 : cX3_isBroken.data.toList.drop 90 = dktX3_isBroken_4 := dk_seg dksX3_isBroken_3 23 rfl rfl
theorem dksX3_isBroken_5 : cX3_isBroken.data.toList.drop 113 = dktX3_isBroken_5 := dk_seg dksX3_isBroken_4 23 rfl rfl
theorem dksX3_isBroken_6 : cX3_isBroken.data.toList.drop 136 = dktX3_isBroken_6 := dk_seg dksX3_isBroken_5 23 rfl rfl
theorem dksX3_isBroken_7 : cX3_isBroken.data.toList.drop 159 = dktX3_isBroken_7 := dk_seg dksX3_isBroken_6 23 rfl rfl
theorem dksX3_isBroken_8 : cX3_isBroken.data.toList.drop 181 = dktX3_isBroken_8 := dk_seg dksX3_isBroken_7 22 rfl rfl
theorem dksX3_isBroken_9 : cX3_isBroken.data.toList.drop 205 = dktX3_isBroken_9 := dk_seg dksX3_isBroken_8 24 rfl rfl
theorem dX3_isBroken_0 : decode cX3_isBroken 0 = .ok (.aload_n 0, 1) := dk_42 (dk_at dksX3_isBroken_0 0 rfl rfl)
theorem dX3_isBroken_1 : decode cX3_isBroken 1 = .ok (.getfield 55, 3) := dk_180 0 55 (dk_at dksX3_isBroken_0 1 rfl rfl)
theorem dX3_isBroken_4 : decode cX3_isBroken 4 = .ok (.iconst 3, 1) := dk_6 (dk_at dksX3_isBroken_0 4 rfl rfl)
theorem dX3_isBroken_5 : decode cX3_isBroken 5 = .ok (.iload_n 2, 1) := dk_28 (dk_at dksX3_isBroken_0 5 rfl rfl)
theorem dX3_isBroken_6 : decode cX3_isBroken 6 = .ok (.imul, 1) := dk_104 (dk_at dksX3_isBroken_0 6 rfl rfl)
theorem dX3_isBroken_7 : decode cX3_isBroken 7 = .ok (.iaload, 1) := dk_46 (dk_at dksX3_isBroken_0 7 rfl rfl)
theorem dX3_isBroken_8 : decode cX3_isBroken 8 = .ok (.istore_n 3, 1) := dk_62 (dk_at dksX3_isBroken_0 8 rfl rfl)
theorem dX3_isBroken_9 : decode cX3_isBroken 9 = .ok (.aload_n 0, 1) := dk_42 (dk_at dksX3_isBroken_0 9 rfl rfl)
theorem dX3_isBroken_10 : decode cX3_isBroken 10 = .ok (.getfield 55, 3) := dk_180 0 55 (dk_at dksX3_isBroken_0 10 rfl rfl)
theorem dX3_isBroken_13 : decode cX3_isBroken 13 = .ok (.iconst 3, 1) := dk_6 (dk_at dksX3_isBroken_0 13 rfl rfl)
theorem dX3_isBroken_14 : decode cX3_isBroken 14 = .ok (.iload_n 2, 1) := dk_28 (dk_at dksX3_isBroken_0 14 rfl rfl)
theorem dX3_isBroken_15 : decode cX3_isBroken 15 = .ok (.imul, 1) := dk_104 (dk_at dksX3_isBroken_0 15 rfl rfl)
theorem dX3_isBroken_16 : decode cX3_isBroken 16 = .ok (.iconst 1, 1) := dk_4 (dk_at dksX3_isBroken_0 16 rfl rfl)
theorem dX3_isBroken_17 : decode cX3_isBroken 17 = .ok (.iadd, 1) := dk_96 (dk_at dksX3_isBroken_0 17 rfl rfl)
theorem dX3_isBroken_18 : decode cX3_isBroken 18 = .ok (.iaload, 1) := dk_46 (dk_at dksX3_isBroken_0 18 rfl rfl)
theorem dX3_isBroken_19 : decode cX3_isBroken 19 = .ok (.istore 4, 2) := dk_54 4 (dk_at dksX3_isBroken_0 19 rfl rfl)
theorem dX3_isBroken_21 : decode cX3_isBroken 21 = .ok (.aload_n 0, 1) := dk_42 (dk_at dksX3_isBroken_0 21 rfl rfl)
theorem dX3_isBroken_22 : decode cX3_isBroken 22 = .ok (.getfield 55, 3) := dk_180 0 55 (dk_at dksX3_isBroken_1 0 rfl rfl)
theorem dX3_isBroken_25 : decode cX3_isBroken 25 = .ok (.iconst 3, 1) := dk_6 (dk_at dksX3_isBroken_1 3 rfl rfl)
theorem dX3_isBroken_26 : decode cX3_isBroken 26 = .ok (.iload_n 2, 1) := dk_28 (dk_at dksX3_isBroken_1 4 rfl rfl)
theorem dX3_isBroken_27 : decode cX3_isBroken 27 = .ok (.imul, 1) := dk_104 (dk_at dksX3_isBroken_1 5 rfl rfl)
theorem dX3_isBroken_28 : decode cX3_isBroken 28 = .ok (.iconst 2, 1) := dk_5 (dk_at dksX3_isBroken_1 6 rfl rfl)
theorem dX3_isBroken_29 : decode cX3_isBroken 29 = .ok (.iadd, 1) := dk_96 (dk_at dksX3_isBroken_1 7 rfl rfl)
theorem dX3_isBroken_30 : decode cX3_isBroken 30 = .ok (.iaload, 1) := dk_46 (dk_at dksX3_isBroken_1 8 rfl rfl)
theorem dX3_isBroken_31 : decode cX3_isBroken 31 = .ok (.istore 5, 2) := dk_54 5 (dk_at dksX3_isBroken_1 9 rfl rfl)
theorem dX3_isBroken_33 : decode cX3_isBroken 33 = .ok (.iconst 0, 1) := dk_3 (dk_at dksX3_isBroken_1 11 rfl rfl)
theorem dX3_isBroken_34 : decode cX3_isBroken 34 = .ok (.istore 6, 2) := dk_54 6 (dk_at dksX3_isBroken_1 12 rfl rfl)
theorem dX3_isBroken_36 : decode cX3_isBroken 36 = .ok (.iconst 0, 1) := dk_3 (dk_at dksX3_isBroken_1 14 rfl rfl)
theorem dX3_isBroken_37 : decode cX3_isBroken 37 = .ok (.istore 7, 2) := dk_54 7 (dk_at dksX3_isBroken_1 15 rfl rfl)
theorem dX3_isBroken_39 : decode cX3_isBroken 39 = .ok (.iconst 0, 1) := dk_3 (dk_at dksX3_isBroken_1 17 rfl rfl)
theorem dX3_isBroken_40 : decode cX3_isBroken 40 = .ok (.istore 8, 2) := dk_54 8 (dk_at dksX3_isBroken_1 18 rfl rfl)
theorem dX3_isBroken_42 : decode cX3_isBroken 42 = .ok (.iload 8, 2) := dk_21 8 (dk_at dksX3_isBroken_1 20 rfl rfl)
theorem dX3_isBroken_44 : decode cX3_isBroken 44 = .ok (.aload_n 0, 1) := dk_42 (dk_at dksX3_isBroken_1 22 rfl rfl)
theorem dX3_isBroken_45 : decode cX3_isBroken 45 = .ok (.getfield 85, 3) := dk_180 0 85 (dk_at dksX3_isBroken_2 0 rfl rfl)
theorem dX3_isBroken_48 : decode cX3_isBroken 48 = .ok (.if_icmp .ge 136, 3) := dk_162 0 136 (dk_at dksX3_isBroken_2 3 rfl rfl)
theorem dX3_isBroken_51 : decode cX3_isBroken 51 = .ok (.iload 4, 2) := dk_21 4 (dk_at dksX3_isBroken_2 6 rfl rfl)
theorem dX3_isBroken_53 : decode cX3_isBroken 53 = .ok (.iconst 4, 1) := dk_7 (dk_at dksX3_isBroken_2 8 rfl rfl)
theorem dX3_isBroken_54 : decode cX3_isBroken 54 = .ok (.if_icmp .ne 33, 3) := dk_160 0 33 (dk_at dksX3_isBroken_2 9 rfl rfl)
theorem dX3_isBroken_57 : decode cX3_isBroken 57 = .ok (.iload 6, 2) := dk_21 6 (dk_at dksX3_isBroken_2 12 rfl rfl)
theorem dX3_isBroken_59 : decode cX3_isBroken 59 = .ok (.aload_n 0, 1) := dk_42 (dk_at dksX3_isBroken_2 14 rfl rfl)
theorem dX3_isBroken_60 : decode cX3_isBroken 60 = .ok (.iload_n 1, 1) := dk_27 (dk_at dksX3_isBroken_2 15 rfl rfl)
theorem dX3_isBroken_61 : decode cX3_isBroken 61 = .ok (.iload 8, 2) := dk_21 8 (dk_at dksX3_isBroken_2 16 rfl rfl)
theorem dX3_isBroken_63 : decode cX3_isBroken 63 = .ok (.invokevirtual 82, 3) := dk_182 0 82 (dk_at dksX3_isBroken_2 18 rfl rfl)
theorem dX3_isBroken_66 : decode cX3_isBroken 66 = .ok (.iload_n 3, 1) := dk_29 (dk_at dksX3_isBroken_2 21 rfl rfl)
theorem dX3_isBroken_67 : decode cX3_isBroken 67 = .ok (.if_icmp .ne 13, 3) := dk_160 0 13 (dk_at dksX3_isBroken_3 0 rfl rfl)
theorem dX3_isBroken_70 : decode cX3_isBroken 70 = .ok (.aload_n 0, 1) := dk_42 (dk_at dksX3_isBroken_3 3 rfl rfl)
theorem dX3_isBroken_71 : decode cX3_isBroken 71 = .ok (.getfield 24, 3) := dk_180 0 24 (dk_at dksX3_isBroken_3 4 rfl rfl)
theorem dX3_isBroken_74 : decode cX3_isBroken 74 = .ok (.iload 8, 2) := dk_21 8 (dk_at dksX3_isBroken_3 7 rfl rfl)
theorem dX3_isBroken_76 : decode cX3_isBroken 76 = .ok (.iaload, 1) := dk_46 (dk_at dksX3_isBroken_3 9 rfl rfl)
theorem dX3_isBroken_77 : decode cX3_isBroken 77 = .ok (.goto 4, 3) := dk_167 0 4 (dk_at dksX3_isBroken_3 10 rfl rfl)
theorem dX3_isBroken_80 : decode cX3_isBroken 80 = .ok (.iconst 0, 1) := dk_3 (dk_at dksX3_isBroken_3 13 rfl rfl)
theorem dX3_isBroken_81 : decode cX3_isBroken 81 = .ok (.iadd, 1) := dk_96 (dk_at dksX3_isBroken_3 14 rfl rfl)
theorem dX3_isBroken_82 : decode cX3_isBroken 82 = .ok (.istore 6, 2) := dk_54 6 (dk_at dksX3_isBroken_3 15 rfl rfl)
theorem dX3_isBroken_84 : decode cX3_isBroken 84 = .ok (.goto 94, 3) := dk_167 0 94 (dk_at dksX3_isBroken_3 17 rfl rfl)
theorem dX3_isBroken_87 : decode cX3_isBroken 87 = .ok (.iload 4, 2) := dk_21 4 (dk_at dksX3_isBroken_3 20 rfl rfl)
theorem dX3_isBroken_89 : decode cX3_isBroken 89 = .ok (.iconst 3, 1) := dk_6 (dk_at dksX3_isBroken_3 22 rfl rfl)
theorem dX3_isBroken_90 : decode cX3_isBroken 90 = .ok (.if_icmp .ne 51, 3) := dk_160 0 51 (dk_at dksX3_isBroken_4 0 rfl rfl)
theorem dX3_isBroken_93 : decode cX3_isBroken 93 = .ok (.iload 7, 2) := dk_21 7 (dk_at dksX3_isBroken_4 3 rfl rfl)
theorem dX3_isBroken_95 : decode cX3_isBroken 95 = .ok (.ifCond .ne 36, 3) := dk_154 0 36 (dk_at dksX3_isBroken_4 5 rfl rfl)
theorem dX3_isBroken_98 : decode cX3_isBroken 98 = .ok (.aload_n 0, 1) := dk_42 (dk_at dksX3_isBroken_4 8 rfl rfl)
theorem dX3_isBroken_99 : decode cX3_isBroken 99 = .ok (.getfield 21, 3) := dk_180 0 21 (dk_at dksX3_isBroken_4 9 rfl rfl)
theorem dX3_isBroken_102 : decode cX3_isBroken 102 = .ok (.iload 8, 2) := dk_21 8 (dk_at dksX3_isBroken_4 12 rfl rfl)
theorem dX3_isBroken_104 : decode cX3_isBroken 104 = .ok (.iaload, 1) := dk_46 (dk_at dksX3_isBroken_4 14 rfl rfl)
theorem dX3_isBroken_105 : decode cX3_isBroken 105 = .ok (.iload_n 3, 1) := dk_29 (dk_at dksX3_isBroken_4 15 rfl rfl)
theorem dX3_isBroken_106 : decode cX3_isBroken 106 = .ok (.if_icmp .ne 29, 3) := dk_160 0 29 (dk_at dksX3_isBroken_4 16 rfl rfl)
theorem dX3_isBroken_109 : decode cX3_isBroken 109 = .ok (.aload_n 0, 1) := dk_42 (dk_at dksX3_isBroken_4 19 rfl rfl)
theorem dX3_isBroken_110 : decode cX3_isBroken 110 = .ok (.iload_n 1, 1) := dk_27 (dk_at dksX3_isBroken_4 20 rfl rfl)
theorem dX3_isBroken_111 : decode cX3_isBroken 111 = .ok (.iload 8, 2) := dk_21 8 (dk_at dksX3_isBroken_4 21 rfl rfl)
theorem dX3_isBroken_113 : decode cX3_isBroken 113 = .ok (.invokevirtual 70, 3) := dk_182 0 70 (dk_at dksX3_isBroken_5 0 rfl rfl)
theorem dX3_isBroken_116 : decode cX3_isBroken 116 = .ok (.ifCond .ge 19, 3) := dk_156 0 19 (dk_at dksX3_isBroken_5 3 rfl rfl)
theorem dX3_isBroken_119 : decode cX3_isBroken 119 = .ok (.aload_n 0, 1) := dk_42 (dk_at dksX3_isBroken_5 6 rfl rfl)
theorem dX3_isBroken_120 : decode cX3_isBroken 120 = .ok (.iload_n 1, 1) := dk_27 (dk_at dksX3_isBroken_5 7 rfl rfl)
theorem dX3_isBroken_121 : decode cX3_isBroken 121 = .ok (.iload 8, 2) := dk_21 8 (dk_at dksX3_isBroken_5 8 rfl rfl)
theorem dX3_isBroken_123 : decode cX3_isBroken 123 = .ok (.invokevirtual 82, 3) := dk_182 0 82 (dk_at dksX3_isBroken_5 10 rfl rfl)
theorem dX3_isBroken_126 : decode cX3_isBroken 126 = .ok (.iload 5, 2) := dk_21 5 (dk_at dksX3_isBroken_5 13 rfl rfl)
theorem dX3_isBroken_128 : decode cX3_isBroken 128 = .ok (.if_icmp .ne 7, 3) := dk_160 0 7 (dk_at dksX3_isBroken_5 15 rfl rfl)
theorem dX3_isBroken_131 : decode cX3_isBroken 131 = .ok (.iconst 1, 1) := dk_4 (dk_at dksX3_isBroken_5 18 rfl rfl)
theorem dX3_isBroken_132 : decode cX3_isBroken 132 = .ok (.goto 4, 3) := dk_167 0 4 (dk_at dksX3_isBroken_5 19 rfl rfl)
theorem dX3_isBroken_135 : decode cX3_isBroken 135 = .ok (.iconst 0, 1) := dk_3 (dk_at dksX3_isBroken_5 22 rfl rfl)
theorem dX3_isBroken_136 : decode cX3_isBroken 136 = .ok (.istore 7, 2) := dk_54 7 (dk_at dksX3_isBroken_6 0 rfl rfl)
theorem dX3_isBroken_138 : decode cX3_isBroken 138 = .ok (.goto 40, 3) := dk_167 0 40 (dk_at dksX3_isBroken_6 2 rfl rfl)
theorem dX3_isBroken_141 : decode cX3_isBroken 141 = .ok (.iload 7, 2) := dk_21 7 (dk_at dksX3_isBroken_6 5 rfl rfl)
theorem dX3_isBroken_143 : decode cX3_isBroken 143 = .ok (.ifCond .ne 28, 3) := dk_154 0 28 (dk_at dksX3_isBroken_6 7 rfl rfl)
theorem dX3_isBroken_146 : decode cX3_isBroken 146 = .ok (.aload_n 0, 1) := dk_42 (dk_at dksX3_isBroken_6 10 rfl rfl)
theorem dX3_isBroken_147 : decode cX3_isBroken 147 = .ok (.getfield 21, 3) := dk_180 0 21 (dk_at dksX3_isBroken_6 11 rfl rfl)
theorem dX3_isBroken_150 : decode cX3_isBroken 150 = .ok (.iload 8, 2) := dk_21 8 (dk_at dksX3_isBroken_6 14 rfl rfl)
theorem dX3_isBroken_152 : decode cX3_isBroken 152 = .ok (.iaload, 1) := dk_46 (dk_at dksX3_isBroken_6 16 rfl rfl)
theorem dX3_isBroken_153 : decode cX3_isBroken 153 = .ok (.iload_n 3, 1) := dk_29 (dk_at dksX3_isBroken_6 17 rfl rfl)
theorem dX3_isBroken_154 : decode cX3_isBroken 154 = .ok (.if_icmp .ne 21, 3) := dk_160 0 21 (dk_at dksX3_isBroken_6 18 rfl rfl)
theorem dX3_isBroken_157 : decode cX3_isBroken 157 = .ok (.aload_n 0, 1) := dk_42 (dk_at dksX3_isBroken_6 21 rfl rfl)
theorem dX3_isBroken_158 : decode cX3_isBroken 158 = .ok (.iload_n 1, 1) := dk_27 (dk_at dksX3_isBroken_6 22 rfl rfl)
theorem dX3_isBroken_159 : decode cX3_isBroken 159 = .ok (.iload 8, 2) := dk_21 8 (dk_at dksX3_isBroken_7 0 rfl rfl)
theorem dX3_isBroken_161 : decode cX3_isBroken 161 = .ok (.iload 4, 2) := dk_21 4 (dk_at dksX3_isBroken_7 2 rfl rfl)
theorem dX3_isBroken_163 : decode cX3_isBroken 163 = .ok (.iload 5, 2) := dk_21 5 (dk_at dksX3_isBroken_7 4 rfl rfl)
theorem dX3_isBroken_165 : decode cX3_isBroken 165 = .ok (.invokevirtual 126, 3) := dk_182 0 126 (dk_at dksX3_isBroken_7 6 rfl rfl)
theorem dX3_isBroken_168 : decode cX3_isBroken 168 = .ok (.ifCond .eq 7, 3) := dk_153 0 7 (dk_at dksX3_isBroken_7 9 rfl rfl)
theorem dX3_isBroken_171 : decode cX3_isBroken 171 = .ok (.iconst 1, 1) := dk_4 (dk_at dksX3_isBroken_7 12 rfl rfl)
theorem dX3_isBroken_172 : decode cX3_isBroken 172 = .ok (.goto 4, 3) := dk_167 0 4 (dk_at dksX3_isBroken_7 13 rfl rfl)
theorem dX3_isBroken_175 : decode cX3_isBroken 175 = .ok (.iconst 0, 1) := dk_3 (dk_at dksX3_isBroken_7 16 rfl rfl)
theorem dX3_isBroken_176 : decode cX3_isBroken 176 = .ok (.istore 7, 2) := dk_54 7 (dk_at dksX3_isBroken_7 17 rfl rfl)
theorem dX3_isBroken_178 : decode cX3_isBroken 178 = .ok (.iinc 8 1, 3) := dk_132 8 1 (dk_at dksX3_isBroken_7 19 rfl rfl)
theorem dX3_isBroken_181 : decode cX3_isBroken 181 = .ok (.goto (-139), 3) := dk_167 255 117 (dk_at dksX3_isBroken_8 0 rfl rfl)
theorem dX3_isBroken_184 : decode cX3_isBroken 184 = .ok (.iload 4, 2) := dk_21 4 (dk_at dksX3_isBroken_8 3 rfl rfl)
theorem dX3_isBroken_186 : decode cX3_isBroken 186 = .ok (.iconst 4, 1) := dk_7 (dk_at dksX3_isBroken_8 5 rfl rfl)
theorem dX3_isBroken_187 : decode cX3_isBroken 187 = .ok (.if_icmp .ne 18, 3) := dk_160 0 18 (dk_at dksX3_isBroken_8 6 rfl rfl)
theorem dX3_isBroken_190 : decode cX3_isBroken 190 = .ok (.iload 6, 2) := dk_21 6 (dk_at dksX3_isBroken_8 9 rfl rfl)
theorem dX3_isBroken_192 : decode cX3_isBroken 192 = .ok (.iload 5, 2) := dk_21 5 (dk_at dksX3_isBroken_8 11 rfl rfl)
theorem dX3_isBroken_194 : decode cX3_isBroken 194 = .ok (.if_icmp .le 7, 3) := dk_164 0 7 (dk_at dksX3_isBroken_8 13 rfl rfl)
theorem dX3_isBroken_197 : decode cX3_isBroken 197 = .ok (.iconst 1, 1) := dk_4 (dk_at dksX3_isBroken_8 16 rfl rfl)
theorem dX3_isBroken_198 : decode cX3_isBroken 198 = .ok (.goto 9, 3) := dk_167 0 9 (dk_at dksX3_isBroken_8 17 rfl rfl)
theorem dX3_isBroken_201 : decode cX3_isBroken 201 = .ok (.iconst 0, 1) := dk_3 (dk_at dksX3_isBroken_8 20 rfl rfl)
theorem dX3_isBroken_202 : decode cX3_isBroken 202 = .ok (.goto 5, 3) := dk_167 0 5 (dk_at dksX3_isBroken_8 21 rfl rfl)
theorem dX3_isBroken_205 : decode cX3_isBroken 205 = .ok (.iload 7, 2) := dk_21 7 (dk_at dksX3_isBroken_9 0 rfl rfl)
theorem dX3_isBroken_207 : decode cX3_isBroken 207 = .ok (.ireturn, 1) := dk_172 (dk_at dksX3_isBroken_9 2 rfl rfl)
abbrev cX3_let : ByteArray := prog_18_method_81_code
def yX3_let : MethodName := ⟨RX3, "let", "(III)I"⟩
def dkwX3_let_5 : List UInt8 := [153, 0, 7, 4, 167, 0, 4, 3, 172]
abbrev dktX3_let_5 : List UInt8 := dkwX3_let_5 ++ []
def dkwX3_let_4 : List UInt8 := [28, 21, 5, 182, 1, 74, 153, 0, 7, 4, 167, 0, 4, 3, 54, 4, 132, 5, 1, 167, 255, 209, 21, 4]
abbrev dktX3_let_4 : List UInt8 := dkwX3_let_4 ++ dktX3_let_5
def dkwX3_let_3 : List UInt8 := [162, 0, 46, 29, 16, 8, 162, 0, 40, 21, 4, 153, 0, 26, 29, 21, 5, 184, 0, 113, 153, 0, 13, 42]
abbrev dktX3_let_3 : List UInt8 := dkwX3_let_3 ++ dktX3_let_4
def dkwX3_let_2 : List UInt8 := [182, 0, 181, 154, 0, 6, 18, 150, 172, 42, 28, 29, 182, 1, 74, 54, 4, 3, 54, 5, 21, 5, 16, 8]
abbrev dktX3_let_2 : List UInt8 := dkwX3_let_2 ++ dktX3_let_3
def dkwX3_let_1 : List UInt8 := [182, 0, 178, 154, 0, 6, 18, 143, 172, 42, 3, 28, 29, 182, 0, 120, 153, 0, 14, 42, 3, 27, 28, 29]
abbrev dktX3_let_1 : List UInt8 := dkwX3_let_1 ++ dktX3_let_2
def dkwX3_let_0 : List UInt8 := [42, 3, 181, 0, 1, 27, 184, 0, 169, 153, 0, 19, 42, 28, 182, 0, 164, 153, 0, 11, 42, 29]
abbrev dktX3_let_0 : List UInt8 := dkwX3_let_0 ++ dktX3_let_1
theorem dksX3_let_0 : cX3_let.data.toList.drop 0 = dktX3_let_0 := by decide +kernel
theorem dksX3_let_1 : cX3_let.data.toList.drop 22 = dktX3_let_1 := dk_seg dksX3_let_0 22 rfl rfl
theorem dksX3_let_2 : cX3_let.data.toList.drop 46 = dktX3_let_2 := dk_seg dksX3_let_1 24 rfl rfl
theorem dksX3_let_3 : cX3_let.data.toList.drop 70 = dktX3_let_3 := dk_seg dksX3_let_2 24 rfl rfl
theorem dksX3_let_4 : cX3_let.data.toList.drop 94 = dktX3_let_4 := dk_seg dksX3_let_3 24 rfl rfl
theorem dksX3_let_5 : cX3_let.data.toList.drop 118 = dktX3_let_5 := dk_seg dksX3_let_4 24 rfl rfl
theorem dX3_let_0 : decode cX3_let 0 = .ok (.aload_n 0, 1) := dk_42 (dk_at dksX3_let_0 0 rfl rfl)
theorem dX3_let_1 : decode cX3_let 1 = .ok (.iconst 0, 1) := dk_3 (dk_at dksX3_let_0 1 rfl rfl)
theorem dX3_let_2 : decode cX3_let 2 = .ok (.putfield 1, 3) := dk_181 0 1 (dk_at dksX3_let_0 2 rfl rfl)
theorem dX3_let_5 : decode cX3_let 5 = .ok (.iload_n 1, 1) := dk_27 (dk_at dksX3_let_0 5 rfl rfl)
theorem dX3_let_6 : decode cX3_let 6 = .ok (.invokestatic 169, 3) := dk_184 0 169 (dk_at dksX3_let_0 6 rfl rfl)
theorem dX3_let_9 : decode cX3_let 9 = .ok (.ifCond .eq 19, 3) := dk_153 0 19 (dk_at dksX3_let_0 9 rfl rfl)
theorem dX3_let_12 : decode cX3_let 12 = .ok (.aload_n 0, 1) := dk_42 (dk_at dksX3_let_0 12 rfl rfl)
theorem dX3_let_13 : decode cX3_let 13 = .ok (.iload_n 2, 1) := dk_28 (dk_at dksX3_let_0 13 rfl rfl)
theorem dX3_let_14 : decode cX3_let 14 = .ok (.invokevirtual 164, 3) := dk_182 0 164 (dk_at dksX3_let_0 14 rfl rfl)
theorem dX3_let_17 : decode cX3_let 17 = .ok (.ifCond .eq 11, 3) := dk_153 0 11 (dk_at dksX3_let_0 17 rfl rfl)
theorem dX3_let_20 : decode cX3_let 20 = .ok (.aload_n 0, 1) := dk_42 (dk_at dksX3_let_0 20 rfl rfl)
theorem dX3_let_21 : decode cX3_let 21 = .ok (.iload_n 3, 1) := dk_29 (dk_at dksX3_let_0 21 rfl rfl)
theorem dX3_let_22 : decode cX3_let 22 = .ok (.invokevirtual 178, 3) := dk_182 0 178 (dk_at dksX3_let_1 0 rfl rfl)
theorem dX3_let_25 : decode cX3_let 25 = .ok (.ifCond .ne 6, 3) := dk_154 0 6 (dk_at dksX3_let_1 3 rfl rfl)
theorem dX3_let_28 : decode cX3_let 28 = .ok (.ldc 143, 2) := dk_18 143 (dk_at dksX3_let_1 6 rfl rfl)
theorem dX3_let_30 : decode cX3_let 30 = .ok (.ireturn, 1) := dk_172 (dk_at dksX3_let_1 8 rfl rfl)
theorem dX3_let_31 : decode cX3_let 31 = .ok (.aload_n 0, 1) := dk_42 (dk_at dksX3_let_1 9 rfl rfl)
theorem dX3_let_32 : decode cX3_let 32 = .ok (.iconst 0, 1) := dk_3 (dk_at dksX3_let_1 10 rfl rfl)
theorem dX3_let_33 : decode cX3_let 33 = .ok (.iload_n 2, 1) := dk_28 (dk_at dksX3_let_1 11 rfl rfl)
theorem dX3_let_34 : decode cX3_let 34 = .ok (.iload_n 3, 1) := dk_29 (dk_at dksX3_let_1 12 rfl rfl)
theorem dX3_let_35 : decode cX3_let 35 = .ok (.invokevirtual 120, 3) := dk_182 0 120 (dk_at dksX3_let_1 13 rfl rfl)
theorem dX3_let_38 : decode cX3_let 38 = .ok (.ifCond .eq 14, 3) := dk_153 0 14 (dk_at dksX3_let_1 16 rfl rfl)
theorem dX3_let_41 : decode cX3_let 41 = .ok (.aload_n 0, 1) := dk_42 (dk_at dksX3_let_1 19 rfl rfl)
theorem dX3_let_42 : decode cX3_let 42 = .ok (.iconst 0, 1) := dk_3 (dk_at dksX3_let_1 20 rfl rfl)
theorem dX3_let_43 : decode cX3_let 43 = .ok (.iload_n 1, 1) := dk_27 (dk_at dksX3_let_1 21 rfl rfl)
theorem dX3_let_44 : decode cX3_let 44 = .ok (.iload_n 2, 1) := dk_28 (dk_at dksX3_let_1 22 rfl rfl)
theorem dX3_let_45 : decode cX3_let 45 = .ok (.iload_n 3, 1) := dk_29 (dk_at dksX3_let_1 23 rfl rfl)
theorem dX3_let_46 : decode cX3_let 46 = .ok (.invokevirtual 181, 3) := dk_182 0 181 (dk_at dksX3_let_2 0 rfl rfl)
theorem dX3_let_49 : decode cX3_let 49 = .ok (.ifCond .ne 6, 3) := dk_154 0 6 (dk_at dksX3_let_2 3 rfl rfl)
theorem dX3_let_52 : decode cX3_let 52 = .ok (.ldc 150, 2) := dk_18 150 (dk_at dksX3_let_2 6 rfl rfl)
theorem dX3_let_54 : decode cX3_let 54 = .ok (.ireturn, 1) := dk_172 (dk_at dksX3_let_2 8 rfl rfl)
theorem dX3_let_55 : decode cX3_let 55 = .ok (.aload_n 0, 1) := dk_42 (dk_at dksX3_let_2 9 rfl rfl)
theorem dX3_let_56 : decode cX3_let 56 = .ok (.iload_n 2, 1) := dk_28 (dk_at dksX3_let_2 10 rfl rfl)
theorem dX3_let_57 : decode cX3_let 57 = .ok (.iload_n 3, 1) := dk_29 (dk_at dksX3_let_2 11 rfl rfl)
theorem dX3_let_58 : decode cX3_let 58 = .ok (.invokevirtual 330, 3) := dk_182 1 74 (dk_at dksX3_let_2 12 rfl rfl)
theorem dX3_let_61 : decode cX3_let 61 = .ok (.istore 4, 2) := dk_54 4 (dk_at dksX3_let_2 15 rfl rfl)
theorem dX3_let_63 : decode cX3_let 63 = .ok (.iconst 0, 1) := dk_3 (dk_at dksX3_let_2 17 rfl rfl)
theorem dX3_let_64 : decode cX3_let 64 = .ok (.istore 5, 2) := dk_54 5 (dk_at dksX3_let_2 18 rfl rfl)
theorem dX3_let_66 : decode cX3_let 66 = .ok (.iload 5, 2) := dk_21 5 (dk_at dksX3_let_2 20 rfl rfl)
theorem dX3_let_68 : decode cX3_let 68 = .ok (.bipush 8, 2) := dk_16 8 (dk_at dksX3_let_2 22 rfl rfl)
theorem dX3_let_70 : decode cX3_let 70 = .ok (.if_icmp .ge 46, 3) := dk_162 0 46 (dk_at dksX3_let_3 0 rfl rfl)
theorem dX3_let_73 : decode cX3_let 73 = .ok (.iload_n 3, 1) := dk_29 (dk_at dksX3_let_3 3 rfl rfl)
theorem dX3_let_74 : decode cX3_let 74 = .ok (.bipush 8, 2) := dk_16 8 (dk_at dksX3_let_3 4 rfl rfl)
theorem dX3_let_76 : decode cX3_let 76 = .ok (.if_icmp .ge 40, 3) := dk_162 0 40 (dk_at dksX3_let_3 6 rfl rfl)
theorem dX3_let_79 : decode cX3_let 79 = .ok (.iload 4, 2) := dk_21 4 (dk_at dksX3_let_3 9 rfl rfl)
theorem dX3_let_81 : decode cX3_let 81 = .ok (.ifCond .eq 26, 3) := dk_153 0 26 (dk_at dksX3_let_3 11 rfl rfl)
theorem dX3_let_84 : decode cX3_let 84 = .ok (.iload_n 3, 1) := dk_29 (dk_at dksX3_let_3 14 rfl rfl)
theorem dX3_let_85 : decode cX3_let 85 = .ok (.iload 5, 2) := dk_21 5 (dk_at dksX3_let_3 15 rfl rfl)
theorem dX3_let_87 : decode cX3_let 87 = .ok (.invokestatic 113, 3) := dk_184 0 113 (dk_at dksX3_let_3 17 rfl rfl)
theorem dX3_let_90 : decode cX3_let 90 = .ok (.ifCond .eq 13, 3) := dk_153 0 13 (dk_at dksX3_let_3 20 rfl rfl)
theorem dX3_let_93 : decode cX3_let 93 = .ok (.aload_n 0, 1) := dk_42 (dk_at dksX3_let_3 23 rfl rfl)
theorem dX3_let_94 : decode cX3_let 94 = .ok (.iload_n 2, 1) := dk_28 (dk_at dksX3_let_4 0 rfl rfl)
theorem dX3_let_95 : decode cX3_let 95 = .ok (.iload 5, 2) := dk_21 5 (dk_at dksX3_let_4 1 rfl rfl)
theorem dX3_let_97 : decode cX3_let 97 = .ok (.invokevirtual 330, 3) := dk_182 1 74 (dk_at dksX3_let_4 3 rfl rfl)
theorem dX3_let_100 : decode cX3_let 100 = .ok (.ifCond .eq 7, 3) := dk_153 0 7 (dk_at dksX3_let_4 6 rfl rfl)
theorem dX3_let_103 : decode cX3_let 103 = .ok (.iconst 1, 1) := dk_4 (dk_at dksX3_let_4 9 rfl rfl)
theorem dX3_let_104 : decode cX3_let 104 = .ok (.goto 4, 3) := dk_167 0 4 (dk_at dksX3_let_4 10 rfl rfl)
theorem dX3_let_107 : decode cX3_let 107 = .ok (.iconst 0, 1) := dk_3 (dk_at dksX3_let_4 13 rfl rfl)
theorem dX3_let_108 : decode cX3_let 108 = .ok (.istore 4, 2) := dk_54 4 (dk_at dksX3_let_4 14 rfl rfl)
theorem dX3_let_110 : decode cX3_let 110 = .ok (.iinc 5 1, 3) := dk_132 5 1 (dk_at dksX3_let_4 16 rfl rfl)
theorem dX3_let_113 : decode cX3_let 113 = .ok (.goto (-47), 3) := dk_167 255 209 (dk_at dksX3_let_4 19 rfl rfl)
theorem dX3_let_116 : decode cX3_let 116 = .ok (.iload 4, 2) := dk_21 4 (dk_at dksX3_let_4 22 rfl rfl)
theorem dX3_let_118 : decode cX3_let 118 = .ok (.ifCond .eq 7, 3) := dk_153 0 7 (dk_at dksX3_let_5 0 rfl rfl)
theorem dX3_let_121 : decode cX3_let 121 = .ok (.iconst 1, 1) := dk_4 (dk_at dksX3_let_5 3 rfl rfl)
theorem dX3_let_122 : decode cX3_let 122 = .ok (.goto 4, 3) := dk_167 0 4 (dk_at dksX3_let_5 4 rfl rfl)
theorem dX3_let_125 : decode cX3_let 125 = .ok (.iconst 0, 1) := dk_3 (dk_at dksX3_let_5 7 rfl rfl)
theorem dX3_let_126 : decode cX3_let 126 = .ok (.ireturn, 1) := dk_172 (dk_at dksX3_let_5 8 rfl rfl)
abbrev cX3_isSafeBehind : ByteArray := prog_18_method_80_code
def yX3_isSafeBehind : MethodName := ⟨RX3, "isSafeBehind", "(II)Z"⟩
def dkwX3_isSafeBehind_1 : List UInt8 := [4, 167, 0, 4, 3, 172]
abbrev dktX3_isSafeBehind_1 : List UInt8 := dkwX3_isSafeBehind_1 ++ []
def dkwX3_isSafeBehind_0 : List UInt8 := [42, 3, 16, 9, 182, 0, 144, 42, 16, 9, 27, 28, 182, 0, 123, 42, 16, 9, 182, 1, 71, 154, 0, 7]
abbrev dktX3_isSafeBehind_0 : List UInt8 := dkwX3_isSafeBehind_0 ++ dktX3_isSafeBehind_1
theorem dksX3_isSafeBehind_0 : cX3_isSafeBehind.data.toList.drop 0 = dktX3_isSafeBehind_0 := by decide +kernel
theorem dksX3_isSafeBehind_1 : cX3_isSafeBehind.data.toList.drop 24 = dktX3_isSafeBehind_1 := dk_seg dksX3_isSafeBehind_0 24 rfl rfl
theorem dX3_isSafeBehind_0 : decode cX3_isSafeBehind 0 = .ok (.aload_n 0, 1) := dk_42 (dk_at dksX3_isSafeBehind_0 0 rfl rfl)
theorem dX3_isSafeBehind_1 : decode cX3_isSafeBehind 1 = .ok (.iconst 0, 1) := dk_3 (dk_at dksX3_isSafeBehind_0 1 rfl rfl)
theorem dX3_isSafeBehind_2 : decode cX3_isSafeBehind 2 = .ok (.bipush 9, 2) := dk_16 9 (dk_at dksX3_isSafeBehind_0 2 rfl rfl)
theorem dX3_isSafeBehind_4 : decode cX3_isSafeBehind 4 = .ok (.invokevirtual 144, 3) := dk_182 0 144 (dk_at dksX3_isSafeBehind_0 4 rfl rfl)
theorem dX3_isSafeBehind_7 : decode cX3_isSafeBehind 7 = .ok (.aload_n 0, 1) := dk_42 (dk_at dksX3_isSafeBehind_0 7 rfl rfl)
theorem dX3_isSafeBehind_8 : decode cX3_isSafeBehind 8 = .ok (.bipush 9, 2) := dk_16 9 (dk_at dksX3_isSafeBehind_0 8 rfl rfl)
theorem dX3_isSafeBehind_10 : decode cX3_isSafeBehind 10 = .ok (.iload_n 1, 1) := dk_27 (dk_at dksX3_isSafeBehind_0 10 rfl rfl)
theorem dX3_isSafeBehind_11 : decode cX3_isSafeBehind 11 = .ok (.iload_n 2, 1) := dk_28 (dk_at dksX3_isSafeBehind_0 11 rfl rfl)
theorem dX3_isSafeBehind_12 : decode cX3_isSafeBehind 12 = .ok (.invokevirtual 123, 3) := dk_182 0 123 (dk_at dksX3_isSafeBehind_0 12 rfl rfl)
theorem dX3_isSafeBehind_15 : decode cX3_isSafeBehind 15 = .ok (.aload_n 0, 1) := dk_42 (dk_at dksX3_isSafeBehind_0 15 rfl rfl)
theorem dX3_isSafeBehind_16 : decode cX3_isSafeBehind 16 = .ok (.bipush 9, 2) := dk_16 9 (dk_at dksX3_isSafeBehind_0 16 rfl rfl)
theorem dX3_isSafeBehind_18 : decode cX3_isSafeBehind 18 = .ok (.invokevirtual 327, 3) := dk_182 1 71 (dk_at dksX3_isSafeBehind_0 18 rfl rfl)
theorem dX3_isSafeBehind_21 : decode cX3_isSafeBehind 21 = .ok (.ifCond .ne 7, 3) := dk_154 0 7 (dk_at dksX3_isSafeBehind_0 21 rfl rfl)
theorem dX3_isSafeBehind_24 : decode cX3_isSafeBehind 24 = .ok (.iconst 1, 1) := dk_4 (dk_at dksX3_isSafeBehind_1 0 rfl rfl)
theorem dX3_isSafeBehind_25 : decode cX3_isSafeBehind 25 = .ok (.goto 4, 3) := dk_167 0 4 (dk_at dksX3_isSafeBehind_1 1 rfl rfl)
theorem dX3_isSafeBehind_28 : decode cX3_isSafeBehind 28 = .ok (.iconst 0, 1) := dk_3 (dk_at dksX3_isSafeBehind_1 4 rfl rfl)
theorem dX3_isSafeBehind_29 : decode cX3_isSafeBehind 29 = .ok (.ireturn, 1) := dk_172 (dk_at dksX3_isSafeBehind_1 5 rfl rfl)
abbrev cX3_ways : ByteArray := prog_18_method_82_code
def yX3_ways : MethodName := ⟨RX3, "ways", "(IIII)I"⟩
def dkwX3_ways_22 : List UInt8 := [132, 8, 1, 167, 255, 213, 132, 7, 1, 167, 254, 223, 18, 81, 172]
abbrev dktX3_ways_22 : List UInt8 := dkwX3_ways_22 ++ []
def dkwX3_ways_21 : List UInt8 := [21, 8, 51, 154, 0, 13, 42, 180, 0, 64, 21, 8, 51, 153, 0, 7, 4, 167, 0, 4, 3, 84]
abbrev dktX3_ways_21 : List UInt8 := dkwX3_ways_21 ++ dktX3_ways_22
def dkwX3_ways_20 : List UInt8 := [167, 255, 80, 3, 54, 8, 21, 8, 17, 0, 144, 162, 0, 41, 42, 180, 0, 61, 21, 8, 42, 180, 0, 61]
abbrev dktX3_ways_20 : List UInt8 := dkwX3_ways_20 ++ dktX3_ways_21
def dkwX3_ways_19 : List UInt8 := [21, 11, 104, 21, 12, 96, 4, 84, 132, 10, 1, 167, 255, 111, 132, 9, 1, 167, 255, 95, 132, 8, 1]
abbrev dktX3_ways_19 : List UInt8 := dkwX3_ways_19 ++ dktX3_ways_20
def dkwX3_ways_18 : List UInt8 := [21, 12, 96, 46, 42, 180, 0, 52, 21, 6, 21, 8, 96, 46, 159, 0, 17, 42, 180, 0, 64, 16, 12]
abbrev dktX3_ways_18 : List UInt8 := dkwX3_ways_18 ++ dktX3_ways_19
def dkwX3_ways_17 : List UInt8 := [42, 180, 0, 52, 21, 6, 29, 96, 21, 9, 96, 46, 160, 0, 28, 42, 180, 0, 52, 21, 6, 29, 96]
abbrev dktX3_ways_17 : List UInt8 := dkwX3_ways_17 ++ dktX3_ways_18
def dkwX3_ways_16 : List UInt8 := [180, 0, 52, 21, 6, 29, 96, 21, 12, 96, 46, 159, 0, 67, 42, 180, 0, 52, 21, 6, 21, 11, 96, 46]
abbrev dktX3_ways_16 : List UInt8 := dkwX3_ways_16 ++ dktX3_ways_17
def dkwX3_ways_15 : List UInt8 := [29, 162, 0, 99, 21, 12, 21, 4, 162, 0, 92, 42, 180, 0, 52, 21, 6, 21, 11, 96, 46, 42]
abbrev dktX3_ways_15 : List UInt8 := dkwX3_ways_15 ++ dktX3_ways_16
def dkwX3_ways_14 : List UInt8 := [51, 153, 0, 129, 21, 8, 21, 10, 5, 112, 96, 54, 11, 21, 9, 21, 10, 5, 108, 96, 54, 12, 21, 11]
abbrev dktX3_ways_14 : List UInt8 := dkwX3_ways_14 ++ dktX3_ways_15
def dkwX3_ways_13 : List UInt8 := [162, 0, 160, 3, 54, 10, 21, 10, 7, 162, 0, 145, 42, 180, 0, 61, 16, 12, 21, 8, 104, 21, 9, 96]
abbrev dktX3_ways_13 : List UInt8 := dkwX3_ways_13 ++ dktX3_ways_14
def dkwX3_ways_12 : List UInt8 := [84, 132, 8, 1, 167, 255, 237, 3, 54, 8, 21, 8, 29, 162, 0, 176, 3, 54, 9, 21, 9, 21, 4]
abbrev dktX3_ways_12 : List UInt8 := dkwX3_ways_12 ++ dktX3_ways_13
def dkwX3_ways_11 : List UInt8 := [153, 0, 6, 21, 7, 172, 3, 54, 8, 21, 8, 17, 0, 144, 162, 0, 17, 42, 180, 0, 64, 21, 8, 3]
abbrev dktX3_ways_11 : List UInt8 := dkwX3_ways_11 ++ dktX3_ways_12
def dkwX3_ways_10 : List UInt8 := [17, 0, 150, 162, 1, 31, 42, 180, 0, 61, 16, 12, 29, 4, 100, 104, 21, 4, 96, 4, 100, 51]
abbrev dktX3_ways_10 : List UInt8 := dkwX3_ways_10 ++ dktX3_ways_11
def dkwX3_ways_9 : List UInt8 := [46, 42, 180, 0, 52, 21, 6, 29, 96, 46, 159, 0, 7, 4, 167, 0, 4, 3, 84, 3, 54, 7, 21, 7]
abbrev dktX3_ways_9 : List UInt8 := dkwX3_ways_9 ++ dktX3_ways_10
def dkwX3_ways_8 : List UInt8 := [180, 0, 61, 21, 7, 3, 84, 132, 7, 1, 167, 255, 237, 42, 180, 0, 61, 3, 42, 180, 0, 52, 21, 6]
abbrev dktX3_ways_8 : List UInt8 := dkwX3_ways_8 ++ dktX3_ways_9
def dkwX3_ways_7 : List UInt8 := [132, 7, 1, 167, 255, 161, 42, 3, 181, 0, 7, 3, 54, 7, 21, 7, 17, 0, 144, 162, 0, 17, 42]
abbrev dktX3_ways_7 : List UInt8 := dkwX3_ways_7 ++ dktX3_ways_8
def dkwX3_ways_6 : List UInt8 := [46, 42, 180, 0, 52, 21, 6, 21, 7, 96, 4, 100, 46, 184, 0, 113, 154, 0, 6, 18, 143, 172]
abbrev dktX3_ways_6 : List UInt8 := dkwX3_ways_6 ++ dktX3_ways_7
def dkwX3_ways_5 : List UInt8 := [42, 180, 0, 52, 21, 6, 21, 7, 96, 4, 100, 46, 159, 0, 34, 42, 180, 0, 52, 21, 6, 21, 7, 96]
abbrev dktX3_ways_5 : List UInt8 := dkwX3_ways_5 ++ dktX3_ways_6
def dkwX3_ways_4 : List UInt8 := [153, 0, 67, 21, 7, 158, 0, 65, 21, 7, 29, 159, 0, 59, 42, 180, 0, 52, 21, 6, 21, 7, 96, 46]
abbrev dktX3_ways_4 : List UInt8 := dkwX3_ways_4 ++ dktX3_ways_5
def dkwX3_ways_3 : List UInt8 := [21, 7, 29, 21, 4, 96, 162, 0, 92, 42, 180, 0, 52, 21, 6, 21, 7, 96, 46, 184, 0, 157]
abbrev dktX3_ways_3 : List UInt8 := dkwX3_ways_3 ++ dktX3_ways_4
def dkwX3_ways_2 : List UInt8 := [182, 0, 203, 54, 5, 21, 5, 156, 0, 6, 21, 5, 172, 16, 40, 27, 104, 28, 96, 54, 6, 3, 54, 7]
abbrev dktX3_ways_2 : List UInt8 := dkwX3_ways_2 ++ dktX3_ways_3
def dkwX3_ways_1 : List UInt8 := [21, 4, 133, 10, 20, 1, 77, 184, 0, 135, 154, 0, 6, 18, 143, 172, 42, 27, 28, 29, 21, 4, 96]
abbrev dktX3_ways_1 : List UInt8 := dkwX3_ways_1 ++ dktX3_ways_2
def dkwX3_ways_0 : List UInt8 := [42, 3, 181, 0, 1, 27, 184, 0, 198, 153, 0, 28, 29, 133, 10, 20, 1, 77, 184, 0, 135, 153, 0, 16]
abbrev dktX3_ways_0 : List UInt8 := dkwX3_ways_0 ++ dktX3_ways_1
theorem dksX3_ways_0 : cX3_ways.data.toList.drop 0 = dktX3_ways_0 := by decide +kernel
theorem dksX3_ways_1 : cX3_ways.data.toList.drop 24 = dktX3_ways_1 := dk_seg dksX3_ways_0 24 rfl rfl
theorem dksX3_ways_2 : cX3_ways.data.toList.drop 47 = dktX3_ways_2 := dk_seg dksX3_ways_1 23 rfl rfl
theorem dksX3_ways_3 : cX3_ways.data.toList.drop 71 = dktX3_ways_3 := dk_seg dksX3_ways_2 24 rfl rfl
theorem dksX3_ways_4 : cX3_ways.data.toList.drop 93 = dktX3_ways_4 := dk_seg dksX3_ways_3 22 rfl rfl
theorem dksX3_ways_5 : cX3_ways.data.toList.drop 117 = dktX3_ways_5 := dk_seg dksX3_ways_4 24 rfl rfl
theorem dksX3_ways_6 : cX3_ways.data.toList.drop 141 = dktX3_ways_6 := dk_seg dksX3_ways_5 24 rfl rfl
theorem dksX3_ways_7 : cX3_ways.data.toList.drop 163 = dktX3_ways_7 := dk_seg dksX3_ways_6 22 rfl rfl
theorem dksX3_ways_8 : cX3_ways.data.toList.drop 186 = dktX3_ways_8 := dk_seg dksX3_ways_7 23 rfl rfl
theorem dksX3_ways_9 : cX3_ways.data.toList.drop 210 = dktX3_ways_9 := dk_seg dksX3_ways_8 24 rfl rfl
theorem dksX3_ways_10 : cX3_ways.data.toList.drop 234 = dktX3_ways_10 := dk_seg dksX3_ways_9 24 rfl rfl
theorem dksX3_ways_11 : cX3_ways.data.toList.drop 256 = dktX3_ways_11 := dk_seg dksX3_ways_10 22 rfl rfl
theorem dksX3_ways_12 : cX3_ways.data.toList.drop 280 = dktX3_ways_12 := dk_seg dksX3_ways_11 24 rfl rfl
theorem dksX3_ways_13 : cX3_ways.data.toList.drop 303 = dktX3_ways_13 := dk_seg dksX3_ways_12 23 rfl rfl
theorem dksX3_ways_14 : cX3_ways.data.toList.drop 327 = dktX3_ways_14 := dk_seg dksX3_ways_13 24 rfl rfl
theorem dksX3_ways_15 : cX3_ways.data.toList.drop 351 = dktX3_ways_15 := dk_seg dksX3_ways_14 24 rfl rfl
theorem dksX3_ways_16 : cX3_ways.data.toList.drop 373 = dktX3_ways_16 := dk_seg dksX3_ways_15 22 rfl rfl
theorem dksX3_ways_17 : cX3_ways.data.toList.drop 397 = dktX3_ways_17 := dk_seg dksX3_ways_16 24 rfl rfl
theorem dksX3_ways_18 : cX3_ways.data.toList.drop 420 = dktX3_ways_18 := dk_seg dksX3_ways_17 23 rfl rfl
theorem dksX3_ways_19 : cX3_ways.data.toList.drop 443 = dktX3_ways_19 := dk_seg dksX3_ways_18 23 rfl rfl
theorem dksX3_ways_20 : cX3_ways.data.toList.drop 466 = dktX3_ways_20 := dk_seg dksX3_ways_19 23 rfl rfl
theorem dksX3_ways_21 : cX3_ways.data.toList.drop 490 = dktX3_ways_21 := dk_seg dksX3_ways_20 24 rfl rfl
theorem dksX3_ways_22 : cX3_ways.data.toList.drop 512 = dktX3_ways_22 := dk_seg dksX3_ways_21 22 rfl rfl
theorem dX3_ways_0 : decode cX3_ways 0 = .ok (.aload_n 0, 1) := dk_42 (dk_at dksX3_ways_0 0 rfl rfl)
theorem dX3_ways_1 : decode cX3_ways 1 = .ok (.iconst 0, 1) := dk_3 (dk_at dksX3_ways_0 1 rfl rfl)
theorem dX3_ways_2 : decode cX3_ways 2 = .ok (.putfield 1, 3) := dk_181 0 1 (dk_at dksX3_ways_0 2 rfl rfl)
theorem dX3_ways_5 : decode cX3_ways 5 = .ok (.iload_n 1, 1) := dk_27 (dk_at dksX3_ways_0 5 rfl rfl)
theorem dX3_ways_6 : decode cX3_ways 6 = .ok (.invokestatic 198, 3) := dk_184 0 198 (dk_at dksX3_ways_0 6 rfl rfl)
theorem dX3_ways_9 : decode cX3_ways 9 = .ok (.ifCond .eq 28, 3) := dk_153 0 28 (dk_at dksX3_ways_0 9 rfl rfl)
theorem dX3_ways_12 : decode cX3_ways 12 = .ok (.iload_n 3, 1) := dk_29 (dk_at dksX3_ways_0 12 rfl rfl)
theorem dX3_ways_13 : decode cX3_ways 13 = .ok (.i2l, 1) := dk_133 (dk_at dksX3_ways_0 13 rfl rfl)
theorem dX3_ways_14 : decode cX3_ways 14 = .ok (.lconst 1, 1) := dk_10 (dk_at dksX3_ways_0 14 rfl rfl)
theorem dX3_ways_15 : decode cX3_ways 15 = .ok (.ldc2_w 333, 3) := dk_20 1 77 (dk_at dksX3_ways_0 15 rfl rfl)
theorem dX3_ways_18 : decode cX3_ways 18 = .ok (.invokestatic 135, 3) := dk_184 0 135 (dk_at dksX3_ways_0 18 rfl rfl)
theorem dX3_ways_21 : decode cX3_ways 21 = .ok (.ifCond .eq 16, 3) := dk_153 0 16 (dk_at dksX3_ways_0 21 rfl rfl)
theorem dX3_ways_24 : decode cX3_ways 24 = .ok (.iload 4, 2) := dk_21 4 (dk_at dksX3_ways_1 0 rfl rfl)
theorem dX3_ways_26 : decode cX3_ways 26 = .ok (.i2l, 1) := dk_133 (dk_at dksX3_ways_1 2 rfl rfl)
theorem dX3_ways_27 : decode cX3_ways 27 = .ok (.lconst 1, 1) := dk_10 (dk_at dksX3_ways_1 3 rfl rfl)
theorem dX3_ways_28 : decode cX3_ways 28 = .ok (.ldc2_w 333, 3) := dk_20 1 77 (dk_at dksX3_ways_1 4 rfl rfl)
theorem dX3_ways_31 : decode cX3_ways 31 = .ok (.invokestatic 135, 3) := dk_184 0 135 (dk_at dksX3_ways_1 7 rfl rfl)
theorem dX3_ways_34 : decode cX3_ways 34 = .ok (.ifCond .ne 6, 3) := dk_154 0 6 (dk_at dksX3_ways_1 10 rfl rfl)
theorem dX3_ways_37 : decode cX3_ways 37 = .ok (.ldc 143, 2) := dk_18 143 (dk_at dksX3_ways_1 13 rfl rfl)
theorem dX3_ways_39 : decode cX3_ways 39 = .ok (.ireturn, 1) := dk_172 (dk_at dksX3_ways_1 15 rfl rfl)
theorem dX3_ways_40 : decode cX3_ways 40 = .ok (.aload_n 0, 1) := dk_42 (dk_at dksX3_ways_1 16 rfl rfl)
theorem dX3_ways_41 : decode cX3_ways 41 = .ok (.iload_n 1, 1) := dk_27 (dk_at dksX3_ways_1 17 rfl rfl)
theorem dX3_ways_42 : decode cX3_ways 42 = .ok (.iload_n 2, 1) := dk_28 (dk_at dksX3_ways_1 18 rfl rfl)
theorem dX3_ways_43 : decode cX3_ways 43 = .ok (.iload_n 3, 1) := dk_29 (dk_at dksX3_ways_1 19 rfl rfl)
theorem dX3_ways_44 : decode cX3_ways 44 = .ok (.iload 4, 2) := dk_21 4 (dk_at dksX3_ways_1 20 rfl rfl)
theorem dX3_ways_46 : decode cX3_ways 46 = .ok (.iadd, 1) := dk_96 (dk_at dksX3_ways_1 22 rfl rfl)
theorem dX3_ways_47 : decode cX3_ways 47 = .ok (.invokevirtual 203, 3) := dk_182 0 203 (dk_at dksX3_ways_2 0 rfl rfl)
theorem dX3_ways_50 : decode cX3_ways 50 = .ok (.istore 5, 2) := dk_54 5 (dk_at dksX3_ways_2 3 rfl rfl)
theorem dX3_ways_52 : decode cX3_ways 52 = .ok (.iload 5, 2) := dk_21 5 (dk_at dksX3_ways_2 5 rfl rfl)
theorem dX3_ways_54 : decode cX3_ways 54 = .ok (.ifCond .ge 6, 3) := dk_156 0 6 (dk_at dksX3_ways_2 7 rfl rfl)
theorem dX3_ways_57 : decode cX3_ways 57 = .ok (.iload 5, 2) := dk_21 5 (dk_at dksX3_ways_2 10 rfl rfl)
theorem dX3_ways_59 : decode cX3_ways 59 = .ok (.ireturn, 1) := dk_172 (dk_at dksX3_ways_2 12 rfl rfl)
theorem dX3_ways_60 : decode cX3_ways 60 = .ok (.bipush 40, 2) := dk_16 40 (dk_at dksX3_ways_2 13 rfl rfl)
theorem dX3_ways_62 : decode cX3_ways 62 = .ok (.iload_n 1, 1) := dk_27 (dk_at dksX3_ways_2 15 rfl rfl)
theorem dX3_ways_63 : decode cX3_ways 63 = .ok (.imul, 1) := dk_104 (dk_at dksX3_ways_2 16 rfl rfl)
theorem dX3_ways_64 : decode cX3_ways 64 = .ok (.iload_n 2, 1) := dk_28 (dk_at dksX3_ways_2 17 rfl rfl)
theorem dX3_ways_65 : decode cX3_ways 65 = .ok (.iadd, 1) := dk_96 (dk_at dksX3_ways_2 18 rfl rfl)
theorem dX3_ways_66 : decode cX3_ways 66 = .ok (.istore 6, 2) := dk_54 6 (dk_at dksX3_ways_2 19 rfl rfl)
theorem dX3_ways_68 : decode cX3_ways 68 = .ok (.iconst 0, 1) := dk_3 (dk_at dksX3_ways_2 21 rfl rfl)
theorem dX3_ways_69 : decode cX3_ways 69 = .ok (.istore 7, 2) := dk_54 7 (dk_at dksX3_ways_2 22 rfl rfl)
theorem dX3_ways_71 : decode cX3_ways 71 = .ok (.iload 7, 2) := dk_21 7 (dk_at dksX3_ways_3 0 rfl rfl)
theorem dX3_ways_73 : decode cX3_ways 73 = .ok (.iload_n 3, 1) := dk_29 (dk_at dksX3_ways_3 2 rfl rfl)
theorem dX3_ways_74 : decode cX3_ways 74 = .ok (.iload 4, 2) := dk_21 4 (dk_at dksX3_ways_3 3 rfl rfl)
theorem dX3_ways_76 : decode cX3_ways 76 = .ok (.iadd, 1) := dk_96 (dk_at dksX3_ways_3 5 rfl rfl)
theorem dX3_ways_77 : decode cX3_ways 77 = .ok (.if_icmp .ge 92, 3) := dk_162 0 92 (dk_at dksX3_ways_3 6 rfl rfl)
theorem dX3_ways_80 : decode cX3_ways 80 = .ok (.aload_n 0, 1) := dk_42 (dk_at dksX3_ways_3 9 rfl rfl)
theorem dX3_ways_81 : decode cX3_ways 81 = .ok (.getfield 52, 3) := dk_180 0 52 (dk_at dksX3_ways_3 10 rfl rfl)
theorem dX3_ways_84 : decode cX3_ways 84 = .ok (.iload 6, 2) := dk_21 6 (dk_at dksX3_ways_3 13 rfl rfl)
theorem dX3_ways_86 : decode cX3_ways 86 = .ok (.iload 7, 2) := dk_21 7 (dk_at dksX3_ways_3 15 rfl rfl)
theorem dX3_ways_88 : decode cX3_ways 88 = .ok (.iadd, 1) := dk_96 (dk_at dksX3_ways_3 17 rfl rfl)
theorem dX3_ways_89 : decode cX3_ways 89 = .ok (.iaload, 1) := dk_46 (dk_at dksX3_ways_3 18 rfl rfl)
theorem dX3_ways_90 : decode cX3_ways 90 = .ok (.invokestatic 157, 3) := dk_184 0 157 (dk_at dksX3_ways_3 19 rfl rfl)
theorem dX3_ways_93 : decode cX3_ways 93 = .ok (.ifCond .eq 67, 3) := dk_153 0 67 (dk_at dksX3_ways_4 0 rfl rfl)
theorem dX3_ways_96 : decode cX3_ways 96 = .ok (.iload 7, 2) := dk_21 7 (dk_at dksX3_ways_4 3 rfl rfl)
theorem dX3_ways_98 : decode cX3_ways 98 = .ok (.ifCond .le 65, 3) := dk_158 0 65 (dk_at dksX3_ways_4 5 rfl rfl)
theorem dX3_ways_101 : decode cX3_ways 101 = .ok (.iload 7, 2) := dk_21 7 (dk_at dksX3_ways_4 8 rfl rfl)
theorem dX3_ways_103 : decode cX3_ways 103 = .ok (.iload_n 3, 1) := dk_29 (dk_at dksX3_ways_4 10 rfl rfl)
theorem dX3_ways_104 : decode cX3_ways 104 = .ok (.if_icmp .eq 59, 3) := dk_159 0 59 (dk_at dksX3_ways_4 11 rfl rfl)
theorem dX3_ways_107 : decode cX3_ways 107 = .ok (.aload_n 0, 1) := dk_42 (dk_at dksX3_ways_4 14 rfl rfl)
theorem dX3_ways_108 : decode cX3_ways 108 = .ok (.getfield 52, 3) := dk_180 0 52 (dk_at dksX3_ways_4 15 rfl rfl)
theorem dX3_ways_111 : decode cX3_ways 111 = .ok (.iload 6, 2) := dk_21 6 (dk_at dksX3_ways_4 18 rfl rfl)
theorem dX3_ways_113 : decode cX3_ways 113 = .ok (.iload 7, 2) := dk_21 7 (dk_at dksX3_ways_4 20 rfl rfl)
theorem dX3_ways_115 : decode cX3_ways 115 = .ok (.iadd, 1) := dk_96 (dk_at dksX3_ways_4 22 rfl rfl)
theorem dX3_ways_116 : decode cX3_ways 116 = .ok (.iaload, 1) := dk_46 (dk_at dksX3_ways_4 23 rfl rfl)
theorem dX3_ways_117 : decode cX3_ways 117 = .ok (.aload_n 0, 1) := dk_42 (dk_at dksX3_ways_5 0 rfl rfl)
theorem dX3_ways_118 : decode cX3_ways 118 = .ok (.getfield 52, 3) := dk_180 0 52 (dk_at dksX3_ways_5 1 rfl rfl)
theorem dX3_ways_121 : decode cX3_ways 121 = .ok (.iload 6, 2) := dk_21 6 (dk_at dksX3_ways_5 4 rfl rfl)
theorem dX3_ways_123 : decode cX3_ways 123 = .ok (.iload 7, 2) := dk_21 7 (dk_at dksX3_ways_5 6 rfl rfl)
theorem dX3_ways_125 : decode cX3_ways 125 = .ok (.iadd, 1) := dk_96 (dk_at dksX3_ways_5 8 rfl rfl)
theorem dX3_ways_126 : decode cX3_ways 126 = .ok (.iconst 1, 1) := dk_4 (dk_at dksX3_ways_5 9 rfl rfl)
theorem dX3_ways_127 : decode cX3_ways 127 = .ok (.isub, 1) := dk_100 (dk_at dksX3_ways_5 10 rfl rfl)
theorem dX3_ways_128 : decode cX3_ways 128 = .ok (.iaload, 1) := dk_46 (dk_at dksX3_ways_5 11 rfl rfl)
theorem dX3_ways_129 : decode cX3_ways 129 = .ok (.if_icmp .eq 34, 3) := dk_159 0 34 (dk_at dksX3_ways_5 12 rfl rfl)
theorem dX3_ways_132 : decode cX3_ways 132 = .ok (.aload_n 0, 1) := dk_42 (dk_at dksX3_ways_5 15 rfl rfl)
theorem dX3_ways_133 : decode cX3_ways 133 = .ok (.getfield 52, 3) := dk_180 0 52 (dk_at dksX3_ways_5 16 rfl rfl)
theorem dX3_ways_136 : decode cX3_ways 136 = .ok (.iload 6, 2) := dk_21 6 (dk_at dksX3_ways_5 19 rfl rfl)
theorem dX3_ways_138 : decode cX3_ways 138 = .ok (.iload 7, 2) := dk_21 7 (dk_at dksX3_ways_5 21 rfl rfl)
theorem dX3_ways_140 : decode cX3_ways 140 = .ok (.iadd, 1) := dk_96 (dk_at dksX3_ways_5 23 rfl rfl)
theorem dX3_ways_141 : decode cX3_ways 141 = .ok (.iaload, 1) := dk_46 (dk_at dksX3_ways_6 0 rfl rfl)
theorem dX3_ways_142 : decode cX3_ways 142 = .ok (.aload_n 0, 1) := dk_42 (dk_at dksX3_ways_6 1 rfl rfl)
theorem dX3_ways_143 : decode cX3_ways 143 = .ok (.getfield 52, 3) := dk_180 0 52 (dk_at dksX3_ways_6 2 rfl rfl)
theorem dX3_ways_146 : decode cX3_ways 146 = .ok (.iload 6, 2) := dk_21 6 (dk_at dksX3_ways_6 5 rfl rfl)
theorem dX3_ways_148 : decode cX3_ways 148 = .ok (.iload 7, 2) := dk_21 7 (dk_at dksX3_ways_6 7 rfl rfl)
theorem dX3_ways_150 : decode cX3_ways 150 = .ok (.iadd, 1) := dk_96 (dk_at dksX3_ways_6 9 rfl rfl)
theorem dX3_ways_151 : decode cX3_ways 151 = .ok (.iconst 1, 1) := dk_4 (dk_at dksX3_ways_6 10 rfl rfl)
theorem dX3_ways_152 : decode cX3_ways 152 = .ok (.isub, 1) := dk_100 (dk_at dksX3_ways_6 11 rfl rfl)
theorem dX3_ways_153 : decode cX3_ways 153 = .ok (.iaload, 1) := dk_46 (dk_at dksX3_ways_6 12 rfl rfl)
theorem dX3_ways_154 : decode cX3_ways 154 = .ok (.invokestatic 113, 3) := dk_184 0 113 (dk_at dksX3_ways_6 13 rfl rfl)
theorem dX3_ways_157 : decode cX3_ways 157 = .ok (.ifCond .ne 6, 3) := dk_154 0 6 (dk_at dksX3_ways_6 16 rfl rfl)
theorem dX3_ways_160 : decode cX3_ways 160 = .ok (.ldc 143, 2) := dk_18 143 (dk_at dksX3_ways_6 19 rfl rfl)
theorem dX3_ways_162 : decode cX3_ways 162 = .ok (.ireturn, 1) := dk_172 (dk_at dksX3_ways_6 21 rfl rfl)
theorem dX3_ways_163 : decode cX3_ways 163 = .ok (.iinc 7 1, 3) := dk_132 7 1 (dk_at dksX3_ways_7 0 rfl rfl)
theorem dX3_ways_166 : decode cX3_ways 166 = .ok (.goto (-95), 3) := dk_167 255 161 (dk_at dksX3_ways_7 3 rfl rfl)
theorem dX3_ways_169 : decode cX3_ways 169 = .ok (.aload_n 0, 1) := dk_42 (dk_at dksX3_ways_7 6 rfl rfl)
theorem dX3_ways_170 : decode cX3_ways 170 = .ok (.iconst 0, 1) := dk_3 (dk_at dksX3_ways_7 7 rfl rfl)
theorem dX3_ways_171 : decode cX3_ways 171 = .ok (.putfield 7, 3) := dk_181 0 7 (dk_at dksX3_ways_7 8 rfl rfl)
theorem dX3_ways_174 : decode cX3_ways 174 = .ok (.iconst 0, 1) := dk_3 (dk_at dksX3_ways_7 11 rfl rfl)
theorem dX3_ways_175 : decode cX3_ways 175 = .ok (.istore 7, 2) := dk_54 7 (dk_at dksX3_ways_7 12 rfl rfl)
theorem dX3_ways_177 : decode cX3_ways 177 = .ok (.iload 7, 2) := dk_21 7 (dk_at dksX3_ways_7 14 rfl rfl)
theorem dX3_ways_179 : decode cX3_ways 179 = .ok (.sipush 144, 3) := dk_17 0 144 (dk_at dksX3_ways_7 16 rfl rfl)
theorem dX3_ways_182 : decode cX3_ways 182 = .ok (.if_icmp .ge 17, 3) := dk_162 0 17 (dk_at dksX3_ways_7 19 rfl rfl)
theorem dX3_ways_185 : decode cX3_ways 185 = .ok (.aload_n 0, 1) := dk_42 (dk_at dksX3_ways_7 22 rfl rfl)
theorem dX3_ways_186 : decode cX3_ways 186 = .ok (.getfield 61, 3) := dk_180 0 61 (dk_at dksX3_ways_8 0 rfl rfl)
theorem dX3_ways_189 : decode cX3_ways 189 = .ok (.iload 7, 2) := dk_21 7 (dk_at dksX3_ways_8 3 rfl rfl)
theorem dX3_ways_191 : decode cX3_ways 191 = .ok (.iconst 0, 1) := dk_3 (dk_at dksX3_ways_8 5 rfl rfl)
theorem dX3_ways_192 : decode cX3_ways 192 = .ok (.bastore, 1) := dk_84 (dk_at dksX3_ways_8 6 rfl rfl)
theorem dX3_ways_193 : decode cX3_ways 193 = .ok (.iinc 7 1, 3) := dk_132 7 1 (dk_at dksX3_ways_8 7 rfl rfl)
theorem dX3_ways_196 : decode cX3_ways 196 = .ok (.goto (-19), 3) := dk_167 255 237 (dk_at dksX3_ways_8 10 rfl rfl)
theorem dX3_ways_199 : decode cX3_ways 199 = .ok (.aload_n 0, 1) := dk_42 (dk_at dksX3_ways_8 13 rfl rfl)
theorem dX3_ways_200 : decode cX3_ways 200 = .ok (.getfield 61, 3) := dk_180 0 61 (dk_at dksX3_ways_8 14 rfl rfl)
theorem dX3_ways_203 : decode cX3_ways 203 = .ok (.iconst 0, 1) := dk_3 (dk_at dksX3_ways_8 17 rfl rfl)
theorem dX3_ways_204 : decode cX3_ways 204 = .ok (.aload_n 0, 1) := dk_42 (dk_at dksX3_ways_8 18 rfl rfl)
theorem dX3_ways_205 : decode cX3_ways 205 = .ok (.getfield 52, 3) := dk_180 0 52 (dk_at dksX3_ways_8 19 rfl rfl)
theorem dX3_ways_208 : decode cX3_ways 208 = .ok (.iload 6, 2) := dk_21 6 (dk_at dksX3_ways_8 22 rfl rfl)
theorem dX3_ways_210 : decode cX3_ways 210 = .ok (.iaload, 1) := dk_46 (dk_at dksX3_ways_9 0 rfl rfl)
theorem dX3_ways_211 : decode cX3_ways 211 = .ok (.aload_n 0, 1) := dk_42 (dk_at dksX3_ways_9 1 rfl rfl)
theorem dX3_ways_212 : decode cX3_ways 212 = .ok (.getfield 52, 3) := dk_180 0 52 (dk_at dksX3_ways_9 2 rfl rfl)
theorem dX3_ways_215 : decode cX3_ways 215 = .ok (.iload 6, 2) := dk_21 6 (dk_at dksX3_ways_9 5 rfl rfl)
theorem dX3_ways_217 : decode cX3_ways 217 = .ok (.iload_n 3, 1) := dk_29 (dk_at dksX3_ways_9 7 rfl rfl)
theorem dX3_ways_218 : decode cX3_ways 218 = .ok (.iadd, 1) := dk_96 (dk_at dksX3_ways_9 8 rfl rfl)
theorem dX3_ways_219 : decode cX3_ways 219 = .ok (.iaload, 1) := dk_46 (dk_at dksX3_ways_9 9 rfl rfl)
theorem dX3_ways_220 : decode cX3_ways 220 = .ok (.if_icmp .eq 7, 3) := dk_159 0 7 (dk_at dksX3_ways_9 10 rfl rfl)
theorem dX3_ways_223 : decode cX3_ways 223 = .ok (.iconst 1, 1) := dk_4 (dk_at dksX3_ways_9 13 rfl rfl)
theorem dX3_ways_224 : decode cX3_ways 224 = .ok (.goto 4, 3) := dk_167 0 4 (dk_at dksX3_ways_9 14 rfl rfl)
theorem dX3_ways_227 : decode cX3_ways 227 = .ok (.iconst 0, 1) := dk_3 (dk_at dksX3_ways_9 17 rfl rfl)
theorem dX3_ways_228 : decode cX3_ways 228 = .ok (.bastore, 1) := dk_84 (dk_at dksX3_ways_9 18 rfl rfl)
theorem dX3_ways_229 : decode cX3_ways 229 = .ok (.iconst 0, 1) := dk_3 (dk_at dksX3_ways_9 19 rfl rfl)
theorem dX3_ways_230 : decode cX3_ways 230 = .ok (.istore 7, 2) := dk_54 7 (dk_at dksX3_ways_9 20 rfl rfl)
theorem dX3_ways_232 : decode cX3_ways 232 = .ok (.iload 7, 2) := dk_21 7 (dk_at dksX3_ways_9 22 rfl rfl)
theorem dX3_ways_234 : decode cX3_ways 234 = .ok (.sipush 150, 3) := dk_17 0 150 (dk_at dksX3_ways_10 0 rfl rfl)
theorem dX3_ways_237 : decode cX3_ways 237 = .ok (.if_icmp .ge 287, 3) := dk_162 1 31 (dk_at dksX3_ways_10 3 rfl rfl)
theorem dX3_ways_240 : decode cX3_ways 240 = .ok (.aload_n 0, 1) := dk_42 (dk_at dksX3_ways_10 6 rfl rfl)
theorem dX3_ways_241 : decode cX3_ways 241 = .ok (.getfield 61, 3) := dk_180 0 61 (dk_at dksX3_ways_10 7 rfl rfl)
theorem dX3_ways_244 : decode cX3_ways 244 = .ok (.bipush 12, 2) := dk_16 12 (dk_at dksX3_ways_10 10 rfl rfl)
theorem dX3_ways_246 : decode cX3_ways 246 = .ok (.iload_n 3, 1) := dk_29 (dk_at dksX3_ways_10 12 rfl rfl)
theorem dX3_ways_247 : decode cX3_ways 247 = .ok (.iconst 1, 1) := dk_4 (dk_at dksX3_ways_10 13 rfl rfl)
theorem dX3_ways_248 : decode cX3_ways 248 = .ok (.isub, 1) := dk_100 (dk_at dksX3_ways_10 14 rfl rfl)
theorem dX3_ways_249 : decode cX3_ways 249 = .ok (.imul, 1) := dk_104 (dk_at dksX3_ways_10 15 rfl rfl)
theorem dX3_ways_250 : decode cX3_ways 250 = .ok (.iload 4, 2) := dk_21 4 (dk_at dksX3_ways_10 16 rfl rfl)
theorem dX3_ways_252 : decode cX3_ways 252 = .ok (.iadd, 1) := dk_96 (dk_at dksX3_ways_10 18 rfl rfl)
theorem dX3_ways_253 : decode cX3_ways 253 = .ok (.iconst 1, 1) := dk_4 (dk_at dksX3_ways_10 19 rfl rfl)
theorem dX3_ways_254 : decode cX3_ways 254 = .ok (.isub, 1) := dk_100 (dk_at dksX3_ways_10 20 rfl rfl)
theorem dX3_ways_255 : decode cX3_ways 255 = .ok (.baload, 1) := dk_51 (dk_at dksX3_ways_10 21 rfl rfl)
theorem dX3_ways_256 : decode cX3_ways 256 = .ok (.ifCond .eq 6, 3) := dk_153 0 6 (dk_at dksX3_ways_11 0 rfl rfl)
theorem dX3_ways_259 : decode cX3_ways 259 = .ok (.iload 7, 2) := dk_21 7 (dk_at dksX3_ways_11 3 rfl rfl)
theorem dX3_ways_261 : decode cX3_ways 261 = .ok (.ireturn, 1) := dk_172 (dk_at dksX3_ways_11 5 rfl rfl)
theorem dX3_ways_262 : decode cX3_ways 262 = .ok (.iconst 0, 1) := dk_3 (dk_at dksX3_ways_11 6 rfl rfl)
theorem dX3_ways_263 : decode cX3_ways 263 = .ok (.istore 8, 2) := dk_54 8 (dk_at dksX3_ways_11 7 rfl rfl)
theorem dX3_ways_265 : decode cX3_ways 265 = .ok (.iload 8, 2) := dk_21 8 (dk_at dksX3_ways_11 9 rfl rfl)
theorem dX3_ways_267 : decode cX3_ways 267 = .ok (.sipush 144, 3) := dk_17 0 144 (dk_at dksX3_ways_11 11 rfl rfl)
theorem dX3_ways_270 : decode cX3_ways 270 = .ok (.if_icmp .ge 17, 3) := dk_162 0 17 (dk_at dksX3_ways_11 14 rfl rfl)
theorem dX3_ways_273 : decode cX3_ways 273 = .ok (.aload_n 0, 1) := dk_42 (dk_at dksX3_ways_11 17 rfl rfl)
theorem dX3_ways_274 : decode cX3_ways 274 = .ok (.getfield 64, 3) := dk_180 0 64 (dk_at dksX3_ways_11 18 rfl rfl)
theorem dX3_ways_277 : decode cX3_ways 277 = .ok (.iload 8, 2) := dk_21 8 (dk_at dksX3_ways_11 21 rfl rfl)
theorem dX3_ways_279 : decode cX3_ways 279 = .ok (.iconst 0, 1) := dk_3 (dk_at dksX3_ways_11 23 rfl rfl)
theorem dX3_ways_280 : decode cX3_ways 280 = .ok (.bastore, 1) := dk_84 (dk_at dksX3_ways_12 0 rfl rfl)
theorem dX3_ways_281 : decode cX3_ways 281 = .ok (.iinc 8 1, 3) := dk_132 8 1 (dk_at dksX3_ways_12 1 rfl rfl)
theorem dX3_ways_284 : decode cX3_ways 284 = .ok (.goto (-19), 3) := dk_167 255 237 (dk_at dksX3_ways_12 4 rfl rfl)
theorem dX3_ways_287 : decode cX3_ways 287 = .ok (.iconst 0, 1) := dk_3 (dk_at dksX3_ways_12 7 rfl rfl)
theorem dX3_ways_288 : decode cX3_ways 288 = .ok (.istore 8, 2) := dk_54 8 (dk_at dksX3_ways_12 8 rfl rfl)
theorem dX3_ways_290 : decode cX3_ways 290 = .ok (.iload 8, 2) := dk_21 8 (dk_at dksX3_ways_12 10 rfl rfl)
theorem dX3_ways_292 : decode cX3_ways 292 = .ok (.iload_n 3, 1) := dk_29 (dk_at dksX3_ways_12 12 rfl rfl)
theorem dX3_ways_293 : decode cX3_ways 293 = .ok (.if_icmp .ge 176, 3) := dk_162 0 176 (dk_at dksX3_ways_12 13 rfl rfl)
theorem dX3_ways_296 : decode cX3_ways 296 = .ok (.iconst 0, 1) := dk_3 (dk_at dksX3_ways_12 16 rfl rfl)
theorem dX3_ways_297 : decode cX3_ways 297 = .ok (.istore 9, 2) := dk_54 9 (dk_at dksX3_ways_12 17 rfl rfl)
theorem dX3_ways_299 : decode cX3_ways 299 = .ok (.iload 9, 2) := dk_21 9 (dk_at dksX3_ways_12 19 rfl rfl)
theorem dX3_ways_301 : decode cX3_ways 301 = .ok (.iload 4, 2) := dk_21 4 (dk_at dksX3_ways_12 21 rfl rfl)
theorem dX3_ways_303 : decode cX3_ways 303 = .ok (.if_icmp .ge 160, 3) := dk_162 0 160 (dk_at dksX3_ways_13 0 rfl rfl)
theorem dX3_ways_306 : decode cX3_ways 306 = .ok (.iconst 0, 1) := dk_3 (dk_at dksX3_ways_13 3 rfl rfl)
theorem dX3_ways_307 : decode cX3_ways 307 = .ok (.istore 10, 2) := dk_54 10 (dk_at dksX3_ways_13 4 rfl rfl)
theorem dX3_ways_309 : decode cX3_ways 309 = .ok (.iload 10, 2) := dk_21 10 (dk_at dksX3_ways_13 6 rfl rfl)
theorem dX3_ways_311 : decode cX3_ways 311 = .ok (.iconst 4, 1) := dk_7 (dk_at dksX3_ways_13 8 rfl rfl)
theorem dX3_ways_312 : decode cX3_ways 312 = .ok (.if_icmp .ge 145, 3) := dk_162 0 145 (dk_at dksX3_ways_13 9 rfl rfl)
theorem dX3_ways_315 : decode cX3_ways 315 = .ok (.aload_n 0, 1) := dk_42 (dk_at dksX3_ways_13 12 rfl rfl)
theorem dX3_ways_316 : decode cX3_ways 316 = .ok (.getfield 61, 3) := dk_180 0 61 (dk_at dksX3_ways_13 13 rfl rfl)
theorem dX3_ways_319 : decode cX3_ways 319 = .ok (.bipush 12, 2) := dk_16 12 (dk_at dksX3_ways_13 16 rfl rfl)
theorem dX3_ways_321 : decode cX3_ways 321 = .ok (.iload 8, 2) := dk_21 8 (dk_at dksX3_ways_13 18 rfl rfl)
theorem dX3_ways_323 : decode cX3_ways 323 = .ok (.imul, 1) := dk_104 (dk_at dksX3_ways_13 20 rfl rfl)
theorem dX3_ways_324 : decode cX3_ways 324 = .ok (.iload 9, 2) := dk_21 9 (dk_at dksX3_ways_13 21 rfl rfl)
theorem dX3_ways_326 : decode cX3_ways 326 = .ok (.iadd, 1) := dk_96 (dk_at dksX3_ways_13 23 rfl rfl)
theorem dX3_ways_327 : decode cX3_ways 327 = .ok (.baload, 1) := dk_51 (dk_at dksX3_ways_14 0 rfl rfl)
theorem dX3_ways_328 : decode cX3_ways 328 = .ok (.ifCond .eq 129, 3) := dk_153 0 129 (dk_at dksX3_ways_14 1 rfl rfl)
theorem dX3_ways_331 : decode cX3_ways 331 = .ok (.iload 8, 2) := dk_21 8 (dk_at dksX3_ways_14 4 rfl rfl)
theorem dX3_ways_333 : decode cX3_ways 333 = .ok (.iload 10, 2) := dk_21 10 (dk_at dksX3_ways_14 6 rfl rfl)
theorem dX3_ways_335 : decode cX3_ways 335 = .ok (.iconst 2, 1) := dk_5 (dk_at dksX3_ways_14 8 rfl rfl)
theorem dX3_ways_336 : decode cX3_ways 336 = .ok (.irem, 1) := dk_112 (dk_at dksX3_ways_14 9 rfl rfl)
theorem dX3_ways_337 : decode cX3_ways 337 = .ok (.iadd, 1) := dk_96 (dk_at dksX3_ways_14 10 rfl rfl)
theorem dX3_ways_338 : decode cX3_ways 338 = .ok (.istore 11, 2) := dk_54 11 (dk_at dksX3_ways_14 11 rfl rfl)
theorem dX3_ways_340 : decode cX3_ways 340 = .ok (.iload 9, 2) := dk_21 9 (dk_at dksX3_ways_14 13 rfl rfl)
theorem dX3_ways_342 : decode cX3_ways 342 = .ok (.iload 10, 2) := dk_21 10 (dk_at dksX3_ways_14 15 rfl rfl)
theorem dX3_ways_344 : decode cX3_ways 344 = .ok (.iconst 2, 1) := dk_5 (dk_at dksX3_ways_14 17 rfl rfl)
theorem dX3_ways_345 : decode cX3_ways 345 = .ok (.idiv, 1) := dk_108 (dk_at dksX3_ways_14 18 rfl rfl)
theorem dX3_ways_346 : decode cX3_ways 346 = .ok (.iadd, 1) := dk_96 (dk_at dksX3_ways_14 19 rfl rfl)
theorem dX3_ways_347 : decode cX3_ways 347 = .ok (.istore 12, 2) := dk_54 12 (dk_at dksX3_ways_14 20 rfl rfl)
theorem dX3_ways_349 : decode cX3_ways 349 = .ok (.iload 11, 2) := dk_21 11 (dk_at dksX3_ways_14 22 rfl rfl)
theorem dX3_ways_351 : decode cX3_ways 351 = .ok (.iload_n 3, 1) := dk_29 (dk_at dksX3_ways_15 0 rfl rfl)
theorem dX3_ways_352 : decode cX3_ways 352 = .ok (.if_icmp .ge 99, 3) := dk_162 0 99 (dk_at dksX3_ways_15 1 rfl rfl)
theorem dX3_ways_355 : decode cX3_ways 355 = .ok (.iload 12, 2) := dk_21 12 (dk_at dksX3_ways_15 4 rfl rfl)
theorem dX3_ways_357 : decode cX3_ways 357 = .ok (.iload 4, 2) := dk_21 4 (dk_at dksX3_ways_15 6 rfl rfl)
theorem dX3_ways_359 : decode cX3_ways 359 = .ok (.if_icmp .ge 92, 3) := dk_162 0 92 (dk_at dksX3_ways_15 8 rfl rfl)
theorem dX3_ways_362 : decode cX3_ways 362 = .ok (.aload_n 0, 1) := dk_42 (dk_at dksX3_ways_15 11 rfl rfl)
theorem dX3_ways_363 : decode cX3_ways 363 = .ok (.getfield 52, 3) := dk_180 0 52 (dk_at dksX3_ways_15 12 rfl rfl)
theorem dX3_ways_366 : decode cX3_ways 366 = .ok (.iload 6, 2) := dk_21 6 (dk_at dksX3_ways_15 15 rfl rfl)
theorem dX3_ways_368 : decode cX3_ways 368 = .ok (.iload 11, 2) := dk_21 11 (dk_at dksX3_ways_15 17 rfl rfl)
theorem dX3_ways_370 : decode cX3_ways 370 = .ok (.iadd, 1) := dk_96 (dk_at dksX3_ways_15 19 rfl rfl)
theorem dX3_ways_371 : decode cX3_ways 371 = .ok (.iaload, 1) := dk_46 (dk_at dksX3_ways_15 20 rfl rfl)
theorem dX3_ways_372 : decode cX3_ways 372 = .ok (.aload_n 0, 1) := dk_42 (dk_at dksX3_ways_15 21 rfl rfl)
theorem dX3_ways_373 : decode cX3_ways 373 = .ok (.getfield 52, 3) := dk_180 0 52 (dk_at dksX3_ways_16 0 rfl rfl)
theorem dX3_ways_376 : decode cX3_ways 376 = .ok (.iload 6, 2) := dk_21 6 (dk_at dksX3_ways_16 3 rfl rfl)
theorem dX3_ways_378 : decode cX3_ways 378 = .ok (.iload_n 3, 1) := dk_29 (dk_at dksX3_ways_16 5 rfl rfl)
theorem dX3_ways_379 : decode cX3_ways 379 = .ok (.iadd, 1) := dk_96 (dk_at dksX3_ways_16 6 rfl rfl)
theorem dX3_ways_380 : decode cX3_ways 380 = .ok (.iload 12, 2) := dk_21 12 (dk_at dksX3_ways_16 7 rfl rfl)
theorem dX3_ways_382 : decode cX3_ways 382 = .ok (.iadd, 1) := dk_96 (dk_at dksX3_ways_16 9 rfl rfl)
theorem dX3_ways_383 : decode cX3_ways 383 = .ok (.iaload, 1) := dk_46 (dk_at dksX3_ways_16 10 rfl rfl)
theorem dX3_ways_384 : decode cX3_ways 384 = .ok (.if_icmp .eq 67, 3) := dk_159 0 67 (dk_at dksX3_ways_16 11 rfl rfl)
theorem dX3_ways_387 : decode cX3_ways 387 = .ok (.aload_n 0, 1) := dk_42 (dk_at dksX3_ways_16 14 rfl rfl)
theorem dX3_ways_388 : decode cX3_ways 388 = .ok (.getfield 52, 3) := dk_180 0 52 (dk_at dksX3_ways_16 15 rfl rfl)
theorem dX3_ways_391 : decode cX3_ways 391 = .ok (.iload 6, 2) := dk_21 6 (dk_at dksX3_ways_16 18 rfl rfl)
theorem dX3_ways_393 : decode cX3_ways 393 = .ok (.iload 11, 2) := dk_21 11 (dk_at dksX3_ways_16 20 rfl rfl)
theorem dX3_ways_395 : decode cX3_ways 395 = .ok (.iadd, 1) := dk_96 (dk_at dksX3_ways_16 22 rfl rfl)
theorem dX3_ways_396 : decode cX3_ways 396 = .ok (.iaload, 1) := dk_46 (dk_at dksX3_ways_16 23 rfl rfl)
theorem dX3_ways_397 : decode cX3_ways 397 = .ok (.aload_n 0, 1) := dk_42 (dk_at dksX3_ways_17 0 rfl rfl)
theorem dX3_ways_398 : decode cX3_ways 398 = .ok (.getfield 52, 3) := dk_180 0 52 (dk_at dksX3_ways_17 1 rfl rfl)
theorem dX3_ways_401 : decode cX3_ways 401 = .ok (.iload 6, 2) := dk_21 6 (dk_at dksX3_ways_17 4 rfl rfl)
theorem dX3_ways_403 : decode cX3_ways 403 = .ok (.iload_n 3, 1) := dk_29 (dk_at dksX3_ways_17 6 rfl rfl)
theorem dX3_ways_404 : decode cX3_ways 404 = .ok (.iadd, 1) := dk_96 (dk_at dksX3_ways_17 7 rfl rfl)
theorem dX3_ways_405 : decode cX3_ways 405 = .ok (.iload 9, 2) := dk_21 9 (dk_at dksX3_ways_17 8 rfl rfl)
theorem dX3_ways_407 : decode cX3_ways 407 = .ok (.iadd, 1) := dk_96 (dk_at dksX3_ways_17 10 rfl rfl)
theorem dX3_ways_408 : decode cX3_ways 408 = .ok (.iaload, 1) := dk_46 (dk_at dksX3_ways_17 11 rfl rfl)
theorem dX3_ways_409 : decode cX3_ways 409 = .ok (.if_icmp .ne 28, 3) := dk_160 0 28 (dk_at dksX3_ways_17 12 rfl rfl)
theorem dX3_ways_412 : decode cX3_ways 412 = .ok (.aload_n 0, 1) := dk_42 (dk_at dksX3_ways_17 15 rfl rfl)
theorem dX3_ways_413 : decode cX3_ways 413 = .ok (.getfield 52, 3) := dk_180 0 52 (dk_at dksX3_ways_17 16 rfl rfl)
theorem dX3_ways_416 : decode cX3_ways 416 = .ok (.iload 6, 2) := dk_21 6 (dk_at dksX3_ways_17 19 rfl rfl)
theorem dX3_ways_418 : decode cX3_ways 418 = .ok (.iload_n 3, 1) := dk_29 (dk_at dksX3_ways_17 21 rfl rfl)
theorem dX3_ways_419 : decode cX3_ways 419 = .ok (.iadd, 1) := dk_96 (dk_at dksX3_ways_17 22 rfl rfl)
theorem dX3_ways_420 : decode cX3_ways 420 = .ok (.iload 12, 2) := dk_21 12 (dk_at dksX3_ways_18 0 rfl rfl)
theorem dX3_ways_422 : decode cX3_ways 422 = .ok (.iadd, 1) := dk_96 (dk_at dksX3_ways_18 2 rfl rfl)
theorem dX3_ways_423 : decode cX3_ways 423 = .ok (.iaload, 1) := dk_46 (dk_at dksX3_ways_18 3 rfl rfl)
theorem dX3_ways_424 : decode cX3_ways 424 = .ok (.aload_n 0, 1) := dk_42 (dk_at dksX3_ways_18 4 rfl rfl)
theorem dX3_ways_425 : decode cX3_ways 425 = .ok (.getfield 52, 3) := dk_180 0 52 (dk_at dksX3_ways_18 5 rfl rfl)
theorem dX3_ways_428 : decode cX3_ways 428 = .ok (.iload 6, 2) := dk_21 6 (dk_at dksX3_ways_18 8 rfl rfl)
theorem dX3_ways_430 : decode cX3_ways 430 = .ok (.iload 8, 2) := dk_21 8 (dk_at dksX3_ways_18 10 rfl rfl)
theorem dX3_ways_432 : decode cX3_ways 432 = .ok (.iadd, 1) := dk_96 (dk_at dksX3_ways_18 12 rfl rfl)
theorem dX3_ways_433 : decode cX3_ways 433 = .ok (.iaload, 1) := dk_46 (dk_at dksX3_ways_18 13 rfl rfl)
theorem dX3_ways_434 : decode cX3_ways 434 = .ok (.if_icmp .eq 17, 3) := dk_159 0 17 (dk_at dksX3_ways_18 14 rfl rfl)
theorem dX3_ways_437 : decode cX3_ways 437 = .ok (.aload_n 0, 1) := dk_42 (dk_at dksX3_ways_18 17 rfl rfl)
theorem dX3_ways_438 : decode cX3_ways 438 = .ok (.getfield 64, 3) := dk_180 0 64 (dk_at dksX3_ways_18 18 rfl rfl)
theorem dX3_ways_441 : decode cX3_ways 441 = .ok (.bipush 12, 2) := dk_16 12 (dk_at dksX3_ways_18 21 rfl rfl)
theorem dX3_ways_443 : decode cX3_ways 443 = .ok (.iload 11, 2) := dk_21 11 (dk_at dksX3_ways_19 0 rfl rfl)
theorem dX3_ways_445 : decode cX3_ways 445 = .ok (.imul, 1) := dk_104 (dk_at dksX3_ways_19 2 rfl rfl)
theorem dX3_ways_446 : decode cX3_ways 446 = .ok (.iload 12, 2) := dk_21 12 (dk_at dksX3_ways_19 3 rfl rfl)
theorem dX3_ways_448 : decode cX3_ways 448 = .ok (.iadd, 1) := dk_96 (dk_at dksX3_ways_19 5 rfl rfl)
theorem dX3_ways_449 : decode cX3_ways 449 = .ok (.iconst 1, 1) := dk_4 (dk_at dksX3_ways_19 6 rfl rfl)
theorem dX3_ways_450 : decode cX3_ways 450 = .ok (.bastore, 1) := dk_84 (dk_at dksX3_ways_19 7 rfl rfl)
theorem dX3_ways_451 : decode cX3_ways 451 = .ok (.iinc 10 1, 3) := dk_132 10 1 (dk_at dksX3_ways_19 8 rfl rfl)
theorem dX3_ways_454 : decode cX3_ways 454 = .ok (.goto (-145), 3) := dk_167 255 111 (dk_at dksX3_ways_19 11 rfl rfl)
theorem dX3_ways_457 : decode cX3_ways 457 = .ok (.iinc 9 1, 3) := dk_132 9 1 (dk_at dksX3_ways_19 14 rfl rfl)
theorem dX3_ways_460 : decode cX3_ways 460 = .ok (.goto (-161), 3) := dk_167 255 95 (dk_at dksX3_ways_19 17 rfl rfl)
theorem dX3_ways_463 : decode cX3_ways 463 = .ok (.iinc 8 1, 3) := dk_132 8 1 (dk_at dksX3_ways_19 20 rfl rfl)
theorem dX3_ways_466 : decode cX3_ways 466 = .ok (.goto (-176), 3) := dk_167 255 80 (dk_at dksX3_ways_20 0 rfl rfl)
theorem dX3_ways_469 : decode cX3_ways 469 = .ok (.iconst 0, 1) := dk_3 (dk_at dksX3_ways_20 3 rfl rfl)
theorem dX3_ways_470 : decode cX3_ways 470 = .ok (.istore 8, 2) := dk_54 8 (dk_at dksX3_ways_20 4 rfl rfl)
theorem dX3_ways_472 : decode cX3_ways 472 = .ok (.iload 8, 2) := dk_21 8 (dk_at dksX3_ways_20 6 rfl rfl)
theorem dX3_ways_474 : decode cX3_ways 474 = .ok (.sipush 144, 3) := dk_17 0 144 (dk_at dksX3_ways_20 8 rfl rfl)
theorem dX3_ways_477 : decode cX3_ways 477 = .ok (.if_icmp .ge 41, 3) := dk_162 0 41 (dk_at dksX3_ways_20 11 rfl rfl)
theorem dX3_ways_480 : decode cX3_ways 480 = .ok (.aload_n 0, 1) := dk_42 (dk_at dksX3_ways_20 14 rfl rfl)
theorem dX3_ways_481 : decode cX3_ways 481 = .ok (.getfield 61, 3) := dk_180 0 61 (dk_at dksX3_ways_20 15 rfl rfl)
theorem dX3_ways_484 : decode cX3_ways 484 = .ok (.iload 8, 2) := dk_21 8 (dk_at dksX3_ways_20 18 rfl rfl)
theorem dX3_ways_486 : decode cX3_ways 486 = .ok (.aload_n 0, 1) := dk_42 (dk_at dksX3_ways_20 20 rfl rfl)
theorem dX3_ways_487 : decode cX3_ways 487 = .ok (.getfield 61, 3) := dk_180 0 61 (dk_at dksX3_ways_20 21 rfl rfl)
theorem dX3_ways_490 : decode cX3_ways 490 = .ok (.iload 8, 2) := dk_21 8 (dk_at dksX3_ways_21 0 rfl rfl)
theorem dX3_ways_492 : decode cX3_ways 492 = .ok (.baload, 1) := dk_51 (dk_at dksX3_ways_21 2 rfl rfl)
theorem dX3_ways_493 : decode cX3_ways 493 = .ok (.ifCond .ne 13, 3) := dk_154 0 13 (dk_at dksX3_ways_21 3 rfl rfl)
theorem dX3_ways_496 : decode cX3_ways 496 = .ok (.aload_n 0, 1) := dk_42 (dk_at dksX3_ways_21 6 rfl rfl)
theorem dX3_ways_497 : decode cX3_ways 497 = .ok (.getfield 64, 3) := dk_180 0 64 (dk_at dksX3_ways_21 7 rfl rfl)
theorem dX3_ways_500 : decode cX3_ways 500 = .ok (.iload 8, 2) := dk_21 8 (dk_at dksX3_ways_21 10 rfl rfl)
theorem dX3_ways_502 : decode cX3_ways 502 = .ok (.baload, 1) := dk_51 (dk_at dksX3_ways_21 12 rfl rfl)
theorem dX3_ways_503 : decode cX3_ways 503 = .ok (.ifCond .eq 7, 3) := dk_153 0 7 (dk_at dksX3_ways_21 13 rfl rfl)
theorem dX3_ways_506 : decode cX3_ways 506 = .ok (.iconst 1, 1) := dk_4 (dk_at dksX3_ways_21 16 rfl rfl)
theorem dX3_ways_507 : decode cX3_ways 507 = .ok (.goto 4, 3) := dk_167 0 4 (dk_at dksX3_ways_21 17 rfl rfl)
theorem dX3_ways_510 : decode cX3_ways 510 = .ok (.iconst 0, 1) := dk_3 (dk_at dksX3_ways_21 20 rfl rfl)
theorem dX3_ways_511 : decode cX3_ways 511 = .ok (.bastore, 1) := dk_84 (dk_at dksX3_ways_21 21 rfl rfl)
theorem dX3_ways_512 : decode cX3_ways 512 = .ok (.iinc 8 1, 3) := dk_132 8 1 (dk_at dksX3_ways_22 0 rfl rfl)
theorem dX3_ways_515 : decode cX3_ways 515 = .ok (.goto (-43), 3) := dk_167 255 213 (dk_at dksX3_ways_22 3 rfl rfl)
theorem dX3_ways_518 : decode cX3_ways 518 = .ok (.iinc 7 1, 3) := dk_132 7 1 (dk_at dksX3_ways_22 6 rfl rfl)
theorem dX3_ways_521 : decode cX3_ways 521 = .ok (.goto (-289), 3) := dk_167 254 223 (dk_at dksX3_ways_22 9 rfl rfl)
theorem dX3_ways_524 : decode cX3_ways 524 = .ok (.ldc 81, 2) := dk_18 81 (dk_at dksX3_ways_22 12 rfl rfl)
theorem dX3_ways_526 : decode cX3_ways 526 = .ok (.ireturn, 1) := dk_172 (dk_at dksX3_ways_22 14 rfl rfl)
abbrev cX3_kind : ByteArray := prog_18_method_85_code
def yX3_kind : MethodName := ⟨RX3, "kind", "(I)I"⟩
def dkwX3_kind_0 : List UInt8 := [42, 3, 181, 0, 1, 42, 27, 182, 0, 164, 153, 0, 11, 42, 27, 182, 1, 79, 167, 0, 5, 18, 143, 172]
abbrev dktX3_kind_0 : List UInt8 := dkwX3_kind_0 ++ []
theorem dksX3_kind_0 : cX3_kind.data.toList.drop 0 = dktX3_kind_0 := by decide +kernel
theorem dX3_kind_0 : decode cX3_kind 0 = .ok (.aload_n 0, 1) := dk_42 (dk_at dksX3_kind_0 0 rfl rfl)
theorem dX3_kind_1 : decode cX3_kind 1 = .ok (.iconst 0, 1) := dk_3 (dk_at dksX3_kind_0 1 rfl rfl)
theorem dX3_kind_2 : decode cX3_kind 2 = .ok (.putfield 1, 3) := dk_181 0 1 (dk_at dksX3_kind_0 2 rfl rfl)
theorem dX3_kind_5 : decode cX3_kind 5 = .ok (.aload_n 0, 1) := dk_42 (dk_at dksX3_kind_0 5 rfl rfl)
theorem dX3_kind_6 : decode cX3_kind 6 = .ok (.iload_n 1, 1) := dk_27 (dk_at dksX3_kind_0 6 rfl rfl)
theorem dX3_kind_7 : decode cX3_kind 7 = .ok (.invokevirtual 164, 3) := dk_182 0 164 (dk_at dksX3_kind_0 7 rfl rfl)
theorem dX3_kind_10 : decode cX3_kind 10 = .ok (.ifCond .eq 11, 3) := dk_153 0 11 (dk_at dksX3_kind_0 10 rfl rfl)
theorem dX3_kind_13 : decode cX3_kind 13 = .ok (.aload_n 0, 1) := dk_42 (dk_at dksX3_kind_0 13 rfl rfl)
theorem dX3_kind_14 : decode cX3_kind 14 = .ok (.iload_n 1, 1) := dk_27 (dk_at dksX3_kind_0 14 rfl rfl)
theorem dX3_kind_15 : decode cX3_kind 15 = .ok (.invokevirtual 335, 3) := dk_182 1 79 (dk_at dksX3_kind_0 15 rfl rfl)
theorem dX3_kind_18 : decode cX3_kind 18 = .ok (.goto 5, 3) := dk_167 0 5 (dk_at dksX3_kind_0 18 rfl rfl)
theorem dX3_kind_21 : decode cX3_kind 21 = .ok (.ldc 143, 2) := dk_18 143 (dk_at dksX3_kind_0 21 rfl rfl)
theorem dX3_kind_23 : decode cX3_kind 23 = .ok (.ireturn, 1) := dk_172 (dk_at dksX3_kind_0 23 rfl rfl)
abbrev cX3_kindOf : ByteArray := prog_18_method_83_code
def yX3_kindOf : MethodName := ⟨RX3, "kindOf", "(I)I"⟩
def dkwX3_kindOf_3 : List UInt8 := [29, 182, 0, 77, 46, 6, 160, 0, 7, 7, 167, 0, 4, 6, 172]
abbrev dktX3_kindOf_3 : List UInt8 := dkwX3_kindOf_3 ++ []
def dkwX3_kindOf_2 : List UInt8 := [27, 182, 0, 110, 4, 96, 62, 29, 42, 3, 28, 182, 0, 74, 162, 0, 23, 42, 180, 0, 21, 42, 3, 28]
abbrev dktX3_kindOf_2 : List UInt8 := dkwX3_kindOf_2 ++ dktX3_kindOf_3
def dkwX3_kindOf_1 : List UInt8 := [180, 0, 21, 27, 46, 4, 160, 0, 7, 5, 167, 0, 4, 8, 172, 42, 3, 27, 182, 0, 82, 61, 42, 3]
abbrev dktX3_kindOf_1 : List UInt8 := dkwX3_kindOf_1 ++ dktX3_kindOf_2
def dkwX3_kindOf_0 : List UInt8 := [42, 180, 0, 21, 27, 46, 5, 159, 0, 32, 42, 180, 0, 21, 27, 46, 154, 0, 7, 4, 167, 0, 18, 42]
abbrev dktX3_kindOf_0 : List UInt8 := dkwX3_kindOf_0 ++ dktX3_kindOf_1
theorem dksX3_kindOf_0 : cX3_kindOf.data.toList.drop 0 = dktX3_kindOf_0 := by decide +kernel
theorem dksX3_kindOf_1 : cX3_kindOf.data.toList.drop 24 = dktX3_kindOf_1 := dk_seg dksX3_kindOf_0 24 rfl rfl
theorem dksX3_kindOf_2 : cX3_kindOf.data.toList.drop 48 = dktX3_kindOf_2 := dk_seg dksX3_kindOf_1 24 rfl rfl
theorem dksX3_kindOf_3 : cX3_kindOf.data.toList.drop 72 = dktX3_kindOf_3 := dk_seg dksX3_kindOf_2 24 rfl rfl
theorem dX3_kindOf_0 : decode cX3_kindOf 0 = .ok (.aload_n 0, 1) := dk_42 (dk_at dksX3_kindOf_0 0 rfl rfl)
theorem dX3_kindOf_1 : decode cX3_kindOf 1 = .ok (.getfield 21, 3) := dk_180 0 21 (dk_at dksX3_kindOf_0 1 rfl rfl)
theorem dX3_kindOf_4 : decode cX3_kindOf 4 = .ok (.iload_n 1, 1) := dk_27 (dk_at dksX3_kindOf_0 4 rfl rfl)
theorem dX3_kindOf_5 : decode cX3_kindOf 5 = .ok (.iaload, 1) := dk_46 (dk_at dksX3_kindOf_0 5 rfl rfl)
theorem dX3_kindOf_6 : decode cX3_kindOf 6 = .ok (.iconst 2, 1) := dk_5 (dk_at dksX3_kindOf_0 6 rfl rfl)
theorem dX3_kindOf_7 : decode cX3_kindOf 7 = .ok (.if_icmp .eq 32, 3) := dk_159 0 32 (dk_at dksX3_kindOf_0 7 rfl rfl)
theorem dX3_kindOf_10 : decode cX3_kindOf 10 = .ok (.aload_n 0, 1) := dk_42 (dk_at dksX3_kindOf_0 10 rfl rfl)
theorem dX3_kindOf_11 : decode cX3_kindOf 11 = .ok (.getfield 21, 3) := dk_180 0 21 (dk_at dksX3_kindOf_0 11 rfl rfl)
theorem dX3_kindOf_14 : decode cX3_kindOf 14 = .ok (.iload_n 1, 1) := dk_27 (dk_at dksX3_kindOf_0 14 rfl rfl)
theorem dX3_kindOf_15 : decode cX3_kindOf 15 = .ok (.iaload, 1) := dk_46 (dk_at dksX3_kindOf_0 15 rfl rfl)
theorem dX3_kindOf_16 : decode cX3_kindOf 16 = .ok (.ifCond .ne 7, 3) := dk_154 0 7 (dk_at dksX3_kindOf_0 16 rfl rfl)
theorem dX3_kindOf_19 : decode cX3_kindOf 19 = .ok (.iconst 1, 1) := dk_4 (dk_at dksX3_kindOf_0 19 rfl rfl)
theorem dX3_kindOf_20 : decode cX3_kindOf 20 = .ok (.goto 18, 3) := dk_167 0 18 (dk_at dksX3_kindOf_0 20 rfl rfl)
theorem dX3_kindOf_23 : decode cX3_kindOf 23 = .ok (.aload_n 0, 1) := dk_42 (dk_at dksX3_kindOf_0 23 rfl rfl)
theorem dX3_kindOf_24 : decode cX3_kindOf 24 = .ok (.getfield 21, 3) := dk_180 0 21 (dk_at dksX3_kindOf_1 0 rfl rfl)
theorem dX3_kindOf_27 : decode cX3_kindOf 27 = .ok (.iload_n 1, 1) := dk_27 (dk_at dksX3_kindOf_1 3 rfl rfl)
theorem dX3_kindOf_28 : decode cX3_kindOf 28 = .ok (.iaload, 1) := dk_46 (dk_at dksX3_kindOf_1 4 rfl rfl)
theorem dX3_kindOf_29 : decode cX3_kindOf 29 = .ok (.iconst 1, 1) := dk_4 (dk_at dksX3_kindOf_1 5 rfl rfl)
theorem dX3_kindOf_30 : decode cX3_kindOf 30 = .ok (.if_icmp .ne 7, 3) := dk_160 0 7 (dk_at dksX3_kindOf_1 6 rfl rfl)
theorem dX3_kindOf_33 : decode cX3_kindOf 33 = .ok (.iconst 2, 1) := dk_5 (dk_at dksX3_kindOf_1 9 rfl rfl)
theorem dX3_kindOf_34 : decode cX3_kindOf 34 = .ok (.goto 4, 3) := dk_167 0 4 (dk_at dksX3_kindOf_1 10 rfl rfl)
theorem dX3_kindOf_37 : decode cX3_kindOf 37 = .ok (.iconst 5, 1) := dk_8 (dk_at dksX3_kindOf_1 13 rfl rfl)
theorem dX3_kindOf_38 : decode cX3_kindOf 38 = .ok (.ireturn, 1) := dk_172 (dk_at dksX3_kindOf_1 14 rfl rfl)
theorem dX3_kindOf_39 : decode cX3_kindOf 39 = .ok (.aload_n 0, 1) := dk_42 (dk_at dksX3_kindOf_1 15 rfl rfl)
theorem dX3_kindOf_40 : decode cX3_kindOf 40 = .ok (.iconst 0, 1) := dk_3 (dk_at dksX3_kindOf_1 16 rfl rfl)
theorem dX3_kindOf_41 : decode cX3_kindOf 41 = .ok (.iload_n 1, 1) := dk_27 (dk_at dksX3_kindOf_1 17 rfl rfl)
theorem dX3_kindOf_42 : decode cX3_kindOf 42 = .ok (.invokevirtual 82, 3) := dk_182 0 82 (dk_at dksX3_kindOf_1 18 rfl rfl)
theorem dX3_kindOf_45 : decode cX3_kindOf 45 = .ok (.istore_n 2, 1) := dk_61 (dk_at dksX3_kindOf_1 21 rfl rfl)
theorem dX3_kindOf_46 : decode cX3_kindOf 46 = .ok (.aload_n 0, 1) := dk_42 (dk_at dksX3_kindOf_1 22 rfl rfl)
theorem dX3_kindOf_47 : decode cX3_kindOf 47 = .ok (.iconst 0, 1) := dk_3 (dk_at dksX3_kindOf_1 23 rfl rfl)
theorem dX3_kindOf_48 : decode cX3_kindOf 48 = .ok (.iload_n 1, 1) := dk_27 (dk_at dksX3_kindOf_2 0 rfl rfl)
theorem dX3_kindOf_49 : decode cX3_kindOf 49 = .ok (.invokevirtual 110, 3) := dk_182 0 110 (dk_at dksX3_kindOf_2 1 rfl rfl)
theorem dX3_kindOf_52 : decode cX3_kindOf 52 = .ok (.iconst 1, 1) := dk_4 (dk_at dksX3_kindOf_2 4 rfl rfl)
theorem dX3_kindOf_53 : decode cX3_kindOf 53 = .ok (.iadd, 1) := dk_96 (dk_at dksX3_kindOf_2 5 rfl rfl)
theorem dX3_kindOf_54 : decode cX3_kindOf 54 = .ok (.istore_n 3, 1) := dk_62 (dk_at dksX3_kindOf_2 6 rfl rfl)
theorem dX3_kindOf_55 : decode cX3_kindOf 55 = .ok (.iload_n 3, 1) := dk_29 (dk_at dksX3_kindOf_2 7 rfl rfl)
theorem dX3_kindOf_56 : decode cX3_kindOf 56 = .ok (.aload_n 0, 1) := dk_42 (dk_at dksX3_kindOf_2 8 rfl rfl)
theorem dX3_kindOf_57 : decode cX3_kindOf 57 = .ok (.iconst 0, 1) := dk_3 (dk_at dksX3_kindOf_2 9 rfl rfl)
theorem dX3_kindOf_58 : decode cX3_kindOf 58 = .ok (.iload_n 2, 1) := dk_28 (dk_at dksX3_kindOf_2 10 rfl rfl)
theorem dX3_kindOf_59 : decode cX3_kindOf 59 = .ok (.invokevirtual 74, 3) := dk_182 0 74 (dk_at dksX3_kindOf_2 11 rfl rfl)
theorem dX3_kindOf_62 : decode cX3_kindOf 62 = .ok (.if_icmp .ge 23, 3) := dk_162 0 23 (dk_at dksX3_kindOf_2 14 rfl rfl)
theorem dX3_kindOf_65 : decode cX3_kindOf 65 = .ok (.aload_n 0, 1) := dk_42 (dk_at dksX3_kindOf_2 17 rfl rfl)
theorem dX3_kindOf_66 : decode cX3_kindOf 66 = .ok (.getfield 21, 3) := dk_180 0 21 (dk_at dksX3_kindOf_2 18 rfl rfl)
theorem dX3_kindOf_69 : decode cX3_kindOf 69 = .ok (.aload_n 0, 1) := dk_42 (dk_at dksX3_kindOf_2 21 rfl rfl)
theorem dX3_kindOf_70 : decode cX3_kindOf 70 = .ok (.iconst 0, 1) := dk_3 (dk_at dksX3_kindOf_2 22 rfl rfl)
theorem dX3_kindOf_71 : decode cX3_kindOf 71 = .ok (.iload_n 2, 1) := dk_28 (dk_at dksX3_kindOf_2 23 rfl rfl)
theorem dX3_kindOf_72 : decode cX3_kindOf 72 = .ok (.iload_n 3, 1) := dk_29 (dk_at dksX3_kindOf_3 0 rfl rfl)
theorem dX3_kindOf_73 : decode cX3_kindOf 73 = .ok (.invokevirtual 77, 3) := dk_182 0 77 (dk_at dksX3_kindOf_3 1 rfl rfl)
theorem dX3_kindOf_76 : decode cX3_kindOf 76 = .ok (.iaload, 1) := dk_46 (dk_at dksX3_kindOf_3 4 rfl rfl)
theorem dX3_kindOf_77 : decode cX3_kindOf 77 = .ok (.iconst 3, 1) := dk_6 (dk_at dksX3_kindOf_3 5 rfl rfl)
theorem dX3_kindOf_78 : decode cX3_kindOf 78 = .ok (.if_icmp .ne 7, 3) := dk_160 0 7 (dk_at dksX3_kindOf_3 6 rfl rfl)
theorem dX3_kindOf_81 : decode cX3_kindOf 81 = .ok (.iconst 4, 1) := dk_7 (dk_at dksX3_kindOf_3 9 rfl rfl)
theorem dX3_kindOf_82 : decode cX3_kindOf 82 = .ok (.goto 4, 3) := dk_167 0 4 (dk_at dksX3_kindOf_3 10 rfl rfl)
theorem dX3_kindOf_85 : decode cX3_kindOf 85 = .ok (.iconst 3, 1) := dk_6 (dk_at dksX3_kindOf_3 13 rfl rfl)
theorem dX3_kindOf_86 : decode cX3_kindOf 86 = .ok (.ireturn, 1) := dk_172 (dk_at dksX3_kindOf_3 14 rfl rfl)
abbrev cX3_as : ByteArray := prog_18_method_86_code
def yX3_as : MethodName := ⟨RX3, "as", "(II)I"⟩
def dkwX3_as_2 : List UInt8 := [180, 0, 24, 27, 46, 167, 0, 8, 42, 6, 182, 0, 234, 172]
abbrev dktX3_as_2 : List UInt8 := dkwX3_as_2 ++ []
def dkwX3_as_1 : List UInt8 := [154, 0, 6, 18, 143, 172, 42, 3, 181, 0, 7, 42, 27, 182, 1, 79, 28, 184, 1, 84, 153, 0, 12, 42]
abbrev dktX3_as_1 : List UInt8 := dkwX3_as_1 ++ dktX3_as_2
def dkwX3_as_0 : List UInt8 := [42, 3, 181, 0, 1, 42, 27, 182, 0, 164, 153, 0, 15, 28, 133, 9, 20, 1, 82, 184, 0, 135]
abbrev dktX3_as_0 : List UInt8 := dkwX3_as_0 ++ dktX3_as_1
theorem dksX3_as_0 : cX3_as.data.toList.drop 0 = dktX3_as_0 := by decide +kernel
theorem dksX3_as_1 : cX3_as.data.toList.drop 22 = dktX3_as_1 := dk_seg dksX3_as_0 22 rfl rfl
theorem dksX3_as_2 : cX3_as.data.toList.drop 46 = dktX3_as_2 := dk_seg dksX3_as_1 24 rfl rfl
theorem dX3_as_0 : decode cX3_as 0 = .ok (.aload_n 0, 1) := dk_42 (dk_at dksX3_as_0 0 rfl rfl)
theorem dX3_as_1 : decode cX3_as 1 = .ok (.iconst 0, 1) := dk_3 (dk_at dksX3_as_0 1 rfl rfl)
theorem dX3_as_2 : decode cX3_as 2 = .ok (.putfield 1, 3) := dk_181 0 1 (dk_at dksX3_as_0 2 rfl rfl)
theorem dX3_as_5 : decode cX3_as 5 = .ok (.aload_n 0, 1) := dk_42 (dk_at dksX3_as_0 5 rfl rfl)
theorem dX3_as_6 : decode cX3_as 6 = .ok (.iload_n 1, 1) := dk_27 (dk_at dksX3_as_0 6 rfl rfl)
theorem dX3_as_7 : decode cX3_as 7 = .ok (.invokevirtual 164, 3) := dk_182 0 164 (dk_at dksX3_as_0 7 rfl rfl)
theorem dX3_as_10 : decode cX3_as 10 = .ok (.ifCond .eq 15, 3) := dk_153 0 15 (dk_at dksX3_as_0 10 rfl rfl)
theorem dX3_as_13 : decode cX3_as 13 = .ok (.iload_n 2, 1) := dk_28 (dk_at dksX3_as_0 13 rfl rfl)
theorem dX3_as_14 : decode cX3_as 14 = .ok (.i2l, 1) := dk_133 (dk_at dksX3_as_0 14 rfl rfl)
theorem dX3_as_15 : decode cX3_as 15 = .ok (.lconst 0, 1) := dk_9 (dk_at dksX3_as_0 15 rfl rfl)
theorem dX3_as_16 : decode cX3_as 16 = .ok (.ldc2_w 338, 3) := dk_20 1 82 (dk_at dksX3_as_0 16 rfl rfl)
theorem dX3_as_19 : decode cX3_as 19 = .ok (.invokestatic 135, 3) := dk_184 0 135 (dk_at dksX3_as_0 19 rfl rfl)
theorem dX3_as_22 : decode cX3_as 22 = .ok (.ifCond .ne 6, 3) := dk_154 0 6 (dk_at dksX3_as_1 0 rfl rfl)
theorem dX3_as_25 : decode cX3_as 25 = .ok (.ldc 143, 2) := dk_18 143 (dk_at dksX3_as_1 3 rfl rfl)
theorem dX3_as_27 : decode cX3_as 27 = .ok (.ireturn, 1) := dk_172 (dk_at dksX3_as_1 5 rfl rfl)
theorem dX3_as_28 : decode cX3_as 28 = .ok (.aload_n 0, 1) := dk_42 (dk_at dksX3_as_1 6 rfl rfl)
theorem dX3_as_29 : decode cX3_as 29 = .ok (.iconst 0, 1) := dk_3 (dk_at dksX3_as_1 7 rfl rfl)
theorem dX3_as_30 : decode cX3_as 30 = .ok (.putfield 7, 3) := dk_181 0 7 (dk_at dksX3_as_1 8 rfl rfl)
theorem dX3_as_33 : decode cX3_as 33 = .ok (.aload_n 0, 1) := dk_42 (dk_at dksX3_as_1 11 rfl rfl)
theorem dX3_as_34 : decode cX3_as 34 = .ok (.iload_n 1, 1) := dk_27 (dk_at dksX3_as_1 12 rfl rfl)
theorem dX3_as_35 : decode cX3_as 35 = .ok (.invokevirtual 335, 3) := dk_182 1 79 (dk_at dksX3_as_1 13 rfl rfl)
theorem dX3_as_38 : decode cX3_as 38 = .ok (.iload_n 2, 1) := dk_28 (dk_at dksX3_as_1 16 rfl rfl)
theorem dX3_as_39 : decode cX3_as 39 = .ok (.invokestatic 340, 3) := dk_184 1 84 (dk_at dksX3_as_1 17 rfl rfl)
theorem dX3_as_42 : decode cX3_as 42 = .ok (.ifCond .eq 12, 3) := dk_153 0 12 (dk_at dksX3_as_1 20 rfl rfl)
theorem dX3_as_45 : decode cX3_as 45 = .ok (.aload_n 0, 1) := dk_42 (dk_at dksX3_as_1 23 rfl rfl)
theorem dX3_as_46 : decode cX3_as 46 = .ok (.getfield 24, 3) := dk_180 0 24 (dk_at dksX3_as_2 0 rfl rfl)
theorem dX3_as_49 : decode cX3_as 49 = .ok (.iload_n 1, 1) := dk_27 (dk_at dksX3_as_2 3 rfl rfl)
theorem dX3_as_50 : decode cX3_as 50 = .ok (.iaload, 1) := dk_46 (dk_at dksX3_as_2 4 rfl rfl)
theorem dX3_as_51 : decode cX3_as 51 = .ok (.goto 8, 3) := dk_167 0 8 (dk_at dksX3_as_2 5 rfl rfl)
theorem dX3_as_54 : decode cX3_as 54 = .ok (.aload_n 0, 1) := dk_42 (dk_at dksX3_as_2 8 rfl rfl)
theorem dX3_as_55 : decode cX3_as 55 = .ok (.iconst 3, 1) := dk_6 (dk_at dksX3_as_2 9 rfl rfl)
theorem dX3_as_56 : decode cX3_as 56 = .ok (.invokevirtual 234, 3) := dk_182 0 234 (dk_at dksX3_as_2 10 rfl rfl)
theorem dX3_as_59 : decode cX3_as 59 = .ok (.ireturn, 1) := dk_172 (dk_at dksX3_as_2 13 rfl rfl)
abbrev cX3_isOf : ByteArray := prog_18_method_84_code
def yX3_isOf : MethodName := ⟨RX3, "isOf", "(II)Z"⟩
def dkwX3_isOf_1 : List UInt8 := [172]
abbrev dktX3_isOf_1 : List UInt8 := dkwX3_isOf_1 ++ []
def dkwX3_isOf_0 : List UInt8 := [27, 153, 0, 18, 26, 27, 159, 0, 13, 27, 6, 160, 0, 12, 26, 7, 160, 0, 7, 4, 167, 0, 4, 3]
abbrev dktX3_isOf_0 : List UInt8 := dkwX3_isOf_0 ++ dktX3_isOf_1
theorem dksX3_isOf_0 : cX3_isOf.data.toList.drop 0 = dktX3_isOf_0 := by decide +kernel
theorem dksX3_isOf_1 : cX3_isOf.data.toList.drop 24 = dktX3_isOf_1 := dk_seg dksX3_isOf_0 24 rfl rfl
theorem dX3_isOf_0 : decode cX3_isOf 0 = .ok (.iload_n 1, 1) := dk_27 (dk_at dksX3_isOf_0 0 rfl rfl)
theorem dX3_isOf_1 : decode cX3_isOf 1 = .ok (.ifCond .eq 18, 3) := dk_153 0 18 (dk_at dksX3_isOf_0 1 rfl rfl)
theorem dX3_isOf_4 : decode cX3_isOf 4 = .ok (.iload_n 0, 1) := dk_26 (dk_at dksX3_isOf_0 4 rfl rfl)
theorem dX3_isOf_5 : decode cX3_isOf 5 = .ok (.iload_n 1, 1) := dk_27 (dk_at dksX3_isOf_0 5 rfl rfl)
theorem dX3_isOf_6 : decode cX3_isOf 6 = .ok (.if_icmp .eq 13, 3) := dk_159 0 13 (dk_at dksX3_isOf_0 6 rfl rfl)
theorem dX3_isOf_9 : decode cX3_isOf 9 = .ok (.iload_n 1, 1) := dk_27 (dk_at dksX3_isOf_0 9 rfl rfl)
theorem dX3_isOf_10 : decode cX3_isOf 10 = .ok (.iconst 3, 1) := dk_6 (dk_at dksX3_isOf_0 10 rfl rfl)
theorem dX3_isOf_11 : decode cX3_isOf 11 = .ok (.if_icmp .ne 12, 3) := dk_160 0 12 (dk_at dksX3_isOf_0 11 rfl rfl)
theorem dX3_isOf_14 : decode cX3_isOf 14 = .ok (.iload_n 0, 1) := dk_26 (dk_at dksX3_isOf_0 14 rfl rfl)
theorem dX3_isOf_15 : decode cX3_isOf 15 = .ok (.iconst 4, 1) := dk_7 (dk_at dksX3_isOf_0 15 rfl rfl)
theorem dX3_isOf_16 : decode cX3_isOf 16 = .ok (.if_icmp .ne 7, 3) := dk_160 0 7 (dk_at dksX3_isOf_0 16 rfl rfl)
theorem dX3_isOf_19 : decode cX3_isOf 19 = .ok (.iconst 1, 1) := dk_4 (dk_at dksX3_isOf_0 19 rfl rfl)
theorem dX3_isOf_20 : decode cX3_isOf 20 = .ok (.goto 4, 3) := dk_167 0 4 (dk_at dksX3_isOf_0 20 rfl rfl)
theorem dX3_isOf_23 : decode cX3_isOf 23 = .ok (.iconst 0, 1) := dk_3 (dk_at dksX3_isOf_0 23 rfl rfl)
theorem dX3_isOf_24 : decode cX3_isOf 24 = .ok (.ireturn, 1) := dk_172 (dk_at dksX3_isOf_1 0 rfl rfl)
abbrev cX3_ask : ByteArray := prog_18_method_91_code
def yX3_ask : MethodName := ⟨RX3, "ask", "(II)I"⟩
def dkwX3_ask_2 : List UInt8 := [167, 0, 13, 42, 27, 42, 27, 182, 1, 79, 182, 1, 96, 172]
abbrev dktX3_ask_2 : List UInt8 := dkwX3_ask_2 ++ []
def dkwX3_ask_1 : List UInt8 := [18, 143, 172, 42, 3, 181, 1, 87, 28, 154, 0, 16, 42, 27, 42, 27, 182, 1, 79, 182, 1, 99]
abbrev dktX3_ask_1 : List UInt8 := dkwX3_ask_1 ++ dktX3_ask_2
def dkwX3_ask_0 : List UInt8 := [42, 3, 181, 0, 1, 42, 27, 182, 0, 164, 153, 0, 13, 28, 133, 9, 10, 184, 0, 135, 154, 0, 6]
abbrev dktX3_ask_0 : List UInt8 := dkwX3_ask_0 ++ dktX3_ask_1
theorem dksX3_ask_0 : cX3_ask.data.toList.drop 0 = dktX3_ask_0 := by decide +kernel
theorem dksX3_ask_1 : cX3_ask.data.toList.drop 23 = dktX3_ask_1 := dk_seg dksX3_ask_0 23 rfl rfl
theorem dksX3_ask_2 : cX3_ask.data.toList.drop 45 = dktX3_ask_2 := dk_seg dksX3_ask_1 22 rfl rfl
theorem dX3_ask_0 : decode cX3_ask 0 = .ok (.aload_n 0, 1) := dk_42 (dk_at dksX3_ask_0 0 rfl rfl)
theorem dX3_ask_1 : decode cX3_ask 1 = .ok (.iconst 0, 1) := dk_3 (dk_at dksX3_ask_0 1 rfl rfl)
theorem dX3_ask_2 : decode cX3_ask 2 = .ok (.putfield 1, 3) := dk_181 0 1 (dk_at dksX3_ask_0 2 rfl rfl)
theorem dX3_ask_5 : decode cX3_ask 5 = .ok (.aload_n 0, 1) := dk_42 (dk_at dksX3_ask_0 5 rfl rfl)
theorem dX3_ask_6 : decode cX3_ask 6 = .ok (.iload_n 1, 1) := dk_27 (dk_at dksX3_ask_0 6 rfl rfl)
theorem dX3_ask_7 : decode cX3_ask 7 = .ok (.invokevirtual 164, 3) := dk_182 0 164 (dk_at dksX3_ask_0 7 rfl rfl)
theorem dX3_ask_10 : decode cX3_ask 10 = .ok (.ifCond .eq 13, 3) := dk_153 0 13 (dk_at dksX3_ask_0 10 rfl rfl)
theorem dX3_ask_13 : decode cX3_ask 13 = .ok (.iload_n 2, 1) := dk_28 (dk_at dksX3_ask_0 13 rfl rfl)
theorem dX3_ask_14 : decode cX3_ask 14 = .ok (.i2l, 1) := dk_133 (dk_at dksX3_ask_0 14 rfl rfl)
theorem dX3_ask_15 : decode cX3_ask 15 = .ok (.lconst 0, 1) := dk_9 (dk_at dksX3_ask_0 15 rfl rfl)
theorem dX3_ask_16 : decode cX3_ask 16 = .ok (.lconst 1, 1) := dk_10 (dk_at dksX3_ask_0 16 rfl rfl)
theorem dX3_ask_17 : decode cX3_ask 17 = .ok (.invokestatic 135, 3) := dk_184 0 135 (dk_at dksX3_ask_0 17 rfl rfl)
theorem dX3_ask_20 : decode cX3_ask 20 = .ok (.ifCond .ne 6, 3) := dk_154 0 6 (dk_at dksX3_ask_0 20 rfl rfl)
theorem dX3_ask_23 : decode cX3_ask 23 = .ok (.ldc 143, 2) := dk_18 143 (dk_at dksX3_ask_1 0 rfl rfl)
theorem dX3_ask_25 : decode cX3_ask 25 = .ok (.ireturn, 1) := dk_172 (dk_at dksX3_ask_1 2 rfl rfl)
theorem dX3_ask_26 : decode cX3_ask 26 = .ok (.aload_n 0, 1) := dk_42 (dk_at dksX3_ask_1 3 rfl rfl)
theorem dX3_ask_27 : decode cX3_ask 27 = .ok (.iconst 0, 1) := dk_3 (dk_at dksX3_ask_1 4 rfl rfl)
theorem dX3_ask_28 : decode cX3_ask 28 = .ok (.putfield 343, 3) := dk_181 1 87 (dk_at dksX3_ask_1 5 rfl rfl)
theorem dX3_ask_31 : decode cX3_ask 31 = .ok (.iload_n 2, 1) := dk_28 (dk_at dksX3_ask_1 8 rfl rfl)
theorem dX3_ask_32 : decode cX3_ask 32 = .ok (.ifCond .ne 16, 3) := dk_154 0 16 (dk_at dksX3_ask_1 9 rfl rfl)
theorem dX3_ask_35 : decode cX3_ask 35 = .ok (.aload_n 0, 1) := dk_42 (dk_at dksX3_ask_1 12 rfl rfl)
theorem dX3_ask_36 : decode cX3_ask 36 = .ok (.iload_n 1, 1) := dk_27 (dk_at dksX3_ask_1 13 rfl rfl)
theorem dX3_ask_37 : decode cX3_ask 37 = .ok (.aload_n 0, 1) := dk_42 (dk_at dksX3_ask_1 14 rfl rfl)
theorem dX3_ask_38 : decode cX3_ask 38 = .ok (.iload_n 1, 1) := dk_27 (dk_at dksX3_ask_1 15 rfl rfl)
theorem dX3_ask_39 : decode cX3_ask 39 = .ok (.invokevirtual 335, 3) := dk_182 1 79 (dk_at dksX3_ask_1 16 rfl rfl)
theorem dX3_ask_42 : decode cX3_ask 42 = .ok (.invokevirtual 355, 3) := dk_182 1 99 (dk_at dksX3_ask_1 19 rfl rfl)
theorem dX3_ask_45 : decode cX3_ask 45 = .ok (.goto 13, 3) := dk_167 0 13 (dk_at dksX3_ask_2 0 rfl rfl)
theorem dX3_ask_48 : decode cX3_ask 48 = .ok (.aload_n 0, 1) := dk_42 (dk_at dksX3_ask_2 3 rfl rfl)
theorem dX3_ask_49 : decode cX3_ask 49 = .ok (.iload_n 1, 1) := dk_27 (dk_at dksX3_ask_2 4 rfl rfl)
theorem dX3_ask_50 : decode cX3_ask 50 = .ok (.aload_n 0, 1) := dk_42 (dk_at dksX3_ask_2 5 rfl rfl)
theorem dX3_ask_51 : decode cX3_ask 51 = .ok (.iload_n 1, 1) := dk_27 (dk_at dksX3_ask_2 6 rfl rfl)
theorem dX3_ask_52 : decode cX3_ask 52 = .ok (.invokevirtual 335, 3) := dk_182 1 79 (dk_at dksX3_ask_2 7 rfl rfl)
theorem dX3_ask_55 : decode cX3_ask 55 = .ok (.invokevirtual 352, 3) := dk_182 1 96 (dk_at dksX3_ask_2 10 rfl rfl)
theorem dX3_ask_58 : decode cX3_ask 58 = .ok (.ireturn, 1) := dk_172 (dk_at dksX3_ask_2 13 rfl rfl)
abbrev cX3_askSize : ByteArray := prog_18_method_90_code
def yX3_askSize : MethodName := ⟨RX3, "askSize", "(II)I"⟩
def dkwX3_askSize_4 : List UInt8 := [96, 167, 0, 4, 29, 172]
abbrev dktX3_askSize_4 : List UInt8 := dkwX3_askSize_4 ++ []
def dkwX3_askSize_3 : List UInt8 := [167, 0, 29, 28, 8, 160, 0, 23, 42, 3, 27, 182, 0, 70, 156, 0, 14, 29, 42, 3, 27, 182, 0, 110]
abbrev dktX3_askSize_3 : List UInt8 := dkwX3_askSize_3 ++ dktX3_askSize_4
def dkwX3_askSize_2 : List UInt8 := [182, 1, 90, 42, 180, 0, 24, 27, 46, 62, 28, 4, 160, 0, 14, 29, 42, 27, 28, 182, 1, 96, 96]
abbrev dktX3_askSize_2 : List UInt8 := dkwX3_askSize_2 ++ dktX3_askSize_3
def dkwX3_askSize_1 : List UInt8 := [160, 0, 19, 42, 28, 4, 160, 0, 8, 16, 11, 167, 0, 5, 16, 14, 182, 1, 90, 42, 16, 10]
abbrev dktX3_askSize_1 : List UInt8 := dkwX3_askSize_1 ++ dktX3_askSize_2
def dkwX3_askSize_0 : List UInt8 := [28, 6, 184, 1, 84, 153, 0, 10, 42, 27, 28, 182, 1, 93, 172, 28, 4, 159, 0, 8, 28, 8]
abbrev dktX3_askSize_0 : List UInt8 := dkwX3_askSize_0 ++ dktX3_askSize_1
theorem dksX3_askSize_0 : cX3_askSize.data.toList.drop 0 = dktX3_askSize_0 := by decide +kernel
theorem dksX3_askSize_1 : cX3_askSize.data.toList.drop 22 = dktX3_askSize_1 := dk_seg dksX3_askSize_0 22 rfl rfl
theorem dksX3_askSize_2 : cX3_askSize.data.toList.drop 44 = dktX3_askSize_2 := dk_seg dksX3_askSize_1 22 rfl rfl
theorem dksX3_askSize_3 : cX3_askSize.data.toList.drop 67 = dktX3_askSize_3 := dk_seg dksX3_askSize_2 23 rfl rfl
theorem dksX3_askSize_4 : cX3_askSize.data.toList.drop 91 = dktX3_askSize_4 := dk_seg dksX3_askSize_3 24 rfl rfl
theorem dX3_askSize_0 : decode cX3_askSize 0 = .ok (.iload_n 2, 1) := dk_28 (dk_at dksX3_askSize_0 0 rfl rfl)
theorem dX3_askSize_1 : decode cX3_askSize 1 = .ok (.iconst 3, 1) := dk_6 (dk_at dksX3_askSize_0 1 rfl rfl)
theorem dX3_askSize_2 : decode cX3_askSize 2 = .ok (.invokestatic 340, 3) := dk_184 1 84 (dk_at dksX3_askSize_0 2 rfl rfl)
theorem dX3_askSize_5 : decode cX3_askSize 5 = .ok (.ifCond .eq 10, 3) := dk_153 0 10 (dk_at dksX3_askSize_0 5 rfl rfl)
theorem dX3_askSize_8 : decode cX3_askSize 8 = .ok (.aload_n 0, 1) := dk_42 (dk_at dksX3_askSize_0 8 rfl rfl)
theorem dX3_askSize_9 : decode cX3_askSize 9 = .ok (.iload_n 1, 1) := dk_27 (dk_at dksX3_askSize_0 9 rfl rfl)
theorem dX3_askSize_10 : decode cX3_askSize 10 = .ok (.iload_n 2, 1) := dk_28 (dk_at dksX3_askSize_0 10 rfl rfl)
theorem dX3_askSize_11 : decode cX3_askSize 11 = .ok (.invokevirtual 349, 3) := dk_182 1 93 (dk_at dksX3_askSize_0 11 rfl rfl)
theorem dX3_askSize_14 : decode cX3_askSize 14 = .ok (.ireturn, 1) := dk_172 (dk_at dksX3_askSize_0 14 rfl rfl)
theorem dX3_askSize_15 : decode cX3_askSize 15 = .ok (.iload_n 2, 1) := dk_28 (dk_at dksX3_askSize_0 15 rfl rfl)
theorem dX3_askSize_16 : decode cX3_askSize 16 = .ok (.iconst 1, 1) := dk_4 (dk_at dksX3_askSize_0 16 rfl rfl)
theorem dX3_askSize_17 : decode cX3_askSize 17 = .ok (.if_icmp .eq 8, 3) := dk_159 0 8 (dk_at dksX3_askSize_0 17 rfl rfl)
theorem dX3_askSize_20 : decode cX3_askSize 20 = .ok (.iload_n 2, 1) := dk_28 (dk_at dksX3_askSize_0 20 rfl rfl)
theorem dX3_askSize_21 : decode cX3_askSize 21 = .ok (.iconst 5, 1) := dk_8 (dk_at dksX3_askSize_0 21 rfl rfl)
theorem dX3_askSize_22 : decode cX3_askSize 22 = .ok (.if_icmp .ne 19, 3) := dk_160 0 19 (dk_at dksX3_askSize_1 0 rfl rfl)
theorem dX3_askSize_25 : decode cX3_askSize 25 = .ok (.aload_n 0, 1) := dk_42 (dk_at dksX3_askSize_1 3 rfl rfl)
theorem dX3_askSize_26 : decode cX3_askSize 26 = .ok (.iload_n 2, 1) := dk_28 (dk_at dksX3_askSize_1 4 rfl rfl)
theorem dX3_askSize_27 : decode cX3_askSize 27 = .ok (.iconst 1, 1) := dk_4 (dk_at dksX3_askSize_1 5 rfl rfl)
theorem dX3_askSize_28 : decode cX3_askSize 28 = .ok (.if_icmp .ne 8, 3) := dk_160 0 8 (dk_at dksX3_askSize_1 6 rfl rfl)
theorem dX3_askSize_31 : decode cX3_askSize 31 = .ok (.bipush 11, 2) := dk_16 11 (dk_at dksX3_askSize_1 9 rfl rfl)
theorem dX3_askSize_33 : decode cX3_askSize 33 = .ok (.goto 5, 3) := dk_167 0 5 (dk_at dksX3_askSize_1 11 rfl rfl)
theorem dX3_askSize_36 : decode cX3_askSize 36 = .ok (.bipush 14, 2) := dk_16 14 (dk_at dksX3_askSize_1 14 rfl rfl)
theorem dX3_askSize_38 : decode cX3_askSize 38 = .ok (.invokevirtual 346, 3) := dk_182 1 90 (dk_at dksX3_askSize_1 16 rfl rfl)
theorem dX3_askSize_41 : decode cX3_askSize 41 = .ok (.aload_n 0, 1) := dk_42 (dk_at dksX3_askSize_1 19 rfl rfl)
theorem dX3_askSize_42 : decode cX3_askSize 42 = .ok (.bipush 10, 2) := dk_16 10 (dk_at dksX3_askSize_1 20 rfl rfl)
theorem dX3_askSize_44 : decode cX3_askSize 44 = .ok (.invokevirtual 346, 3) := dk_182 1 90 (dk_at dksX3_askSize_2 0 rfl rfl)
theorem dX3_askSize_47 : decode cX3_askSize 47 = .ok (.aload_n 0, 1) := dk_42 (dk_at dksX3_askSize_2 3 rfl rfl)
theorem dX3_askSize_48 : decode cX3_askSize 48 = .ok (.getfield 24, 3) := dk_180 0 24 (dk_at dksX3_askSize_2 4 rfl rfl)
theorem dX3_askSize_51 : decode cX3_askSize 51 = .ok (.iload_n 1, 1) := dk_27 (dk_at dksX3_askSize_2 7 rfl rfl)
theorem dX3_askSize_52 : decode cX3_askSize 52 = .ok (.iaload, 1) := dk_46 (dk_at dksX3_askSize_2 8 rfl rfl)
theorem dX3_askSize_53 : decode cX3_askSize 53 = .ok (.istore_n 3, 1) := dk_62 (dk_at dksX3_askSize_2 9 rfl rfl)
theorem dX3_askSize_54 : decode cX3_askSize 54 = .ok (.iload_n 2, 1) := dk_28 (dk_at dksX3_askSize_2 10 rfl rfl)
theorem dX3_askSize_55 : decode cX3_askSize 55 = .ok (.iconst 1, 1) := dk_4 (dk_at dksX3_askSize_2 11 rfl rfl)
theorem dX3_askSize_56 : decode cX3_askSize 56 = .ok (.if_icmp .ne 14, 3) := dk_160 0 14 (dk_at dksX3_askSize_2 12 rfl rfl)
theorem dX3_askSize_59 : decode cX3_askSize 59 = .ok (.iload_n 3, 1) := dk_29 (dk_at dksX3_askSize_2 15 rfl rfl)
theorem dX3_askSize_60 : decode cX3_askSize 60 = .ok (.aload_n 0, 1) := dk_42 (dk_at dksX3_askSize_2 16 rfl rfl)
theorem dX3_askSize_61 : decode cX3_askSize 61 = .ok (.iload_n 1, 1) := dk_27 (dk_at dksX3_askSize_2 17 rfl rfl)
theorem dX3_askSize_62 : decode cX3_askSize 62 = .ok (.iload_n 2, 1) := dk_28 (dk_at dksX3_askSize_2 18 rfl rfl)
theorem dX3_askSize_63 : decode cX3_askSize 63 = .ok (.invokevirtual 352, 3) := dk_182 1 96 (dk_at dksX3_askSize_2 19 rfl rfl)
theorem dX3_askSize_66 : decode cX3_askSize 66 = .ok (.iadd, 1) := dk_96 (dk_at dksX3_askSize_2 22 rfl rfl)
theorem dX3_askSize_67 : decode cX3_askSize 67 = .ok (.goto 29, 3) := dk_167 0 29 (dk_at dksX3_askSize_3 0 rfl rfl)
theorem dX3_askSize_70 : decode cX3_askSize 70 = .ok (.iload_n 2, 1) := dk_28 (dk_at dksX3_askSize_3 3 rfl rfl)
theorem dX3_askSize_71 : decode cX3_askSize 71 = .ok (.iconst 5, 1) := dk_8 (dk_at dksX3_askSize_3 4 rfl rfl)
theorem dX3_askSize_72 : decode cX3_askSize 72 = .ok (.if_icmp .ne 23, 3) := dk_160 0 23 (dk_at dksX3_askSize_3 5 rfl rfl)
theorem dX3_askSize_75 : decode cX3_askSize 75 = .ok (.aload_n 0, 1) := dk_42 (dk_at dksX3_askSize_3 8 rfl rfl)
theorem dX3_askSize_76 : decode cX3_askSize 76 = .ok (.iconst 0, 1) := dk_3 (dk_at dksX3_askSize_3 9 rfl rfl)
theorem dX3_askSize_77 : decode cX3_askSize 77 = .ok (.iload_n 1, 1) := dk_27 (dk_at dksX3_askSize_3 10 rfl rfl)
theorem dX3_askSize_78 : decode cX3_askSize 78 = .ok (.invokevirtual 70, 3) := dk_182 0 70 (dk_at dksX3_askSize_3 11 rfl rfl)
theorem dX3_askSize_81 : decode cX3_askSize 81 = .ok (.ifCond .ge 14, 3) := dk_156 0 14 (dk_at dksX3_askSize_3 14 rfl rfl)
theorem dX3_askSize_84 : decode cX3_askSize 84 = .ok (.iload_n 3, 1) := dk_29 (dk_at dksX3_askSize_3 17 rfl rfl)
theorem dX3_askSize_85 : decode cX3_askSize 85 = .ok (.aload_n 0, 1) := dk_42 (dk_at dksX3_askSize_3 18 rfl rfl)
theorem dX3_askSize_86 : decode cX3_askSize 86 = .ok (.iconst 0, 1) := dk_3 (dk_at dksX3_askSize_3 19 rfl rfl)
theorem dX3_askSize_87 : decode cX3_askSize 87 = .ok (.iload_n 1, 1) := dk_27 (dk_at dksX3_askSize_3 20 rfl rfl)
theorem dX3_askSize_88 : decode cX3_askSize 88 = .ok (.invokevirtual 110, 3) := dk_182 0 110 (dk_at dksX3_askSize_3 21 rfl rfl)
theorem dX3_askSize_91 : decode cX3_askSize 91 = .ok (.iadd, 1) := dk_96 (dk_at dksX3_askSize_4 0 rfl rfl)
theorem dX3_askSize_92 : decode cX3_askSize 92 = .ok (.goto 4, 3) := dk_167 0 4 (dk_at dksX3_askSize_4 1 rfl rfl)
theorem dX3_askSize_95 : decode cX3_askSize 95 = .ok (.iload_n 3, 1) := dk_29 (dk_at dksX3_askSize_4 4 rfl rfl)
theorem dX3_askSize_96 : decode cX3_askSize 96 = .ok (.ireturn, 1) := dk_172 (dk_at dksX3_askSize_4 5 rfl rfl)
abbrev cX3_boxSize : ByteArray := prog_18_method_88_code
def yX3_boxSize : MethodName := ⟨RX3, "boxSize", "(II)I"⟩
def dkwX3_boxSize_2 : List UInt8 := [29, 46, 96, 54, 4, 28, 7, 160, 0, 10, 5, 21, 4, 104, 167, 0, 5, 21, 4, 172]
abbrev dktX3_boxSize_2 : List UInt8 := dkwX3_boxSize_2 ++ []
def dkwX3_boxSize_1 : List UInt8 := [3, 27, 182, 0, 95, 62, 42, 180, 0, 24, 27, 46, 29, 156, 0, 7, 3, 167, 0, 9, 42, 180, 0, 24]
abbrev dktX3_boxSize_1 : List UInt8 := dkwX3_boxSize_1 ++ dktX3_boxSize_2
def dkwX3_boxSize_0 : List UInt8 := [28, 7, 160, 0, 9, 42, 16, 13, 182, 1, 90, 42, 16, 12, 182, 1, 90, 42, 16, 10, 182, 1, 90, 42]
abbrev dktX3_boxSize_0 : List UInt8 := dkwX3_boxSize_0 ++ dktX3_boxSize_1
theorem dksX3_boxSize_0 : cX3_boxSize.data.toList.drop 0 = dktX3_boxSize_0 := by decide +kernel
theorem dksX3_boxSize_1 : cX3_boxSize.data.toList.drop 24 = dktX3_boxSize_1 := dk_seg dksX3_boxSize_0 24 rfl rfl
theorem dksX3_boxSize_2 : cX3_boxSize.data.toList.drop 48 = dktX3_boxSize_2 := dk_seg dksX3_boxSize_1 24 rfl rfl
theorem dX3_boxSize_0 : decode cX3_boxSize 0 = .ok (.iload_n 2, 1) := dk_28 (dk_at dksX3_boxSize_0 0 rfl rfl)
theorem dX3_boxSize_1 : decode cX3_boxSize 1 = .ok (.iconst 4, 1) := dk_7 (dk_at dksX3_boxSize_0 1 rfl rfl)
theorem dX3_boxSize_2 : decode cX3_boxSize 2 = .ok (.if_icmp .ne 9, 3) := dk_160 0 9 (dk_at dksX3_boxSize_0 2 rfl rfl)
theorem dX3_boxSize_5 : decode cX3_boxSize 5 = .ok (.aload_n 0, 1) := dk_42 (dk_at dksX3_boxSize_0 5 rfl rfl)
theorem dX3_boxSize_6 : decode cX3_boxSize 6 = .ok (.bipush 13, 2) := dk_16 13 (dk_at dksX3_boxSize_0 6 rfl rfl)
theorem dX3_boxSize_8 : decode cX3_boxSize 8 = .ok (.invokevirtual 346, 3) := dk_182 1 90 (dk_at dksX3_boxSize_0 8 rfl rfl)
theorem dX3_boxSize_11 : decode cX3_boxSize 11 = .ok (.aload_n 0, 1) := dk_42 (dk_at dksX3_boxSize_0 11 rfl rfl)
theorem dX3_boxSize_12 : decode cX3_boxSize 12 = .ok (.bipush 12, 2) := dk_16 12 (dk_at dksX3_boxSize_0 12 rfl rfl)
theorem dX3_boxSize_14 : decode cX3_boxSize 14 = .ok (.invokevirtual 346, 3) := dk_182 1 90 (dk_at dksX3_boxSize_0 14 rfl rfl)
theorem dX3_boxSize_17 : decode cX3_boxSize 17 = .ok (.aload_n 0, 1) := dk_42 (dk_at dksX3_boxSize_0 17 rfl rfl)
theorem dX3_boxSize_18 : decode cX3_boxSize 18 = .ok (.bipush 10, 2) := dk_16 10 (dk_at dksX3_boxSize_0 18 rfl rfl)
theorem dX3_boxSize_20 : decode cX3_boxSize 20 = .ok (.invokevirtual 346, 3) := dk_182 1 90 (dk_at dksX3_boxSize_0 20 rfl rfl)
theorem dX3_boxSize_23 : decode cX3_boxSize 23 = .ok (.aload_n 0, 1) := dk_42 (dk_at dksX3_boxSize_0 23 rfl rfl)
theorem dX3_boxSize_24 : decode cX3_boxSize 24 = .ok (.iconst 0, 1) := dk_3 (dk_at dksX3_boxSize_1 0 rfl rfl)
theorem dX3_boxSize_25 : decode cX3_boxSize 25 = .ok (.iload_n 1, 1) := dk_27 (dk_at dksX3_boxSize_1 1 rfl rfl)
theorem dX3_boxSize_26 : decode cX3_boxSize 26 = .ok (.invokevirtual 95, 3) := dk_182 0 95 (dk_at dksX3_boxSize_1 2 rfl rfl)
theorem dX3_boxSize_29 : decode cX3_boxSize 29 = .ok (.istore_n 3, 1) := dk_62 (dk_at dksX3_boxSize_1 5 rfl rfl)
theorem dX3_boxSize_30 : decode cX3_boxSize 30 = .ok (.aload_n 0, 1) := dk_42 (dk_at dksX3_boxSize_1 6 rfl rfl)
theorem dX3_boxSize_31 : decode cX3_boxSize 31 = .ok (.getfield 24, 3) := dk_180 0 24 (dk_at dksX3_boxSize_1 7 rfl rfl)
theorem dX3_boxSize_34 : decode cX3_boxSize 34 = .ok (.iload_n 1, 1) := dk_27 (dk_at dksX3_boxSize_1 10 rfl rfl)
theorem dX3_boxSize_35 : decode cX3_boxSize 35 = .ok (.iaload, 1) := dk_46 (dk_at dksX3_boxSize_1 11 rfl rfl)
theorem dX3_boxSize_36 : decode cX3_boxSize 36 = .ok (.iload_n 3, 1) := dk_29 (dk_at dksX3_boxSize_1 12 rfl rfl)
theorem dX3_boxSize_37 : decode cX3_boxSize 37 = .ok (.ifCond .ge 7, 3) := dk_156 0 7 (dk_at dksX3_boxSize_1 13 rfl rfl)
theorem dX3_boxSize_40 : decode cX3_boxSize 40 = .ok (.iconst 0, 1) := dk_3 (dk_at dksX3_boxSize_1 16 rfl rfl)
theorem dX3_boxSize_41 : decode cX3_boxSize 41 = .ok (.goto 9, 3) := dk_167 0 9 (dk_at dksX3_boxSize_1 17 rfl rfl)
theorem dX3_boxSize_44 : decode cX3_boxSize 44 = .ok (.aload_n 0, 1) := dk_42 (dk_at dksX3_boxSize_1 20 rfl rfl)
theorem dX3_boxSize_45 : decode cX3_boxSize 45 = .ok (.getfield 24, 3) := dk_180 0 24 (dk_at dksX3_boxSize_1 21 rfl rfl)
theorem dX3_boxSize_48 : decode cX3_boxSize 48 = .ok (.iload_n 3, 1) := dk_29 (dk_at dksX3_boxSize_2 0 rfl rfl)
theorem dX3_boxSize_49 : decode cX3_boxSize 49 = .ok (.iaload, 1) := dk_46 (dk_at dksX3_boxSize_2 1 rfl rfl)
theorem dX3_boxSize_50 : decode cX3_boxSize 50 = .ok (.iadd, 1) := dk_96 (dk_at dksX3_boxSize_2 2 rfl rfl)
theorem dX3_boxSize_51 : decode cX3_boxSize 51 = .ok (.istore 4, 2) := dk_54 4 (dk_at dksX3_boxSize_2 3 rfl rfl)
theorem dX3_boxSize_53 : decode cX3_boxSize 53 = .ok (.iload_n 2, 1) := dk_28 (dk_at dksX3_boxSize_2 5 rfl rfl)
theorem dX3_boxSize_54 : decode cX3_boxSize 54 = .ok (.iconst 4, 1) := dk_7 (dk_at dksX3_boxSize_2 6 rfl rfl)
theorem dX3_boxSize_55 : decode cX3_boxSize 55 = .ok (.if_icmp .ne 10, 3) := dk_160 0 10 (dk_at dksX3_boxSize_2 7 rfl rfl)
theorem dX3_boxSize_58 : decode cX3_boxSize 58 = .ok (.iconst 2, 1) := dk_5 (dk_at dksX3_boxSize_2 10 rfl rfl)
theorem dX3_boxSize_59 : decode cX3_boxSize 59 = .ok (.iload 4, 2) := dk_21 4 (dk_at dksX3_boxSize_2 11 rfl rfl)
theorem dX3_boxSize_61 : decode cX3_boxSize 61 = .ok (.imul, 1) := dk_104 (dk_at dksX3_boxSize_2 13 rfl rfl)
theorem dX3_boxSize_62 : decode cX3_boxSize 62 = .ok (.goto 5, 3) := dk_167 0 5 (dk_at dksX3_boxSize_2 14 rfl rfl)
theorem dX3_boxSize_65 : decode cX3_boxSize 65 = .ok (.iload 4, 2) := dk_21 4 (dk_at dksX3_boxSize_2 17 rfl rfl)
theorem dX3_boxSize_67 : decode cX3_boxSize 67 = .ok (.ireturn, 1) := dk_172 (dk_at dksX3_boxSize_2 19 rfl rfl)
abbrev cX3_began : ByteArray := prog_18_method_87_code
def yX3_began : MethodName := ⟨RX3, "began", "(I)V"⟩
def dkwX3_began_1 : List UInt8 := [4, 96, 181, 1, 87, 177]
abbrev dktX3_began_1 : List UInt8 := dkwX3_began_1 ++ []
def dkwX3_began_0 : List UInt8 := [42, 180, 1, 87, 16, 16, 162, 0, 23, 42, 180, 0, 67, 42, 180, 1, 87, 27, 79, 42, 89, 180, 1, 87]
abbrev dktX3_began_0 : List UInt8 := dkwX3_began_0 ++ dktX3_began_1
theorem dksX3_began_0 : cX3_began.data.toList.drop 0 = dktX3_began_0 := by decide +kernel
theorem dksX3_began_1 : cX3_began.data.toList.drop 24 = dktX3_began_1 := dk_seg dksX3_began_0 24 rfl rfl
theorem dX3_began_0 : decode cX3_began 0 = .ok (.aload_n 0, 1) := dk_42 (dk_at dksX3_began_0 0 rfl rfl)
theorem dX3_began_1 : decode cX3_began 1 = .ok (.getfield 343, 3) := dk_180 1 87 (dk_at dksX3_began_0 1 rfl rfl)
theorem dX3_began_4 : decode cX3_began 4 = .ok (.bipush 16, 2) := dk_16 16 (dk_at dksX3_began_0 4 rfl rfl)
theorem dX3_began_6 : decode cX3_began 6 = .ok (.if_icmp .ge 23, 3) := dk_162 0 23 (dk_at dksX3_began_0 6 rfl rfl)
theorem dX3_began_9 : decode cX3_began 9 = .ok (.aload_n 0, 1) := dk_42 (dk_at dksX3_began_0 9 rfl rfl)
theorem dX3_began_10 : decode cX3_began 10 = .ok (.getfield 67, 3) := dk_180 0 67 (dk_at dksX3_began_0 10 rfl rfl)
theorem dX3_began_13 : decode cX3_began 13 = .ok (.aload_n 0, 1) := dk_42 (dk_at dksX3_began_0 13 rfl rfl)
theorem dX3_began_14 : decode cX3_began 14 = .ok (.getfield 343, 3) := dk_180 1 87 (dk_at dksX3_began_0 14 rfl rfl)
theorem dX3_began_17 : decode cX3_began 17 = .ok (.iload_n 1, 1) := dk_27 (dk_at dksX3_began_0 17 rfl rfl)
theorem dX3_began_18 : decode cX3_began 18 = .ok (.iastore, 1) := dk_79 (dk_at dksX3_began_0 18 rfl rfl)
theorem dX3_began_19 : decode cX3_began 19 = .ok (.aload_n 0, 1) := dk_42 (dk_at dksX3_began_0 19 rfl rfl)
theorem dX3_began_20 : decode cX3_began 20 = .ok (.dup, 1) := dk_89 (dk_at dksX3_began_0 20 rfl rfl)
theorem dX3_began_21 : decode cX3_began 21 = .ok (.getfield 343, 3) := dk_180 1 87 (dk_at dksX3_began_0 21 rfl rfl)
theorem dX3_began_24 : decode cX3_began 24 = .ok (.iconst 1, 1) := dk_4 (dk_at dksX3_began_1 0 rfl rfl)
theorem dX3_began_25 : decode cX3_began 25 = .ok (.iadd, 1) := dk_96 (dk_at dksX3_began_1 1 rfl rfl)
theorem dX3_began_26 : decode cX3_began 26 = .ok (.putfield 343, 3) := dk_181 1 87 (dk_at dksX3_began_1 2 rfl rfl)
theorem dX3_began_29 : decode cX3_began 29 = .ok (.return_, 1) := dk_177 (dk_at dksX3_began_1 5 rfl rfl)
abbrev cX3_markOf : ByteArray := prog_18_method_89_code
def yX3_markOf : MethodName := ⟨RX3, "markOf", "(II)I"⟩
def dkwX3_markOf_4 : List UInt8 := [167, 0, 4, 27, 172]
abbrev dktX3_markOf_4 : List UInt8 := dkwX3_markOf_4 ++ []
def dkwX3_markOf_3 : List UInt8 := [160, 0, 14, 27, 42, 27, 28, 182, 1, 93, 96, 167, 0, 17, 28, 5, 160, 0, 11, 27, 17, 3, 232, 96]
abbrev dktX3_markOf_3 : List UInt8 := dkwX3_markOf_3 ++ dktX3_markOf_4
def dkwX3_markOf_2 : List UInt8 := [28, 4, 160, 0, 19, 42, 3, 27, 182, 0, 88, 153, 0, 10, 27, 16, 100, 96, 167, 0, 33, 28, 7]
abbrev dktX3_markOf_2 : List UInt8 := dkwX3_markOf_2 ++ dktX3_markOf_3
def dkwX3_markOf_1 : List UInt8 := [167, 0, 15, 28, 7, 160, 0, 8, 16, 22, 167, 0, 5, 16, 23, 182, 1, 90, 42, 16, 20, 182, 1, 90]
abbrev dktX3_markOf_1 : List UInt8 := dkwX3_markOf_1 ++ dktX3_markOf_2
def dkwX3_markOf_0 : List UInt8 := [28, 4, 159, 0, 13, 28, 7, 159, 0, 8, 28, 5, 160, 0, 29, 42, 28, 4, 160, 0, 8, 16, 21]
abbrev dktX3_markOf_0 : List UInt8 := dkwX3_markOf_0 ++ dktX3_markOf_1
theorem dksX3_markOf_0 : cX3_markOf.data.toList.drop 0 = dktX3_markOf_0 := by decide +kernel
theorem dksX3_markOf_1 : cX3_markOf.data.toList.drop 23 = dktX3_markOf_1 := dk_seg dksX3_markOf_0 23 rfl rfl
theorem dksX3_markOf_2 : cX3_markOf.data.toList.drop 47 = dktX3_markOf_2 := dk_seg dksX3_markOf_1 24 rfl rfl
theorem dksX3_markOf_3 : cX3_markOf.data.toList.drop 70 = dktX3_markOf_3 := dk_seg dksX3_markOf_2 23 rfl rfl
theorem dksX3_markOf_4 : cX3_markOf.data.toList.drop 94 = dktX3_markOf_4 := dk_seg dksX3_markOf_3 24 rfl rfl
theorem dX3_markOf_0 : decode cX3_markOf 0 = .ok (.iload_n 2, 1) := dk_28 (dk_at dksX3_markOf_0 0 rfl rfl)
theorem dX3_markOf_1 : decode cX3_markOf 1 = .ok (.iconst 1, 1) := dk_4 (dk_at dksX3_markOf_0 1 rfl rfl)
theorem dX3_markOf_2 : decode cX3_markOf 2 = .ok (.if_icmp .eq 13, 3) := dk_159 0 13 (dk_at dksX3_markOf_0 2 rfl rfl)
theorem dX3_markOf_5 : decode cX3_markOf 5 = .ok (.iload_n 2, 1) := dk_28 (dk_at dksX3_markOf_0 5 rfl rfl)
theorem dX3_markOf_6 : decode cX3_markOf 6 = .ok (.iconst 4, 1) := dk_7 (dk_at dksX3_markOf_0 6 rfl rfl)
theorem dX3_markOf_7 : decode cX3_markOf 7 = .ok (.if_icmp .eq 8, 3) := dk_159 0 8 (dk_at dksX3_markOf_0 7 rfl rfl)
theorem dX3_markOf_10 : decode cX3_markOf 10 = .ok (.iload_n 2, 1) := dk_28 (dk_at dksX3_markOf_0 10 rfl rfl)
theorem dX3_markOf_11 : decode cX3_markOf 11 = .ok (.iconst 2, 1) := dk_5 (dk_at dksX3_markOf_0 11 rfl rfl)
theorem dX3_markOf_12 : decode cX3_markOf 12 = .ok (.if_icmp .ne 29, 3) := dk_160 0 29 (dk_at dksX3_markOf_0 12 rfl rfl)
theorem dX3_markOf_15 : decode cX3_markOf 15 = .ok (.aload_n 0, 1) := dk_42 (dk_at dksX3_markOf_0 15 rfl rfl)
theorem dX3_markOf_16 : decode cX3_markOf 16 = .ok (.iload_n 2, 1) := dk_28 (dk_at dksX3_markOf_0 16 rfl rfl)
theorem dX3_markOf_17 : decode cX3_markOf 17 = .ok (.iconst 1, 1) := dk_4 (dk_at dksX3_markOf_0 17 rfl rfl)
theorem dX3_markOf_18 : decode cX3_markOf 18 = .ok (.if_icmp .ne 8, 3) := dk_160 0 8 (dk_at dksX3_markOf_0 18 rfl rfl)
theorem dX3_markOf_21 : decode cX3_markOf 21 = .ok (.bipush 21, 2) := dk_16 21 (dk_at dksX3_markOf_0 21 rfl rfl)
theorem dX3_markOf_23 : decode cX3_markOf 23 = .ok (.goto 15, 3) := dk_167 0 15 (dk_at dksX3_markOf_1 0 rfl rfl)
theorem dX3_markOf_26 : decode cX3_markOf 26 = .ok (.iload_n 2, 1) := dk_28 (dk_at dksX3_markOf_1 3 rfl rfl)
theorem dX3_markOf_27 : decode cX3_markOf 27 = .ok (.iconst 4, 1) := dk_7 (dk_at dksX3_markOf_1 4 rfl rfl)
theorem dX3_markOf_28 : decode cX3_markOf 28 = .ok (.if_icmp .ne 8, 3) := dk_160 0 8 (dk_at dksX3_markOf_1 5 rfl rfl)
theorem dX3_markOf_31 : decode cX3_markOf 31 = .ok (.bipush 22, 2) := dk_16 22 (dk_at dksX3_markOf_1 8 rfl rfl)
theorem dX3_markOf_33 : decode cX3_markOf 33 = .ok (.goto 5, 3) := dk_167 0 5 (dk_at dksX3_markOf_1 10 rfl rfl)
theorem dX3_markOf_36 : decode cX3_markOf 36 = .ok (.bipush 23, 2) := dk_16 23 (dk_at dksX3_markOf_1 13 rfl rfl)
theorem dX3_markOf_38 : decode cX3_markOf 38 = .ok (.invokevirtual 346, 3) := dk_182 1 90 (dk_at dksX3_markOf_1 15 rfl rfl)
theorem dX3_markOf_41 : decode cX3_markOf 41 = .ok (.aload_n 0, 1) := dk_42 (dk_at dksX3_markOf_1 18 rfl rfl)
theorem dX3_markOf_42 : decode cX3_markOf 42 = .ok (.bipush 20, 2) := dk_16 20 (dk_at dksX3_markOf_1 19 rfl rfl)
theorem dX3_markOf_44 : decode cX3_markOf 44 = .ok (.invokevirtual 346, 3) := dk_182 1 90 (dk_at dksX3_markOf_1 21 rfl rfl)
theorem dX3_markOf_47 : decode cX3_markOf 47 = .ok (.iload_n 2, 1) := dk_28 (dk_at dksX3_markOf_2 0 rfl rfl)
theorem dX3_markOf_48 : decode cX3_markOf 48 = .ok (.iconst 1, 1) := dk_4 (dk_at dksX3_markOf_2 1 rfl rfl)
theorem dX3_markOf_49 : decode cX3_markOf 49 = .ok (.if_icmp .ne 19, 3) := dk_160 0 19 (dk_at dksX3_markOf_2 2 rfl rfl)
theorem dX3_markOf_52 : decode cX3_markOf 52 = .ok (.aload_n 0, 1) := dk_42 (dk_at dksX3_markOf_2 5 rfl rfl)
theorem dX3_markOf_53 : decode cX3_markOf 53 = .ok (.iconst 0, 1) := dk_3 (dk_at dksX3_markOf_2 6 rfl rfl)
theorem dX3_markOf_54 : decode cX3_markOf 54 = .ok (.iload_n 1, 1) := dk_27 (dk_at dksX3_markOf_2 7 rfl rfl)
theorem dX3_markOf_55 : decode cX3_markOf 55 = .ok (.invokevirtual 88, 3) := dk_182 0 88 (dk_at dksX3_markOf_2 8 rfl rfl)
theorem dX3_markOf_58 : decode cX3_markOf 58 = .ok (.ifCond .eq 10, 3) := dk_153 0 10 (dk_at dksX3_markOf_2 11 rfl rfl)
theorem dX3_markOf_61 : decode cX3_markOf 61 = .ok (.iload_n 1, 1) := dk_27 (dk_at dksX3_markOf_2 14 rfl rfl)
theorem dX3_markOf_62 : decode cX3_markOf 62 = .ok (.bipush 100, 2) := dk_16 100 (dk_at dksX3_markOf_2 15 rfl rfl)
theorem dX3_markOf_64 : decode cX3_markOf 64 = .ok (.iadd, 1) := dk_96 (dk_at dksX3_markOf_2 17 rfl rfl)
theorem dX3_markOf_65 : decode cX3_markOf 65 = .ok (.goto 33, 3) := dk_167 0 33 (dk_at dksX3_markOf_2 18 rfl rfl)
theorem dX3_markOf_68 : decode cX3_markOf 68 = .ok (.iload_n 2, 1) := dk_28 (dk_at dksX3_markOf_2 21 rfl rfl)
theorem dX3_markOf_69 : decode cX3_markOf 69 = .ok (.iconst 4, 1) := dk_7 (dk_at dksX3_markOf_2 22 rfl rfl)
theorem dX3_markOf_70 : decode cX3_markOf 70 = .ok (.if_icmp .ne 14, 3) := dk_160 0 14 (dk_at dksX3_markOf_3 0 rfl rfl)
theorem dX3_markOf_73 : decode cX3_markOf 73 = .ok (.iload_n 1, 1) := dk_27 (dk_at dksX3_markOf_3 3 rfl rfl)
theorem dX3_markOf_74 : decode cX3_markOf 74 = .ok (.aload_n 0, 1) := dk_42 (dk_at dksX3_markOf_3 4 rfl rfl)
theorem dX3_markOf_75 : decode cX3_markOf 75 = .ok (.iload_n 1, 1) := dk_27 (dk_at dksX3_markOf_3 5 rfl rfl)
theorem dX3_markOf_76 : decode cX3_markOf 76 = .ok (.iload_n 2, 1) := dk_28 (dk_at dksX3_markOf_3 6 rfl rfl)
theorem dX3_markOf_77 : decode cX3_markOf 77 = .ok (.invokevirtual 349, 3) := dk_182 1 93 (dk_at dksX3_markOf_3 7 rfl rfl)
theorem dX3_markOf_80 : decode cX3_markOf 80 = .ok (.iadd, 1) := dk_96 (dk_at dksX3_markOf_3 10 rfl rfl)
theorem dX3_markOf_81 : decode cX3_markOf 81 = .ok (.goto 17, 3) := dk_167 0 17 (dk_at dksX3_markOf_3 11 rfl rfl)
theorem dX3_markOf_84 : decode cX3_markOf 84 = .ok (.iload_n 2, 1) := dk_28 (dk_at dksX3_markOf_3 14 rfl rfl)
theorem dX3_markOf_85 : decode cX3_markOf 85 = .ok (.iconst 2, 1) := dk_5 (dk_at dksX3_markOf_3 15 rfl rfl)
theorem dX3_markOf_86 : decode cX3_markOf 86 = .ok (.if_icmp .ne 11, 3) := dk_160 0 11 (dk_at dksX3_markOf_3 16 rfl rfl)
theorem dX3_markOf_89 : decode cX3_markOf 89 = .ok (.iload_n 1, 1) := dk_27 (dk_at dksX3_markOf_3 19 rfl rfl)
theorem dX3_markOf_90 : decode cX3_markOf 90 = .ok (.sipush 1000, 3) := dk_17 3 232 (dk_at dksX3_markOf_3 20 rfl rfl)
theorem dX3_markOf_93 : decode cX3_markOf 93 = .ok (.iadd, 1) := dk_96 (dk_at dksX3_markOf_3 23 rfl rfl)
theorem dX3_markOf_94 : decode cX3_markOf 94 = .ok (.goto 4, 3) := dk_167 0 4 (dk_at dksX3_markOf_4 0 rfl rfl)
theorem dX3_markOf_97 : decode cX3_markOf 97 = .ok (.iload_n 1, 1) := dk_27 (dk_at dksX3_markOf_4 3 rfl rfl)
theorem dX3_markOf_98 : decode cX3_markOf 98 = .ok (.ireturn, 1) := dk_172 (dk_at dksX3_markOf_4 4 rfl rfl)
abbrev cX3_trace : ByteArray := prog_18_method_92_code
def yX3_trace : MethodName := ⟨RX3, "trace", "(I)I"⟩
def dkwX3_trace_1 : List UInt8 := [180, 0, 67, 27, 46, 167, 0, 5, 18, 81, 172]
abbrev dktX3_trace_1 : List UInt8 := dkwX3_trace_1 ++ []
def dkwX3_trace_0 : List UInt8 := [42, 3, 181, 0, 1, 27, 133, 9, 42, 180, 1, 87, 4, 100, 133, 184, 0, 135, 153, 0, 12, 42]
abbrev dktX3_trace_0 : List UInt8 := dkwX3_trace_0 ++ dktX3_trace_1
theorem dksX3_trace_0 : cX3_trace.data.toList.drop 0 = dktX3_trace_0 := by decide +kernel
theorem dksX3_trace_1 : cX3_trace.data.toList.drop 22 = dktX3_trace_1 := dk_seg dksX3_trace_0 22 rfl rfl
theorem dX3_trace_0 : decode cX3_trace 0 = .ok (.aload_n 0, 1) := dk_42 (dk_at dksX3_trace_0 0 rfl rfl)
theorem dX3_trace_1 : decode cX3_trace 1 = .ok (.iconst 0, 1) := dk_3 (dk_at dksX3_trace_0 1 rfl rfl)
theorem dX3_trace_2 : decode cX3_trace 2 = .ok (.putfield 1, 3) := dk_181 0 1 (dk_at dksX3_trace_0 2 rfl rfl)
theorem dX3_trace_5 : decode cX3_trace 5 = .ok (.iload_n 1, 1) := dk_27 (dk_at dksX3_trace_0 5 rfl rfl)
theorem dX3_trace_6 : decode cX3_trace 6 = .ok (.i2l, 1) := dk_133 (dk_at dksX3_trace_0 6 rfl rfl)
theorem dX3_trace_7 : decode cX3_trace 7 = .ok (.lconst 0, 1) := dk_9 (dk_at dksX3_trace_0 7 rfl rfl)
theorem dX3_trace_8 : decode cX3_trace 8 = .ok (.aload_n 0, 1) := dk_42 (dk_at dksX3_trace_0 8 rfl rfl)
theorem dX3_trace_9 : decode cX3_trace 9 = .ok (.getfield 343, 3) := dk_180 1 87 (dk_at dksX3_trace_0 9 rfl rfl)
theorem dX3_trace_12 : decode cX3_trace 12 = .ok (.iconst 1, 1) := dk_4 (dk_at dksX3_trace_0 12 rfl rfl)
theorem dX3_trace_13 : decode cX3_trace 13 = .ok (.isub, 1) := dk_100 (dk_at dksX3_trace_0 13 rfl rfl)
theorem dX3_trace_14 : decode cX3_trace 14 = .ok (.i2l, 1) := dk_133 (dk_at dksX3_trace_0 14 rfl rfl)
theorem dX3_trace_15 : decode cX3_trace 15 = .ok (.invokestatic 135, 3) := dk_184 0 135 (dk_at dksX3_trace_0 15 rfl rfl)
theorem dX3_trace_18 : decode cX3_trace 18 = .ok (.ifCond .eq 12, 3) := dk_153 0 12 (dk_at dksX3_trace_0 18 rfl rfl)
theorem dX3_trace_21 : decode cX3_trace 21 = .ok (.aload_n 0, 1) := dk_42 (dk_at dksX3_trace_0 21 rfl rfl)
theorem dX3_trace_22 : decode cX3_trace 22 = .ok (.getfield 67, 3) := dk_180 0 67 (dk_at dksX3_trace_1 0 rfl rfl)
theorem dX3_trace_25 : decode cX3_trace 25 = .ok (.iload_n 1, 1) := dk_27 (dk_at dksX3_trace_1 3 rfl rfl)
theorem dX3_trace_26 : decode cX3_trace 26 = .ok (.iaload, 1) := dk_46 (dk_at dksX3_trace_1 4 rfl rfl)
theorem dX3_trace_27 : decode cX3_trace 27 = .ok (.goto 5, 3) := dk_167 0 5 (dk_at dksX3_trace_1 5 rfl rfl)
theorem dX3_trace_30 : decode cX3_trace 30 = .ok (.ldc 81, 2) := dk_18 81 (dk_at dksX3_trace_1 8 rfl rfl)
theorem dX3_trace_32 : decode cX3_trace 32 = .ok (.ireturn, 1) := dk_172 (dk_at dksX3_trace_1 10 rfl rfl)
abbrev cX3_count : ByteArray := prog_18_method_93_code
def yX3_count : MethodName := ⟨RX3, "count", "(I)I"⟩
def dkwX3_count_7 : List UInt8 := [180, 0, 237, 172, 18, 143, 172]
abbrev dktX3_count_7 : List UInt8 := dkwX3_count_7 ++ []
def dkwX3_count_6 : List UInt8 := [182, 0, 88, 153, 0, 7, 4, 167, 0, 4, 3, 96, 61, 132, 3, 1, 167, 255, 206, 28, 172, 42]
abbrev dktX3_count_6 : List UInt8 := dkwX3_count_6 ++ dktX3_count_7
def dkwX3_count_5 : List UInt8 := [160, 0, 20, 42, 29, 182, 1, 79, 7, 160, 0, 7, 4, 167, 0, 21, 3, 167, 0, 17, 42, 3, 29]
abbrev dktX3_count_5 : List UInt8 := dkwX3_count_5 ++ dktX3_count_6
def dkwX3_count_4 : List UInt8 := [184, 0, 220, 172, 42, 180, 1, 58, 172, 3, 62, 29, 42, 180, 0, 85, 162, 0, 48, 28, 27, 8]
abbrev dktX3_count_4 : List UInt8 := dkwX3_count_4 ++ dktX3_count_5
def dkwX3_count_3 : List UInt8 := [61, 132, 3, 1, 167, 255, 230, 28, 172, 42, 180, 0, 85, 172, 42, 180, 0, 161, 172, 42, 182, 0, 209]
abbrev dktX3_count_3 : List UInt8 := dkwX3_count_3 ++ dktX3_count_4
def dkwX3_count_2 : List UInt8 := [3, 62, 29, 16, 8, 162, 0, 26, 28, 42, 180, 0, 46, 29, 46, 155, 0, 7, 4, 167, 0, 4, 3, 96]
abbrev dktX3_count_2 : List UInt8 := dkwX3_count_2 ++ dktX3_count_3
def dkwX3_count_1 : List UInt8 := [170, 0, 0, 0, 0, 0, 0, 166, 0, 0, 0, 0, 0, 0, 0, 7, 0, 0, 0, 48, 0, 0, 0, 81, 0, 0, 0, 86, 0, 0, 0, 91, 0, 0, 0, 99, 0, 0, 0, 104, 0, 0, 0, 104, 0, 0, 0, 161]
abbrev dktX3_count_1 : List UInt8 := dkwX3_count_1 ++ dktX3_count_2
def dkwX3_count_0 : List UInt8 := [42, 3, 181, 0, 1, 3, 61, 27]
abbrev dktX3_count_0 : List UInt8 := dkwX3_count_0 ++ dktX3_count_1
theorem dksX3_count_0 : cX3_count.data.toList.drop 0 = dktX3_count_0 := by decide +kernel
theorem dksX3_count_1 : cX3_count.data.toList.drop 8 = dktX3_count_1 := dk_seg dksX3_count_0 8 rfl rfl
theorem dksX3_count_2 : cX3_count.data.toList.drop 56 = dktX3_count_2 := dk_seg dksX3_count_1 48 rfl rfl
theorem dksX3_count_3 : cX3_count.data.toList.drop 80 = dktX3_count_3 := dk_seg dksX3_count_2 24 rfl rfl
theorem dksX3_count_4 : cX3_count.data.toList.drop 103 = dktX3_count_4 := dk_seg dksX3_count_3 23 rfl rfl
theorem dksX3_count_5 : cX3_count.data.toList.drop 125 = dktX3_count_5 := dk_seg dksX3_count_4 22 rfl rfl
theorem dksX3_count_6 : cX3_count.data.toList.drop 148 = dktX3_count_6 := dk_seg dksX3_count_5 23 rfl rfl
theorem dksX3_count_7 : cX3_count.data.toList.drop 170 = dktX3_count_7 := dk_seg dksX3_count_6 22 rfl rfl
theorem dX3_count_0 : decode cX3_count 0 = .ok (.aload_n 0, 1) := dk_42 (dk_at dksX3_count_0 0 rfl rfl)
theorem dX3_count_1 : decode cX3_count 1 = .ok (.iconst 0, 1) := dk_3 (dk_at dksX3_count_0 1 rfl rfl)
theorem dX3_count_2 : decode cX3_count 2 = .ok (.putfield 1, 3) := dk_181 0 1 (dk_at dksX3_count_0 2 rfl rfl)
theorem dX3_count_5 : decode cX3_count 5 = .ok (.iconst 0, 1) := dk_3 (dk_at dksX3_count_0 5 rfl rfl)
theorem dX3_count_6 : decode cX3_count 6 = .ok (.istore_n 2, 1) := dk_61 (dk_at dksX3_count_0 6 rfl rfl)
theorem dX3_count_7 : decode cX3_count 7 = .ok (.iload_n 1, 1) := dk_27 (dk_at dksX3_count_0 7 rfl rfl)
theorem dX3_count_8 : decode cX3_count 8 = .ok (.tableswitch 166 0 7 #[48, 81, 86, 91, 99, 104, 104, 161], 48) := by decide +kernel
theorem dX3_count_56 : decode cX3_count 56 = .ok (.iconst 0, 1) := dk_3 (dk_at dksX3_count_2 0 rfl rfl)
theorem dX3_count_57 : decode cX3_count 57 = .ok (.istore_n 3, 1) := dk_62 (dk_at dksX3_count_2 1 rfl rfl)
theorem dX3_count_58 : decode cX3_count 58 = .ok (.iload_n 3, 1) := dk_29 (dk_at dksX3_count_2 2 rfl rfl)
theorem dX3_count_59 : decode cX3_count 59 = .ok (.bipush 8, 2) := dk_16 8 (dk_at dksX3_count_2 3 rfl rfl)
theorem dX3_count_61 : decode cX3_count 61 = .ok (.if_icmp .ge 26, 3) := dk_162 0 26 (dk_at dksX3_count_2 5 rfl rfl)
theorem dX3_count_64 : decode cX3_count 64 = .ok (.iload_n 2, 1) := dk_28 (dk_at dksX3_count_2 8 rfl rfl)
theorem dX3_count_65 : decode cX3_count 65 = .ok (.aload_n 0, 1) := dk_42 (dk_at dksX3_count_2 9 rfl rfl)
theorem dX3_count_66 : decode cX3_count 66 = .ok (.getfield 46, 3) := dk_180 0 46 (dk_at dksX3_count_2 10 rfl rfl)
theorem dX3_count_69 : decode cX3_count 69 = .ok (.iload_n 3, 1) := dk_29 (dk_at dksX3_count_2 13 rfl rfl)
theorem dX3_count_70 : decode cX3_count 70 = .ok (.iaload, 1) := dk_46 (dk_at dksX3_count_2 14 rfl rfl)
theorem dX3_count_71 : decode cX3_count 71 = .ok (.ifCond .lt 7, 3) := dk_155 0 7 (dk_at dksX3_count_2 15 rfl rfl)
theorem dX3_count_74 : decode cX3_count 74 = .ok (.iconst 1, 1) := dk_4 (dk_at dksX3_count_2 18 rfl rfl)
theorem dX3_count_75 : decode cX3_count 75 = .ok (.goto 4, 3) := dk_167 0 4 (dk_at dksX3_count_2 19 rfl rfl)
theorem dX3_count_78 : decode cX3_count 78 = .ok (.iconst 0, 1) := dk_3 (dk_at dksX3_count_2 22 rfl rfl)
theorem dX3_count_79 : decode cX3_count 79 = .ok (.iadd, 1) := dk_96 (dk_at dksX3_count_2 23 rfl rfl)
theorem dX3_count_80 : decode cX3_count 80 = .ok (.istore_n 2, 1) := dk_61 (dk_at dksX3_count_3 0 rfl rfl)
theorem dX3_count_81 : decode cX3_count 81 = .ok (.iinc 3 1, 3) := dk_132 3 1 (dk_at dksX3_count_3 1 rfl rfl)
theorem dX3_count_84 : decode cX3_count 84 = .ok (.goto (-26), 3) := dk_167 255 230 (dk_at dksX3_count_3 4 rfl rfl)
theorem dX3_count_87 : decode cX3_count 87 = .ok (.iload_n 2, 1) := dk_28 (dk_at dksX3_count_3 7 rfl rfl)
theorem dX3_count_88 : decode cX3_count 88 = .ok (.ireturn, 1) := dk_172 (dk_at dksX3_count_3 8 rfl rfl)
theorem dX3_count_89 : decode cX3_count 89 = .ok (.aload_n 0, 1) := dk_42 (dk_at dksX3_count_3 9 rfl rfl)
theorem dX3_count_90 : decode cX3_count 90 = .ok (.getfield 85, 3) := dk_180 0 85 (dk_at dksX3_count_3 10 rfl rfl)
theorem dX3_count_93 : decode cX3_count 93 = .ok (.ireturn, 1) := dk_172 (dk_at dksX3_count_3 13 rfl rfl)
theorem dX3_count_94 : decode cX3_count 94 = .ok (.aload_n 0, 1) := dk_42 (dk_at dksX3_count_3 14 rfl rfl)
theorem dX3_count_95 : decode cX3_count 95 = .ok (.getfield 161, 3) := dk_180 0 161 (dk_at dksX3_count_3 15 rfl rfl)
theorem dX3_count_98 : decode cX3_count 98 = .ok (.ireturn, 1) := dk_172 (dk_at dksX3_count_3 18 rfl rfl)
theorem dX3_count_99 : decode cX3_count 99 = .ok (.aload_n 0, 1) := dk_42 (dk_at dksX3_count_3 19 rfl rfl)
theorem dX3_count_100 : decode cX3_count 100 = .ok (.invokevirtual 209, 3) := dk_182 0 209 (dk_at dksX3_count_3 20 rfl rfl)
theorem dX3_count_103 : decode cX3_count 103 = .ok (.invokestatic 220, 3) := dk_184 0 220 (dk_at dksX3_count_4 0 rfl rfl)
theorem dX3_count_106 : decode cX3_count 106 = .ok (.ireturn, 1) := dk_172 (dk_at dksX3_count_4 3 rfl rfl)
theorem dX3_count_107 : decode cX3_count 107 = .ok (.aload_n 0, 1) := dk_42 (dk_at dksX3_count_4 4 rfl rfl)
theorem dX3_count_108 : decode cX3_count 108 = .ok (.getfield 314, 3) := dk_180 1 58 (dk_at dksX3_count_4 5 rfl rfl)
theorem dX3_count_111 : decode cX3_count 111 = .ok (.ireturn, 1) := dk_172 (dk_at dksX3_count_4 8 rfl rfl)
theorem dX3_count_112 : decode cX3_count 112 = .ok (.iconst 0, 1) := dk_3 (dk_at dksX3_count_4 9 rfl rfl)
theorem dX3_count_113 : decode cX3_count 113 = .ok (.istore_n 3, 1) := dk_62 (dk_at dksX3_count_4 10 rfl rfl)
theorem dX3_count_114 : decode cX3_count 114 = .ok (.iload_n 3, 1) := dk_29 (dk_at dksX3_count_4 11 rfl rfl)
theorem dX3_count_115 : decode cX3_count 115 = .ok (.aload_n 0, 1) := dk_42 (dk_at dksX3_count_4 12 rfl rfl)
theorem dX3_count_116 : decode cX3_count 116 = .ok (.getfield 85, 3) := dk_180 0 85 (dk_at dksX3_count_4 13 rfl rfl)
theorem dX3_count_119 : decode cX3_count 119 = .ok (.if_icmp .ge 48, 3) := dk_162 0 48 (dk_at dksX3_count_4 16 rfl rfl)
theorem dX3_count_122 : decode cX3_count 122 = .ok (.iload_n 2, 1) := dk_28 (dk_at dksX3_count_4 19 rfl rfl)
theorem dX3_count_123 : decode cX3_count 123 = .ok (.iload_n 1, 1) := dk_27 (dk_at dksX3_count_4 20 rfl rfl)
theorem dX3_count_124 : decode cX3_count 124 = .ok (.iconst 5, 1) := dk_8 (dk_at dksX3_count_4 21 rfl rfl)
theorem dX3_count_125 : decode cX3_count 125 = .ok (.if_icmp .ne 20, 3) := dk_160 0 20 (dk_at dksX3_count_5 0 rfl rfl)
theorem dX3_count_128 : decode cX3_count 128 = .ok (.aload_n 0, 1) := dk_42 (dk_at dksX3_count_5 3 rfl rfl)
theorem dX3_count_129 : decode cX3_count 129 = .ok (.iload_n 3, 1) := dk_29 (dk_at dksX3_count_5 4 rfl rfl)
theorem dX3_count_130 : decode cX3_count 130 = .ok (.invokevirtual 335, 3) := dk_182 1 79 (dk_at dksX3_count_5 5 rfl rfl)
theorem dX3_count_133 : decode cX3_count 133 = .ok (.iconst 4, 1) := dk_7 (dk_at dksX3_count_5 8 rfl rfl)
theorem dX3_count_134 : decode cX3_count 134 = .ok (.if_icmp .ne 7, 3) := dk_160 0 7 (dk_at dksX3_count_5 9 rfl rfl)
theorem dX3_count_137 : decode cX3_count 137 = .ok (.iconst 1, 1) := dk_4 (dk_at dksX3_count_5 12 rfl rfl)
theorem dX3_count_138 : decode cX3_count 138 = .ok (.goto 21, 3) := dk_167 0 21 (dk_at dksX3_count_5 13 rfl rfl)
theorem dX3_count_141 : decode cX3_count 141 = .ok (.iconst 0, 1) := dk_3 (dk_at dksX3_count_5 16 rfl rfl)
theorem dX3_count_142 : decode cX3_count 142 = .ok (.goto 17, 3) := dk_167 0 17 (dk_at dksX3_count_5 17 rfl rfl)
theorem dX3_count_145 : decode cX3_count 145 = .ok (.aload_n 0, 1) := dk_42 (dk_at dksX3_count_5 20 rfl rfl)
theorem dX3_count_146 : decode cX3_count 146 = .ok (.iconst 0, 1) := dk_3 (dk_at dksX3_count_5 21 rfl rfl)
theorem dX3_count_147 : decode cX3_count 147 = .ok (.iload_n 3, 1) := dk_29 (dk_at dksX3_count_5 22 rfl rfl)
theorem dX3_count_148 : decode cX3_count 148 = .ok (.invokevirtual 88, 3) := dk_182 0 88 (dk_at dksX3_count_6 0 rfl rfl)
theorem dX3_count_151 : decode cX3_count 151 = .ok (.ifCond .eq 7, 3) := dk_153 0 7 (dk_at dksX3_count_6 3 rfl rfl)
theorem dX3_count_154 : decode cX3_count 154 = .ok (.iconst 1, 1) := dk_4 (dk_at dksX3_count_6 6 rfl rfl)
theorem dX3_count_155 : decode cX3_count 155 = .ok (.goto 4, 3) := dk_167 0 4 (dk_at dksX3_count_6 7 rfl rfl)
theorem dX3_count_158 : decode cX3_count 158 = .ok (.iconst 0, 1) := dk_3 (dk_at dksX3_count_6 10 rfl rfl)
theorem dX3_count_159 : decode cX3_count 159 = .ok (.iadd, 1) := dk_96 (dk_at dksX3_count_6 11 rfl rfl)
theorem dX3_count_160 : decode cX3_count 160 = .ok (.istore_n 2, 1) := dk_61 (dk_at dksX3_count_6 12 rfl rfl)
theorem dX3_count_161 : decode cX3_count 161 = .ok (.iinc 3 1, 3) := dk_132 3 1 (dk_at dksX3_count_6 13 rfl rfl)
theorem dX3_count_164 : decode cX3_count 164 = .ok (.goto (-50), 3) := dk_167 255 206 (dk_at dksX3_count_6 16 rfl rfl)
theorem dX3_count_167 : decode cX3_count 167 = .ok (.iload_n 2, 1) := dk_28 (dk_at dksX3_count_6 19 rfl rfl)
theorem dX3_count_168 : decode cX3_count 168 = .ok (.ireturn, 1) := dk_172 (dk_at dksX3_count_6 20 rfl rfl)
theorem dX3_count_169 : decode cX3_count 169 = .ok (.aload_n 0, 1) := dk_42 (dk_at dksX3_count_6 21 rfl rfl)
theorem dX3_count_170 : decode cX3_count 170 = .ok (.getfield 237, 3) := dk_180 0 237 (dk_at dksX3_count_7 0 rfl rfl)
theorem dX3_count_173 : decode cX3_count 173 = .ok (.ireturn, 1) := dk_172 (dk_at dksX3_count_7 3 rfl rfl)
theorem dX3_count_174 : decode cX3_count 174 = .ok (.ldc 143, 2) := dk_18 143 (dk_at dksX3_count_7 4 rfl rfl)
theorem dX3_count_176 : decode cX3_count 176 = .ok (.ireturn, 1) := dk_172 (dk_at dksX3_count_7 6 rfl rfl)
abbrev cX3_status : ByteArray := prog_18_method_94_code
def yX3_status : MethodName := ⟨RX3, "status", "()I"⟩
def dkwX3_status_0 : List UInt8 := [42, 3, 181, 0, 1, 42, 180, 0, 7, 172]
abbrev dktX3_status_0 : List UInt8 := dkwX3_status_0 ++ []
theorem dksX3_status_0 : cX3_status.data.toList.drop 0 = dktX3_status_0 := by decide +kernel
theorem dX3_status_0 : decode cX3_status 0 = .ok (.aload_n 0, 1) := dk_42 (dk_at dksX3_status_0 0 rfl rfl)
theorem dX3_status_1 : decode cX3_status 1 = .ok (.iconst 0, 1) := dk_3 (dk_at dksX3_status_0 1 rfl rfl)
theorem dX3_status_2 : decode cX3_status 2 = .ok (.putfield 1, 3) := dk_181 0 1 (dk_at dksX3_status_0 2 rfl rfl)
theorem dX3_status_5 : decode cX3_status 5 = .ok (.aload_n 0, 1) := dk_42 (dk_at dksX3_status_0 5 rfl rfl)
theorem dX3_status_6 : decode cX3_status 6 = .ok (.getfield 7, 3) := dk_180 0 7 (dk_at dksX3_status_0 6 rfl rfl)
theorem dX3_status_9 : decode cX3_status 9 = .ok (.ireturn, 1) := dk_172 (dk_at dksX3_status_0 9 rfl rfl)
theorem q96 : (Jvm.Cond.initialized "TableArmsModel") ∈ lw_all := lw_g (lw_at lw_m1 7 rfl) rfl
theorem q698 : (Jvm.Cond.selects "TableArmsModel" ({ cls := "java/lang/Object", name := "getClass", desc := "()Ljava/lang/Class;" } : Jvm.MethodName) ({ cls := "java/lang/Object", name := "getClass", desc := "()Ljava/lang/Class;" } : Jvm.MethodName)) ∈ lw_all := lw_g (lw_at lw_m3 129 rfl) rfl
theorem q1396 : (Jvm.Cond.instantiable "TableArmsModel" (34 : Nat)) ∈ lw_all := lw_g (lw_at lw_m6 107 rfl) rfl
theorem q1398 : (Jvm.Cond.instanceMethod ({ cls := "TableArmsModel", name := "<init>", desc := "()V" } : Jvm.MethodName)) ∈ lw_all := lw_g (lw_at lw_m6 109 rfl) rfl
theorem q1399 : (Jvm.Cond.code ({ cls := "TableArmsModel", name := "<init>", desc := "()V" } : Jvm.MethodName) prog_18_method_4_code (2 : Nat) (Option.none : Option Jvm.ClassFile.FieldType)) ∈ lw_all := lw_g (lw_at lw_m6 110 rfl) rfl
theorem q1400 : (Jvm.Cond.methodLink "TableArmsModel" (11 : Nat) ({ cls := "java/lang/Object", name := "<init>", desc := "()V" } : Jvm.MethodName)) ∈ lw_all := lw_g (lw_at lw_m6 111 rfl) rfl
theorem q1401 : (Jvm.Cond.fieldLink "TableArmsModel" (1 : Nat) "TableArmsModel" "thrown" "I") ∈ lw_all := lw_g (lw_at lw_m6 112 rfl) rfl
theorem q1402 : (Jvm.Cond.fieldLink "TableArmsModel" (7 : Nat) "TableArmsModel" "status" "I") ∈ lw_all := lw_g (lw_at lw_m6 113 rfl) rfl
theorem q1403 : (Jvm.Cond.fieldLink "TableArmsModel" (17 : Nat) "TableArmsModel" "table" "[I") ∈ lw_all := lw_g (lw_at lw_m6 114 rfl) rfl
theorem q1404 : (Jvm.Cond.fieldLink "TableArmsModel" (85 : Nat) "TableArmsModel" "things" "I") ∈ lw_all := lw_g (lw_at lw_m6 115 rfl) rfl
theorem q1405 : (Jvm.Cond.fieldLink "TableArmsModel" (21 : Nat) "TableArmsModel" "sort" "[I") ∈ lw_all := lw_g (lw_at lw_m6 116 rfl) rfl
theorem q1406 : (Jvm.Cond.fieldLink "TableArmsModel" (24 : Nat) "TableArmsModel" "weight" "[I") ∈ lw_all := lw_g (lw_at lw_m6 117 rfl) rfl
theorem q1407 : (Jvm.Cond.fieldLink "TableArmsModel" (161 : Nat) "TableArmsModel" "kept" "I") ∈ lw_all := lw_g (lw_at lw_m6 118 rfl) rfl
theorem q1408 : (Jvm.Cond.fieldLink "TableArmsModel" (27 : Nat) "TableArmsModel" "reaches" "[I") ∈ lw_all := lw_g (lw_at lw_m6 119 rfl) rfl
theorem q1409 : (Jvm.Cond.fieldLink "TableArmsModel" (192 : Nat) "TableArmsModel" "lessons" "I") ∈ lw_all := lw_g (lw_at lw_m6 120 rfl) rfl
theorem q1410 : (Jvm.Cond.fieldLink "TableArmsModel" (30 : Nat) "TableArmsModel" "start" "[I") ∈ lw_all := lw_g (lw_at lw_m6 121 rfl) rfl
theorem q1411 : (Jvm.Cond.fieldLink "TableArmsModel" (33 : Nat) "TableArmsModel" "end" "[I") ∈ lw_all := lw_g (lw_at lw_m6 122 rfl) rfl
theorem q1412 : (Jvm.Cond.fieldLink "TableArmsModel" (36 : Nat) "TableArmsModel" "isNo" "[Z") ∈ lw_all := lw_g (lw_at lw_m6 123 rfl) rfl
theorem q1413 : (Jvm.Cond.fieldLink "TableArmsModel" (40 : Nat) "TableArmsModel" "teacher" "[I") ∈ lw_all := lw_g (lw_at lw_m6 124 rfl) rfl
theorem q1414 : (Jvm.Cond.fieldLink "TableArmsModel" (43 : Nat) "TableArmsModel" "isTaken" "[Z") ∈ lw_all := lw_g (lw_at lw_m6 125 rfl) rfl
theorem q1415 : (Jvm.Cond.fieldLink "TableArmsModel" (46 : Nat) "TableArmsModel" "lane" "[I") ∈ lw_all := lw_g (lw_at lw_m6 126 rfl) rfl
theorem q1416 : (Jvm.Cond.fieldLink "TableArmsModel" (49 : Nat) "TableArmsModel" "many" "[I") ∈ lw_all := lw_g (lw_at lw_m6 127 rfl) rfl
theorem q1417 : (Jvm.Cond.fieldLink "TableArmsModel" (52 : Nat) "TableArmsModel" "item" "[I") ∈ lw_all := lw_g (lw_at lw_m6 128 rfl) rfl
theorem q1418 : (Jvm.Cond.fieldLink "TableArmsModel" (314 : Nat) "TableArmsModel" "nevers" "I") ∈ lw_all := lw_g (lw_at lw_m6 129 rfl) rfl
theorem q1419 : (Jvm.Cond.fieldLink "TableArmsModel" (55 : Nat) "TableArmsModel" "never" "[I") ∈ lw_all := lw_g (lw_at lw_m6 130 rfl) rfl
theorem q1420 : (Jvm.Cond.fieldLink "TableArmsModel" (297 : Nat) "TableArmsModel" "newNevers" "I") ∈ lw_all := lw_g (lw_at lw_m6 131 rfl) rfl
theorem q1421 : (Jvm.Cond.fieldLink "TableArmsModel" (58 : Nat) "TableArmsModel" "tape" "[I") ∈ lw_all := lw_g (lw_at lw_m6 132 rfl) rfl
theorem q1422 : (Jvm.Cond.fieldLink "TableArmsModel" (237 : Nat) "TableArmsModel" "taped" "I") ∈ lw_all := lw_g (lw_at lw_m6 133 rfl) rfl
theorem q1423 : (Jvm.Cond.fieldLink "TableArmsModel" (320 : Nat) "TableArmsModel" "latest" "I") ∈ lw_all := lw_g (lw_at lw_m6 134 rfl) rfl
theorem q1424 : (Jvm.Cond.fieldLink "TableArmsModel" (240 : Nat) "TableArmsModel" "length" "I") ∈ lw_all := lw_g (lw_at lw_m6 135 rfl) rfl
theorem q1425 : (Jvm.Cond.fieldLink "TableArmsModel" (243 : Nat) "TableArmsModel" "cursor" "I") ∈ lw_all := lw_g (lw_at lw_m6 136 rfl) rfl
theorem q1426 : (Jvm.Cond.fieldLink "TableArmsModel" (252 : Nat) "TableArmsModel" "token" "I") ∈ lw_all := lw_g (lw_at lw_m6 137 rfl) rfl
theorem q1427 : (Jvm.Cond.fieldLink "TableArmsModel" (249 : Nat) "TableArmsModel" "from" "I") ∈ lw_all := lw_g (lw_at lw_m6 138 rfl) rfl
theorem q1428 : (Jvm.Cond.fieldLink "TableArmsModel" (261 : Nat) "TableArmsModel" "till" "I") ∈ lw_all := lw_g (lw_at lw_m6 139 rfl) rfl
theorem q1429 : (Jvm.Cond.fieldLink "TableArmsModel" (264 : Nat) "TableArmsModel" "fault" "I") ∈ lw_all := lw_g (lw_at lw_m6 140 rfl) rfl
theorem q1430 : (Jvm.Cond.fieldLink "TableArmsModel" (267 : Nat) "TableArmsModel" "faultAt" "I") ∈ lw_all := lw_g (lw_at lw_m6 141 rfl) rfl
theorem q1431 : (Jvm.Cond.fieldLink "TableArmsModel" (61 : Nat) "TableArmsModel" "isReached" "[Z") ∈ lw_all := lw_g (lw_at lw_m6 142 rfl) rfl
theorem q1432 : (Jvm.Cond.fieldLink "TableArmsModel" (64 : Nat) "TableArmsModel" "isNew" "[Z") ∈ lw_all := lw_g (lw_at lw_m6 143 rfl) rfl
theorem q1433 : (Jvm.Cond.fieldLink "TableArmsModel" (67 : Nat) "TableArmsModel" "trace" "[I") ∈ lw_all := lw_g (lw_at lw_m6 144 rfl) rfl
theorem q1434 : (Jvm.Cond.fieldLink "TableArmsModel" (343 : Nat) "TableArmsModel" "traced" "I") ∈ lw_all := lw_g (lw_at lw_m6 145 rfl) rfl
theorem q1435 : (Jvm.Cond.lays "TableArmsModel" "TableArmsModel" "thrown" "I") ∈ lw_all := lw_g (lw_at lw_m6 146 rfl) rfl
theorem q1436 : (Jvm.Cond.soleField "TableArmsModel" "thrown") ∈ lw_all := lw_g (lw_at lw_m6 147 rfl) rfl
theorem q1437 : (Jvm.Cond.lays "TableArmsModel" "TableArmsModel" "status" "I") ∈ lw_all := lw_g (lw_at lw_m6 148 rfl) rfl
theorem q1438 : (Jvm.Cond.soleField "TableArmsModel" "status") ∈ lw_all := lw_g (lw_at lw_m6 149 rfl) rfl
theorem q1439 : (Jvm.Cond.laysFinal "TableArmsModel" "TableArmsModel" "table" "[I") ∈ lw_all := lw_g (lw_at lw_m6 150 rfl) rfl
theorem q1440 : (Jvm.Cond.soleField "TableArmsModel" "table") ∈ lw_all := lw_g (lw_at lw_m6 151 rfl) rfl
theorem q1441 : (Jvm.Cond.lays "TableArmsModel" "TableArmsModel" "things" "I") ∈ lw_all := lw_g (lw_at lw_m6 152 rfl) rfl
theorem q1442 : (Jvm.Cond.soleField "TableArmsModel" "things") ∈ lw_all := lw_g (lw_at lw_m6 153 rfl) rfl
theorem q1443 : (Jvm.Cond.laysFinal "TableArmsModel" "TableArmsModel" "sort" "[I") ∈ lw_all := lw_g (lw_at lw_m6 154 rfl) rfl
theorem q1444 : (Jvm.Cond.soleField "TableArmsModel" "sort") ∈ lw_all := lw_g (lw_at lw_m6 155 rfl) rfl
theorem q1445 : (Jvm.Cond.laysFinal "TableArmsModel" "TableArmsModel" "weight" "[I") ∈ lw_all := lw_g (lw_at lw_m6 156 rfl) rfl
theorem q1446 : (Jvm.Cond.soleField "TableArmsModel" "weight") ∈ lw_all := lw_g (lw_at lw_m6 157 rfl) rfl
theorem q1447 : (Jvm.Cond.lays "TableArmsModel" "TableArmsModel" "kept" "I") ∈ lw_all := lw_g (lw_at lw_m6 158 rfl) rfl
theorem q1448 : (Jvm.Cond.soleField "TableArmsModel" "kept") ∈ lw_all := lw_g (lw_at lw_m6 159 rfl) rfl
theorem q1449 : (Jvm.Cond.laysFinal "TableArmsModel" "TableArmsModel" "reaches" "[I") ∈ lw_all := lw_g (lw_at lw_m6 160 rfl) rfl
theorem q1450 : (Jvm.Cond.soleField "TableArmsModel" "reaches") ∈ lw_all := lw_g (lw_at lw_m6 161 rfl) rfl
theorem q1451 : (Jvm.Cond.lays "TableArmsModel" "TableArmsModel" "lessons" "I") ∈ lw_all := lw_g (lw_at lw_m6 162 rfl) rfl
theorem q1452 : (Jvm.Cond.soleField "TableArmsModel" "lessons") ∈ lw_all := lw_g (lw_at lw_m6 163 rfl) rfl
theorem q1453 : (Jvm.Cond.laysFinal "TableArmsModel" "TableArmsModel" "start" "[I") ∈ lw_all := lw_g (lw_at lw_m6 164 rfl) rfl
theorem q1454 : (Jvm.Cond.soleField "TableArmsModel" "start") ∈ lw_all := lw_g (lw_at lw_m6 165 rfl) rfl
theorem q1455 : (Jvm.Cond.laysFinal "TableArmsModel" "TableArmsModel" "end" "[I") ∈ lw_all := lw_g (lw_at lw_m6 166 rfl) rfl
theorem q1456 : (Jvm.Cond.soleField "TableArmsModel" "end") ∈ lw_all := lw_g (lw_at lw_m6 167 rfl) rfl
theorem q1457 : (Jvm.Cond.laysFinal "TableArmsModel" "TableArmsModel" "isNo" "[Z") ∈ lw_all := lw_g (lw_at lw_m6 168 rfl) rfl
theorem q1458 : (Jvm.Cond.soleField "TableArmsModel" "isNo") ∈ lw_all := lw_g (lw_at lw_m6 169 rfl) rfl
theorem q1459 : (Jvm.Cond.laysFinal "TableArmsModel" "TableArmsModel" "teacher" "[I") ∈ lw_all := lw_g (lw_at lw_m6 170 rfl) rfl
theorem q1460 : (Jvm.Cond.soleField "TableArmsModel" "teacher") ∈ lw_all := lw_g (lw_at lw_m6 171 rfl) rfl
theorem q1461 : (Jvm.Cond.laysFinal "TableArmsModel" "TableArmsModel" "isTaken" "[Z") ∈ lw_all := lw_g (lw_at lw_m6 172 rfl) rfl
theorem q1462 : (Jvm.Cond.soleField "TableArmsModel" "isTaken") ∈ lw_all := lw_g (lw_at lw_m6 173 rfl) rfl
theorem q1463 : (Jvm.Cond.laysFinal "TableArmsModel" "TableArmsModel" "lane" "[I") ∈ lw_all := lw_g (lw_at lw_m6 174 rfl) rfl
theorem q1464 : (Jvm.Cond.soleField "TableArmsModel" "lane") ∈ lw_all := lw_g (lw_at lw_m6 175 rfl) rfl
theorem q1465 : (Jvm.Cond.laysFinal "TableArmsModel" "TableArmsModel" "many" "[I") ∈ lw_all := lw_g (lw_at lw_m6 176 rfl) rfl
theorem q1466 : (Jvm.Cond.soleField "TableArmsModel" "many") ∈ lw_all := lw_g (lw_at lw_m6 177 rfl) rfl
theorem q1467 : (Jvm.Cond.laysFinal "TableArmsModel" "TableArmsModel" "item" "[I") ∈ lw_all := lw_g (lw_at lw_m6 178 rfl) rfl
theorem q1468 : (Jvm.Cond.soleField "TableArmsModel" "item") ∈ lw_all := lw_g (lw_at lw_m6 179 rfl) rfl
theorem q1469 : (Jvm.Cond.lays "TableArmsModel" "TableArmsModel" "nevers" "I") ∈ lw_all := lw_g (lw_at lw_m6 180 rfl) rfl
theorem q1470 : (Jvm.Cond.soleField "TableArmsModel" "nevers") ∈ lw_all := lw_g (lw_at lw_m6 181 rfl) rfl
theorem q1471 : (Jvm.Cond.laysFinal "TableArmsModel" "TableArmsModel" "never" "[I") ∈ lw_all := lw_g (lw_at lw_m6 182 rfl) rfl
theorem q1472 : (Jvm.Cond.soleField "TableArmsModel" "never") ∈ lw_all := lw_g (lw_at lw_m6 183 rfl) rfl
theorem q1473 : (Jvm.Cond.lays "TableArmsModel" "TableArmsModel" "newNevers" "I") ∈ lw_all := lw_g (lw_at lw_m6 184 rfl) rfl
theorem q1474 : (Jvm.Cond.soleField "TableArmsModel" "newNevers") ∈ lw_all := lw_g (lw_at lw_m6 185 rfl) rfl
theorem q1475 : (Jvm.Cond.laysFinal "TableArmsModel" "TableArmsModel" "tape" "[I") ∈ lw_all := lw_g (lw_at lw_m6 186 rfl) rfl
theorem q1476 : (Jvm.Cond.soleField "TableArmsModel" "tape") ∈ lw_all := lw_g (lw_at lw_m6 187 rfl) rfl
theorem q1477 : (Jvm.Cond.lays "TableArmsModel" "TableArmsModel" "taped" "I") ∈ lw_all := lw_g (lw_at lw_m6 188 rfl) rfl
theorem q1478 : (Jvm.Cond.soleField "TableArmsModel" "taped") ∈ lw_all := lw_g (lw_at lw_m6 189 rfl) rfl
theorem q1479 : (Jvm.Cond.lays "TableArmsModel" "TableArmsModel" "latest" "I") ∈ lw_all := lw_g (lw_at lw_m6 190 rfl) rfl
theorem q1480 : (Jvm.Cond.soleField "TableArmsModel" "latest") ∈ lw_all := lw_g (lw_at lw_m6 191 rfl) rfl
theorem q1481 : (Jvm.Cond.lays "TableArmsModel" "TableArmsModel" "length" "I") ∈ lw_all := lw_g (lw_at lw_m6 192 rfl) rfl
theorem q1482 : (Jvm.Cond.soleField "TableArmsModel" "length") ∈ lw_all := lw_g (lw_at lw_m6 193 rfl) rfl
theorem q1483 : (Jvm.Cond.lays "TableArmsModel" "TableArmsModel" "cursor" "I") ∈ lw_all := lw_g (lw_at lw_m6 194 rfl) rfl
theorem q1484 : (Jvm.Cond.soleField "TableArmsModel" "cursor") ∈ lw_all := lw_g (lw_at lw_m6 195 rfl) rfl
theorem q1485 : (Jvm.Cond.lays "TableArmsModel" "TableArmsModel" "token" "I") ∈ lw_all := lw_g (lw_at lw_m6 196 rfl) rfl
theorem q1486 : (Jvm.Cond.soleField "TableArmsModel" "token") ∈ lw_all := lw_g (lw_at lw_m6 197 rfl) rfl
theorem q1487 : (Jvm.Cond.lays "TableArmsModel" "TableArmsModel" "from" "I") ∈ lw_all := lw_g (lw_at lw_m6 198 rfl) rfl
theorem q1488 : (Jvm.Cond.soleField "TableArmsModel" "from") ∈ lw_all := lw_g (lw_at lw_m6 199 rfl) rfl
theorem q1489 : (Jvm.Cond.lays "TableArmsModel" "TableArmsModel" "till" "I") ∈ lw_all := lw_g (lw_at lw_m6 200 rfl) rfl
theorem q1490 : (Jvm.Cond.soleField "TableArmsModel" "till") ∈ lw_all := lw_g (lw_at lw_m6 201 rfl) rfl
theorem q1491 : (Jvm.Cond.lays "TableArmsModel" "TableArmsModel" "fault" "I") ∈ lw_all := lw_g (lw_at lw_m6 202 rfl) rfl
theorem q1492 : (Jvm.Cond.soleField "TableArmsModel" "fault") ∈ lw_all := lw_g (lw_at lw_m6 203 rfl) rfl
theorem q1493 : (Jvm.Cond.lays "TableArmsModel" "TableArmsModel" "faultAt" "I") ∈ lw_all := lw_g (lw_at lw_m6 204 rfl) rfl
theorem q1494 : (Jvm.Cond.soleField "TableArmsModel" "faultAt") ∈ lw_all := lw_g (lw_at lw_m6 205 rfl) rfl
theorem q1495 : (Jvm.Cond.laysFinal "TableArmsModel" "TableArmsModel" "isReached" "[Z") ∈ lw_all := lw_g (lw_at lw_m6 206 rfl) rfl
theorem q1496 : (Jvm.Cond.soleField "TableArmsModel" "isReached") ∈ lw_all := lw_g (lw_at lw_m6 207 rfl) rfl
theorem q1497 : (Jvm.Cond.laysFinal "TableArmsModel" "TableArmsModel" "isNew" "[Z") ∈ lw_all := lw_g (lw_at lw_m6 208 rfl) rfl
theorem q1498 : (Jvm.Cond.soleField "TableArmsModel" "isNew") ∈ lw_all := lw_g (lw_at lw_m6 209 rfl) rfl
theorem q1499 : (Jvm.Cond.laysFinal "TableArmsModel" "TableArmsModel" "trace" "[I") ∈ lw_all := lw_g (lw_at lw_m6 210 rfl) rfl
theorem q1500 : (Jvm.Cond.soleField "TableArmsModel" "trace") ∈ lw_all := lw_g (lw_at lw_m6 211 rfl) rfl
theorem q1501 : (Jvm.Cond.lays "TableArmsModel" "TableArmsModel" "traced" "I") ∈ lw_all := lw_g (lw_at lw_m6 212 rfl) rfl
theorem q1502 : (Jvm.Cond.soleField "TableArmsModel" "traced") ∈ lw_all := lw_g (lw_at lw_m6 213 rfl) rfl
theorem q1503 : (Jvm.Cond.superclass "TableArmsModel" "java/lang/Object") ∈ lw_all := lw_g (lw_at lw_m6 214 rfl) rfl
theorem q1505 : (Jvm.Cond.instanceMethod ({ cls := "TableArmsModel", name := "order", desc := "(I)I" } : Jvm.MethodName)) ∈ lw_all := lw_g (lw_at lw_m6 216 rfl) rfl
theorem q1506 : (Jvm.Cond.selects "TableArmsModel" ({ cls := "TableArmsModel", name := "order", desc := "(I)I" } : Jvm.MethodName) ({ cls := "TableArmsModel", name := "order", desc := "(I)I" } : Jvm.MethodName)) ∈ lw_all := lw_g (lw_at lw_m6 217 rfl) rfl
theorem q1507 : (Jvm.Cond.code ({ cls := "TableArmsModel", name := "order", desc := "(I)I" } : Jvm.MethodName) prog_18_method_26_code (3 : Nat) (Option.some Jvm.ClassFile.FieldType.int)) ∈ lw_all := lw_g (lw_at lw_m6 218 rfl) rfl
theorem q1508 : (Jvm.Cond.methodLink "TableArmsModel" (139 : Nat) ({ cls := "TableArmsModel", name := "isOrder", desc := "(I)Z" } : Jvm.MethodName)) ∈ lw_all := lw_g (lw_at lw_m6 219 rfl) rfl
theorem q1509 : (Jvm.Cond.static ({ cls := "TableArmsModel", name := "isOrder", desc := "(I)Z" } : Jvm.MethodName)) ∈ lw_all := lw_g (lw_at lw_m6 220 rfl) rfl
theorem q1510 : (Jvm.Cond.code ({ cls := "TableArmsModel", name := "isOrder", desc := "(I)Z" } : Jvm.MethodName) prog_18_method_25_code (1 : Nat) (Option.some Jvm.ClassFile.FieldType.boolean)) ∈ lw_all := lw_g (lw_at lw_m6 221 rfl) rfl
theorem q1511 : (Jvm.Cond.constantLong "TableArmsModel" (133 : Nat) (95 : Int64)) ∈ lw_all := lw_g (lw_at lw_m6 222 rfl) rfl
theorem q1512 : (Jvm.Cond.methodLink "TableArmsModel" (135 : Nat) ({ cls := "TableArmsModel", name := "in", desc := "(JJJ)Z" } : Jvm.MethodName)) ∈ lw_all := lw_g (lw_at lw_m6 223 rfl) rfl
theorem q1513 : (Jvm.Cond.static ({ cls := "TableArmsModel", name := "in", desc := "(JJJ)Z" } : Jvm.MethodName)) ∈ lw_all := lw_g (lw_at lw_m6 224 rfl) rfl
theorem q1514 : (Jvm.Cond.code ({ cls := "TableArmsModel", name := "in", desc := "(JJJ)Z" } : Jvm.MethodName) prog_18_method_2_code (6 : Nat) (Option.some Jvm.ClassFile.FieldType.boolean)) ∈ lw_all := lw_g (lw_at lw_m6 225 rfl) rfl
theorem q1515 : (Jvm.Cond.constant "TableArmsModel" (143 : Nat) (-1000001 : Int32)) ∈ lw_all := lw_g (lw_at lw_m6 226 rfl) rfl
theorem q1516 : (Jvm.Cond.methodLink "TableArmsModel" (144 : Nat) ({ cls := "TableArmsModel", name := "copyTable", desc := "(II)V" } : Jvm.MethodName)) ∈ lw_all := lw_g (lw_at lw_m6 227 rfl) rfl
theorem q1517 : (Jvm.Cond.privateMethod ({ cls := "TableArmsModel", name := "copyTable", desc := "(II)V" } : Jvm.MethodName)) ∈ lw_tbl := lw_at lw_m6 228 rfl
theorem q1518 : (Jvm.Cond.instanceMethod ({ cls := "TableArmsModel", name := "copyTable", desc := "(II)V" } : Jvm.MethodName)) ∈ lw_all := lw_g (lw_at lw_m6 229 rfl) rfl
theorem q1519 : (Jvm.Cond.code ({ cls := "TableArmsModel", name := "copyTable", desc := "(II)V" } : Jvm.MethodName) prog_18_method_5_code (4 : Nat) (Option.none : Option Jvm.ClassFile.FieldType)) ∈ lw_all := lw_g (lw_at lw_m6 230 rfl) rfl
theorem q1520 : (Jvm.Cond.methodLink "TableArmsModel" (147 : Nat) ({ cls := "TableArmsModel", name := "doOrder", desc := "(II)I" } : Jvm.MethodName)) ∈ lw_all := lw_g (lw_at lw_m6 231 rfl) rfl
theorem q1521 : (Jvm.Cond.privateMethod ({ cls := "TableArmsModel", name := "doOrder", desc := "(II)I" } : Jvm.MethodName)) ∈ lw_tbl := lw_at lw_m6 232 rfl
theorem q1522 : (Jvm.Cond.instanceMethod ({ cls := "TableArmsModel", name := "doOrder", desc := "(II)I" } : Jvm.MethodName)) ∈ lw_all := lw_g (lw_at lw_m6 233 rfl) rfl
theorem q1523 : (Jvm.Cond.code ({ cls := "TableArmsModel", name := "doOrder", desc := "(II)I" } : Jvm.MethodName) prog_18_method_24_code (9 : Nat) (Option.some Jvm.ClassFile.FieldType.int)) ∈ lw_all := lw_g (lw_at lw_m6 234 rfl) rfl
theorem q1524 : (Jvm.Cond.methodLink "TableArmsModel" (126 : Nat) ({ cls := "TableArmsModel", name := "isAsTold", desc := "(IIII)Z" } : Jvm.MethodName)) ∈ lw_all := lw_g (lw_at lw_m6 235 rfl) rfl
theorem q1525 : (Jvm.Cond.privateMethod ({ cls := "TableArmsModel", name := "isAsTold", desc := "(IIII)Z" } : Jvm.MethodName)) ∈ lw_tbl := lw_at lw_m6 236 rfl
theorem q1526 : (Jvm.Cond.instanceMethod ({ cls := "TableArmsModel", name := "isAsTold", desc := "(IIII)Z" } : Jvm.MethodName)) ∈ lw_all := lw_g (lw_at lw_m6 237 rfl) rfl
theorem q1527 : (Jvm.Cond.code ({ cls := "TableArmsModel", name := "isAsTold", desc := "(IIII)Z" } : Jvm.MethodName) prog_18_method_21_code (10 : Nat) (Option.some Jvm.ClassFile.FieldType.boolean)) ∈ lw_all := lw_g (lw_at lw_m6 238 rfl) rfl
theorem q1528 : (Jvm.Cond.methodLink "TableArmsModel" (70 : Nat) ({ cls := "TableArmsModel", name := "boxOf", desc := "(II)I" } : Jvm.MethodName)) ∈ lw_all := lw_g (lw_at lw_m6 239 rfl) rfl
theorem q1529 : (Jvm.Cond.privateMethod ({ cls := "TableArmsModel", name := "boxOf", desc := "(II)I" } : Jvm.MethodName)) ∈ lw_tbl := lw_at lw_m7 0 rfl
theorem q1530 : (Jvm.Cond.instanceMethod ({ cls := "TableArmsModel", name := "boxOf", desc := "(II)I" } : Jvm.MethodName)) ∈ lw_all := lw_g (lw_at lw_m7 1 rfl) rfl
theorem q1531 : (Jvm.Cond.code ({ cls := "TableArmsModel", name := "boxOf", desc := "(II)I" } : Jvm.MethodName) prog_18_method_9_code (3 : Nat) (Option.some Jvm.ClassFile.FieldType.int)) ∈ lw_all := lw_g (lw_at lw_m7 2 rfl) rfl
theorem q1532 : (Jvm.Cond.methodLink "TableArmsModel" (82 : Nat) ({ cls := "TableArmsModel", name := "cellOf", desc := "(II)I" } : Jvm.MethodName)) ∈ lw_all := lw_g (lw_at lw_m7 3 rfl) rfl
theorem q1533 : (Jvm.Cond.privateMethod ({ cls := "TableArmsModel", name := "cellOf", desc := "(II)I" } : Jvm.MethodName)) ∈ lw_tbl := lw_at lw_m7 4 rfl
theorem q1534 : (Jvm.Cond.instanceMethod ({ cls := "TableArmsModel", name := "cellOf", desc := "(II)I" } : Jvm.MethodName)) ∈ lw_all := lw_g (lw_at lw_m7 5 rfl) rfl
theorem q1535 : (Jvm.Cond.code ({ cls := "TableArmsModel", name := "cellOf", desc := "(II)I" } : Jvm.MethodName) prog_18_method_10_code (6 : Nat) (Option.some Jvm.ClassFile.FieldType.int)) ∈ lw_all := lw_g (lw_at lw_m7 6 rfl) rfl
theorem q1536 : (Jvm.Cond.methodLink "TableArmsModel" (74 : Nat) ({ cls := "TableArmsModel", name := "sizeOf", desc := "(II)I" } : Jvm.MethodName)) ∈ lw_all := lw_g (lw_at lw_m7 7 rfl) rfl
theorem q1537 : (Jvm.Cond.privateMethod ({ cls := "TableArmsModel", name := "sizeOf", desc := "(II)I" } : Jvm.MethodName)) ∈ lw_tbl := lw_at lw_m7 8 rfl
theorem q1538 : (Jvm.Cond.instanceMethod ({ cls := "TableArmsModel", name := "sizeOf", desc := "(II)I" } : Jvm.MethodName)) ∈ lw_all := lw_g (lw_at lw_m7 9 rfl) rfl
theorem q1539 : (Jvm.Cond.code ({ cls := "TableArmsModel", name := "sizeOf", desc := "(II)I" } : Jvm.MethodName) prog_18_method_7_code (3 : Nat) (Option.some Jvm.ClassFile.FieldType.int)) ∈ lw_all := lw_g (lw_at lw_m7 10 rfl) rfl
theorem q1540 : (Jvm.Cond.methodLink "TableArmsModel" (77 : Nat) ({ cls := "TableArmsModel", name := "thingAt", desc := "(III)I" } : Jvm.MethodName)) ∈ lw_all := lw_g (lw_at lw_m7 11 rfl) rfl
theorem q1541 : (Jvm.Cond.privateMethod ({ cls := "TableArmsModel", name := "thingAt", desc := "(III)I" } : Jvm.MethodName)) ∈ lw_tbl := lw_at lw_m7 12 rfl
theorem q1542 : (Jvm.Cond.instanceMethod ({ cls := "TableArmsModel", name := "thingAt", desc := "(III)I" } : Jvm.MethodName)) ∈ lw_all := lw_g (lw_at lw_m7 13 rfl) rfl
theorem q1543 : (Jvm.Cond.code ({ cls := "TableArmsModel", name := "thingAt", desc := "(III)I" } : Jvm.MethodName) prog_18_method_8_code (4 : Nat) (Option.some Jvm.ClassFile.FieldType.int)) ∈ lw_all := lw_g (lw_at lw_m7 14 rfl) rfl
theorem q1544 : (Jvm.Cond.constant "TableArmsModel" (81 : Nat) (-1000000 : Int32)) ∈ lw_all := lw_g (lw_at lw_m7 15 rfl) rfl
theorem q1545 : (Jvm.Cond.methodLink "TableArmsModel" (110 : Nat) ({ cls := "TableArmsModel", name := "below", desc := "(II)I" } : Jvm.MethodName)) ∈ lw_all := lw_g (lw_at lw_m7 16 rfl) rfl
theorem q1546 : (Jvm.Cond.privateMethod ({ cls := "TableArmsModel", name := "below", desc := "(II)I" } : Jvm.MethodName)) ∈ lw_tbl := lw_at lw_m7 17 rfl
theorem q1547 : (Jvm.Cond.instanceMethod ({ cls := "TableArmsModel", name := "below", desc := "(II)I" } : Jvm.MethodName)) ∈ lw_all := lw_g (lw_at lw_m7 18 rfl) rfl
theorem q1548 : (Jvm.Cond.code ({ cls := "TableArmsModel", name := "below", desc := "(II)I" } : Jvm.MethodName) prog_18_method_11_code (5 : Nat) (Option.some Jvm.ClassFile.FieldType.int)) ∈ lw_all := lw_g (lw_at lw_m7 19 rfl) rfl
theorem q1549 : (Jvm.Cond.methodLink "TableArmsModel" (113 : Nat) ({ cls := "TableArmsModel", name := "isNeighbour", desc := "(II)Z" } : Jvm.MethodName)) ∈ lw_all := lw_g (lw_at lw_m7 20 rfl) rfl
theorem q1550 : (Jvm.Cond.static ({ cls := "TableArmsModel", name := "isNeighbour", desc := "(II)Z" } : Jvm.MethodName)) ∈ lw_all := lw_g (lw_at lw_m7 21 rfl) rfl
theorem q1551 : (Jvm.Cond.code ({ cls := "TableArmsModel", name := "isNeighbour", desc := "(II)Z" } : Jvm.MethodName) prog_18_method_20_code (4 : Nat) (Option.some Jvm.ClassFile.FieldType.boolean)) ∈ lw_all := lw_g (lw_at lw_m7 22 rfl) rfl
theorem q1552 : (Jvm.Cond.methodLink "TableArmsModel" (130 : Nat) ({ cls := "TableArmsModel", name := "isPut", desc := "(IIII)Z" } : Jvm.MethodName)) ∈ lw_all := lw_g (lw_at lw_m7 23 rfl) rfl
theorem q1553 : (Jvm.Cond.privateMethod ({ cls := "TableArmsModel", name := "isPut", desc := "(IIII)Z" } : Jvm.MethodName)) ∈ lw_tbl := lw_at lw_m7 24 rfl
theorem q1554 : (Jvm.Cond.instanceMethod ({ cls := "TableArmsModel", name := "isPut", desc := "(IIII)Z" } : Jvm.MethodName)) ∈ lw_all := lw_g (lw_at lw_m7 25 rfl) rfl
theorem q1555 : (Jvm.Cond.code ({ cls := "TableArmsModel", name := "isPut", desc := "(IIII)Z" } : Jvm.MethodName) prog_18_method_23_code (6 : Nat) (Option.some Jvm.ClassFile.FieldType.boolean)) ∈ lw_all := lw_g (lw_at lw_m7 26 rfl) rfl
theorem q1556 : (Jvm.Cond.methodLink "TableArmsModel" (116 : Nat) ({ cls := "TableArmsModel", name := "whereTo", desc := "(IIII)I" } : Jvm.MethodName)) ∈ lw_all := lw_g (lw_at lw_m7 27 rfl) rfl
theorem q1557 : (Jvm.Cond.privateMethod ({ cls := "TableArmsModel", name := "whereTo", desc := "(IIII)I" } : Jvm.MethodName)) ∈ lw_tbl := lw_at lw_m7 28 rfl
theorem q1558 : (Jvm.Cond.instanceMethod ({ cls := "TableArmsModel", name := "whereTo", desc := "(IIII)I" } : Jvm.MethodName)) ∈ lw_all := lw_g (lw_at lw_m7 29 rfl) rfl
theorem q1559 : (Jvm.Cond.code ({ cls := "TableArmsModel", name := "whereTo", desc := "(IIII)I" } : Jvm.MethodName) prog_18_method_22_code (8 : Nat) (Option.some Jvm.ClassFile.FieldType.int)) ∈ lw_all := lw_g (lw_at lw_m7 30 rfl) rfl
theorem q1560 : (Jvm.Cond.methodLink "TableArmsModel" (88 : Nat) ({ cls := "TableArmsModel", name := "isClear", desc := "(II)Z" } : Jvm.MethodName)) ∈ lw_all := lw_g (lw_at lw_m7 31 rfl) rfl
theorem q1561 : (Jvm.Cond.privateMethod ({ cls := "TableArmsModel", name := "isClear", desc := "(II)Z" } : Jvm.MethodName)) ∈ lw_tbl := lw_at lw_m7 32 rfl
theorem q1562 : (Jvm.Cond.instanceMethod ({ cls := "TableArmsModel", name := "isClear", desc := "(II)Z" } : Jvm.MethodName)) ∈ lw_all := lw_g (lw_at lw_m7 33 rfl) rfl
theorem q1563 : (Jvm.Cond.code ({ cls := "TableArmsModel", name := "isClear", desc := "(II)Z" } : Jvm.MethodName) prog_18_method_12_code (4 : Nat) (Option.some Jvm.ClassFile.FieldType.boolean)) ∈ lw_all := lw_g (lw_at lw_m7 34 rfl) rfl
theorem q1564 : (Jvm.Cond.methodLink "TableArmsModel" (95 : Nat) ({ cls := "TableArmsModel", name := "insideOf", desc := "(II)I" } : Jvm.MethodName)) ∈ lw_all := lw_g (lw_at lw_m7 35 rfl) rfl
theorem q1565 : (Jvm.Cond.privateMethod ({ cls := "TableArmsModel", name := "insideOf", desc := "(II)I" } : Jvm.MethodName)) ∈ lw_tbl := lw_at lw_m7 36 rfl
theorem q1566 : (Jvm.Cond.instanceMethod ({ cls := "TableArmsModel", name := "insideOf", desc := "(II)I" } : Jvm.MethodName)) ∈ lw_all := lw_g (lw_at lw_m7 37 rfl) rfl
theorem q1567 : (Jvm.Cond.code ({ cls := "TableArmsModel", name := "insideOf", desc := "(II)I" } : Jvm.MethodName) prog_18_method_13_code (5 : Nat) (Option.some Jvm.ClassFile.FieldType.int)) ∈ lw_all := lw_g (lw_at lw_m7 38 rfl) rfl
theorem q1568 : (Jvm.Cond.methodLink "TableArmsModel" (120 : Nat) ({ cls := "TableArmsModel", name := "canMove", desc := "(III)Z" } : Jvm.MethodName)) ∈ lw_all := lw_g (lw_at lw_m7 39 rfl) rfl
theorem q1569 : (Jvm.Cond.privateMethod ({ cls := "TableArmsModel", name := "canMove", desc := "(III)Z" } : Jvm.MethodName)) ∈ lw_tbl := lw_at lw_m7 40 rfl
theorem q1570 : (Jvm.Cond.instanceMethod ({ cls := "TableArmsModel", name := "canMove", desc := "(III)Z" } : Jvm.MethodName)) ∈ lw_all := lw_g (lw_at lw_m7 41 rfl) rfl
theorem q1571 : (Jvm.Cond.code ({ cls := "TableArmsModel", name := "canMove", desc := "(III)Z" } : Jvm.MethodName) prog_18_method_18_code (4 : Nat) (Option.some Jvm.ClassFile.FieldType.boolean)) ∈ lw_all := lw_g (lw_at lw_m7 42 rfl) rfl
theorem q1572 : (Jvm.Cond.methodLink "TableArmsModel" (92 : Nat) ({ cls := "TableArmsModel", name := "isLoose", desc := "(II)Z" } : Jvm.MethodName)) ∈ lw_all := lw_g (lw_at lw_m7 43 rfl) rfl
theorem q1573 : (Jvm.Cond.privateMethod ({ cls := "TableArmsModel", name := "isLoose", desc := "(II)Z" } : Jvm.MethodName)) ∈ lw_tbl := lw_at lw_m7 44 rfl
theorem q1574 : (Jvm.Cond.instanceMethod ({ cls := "TableArmsModel", name := "isLoose", desc := "(II)Z" } : Jvm.MethodName)) ∈ lw_all := lw_g (lw_at lw_m7 45 rfl) rfl
theorem q1575 : (Jvm.Cond.code ({ cls := "TableArmsModel", name := "isLoose", desc := "(II)Z" } : Jvm.MethodName) prog_18_method_14_code (3 : Nat) (Option.some Jvm.ClassFile.FieldType.boolean)) ∈ lw_all := lw_g (lw_at lw_m7 46 rfl) rfl
theorem q1576 : (Jvm.Cond.methodLink "TableArmsModel" (98 : Nat) ({ cls := "TableArmsModel", name := "mayInto", desc := "(III)Z" } : Jvm.MethodName)) ∈ lw_all := lw_g (lw_at lw_m7 47 rfl) rfl
theorem q1577 : (Jvm.Cond.privateMethod ({ cls := "TableArmsModel", name := "mayInto", desc := "(III)Z" } : Jvm.MethodName)) ∈ lw_tbl := lw_at lw_m7 48 rfl
theorem q1578 : (Jvm.Cond.instanceMethod ({ cls := "TableArmsModel", name := "mayInto", desc := "(III)Z" } : Jvm.MethodName)) ∈ lw_all := lw_g (lw_at lw_m7 49 rfl) rfl
theorem q1579 : (Jvm.Cond.code ({ cls := "TableArmsModel", name := "mayInto", desc := "(III)Z" } : Jvm.MethodName) prog_18_method_17_code (4 : Nat) (Option.some Jvm.ClassFile.FieldType.boolean)) ∈ lw_all := lw_g (lw_at lw_m7 50 rfl) rfl
theorem q1580 : (Jvm.Cond.methodLink "TableArmsModel" (123 : Nat) ({ cls := "TableArmsModel", name := "doMove", desc := "(III)V" } : Jvm.MethodName)) ∈ lw_all := lw_g (lw_at lw_m7 51 rfl) rfl
theorem q1581 : (Jvm.Cond.privateMethod ({ cls := "TableArmsModel", name := "doMove", desc := "(III)V" } : Jvm.MethodName)) ∈ lw_tbl := lw_at lw_m7 52 rfl
theorem q1582 : (Jvm.Cond.instanceMethod ({ cls := "TableArmsModel", name := "doMove", desc := "(III)V" } : Jvm.MethodName)) ∈ lw_all := lw_g (lw_at lw_m7 53 rfl) rfl
theorem q1583 : (Jvm.Cond.code ({ cls := "TableArmsModel", name := "doMove", desc := "(III)V" } : Jvm.MethodName) prog_18_method_19_code (4 : Nat) (Option.none : Option Jvm.ClassFile.FieldType)) ∈ lw_all := lw_g (lw_at lw_m7 54 rfl) rfl
theorem q1584 : (Jvm.Cond.methodLink "TableArmsModel" (102 : Nat) ({ cls := "TableArmsModel", name := "takeUp", desc := "(II)V" } : Jvm.MethodName)) ∈ lw_all := lw_g (lw_at lw_m7 55 rfl) rfl
theorem q1585 : (Jvm.Cond.privateMethod ({ cls := "TableArmsModel", name := "takeUp", desc := "(II)V" } : Jvm.MethodName)) ∈ lw_tbl := lw_at lw_m7 56 rfl
theorem q1586 : (Jvm.Cond.instanceMethod ({ cls := "TableArmsModel", name := "takeUp", desc := "(II)V" } : Jvm.MethodName)) ∈ lw_all := lw_g (lw_at lw_m7 57 rfl) rfl
theorem q1587 : (Jvm.Cond.code ({ cls := "TableArmsModel", name := "takeUp", desc := "(II)V" } : Jvm.MethodName) prog_18_method_16_code (4 : Nat) (Option.none : Option Jvm.ClassFile.FieldType)) ∈ lw_all := lw_g (lw_at lw_m7 58 rfl) rfl
theorem q1588 : (Jvm.Cond.methodLink "TableArmsModel" (106 : Nat) ({ cls := "TableArmsModel", name := "putOn", desc := "(III)V" } : Jvm.MethodName)) ∈ lw_all := lw_g (lw_at lw_m7 59 rfl) rfl
theorem q1589 : (Jvm.Cond.privateMethod ({ cls := "TableArmsModel", name := "putOn", desc := "(III)V" } : Jvm.MethodName)) ∈ lw_tbl := lw_at lw_m7 60 rfl
theorem q1590 : (Jvm.Cond.instanceMethod ({ cls := "TableArmsModel", name := "putOn", desc := "(III)V" } : Jvm.MethodName)) ∈ lw_all := lw_g (lw_at lw_m7 61 rfl) rfl
theorem q1591 : (Jvm.Cond.code ({ cls := "TableArmsModel", name := "putOn", desc := "(III)V" } : Jvm.MethodName) prog_18_method_15_code (5 : Nat) (Option.none : Option Jvm.ClassFile.FieldType)) ∈ lw_all := lw_g (lw_at lw_m7 62 rfl) rfl
theorem q1592 : (Jvm.Cond.constant "TableArmsModel" (150 : Nat) (-1000002 : Int32)) ∈ lw_all := lw_g (lw_at lw_m7 63 rfl) rfl
theorem q1594 : (Jvm.Cond.instanceMethod ({ cls := "TableArmsModel", name := "thing", desc := "(III)I" } : Jvm.MethodName)) ∈ lw_all := lw_g (lw_at lw_m7 65 rfl) rfl
theorem q1595 : (Jvm.Cond.selects "TableArmsModel" ({ cls := "TableArmsModel", name := "thing", desc := "(III)I" } : Jvm.MethodName) ({ cls := "TableArmsModel", name := "thing", desc := "(III)I" } : Jvm.MethodName)) ∈ lw_all := lw_g (lw_at lw_m7 66 rfl) rfl
theorem q1596 : (Jvm.Cond.code ({ cls := "TableArmsModel", name := "thing", desc := "(III)I" } : Jvm.MethodName) prog_18_method_29_code (5 : Nat) (Option.some Jvm.ClassFile.FieldType.int)) ∈ lw_all := lw_g (lw_at lw_m7 67 rfl) rfl
theorem q1597 : (Jvm.Cond.constantLong "TableArmsModel" (153 : Nat) (3 : Int64)) ∈ lw_all := lw_g (lw_at lw_m7 68 rfl) rfl
theorem q1598 : (Jvm.Cond.constantLong "TableArmsModel" (155 : Nat) (20 : Int64)) ∈ lw_all := lw_g (lw_at lw_m7 69 rfl) rfl
theorem q1599 : (Jvm.Cond.methodLink "TableArmsModel" (157 : Nat) ({ cls := "TableArmsModel", name := "isCell", desc := "(I)Z" } : Jvm.MethodName)) ∈ lw_all := lw_g (lw_at lw_m7 70 rfl) rfl
theorem q1600 : (Jvm.Cond.static ({ cls := "TableArmsModel", name := "isCell", desc := "(I)Z" } : Jvm.MethodName)) ∈ lw_all := lw_g (lw_at lw_m7 71 rfl) rfl
theorem q1601 : (Jvm.Cond.code ({ cls := "TableArmsModel", name := "isCell", desc := "(I)Z" } : Jvm.MethodName) prog_18_method_28_code (1 : Nat) (Option.some Jvm.ClassFile.FieldType.boolean)) ∈ lw_all := lw_g (lw_at lw_m7 72 rfl) rfl
theorem q1602 : (Jvm.Cond.constantLong "TableArmsModel" (151 : Nat) (7 : Int64)) ∈ lw_all := lw_g (lw_at lw_m7 73 rfl) rfl
theorem q1603 : (Jvm.Cond.constant "TableArmsModel" (160 : Nat) (-1000003 : Int32)) ∈ lw_all := lw_g (lw_at lw_m7 74 rfl) rfl
theorem q1605 : (Jvm.Cond.instanceMethod ({ cls := "TableArmsModel", name := "where", desc := "(II)I" } : Jvm.MethodName)) ∈ lw_all := lw_g (lw_at lw_m7 76 rfl) rfl
theorem q1606 : (Jvm.Cond.selects "TableArmsModel" ({ cls := "TableArmsModel", name := "where", desc := "(II)I" } : Jvm.MethodName) ({ cls := "TableArmsModel", name := "where", desc := "(II)I" } : Jvm.MethodName)) ∈ lw_all := lw_g (lw_at lw_m7 77 rfl) rfl
theorem q1607 : (Jvm.Cond.code ({ cls := "TableArmsModel", name := "where", desc := "(II)I" } : Jvm.MethodName) prog_18_method_30_code (4 : Nat) (Option.some Jvm.ClassFile.FieldType.int)) ∈ lw_all := lw_g (lw_at lw_m7 78 rfl) rfl
theorem q1608 : (Jvm.Cond.methodLink "TableArmsModel" (164 : Nat) ({ cls := "TableArmsModel", name := "isThing", desc := "(I)Z" } : Jvm.MethodName)) ∈ lw_all := lw_g (lw_at lw_m7 79 rfl) rfl
theorem q1609 : (Jvm.Cond.privateMethod ({ cls := "TableArmsModel", name := "isThing", desc := "(I)Z" } : Jvm.MethodName)) ∈ lw_tbl := lw_at lw_m7 80 rfl
theorem q1610 : (Jvm.Cond.instanceMethod ({ cls := "TableArmsModel", name := "isThing", desc := "(I)Z" } : Jvm.MethodName)) ∈ lw_all := lw_g (lw_at lw_m7 81 rfl) rfl
theorem q1611 : (Jvm.Cond.code ({ cls := "TableArmsModel", name := "isThing", desc := "(I)Z" } : Jvm.MethodName) prog_18_method_27_code (2 : Nat) (Option.some Jvm.ClassFile.FieldType.boolean)) ∈ lw_all := lw_g (lw_at lw_m7 82 rfl) rfl
theorem q1612 : (Jvm.Cond.constantLong "TableArmsModel" (167 : Nat) (6 : Int64)) ∈ lw_all := lw_g (lw_at lw_m7 83 rfl) rfl
theorem q1614 : (Jvm.Cond.instanceMethod ({ cls := "TableArmsModel", name := "pile", desc := "(II)I" } : Jvm.MethodName)) ∈ lw_all := lw_g (lw_at lw_m7 85 rfl) rfl
theorem q1615 : (Jvm.Cond.selects "TableArmsModel" ({ cls := "TableArmsModel", name := "pile", desc := "(II)I" } : Jvm.MethodName) ({ cls := "TableArmsModel", name := "pile", desc := "(II)I" } : Jvm.MethodName)) ∈ lw_all := lw_g (lw_at lw_m7 86 rfl) rfl
theorem q1616 : (Jvm.Cond.code ({ cls := "TableArmsModel", name := "pile", desc := "(II)I" } : Jvm.MethodName) prog_18_method_31_code (3 : Nat) (Option.some Jvm.ClassFile.FieldType.int)) ∈ lw_all := lw_g (lw_at lw_m7 87 rfl) rfl
theorem q1618 : (Jvm.Cond.instanceMethod ({ cls := "TableArmsModel", name := "reach", desc := "(II)I" } : Jvm.MethodName)) ∈ lw_all := lw_g (lw_at lw_m7 89 rfl) rfl
theorem q1619 : (Jvm.Cond.selects "TableArmsModel" ({ cls := "TableArmsModel", name := "reach", desc := "(II)I" } : Jvm.MethodName) ({ cls := "TableArmsModel", name := "reach", desc := "(II)I" } : Jvm.MethodName)) ∈ lw_all := lw_g (lw_at lw_m7 90 rfl) rfl
theorem q1620 : (Jvm.Cond.code ({ cls := "TableArmsModel", name := "reach", desc := "(II)I" } : Jvm.MethodName) prog_18_method_33_code (4 : Nat) (Option.some Jvm.ClassFile.FieldType.int)) ∈ lw_all := lw_g (lw_at lw_m7 91 rfl) rfl
theorem q1621 : (Jvm.Cond.methodLink "TableArmsModel" (169 : Nat) ({ cls := "TableArmsModel", name := "isArm", desc := "(I)Z" } : Jvm.MethodName)) ∈ lw_all := lw_g (lw_at lw_m7 92 rfl) rfl
theorem q1622 : (Jvm.Cond.static ({ cls := "TableArmsModel", name := "isArm", desc := "(I)Z" } : Jvm.MethodName)) ∈ lw_all := lw_g (lw_at lw_m7 93 rfl) rfl
theorem q1623 : (Jvm.Cond.code ({ cls := "TableArmsModel", name := "isArm", desc := "(I)Z" } : Jvm.MethodName) prog_18_method_32_code (1 : Nat) (Option.some Jvm.ClassFile.FieldType.boolean)) ∈ lw_all := lw_g (lw_at lw_m7 94 rfl) rfl
theorem q1624 : (Jvm.Cond.constantLong "TableArmsModel" (172 : Nat) (255 : Int64)) ∈ lw_all := lw_g (lw_at lw_m7 95 rfl) rfl
theorem q1626 : (Jvm.Cond.instanceMethod ({ cls := "TableArmsModel", name := "move", desc := "(III)I" } : Jvm.MethodName)) ∈ lw_all := lw_g (lw_at lw_m7 97 rfl) rfl
theorem q1627 : (Jvm.Cond.selects "TableArmsModel" ({ cls := "TableArmsModel", name := "move", desc := "(III)I" } : Jvm.MethodName) ({ cls := "TableArmsModel", name := "move", desc := "(III)I" } : Jvm.MethodName)) ∈ lw_all := lw_g (lw_at lw_m7 98 rfl) rfl
theorem q1628 : (Jvm.Cond.code ({ cls := "TableArmsModel", name := "move", desc := "(III)I" } : Jvm.MethodName) prog_18_method_36_code (4 : Nat) (Option.some Jvm.ClassFile.FieldType.int)) ∈ lw_all := lw_g (lw_at lw_m7 99 rfl) rfl
theorem q1629 : (Jvm.Cond.methodLink "TableArmsModel" (178 : Nat) ({ cls := "TableArmsModel", name := "isTo", desc := "(I)Z" } : Jvm.MethodName)) ∈ lw_all := lw_g (lw_at lw_m7 100 rfl) rfl
theorem q1630 : (Jvm.Cond.privateMethod ({ cls := "TableArmsModel", name := "isTo", desc := "(I)Z" } : Jvm.MethodName)) ∈ lw_tbl := lw_at lw_m7 101 rfl
theorem q1631 : (Jvm.Cond.instanceMethod ({ cls := "TableArmsModel", name := "isTo", desc := "(I)Z" } : Jvm.MethodName)) ∈ lw_all := lw_g (lw_at lw_m7 102 rfl) rfl
theorem q1632 : (Jvm.Cond.code ({ cls := "TableArmsModel", name := "isTo", desc := "(I)Z" } : Jvm.MethodName) prog_18_method_35_code (2 : Nat) (Option.some Jvm.ClassFile.FieldType.boolean)) ∈ lw_all := lw_g (lw_at lw_m7 103 rfl) rfl
theorem q1633 : (Jvm.Cond.constantLong "TableArmsModel" (174 : Nat) (8 : Int64)) ∈ lw_all := lw_g (lw_at lw_m7 104 rfl) rfl
theorem q1634 : (Jvm.Cond.constantLong "TableArmsModel" (176 : Nat) (13 : Int64)) ∈ lw_all := lw_g (lw_at lw_m7 105 rfl) rfl
theorem q1635 : (Jvm.Cond.methodLink "TableArmsModel" (181 : Nat) ({ cls := "TableArmsModel", name := "doesReach", desc := "(IIII)Z" } : Jvm.MethodName)) ∈ lw_all := lw_g (lw_at lw_m7 106 rfl) rfl
theorem q1636 : (Jvm.Cond.privateMethod ({ cls := "TableArmsModel", name := "doesReach", desc := "(IIII)Z" } : Jvm.MethodName)) ∈ lw_tbl := lw_at lw_m7 107 rfl
theorem q1637 : (Jvm.Cond.instanceMethod ({ cls := "TableArmsModel", name := "doesReach", desc := "(IIII)Z" } : Jvm.MethodName)) ∈ lw_all := lw_g (lw_at lw_m7 108 rfl) rfl
theorem q1638 : (Jvm.Cond.code ({ cls := "TableArmsModel", name := "doesReach", desc := "(IIII)Z" } : Jvm.MethodName) prog_18_method_34_code (6 : Nat) (Option.some Jvm.ClassFile.FieldType.boolean)) ∈ lw_all := lw_g (lw_at lw_m7 109 rfl) rfl
theorem q1640 : (Jvm.Cond.instanceMethod ({ cls := "TableArmsModel", name := "keep", desc := "()I" } : Jvm.MethodName)) ∈ lw_all := lw_g (lw_at lw_m7 111 rfl) rfl
theorem q1641 : (Jvm.Cond.selects "TableArmsModel" ({ cls := "TableArmsModel", name := "keep", desc := "()I" } : Jvm.MethodName) ({ cls := "TableArmsModel", name := "keep", desc := "()I" } : Jvm.MethodName)) ∈ lw_all := lw_g (lw_at lw_m7 112 rfl) rfl
theorem q1642 : (Jvm.Cond.code ({ cls := "TableArmsModel", name := "keep", desc := "()I" } : Jvm.MethodName) prog_18_method_37_code (1 : Nat) (Option.some Jvm.ClassFile.FieldType.int)) ∈ lw_all := lw_g (lw_at lw_m7 113 rfl) rfl
theorem q1644 : (Jvm.Cond.instanceMethod ({ cls := "TableArmsModel", name := "back", desc := "(I)I" } : Jvm.MethodName)) ∈ lw_all := lw_g (lw_at lw_m7 115 rfl) rfl
theorem q1645 : (Jvm.Cond.selects "TableArmsModel" ({ cls := "TableArmsModel", name := "back", desc := "(I)I" } : Jvm.MethodName) ({ cls := "TableArmsModel", name := "back", desc := "(I)I" } : Jvm.MethodName)) ∈ lw_all := lw_g (lw_at lw_m7 116 rfl) rfl
theorem q1646 : (Jvm.Cond.code ({ cls := "TableArmsModel", name := "back", desc := "(I)I" } : Jvm.MethodName) prog_18_method_39_code (2 : Nat) (Option.some Jvm.ClassFile.FieldType.int)) ∈ lw_all := lw_g (lw_at lw_m7 117 rfl) rfl
theorem q1647 : (Jvm.Cond.methodLink "TableArmsModel" (184 : Nat) ({ cls := "TableArmsModel", name := "isKept", desc := "(I)Z" } : Jvm.MethodName)) ∈ lw_all := lw_g (lw_at lw_m7 118 rfl) rfl
theorem q1648 : (Jvm.Cond.privateMethod ({ cls := "TableArmsModel", name := "isKept", desc := "(I)Z" } : Jvm.MethodName)) ∈ lw_tbl := lw_at lw_m7 119 rfl
theorem q1649 : (Jvm.Cond.instanceMethod ({ cls := "TableArmsModel", name := "isKept", desc := "(I)Z" } : Jvm.MethodName)) ∈ lw_all := lw_g (lw_at lw_m7 120 rfl) rfl
theorem q1650 : (Jvm.Cond.code ({ cls := "TableArmsModel", name := "isKept", desc := "(I)Z" } : Jvm.MethodName) prog_18_method_38_code (2 : Nat) (Option.some Jvm.ClassFile.FieldType.boolean)) ∈ lw_all := lw_g (lw_at lw_m7 121 rfl) rfl
theorem q1652 : (Jvm.Cond.instanceMethod ({ cls := "TableArmsModel", name := "same", desc := "(II)I" } : Jvm.MethodName)) ∈ lw_all := lw_g (lw_at lw_m7 123 rfl) rfl
theorem q1653 : (Jvm.Cond.selects "TableArmsModel" ({ cls := "TableArmsModel", name := "same", desc := "(II)I" } : Jvm.MethodName) ({ cls := "TableArmsModel", name := "same", desc := "(II)I" } : Jvm.MethodName)) ∈ lw_all := lw_g (lw_at lw_m7 124 rfl) rfl
theorem q1654 : (Jvm.Cond.code ({ cls := "TableArmsModel", name := "same", desc := "(II)I" } : Jvm.MethodName) prog_18_method_40_code (3 : Nat) (Option.some Jvm.ClassFile.FieldType.int)) ∈ lw_all := lw_g (lw_at lw_m7 125 rfl) rfl
theorem q1655 : (Jvm.Cond.methodLink "TableArmsModel" (187 : Nat) ({ cls := "TableArmsModel", name := "isSame", desc := "(II)Z" } : Jvm.MethodName)) ∈ lw_all := lw_g (lw_at lw_m7 126 rfl) rfl
theorem q1656 : (Jvm.Cond.privateMethod ({ cls := "TableArmsModel", name := "isSame", desc := "(II)Z" } : Jvm.MethodName)) ∈ lw_tbl := lw_at lw_m7 127 rfl
theorem q1657 : (Jvm.Cond.instanceMethod ({ cls := "TableArmsModel", name := "isSame", desc := "(II)Z" } : Jvm.MethodName)) ∈ lw_all := lw_g (lw_at lw_m7 128 rfl) rfl
theorem q1658 : (Jvm.Cond.code ({ cls := "TableArmsModel", name := "isSame", desc := "(II)Z" } : Jvm.MethodName) prog_18_method_6_code (5 : Nat) (Option.some Jvm.ClassFile.FieldType.boolean)) ∈ lw_all := lw_g (lw_at lw_m7 129 rfl) rfl
theorem q1660 : (Jvm.Cond.instanceMethod ({ cls := "TableArmsModel", name := "lesson", desc := "(IIII)I" } : Jvm.MethodName)) ∈ lw_all := lw_g (lw_at lw_m7 131 rfl) rfl
theorem q1661 : (Jvm.Cond.selects "TableArmsModel" ({ cls := "TableArmsModel", name := "lesson", desc := "(IIII)I" } : Jvm.MethodName) ({ cls := "TableArmsModel", name := "lesson", desc := "(IIII)I" } : Jvm.MethodName)) ∈ lw_all := lw_g (lw_at lw_m7 132 rfl) rfl
theorem q1662 : (Jvm.Cond.code ({ cls := "TableArmsModel", name := "lesson", desc := "(IIII)I" } : Jvm.MethodName) prog_18_method_42_code (5 : Nat) (Option.some Jvm.ClassFile.FieldType.int)) ∈ lw_all := lw_g (lw_at lw_m7 133 rfl) rfl
theorem q1663 : (Jvm.Cond.methodLink "TableArmsModel" (195 : Nat) ({ cls := "TableArmsModel", name := "teach", desc := "(IIII)I" } : Jvm.MethodName)) ∈ lw_all := lw_g (lw_at lw_m7 134 rfl) rfl
theorem q1664 : (Jvm.Cond.privateMethod ({ cls := "TableArmsModel", name := "teach", desc := "(IIII)I" } : Jvm.MethodName)) ∈ lw_tbl := lw_at lw_m7 135 rfl
theorem q1665 : (Jvm.Cond.instanceMethod ({ cls := "TableArmsModel", name := "teach", desc := "(IIII)I" } : Jvm.MethodName)) ∈ lw_all := lw_g (lw_at lw_m7 136 rfl) rfl
theorem q1666 : (Jvm.Cond.code ({ cls := "TableArmsModel", name := "teach", desc := "(IIII)I" } : Jvm.MethodName) prog_18_method_41_code (5 : Nat) (Option.some Jvm.ClassFile.FieldType.int)) ∈ lw_all := lw_g (lw_at lw_m7 137 rfl) rfl
theorem q1667 : (Jvm.Cond.constantLong "TableArmsModel" (190 : Nat) (9 : Int64)) ∈ lw_all := lw_g (lw_at lw_m7 138 rfl) rfl
theorem q1669 : (Jvm.Cond.instanceMethod ({ cls := "TableArmsModel", name := "lessons", desc := "(III)I" } : Jvm.MethodName)) ∈ lw_all := lw_g (lw_at lw_m7 140 rfl) rfl
theorem q1670 : (Jvm.Cond.selects "TableArmsModel" ({ cls := "TableArmsModel", name := "lessons", desc := "(III)I" } : Jvm.MethodName) ({ cls := "TableArmsModel", name := "lessons", desc := "(III)I" } : Jvm.MethodName)) ∈ lw_all := lw_g (lw_at lw_m7 141 rfl) rfl
theorem q1671 : (Jvm.Cond.code ({ cls := "TableArmsModel", name := "lessons", desc := "(III)I" } : Jvm.MethodName) prog_18_method_43_code (8 : Nat) (Option.some Jvm.ClassFile.FieldType.int)) ∈ lw_all := lw_g (lw_at lw_m7 142 rfl) rfl
theorem q1672 : (Jvm.Cond.methodLink "TableArmsModel" (198 : Nat) ({ cls := "TableArmsModel", name := "isSheet", desc := "(I)Z" } : Jvm.MethodName)) ∈ lw_all := lw_g (lw_at lw_m7 143 rfl) rfl
theorem q1673 : (Jvm.Cond.static ({ cls := "TableArmsModel", name := "isSheet", desc := "(I)Z" } : Jvm.MethodName)) ∈ lw_all := lw_g (lw_at lw_m7 144 rfl) rfl
theorem q1674 : (Jvm.Cond.code ({ cls := "TableArmsModel", name := "isSheet", desc := "(I)Z" } : Jvm.MethodName) prog_18_method_58_code (1 : Nat) (Option.some Jvm.ClassFile.FieldType.boolean)) ∈ lw_all := lw_g (lw_at lw_m7 145 rfl) rfl
theorem q1675 : (Jvm.Cond.constantLong "TableArmsModel" (201 : Nat) (4 : Int64)) ∈ lw_all := lw_g (lw_at lw_m7 146 rfl) rfl
theorem q1676 : (Jvm.Cond.methodLink "TableArmsModel" (203 : Nat) ({ cls := "TableArmsModel", name := "lookItems", desc := "(III)I" } : Jvm.MethodName)) ∈ lw_all := lw_g (lw_at lw_m7 147 rfl) rfl
theorem q1677 : (Jvm.Cond.privateMethod ({ cls := "TableArmsModel", name := "lookItems", desc := "(III)I" } : Jvm.MethodName)) ∈ lw_tbl := lw_at lw_m7 148 rfl
theorem q1678 : (Jvm.Cond.instanceMethod ({ cls := "TableArmsModel", name := "lookItems", desc := "(III)I" } : Jvm.MethodName)) ∈ lw_all := lw_g (lw_at lw_m7 149 rfl) rfl
theorem q1679 : (Jvm.Cond.code ({ cls := "TableArmsModel", name := "lookItems", desc := "(III)I" } : Jvm.MethodName) prog_18_method_63_code (4 : Nat) (Option.some Jvm.ClassFile.FieldType.int)) ∈ lw_all := lw_g (lw_at lw_m7 150 rfl) rfl
theorem q1680 : (Jvm.Cond.methodLink "TableArmsModel" (234 : Nat) ({ cls := "TableArmsModel", name := "finding", desc := "(I)I" } : Jvm.MethodName)) ∈ lw_all := lw_g (lw_at lw_m7 151 rfl) rfl
theorem q1681 : (Jvm.Cond.privateMethod ({ cls := "TableArmsModel", name := "finding", desc := "(I)I" } : Jvm.MethodName)) ∈ lw_tbl := lw_at lw_m7 152 rfl
theorem q1682 : (Jvm.Cond.instanceMethod ({ cls := "TableArmsModel", name := "finding", desc := "(I)I" } : Jvm.MethodName)) ∈ lw_all := lw_g (lw_at lw_m7 153 rfl) rfl
theorem q1683 : (Jvm.Cond.code ({ cls := "TableArmsModel", name := "finding", desc := "(I)I" } : Jvm.MethodName) prog_18_method_3_code (2 : Nat) (Option.some Jvm.ClassFile.FieldType.int)) ∈ lw_all := lw_g (lw_at lw_m7 154 rfl) rfl
theorem q1684 : (Jvm.Cond.constant "TableArmsModel" (10 : Nat) (-1000010 : Int32)) ∈ lw_all := lw_g (lw_at lw_m7 155 rfl) rfl
theorem q1686 : (Jvm.Cond.instanceMethod ({ cls := "TableArmsModel", name := "unteach", desc := "(I)I" } : Jvm.MethodName)) ∈ lw_all := lw_g (lw_at lw_m7 157 rfl) rfl
theorem q1687 : (Jvm.Cond.selects "TableArmsModel" ({ cls := "TableArmsModel", name := "unteach", desc := "(I)I" } : Jvm.MethodName) ({ cls := "TableArmsModel", name := "unteach", desc := "(I)I" } : Jvm.MethodName)) ∈ lw_all := lw_g (lw_at lw_m7 158 rfl) rfl
theorem q1688 : (Jvm.Cond.code ({ cls := "TableArmsModel", name := "unteach", desc := "(I)I" } : Jvm.MethodName) prog_18_method_44_code (2 : Nat) (Option.some Jvm.ClassFile.FieldType.int)) ∈ lw_all := lw_g (lw_at lw_m7 159 rfl) rfl
theorem q1690 : (Jvm.Cond.instanceMethod ({ cls := "TableArmsModel", name := "fits", desc := "(I)I" } : Jvm.MethodName)) ∈ lw_all := lw_g (lw_at lw_m7 161 rfl) rfl
theorem q1691 : (Jvm.Cond.selects "TableArmsModel" ({ cls := "TableArmsModel", name := "fits", desc := "(I)I" } : Jvm.MethodName) ({ cls := "TableArmsModel", name := "fits", desc := "(I)I" } : Jvm.MethodName)) ∈ lw_all := lw_g (lw_at lw_m7 162 rfl) rfl
theorem q1692 : (Jvm.Cond.code ({ cls := "TableArmsModel", name := "fits", desc := "(I)I" } : Jvm.MethodName) prog_18_method_48_code (4 : Nat) (Option.some Jvm.ClassFile.FieldType.int)) ∈ lw_all := lw_g (lw_at lw_m7 163 rfl) rfl
theorem q1693 : (Jvm.Cond.methodLink "TableArmsModel" (209 : Nat) ({ cls := "TableArmsModel", name := "standing", desc := "()I" } : Jvm.MethodName)) ∈ lw_all := lw_g (lw_at lw_m7 164 rfl) rfl
theorem q1694 : (Jvm.Cond.privateMethod ({ cls := "TableArmsModel", name := "standing", desc := "()I" } : Jvm.MethodName)) ∈ lw_tbl := lw_at lw_m7 165 rfl
theorem q1695 : (Jvm.Cond.instanceMethod ({ cls := "TableArmsModel", name := "standing", desc := "()I" } : Jvm.MethodName)) ∈ lw_all := lw_g (lw_at lw_m7 166 rfl) rfl
theorem q1696 : (Jvm.Cond.code ({ cls := "TableArmsModel", name := "standing", desc := "()I" } : Jvm.MethodName) prog_18_method_47_code (3 : Nat) (Option.some Jvm.ClassFile.FieldType.int)) ∈ lw_all := lw_g (lw_at lw_m7 167 rfl) rfl
theorem q1697 : (Jvm.Cond.methodLink "TableArmsModel" (213 : Nat) ({ cls := "TableArmsModel", name := "barredBy", desc := "(II)I" } : Jvm.MethodName)) ∈ lw_all := lw_g (lw_at lw_m7 168 rfl) rfl
theorem q1698 : (Jvm.Cond.privateMethod ({ cls := "TableArmsModel", name := "barredBy", desc := "(II)I" } : Jvm.MethodName)) ∈ lw_tbl := lw_at lw_m7 169 rfl
theorem q1699 : (Jvm.Cond.instanceMethod ({ cls := "TableArmsModel", name := "barredBy", desc := "(II)I" } : Jvm.MethodName)) ∈ lw_all := lw_g (lw_at lw_m7 170 rfl) rfl
theorem q1700 : (Jvm.Cond.code ({ cls := "TableArmsModel", name := "barredBy", desc := "(II)I" } : Jvm.MethodName) prog_18_method_46_code (4 : Nat) (Option.some Jvm.ClassFile.FieldType.int)) ∈ lw_all := lw_g (lw_at lw_m7 171 rfl) rfl
theorem q1701 : (Jvm.Cond.methodLink "TableArmsModel" (206 : Nat) ({ cls := "TableArmsModel", name := "isBarring", desc := "(II)Z" } : Jvm.MethodName)) ∈ lw_all := lw_g (lw_at lw_m7 172 rfl) rfl
theorem q1702 : (Jvm.Cond.privateMethod ({ cls := "TableArmsModel", name := "isBarring", desc := "(II)Z" } : Jvm.MethodName)) ∈ lw_tbl := lw_at lw_m7 173 rfl
theorem q1703 : (Jvm.Cond.instanceMethod ({ cls := "TableArmsModel", name := "isBarring", desc := "(II)Z" } : Jvm.MethodName)) ∈ lw_all := lw_g (lw_at lw_m7 174 rfl) rfl
theorem q1704 : (Jvm.Cond.code ({ cls := "TableArmsModel", name := "isBarring", desc := "(II)Z" } : Jvm.MethodName) prog_18_method_45_code (5 : Nat) (Option.some Jvm.ClassFile.FieldType.boolean)) ∈ lw_all := lw_g (lw_at lw_m7 175 rfl) rfl
theorem q1706 : (Jvm.Cond.instanceMethod ({ cls := "TableArmsModel", name := "barred", desc := "(II)I" } : Jvm.MethodName)) ∈ lw_all := lw_g (lw_at lw_m7 177 rfl) rfl
theorem q1707 : (Jvm.Cond.selects "TableArmsModel" ({ cls := "TableArmsModel", name := "barred", desc := "(II)I" } : Jvm.MethodName) ({ cls := "TableArmsModel", name := "barred", desc := "(II)I" } : Jvm.MethodName)) ∈ lw_all := lw_g (lw_at lw_m7 178 rfl) rfl
theorem q1708 : (Jvm.Cond.code ({ cls := "TableArmsModel", name := "barred", desc := "(II)I" } : Jvm.MethodName) prog_18_method_49_code (4 : Nat) (Option.some Jvm.ClassFile.FieldType.int)) ∈ lw_all := lw_g (lw_at lw_m7 179 rfl) rfl
theorem q1710 : (Jvm.Cond.instanceMethod ({ cls := "TableArmsModel", name := "question", desc := "(I)I" } : Jvm.MethodName)) ∈ lw_all := lw_g (lw_at lw_m7 181 rfl) rfl
theorem q1711 : (Jvm.Cond.selects "TableArmsModel" ({ cls := "TableArmsModel", name := "question", desc := "(I)I" } : Jvm.MethodName) ({ cls := "TableArmsModel", name := "question", desc := "(I)I" } : Jvm.MethodName)) ∈ lw_all := lw_g (lw_at lw_m7 182 rfl) rfl
theorem q1712 : (Jvm.Cond.code ({ cls := "TableArmsModel", name := "question", desc := "(I)I" } : Jvm.MethodName) prog_18_method_51_code (6 : Nat) (Option.some Jvm.ClassFile.FieldType.int)) ∈ lw_all := lw_g (lw_at lw_m7 183 rfl) rfl
theorem q1713 : (Jvm.Cond.methodLink "TableArmsModel" (216 : Nat) ({ cls := "TableArmsModel", name := "unlike", desc := "(I)I" } : Jvm.MethodName)) ∈ lw_all := lw_g (lw_at lw_m7 184 rfl) rfl
theorem q1714 : (Jvm.Cond.privateMethod ({ cls := "TableArmsModel", name := "unlike", desc := "(I)I" } : Jvm.MethodName)) ∈ lw_tbl := lw_at lw_m7 185 rfl
theorem q1715 : (Jvm.Cond.instanceMethod ({ cls := "TableArmsModel", name := "unlike", desc := "(I)I" } : Jvm.MethodName)) ∈ lw_all := lw_g (lw_at lw_m7 186 rfl) rfl
theorem q1716 : (Jvm.Cond.code ({ cls := "TableArmsModel", name := "unlike", desc := "(I)I" } : Jvm.MethodName) prog_18_method_50_code (7 : Nat) (Option.some Jvm.ClassFile.FieldType.int)) ∈ lw_all := lw_g (lw_at lw_m7 187 rfl) rfl
theorem q1718 : (Jvm.Cond.instanceMethod ({ cls := "TableArmsModel", name := "quarrel", desc := "()I" } : Jvm.MethodName)) ∈ lw_all := lw_g (lw_at lw_m7 189 rfl) rfl
theorem q1719 : (Jvm.Cond.selects "TableArmsModel" ({ cls := "TableArmsModel", name := "quarrel", desc := "()I" } : Jvm.MethodName) ({ cls := "TableArmsModel", name := "quarrel", desc := "()I" } : Jvm.MethodName)) ∈ lw_all := lw_g (lw_at lw_m7 190 rfl) rfl
theorem q1720 : (Jvm.Cond.code ({ cls := "TableArmsModel", name := "quarrel", desc := "()I" } : Jvm.MethodName) prog_18_method_53_code (6 : Nat) (Option.some Jvm.ClassFile.FieldType.int)) ∈ lw_all := lw_g (lw_at lw_m7 191 rfl) rfl
theorem q1721 : (Jvm.Cond.methodLink "TableArmsModel" (220 : Nat) ({ cls := "TableArmsModel", name := "bits", desc := "(I)I" } : Jvm.MethodName)) ∈ lw_all := lw_g (lw_at lw_m7 192 rfl) rfl
theorem q1722 : (Jvm.Cond.static ({ cls := "TableArmsModel", name := "bits", desc := "(I)I" } : Jvm.MethodName)) ∈ lw_all := lw_g (lw_at lw_m7 193 rfl) rfl
theorem q1723 : (Jvm.Cond.code ({ cls := "TableArmsModel", name := "bits", desc := "(I)I" } : Jvm.MethodName) prog_18_method_52_code (3 : Nat) (Option.some Jvm.ClassFile.FieldType.int)) ∈ lw_all := lw_g (lw_at lw_m7 194 rfl) rfl
theorem q1725 : (Jvm.Cond.instanceMethod ({ cls := "TableArmsModel", name := "plan", desc := "(II)I" } : Jvm.MethodName)) ∈ lw_all := lw_g (lw_at lw_m7 196 rfl) rfl
theorem q1726 : (Jvm.Cond.selects "TableArmsModel" ({ cls := "TableArmsModel", name := "plan", desc := "(II)I" } : Jvm.MethodName) ({ cls := "TableArmsModel", name := "plan", desc := "(II)I" } : Jvm.MethodName)) ∈ lw_all := lw_g (lw_at lw_m7 197 rfl) rfl
theorem q1727 : (Jvm.Cond.code ({ cls := "TableArmsModel", name := "plan", desc := "(II)I" } : Jvm.MethodName) prog_18_method_57_code (6 : Nat) (Option.some Jvm.ClassFile.FieldType.int)) ∈ lw_all := lw_g (lw_at lw_m7 198 rfl) rfl
theorem q1728 : (Jvm.Cond.methodLink "TableArmsModel" (226 : Nat) ({ cls := "TableArmsModel", name := "isEnd", desc := "(II)Z" } : Jvm.MethodName)) ∈ lw_all := lw_g (lw_at lw_m7 199 rfl) rfl
theorem q1729 : (Jvm.Cond.privateMethod ({ cls := "TableArmsModel", name := "isEnd", desc := "(II)Z" } : Jvm.MethodName)) ∈ lw_tbl := lw_at lw_m7 200 rfl
theorem q1730 : (Jvm.Cond.instanceMethod ({ cls := "TableArmsModel", name := "isEnd", desc := "(II)Z" } : Jvm.MethodName)) ∈ lw_all := lw_g (lw_at lw_m7 201 rfl) rfl
theorem q1731 : (Jvm.Cond.code ({ cls := "TableArmsModel", name := "isEnd", desc := "(II)Z" } : Jvm.MethodName) prog_18_method_54_code (7 : Nat) (Option.some Jvm.ClassFile.FieldType.boolean)) ∈ lw_all := lw_g (lw_at lw_m7 202 rfl) rfl
theorem q1732 : (Jvm.Cond.methodLink "TableArmsModel" (223 : Nat) ({ cls := "TableArmsModel", name := "canBySome", desc := "(III)Z" } : Jvm.MethodName)) ∈ lw_all := lw_g (lw_at lw_m7 203 rfl) rfl
theorem q1733 : (Jvm.Cond.privateMethod ({ cls := "TableArmsModel", name := "canBySome", desc := "(III)Z" } : Jvm.MethodName)) ∈ lw_tbl := lw_at lw_m7 204 rfl
theorem q1734 : (Jvm.Cond.instanceMethod ({ cls := "TableArmsModel", name := "canBySome", desc := "(III)Z" } : Jvm.MethodName)) ∈ lw_all := lw_g (lw_at lw_m7 205 rfl) rfl
theorem q1735 : (Jvm.Cond.code ({ cls := "TableArmsModel", name := "canBySome", desc := "(III)Z" } : Jvm.MethodName) prog_18_method_55_code (4 : Nat) (Option.some Jvm.ClassFile.FieldType.boolean)) ∈ lw_all := lw_g (lw_at lw_m7 206 rfl) rfl
theorem q1736 : (Jvm.Cond.methodLink "TableArmsModel" (229 : Nat) ({ cls := "TableArmsModel", name := "endsByOne", desc := "(II)Z" } : Jvm.MethodName)) ∈ lw_all := lw_g (lw_at lw_m7 207 rfl) rfl
theorem q1737 : (Jvm.Cond.privateMethod ({ cls := "TableArmsModel", name := "endsByOne", desc := "(II)Z" } : Jvm.MethodName)) ∈ lw_tbl := lw_at lw_m7 208 rfl
theorem q1738 : (Jvm.Cond.instanceMethod ({ cls := "TableArmsModel", name := "endsByOne", desc := "(II)Z" } : Jvm.MethodName)) ∈ lw_all := lw_g (lw_at lw_m7 209 rfl) rfl
theorem q1739 : (Jvm.Cond.code ({ cls := "TableArmsModel", name := "endsByOne", desc := "(II)Z" } : Jvm.MethodName) prog_18_method_56_code (5 : Nat) (Option.some Jvm.ClassFile.FieldType.boolean)) ∈ lw_all := lw_g (lw_at lw_m7 210 rfl) rfl
theorem q1741 : (Jvm.Cond.instanceMethod ({ cls := "TableArmsModel", name := "sheet", desc := "(III)I" } : Jvm.MethodName)) ∈ lw_all := lw_g (lw_at lw_m7 212 rfl) rfl
theorem q1742 : (Jvm.Cond.selects "TableArmsModel" ({ cls := "TableArmsModel", name := "sheet", desc := "(III)I" } : Jvm.MethodName) ({ cls := "TableArmsModel", name := "sheet", desc := "(III)I" } : Jvm.MethodName)) ∈ lw_all := lw_g (lw_at lw_m7 213 rfl) rfl
theorem q1743 : (Jvm.Cond.code ({ cls := "TableArmsModel", name := "sheet", desc := "(III)I" } : Jvm.MethodName) prog_18_method_59_code (5 : Nat) (Option.some Jvm.ClassFile.FieldType.int)) ∈ lw_all := lw_g (lw_at lw_m7 214 rfl) rfl
theorem q1744 : (Jvm.Cond.constantLong "TableArmsModel" (232 : Nat) (2 : Int64)) ∈ lw_all := lw_g (lw_at lw_m7 215 rfl) rfl
theorem q1746 : (Jvm.Cond.instanceMethod ({ cls := "TableArmsModel", name := "set", desc := "(III)I" } : Jvm.MethodName)) ∈ lw_all := lw_g (lw_at lw_m7 217 rfl) rfl
theorem q1747 : (Jvm.Cond.selects "TableArmsModel" ({ cls := "TableArmsModel", name := "set", desc := "(III)I" } : Jvm.MethodName) ({ cls := "TableArmsModel", name := "set", desc := "(III)I" } : Jvm.MethodName)) ∈ lw_all := lw_g (lw_at lw_m7 218 rfl) rfl
theorem q1748 : (Jvm.Cond.code ({ cls := "TableArmsModel", name := "set", desc := "(III)I" } : Jvm.MethodName) prog_18_method_60_code (4 : Nat) (Option.some Jvm.ClassFile.FieldType.int)) ∈ lw_all := lw_g (lw_at lw_m7 219 rfl) rfl
theorem q1750 : (Jvm.Cond.instanceMethod ({ cls := "TableArmsModel", name := "copy", desc := "(IIIII)I" } : Jvm.MethodName)) ∈ lw_all := lw_g (lw_at lw_m7 221 rfl) rfl
theorem q1751 : (Jvm.Cond.selects "TableArmsModel" ({ cls := "TableArmsModel", name := "copy", desc := "(IIIII)I" } : Jvm.MethodName) ({ cls := "TableArmsModel", name := "copy", desc := "(IIIII)I" } : Jvm.MethodName)) ∈ lw_all := lw_g (lw_at lw_m7 222 rfl) rfl
theorem q1752 : (Jvm.Cond.code ({ cls := "TableArmsModel", name := "copy", desc := "(IIIII)I" } : Jvm.MethodName) prog_18_method_61_code (9 : Nat) (Option.some Jvm.ClassFile.FieldType.int)) ∈ lw_all := lw_g (lw_at lw_m7 223 rfl) rfl
theorem q1754 : (Jvm.Cond.instanceMethod ({ cls := "TableArmsModel", name := "drop", desc := "(I)I" } : Jvm.MethodName)) ∈ lw_all := lw_g (lw_at lw_m7 225 rfl) rfl
theorem q1755 : (Jvm.Cond.selects "TableArmsModel" ({ cls := "TableArmsModel", name := "drop", desc := "(I)I" } : Jvm.MethodName) ({ cls := "TableArmsModel", name := "drop", desc := "(I)I" } : Jvm.MethodName)) ∈ lw_all := lw_g (lw_at lw_m7 226 rfl) rfl
theorem q1756 : (Jvm.Cond.code ({ cls := "TableArmsModel", name := "drop", desc := "(I)I" } : Jvm.MethodName) prog_18_method_62_code (2 : Nat) (Option.some Jvm.ClassFile.FieldType.int)) ∈ lw_all := lw_g (lw_at lw_m7 227 rfl) rfl
theorem q1758 : (Jvm.Cond.instanceMethod ({ cls := "TableArmsModel", name := "feed", desc := "(JI)I" } : Jvm.MethodName)) ∈ lw_all := lw_g (lw_at lw_m7 229 rfl) rfl
theorem q1759 : (Jvm.Cond.selects "TableArmsModel" ({ cls := "TableArmsModel", name := "feed", desc := "(JI)I" } : Jvm.MethodName) ({ cls := "TableArmsModel", name := "feed", desc := "(JI)I" } : Jvm.MethodName)) ∈ lw_all := lw_g (lw_at lw_m7 230 rfl) rfl
theorem q1760 : (Jvm.Cond.code ({ cls := "TableArmsModel", name := "feed", desc := "(JI)I" } : Jvm.MethodName) prog_18_method_64_code (5 : Nat) (Option.some Jvm.ClassFile.FieldType.int)) ∈ lw_all := lw_g (lw_at lw_m7 231 rfl) rfl
theorem q1762 : (Jvm.Cond.instanceMethod ({ cls := "TableArmsModel", name := "nevers", desc := "()I" } : Jvm.MethodName)) ∈ lw_all := lw_g (lw_at lw_m7 233 rfl) rfl
theorem q1763 : (Jvm.Cond.selects "TableArmsModel" ({ cls := "TableArmsModel", name := "nevers", desc := "()I" } : Jvm.MethodName) ({ cls := "TableArmsModel", name := "nevers", desc := "()I" } : Jvm.MethodName)) ∈ lw_all := lw_g (lw_at lw_m7 234 rfl) rfl
theorem q1764 : (Jvm.Cond.code ({ cls := "TableArmsModel", name := "nevers", desc := "()I" } : Jvm.MethodName) prog_18_method_75_code (1 : Nat) (Option.some Jvm.ClassFile.FieldType.int)) ∈ lw_all := lw_g (lw_at lw_m7 235 rfl) rfl
theorem q1765 : (Jvm.Cond.methodLink "TableArmsModel" (274 : Nat) ({ cls := "TableArmsModel", name := "step", desc := "()V" } : Jvm.MethodName)) ∈ lw_all := lw_g (lw_at lw_m7 236 rfl) rfl
theorem q1766 : (Jvm.Cond.privateMethod ({ cls := "TableArmsModel", name := "step", desc := "()V" } : Jvm.MethodName)) ∈ lw_tbl := lw_at lw_m7 237 rfl
theorem q1767 : (Jvm.Cond.instanceMethod ({ cls := "TableArmsModel", name := "step", desc := "()V" } : Jvm.MethodName)) ∈ lw_all := lw_g (lw_at lw_m7 238 rfl) rfl
theorem q1768 : (Jvm.Cond.code ({ cls := "TableArmsModel", name := "step", desc := "()V" } : Jvm.MethodName) prog_18_method_68_code (2 : Nat) (Option.none : Option Jvm.ClassFile.FieldType)) ∈ lw_all := lw_g (lw_at lw_m7 239 rfl) rfl
theorem q1769 : (Jvm.Cond.methodLink "TableArmsModel" (246 : Nat) ({ cls := "TableArmsModel", name := "byteAt", desc := "(I)I" } : Jvm.MethodName)) ∈ lw_all := lw_g (lw_at lw_m8 0 rfl) rfl
theorem q1770 : (Jvm.Cond.privateMethod ({ cls := "TableArmsModel", name := "byteAt", desc := "(I)I" } : Jvm.MethodName)) ∈ lw_tbl := lw_at lw_m8 1 rfl
theorem q1771 : (Jvm.Cond.instanceMethod ({ cls := "TableArmsModel", name := "byteAt", desc := "(I)I" } : Jvm.MethodName)) ∈ lw_all := lw_g (lw_at lw_m8 2 rfl) rfl
theorem q1772 : (Jvm.Cond.code ({ cls := "TableArmsModel", name := "byteAt", desc := "(I)I" } : Jvm.MethodName) prog_18_method_65_code (2 : Nat) (Option.some Jvm.ClassFile.FieldType.int)) ∈ lw_all := lw_g (lw_at lw_m8 3 rfl) rfl
theorem q1773 : (Jvm.Cond.methodLink "TableArmsModel" (255 : Nat) ({ cls := "TableArmsModel", name := "isLetter", desc := "(I)Z" } : Jvm.MethodName)) ∈ lw_all := lw_g (lw_at lw_m8 4 rfl) rfl
theorem q1774 : (Jvm.Cond.static ({ cls := "TableArmsModel", name := "isLetter", desc := "(I)Z" } : Jvm.MethodName)) ∈ lw_all := lw_g (lw_at lw_m8 5 rfl) rfl
theorem q1775 : (Jvm.Cond.code ({ cls := "TableArmsModel", name := "isLetter", desc := "(I)Z" } : Jvm.MethodName) prog_18_method_66_code (1 : Nat) (Option.some Jvm.ClassFile.FieldType.boolean)) ∈ lw_all := lw_g (lw_at lw_m8 6 rfl) rfl
theorem q1776 : (Jvm.Cond.methodLink "TableArmsModel" (258 : Nat) ({ cls := "TableArmsModel", name := "isFigure", desc := "(I)Z" } : Jvm.MethodName)) ∈ lw_all := lw_g (lw_at lw_m8 7 rfl) rfl
theorem q1777 : (Jvm.Cond.static ({ cls := "TableArmsModel", name := "isFigure", desc := "(I)Z" } : Jvm.MethodName)) ∈ lw_all := lw_g (lw_at lw_m8 8 rfl) rfl
theorem q1778 : (Jvm.Cond.code ({ cls := "TableArmsModel", name := "isFigure", desc := "(I)Z" } : Jvm.MethodName) prog_18_method_67_code (1 : Nat) (Option.some Jvm.ClassFile.FieldType.boolean)) ∈ lw_all := lw_g (lw_at lw_m8 9 rfl) rfl
theorem q1779 : (Jvm.Cond.methodLink "TableArmsModel" (317 : Nat) ({ cls := "TableArmsModel", name := "readNever", desc := "()V" } : Jvm.MethodName)) ∈ lw_all := lw_g (lw_at lw_m8 10 rfl) rfl
theorem q1780 : (Jvm.Cond.privateMethod ({ cls := "TableArmsModel", name := "readNever", desc := "()V" } : Jvm.MethodName)) ∈ lw_tbl := lw_at lw_m8 11 rfl
theorem q1781 : (Jvm.Cond.instanceMethod ({ cls := "TableArmsModel", name := "readNever", desc := "()V" } : Jvm.MethodName)) ∈ lw_all := lw_g (lw_at lw_m8 12 rfl) rfl
theorem q1782 : (Jvm.Cond.code ({ cls := "TableArmsModel", name := "readNever", desc := "()V" } : Jvm.MethodName) prog_18_method_74_code (7 : Nat) (Option.none : Option Jvm.ClassFile.FieldType)) ∈ lw_all := lw_g (lw_at lw_m8 13 rfl) rfl
theorem q1783 : (Jvm.Cond.methodLink "TableArmsModel" (281 : Nat) ({ cls := "TableArmsModel", name := "word", desc := "()J" } : Jvm.MethodName)) ∈ lw_all := lw_g (lw_at lw_m8 14 rfl) rfl
theorem q1784 : (Jvm.Cond.privateMethod ({ cls := "TableArmsModel", name := "word", desc := "()J" } : Jvm.MethodName)) ∈ lw_tbl := lw_at lw_m8 15 rfl
theorem q1785 : (Jvm.Cond.instanceMethod ({ cls := "TableArmsModel", name := "word", desc := "()J" } : Jvm.MethodName)) ∈ lw_all := lw_g (lw_at lw_m8 16 rfl) rfl
theorem q1786 : (Jvm.Cond.code ({ cls := "TableArmsModel", name := "word", desc := "()J" } : Jvm.MethodName) prog_18_method_71_code (4 : Nat) (Option.some Jvm.ClassFile.FieldType.long)) ∈ lw_all := lw_g (lw_at lw_m8 17 rfl) rfl
theorem q1787 : (Jvm.Cond.constantLong "TableArmsModel" (293 : Nat) (474148660594 : Int64)) ∈ lw_all := lw_g (lw_at lw_m8 18 rfl) rfl
theorem q1788 : (Jvm.Cond.constantLong "TableArmsModel" (295 : Nat) (1836020596 : Int64)) ∈ lw_all := lw_g (lw_at lw_m8 19 rfl) rfl
theorem q1789 : (Jvm.Cond.methodLink "TableArmsModel" (270 : Nat) ({ cls := "TableArmsModel", name := "bad", desc := "(I)V" } : Jvm.MethodName)) ∈ lw_all := lw_g (lw_at lw_m8 20 rfl) rfl
theorem q1790 : (Jvm.Cond.privateMethod ({ cls := "TableArmsModel", name := "bad", desc := "(I)V" } : Jvm.MethodName)) ∈ lw_tbl := lw_at lw_m8 21 rfl
theorem q1791 : (Jvm.Cond.instanceMethod ({ cls := "TableArmsModel", name := "bad", desc := "(I)V" } : Jvm.MethodName)) ∈ lw_all := lw_g (lw_at lw_m8 22 rfl) rfl
theorem q1792 : (Jvm.Cond.code ({ cls := "TableArmsModel", name := "bad", desc := "(I)V" } : Jvm.MethodName) prog_18_method_69_code (2 : Nat) (Option.none : Option Jvm.ClassFile.FieldType)) ∈ lw_all := lw_g (lw_at lw_m8 23 rfl) rfl
theorem q1793 : (Jvm.Cond.methodLink "TableArmsModel" (277 : Nat) ({ cls := "TableArmsModel", name := "must", desc := "(Z)V" } : Jvm.MethodName)) ∈ lw_all := lw_g (lw_at lw_m8 24 rfl) rfl
theorem q1794 : (Jvm.Cond.privateMethod ({ cls := "TableArmsModel", name := "must", desc := "(Z)V" } : Jvm.MethodName)) ∈ lw_tbl := lw_at lw_m8 25 rfl
theorem q1795 : (Jvm.Cond.instanceMethod ({ cls := "TableArmsModel", name := "must", desc := "(Z)V" } : Jvm.MethodName)) ∈ lw_all := lw_g (lw_at lw_m8 26 rfl) rfl
theorem q1796 : (Jvm.Cond.code ({ cls := "TableArmsModel", name := "must", desc := "(Z)V" } : Jvm.MethodName) prog_18_method_70_code (2 : Nat) (Option.none : Option Jvm.ClassFile.FieldType)) ∈ lw_all := lw_g (lw_at lw_m8 27 rfl) rfl
theorem q1797 : (Jvm.Cond.methodLink "TableArmsModel" (300 : Nat) ({ cls := "TableArmsModel", name := "numberTo", desc := "(I)I" } : Jvm.MethodName)) ∈ lw_all := lw_g (lw_at lw_m8 28 rfl) rfl
theorem q1798 : (Jvm.Cond.privateMethod ({ cls := "TableArmsModel", name := "numberTo", desc := "(I)I" } : Jvm.MethodName)) ∈ lw_tbl := lw_at lw_m8 29 rfl
theorem q1799 : (Jvm.Cond.instanceMethod ({ cls := "TableArmsModel", name := "numberTo", desc := "(I)I" } : Jvm.MethodName)) ∈ lw_all := lw_g (lw_at lw_m8 30 rfl) rfl
theorem q1800 : (Jvm.Cond.code ({ cls := "TableArmsModel", name := "numberTo", desc := "(I)I" } : Jvm.MethodName) prog_18_method_72_code (4 : Nat) (Option.some Jvm.ClassFile.FieldType.int)) ∈ lw_all := lw_g (lw_at lw_m8 31 rfl) rfl
theorem q1801 : (Jvm.Cond.methodLink "TableArmsModel" (303 : Nat) ({ cls := "TableArmsModel", name := "sortHere", desc := "()I" } : Jvm.MethodName)) ∈ lw_all := lw_g (lw_at lw_m8 32 rfl) rfl
theorem q1802 : (Jvm.Cond.privateMethod ({ cls := "TableArmsModel", name := "sortHere", desc := "()I" } : Jvm.MethodName)) ∈ lw_tbl := lw_at lw_m8 33 rfl
theorem q1803 : (Jvm.Cond.instanceMethod ({ cls := "TableArmsModel", name := "sortHere", desc := "()I" } : Jvm.MethodName)) ∈ lw_all := lw_g (lw_at lw_m8 34 rfl) rfl
theorem q1804 : (Jvm.Cond.code ({ cls := "TableArmsModel", name := "sortHere", desc := "()I" } : Jvm.MethodName) prog_18_method_73_code (4 : Nat) (Option.some Jvm.ClassFile.FieldType.int)) ∈ lw_all := lw_g (lw_at lw_m8 35 rfl) rfl
theorem q1805 : (Jvm.Cond.constantLong "TableArmsModel" (285 : Nat) (6518128 : Int64)) ∈ lw_all := lw_g (lw_at lw_m8 36 rfl) rfl
theorem q1806 : (Jvm.Cond.constantLong "TableArmsModel" (287 : Nat) (427021005928 : Int64)) ∈ lw_all := lw_g (lw_at lw_m8 37 rfl) rfl
theorem q1807 : (Jvm.Cond.constantLong "TableArmsModel" (289 : Nat) (6451064 : Int64)) ∈ lw_all := lw_g (lw_at lw_m8 38 rfl) rfl
theorem q1808 : (Jvm.Cond.constantLong "TableArmsModel" (291 : Nat) (7104868 : Int64)) ∈ lw_all := lw_g (lw_at lw_m8 39 rfl) rfl
theorem q1809 : (Jvm.Cond.constantLong "TableArmsModel" (306 : Nat) (28526 : Int64)) ∈ lw_all := lw_g (lw_at lw_m8 40 rfl) rfl
theorem q1810 : (Jvm.Cond.constantLong "TableArmsModel" (308 : Nat) (26990 : Int64)) ∈ lw_all := lw_g (lw_at lw_m8 41 rfl) rfl
theorem q1811 : (Jvm.Cond.constantLong "TableArmsModel" (310 : Nat) (108187867505765 : Int64)) ∈ lw_all := lw_g (lw_at lw_m8 42 rfl) rfl
theorem q1812 : (Jvm.Cond.constantLong "TableArmsModel" (312 : Nat) (24948 : Int64)) ∈ lw_all := lw_g (lw_at lw_m8 43 rfl) rfl
theorem q1813 : (Jvm.Cond.constant "TableArmsModel" (323 : Nat) (-1000100 : Int32)) ∈ lw_all := lw_g (lw_at lw_m8 44 rfl) rfl
theorem q1815 : (Jvm.Cond.instanceMethod ({ cls := "TableArmsModel", name := "fault", desc := "()I" } : Jvm.MethodName)) ∈ lw_all := lw_g (lw_at lw_m8 46 rfl) rfl
theorem q1816 : (Jvm.Cond.selects "TableArmsModel" ({ cls := "TableArmsModel", name := "fault", desc := "()I" } : Jvm.MethodName) ({ cls := "TableArmsModel", name := "fault", desc := "()I" } : Jvm.MethodName)) ∈ lw_all := lw_g (lw_at lw_m8 47 rfl) rfl
theorem q1817 : (Jvm.Cond.code ({ cls := "TableArmsModel", name := "fault", desc := "()I" } : Jvm.MethodName) prog_18_method_76_code (1 : Nat) (Option.some Jvm.ClassFile.FieldType.int)) ∈ lw_all := lw_g (lw_at lw_m8 48 rfl) rfl
theorem q1819 : (Jvm.Cond.instanceMethod ({ cls := "TableArmsModel", name := "broken", desc := "()I" } : Jvm.MethodName)) ∈ lw_all := lw_g (lw_at lw_m8 50 rfl) rfl
theorem q1820 : (Jvm.Cond.selects "TableArmsModel" ({ cls := "TableArmsModel", name := "broken", desc := "()I" } : Jvm.MethodName) ({ cls := "TableArmsModel", name := "broken", desc := "()I" } : Jvm.MethodName)) ∈ lw_all := lw_g (lw_at lw_m8 51 rfl) rfl
theorem q1821 : (Jvm.Cond.code ({ cls := "TableArmsModel", name := "broken", desc := "()I" } : Jvm.MethodName) prog_18_method_79_code (1 : Nat) (Option.some Jvm.ClassFile.FieldType.int)) ∈ lw_all := lw_g (lw_at lw_m8 52 rfl) rfl
theorem q1822 : (Jvm.Cond.methodLink "TableArmsModel" (327 : Nat) ({ cls := "TableArmsModel", name := "brokenOn", desc := "(I)I" } : Jvm.MethodName)) ∈ lw_all := lw_g (lw_at lw_m8 53 rfl) rfl
theorem q1823 : (Jvm.Cond.privateMethod ({ cls := "TableArmsModel", name := "brokenOn", desc := "(I)I" } : Jvm.MethodName)) ∈ lw_tbl := lw_at lw_m8 54 rfl
theorem q1824 : (Jvm.Cond.instanceMethod ({ cls := "TableArmsModel", name := "brokenOn", desc := "(I)I" } : Jvm.MethodName)) ∈ lw_all := lw_g (lw_at lw_m8 55 rfl) rfl
theorem q1825 : (Jvm.Cond.code ({ cls := "TableArmsModel", name := "brokenOn", desc := "(I)I" } : Jvm.MethodName) prog_18_method_78_code (4 : Nat) (Option.some Jvm.ClassFile.FieldType.int)) ∈ lw_all := lw_g (lw_at lw_m8 56 rfl) rfl
theorem q1826 : (Jvm.Cond.methodLink "TableArmsModel" (324 : Nat) ({ cls := "TableArmsModel", name := "isBroken", desc := "(II)Z" } : Jvm.MethodName)) ∈ lw_all := lw_g (lw_at lw_m8 57 rfl) rfl
theorem q1827 : (Jvm.Cond.privateMethod ({ cls := "TableArmsModel", name := "isBroken", desc := "(II)Z" } : Jvm.MethodName)) ∈ lw_tbl := lw_at lw_m8 58 rfl
theorem q1828 : (Jvm.Cond.instanceMethod ({ cls := "TableArmsModel", name := "isBroken", desc := "(II)Z" } : Jvm.MethodName)) ∈ lw_all := lw_g (lw_at lw_m8 59 rfl) rfl
theorem q1829 : (Jvm.Cond.code ({ cls := "TableArmsModel", name := "isBroken", desc := "(II)Z" } : Jvm.MethodName) prog_18_method_77_code (9 : Nat) (Option.some Jvm.ClassFile.FieldType.boolean)) ∈ lw_all := lw_g (lw_at lw_m8 60 rfl) rfl
theorem q1831 : (Jvm.Cond.instanceMethod ({ cls := "TableArmsModel", name := "let", desc := "(III)I" } : Jvm.MethodName)) ∈ lw_all := lw_g (lw_at lw_m8 62 rfl) rfl
theorem q1832 : (Jvm.Cond.selects "TableArmsModel" ({ cls := "TableArmsModel", name := "let", desc := "(III)I" } : Jvm.MethodName) ({ cls := "TableArmsModel", name := "let", desc := "(III)I" } : Jvm.MethodName)) ∈ lw_all := lw_g (lw_at lw_m8 63 rfl) rfl
theorem q1833 : (Jvm.Cond.code ({ cls := "TableArmsModel", name := "let", desc := "(III)I" } : Jvm.MethodName) prog_18_method_81_code (6 : Nat) (Option.some Jvm.ClassFile.FieldType.int)) ∈ lw_all := lw_g (lw_at lw_m8 64 rfl) rfl
theorem q1834 : (Jvm.Cond.methodLink "TableArmsModel" (330 : Nat) ({ cls := "TableArmsModel", name := "isSafeBehind", desc := "(II)Z" } : Jvm.MethodName)) ∈ lw_all := lw_g (lw_at lw_m8 65 rfl) rfl
theorem q1835 : (Jvm.Cond.privateMethod ({ cls := "TableArmsModel", name := "isSafeBehind", desc := "(II)Z" } : Jvm.MethodName)) ∈ lw_tbl := lw_at lw_m8 66 rfl
theorem q1836 : (Jvm.Cond.instanceMethod ({ cls := "TableArmsModel", name := "isSafeBehind", desc := "(II)Z" } : Jvm.MethodName)) ∈ lw_all := lw_g (lw_at lw_m8 67 rfl) rfl
theorem q1837 : (Jvm.Cond.code ({ cls := "TableArmsModel", name := "isSafeBehind", desc := "(II)Z" } : Jvm.MethodName) prog_18_method_80_code (3 : Nat) (Option.some Jvm.ClassFile.FieldType.boolean)) ∈ lw_all := lw_g (lw_at lw_m8 68 rfl) rfl
theorem q1839 : (Jvm.Cond.instanceMethod ({ cls := "TableArmsModel", name := "ways", desc := "(IIII)I" } : Jvm.MethodName)) ∈ lw_all := lw_g (lw_at lw_m8 70 rfl) rfl
theorem q1840 : (Jvm.Cond.selects "TableArmsModel" ({ cls := "TableArmsModel", name := "ways", desc := "(IIII)I" } : Jvm.MethodName) ({ cls := "TableArmsModel", name := "ways", desc := "(IIII)I" } : Jvm.MethodName)) ∈ lw_all := lw_g (lw_at lw_m8 71 rfl) rfl
theorem q1841 : (Jvm.Cond.code ({ cls := "TableArmsModel", name := "ways", desc := "(IIII)I" } : Jvm.MethodName) prog_18_method_82_code (13 : Nat) (Option.some Jvm.ClassFile.FieldType.int)) ∈ lw_all := lw_g (lw_at lw_m8 72 rfl) rfl
theorem q1842 : (Jvm.Cond.constantLong "TableArmsModel" (333 : Nat) (12 : Int64)) ∈ lw_all := lw_g (lw_at lw_m8 73 rfl) rfl
theorem q1844 : (Jvm.Cond.instanceMethod ({ cls := "TableArmsModel", name := "kind", desc := "(I)I" } : Jvm.MethodName)) ∈ lw_all := lw_g (lw_at lw_m8 75 rfl) rfl
theorem q1845 : (Jvm.Cond.selects "TableArmsModel" ({ cls := "TableArmsModel", name := "kind", desc := "(I)I" } : Jvm.MethodName) ({ cls := "TableArmsModel", name := "kind", desc := "(I)I" } : Jvm.MethodName)) ∈ lw_all := lw_g (lw_at lw_m8 76 rfl) rfl
theorem q1846 : (Jvm.Cond.code ({ cls := "TableArmsModel", name := "kind", desc := "(I)I" } : Jvm.MethodName) prog_18_method_85_code (2 : Nat) (Option.some Jvm.ClassFile.FieldType.int)) ∈ lw_all := lw_g (lw_at lw_m8 77 rfl) rfl
theorem q1847 : (Jvm.Cond.methodLink "TableArmsModel" (335 : Nat) ({ cls := "TableArmsModel", name := "kindOf", desc := "(I)I" } : Jvm.MethodName)) ∈ lw_all := lw_g (lw_at lw_m8 78 rfl) rfl
theorem q1848 : (Jvm.Cond.privateMethod ({ cls := "TableArmsModel", name := "kindOf", desc := "(I)I" } : Jvm.MethodName)) ∈ lw_tbl := lw_at lw_m8 79 rfl
theorem q1849 : (Jvm.Cond.instanceMethod ({ cls := "TableArmsModel", name := "kindOf", desc := "(I)I" } : Jvm.MethodName)) ∈ lw_all := lw_g (lw_at lw_m8 80 rfl) rfl
theorem q1850 : (Jvm.Cond.code ({ cls := "TableArmsModel", name := "kindOf", desc := "(I)I" } : Jvm.MethodName) prog_18_method_83_code (4 : Nat) (Option.some Jvm.ClassFile.FieldType.int)) ∈ lw_all := lw_g (lw_at lw_m8 81 rfl) rfl
theorem q1852 : (Jvm.Cond.instanceMethod ({ cls := "TableArmsModel", name := "as", desc := "(II)I" } : Jvm.MethodName)) ∈ lw_all := lw_g (lw_at lw_m8 83 rfl) rfl
theorem q1853 : (Jvm.Cond.selects "TableArmsModel" ({ cls := "TableArmsModel", name := "as", desc := "(II)I" } : Jvm.MethodName) ({ cls := "TableArmsModel", name := "as", desc := "(II)I" } : Jvm.MethodName)) ∈ lw_all := lw_g (lw_at lw_m8 84 rfl) rfl
theorem q1854 : (Jvm.Cond.code ({ cls := "TableArmsModel", name := "as", desc := "(II)I" } : Jvm.MethodName) prog_18_method_86_code (3 : Nat) (Option.some Jvm.ClassFile.FieldType.int)) ∈ lw_all := lw_g (lw_at lw_m8 85 rfl) rfl
theorem q1855 : (Jvm.Cond.constantLong "TableArmsModel" (338 : Nat) (5 : Int64)) ∈ lw_all := lw_g (lw_at lw_m8 86 rfl) rfl
theorem q1856 : (Jvm.Cond.methodLink "TableArmsModel" (340 : Nat) ({ cls := "TableArmsModel", name := "isOf", desc := "(II)Z" } : Jvm.MethodName)) ∈ lw_all := lw_g (lw_at lw_m8 87 rfl) rfl
theorem q1857 : (Jvm.Cond.static ({ cls := "TableArmsModel", name := "isOf", desc := "(II)Z" } : Jvm.MethodName)) ∈ lw_all := lw_g (lw_at lw_m8 88 rfl) rfl
theorem q1858 : (Jvm.Cond.code ({ cls := "TableArmsModel", name := "isOf", desc := "(II)Z" } : Jvm.MethodName) prog_18_method_84_code (2 : Nat) (Option.some Jvm.ClassFile.FieldType.boolean)) ∈ lw_all := lw_g (lw_at lw_m8 89 rfl) rfl
theorem q1860 : (Jvm.Cond.instanceMethod ({ cls := "TableArmsModel", name := "ask", desc := "(II)I" } : Jvm.MethodName)) ∈ lw_all := lw_g (lw_at lw_m8 91 rfl) rfl
theorem q1861 : (Jvm.Cond.selects "TableArmsModel" ({ cls := "TableArmsModel", name := "ask", desc := "(II)I" } : Jvm.MethodName) ({ cls := "TableArmsModel", name := "ask", desc := "(II)I" } : Jvm.MethodName)) ∈ lw_all := lw_g (lw_at lw_m8 92 rfl) rfl
theorem q1862 : (Jvm.Cond.code ({ cls := "TableArmsModel", name := "ask", desc := "(II)I" } : Jvm.MethodName) prog_18_method_91_code (3 : Nat) (Option.some Jvm.ClassFile.FieldType.int)) ∈ lw_all := lw_g (lw_at lw_m8 93 rfl) rfl
theorem q1863 : (Jvm.Cond.methodLink "TableArmsModel" (355 : Nat) ({ cls := "TableArmsModel", name := "askSize", desc := "(II)I" } : Jvm.MethodName)) ∈ lw_all := lw_g (lw_at lw_m8 94 rfl) rfl
theorem q1864 : (Jvm.Cond.privateMethod ({ cls := "TableArmsModel", name := "askSize", desc := "(II)I" } : Jvm.MethodName)) ∈ lw_tbl := lw_at lw_m8 95 rfl
theorem q1865 : (Jvm.Cond.instanceMethod ({ cls := "TableArmsModel", name := "askSize", desc := "(II)I" } : Jvm.MethodName)) ∈ lw_all := lw_g (lw_at lw_m8 96 rfl) rfl
theorem q1866 : (Jvm.Cond.code ({ cls := "TableArmsModel", name := "askSize", desc := "(II)I" } : Jvm.MethodName) prog_18_method_90_code (4 : Nat) (Option.some Jvm.ClassFile.FieldType.int)) ∈ lw_all := lw_g (lw_at lw_m8 97 rfl) rfl
theorem q1867 : (Jvm.Cond.methodLink "TableArmsModel" (349 : Nat) ({ cls := "TableArmsModel", name := "boxSize", desc := "(II)I" } : Jvm.MethodName)) ∈ lw_all := lw_g (lw_at lw_m8 98 rfl) rfl
theorem q1868 : (Jvm.Cond.privateMethod ({ cls := "TableArmsModel", name := "boxSize", desc := "(II)I" } : Jvm.MethodName)) ∈ lw_tbl := lw_at lw_m8 99 rfl
theorem q1869 : (Jvm.Cond.instanceMethod ({ cls := "TableArmsModel", name := "boxSize", desc := "(II)I" } : Jvm.MethodName)) ∈ lw_all := lw_g (lw_at lw_m8 100 rfl) rfl
theorem q1870 : (Jvm.Cond.code ({ cls := "TableArmsModel", name := "boxSize", desc := "(II)I" } : Jvm.MethodName) prog_18_method_88_code (5 : Nat) (Option.some Jvm.ClassFile.FieldType.int)) ∈ lw_all := lw_g (lw_at lw_m8 101 rfl) rfl
theorem q1871 : (Jvm.Cond.methodLink "TableArmsModel" (346 : Nat) ({ cls := "TableArmsModel", name := "began", desc := "(I)V" } : Jvm.MethodName)) ∈ lw_all := lw_g (lw_at lw_m8 102 rfl) rfl
theorem q1872 : (Jvm.Cond.privateMethod ({ cls := "TableArmsModel", name := "began", desc := "(I)V" } : Jvm.MethodName)) ∈ lw_tbl := lw_at lw_m8 103 rfl
theorem q1873 : (Jvm.Cond.instanceMethod ({ cls := "TableArmsModel", name := "began", desc := "(I)V" } : Jvm.MethodName)) ∈ lw_all := lw_g (lw_at lw_m8 104 rfl) rfl
theorem q1874 : (Jvm.Cond.code ({ cls := "TableArmsModel", name := "began", desc := "(I)V" } : Jvm.MethodName) prog_18_method_87_code (2 : Nat) (Option.none : Option Jvm.ClassFile.FieldType)) ∈ lw_all := lw_g (lw_at lw_m8 105 rfl) rfl
theorem q1875 : (Jvm.Cond.methodLink "TableArmsModel" (352 : Nat) ({ cls := "TableArmsModel", name := "markOf", desc := "(II)I" } : Jvm.MethodName)) ∈ lw_all := lw_g (lw_at lw_m8 106 rfl) rfl
theorem q1876 : (Jvm.Cond.privateMethod ({ cls := "TableArmsModel", name := "markOf", desc := "(II)I" } : Jvm.MethodName)) ∈ lw_tbl := lw_at lw_m8 107 rfl
theorem q1877 : (Jvm.Cond.instanceMethod ({ cls := "TableArmsModel", name := "markOf", desc := "(II)I" } : Jvm.MethodName)) ∈ lw_all := lw_g (lw_at lw_m8 108 rfl) rfl
theorem q1878 : (Jvm.Cond.code ({ cls := "TableArmsModel", name := "markOf", desc := "(II)I" } : Jvm.MethodName) prog_18_method_89_code (3 : Nat) (Option.some Jvm.ClassFile.FieldType.int)) ∈ lw_all := lw_g (lw_at lw_m8 109 rfl) rfl
theorem q1880 : (Jvm.Cond.instanceMethod ({ cls := "TableArmsModel", name := "trace", desc := "(I)I" } : Jvm.MethodName)) ∈ lw_all := lw_g (lw_at lw_m8 111 rfl) rfl
theorem q1881 : (Jvm.Cond.selects "TableArmsModel" ({ cls := "TableArmsModel", name := "trace", desc := "(I)I" } : Jvm.MethodName) ({ cls := "TableArmsModel", name := "trace", desc := "(I)I" } : Jvm.MethodName)) ∈ lw_all := lw_g (lw_at lw_m8 112 rfl) rfl
theorem q1882 : (Jvm.Cond.code ({ cls := "TableArmsModel", name := "trace", desc := "(I)I" } : Jvm.MethodName) prog_18_method_92_code (2 : Nat) (Option.some Jvm.ClassFile.FieldType.int)) ∈ lw_all := lw_g (lw_at lw_m8 113 rfl) rfl
theorem q1884 : (Jvm.Cond.instanceMethod ({ cls := "TableArmsModel", name := "count", desc := "(I)I" } : Jvm.MethodName)) ∈ lw_all := lw_g (lw_at lw_m8 115 rfl) rfl
theorem q1885 : (Jvm.Cond.selects "TableArmsModel" ({ cls := "TableArmsModel", name := "count", desc := "(I)I" } : Jvm.MethodName) ({ cls := "TableArmsModel", name := "count", desc := "(I)I" } : Jvm.MethodName)) ∈ lw_all := lw_g (lw_at lw_m8 116 rfl) rfl
theorem q1886 : (Jvm.Cond.code ({ cls := "TableArmsModel", name := "count", desc := "(I)I" } : Jvm.MethodName) prog_18_method_93_code (4 : Nat) (Option.some Jvm.ClassFile.FieldType.int)) ∈ lw_all := lw_g (lw_at lw_m8 117 rfl) rfl
theorem q1888 : (Jvm.Cond.instanceMethod ({ cls := "TableArmsModel", name := "status", desc := "()I" } : Jvm.MethodName)) ∈ lw_all := lw_g (lw_at lw_m8 119 rfl) rfl
theorem q1889 : (Jvm.Cond.selects "TableArmsModel" ({ cls := "TableArmsModel", name := "status", desc := "()I" } : Jvm.MethodName) ({ cls := "TableArmsModel", name := "status", desc := "()I" } : Jvm.MethodName)) ∈ lw_all := lw_g (lw_at lw_m8 120 rfl) rfl
theorem q1890 : (Jvm.Cond.code ({ cls := "TableArmsModel", name := "status", desc := "()I" } : Jvm.MethodName) prog_18_method_94_code (1 : Nat) (Option.some Jvm.ClassFile.FieldType.int)) ∈ lw_all := lw_g (lw_at lw_m8 121 rfl) rfl
theorem q1909 : (Jvm.Cond.castable "TableArmsModel" "java/lang/Object") ∈ lw_tbl := lw_at lw_m8 140 rfl
theorem in_X3 : ∀ w ∈ wsX30, w ∈ lw_all := lw_in wsX30 [1435, 1437, 1439, 1441, 1443, 1445, 1447, 1449, 1451, 1453, 1455, 1457, 1459, 1461, 1463, 1465, 1467, 1469, 1471, 1473, 1475, 1477, 1479, 1481, 1483, 1485, 1487, 1489, 1491, 1493, 1495, 1497, 1499, 1501] (by decide +kernel) (by decide +kernel)
