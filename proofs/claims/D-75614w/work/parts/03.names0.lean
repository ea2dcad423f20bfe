/-! GallRegister -/
set_option maxRecDepth 100000
def RX0 : String := "GallRegister"
def TX0 : u_T := fun k => match k with
  | 0 => ("GallRegister", "book", "LGallRegister$Book;", false)
  | 1 => ("GallRegister", "tape", "[B", true)
  | 2 => ("GallRegister", "taped", "I", false)
  | 3 => ("GallRegister", "faultKind", "I", false)
  | 4 => ("GallRegister", "faultPlace", "I", false)
  | 5 => ("GallRegister", "wroteAt", "[I", true)
  | 6 => ("GallRegister", "inkAt", "[I", true)
  | 7 => ("GallRegister", "dampNow", "I", false)
  | 8 => ("GallRegister", "wet", "I", false)
  | 9 => ("GallRegister", "without", "I", false)
  | 10 => ("GallRegister", "moreEntry", "I", false)
  | 11 => ("GallRegister", "moreYear", "I", false)
  | 12 => ("GallRegister", "moreTimes", "I", false)
  | 13 => ("GallRegister", "isMoreRetraced", "Z", false)
  | 14 => ("GallRegister", "law", "LGallRegister$Fading;", false)
  | 15 => ("GallRegister", "now", "[I", true)
  | 16 => ("GallRegister", "ahead", "[I", true)
  | 17 => ("GallRegister", "inkNow", "[I", true)
  | 18 => ("GallRegister", "risingNow", "I", false)
  | 19 => ("GallRegister", "plain", "LGallRegister$Fading;", true)
  | 20 => ("GallRegister", "laws", "[LGallRegister$Fading;", true)
  | 21 => ("GallRegister", "shadeBy", "[I", true)
  | 22 => ("GallRegister", "risingBy", "[I", true)
  | 23 => ("GallRegister", "fit", "[I", true)
  | 24 => ("GallRegister", "wasBy", "[I", true)
  | 25 => ("GallRegister", "fitMany", "I", false)
  | 26 => ("GallRegister", "askWorst", "I", false)
  | 27 => ("GallRegister", "oftenAll", "J", false)
  | 28 => ("GallRegister", "oftenDark", "J", false)
  | 29 => ("GallRegister", "oftenSum", "J", false)
  | 30 => ("GallRegister", "slots", "[LGallRegister$Slot;", true)
  | _ => ("GallRegister", "images", "Ljava/util/ArrayList;", true)
def tyX0 : Nat → FieldType := fun k => match k with
  | 0 => .object "GallRegister$Book"
  | 1 => .array .byte
  | 2 => .int
  | 3 => .int
  | 4 => .int
  | 5 => .array .int
  | 6 => .array .int
  | 7 => .int
  | 8 => .int
  | 9 => .int
  | 10 => .int
  | 11 => .int
  | 12 => .int
  | 13 => .boolean
  | 14 => .object "GallRegister$Fading"
  | 15 => .array .int
  | 16 => .array .int
  | 17 => .array .int
  | 18 => .int
  | 19 => .object "GallRegister$Fading"
  | 20 => .array (.object "GallRegister$Fading")
  | 21 => .array .int
  | 22 => .array .int
  | 23 => .array .int
  | 24 => .array .int
  | 25 => .int
  | 26 => .int
  | 27 => .long
  | 28 => .long
  | 29 => .long
  | 30 => .array (.object "GallRegister$Slot")
  | _ => .object "java/util/ArrayList"
abbrev wsX00 : List Cond := u_ws RX0 TX0 32
set_option maxRecDepth 100000 in
theorem nmX0 : ∀ a, a < 32 → ∀ b, b < 32 → a ≠ b → (TX0 a).2.1 ≠ (TX0 b).2.1 := by decide +kernel
set_option maxRecDepth 100000 in
theorem tyX0_ok : ∀ k, k < 32 → parseFieldDescriptor (TX0 k).2.2.1 = some (tyX0 k) := by decide +kernel
abbrev cX0_init : ByteArray := prog_1_method_3_code
def yX0_init : MethodName := ⟨RX0, "<init>", "()V"⟩
def dkwX0_init_9 : List UInt8 := [187, 0, 81, 89, 183, 0, 83, 181, 0, 84, 177]
abbrev dktX0_init_9 : List UInt8 := dkwX0_init_9 ++ []
def dkwX0_init_8 : List UInt8 := [5, 187, 0, 74, 89, 183, 0, 76, 83, 89, 6, 187, 0, 74, 89, 183, 0, 76, 83, 181, 0, 77, 42]
abbrev dktX0_init_8 : List UInt8 := dkwX0_init_8 ++ dktX0_init_9
def dkwX0_init_7 : List UInt8 := [189, 0, 74, 89, 3, 187, 0, 74, 89, 183, 0, 76, 83, 89, 4, 187, 0, 74, 89, 183, 0, 76, 83, 89]
abbrev dktX0_init_7 : List UInt8 := dkwX0_init_7 ++ dktX0_init_8
def dkwX0_init_6 : List UInt8 := [188, 10, 181, 0, 65, 42, 16, 21, 188, 10, 181, 0, 68, 42, 17, 1, 185, 188, 10, 181, 0, 71, 42, 7]
abbrev dktX0_init_6 : List UInt8 := dkwX0_init_6 ++ dktX0_init_7
def dkwX0_init_5 : List UInt8 := [187, 0, 55, 89, 42, 183, 0, 57, 83, 181, 0, 58, 42, 17, 0, 147, 188, 10, 181, 0, 62, 42, 16, 21]
abbrev dktX0_init_5 : List UInt8 := dkwX0_init_5 ++ dktX0_init_6
def dkwX0_init_4 : List UInt8 := [4, 187, 0, 49, 89, 42, 183, 0, 51, 83, 89, 5, 187, 0, 52, 89, 42, 183, 0, 54, 83, 89, 6]
abbrev dktX0_init_4 : List UInt8 := dkwX0_init_4 ++ dktX0_init_5
def dkwX0_init_3 : List UInt8 := [187, 0, 40, 89, 42, 183, 0, 42, 181, 0, 45, 42, 7, 189, 0, 40, 89, 3, 42, 180, 0, 45, 83, 89]
abbrev dktX0_init_3 : List UInt8 := dkwX0_init_3 ++ dktX0_init_4
def dkwX0_init_2 : List UInt8 := [188, 10, 181, 0, 31, 42, 16, 7, 188, 10, 181, 0, 34, 42, 16, 7, 188, 10, 181, 0, 37, 42]
abbrev dktX0_init_2 : List UInt8 := dkwX0_init_2 ++ dktX0_init_3
def dkwX0_init_1 : List UInt8 := [42, 2, 181, 0, 20, 42, 16, 7, 188, 10, 181, 0, 24, 42, 16, 7, 188, 10, 181, 0, 28, 42, 16, 7]
abbrev dktX0_init_1 : List UInt8 := dkwX0_init_1 ++ dktX0_init_2
def dkwX0_init_0 : List UInt8 := [42, 183, 0, 1, 42, 187, 0, 7, 89, 183, 0, 9, 181, 0, 10, 42, 17, 2, 188, 188, 8, 181, 0, 16]
abbrev dktX0_init_0 : List UInt8 := dkwX0_init_0 ++ dktX0_init_1
theorem dksX0_init_0 : cX0_init.data.toList.drop 0 = dktX0_init_0 := by decide +kernel
theorem dksX0_init_1 : cX0_init.data.toList.drop 24 = dktX0_init_1 := dk_seg dksX0_init_0 24 rfl rfl
theorem dksX0_init_2 : cX0_init.data.toList.drop 48 = dktX0_init_2 := dk_seg dksX0_init_1 24 rfl rfl
theorem dksX0_init_3 : cX0_init.data.toList.drop 70 = dktX0_init_3 := dk_seg dksX0_init_2 22 rfl rfl
theorem dksX0_init_4 : cX0_init.data.toList.drop 94 = dktX0_init_4 := dk_seg dksX0_init_3 24 rfl rfl
theorem dksX0_init_5 : cX0_init.data.toList.drop 117 = dktX0_init_5 := dk_seg dksX0_init_4 23 rfl rfl
theorem dksX0_init_6 : cX0_init.data.toList.drop 141 = dktX0_init_6 := dk_seg dksX0_init_5 24 rfl rfl
theorem dksX0_init_7 : cX0_init.data.toList.drop 165 = dktX0_init_7 := dk_seg dksX0_init_6 24 rfl rfl
theorem dksX0_init_8 : cX0_init.data.toList.drop 189 = dktX0_init_8 := dk_seg dksX0_init_7 24 rfl rfl
theorem dksX0_init_9 : cX0_init.data.toList.drop 212 = dktX0_init_9 := dk_seg dksX0_init_8 23 rfl rfl
theorem dX0_init_0 : decode cX0_init 0 = .ok (.aload_n 0, 1) := dk_42 (dk_at dksX0_init_0 0 rfl rfl)
theorem dX0_init_1 : decode cX0_init 1 = .ok (.invokespecial 1, 3) := dk_183 0 1 (dk_at dksX0_init_0 1 rfl rfl)
theorem dX0_init_4 : decode cX0_init 4 = .ok (.aload_n 0, 1) := dk_42 (dk_at dksX0_init_0 4 rfl rfl)
theorem dX0_init_5 : decode cX0_init 5 = .ok (.new 7, 3) := dk_187 0 7 (dk_at dksX0_init_0 5 rfl rfl)
theorem dX0_init_8 : decode cX0_init 8 = .ok (.dup, 1) := dk_89 (dk_at dksX0_init_0 8 rfl rfl)
theorem dX0_init_9 : decode cX0_init 9 = .ok (.invokespecial 9, 3) := dk_183 0 9 (dk_at dksX0_init_0 9 rfl rfl)
theorem dX0_init_12 : decode cX0_init 12 = .ok (.putfield 10, 3) := dk_181 0 10 (dk_at dksX0_init_0 12 rfl rfl)
theorem dX0_init_15 : decode cX0_init 15 = .ok (.aload_n 0, 1) := dk_42 (dk_at dksX0_init_0 15 rfl rfl)
theorem dX0_init_16 : decode cX0_init 16 = .ok (.sipush 700, 3) := dk_17 2 188 (dk_at dksX0_init_0 16 rfl rfl)
theorem dX0_init_19 : decode cX0_init 19 = .ok (.newarray .byte, 2) := dk_188_8 (dk_at dksX0_init_0 19 rfl rfl)
theorem dX0_init_21 : decode cX0_init 21 = .ok (.putfield 16, 3) := dk_181 0 16 (dk_at dksX0_init_0 21 rfl rfl)
theorem dX0_init_24 : decode cX0_init 24 = .ok (.aload_n 0, 1) := dk_42 (dk_at dksX0_init_1 0 rfl rfl)
theorem dX0_init_25 : decode cX0_init 25 = .ok (.iconst (-1), 1) := dk_2 (dk_at dksX0_init_1 1 rfl rfl)
theorem dX0_init_26 : decode cX0_init 26 = .ok (.putfield 20, 3) := dk_181 0 20 (dk_at dksX0_init_1 2 rfl rfl)
theorem dX0_init_29 : decode cX0_init 29 = .ok (.aload_n 0, 1) := dk_42 (dk_at dksX0_init_1 5 rfl rfl)
theorem dX0_init_30 : decode cX0_init 30 = .ok (.bipush 7, 2) := dk_16 7 (dk_at dksX0_init_1 6 rfl rfl)
theorem dX0_init_32 : decode cX0_init 32 = .ok (.newarray .int, 2) := dk_188_10 (dk_at dksX0_init_1 8 rfl rfl)
theorem dX0_init_34 : decode cX0_init 34 = .ok (.putfield 24, 3) := dk_181 0 24 (dk_at dksX0_init_1 10 rfl rfl)
theorem dX0_init_37 : decode cX0_init 37 = .ok (.aload_n 0, 1) := dk_42 (dk_at dksX0_init_1 13 rfl rfl)
theorem dX0_init_38 : decode cX0_init 38 = .ok (.bipush 7, 2) := dk_16 7 (dk_at dksX0_init_1 14 rfl rfl)
theorem dX0_init_40 : decode cX0_init 40 = .ok (.newarray .int, 2) := dk_188_10 (dk_at dksX0_init_1 16 rfl rfl)
theorem dX0_init_42 : decode cX0_init 42 = .ok (.putfield 28, 3) := dk_181 0 28 (dk_at dksX0_init_1 18 rfl rfl)
theorem dX0_init_45 : decode cX0_init 45 = .ok (.aload_n 0, 1) := dk_42 (dk_at dksX0_init_1 21 rfl rfl)
theorem dX0_init_46 : decode cX0_init 46 = .ok (.bipush 7, 2) := dk_16 7 (dk_at dksX0_init_1 22 rfl rfl)
theorem dX0_init_48 : decode cX0_init 48 = .ok (.newarray .int, 2) := dk_188_10 (dk_at dksX0_init_2 0 rfl rfl)
theorem dX0_init_50 : decode cX0_init 50 = .ok (.putfield 31, 3) := dk_181 0 31 (dk_at dksX0_init_2 2 rfl rfl)
theorem dX0_init_53 : decode cX0_init 53 = .ok (.aload_n 0, 1) := dk_42 (dk_at dksX0_init_2 5 rfl rfl)
theorem dX0_init_54 : decode cX0_init 54 = .ok (.bipush 7, 2) := dk_16 7 (dk_at dksX0_init_2 6 rfl rfl)
theorem dX0_init_56 : decode cX0_init 56 = .ok (.newarray .int, 2) := dk_188_10 (dk_at dksX0_init_2 8 rfl rfl)
theorem dX0_init_58 : decode cX0_init 58 = .ok (.putfield 34, 3) := dk_181 0 34 (dk_at dksX0_init_2 10 rfl rfl)
theorem dX0_init_61 : decode cX0_init 61 = .ok (.aload_n 0, 1) := dk_42 (dk_at dksX0_init_2 13 rfl rfl)
theorem dX0_init_62 : decode cX0_init 62 = .ok (.bipush 7, 2) := dk_16 7 (dk_at dksX0_init_2 14 rfl rfl)
theorem dX0_init_64 : decode cX0_init 64 = .ok (.newarray .int, 2) := dk_188_10 (dk_at dksX0_init_2 16 rfl rfl)
theorem dX0_init_66 : decode cX0_init 66 = .ok (.putfield 37, 3) := dk_181 0 37 (dk_at dksX0_init_2 18 rfl rfl)
theorem dX0_init_69 : decode cX0_init 69 = .ok (.aload_n 0, 1) := dk_42 (dk_at dksX0_init_2 21 rfl rfl)
theorem dX0_init_70 : decode cX0_init 70 = .ok (.new 40, 3) := dk_187 0 40 (dk_at dksX0_init_3 0 rfl rfl)
theorem dX0_init_73 : decode cX0_init 73 = .ok (.dup, 1) := dk_89 (dk_at dksX0_init_3 3 rfl rfl)
theorem dX0_init_74 : decode cX0_init 74 = .ok (.aload_n 0, 1) := dk_42 (dk_at dksX0_init_3 4 rfl rfl)
theorem dX0_init_75 : decode cX0_init 75 = .ok (.invokespecial 42, 3) := dk_183 0 42 (dk_at dksX0_init_3 5 rfl rfl)
theorem dX0_init_78 : decode cX0_init 78 = .ok (.putfield 45, 3) := dk_181 0 45 (dk_at dksX0_init_3 8 rfl rfl)
theorem dX0_init_81 : decode cX0_init 81 = .ok (.aload_n 0, 1) := dk_42 (dk_at dksX0_init_3 11 rfl rfl)
theorem dX0_init_82 : decode cX0_init 82 = .ok (.iconst 4, 1) := dk_7 (dk_at dksX0_init_3 12 rfl rfl)
theorem dX0_init_83 : decode cX0_init 83 = .ok (.anewarray 40, 3) := dk_189 0 40 (dk_at dksX0_init_3 13 rfl rfl)
theorem dX0_init_86 : decode cX0_init 86 = .ok (.dup, 1) := dk_89 (dk_at dksX0_init_3 16 rfl rfl)
theorem dX0_init_87 : decode cX0_init 87 = .ok (.iconst 0, 1) := dk_3 (dk_at dksX0_init_3 17 rfl rfl)
theorem dX0_init_88 : decode cX0_init 88 = .ok (.aload_n 0, 1) := dk_42 (dk_at dksX0_init_3 18 rfl rfl)
theorem dX0_init_89 : decode cX0_init 89 = .ok (.getfield 45, 3) := dk_180 0 45 (dk_at dksX0_init_3 19 rfl rfl)
theorem dX0_init_92 : decode cX0_init 92 = .ok (.aastore, 1) := dk_83 (dk_at dksX0_init_3 22 rfl rfl)
theorem dX0_init_93 : decode cX0_init 93 = .ok (.dup, 1) := dk_89 (dk_at dksX0_init_3 23 rfl rfl)
theorem dX0_init_94 : decode cX0_init 94 = .ok (.iconst 1, 1) := dk_4 (dk_at dksX0_init_4 0 rfl rfl)
theorem dX0_init_95 : decode cX0_init 95 = .ok (.new 49, 3) := dk_187 0 49 (dk_at dksX0_init_4 1 rfl rfl)
theorem dX0_init_98 : decode cX0_init 98 = .ok (.dup, 1) := dk_89 (dk_at dksX0_init_4 4 rfl rfl)
theorem dX0_init_99 : decode cX0_init 99 = .ok (.aload_n 0, 1) := dk_42 (dk_at dksX0_init_4 5 rfl rfl)
theorem dX0_init_100 : decode cX0_init 100 = .ok (.invokespecial 51, 3) := dk_183 0 51 (dk_at dksX0_init_4 6 rfl rfl)
theorem dX0_init_103 : decode cX0_init 103 = .ok (.aastore, 1) := dk_83 (dk_at dksX0_init_4 9 rfl rfl)
theorem dX0_init_104 : decode cX0_init 104 = .ok (.dup, 1) := dk_89 (dk_at dksX0_init_4 10 rfl rfl)
theorem dX0_init_105 : decode cX0_init 105 = .ok (.iconst 2, 1) := dk_5 (dk_at dksX0_init_4 11 rfl rfl)
theorem dX0_init_106 : decode cX0_init 106 = .ok (.new 52, 3) := dk_187 0 52 (dk_at dksX0_init_4 12 rfl rfl)
theorem dX0_init_109 : decode cX0_init 109 = .ok (.dup, 1) := dk_89 (dk_at dksX0_init_4 15 rfl rfl)
theorem dX0_init_110 : decode cX0_init 110 = .ok (.aload_n 0, 1) := dk_42 (dk_at dksX0_init_4 16 rfl rfl)
theorem dX0_init_111 : decode cX0_init 111 = .ok (.invokespecial 54, 3) := dk_183 0 54 (dk_at dksX0_init_4 17 rfl rfl)
theorem dX0_init_114 : decode cX0_init 114 = .ok (.aastore, 1) := dk_83 (dk_at dksX0_init_4 20 rfl rfl)
theorem dX0_init_115 : decode cX0_init 115 = .ok (.dup, 1) := dk_89 (dk_at dksX0_init_4 21 rfl rfl)
theorem dX0_init_116 : decode cX0_init 116 = .ok (.iconst 3, 1) := dk_6 (dk_at dksX0_init_4 22 rfl rfl)
theorem dX0_init_117 : decode cX0_init 117 = .ok (.new 55, 3) := dk_187 0 55 (dk_at dksX0_init_5 0 rfl rfl)
theorem dX0_init_120 : decode cX0_init 120 = .ok (.dup, 1) := dk_89 (dk_at dksX0_init_5 3 rfl rfl)
theorem dX0_init_121 : decode cX0_init 121 = .ok (.aload_n 0, 1) := dk_42 (dk_at dksX0_init_5 4 rfl rfl)
theorem dX0_init_122 : decode cX0_init 122 = .ok (.invokespecial 57, 3) := dk_183 0 57 (dk_at dksX0_init_5 5 rfl rfl)
theorem dX0_init_125 : decode cX0_init 125 = .ok (.aastore, 1) := dk_83 (dk_at dksX0_init_5 8 rfl rfl)
theorem dX0_init_126 : decode cX0_init 126 = .ok (.putfield 58, 3) := dk_181 0 58 (dk_at dksX0_init_5 9 rfl rfl)
theorem dX0_init_129 : decode cX0_init 129 = .ok (.aload_n 0, 1) := dk_42 (dk_at dksX0_init_5 12 rfl rfl)
theorem dX0_init_130 : decode cX0_init 130 = .ok (.sipush 147, 3) := dk_17 0 147 (dk_at dksX0_init_5 13 rfl rfl)
theorem dX0_init_133 : decode cX0_init 133 = .ok (.newarray .int, 2) := dk_188_10 (dk_at dksX0_init_5 16 rfl rfl)
theorem dX0_init_135 : decode cX0_init 135 = .ok (.putfield 62, 3) := dk_181 0 62 (dk_at dksX0_init_5 18 rfl rfl)
theorem dX0_init_138 : decode cX0_init 138 = .ok (.aload_n 0, 1) := dk_42 (dk_at dksX0_init_5 21 rfl rfl)
theorem dX0_init_139 : decode cX0_init 139 = .ok (.bipush 21, 2) := dk_16 21 (dk_at dksX0_init_5 22 rfl rfl)
theorem dX0_init_141 : decode cX0_init 141 = .ok (.newarray .int, 2) := dk_188_10 (dk_at dksX0_init_6 0 rfl rfl)
theorem dX0_init_143 : decode cX0_init 143 = .ok (.putfield 65, 3) := dk_181 0 65 (dk_at dksX0_init_6 2 rfl rfl)
theorem dX0_init_146 : decode cX0_init 146 = .ok (.aload_n 0, 1) := dk_42 (dk_at dksX0_init_6 5 rfl rfl)
theorem dX0_init_147 : decode cX0_init 147 = .ok (.bipush 21, 2) := dk_16 21 (dk_at dksX0_init_6 6 rfl rfl)
theorem dX0_init_149 : decode cX0_init 149 = .ok (.newarray .int, 2) := dk_188_10 (dk_at dksX0_init_6 8 rfl rfl)
theorem dX0_init_151 : decode cX0_init 151 = .ok (.putfield 68, 3) := dk_181 0 68 (dk_at dksX0_init_6 10 rfl rfl)
theorem dX0_init_154 : decode cX0_init 154 = .ok (.aload_n 0, 1) := dk_42 (dk_at dksX0_init_6 13 rfl rfl)
theorem dX0_init_155 : decode cX0_init 155 = .ok (.sipush 441, 3) := dk_17 1 185 (dk_at dksX0_init_6 14 rfl rfl)
theorem dX0_init_158 : decode cX0_init 158 = .ok (.newarray .int, 2) := dk_188_10 (dk_at dksX0_init_6 17 rfl rfl)
theorem dX0_init_160 : decode cX0_init 160 = .ok (.putfield 71, 3) := dk_181 0 71 (dk_at dksX0_init_6 19 rfl rfl)
theorem dX0_init_163 : decode cX0_init 163 = .ok (.aload_n 0, 1) := dk_42 (dk_at dksX0_init_6 22 rfl rfl)
theorem dX0_init_164 : decode cX0_init 164 = .ok (.iconst 4, 1) := dk_7 (dk_at dksX0_init_6 23 rfl rfl)
theorem dX0_init_165 : decode cX0_init 165 = .ok (.anewarray 74, 3) := dk_189 0 74 (dk_at dksX0_init_7 0 rfl rfl)
theorem dX0_init_168 : decode cX0_init 168 = .ok (.dup, 1) := dk_89 (dk_at dksX0_init_7 3 rfl rfl)
theorem dX0_init_169 : decode cX0_init 169 = .ok (.iconst 0, 1) := dk_3 (dk_at dksX0_init_7 4 rfl rfl)
theorem dX0_init_170 : decode cX0_init 170 = .ok (.new 74, 3) := dk_187 0 74 (dk_at dksX0_init_7 5 rfl rfl)
theorem dX0_init_173 : decode cX0_init 173 = .ok (.dup, 1) := dk_89 (dk_at dksX0_init_7 8 rfl rfl)
theorem dX0_init_174 : decode cX0_init 174 = .ok (.invokespecial 76, 3) := dk_183 0 76 (dk_at dksX0_init_7 9 rfl rfl)
theorem dX0_init_177 : decode cX0_init 177 = .ok (.aastore, 1) := dk_83 (dk_at dksX0_init_7 12 rfl rfl)
theorem dX0_init_178 : decode cX0_init 178 = .ok (.dup, 1) := dk_89 (dk_at dksX0_init_7 13 rfl rfl)
theorem dX0_init_179 : decode cX0_init 179 = .ok (.iconst 1, 1) := dk_4 (dk_at dksX0_init_7 14 rfl rfl)
theorem dX0_init_180 : decode cX0_init 180 = .ok (.new 74, 3) := dk_187 0 74 (dk_at dksX0_init_7 15 rfl rfl)
theorem dX0_init_183 : decode cX0_init 183 = .ok (.dup, 1) := dk_89 (dk_at dksX0_init_7 18 rfl rfl)
theorem dX0_init_184 : decode cX0_init 184 = .ok (.invokespecial 76, 3) := dk_183 0 76 (dk_at dksX0_init_7 19 rfl rfl)
theorem dX0_init_187 : decode cX0_init 187 = .ok (.aastore, 1) := dk_83 (dk_at dksX0_init_7 22 rfl rfl)
theorem dX0_init_188 : decode cX0_init 188 = .ok (.dup, 1) := dk_89 (dk_at dksX0_init_7 23 rfl rfl)
theorem dX0_init_189 : decode cX0_init 189 = .ok (.iconst 2, 1) := dk_5 (dk_at dksX0_init_8 0 rfl rfl)
theorem dX0_init_190 : decode cX0_init 190 = .ok (.new 74, 3) := dk_187 0 74 (dk_at dksX0_init_8 1 rfl rfl)
theorem dX0_init_193 : decode cX0_init 193 = .ok (.dup, 1) := dk_89 (dk_at dksX0_init_8 4 rfl rfl)
theorem dX0_init_194 : decode cX0_init 194 = .ok (.invokespecial 76, 3) := dk_183 0 76 (dk_at dksX0_init_8 5 rfl rfl)
theorem dX0_init_197 : decode cX0_init 197 = .ok (.aastore, 1) := dk_83 (dk_at dksX0_init_8 8 rfl rfl)
theorem dX0_init_198 : decode cX0_init 198 = .ok (.dup, 1) := dk_89 (dk_at dksX0_init_8 9 rfl rfl)
theorem dX0_init_199 : decode cX0_init 199 = .ok (.iconst 3, 1) := dk_6 (dk_at dksX0_init_8 10 rfl rfl)
theorem dX0_init_200 : decode cX0_init 200 = .ok (.new 74, 3) := dk_187 0 74 (dk_at dksX0_init_8 11 rfl rfl)
theorem dX0_init_203 : decode cX0_init 203 = .ok (.dup, 1) := dk_89 (dk_at dksX0_init_8 14 rfl rfl)
theorem dX0_init_204 : decode cX0_init 204 = .ok (.invokespecial 76, 3) := dk_183 0 76 (dk_at dksX0_init_8 15 rfl rfl)
theorem dX0_init_207 : decode cX0_init 207 = .ok (.aastore, 1) := dk_83 (dk_at dksX0_init_8 18 rfl rfl)
theorem dX0_init_208 : decode cX0_init 208 = .ok (.putfield 77, 3) := dk_181 0 77 (dk_at dksX0_init_8 19 rfl rfl)
theorem dX0_init_211 : decode cX0_init 211 = .ok (.aload_n 0, 1) := dk_42 (dk_at dksX0_init_8 22 rfl rfl)
theorem dX0_init_212 : decode cX0_init 212 = .ok (.new 81, 3) := dk_187 0 81 (dk_at dksX0_init_9 0 rfl rfl)
theorem dX0_init_215 : decode cX0_init 215 = .ok (.dup, 1) := dk_89 (dk_at dksX0_init_9 3 rfl rfl)
theorem dX0_init_216 : decode cX0_init 216 = .ok (.invokespecial 83, 3) := dk_183 0 83 (dk_at dksX0_init_9 4 rfl rfl)
theorem dX0_init_219 : decode cX0_init 219 = .ok (.putfield 84, 3) := dk_181 0 84 (dk_at dksX0_init_9 7 rfl rfl)
theorem dX0_init_222 : decode cX0_init 222 = .ok (.return_, 1) := dk_177 (dk_at dksX0_init_9 10 rfl rfl)
abbrev cX0_feed : ByteArray := prog_1_method_5_code
def yX0_feed : MethodName := ⟨RX0, "feed", "(IIIII)I"⟩
def dkwX0_feed_2 : List UInt8 := [172]
abbrev dktX0_feed_2 : List UInt8 := dkwX0_feed_2 ++ []
def dkwX0_feed_1 : List UInt8 := [182, 0, 91, 42, 29, 182, 0, 91, 42, 21, 4, 182, 0, 91, 42, 21, 5, 182, 0, 91, 42, 180, 0, 88]
abbrev dktX0_feed_1 : List UInt8 := dkwX0_feed_1 ++ dktX0_feed_2
def dkwX0_feed_0 : List UInt8 := [42, 180, 0, 88, 16, 20, 96, 17, 2, 188, 164, 0, 5, 2, 172, 42, 27, 182, 0, 91, 42, 28]
abbrev dktX0_feed_0 : List UInt8 := dkwX0_feed_0 ++ dktX0_feed_1
theorem dksX0_feed_0 : cX0_feed.data.toList.drop 0 = dktX0_feed_0 := by decide +kernel
theorem dksX0_feed_1 : cX0_feed.data.toList.drop 22 = dktX0_feed_1 := dk_seg dksX0_feed_0 22 rfl rfl
theorem dksX0_feed_2 : cX0_feed.data.toList.drop 46 = dktX0_feed_2 := dk_seg dksX0_feed_1 24 rfl rfl
theorem dX0_feed_0 : decode cX0_feed 0 = .ok (.aload_n 0, 1) := dk_42 (dk_at dksX0_feed_0 0 rfl rfl)
theorem dX0_feed_1 : decode cX0_feed 1 = .ok (.getfield 88, 3) := dk_180 0 88 (dk_at dksX0_feed_0 1 rfl rfl)
theorem dX0_feed_4 : decode cX0_feed 4 = .ok (.bipush 20, 2) := dk_16 20 (dk_at dksX0_feed_0 4 rfl rfl)
theorem dX0_feed_6 : decode cX0_feed 6 = .ok (.iadd, 1) := dk_96 (dk_at dksX0_feed_0 6 rfl rfl)
theorem dX0_feed_7 : decode cX0_feed 7 = .ok (.sipush 700, 3) := dk_17 2 188 (dk_at dksX0_feed_0 7 rfl rfl)
theorem dX0_feed_10 : decode cX0_feed 10 = .ok (.if_icmp .le 5, 3) := dk_164 0 5 (dk_at dksX0_feed_0 10 rfl rfl)
theorem dX0_feed_13 : decode cX0_feed 13 = .ok (.iconst (-1), 1) := dk_2 (dk_at dksX0_feed_0 13 rfl rfl)
theorem dX0_feed_14 : decode cX0_feed 14 = .ok (.ireturn, 1) := dk_172 (dk_at dksX0_feed_0 14 rfl rfl)
theorem dX0_feed_15 : decode cX0_feed 15 = .ok (.aload_n 0, 1) := dk_42 (dk_at dksX0_feed_0 15 rfl rfl)
theorem dX0_feed_16 : decode cX0_feed 16 = .ok (.iload_n 1, 1) := dk_27 (dk_at dksX0_feed_0 16 rfl rfl)
theorem dX0_feed_17 : decode cX0_feed 17 = .ok (.invokevirtual 91, 3) := dk_182 0 91 (dk_at dksX0_feed_0 17 rfl rfl)
theorem dX0_feed_20 : decode cX0_feed 20 = .ok (.aload_n 0, 1) := dk_42 (dk_at dksX0_feed_0 20 rfl rfl)
theorem dX0_feed_21 : decode cX0_feed 21 = .ok (.iload_n 2, 1) := dk_28 (dk_at dksX0_feed_0 21 rfl rfl)
theorem dX0_feed_22 : decode cX0_feed 22 = .ok (.invokevirtual 91, 3) := dk_182 0 91 (dk_at dksX0_feed_1 0 rfl rfl)
theorem dX0_feed_25 : decode cX0_feed 25 = .ok (.aload_n 0, 1) := dk_42 (dk_at dksX0_feed_1 3 rfl rfl)
theorem dX0_feed_26 : decode cX0_feed 26 = .ok (.iload_n 3, 1) := dk_29 (dk_at dksX0_feed_1 4 rfl rfl)
theorem dX0_feed_27 : decode cX0_feed 27 = .ok (.invokevirtual 91, 3) := dk_182 0 91 (dk_at dksX0_feed_1 5 rfl rfl)
theorem dX0_feed_30 : decode cX0_feed 30 = .ok (.aload_n 0, 1) := dk_42 (dk_at dksX0_feed_1 8 rfl rfl)
theorem dX0_feed_31 : decode cX0_feed 31 = .ok (.iload 4, 2) := dk_21 4 (dk_at dksX0_feed_1 9 rfl rfl)
theorem dX0_feed_33 : decode cX0_feed 33 = .ok (.invokevirtual 91, 3) := dk_182 0 91 (dk_at dksX0_feed_1 11 rfl rfl)
theorem dX0_feed_36 : decode cX0_feed 36 = .ok (.aload_n 0, 1) := dk_42 (dk_at dksX0_feed_1 14 rfl rfl)
theorem dX0_feed_37 : decode cX0_feed 37 = .ok (.iload 5, 2) := dk_21 5 (dk_at dksX0_feed_1 15 rfl rfl)
theorem dX0_feed_39 : decode cX0_feed 39 = .ok (.invokevirtual 91, 3) := dk_182 0 91 (dk_at dksX0_feed_1 17 rfl rfl)
theorem dX0_feed_42 : decode cX0_feed 42 = .ok (.aload_n 0, 1) := dk_42 (dk_at dksX0_feed_1 20 rfl rfl)
theorem dX0_feed_43 : decode cX0_feed 43 = .ok (.getfield 88, 3) := dk_180 0 88 (dk_at dksX0_feed_1 21 rfl rfl)
theorem dX0_feed_46 : decode cX0_feed 46 = .ok (.ireturn, 1) := dk_172 (dk_at dksX0_feed_2 0 rfl rfl)
abbrev cX0_puts : ByteArray := prog_1_method_4_code
def yX0_puts : MethodName := ⟨RX0, "puts", "(I)V"⟩
def dkwX0_puts_1 : List UInt8 := [180, 0, 88, 4, 96, 181, 0, 88, 132, 2, 248, 167, 255, 226, 177]
abbrev dktX0_puts_1 : List UInt8 := dkwX0_puts_1 ++ []
def dkwX0_puts_0 : List UInt8 := [16, 24, 61, 28, 155, 0, 32, 42, 180, 0, 16, 42, 180, 0, 88, 27, 28, 122, 145, 84, 42, 89]
abbrev dktX0_puts_0 : List UInt8 := dkwX0_puts_0 ++ dktX0_puts_1
theorem dksX0_puts_0 : cX0_puts.data.toList.drop 0 = dktX0_puts_0 := by decide +kernel
theorem dksX0_puts_1 : cX0_puts.data.toList.drop 22 = dktX0_puts_1 := dk_seg dksX0_puts_0 22 rfl rfl
theorem dX0_puts_0 : decode cX0_puts 0 = .ok (.bipush 24, 2) := dk_16 24 (dk_at dksX0_puts_0 0 rfl rfl)
theorem dX0_puts_2 : decode cX0_puts 2 = .ok (.istore_n 2, 1) := dk_61 (dk_at dksX0_puts_0 2 rfl rfl)
theorem dX0_puts_3 : decode cX0_puts 3 = .ok (.iload_n 2, 1) := dk_28 (dk_at dksX0_puts_0 3 rfl rfl)
theorem dX0_puts_4 : decode cX0_puts 4 = .ok (.ifCond .lt 32, 3) := dk_155 0 32 (dk_at dksX0_puts_0 4 rfl rfl)
theorem dX0_puts_7 : decode cX0_puts 7 = .ok (.aload_n 0, 1) := dk_42 (dk_at dksX0_puts_0 7 rfl rfl)
theorem dX0_puts_8 : decode cX0_puts 8 = .ok (.getfield 16, 3) := dk_180 0 16 (dk_at dksX0_puts_0 8 rfl rfl)
theorem dX0_puts_11 : decode cX0_puts 11 = .ok (.aload_n 0, 1) := dk_42 (dk_at dksX0_puts_0 11 rfl rfl)
theorem dX0_puts_12 : decode cX0_puts 12 = .ok (.getfield 88, 3) := dk_180 0 88 (dk_at dksX0_puts_0 12 rfl rfl)
theorem dX0_puts_15 : decode cX0_puts 15 = .ok (.iload_n 1, 1) := dk_27 (dk_at dksX0_puts_0 15 rfl rfl)
theorem dX0_puts_16 : decode cX0_puts 16 = .ok (.iload_n 2, 1) := dk_28 (dk_at dksX0_puts_0 16 rfl rfl)
theorem dX0_puts_17 : decode cX0_puts 17 = .ok (.ishr, 1) := dk_122 (dk_at dksX0_puts_0 17 rfl rfl)
theorem dX0_puts_18 : decode cX0_puts 18 = .ok (.i2b, 1) := dk_145 (dk_at dksX0_puts_0 18 rfl rfl)
theorem dX0_puts_19 : decode cX0_puts 19 = .ok (.bastore, 1) := dk_84 (dk_at dksX0_puts_0 19 rfl rfl)
theorem dX0_puts_20 : decode cX0_puts 20 = .ok (.aload_n 0, 1) := dk_42 (dk_at dksX0_puts_0 20 rfl rfl)
theorem dX0_puts_21 : decode cX0_puts 21 = .ok (.dup, 1) := dk_89 (dk_at dksX0_puts_0 21 rfl rfl)
theorem dX0_puts_22 : decode cX0_puts 22 = .ok (.getfield 88, 3) := dk_180 0 88 (dk_at dksX0_puts_1 0 rfl rfl)
theorem dX0_puts_25 : decode cX0_puts 25 = .ok (.iconst 1, 1) := dk_4 (dk_at dksX0_puts_1 3 rfl rfl)
theorem dX0_puts_26 : decode cX0_puts 26 = .ok (.iadd, 1) := dk_96 (dk_at dksX0_puts_1 4 rfl rfl)
theorem dX0_puts_27 : decode cX0_puts 27 = .ok (.putfield 88, 3) := dk_181 0 88 (dk_at dksX0_puts_1 5 rfl rfl)
theorem dX0_puts_30 : decode cX0_puts 30 = .ok (.iinc 2 (-8), 3) := dk_132 2 248 (dk_at dksX0_puts_1 8 rfl rfl)
theorem dX0_puts_33 : decode cX0_puts 33 = .ok (.goto (-30), 3) := dk_167 255 226 (dk_at dksX0_puts_1 11 rfl rfl)
theorem dX0_puts_36 : decode cX0_puts 36 = .ok (.return_, 1) := dk_177 (dk_at dksX0_puts_1 14 rfl rfl)
abbrev cX0_end : ByteArray := prog_1_method_6_code
def yX0_end : MethodName := ⟨RX0, "end", "(I)I"⟩
def dkwX0_end_0 : List UInt8 := [27, 133, 9, 42, 180, 0, 88, 133, 184, 0, 95, 154, 0, 5, 2, 172, 42, 27, 181, 0, 88, 27, 172]
abbrev dktX0_end_0 : List UInt8 := dkwX0_end_0 ++ []
theorem dksX0_end_0 : cX0_end.data.toList.drop 0 = dktX0_end_0 := by decide +kernel
theorem dX0_end_0 : decode cX0_end 0 = .ok (.iload_n 1, 1) := dk_27 (dk_at dksX0_end_0 0 rfl rfl)
theorem dX0_end_1 : decode cX0_end 1 = .ok (.i2l, 1) := dk_133 (dk_at dksX0_end_0 1 rfl rfl)
theorem dX0_end_2 : decode cX0_end 2 = .ok (.lconst 0, 1) := dk_9 (dk_at dksX0_end_0 2 rfl rfl)
theorem dX0_end_3 : decode cX0_end 3 = .ok (.aload_n 0, 1) := dk_42 (dk_at dksX0_end_0 3 rfl rfl)
theorem dX0_end_4 : decode cX0_end 4 = .ok (.getfield 88, 3) := dk_180 0 88 (dk_at dksX0_end_0 4 rfl rfl)
theorem dX0_end_7 : decode cX0_end 7 = .ok (.i2l, 1) := dk_133 (dk_at dksX0_end_0 7 rfl rfl)
theorem dX0_end_8 : decode cX0_end 8 = .ok (.invokestatic 95, 3) := dk_184 0 95 (dk_at dksX0_end_0 8 rfl rfl)
theorem dX0_end_11 : decode cX0_end 11 = .ok (.ifCond .ne 5, 3) := dk_154 0 5 (dk_at dksX0_end_0 11 rfl rfl)
theorem dX0_end_14 : decode cX0_end 14 = .ok (.iconst (-1), 1) := dk_2 (dk_at dksX0_end_0 14 rfl rfl)
theorem dX0_end_15 : decode cX0_end 15 = .ok (.ireturn, 1) := dk_172 (dk_at dksX0_end_0 15 rfl rfl)
theorem dX0_end_16 : decode cX0_end 16 = .ok (.aload_n 0, 1) := dk_42 (dk_at dksX0_end_0 16 rfl rfl)
theorem dX0_end_17 : decode cX0_end 17 = .ok (.iload_n 1, 1) := dk_27 (dk_at dksX0_end_0 17 rfl rfl)
theorem dX0_end_18 : decode cX0_end 18 = .ok (.putfield 88, 3) := dk_181 0 88 (dk_at dksX0_end_0 18 rfl rfl)
theorem dX0_end_21 : decode cX0_end 21 = .ok (.iload_n 1, 1) := dk_27 (dk_at dksX0_end_0 21 rfl rfl)
theorem dX0_end_22 : decode cX0_end 22 = .ok (.ireturn, 1) := dk_172 (dk_at dksX0_end_0 22 rfl rfl)
abbrev cX0_isIn : ByteArray := prog_1_method_1_code
def yX0_isIn : MethodName := ⟨RX0, "isIn", "(JJJ)Z"⟩
def dkwX0_isIn_0 : List UInt8 := [30, 32, 148, 155, 0, 14, 30, 22, 4, 148, 157, 0, 7, 4, 167, 0, 4, 3, 172]
abbrev dktX0_isIn_0 : List UInt8 := dkwX0_isIn_0 ++ []
theorem dksX0_isIn_0 : cX0_isIn.data.toList.drop 0 = dktX0_isIn_0 := by decide +kernel
theorem dX0_isIn_0 : decode cX0_isIn 0 = .ok (.lload_n 0, 1) := dk_30 (dk_at dksX0_isIn_0 0 rfl rfl)
theorem dX0_isIn_1 : decode cX0_isIn 1 = .ok (.lload_n 2, 1) := dk_32 (dk_at dksX0_isIn_0 1 rfl rfl)
theorem dX0_isIn_2 : decode cX0_isIn 2 = .ok (.lcmp, 1) := dk_148 (dk_at dksX0_isIn_0 2 rfl rfl)
theorem dX0_isIn_3 : decode cX0_isIn 3 = .ok (.ifCond .lt 14, 3) := dk_155 0 14 (dk_at dksX0_isIn_0 3 rfl rfl)
theorem dX0_isIn_6 : decode cX0_isIn 6 = .ok (.lload_n 0, 1) := dk_30 (dk_at dksX0_isIn_0 6 rfl rfl)
theorem dX0_isIn_7 : decode cX0_isIn 7 = .ok (.lload 4, 2) := dk_22 4 (dk_at dksX0_isIn_0 7 rfl rfl)
theorem dX0_isIn_9 : decode cX0_isIn 9 = .ok (.lcmp, 1) := dk_148 (dk_at dksX0_isIn_0 9 rfl rfl)
theorem dX0_isIn_10 : decode cX0_isIn 10 = .ok (.ifCond .gt 7, 3) := dk_157 0 7 (dk_at dksX0_isIn_0 10 rfl rfl)
theorem dX0_isIn_13 : decode cX0_isIn 13 = .ok (.iconst 1, 1) := dk_4 (dk_at dksX0_isIn_0 13 rfl rfl)
theorem dX0_isIn_14 : decode cX0_isIn 14 = .ok (.goto 4, 3) := dk_167 0 4 (dk_at dksX0_isIn_0 14 rfl rfl)
theorem dX0_isIn_17 : decode cX0_isIn 17 = .ok (.iconst 0, 1) := dk_3 (dk_at dksX0_isIn_0 17 rfl rfl)
theorem dX0_isIn_18 : decode cX0_isIn 18 = .ok (.ireturn, 1) := dk_172 (dk_at dksX0_isIn_0 18 rfl rfl)
abbrev cX0_book : ByteArray := prog_1_method_7_code
def yX0_book : MethodName := ⟨RX0, "book", "()I"⟩
def dkwX0_book_3 : List UInt8 := [181, 0, 88, 45, 191]
abbrev dktX0_book_3 : List UInt8 := dkwX0_book_3 ++ []
def dkwX0_book_2 : List UInt8 := [181, 0, 106, 42, 43, 180, 0, 117, 181, 0, 20, 16, 252, 61, 42, 3, 181, 0, 88, 28, 172, 78, 42, 3]
abbrev dktX0_book_2 : List UInt8 := dkwX0_book_2 ++ dktX0_book_3
def dkwX0_book_1 : List UInt8 := [181, 0, 20, 42, 180, 0, 10, 180, 0, 109, 60, 42, 3, 181, 0, 88, 27, 172, 76, 42, 43, 180, 0, 114]
abbrev dktX0_book_1 : List UInt8 := dkwX0_book_1 ++ dktX0_book_2
def dkwX0_book_0 : List UInt8 := [42, 187, 0, 99, 89, 42, 183, 0, 101, 182, 0, 102, 181, 0, 10, 42, 3, 181, 0, 106, 42, 2]
abbrev dktX0_book_0 : List UInt8 := dkwX0_book_0 ++ dktX0_book_1
theorem dksX0_book_0 : cX0_book.data.toList.drop 0 = dktX0_book_0 := by decide +kernel
theorem dksX0_book_1 : cX0_book.data.toList.drop 22 = dktX0_book_1 := dk_seg dksX0_book_0 22 rfl rfl
theorem dksX0_book_2 : cX0_book.data.toList.drop 46 = dktX0_book_2 := dk_seg dksX0_book_1 24 rfl rfl
theorem dksX0_book_3 : cX0_book.data.toList.drop 70 = dktX0_book_3 := dk_seg dksX0_book_2 24 rfl rfl
theorem dX0_book_0 : decode cX0_book 0 = .ok (.aload_n 0, 1) := dk_42 (dk_at dksX0_book_0 0 rfl rfl)
theorem dX0_book_1 : decode cX0_book 1 = .ok (.new 99, 3) := dk_187 0 99 (dk_at dksX0_book_0 1 rfl rfl)
theorem dX0_book_4 : decode cX0_book 4 = .ok (.dup, 1) := dk_89 (dk_at dksX0_book_0 4 rfl rfl)
theorem dX0_book_5 : decode cX0_book 5 = .ok (.aload_n 0, 1) := dk_42 (dk_at dksX0_book_0 5 rfl rfl)
theorem dX0_book_6 : decode cX0_book 6 = .ok (.invokespecial 101, 3) := dk_183 0 101 (dk_at dksX0_book_0 6 rfl rfl)
theorem dX0_book_9 : decode cX0_book 9 = .ok (.invokevirtual 102, 3) := dk_182 0 102 (dk_at dksX0_book_0 9 rfl rfl)
theorem dX0_book_12 : decode cX0_book 12 = .ok (.putfield 10, 3) := dk_181 0 10 (dk_at dksX0_book_0 12 rfl rfl)
theorem dX0_book_15 : decode cX0_book 15 = .ok (.aload_n 0, 1) := dk_42 (dk_at dksX0_book_0 15 rfl rfl)
theorem dX0_book_16 : decode cX0_book 16 = .ok (.iconst 0, 1) := dk_3 (dk_at dksX0_book_0 16 rfl rfl)
theorem dX0_book_17 : decode cX0_book 17 = .ok (.putfield 106, 3) := dk_181 0 106 (dk_at dksX0_book_0 17 rfl rfl)
theorem dX0_book_20 : decode cX0_book 20 = .ok (.aload_n 0, 1) := dk_42 (dk_at dksX0_book_0 20 rfl rfl)
theorem dX0_book_21 : decode cX0_book 21 = .ok (.iconst (-1), 1) := dk_2 (dk_at dksX0_book_0 21 rfl rfl)
theorem dX0_book_22 : decode cX0_book 22 = .ok (.putfield 20, 3) := dk_181 0 20 (dk_at dksX0_book_1 0 rfl rfl)
theorem dX0_book_25 : decode cX0_book 25 = .ok (.aload_n 0, 1) := dk_42 (dk_at dksX0_book_1 3 rfl rfl)
theorem dX0_book_26 : decode cX0_book 26 = .ok (.getfield 10, 3) := dk_180 0 10 (dk_at dksX0_book_1 4 rfl rfl)
theorem dX0_book_29 : decode cX0_book 29 = .ok (.getfield 109, 3) := dk_180 0 109 (dk_at dksX0_book_1 7 rfl rfl)
theorem dX0_book_32 : decode cX0_book 32 = .ok (.istore_n 1, 1) := dk_60 (dk_at dksX0_book_1 10 rfl rfl)
theorem dX0_book_33 : decode cX0_book 33 = .ok (.aload_n 0, 1) := dk_42 (dk_at dksX0_book_1 11 rfl rfl)
theorem dX0_book_34 : decode cX0_book 34 = .ok (.iconst 0, 1) := dk_3 (dk_at dksX0_book_1 12 rfl rfl)
theorem dX0_book_35 : decode cX0_book 35 = .ok (.putfield 88, 3) := dk_181 0 88 (dk_at dksX0_book_1 13 rfl rfl)
theorem dX0_book_38 : decode cX0_book 38 = .ok (.iload_n 1, 1) := dk_27 (dk_at dksX0_book_1 16 rfl rfl)
theorem dX0_book_39 : decode cX0_book 39 = .ok (.ireturn, 1) := dk_172 (dk_at dksX0_book_1 17 rfl rfl)
theorem dX0_book_40 : decode cX0_book 40 = .ok (.astore_n 1, 1) := dk_76 (dk_at dksX0_book_1 18 rfl rfl)
theorem dX0_book_41 : decode cX0_book 41 = .ok (.aload_n 0, 1) := dk_42 (dk_at dksX0_book_1 19 rfl rfl)
theorem dX0_book_42 : decode cX0_book 42 = .ok (.aload_n 1, 1) := dk_43 (dk_at dksX0_book_1 20 rfl rfl)
theorem dX0_book_43 : decode cX0_book 43 = .ok (.getfield 114, 3) := dk_180 0 114 (dk_at dksX0_book_1 21 rfl rfl)
theorem dX0_book_46 : decode cX0_book 46 = .ok (.putfield 106, 3) := dk_181 0 106 (dk_at dksX0_book_2 0 rfl rfl)
theorem dX0_book_49 : decode cX0_book 49 = .ok (.aload_n 0, 1) := dk_42 (dk_at dksX0_book_2 3 rfl rfl)
theorem dX0_book_50 : decode cX0_book 50 = .ok (.aload_n 1, 1) := dk_43 (dk_at dksX0_book_2 4 rfl rfl)
theorem dX0_book_51 : decode cX0_book 51 = .ok (.getfield 117, 3) := dk_180 0 117 (dk_at dksX0_book_2 5 rfl rfl)
theorem dX0_book_54 : decode cX0_book 54 = .ok (.putfield 20, 3) := dk_181 0 20 (dk_at dksX0_book_2 8 rfl rfl)
theorem dX0_book_57 : decode cX0_book 57 = .ok (.bipush (-4), 2) := dk_16 252 (dk_at dksX0_book_2 11 rfl rfl)
theorem dX0_book_59 : decode cX0_book 59 = .ok (.istore_n 2, 1) := dk_61 (dk_at dksX0_book_2 13 rfl rfl)
theorem dX0_book_60 : decode cX0_book 60 = .ok (.aload_n 0, 1) := dk_42 (dk_at dksX0_book_2 14 rfl rfl)
theorem dX0_book_61 : decode cX0_book 61 = .ok (.iconst 0, 1) := dk_3 (dk_at dksX0_book_2 15 rfl rfl)
theorem dX0_book_62 : decode cX0_book 62 = .ok (.putfield 88, 3) := dk_181 0 88 (dk_at dksX0_book_2 16 rfl rfl)
theorem dX0_book_65 : decode cX0_book 65 = .ok (.iload_n 2, 1) := dk_28 (dk_at dksX0_book_2 19 rfl rfl)
theorem dX0_book_66 : decode cX0_book 66 = .ok (.ireturn, 1) := dk_172 (dk_at dksX0_book_2 20 rfl rfl)
theorem dX0_book_67 : decode cX0_book 67 = .ok (.astore_n 3, 1) := dk_78 (dk_at dksX0_book_2 21 rfl rfl)
theorem dX0_book_68 : decode cX0_book 68 = .ok (.aload_n 0, 1) := dk_42 (dk_at dksX0_book_2 22 rfl rfl)
theorem dX0_book_69 : decode cX0_book 69 = .ok (.iconst 0, 1) := dk_3 (dk_at dksX0_book_2 23 rfl rfl)
theorem dX0_book_70 : decode cX0_book 70 = .ok (.putfield 88, 3) := dk_181 0 88 (dk_at dksX0_book_3 0 rfl rfl)
theorem dX0_book_73 : decode cX0_book 73 = .ok (.aload_n 3, 1) := dk_45 (dk_at dksX0_book_3 3 rfl rfl)
theorem dX0_book_74 : decode cX0_book 74 = .ok (.athrow, 1) := dk_191 (dk_at dksX0_book_3 4 rfl rfl)
abbrev cX0_fault : ByteArray := prog_1_method_8_code
def yX0_fault : MethodName := ⟨RX0, "fault", "(I)I"⟩
def dkwX0_fault_1 : List UInt8 := [172]
abbrev dktX0_fault_1 : List UInt8 := dkwX0_fault_1 ++ []
def dkwX0_fault_0 : List UInt8 := [27, 154, 0, 10, 42, 180, 0, 106, 167, 0, 16, 27, 4, 160, 0, 10, 42, 180, 0, 20, 167, 0, 4, 2]
abbrev dktX0_fault_0 : List UInt8 := dkwX0_fault_0 ++ dktX0_fault_1
theorem dksX0_fault_0 : cX0_fault.data.toList.drop 0 = dktX0_fault_0 := by decide +kernel
theorem dksX0_fault_1 : cX0_fault.data.toList.drop 24 = dktX0_fault_1 := dk_seg dksX0_fault_0 24 rfl rfl
theorem dX0_fault_0 : decode cX0_fault 0 = .ok (.iload_n 1, 1) := dk_27 (dk_at dksX0_fault_0 0 rfl rfl)
theorem dX0_fault_1 : decode cX0_fault 1 = .ok (.ifCond .ne 10, 3) := dk_154 0 10 (dk_at dksX0_fault_0 1 rfl rfl)
theorem dX0_fault_4 : decode cX0_fault 4 = .ok (.aload_n 0, 1) := dk_42 (dk_at dksX0_fault_0 4 rfl rfl)
theorem dX0_fault_5 : decode cX0_fault 5 = .ok (.getfield 106, 3) := dk_180 0 106 (dk_at dksX0_fault_0 5 rfl rfl)
theorem dX0_fault_8 : decode cX0_fault 8 = .ok (.goto 16, 3) := dk_167 0 16 (dk_at dksX0_fault_0 8 rfl rfl)
theorem dX0_fault_11 : decode cX0_fault 11 = .ok (.iload_n 1, 1) := dk_27 (dk_at dksX0_fault_0 11 rfl rfl)
theorem dX0_fault_12 : decode cX0_fault 12 = .ok (.iconst 1, 1) := dk_4 (dk_at dksX0_fault_0 12 rfl rfl)
theorem dX0_fault_13 : decode cX0_fault 13 = .ok (.if_icmp .ne 10, 3) := dk_160 0 10 (dk_at dksX0_fault_0 13 rfl rfl)
theorem dX0_fault_16 : decode cX0_fault 16 = .ok (.aload_n 0, 1) := dk_42 (dk_at dksX0_fault_0 16 rfl rfl)
theorem dX0_fault_17 : decode cX0_fault 17 = .ok (.getfield 20, 3) := dk_180 0 20 (dk_at dksX0_fault_0 17 rfl rfl)
theorem dX0_fault_20 : decode cX0_fault 20 = .ok (.goto 4, 3) := dk_167 0 4 (dk_at dksX0_fault_0 20 rfl rfl)
theorem dX0_fault_23 : decode cX0_fault 23 = .ok (.iconst (-1), 1) := dk_2 (dk_at dksX0_fault_0 23 rfl rfl)
theorem dX0_fault_24 : decode cX0_fault 24 = .ok (.ireturn, 1) := dk_172 (dk_at dksX0_fault_1 0 rfl rfl)
abbrev cX0_ink : ByteArray := prog_1_method_18_code
def yX0_ink : MethodName := ⟨RX0, "ink", "(II)I"⟩
def dkwX0_ink_2 : List UInt8 := [46, 167, 0, 12, 42, 180, 0, 10, 180, 0, 154, 27, 46, 172]
abbrev dktX0_ink_2 : List UInt8 := dkwX0_ink_2 ++ []
def dkwX0_ink_1 : List UInt8 := [180, 0, 10, 180, 0, 148, 27, 46, 167, 0, 29, 28, 4, 160, 0, 15, 42, 180, 0, 10, 180, 0, 151, 27]
abbrev dktX0_ink_1 : List UInt8 := dkwX0_ink_1 ++ dktX0_ink_2
def dkwX0_ink_0 : List UInt8 := [42, 27, 182, 0, 140, 153, 0, 11, 28, 6, 184, 0, 144, 154, 0, 6, 16, 254, 172, 28, 154, 0, 15, 42]
abbrev dktX0_ink_0 : List UInt8 := dkwX0_ink_0 ++ dktX0_ink_1
theorem dksX0_ink_0 : cX0_ink.data.toList.drop 0 = dktX0_ink_0 := by decide +kernel
theorem dksX0_ink_1 : cX0_ink.data.toList.drop 24 = dktX0_ink_1 := dk_seg dksX0_ink_0 24 rfl rfl
theorem dksX0_ink_2 : cX0_ink.data.toList.drop 48 = dktX0_ink_2 := dk_seg dksX0_ink_1 24 rfl rfl
theorem dX0_ink_0 : decode cX0_ink 0 = .ok (.aload_n 0, 1) := dk_42 (dk_at dksX0_ink_0 0 rfl rfl)
theorem dX0_ink_1 : decode cX0_ink 1 = .ok (.iload_n 1, 1) := dk_27 (dk_at dksX0_ink_0 1 rfl rfl)
theorem dX0_ink_2 : decode cX0_ink 2 = .ok (.invokevirtual 140, 3) := dk_182 0 140 (dk_at dksX0_ink_0 2 rfl rfl)
theorem dX0_ink_5 : decode cX0_ink 5 = .ok (.ifCond .eq 11, 3) := dk_153 0 11 (dk_at dksX0_ink_0 5 rfl rfl)
theorem dX0_ink_8 : decode cX0_ink 8 = .ok (.iload_n 2, 1) := dk_28 (dk_at dksX0_ink_0 8 rfl rfl)
theorem dX0_ink_9 : decode cX0_ink 9 = .ok (.iconst 3, 1) := dk_6 (dk_at dksX0_ink_0 9 rfl rfl)
theorem dX0_ink_10 : decode cX0_ink 10 = .ok (.invokestatic 144, 3) := dk_184 0 144 (dk_at dksX0_ink_0 10 rfl rfl)
theorem dX0_ink_13 : decode cX0_ink 13 = .ok (.ifCond .ne 6, 3) := dk_154 0 6 (dk_at dksX0_ink_0 13 rfl rfl)
theorem dX0_ink_16 : decode cX0_ink 16 = .ok (.bipush (-2), 2) := dk_16 254 (dk_at dksX0_ink_0 16 rfl rfl)
theorem dX0_ink_18 : decode cX0_ink 18 = .ok (.ireturn, 1) := dk_172 (dk_at dksX0_ink_0 18 rfl rfl)
theorem dX0_ink_19 : decode cX0_ink 19 = .ok (.iload_n 2, 1) := dk_28 (dk_at dksX0_ink_0 19 rfl rfl)
theorem dX0_ink_20 : decode cX0_ink 20 = .ok (.ifCond .ne 15, 3) := dk_154 0 15 (dk_at dksX0_ink_0 20 rfl rfl)
theorem dX0_ink_23 : decode cX0_ink 23 = .ok (.aload_n 0, 1) := dk_42 (dk_at dksX0_ink_0 23 rfl rfl)
theorem dX0_ink_24 : decode cX0_ink 24 = .ok (.getfield 10, 3) := dk_180 0 10 (dk_at dksX0_ink_1 0 rfl rfl)
theorem dX0_ink_27 : decode cX0_ink 27 = .ok (.getfield 148, 3) := dk_180 0 148 (dk_at dksX0_ink_1 3 rfl rfl)
theorem dX0_ink_30 : decode cX0_ink 30 = .ok (.iload_n 1, 1) := dk_27 (dk_at dksX0_ink_1 6 rfl rfl)
theorem dX0_ink_31 : decode cX0_ink 31 = .ok (.iaload, 1) := dk_46 (dk_at dksX0_ink_1 7 rfl rfl)
theorem dX0_ink_32 : decode cX0_ink 32 = .ok (.goto 29, 3) := dk_167 0 29 (dk_at dksX0_ink_1 8 rfl rfl)
theorem dX0_ink_35 : decode cX0_ink 35 = .ok (.iload_n 2, 1) := dk_28 (dk_at dksX0_ink_1 11 rfl rfl)
theorem dX0_ink_36 : decode cX0_ink 36 = .ok (.iconst 1, 1) := dk_4 (dk_at dksX0_ink_1 12 rfl rfl)
theorem dX0_ink_37 : decode cX0_ink 37 = .ok (.if_icmp .ne 15, 3) := dk_160 0 15 (dk_at dksX0_ink_1 13 rfl rfl)
theorem dX0_ink_40 : decode cX0_ink 40 = .ok (.aload_n 0, 1) := dk_42 (dk_at dksX0_ink_1 16 rfl rfl)
theorem dX0_ink_41 : decode cX0_ink 41 = .ok (.getfield 10, 3) := dk_180 0 10 (dk_at dksX0_ink_1 17 rfl rfl)
theorem dX0_ink_44 : decode cX0_ink 44 = .ok (.getfield 151, 3) := dk_180 0 151 (dk_at dksX0_ink_1 20 rfl rfl)
theorem dX0_ink_47 : decode cX0_ink 47 = .ok (.iload_n 1, 1) := dk_27 (dk_at dksX0_ink_1 23 rfl rfl)
theorem dX0_ink_48 : decode cX0_ink 48 = .ok (.iaload, 1) := dk_46 (dk_at dksX0_ink_2 0 rfl rfl)
theorem dX0_ink_49 : decode cX0_ink 49 = .ok (.goto 12, 3) := dk_167 0 12 (dk_at dksX0_ink_2 1 rfl rfl)
theorem dX0_ink_52 : decode cX0_ink 52 = .ok (.aload_n 0, 1) := dk_42 (dk_at dksX0_ink_2 4 rfl rfl)
theorem dX0_ink_53 : decode cX0_ink 53 = .ok (.getfield 10, 3) := dk_180 0 10 (dk_at dksX0_ink_2 5 rfl rfl)
theorem dX0_ink_56 : decode cX0_ink 56 = .ok (.getfield 154, 3) := dk_180 0 154 (dk_at dksX0_ink_2 8 rfl rfl)
theorem dX0_ink_59 : decode cX0_ink 59 = .ok (.iload_n 1, 1) := dk_27 (dk_at dksX0_ink_2 11 rfl rfl)
theorem dX0_ink_60 : decode cX0_ink 60 = .ok (.iaload, 1) := dk_46 (dk_at dksX0_ink_2 12 rfl rfl)
theorem dX0_ink_61 : decode cX0_ink 61 = .ok (.ireturn, 1) := dk_172 (dk_at dksX0_ink_2 13 rfl rfl)
abbrev cX0_isInk : ByteArray := prog_1_method_10_code
def yX0_isInk : MethodName := ⟨RX0, "isInk", "(I)Z"⟩
def dkwX0_isInk_0 : List UInt8 := [27, 133, 9, 42, 180, 0, 10, 180, 0, 120, 4, 100, 133, 184, 0, 95, 172]
abbrev dktX0_isInk_0 : List UInt8 := dkwX0_isInk_0 ++ []
theorem dksX0_isInk_0 : cX0_isInk.data.toList.drop 0 = dktX0_isInk_0 := by decide +kernel
theorem dX0_isInk_0 : decode cX0_isInk 0 = .ok (.iload_n 1, 1) := dk_27 (dk_at dksX0_isInk_0 0 rfl rfl)
theorem dX0_isInk_1 : decode cX0_isInk 1 = .ok (.i2l, 1) := dk_133 (dk_at dksX0_isInk_0 1 rfl rfl)
theorem dX0_isInk_2 : decode cX0_isInk 2 = .ok (.lconst 0, 1) := dk_9 (dk_at dksX0_isInk_0 2 rfl rfl)
theorem dX0_isInk_3 : decode cX0_isInk 3 = .ok (.aload_n 0, 1) := dk_42 (dk_at dksX0_isInk_0 3 rfl rfl)
theorem dX0_isInk_4 : decode cX0_isInk 4 = .ok (.getfield 10, 3) := dk_180 0 10 (dk_at dksX0_isInk_0 4 rfl rfl)
theorem dX0_isInk_7 : decode cX0_isInk 7 = .ok (.getfield 120, 3) := dk_180 0 120 (dk_at dksX0_isInk_0 7 rfl rfl)
theorem dX0_isInk_10 : decode cX0_isInk 10 = .ok (.iconst 1, 1) := dk_4 (dk_at dksX0_isInk_0 10 rfl rfl)
theorem dX0_isInk_11 : decode cX0_isInk 11 = .ok (.isub, 1) := dk_100 (dk_at dksX0_isInk_0 11 rfl rfl)
theorem dX0_isInk_12 : decode cX0_isInk 12 = .ok (.i2l, 1) := dk_133 (dk_at dksX0_isInk_0 12 rfl rfl)
theorem dX0_isInk_13 : decode cX0_isInk 13 = .ok (.invokestatic 95, 3) := dk_184 0 95 (dk_at dksX0_isInk_0 13 rfl rfl)
theorem dX0_isInk_16 : decode cX0_isInk 16 = .ok (.ireturn, 1) := dk_172 (dk_at dksX0_isInk_0 16 rfl rfl)
abbrev cX0_isOneOf : ByteArray := prog_1_method_15_code
def yX0_isOneOf : MethodName := ⟨RX0, "isOneOf", "(II)Z"⟩
def dkwX0_isOneOf_0 : List UInt8 := [26, 133, 9, 27, 4, 100, 133, 184, 0, 95, 172]
abbrev dktX0_isOneOf_0 : List UInt8 := dkwX0_isOneOf_0 ++ []
theorem dksX0_isOneOf_0 : cX0_isOneOf.data.toList.drop 0 = dktX0_isOneOf_0 := by decide +kernel
theorem dX0_isOneOf_0 : decode cX0_isOneOf 0 = .ok (.iload_n 0, 1) := dk_26 (dk_at dksX0_isOneOf_0 0 rfl rfl)
theorem dX0_isOneOf_1 : decode cX0_isOneOf 1 = .ok (.i2l, 1) := dk_133 (dk_at dksX0_isOneOf_0 1 rfl rfl)
theorem dX0_isOneOf_2 : decode cX0_isOneOf 2 = .ok (.lconst 0, 1) := dk_9 (dk_at dksX0_isOneOf_0 2 rfl rfl)
theorem dX0_isOneOf_3 : decode cX0_isOneOf 3 = .ok (.iload_n 1, 1) := dk_27 (dk_at dksX0_isOneOf_0 3 rfl rfl)
theorem dX0_isOneOf_4 : decode cX0_isOneOf 4 = .ok (.iconst 1, 1) := dk_4 (dk_at dksX0_isOneOf_0 4 rfl rfl)
theorem dX0_isOneOf_5 : decode cX0_isOneOf 5 = .ok (.isub, 1) := dk_100 (dk_at dksX0_isOneOf_0 5 rfl rfl)
theorem dX0_isOneOf_6 : decode cX0_isOneOf 6 = .ok (.i2l, 1) := dk_133 (dk_at dksX0_isOneOf_0 6 rfl rfl)
theorem dX0_isOneOf_7 : decode cX0_isOneOf 7 = .ok (.invokestatic 95, 3) := dk_184 0 95 (dk_at dksX0_isOneOf_0 7 rfl rfl)
theorem dX0_isOneOf_10 : decode cX0_isOneOf 10 = .ok (.ireturn, 1) := dk_172 (dk_at dksX0_isOneOf_0 10 rfl rfl)
abbrev cX0_page : ByteArray := prog_1_method_19_code
def yX0_page : MethodName := ⟨RX0, "page", "(I)I"⟩
def dkwX0_page_1 : List UInt8 := [172]
abbrev dktX0_page_1 : List UInt8 := dkwX0_page_1 ++ []
def dkwX0_page_0 : List UInt8 := [42, 27, 182, 0, 157, 153, 0, 17, 42, 180, 0, 10, 180, 0, 160, 27, 122, 4, 126, 167, 0, 5, 16, 254]
abbrev dktX0_page_0 : List UInt8 := dkwX0_page_0 ++ dktX0_page_1
theorem dksX0_page_0 : cX0_page.data.toList.drop 0 = dktX0_page_0 := by decide +kernel
theorem dksX0_page_1 : cX0_page.data.toList.drop 24 = dktX0_page_1 := dk_seg dksX0_page_0 24 rfl rfl
theorem dX0_page_0 : decode cX0_page 0 = .ok (.aload_n 0, 1) := dk_42 (dk_at dksX0_page_0 0 rfl rfl)
theorem dX0_page_1 : decode cX0_page 1 = .ok (.iload_n 1, 1) := dk_27 (dk_at dksX0_page_0 1 rfl rfl)
theorem dX0_page_2 : decode cX0_page 2 = .ok (.invokevirtual 157, 3) := dk_182 0 157 (dk_at dksX0_page_0 2 rfl rfl)
theorem dX0_page_5 : decode cX0_page 5 = .ok (.ifCond .eq 17, 3) := dk_153 0 17 (dk_at dksX0_page_0 5 rfl rfl)
theorem dX0_page_8 : decode cX0_page 8 = .ok (.aload_n 0, 1) := dk_42 (dk_at dksX0_page_0 8 rfl rfl)
theorem dX0_page_9 : decode cX0_page 9 = .ok (.getfield 10, 3) := dk_180 0 10 (dk_at dksX0_page_0 9 rfl rfl)
theorem dX0_page_12 : decode cX0_page 12 = .ok (.getfield 160, 3) := dk_180 0 160 (dk_at dksX0_page_0 12 rfl rfl)
theorem dX0_page_15 : decode cX0_page 15 = .ok (.iload_n 1, 1) := dk_27 (dk_at dksX0_page_0 15 rfl rfl)
theorem dX0_page_16 : decode cX0_page 16 = .ok (.ishr, 1) := dk_122 (dk_at dksX0_page_0 16 rfl rfl)
theorem dX0_page_17 : decode cX0_page 17 = .ok (.iconst 1, 1) := dk_4 (dk_at dksX0_page_0 17 rfl rfl)
theorem dX0_page_18 : decode cX0_page 18 = .ok (.iand, 1) := dk_126 (dk_at dksX0_page_0 18 rfl rfl)
theorem dX0_page_19 : decode cX0_page 19 = .ok (.goto 5, 3) := dk_167 0 5 (dk_at dksX0_page_0 19 rfl rfl)
theorem dX0_page_22 : decode cX0_page 22 = .ok (.bipush (-2), 2) := dk_16 254 (dk_at dksX0_page_0 22 rfl rfl)
theorem dX0_page_24 : decode cX0_page 24 = .ok (.ireturn, 1) := dk_172 (dk_at dksX0_page_1 0 rfl rfl)
abbrev cX0_isPage : ByteArray := prog_1_method_11_code
def yX0_isPage : MethodName := ⟨RX0, "isPage", "(I)Z"⟩
def dkwX0_isPage_0 : List UInt8 := [27, 133, 9, 42, 180, 0, 10, 180, 0, 123, 4, 100, 133, 184, 0, 95, 172]
abbrev dktX0_isPage_0 : List UInt8 := dkwX0_isPage_0 ++ []
theorem dksX0_isPage_0 : cX0_isPage.data.toList.drop 0 = dktX0_isPage_0 := by decide +kernel
theorem dX0_isPage_0 : decode cX0_isPage 0 = .ok (.iload_n 1, 1) := dk_27 (dk_at dksX0_isPage_0 0 rfl rfl)
theorem dX0_isPage_1 : decode cX0_isPage 1 = .ok (.i2l, 1) := dk_133 (dk_at dksX0_isPage_0 1 rfl rfl)
theorem dX0_isPage_2 : decode cX0_isPage 2 = .ok (.lconst 0, 1) := dk_9 (dk_at dksX0_isPage_0 2 rfl rfl)
theorem dX0_isPage_3 : decode cX0_isPage 3 = .ok (.aload_n 0, 1) := dk_42 (dk_at dksX0_isPage_0 3 rfl rfl)
theorem dX0_isPage_4 : decode cX0_isPage 4 = .ok (.getfield 10, 3) := dk_180 0 10 (dk_at dksX0_isPage_0 4 rfl rfl)
theorem dX0_isPage_7 : decode cX0_isPage 7 = .ok (.getfield 123, 3) := dk_180 0 123 (dk_at dksX0_isPage_0 7 rfl rfl)
theorem dX0_isPage_10 : decode cX0_isPage 10 = .ok (.iconst 1, 1) := dk_4 (dk_at dksX0_isPage_0 10 rfl rfl)
theorem dX0_isPage_11 : decode cX0_isPage 11 = .ok (.isub, 1) := dk_100 (dk_at dksX0_isPage_0 11 rfl rfl)
theorem dX0_isPage_12 : decode cX0_isPage 12 = .ok (.i2l, 1) := dk_133 (dk_at dksX0_isPage_0 12 rfl rfl)
theorem dX0_isPage_13 : decode cX0_isPage 13 = .ok (.invokestatic 95, 3) := dk_184 0 95 (dk_at dksX0_isPage_0 13 rfl rfl)
theorem dX0_isPage_16 : decode cX0_isPage 16 = .ok (.ireturn, 1) := dk_172 (dk_at dksX0_isPage_0 16 rfl rfl)
abbrev cX0_entry : ByteArray := prog_1_method_20_code
def yX0_entry : MethodName := ⟨RX0, "entry", "(II)I"⟩
def dkwX0_entry_4 : List UInt8 := [172, 16, 254, 172]
abbrev dktX0_entry_4 : List UInt8 := dkwX0_entry_4 ++ []
def dkwX0_entry_3 : List UInt8 := [180, 0, 173, 27, 46, 172, 42, 180, 0, 10, 180, 0, 176, 27, 46, 172, 42, 180, 0, 10, 27, 182, 0, 179]
abbrev dktX0_entry_3 : List UInt8 := dkwX0_entry_3 ++ dktX0_entry_4
def dkwX0_entry_2 : List UInt8 := [42, 180, 0, 10, 180, 0, 167, 27, 46, 172, 42, 180, 0, 10, 180, 0, 170, 27, 46, 172, 42, 180, 0, 10]
abbrev dktX0_entry_2 : List UInt8 := dkwX0_entry_2 ++ dktX0_entry_3
def dkwX0_entry_1 : List UInt8 := [170, 0, 0, 0, 0, 0, 84, 0, 0, 0, 0, 0, 0, 0, 4, 0, 0, 0, 35, 0, 0, 0, 45, 0, 0, 0, 55, 0, 0, 0, 65, 0, 0, 0, 75]
abbrev dktX0_entry_1 : List UInt8 := dkwX0_entry_1 ++ dktX0_entry_2
def dkwX0_entry_0 : List UInt8 := [42, 27, 133, 182, 0, 163, 154, 0, 6, 16, 254, 172, 28]
abbrev dktX0_entry_0 : List UInt8 := dkwX0_entry_0 ++ dktX0_entry_1
theorem dksX0_entry_0 : cX0_entry.data.toList.drop 0 = dktX0_entry_0 := by decide +kernel
theorem dksX0_entry_1 : cX0_entry.data.toList.drop 13 = dktX0_entry_1 := dk_seg dksX0_entry_0 13 rfl rfl
theorem dksX0_entry_2 : cX0_entry.data.toList.drop 48 = dktX0_entry_2 := dk_seg dksX0_entry_1 35 rfl rfl
theorem dksX0_entry_3 : cX0_entry.data.toList.drop 72 = dktX0_entry_3 := dk_seg dksX0_entry_2 24 rfl rfl
theorem dksX0_entry_4 : cX0_entry.data.toList.drop 96 = dktX0_entry_4 := dk_seg dksX0_entry_3 24 rfl rfl
theorem dX0_entry_0 : decode cX0_entry 0 = .ok (.aload_n 0, 1) := dk_42 (dk_at dksX0_entry_0 0 rfl rfl)
theorem dX0_entry_1 : decode cX0_entry 1 = .ok (.iload_n 1, 1) := dk_27 (dk_at dksX0_entry_0 1 rfl rfl)
theorem dX0_entry_2 : decode cX0_entry 2 = .ok (.i2l, 1) := dk_133 (dk_at dksX0_entry_0 2 rfl rfl)
theorem dX0_entry_3 : decode cX0_entry 3 = .ok (.invokevirtual 163, 3) := dk_182 0 163 (dk_at dksX0_entry_0 3 rfl rfl)
theorem dX0_entry_6 : decode cX0_entry 6 = .ok (.ifCond .ne 6, 3) := dk_154 0 6 (dk_at dksX0_entry_0 6 rfl rfl)
theorem dX0_entry_9 : decode cX0_entry 9 = .ok (.bipush (-2), 2) := dk_16 254 (dk_at dksX0_entry_0 9 rfl rfl)
theorem dX0_entry_11 : decode cX0_entry 11 = .ok (.ireturn, 1) := dk_172 (dk_at dksX0_entry_0 11 rfl rfl)
theorem dX0_entry_12 : decode cX0_entry 12 = .ok (.iload_n 2, 1) := dk_28 (dk_at dksX0_entry_0 12 rfl rfl)
theorem dX0_entry_13 : decode cX0_entry 13 = .ok (.tableswitch 84 0 4 #[35, 45, 55, 65, 75], 35) := by decide +kernel
theorem dX0_entry_48 : decode cX0_entry 48 = .ok (.aload_n 0, 1) := dk_42 (dk_at dksX0_entry_2 0 rfl rfl)
theorem dX0_entry_49 : decode cX0_entry 49 = .ok (.getfield 10, 3) := dk_180 0 10 (dk_at dksX0_entry_2 1 rfl rfl)
theorem dX0_entry_52 : decode cX0_entry 52 = .ok (.getfield 167, 3) := dk_180 0 167 (dk_at dksX0_entry_2 4 rfl rfl)
theorem dX0_entry_55 : decode cX0_entry 55 = .ok (.iload_n 1, 1) := dk_27 (dk_at dksX0_entry_2 7 rfl rfl)
theorem dX0_entry_56 : decode cX0_entry 56 = .ok (.iaload, 1) := dk_46 (dk_at dksX0_entry_2 8 rfl rfl)
theorem dX0_entry_57 : decode cX0_entry 57 = .ok (.ireturn, 1) := dk_172 (dk_at dksX0_entry_2 9 rfl rfl)
theorem dX0_entry_58 : decode cX0_entry 58 = .ok (.aload_n 0, 1) := dk_42 (dk_at dksX0_entry_2 10 rfl rfl)
theorem dX0_entry_59 : decode cX0_entry 59 = .ok (.getfield 10, 3) := dk_180 0 10 (dk_at dksX0_entry_2 11 rfl rfl)
theorem dX0_entry_62 : decode cX0_entry 62 = .ok (.getfield 170, 3) := dk_180 0 170 (dk_at dksX0_entry_2 14 rfl rfl)
theorem dX0_entry_65 : decode cX0_entry 65 = .ok (.iload_n 1, 1) := dk_27 (dk_at dksX0_entry_2 17 rfl rfl)
theorem dX0_entry_66 : decode cX0_entry 66 = .ok (.iaload, 1) := dk_46 (dk_at dksX0_entry_2 18 rfl rfl)
theorem dX0_entry_67 : decode cX0_entry 67 = .ok (.ireturn, 1) := dk_172 (dk_at dksX0_entry_2 19 rfl rfl)
theorem dX0_entry_68 : decode cX0_entry 68 = .ok (.aload_n 0, 1) := dk_42 (dk_at dksX0_entry_2 20 rfl rfl)
theorem dX0_entry_69 : decode cX0_entry 69 = .ok (.getfield 10, 3) := dk_180 0 10 (dk_at dksX0_entry_2 21 rfl rfl)
theorem dX0_entry_72 : decode cX0_entry 72 = .ok (.getfield 173, 3) := dk_180 0 173 (dk_at dksX0_entry_3 0 rfl rfl)
theorem dX0_entry_75 : decode cX0_entry 75 = .ok (.iload_n 1, 1) := dk_27 (dk_at dksX0_entry_3 3 rfl rfl)
theorem dX0_entry_76 : decode cX0_entry 76 = .ok (.iaload, 1) := dk_46 (dk_at dksX0_entry_3 4 rfl rfl)
theorem dX0_entry_77 : decode cX0_entry 77 = .ok (.ireturn, 1) := dk_172 (dk_at dksX0_entry_3 5 rfl rfl)
theorem dX0_entry_78 : decode cX0_entry 78 = .ok (.aload_n 0, 1) := dk_42 (dk_at dksX0_entry_3 6 rfl rfl)
theorem dX0_entry_79 : decode cX0_entry 79 = .ok (.getfield 10, 3) := dk_180 0 10 (dk_at dksX0_entry_3 7 rfl rfl)
theorem dX0_entry_82 : decode cX0_entry 82 = .ok (.getfield 176, 3) := dk_180 0 176 (dk_at dksX0_entry_3 10 rfl rfl)
theorem dX0_entry_85 : decode cX0_entry 85 = .ok (.iload_n 1, 1) := dk_27 (dk_at dksX0_entry_3 13 rfl rfl)
theorem dX0_entry_86 : decode cX0_entry 86 = .ok (.iaload, 1) := dk_46 (dk_at dksX0_entry_3 14 rfl rfl)
theorem dX0_entry_87 : decode cX0_entry 87 = .ok (.ireturn, 1) := dk_172 (dk_at dksX0_entry_3 15 rfl rfl)
theorem dX0_entry_88 : decode cX0_entry 88 = .ok (.aload_n 0, 1) := dk_42 (dk_at dksX0_entry_3 16 rfl rfl)
theorem dX0_entry_89 : decode cX0_entry 89 = .ok (.getfield 10, 3) := dk_180 0 10 (dk_at dksX0_entry_3 17 rfl rfl)
theorem dX0_entry_92 : decode cX0_entry 92 = .ok (.iload_n 1, 1) := dk_27 (dk_at dksX0_entry_3 20 rfl rfl)
theorem dX0_entry_93 : decode cX0_entry 93 = .ok (.invokevirtual 179, 3) := dk_182 0 179 (dk_at dksX0_entry_3 21 rfl rfl)
theorem dX0_entry_96 : decode cX0_entry 96 = .ok (.ireturn, 1) := dk_172 (dk_at dksX0_entry_4 0 rfl rfl)
theorem dX0_entry_97 : decode cX0_entry 97 = .ok (.bipush (-2), 2) := dk_16 254 (dk_at dksX0_entry_4 1 rfl rfl)
theorem dX0_entry_99 : decode cX0_entry 99 = .ok (.ireturn, 1) := dk_172 (dk_at dksX0_entry_4 3 rfl rfl)
abbrev cX0_isEntry : ByteArray := prog_1_method_12_code
def yX0_isEntry : MethodName := ⟨RX0, "isEntry", "(J)Z"⟩
def dkwX0_isEntry_0 : List UInt8 := [31, 9, 42, 180, 0, 10, 180, 0, 126, 4, 100, 133, 184, 0, 95, 172]
abbrev dktX0_isEntry_0 : List UInt8 := dkwX0_isEntry_0 ++ []
theorem dksX0_isEntry_0 : cX0_isEntry.data.toList.drop 0 = dktX0_isEntry_0 := by decide +kernel
theorem dX0_isEntry_0 : decode cX0_isEntry 0 = .ok (.lload_n 1, 1) := dk_31 (dk_at dksX0_isEntry_0 0 rfl rfl)
theorem dX0_isEntry_1 : decode cX0_isEntry 1 = .ok (.lconst 0, 1) := dk_9 (dk_at dksX0_isEntry_0 1 rfl rfl)
theorem dX0_isEntry_2 : decode cX0_isEntry 2 = .ok (.aload_n 0, 1) := dk_42 (dk_at dksX0_isEntry_0 2 rfl rfl)
theorem dX0_isEntry_3 : decode cX0_isEntry 3 = .ok (.getfield 10, 3) := dk_180 0 10 (dk_at dksX0_isEntry_0 3 rfl rfl)
theorem dX0_isEntry_6 : decode cX0_isEntry 6 = .ok (.getfield 126, 3) := dk_180 0 126 (dk_at dksX0_isEntry_0 6 rfl rfl)
theorem dX0_isEntry_9 : decode cX0_isEntry 9 = .ok (.iconst 1, 1) := dk_4 (dk_at dksX0_isEntry_0 9 rfl rfl)
theorem dX0_isEntry_10 : decode cX0_isEntry 10 = .ok (.isub, 1) := dk_100 (dk_at dksX0_isEntry_0 10 rfl rfl)
theorem dX0_isEntry_11 : decode cX0_isEntry 11 = .ok (.i2l, 1) := dk_133 (dk_at dksX0_isEntry_0 11 rfl rfl)
theorem dX0_isEntry_12 : decode cX0_isEntry 12 = .ok (.invokestatic 95, 3) := dk_184 0 95 (dk_at dksX0_isEntry_0 12 rfl rfl)
theorem dX0_isEntry_15 : decode cX0_isEntry 15 = .ok (.ireturn, 1) := dk_172 (dk_at dksX0_isEntry_0 15 rfl rfl)
abbrev cX0_on : ByteArray := prog_1_method_22_code
def yX0_on : MethodName := ⟨RX0, "on", "(I)I"⟩
def dkwX0_on_0 : List UInt8 := [42, 27, 182, 0, 157, 153, 0, 11, 42, 27, 182, 0, 182, 167, 0, 5, 16, 254, 172]
abbrev dktX0_on_0 : List UInt8 := dkwX0_on_0 ++ []
theorem dksX0_on_0 : cX0_on.data.toList.drop 0 = dktX0_on_0 := by decide +kernel
theorem dX0_on_0 : decode cX0_on 0 = .ok (.aload_n 0, 1) := dk_42 (dk_at dksX0_on_0 0 rfl rfl)
theorem dX0_on_1 : decode cX0_on 1 = .ok (.iload_n 1, 1) := dk_27 (dk_at dksX0_on_0 1 rfl rfl)
theorem dX0_on_2 : decode cX0_on 2 = .ok (.invokevirtual 157, 3) := dk_182 0 157 (dk_at dksX0_on_0 2 rfl rfl)
theorem dX0_on_5 : decode cX0_on 5 = .ok (.ifCond .eq 11, 3) := dk_153 0 11 (dk_at dksX0_on_0 5 rfl rfl)
theorem dX0_on_8 : decode cX0_on 8 = .ok (.aload_n 0, 1) := dk_42 (dk_at dksX0_on_0 8 rfl rfl)
theorem dX0_on_9 : decode cX0_on 9 = .ok (.iload_n 1, 1) := dk_27 (dk_at dksX0_on_0 9 rfl rfl)
theorem dX0_on_10 : decode cX0_on 10 = .ok (.invokevirtual 182, 3) := dk_182 0 182 (dk_at dksX0_on_0 10 rfl rfl)
theorem dX0_on_13 : decode cX0_on 13 = .ok (.goto 5, 3) := dk_167 0 5 (dk_at dksX0_on_0 13 rfl rfl)
theorem dX0_on_16 : decode cX0_on 16 = .ok (.bipush (-2), 2) := dk_16 254 (dk_at dksX0_on_0 16 rfl rfl)
theorem dX0_on_18 : decode cX0_on 18 = .ok (.ireturn, 1) := dk_172 (dk_at dksX0_on_0 18 rfl rfl)
abbrev cX0_onPage : ByteArray := prog_1_method_21_code
def yX0_onPage : MethodName := ⟨RX0, "onPage", "(I)I"⟩
def dkwX0_onPage_1 : List UInt8 := [46, 27, 160, 0, 9, 4, 29, 120, 167, 0, 4, 3, 128, 61, 132, 3, 1, 167, 255, 219, 28, 172]
abbrev dktX0_onPage_1 : List UInt8 := dkwX0_onPage_1 ++ []
def dkwX0_onPage_0 : List UInt8 := [3, 61, 3, 62, 29, 42, 180, 0, 10, 180, 0, 126, 162, 0, 32, 28, 42, 180, 0, 10, 180, 0, 167, 29]
abbrev dktX0_onPage_0 : List UInt8 := dkwX0_onPage_0 ++ dktX0_onPage_1
theorem dksX0_onPage_0 : cX0_onPage.data.toList.drop 0 = dktX0_onPage_0 := by decide +kernel
theorem dksX0_onPage_1 : cX0_onPage.data.toList.drop 24 = dktX0_onPage_1 := dk_seg dksX0_onPage_0 24 rfl rfl
theorem dX0_onPage_0 : decode cX0_onPage 0 = .ok (.iconst 0, 1) := dk_3 (dk_at dksX0_onPage_0 0 rfl rfl)
theorem dX0_onPage_1 : decode cX0_onPage 1 = .ok (.istore_n 2, 1) := dk_61 (dk_at dksX0_onPage_0 1 rfl rfl)
theorem dX0_onPage_2 : decode cX0_onPage 2 = .ok (.iconst 0, 1) := dk_3 (dk_at dksX0_onPage_0 2 rfl rfl)
theorem dX0_onPage_3 : decode cX0_onPage 3 = .ok (.istore_n 3, 1) := dk_62 (dk_at dksX0_onPage_0 3 rfl rfl)
theorem dX0_onPage_4 : decode cX0_onPage 4 = .ok (.iload_n 3, 1) := dk_29 (dk_at dksX0_onPage_0 4 rfl rfl)
theorem dX0_onPage_5 : decode cX0_onPage 5 = .ok (.aload_n 0, 1) := dk_42 (dk_at dksX0_onPage_0 5 rfl rfl)
theorem dX0_onPage_6 : decode cX0_onPage 6 = .ok (.getfield 10, 3) := dk_180 0 10 (dk_at dksX0_onPage_0 6 rfl rfl)
theorem dX0_onPage_9 : decode cX0_onPage 9 = .ok (.getfield 126, 3) := dk_180 0 126 (dk_at dksX0_onPage_0 9 rfl rfl)
theorem dX0_onPage_12 : decode cX0_onPage 12 = .ok (.if_icmp .ge 32, 3) := dk_162 0 32 (dk_at dksX0_onPage_0 12 rfl rfl)
theorem dX0_onPage_15 : decode cX0_onPage 15 = .ok (.iload_n 2, 1) := dk_28 (dk_at dksX0_onPage_0 15 rfl rfl)
theorem dX0_onPage_16 : decode cX0_onPage 16 = .ok (.aload_n 0, 1) := dk_42 (dk_at dksX0_onPage_0 16 rfl rfl)
theorem dX0_onPage_17 : decode cX0_onPage 17 = .ok (.getfield 10, 3) := dk_180 0 10 (dk_at dksX0_onPage_0 17 rfl rfl)
theorem dX0_onPage_20 : decode cX0_onPage 20 = .ok (.getfield 167, 3) := dk_180 0 167 (dk_at dksX0_onPage_0 20 rfl rfl)
theorem dX0_onPage_23 : decode cX0_onPage 23 = .ok (.iload_n 3, 1) := dk_29 (dk_at dksX0_onPage_0 23 rfl rfl)
theorem dX0_onPage_24 : decode cX0_onPage 24 = .ok (.iaload, 1) := dk_46 (dk_at dksX0_onPage_1 0 rfl rfl)
theorem dX0_onPage_25 : decode cX0_onPage 25 = .ok (.iload_n 1, 1) := dk_27 (dk_at dksX0_onPage_1 1 rfl rfl)
theorem dX0_onPage_26 : decode cX0_onPage 26 = .ok (.if_icmp .ne 9, 3) := dk_160 0 9 (dk_at dksX0_onPage_1 2 rfl rfl)
theorem dX0_onPage_29 : decode cX0_onPage 29 = .ok (.iconst 1, 1) := dk_4 (dk_at dksX0_onPage_1 5 rfl rfl)
theorem dX0_onPage_30 : decode cX0_onPage 30 = .ok (.iload_n 3, 1) := dk_29 (dk_at dksX0_onPage_1 6 rfl rfl)
theorem dX0_onPage_31 : decode cX0_onPage 31 = .ok (.ishl, 1) := dk_120 (dk_at dksX0_onPage_1 7 rfl rfl)
theorem dX0_onPage_32 : decode cX0_onPage 32 = .ok (.goto 4, 3) := dk_167 0 4 (dk_at dksX0_onPage_1 8 rfl rfl)
theorem dX0_onPage_35 : decode cX0_onPage 35 = .ok (.iconst 0, 1) := dk_3 (dk_at dksX0_onPage_1 11 rfl rfl)
theorem dX0_onPage_36 : decode cX0_onPage 36 = .ok (.ior, 1) := dk_128 (dk_at dksX0_onPage_1 12 rfl rfl)
theorem dX0_onPage_37 : decode cX0_onPage 37 = .ok (.istore_n 2, 1) := dk_61 (dk_at dksX0_onPage_1 13 rfl rfl)
theorem dX0_onPage_38 : decode cX0_onPage 38 = .ok (.iinc 3 1, 3) := dk_132 3 1 (dk_at dksX0_onPage_1 14 rfl rfl)
theorem dX0_onPage_41 : decode cX0_onPage 41 = .ok (.goto (-37), 3) := dk_167 255 219 (dk_at dksX0_onPage_1 17 rfl rfl)
theorem dX0_onPage_44 : decode cX0_onPage 44 = .ok (.iload_n 2, 1) := dk_28 (dk_at dksX0_onPage_1 20 rfl rfl)
theorem dX0_onPage_45 : decode cX0_onPage 45 = .ok (.ireturn, 1) := dk_172 (dk_at dksX0_onPage_1 21 rfl rfl)
abbrev cX0_faces : ByteArray := prog_1_method_24_code
def yX0_faces : MethodName := ⟨RX0, "faces", "(I)I"⟩
def dkwX0_faces_0 : List UInt8 := [42, 27, 133, 182, 0, 163, 153, 0, 11, 42, 27, 182, 0, 185, 167, 0, 5, 16, 254, 172]
abbrev dktX0_faces_0 : List UInt8 := dkwX0_faces_0 ++ []
theorem dksX0_faces_0 : cX0_faces.data.toList.drop 0 = dktX0_faces_0 := by decide +kernel
theorem dX0_faces_0 : decode cX0_faces 0 = .ok (.aload_n 0, 1) := dk_42 (dk_at dksX0_faces_0 0 rfl rfl)
theorem dX0_faces_1 : decode cX0_faces 1 = .ok (.iload_n 1, 1) := dk_27 (dk_at dksX0_faces_0 1 rfl rfl)
theorem dX0_faces_2 : decode cX0_faces 2 = .ok (.i2l, 1) := dk_133 (dk_at dksX0_faces_0 2 rfl rfl)
theorem dX0_faces_3 : decode cX0_faces 3 = .ok (.invokevirtual 163, 3) := dk_182 0 163 (dk_at dksX0_faces_0 3 rfl rfl)
theorem dX0_faces_6 : decode cX0_faces 6 = .ok (.ifCond .eq 11, 3) := dk_153 0 11 (dk_at dksX0_faces_0 6 rfl rfl)
theorem dX0_faces_9 : decode cX0_faces 9 = .ok (.aload_n 0, 1) := dk_42 (dk_at dksX0_faces_0 9 rfl rfl)
theorem dX0_faces_10 : decode cX0_faces 10 = .ok (.iload_n 1, 1) := dk_27 (dk_at dksX0_faces_0 10 rfl rfl)
theorem dX0_faces_11 : decode cX0_faces 11 = .ok (.invokevirtual 185, 3) := dk_182 0 185 (dk_at dksX0_faces_0 11 rfl rfl)
theorem dX0_faces_14 : decode cX0_faces 14 = .ok (.goto 5, 3) := dk_167 0 5 (dk_at dksX0_faces_0 14 rfl rfl)
theorem dX0_faces_17 : decode cX0_faces 17 = .ok (.bipush (-2), 2) := dk_16 254 (dk_at dksX0_faces_0 17 rfl rfl)
theorem dX0_faces_19 : decode cX0_faces 19 = .ok (.ireturn, 1) := dk_172 (dk_at dksX0_faces_0 19 rfl rfl)
abbrev cX0_facing : ByteArray := prog_1_method_23_code
def yX0_facing : MethodName := ⟨RX0, "facing", "(I)I"⟩
def dkwX0_facing_2 : List UInt8 := [180, 0, 10, 27, 182, 0, 179, 160, 0, 5, 28, 172, 132, 2, 1, 167, 255, 198, 2, 172]
abbrev dktX0_facing_2 : List UInt8 := dkwX0_facing_2 ++ []
def dkwX0_facing_1 : List UInt8 := [180, 0, 10, 180, 0, 167, 27, 46, 4, 130, 160, 0, 24, 42, 180, 0, 10, 28, 182, 0, 179, 42]
abbrev dktX0_facing_1 : List UInt8 := dkwX0_facing_1 ++ dktX0_facing_2
def dkwX0_facing_0 : List UInt8 := [3, 61, 28, 42, 180, 0, 10, 180, 0, 126, 162, 0, 53, 42, 180, 0, 10, 180, 0, 167, 28, 46, 42]
abbrev dktX0_facing_0 : List UInt8 := dkwX0_facing_0 ++ dktX0_facing_1
theorem dksX0_facing_0 : cX0_facing.data.toList.drop 0 = dktX0_facing_0 := by decide +kernel
theorem dksX0_facing_1 : cX0_facing.data.toList.drop 23 = dktX0_facing_1 := dk_seg dksX0_facing_0 23 rfl rfl
theorem dksX0_facing_2 : cX0_facing.data.toList.drop 45 = dktX0_facing_2 := dk_seg dksX0_facing_1 22 rfl rfl
theorem dX0_facing_0 : decode cX0_facing 0 = .ok (.iconst 0, 1) := dk_3 (dk_at dksX0_facing_0 0 rfl rfl)
theorem dX0_facing_1 : decode cX0_facing 1 = .ok (.istore_n 2, 1) := dk_61 (dk_at dksX0_facing_0 1 rfl rfl)
theorem dX0_facing_2 : decode cX0_facing 2 = .ok (.iload_n 2, 1) := dk_28 (dk_at dksX0_facing_0 2 rfl rfl)
theorem dX0_facing_3 : decode cX0_facing 3 = .ok (.aload_n 0, 1) := dk_42 (dk_at dksX0_facing_0 3 rfl rfl)
theorem dX0_facing_4 : decode cX0_facing 4 = .ok (.getfield 10, 3) := dk_180 0 10 (dk_at dksX0_facing_0 4 rfl rfl)
theorem dX0_facing_7 : decode cX0_facing 7 = .ok (.getfield 126, 3) := dk_180 0 126 (dk_at dksX0_facing_0 7 rfl rfl)
theorem dX0_facing_10 : decode cX0_facing 10 = .ok (.if_icmp .ge 53, 3) := dk_162 0 53 (dk_at dksX0_facing_0 10 rfl rfl)
theorem dX0_facing_13 : decode cX0_facing 13 = .ok (.aload_n 0, 1) := dk_42 (dk_at dksX0_facing_0 13 rfl rfl)
theorem dX0_facing_14 : decode cX0_facing 14 = .ok (.getfield 10, 3) := dk_180 0 10 (dk_at dksX0_facing_0 14 rfl rfl)
theorem dX0_facing_17 : decode cX0_facing 17 = .ok (.getfield 167, 3) := dk_180 0 167 (dk_at dksX0_facing_0 17 rfl rfl)
theorem dX0_facing_20 : decode cX0_facing 20 = .ok (.iload_n 2, 1) := dk_28 (dk_at dksX0_facing_0 20 rfl rfl)
theorem dX0_facing_21 : decode cX0_facing 21 = .ok (.iaload, 1) := dk_46 (dk_at dksX0_facing_0 21 rfl rfl)
theorem dX0_facing_22 : decode cX0_facing 22 = .ok (.aload_n 0, 1) := dk_42 (dk_at dksX0_facing_0 22 rfl rfl)
theorem dX0_facing_23 : decode cX0_facing 23 = .ok (.getfield 10, 3) := dk_180 0 10 (dk_at dksX0_facing_1 0 rfl rfl)
theorem dX0_facing_26 : decode cX0_facing 26 = .ok (.getfield 167, 3) := dk_180 0 167 (dk_at dksX0_facing_1 3 rfl rfl)
theorem dX0_facing_29 : decode cX0_facing 29 = .ok (.iload_n 1, 1) := dk_27 (dk_at dksX0_facing_1 6 rfl rfl)
theorem dX0_facing_30 : decode cX0_facing 30 = .ok (.iaload, 1) := dk_46 (dk_at dksX0_facing_1 7 rfl rfl)
theorem dX0_facing_31 : decode cX0_facing 31 = .ok (.iconst 1, 1) := dk_4 (dk_at dksX0_facing_1 8 rfl rfl)
theorem dX0_facing_32 : decode cX0_facing 32 = .ok (.ixor, 1) := dk_130 (dk_at dksX0_facing_1 9 rfl rfl)
theorem dX0_facing_33 : decode cX0_facing 33 = .ok (.if_icmp .ne 24, 3) := dk_160 0 24 (dk_at dksX0_facing_1 10 rfl rfl)
theorem dX0_facing_36 : decode cX0_facing 36 = .ok (.aload_n 0, 1) := dk_42 (dk_at dksX0_facing_1 13 rfl rfl)
theorem dX0_facing_37 : decode cX0_facing 37 = .ok (.getfield 10, 3) := dk_180 0 10 (dk_at dksX0_facing_1 14 rfl rfl)
theorem dX0_facing_40 : decode cX0_facing 40 = .ok (.iload_n 2, 1) := dk_28 (dk_at dksX0_facing_1 17 rfl rfl)
theorem dX0_facing_41 : decode cX0_facing 41 = .ok (.invokevirtual 179, 3) := dk_182 0 179 (dk_at dksX0_facing_1 18 rfl rfl)
theorem dX0_facing_44 : decode cX0_facing 44 = .ok (.aload_n 0, 1) := dk_42 (dk_at dksX0_facing_1 21 rfl rfl)
theorem dX0_facing_45 : decode cX0_facing 45 = .ok (.getfield 10, 3) := dk_180 0 10 (dk_at dksX0_facing_2 0 rfl rfl)
theorem dX0_facing_48 : decode cX0_facing 48 = .ok (.iload_n 1, 1) := dk_27 (dk_at dksX0_facing_2 3 rfl rfl)
theorem dX0_facing_49 : decode cX0_facing 49 = .ok (.invokevirtual 179, 3) := dk_182 0 179 (dk_at dksX0_facing_2 4 rfl rfl)
theorem dX0_facing_52 : decode cX0_facing 52 = .ok (.if_icmp .ne 5, 3) := dk_160 0 5 (dk_at dksX0_facing_2 7 rfl rfl)
theorem dX0_facing_55 : decode cX0_facing 55 = .ok (.iload_n 2, 1) := dk_28 (dk_at dksX0_facing_2 10 rfl rfl)
theorem dX0_facing_56 : decode cX0_facing 56 = .ok (.ireturn, 1) := dk_172 (dk_at dksX0_facing_2 11 rfl rfl)
theorem dX0_facing_57 : decode cX0_facing 57 = .ok (.iinc 2 1, 3) := dk_132 2 1 (dk_at dksX0_facing_2 12 rfl rfl)
theorem dX0_facing_60 : decode cX0_facing 60 = .ok (.goto (-58), 3) := dk_167 255 198 (dk_at dksX0_facing_2 15 rfl rfl)
theorem dX0_facing_63 : decode cX0_facing 63 = .ok (.iconst (-1), 1) := dk_2 (dk_at dksX0_facing_2 18 rfl rfl)
theorem dX0_facing_64 : decode cX0_facing 64 = .ok (.ireturn, 1) := dk_172 (dk_at dksX0_facing_2 19 rfl rfl)
abbrev cX0_there : ByteArray := prog_1_method_39_code
def yX0_there : MethodName := ⟨RX0, "there", "(I)I"⟩
def dkwX0_there_0 : List UInt8 := [42, 27, 182, 1, 27, 153, 0, 11, 42, 27, 182, 1, 30, 167, 0, 5, 16, 254, 172]
abbrev dktX0_there_0 : List UInt8 := dkwX0_there_0 ++ []
theorem dksX0_there_0 : cX0_there.data.toList.drop 0 = dktX0_there_0 := by decide +kernel
theorem dX0_there_0 : decode cX0_there 0 = .ok (.aload_n 0, 1) := dk_42 (dk_at dksX0_there_0 0 rfl rfl)
theorem dX0_there_1 : decode cX0_there 1 = .ok (.iload_n 1, 1) := dk_27 (dk_at dksX0_there_0 1 rfl rfl)
theorem dX0_there_2 : decode cX0_there 2 = .ok (.invokevirtual 283, 3) := dk_182 1 27 (dk_at dksX0_there_0 2 rfl rfl)
theorem dX0_there_5 : decode cX0_there 5 = .ok (.ifCond .eq 11, 3) := dk_153 0 11 (dk_at dksX0_there_0 5 rfl rfl)
theorem dX0_there_8 : decode cX0_there 8 = .ok (.aload_n 0, 1) := dk_42 (dk_at dksX0_there_0 8 rfl rfl)
theorem dX0_there_9 : decode cX0_there 9 = .ok (.iload_n 1, 1) := dk_27 (dk_at dksX0_there_0 9 rfl rfl)
theorem dX0_there_10 : decode cX0_there 10 = .ok (.invokevirtual 286, 3) := dk_182 1 30 (dk_at dksX0_there_0 10 rfl rfl)
theorem dX0_there_13 : decode cX0_there 13 = .ok (.goto 5, 3) := dk_167 0 5 (dk_at dksX0_there_0 13 rfl rfl)
theorem dX0_there_16 : decode cX0_there 16 = .ok (.bipush (-2), 2) := dk_16 254 (dk_at dksX0_there_0 16 rfl rfl)
theorem dX0_there_18 : decode cX0_there 18 = .ok (.ireturn, 1) := dk_172 (dk_at dksX0_there_0 18 rfl rfl)
abbrev cX0_asksYear : ByteArray := prog_1_method_34_code
def yX0_asksYear : MethodName := ⟨RX0, "asksYear", "(I)Z"⟩
def dkwX0_asksYear_0 : List UInt8 := [42, 182, 1, 18, 153, 0, 16, 42, 27, 133, 182, 1, 21, 153, 0, 7, 4, 167, 0, 4, 3, 172]
abbrev dktX0_asksYear_0 : List UInt8 := dkwX0_asksYear_0 ++ []
theorem dksX0_asksYear_0 : cX0_asksYear.data.toList.drop 0 = dktX0_asksYear_0 := by decide +kernel
theorem dX0_asksYear_0 : decode cX0_asksYear 0 = .ok (.aload_n 0, 1) := dk_42 (dk_at dksX0_asksYear_0 0 rfl rfl)
theorem dX0_asksYear_1 : decode cX0_asksYear 1 = .ok (.invokevirtual 274, 3) := dk_182 1 18 (dk_at dksX0_asksYear_0 1 rfl rfl)
theorem dX0_asksYear_4 : decode cX0_asksYear 4 = .ok (.ifCond .eq 16, 3) := dk_153 0 16 (dk_at dksX0_asksYear_0 4 rfl rfl)
theorem dX0_asksYear_7 : decode cX0_asksYear 7 = .ok (.aload_n 0, 1) := dk_42 (dk_at dksX0_asksYear_0 7 rfl rfl)
theorem dX0_asksYear_8 : decode cX0_asksYear 8 = .ok (.iload_n 1, 1) := dk_27 (dk_at dksX0_asksYear_0 8 rfl rfl)
theorem dX0_asksYear_9 : decode cX0_asksYear 9 = .ok (.i2l, 1) := dk_133 (dk_at dksX0_asksYear_0 9 rfl rfl)
theorem dX0_asksYear_10 : decode cX0_asksYear 10 = .ok (.invokevirtual 277, 3) := dk_182 1 21 (dk_at dksX0_asksYear_0 10 rfl rfl)
theorem dX0_asksYear_13 : decode cX0_asksYear 13 = .ok (.ifCond .eq 7, 3) := dk_153 0 7 (dk_at dksX0_asksYear_0 13 rfl rfl)
theorem dX0_asksYear_16 : decode cX0_asksYear 16 = .ok (.iconst 1, 1) := dk_4 (dk_at dksX0_asksYear_0 16 rfl rfl)
theorem dX0_asksYear_17 : decode cX0_asksYear 17 = .ok (.goto 4, 3) := dk_167 0 4 (dk_at dksX0_asksYear_0 17 rfl rfl)
theorem dX0_asksYear_20 : decode cX0_asksYear 20 = .ok (.iconst 0, 1) := dk_3 (dk_at dksX0_asksYear_0 20 rfl rfl)
theorem dX0_asksYear_21 : decode cX0_asksYear 21 = .ok (.ireturn, 1) := dk_172 (dk_at dksX0_asksYear_0 21 rfl rfl)
abbrev cX0_asksBook : ByteArray := prog_1_method_33_code
def yX0_asksBook : MethodName := ⟨RX0, "asksBook", "()Z"⟩
def dkwX0_asksBook_0 : List UInt8 := [42, 182, 1, 12, 42, 182, 1, 15, 42, 182, 0, 129, 172]
abbrev dktX0_asksBook_0 : List UInt8 := dkwX0_asksBook_0 ++ []
theorem dksX0_asksBook_0 : cX0_asksBook.data.toList.drop 0 = dktX0_asksBook_0 := by decide +kernel
theorem dX0_asksBook_0 : decode cX0_asksBook 0 = .ok (.aload_n 0, 1) := dk_42 (dk_at dksX0_asksBook_0 0 rfl rfl)
theorem dX0_asksBook_1 : decode cX0_asksBook 1 = .ok (.invokevirtual 268, 3) := dk_182 1 12 (dk_at dksX0_asksBook_0 1 rfl rfl)
theorem dX0_asksBook_4 : decode cX0_asksBook 4 = .ok (.aload_n 0, 1) := dk_42 (dk_at dksX0_asksBook_0 4 rfl rfl)
theorem dX0_asksBook_5 : decode cX0_asksBook 5 = .ok (.invokevirtual 271, 3) := dk_182 1 15 (dk_at dksX0_asksBook_0 5 rfl rfl)
theorem dX0_asksBook_8 : decode cX0_asksBook 8 = .ok (.aload_n 0, 1) := dk_42 (dk_at dksX0_asksBook_0 8 rfl rfl)
theorem dX0_asksBook_9 : decode cX0_asksBook 9 = .ok (.invokevirtual 129, 3) := dk_182 0 129 (dk_at dksX0_asksBook_0 9 rfl rfl)
theorem dX0_asksBook_12 : decode cX0_asksBook 12 = .ok (.ireturn, 1) := dk_172 (dk_at dksX0_asksBook_0 12 rfl rfl)
abbrev cX0_asItIs : ByteArray := prog_1_method_25_code
def yX0_asItIs : MethodName := ⟨RX0, "asItIs", "()V"⟩
def dkwX0_asItIs_3 : List UInt8 := [181, 0, 205, 42, 2, 181, 0, 208, 42, 3, 181, 0, 211, 42, 3, 181, 0, 214, 42, 3, 181, 0, 217, 177]
abbrev dktX0_asItIs_3 : List UInt8 := dkwX0_asItIs_3 ++ []
def dkwX0_asItIs_2 : List UInt8 := [16, 7, 184, 0, 193, 42, 42, 180, 0, 10, 180, 0, 160, 181, 0, 199, 42, 3, 181, 0, 202, 42, 2]
abbrev dktX0_asItIs_2 : List UInt8 := dkwX0_asItIs_2 ++ dktX0_asItIs_3
def dkwX0_asItIs_1 : List UInt8 := [42, 180, 0, 24, 3, 16, 7, 184, 0, 193, 42, 180, 0, 10, 180, 0, 170, 3, 42, 180, 0, 28, 3]
abbrev dktX0_asItIs_1 : List UInt8 := dkwX0_asItIs_1 ++ dktX0_asItIs_2
def dkwX0_asItIs_0 : List UInt8 := [42, 42, 180, 0, 58, 42, 180, 0, 10, 180, 0, 188, 50, 181, 0, 191, 42, 180, 0, 10, 180, 0, 173, 3]
abbrev dktX0_asItIs_0 : List UInt8 := dkwX0_asItIs_0 ++ dktX0_asItIs_1
theorem dksX0_asItIs_0 : cX0_asItIs.data.toList.drop 0 = dktX0_asItIs_0 := by decide +kernel
theorem dksX0_asItIs_1 : cX0_asItIs.data.toList.drop 24 = dktX0_asItIs_1 := dk_seg dksX0_asItIs_0 24 rfl rfl
theorem dksX0_asItIs_2 : cX0_asItIs.data.toList.drop 47 = dktX0_asItIs_2 := dk_seg dksX0_asItIs_1 23 rfl rfl
theorem dksX0_asItIs_3 : cX0_asItIs.data.toList.drop 70 = dktX0_asItIs_3 := dk_seg dksX0_asItIs_2 23 rfl rfl
theorem dX0_asItIs_0 : decode cX0_asItIs 0 = .ok (.aload_n 0, 1) := dk_42 (dk_at dksX0_asItIs_0 0 rfl rfl)
theorem dX0_asItIs_1 : decode cX0_asItIs 1 = .ok (.aload_n 0, 1) := dk_42 (dk_at dksX0_asItIs_0 1 rfl rfl)
theorem dX0_asItIs_2 : decode cX0_asItIs 2 = .ok (.getfield 58, 3) := dk_180 0 58 (dk_at dksX0_asItIs_0 2 rfl rfl)
theorem dX0_asItIs_5 : decode cX0_asItIs 5 = .ok (.aload_n 0, 1) := dk_42 (dk_at dksX0_asItIs_0 5 rfl rfl)
theorem dX0_asItIs_6 : decode cX0_asItIs 6 = .ok (.getfield 10, 3) := dk_180 0 10 (dk_at dksX0_asItIs_0 6 rfl rfl)
theorem dX0_asItIs_9 : decode cX0_asItIs 9 = .ok (.getfield 188, 3) := dk_180 0 188 (dk_at dksX0_asItIs_0 9 rfl rfl)
theorem dX0_asItIs_12 : decode cX0_asItIs 12 = .ok (.aaload, 1) := dk_50 (dk_at dksX0_asItIs_0 12 rfl rfl)
theorem dX0_asItIs_13 : decode cX0_asItIs 13 = .ok (.putfield 191, 3) := dk_181 0 191 (dk_at dksX0_asItIs_0 13 rfl rfl)
theorem dX0_asItIs_16 : decode cX0_asItIs 16 = .ok (.aload_n 0, 1) := dk_42 (dk_at dksX0_asItIs_0 16 rfl rfl)
theorem dX0_asItIs_17 : decode cX0_asItIs 17 = .ok (.getfield 10, 3) := dk_180 0 10 (dk_at dksX0_asItIs_0 17 rfl rfl)
theorem dX0_asItIs_20 : decode cX0_asItIs 20 = .ok (.getfield 173, 3) := dk_180 0 173 (dk_at dksX0_asItIs_0 20 rfl rfl)
theorem dX0_asItIs_23 : decode cX0_asItIs 23 = .ok (.iconst 0, 1) := dk_3 (dk_at dksX0_asItIs_0 23 rfl rfl)
theorem dX0_asItIs_24 : decode cX0_asItIs 24 = .ok (.aload_n 0, 1) := dk_42 (dk_at dksX0_asItIs_1 0 rfl rfl)
theorem dX0_asItIs_25 : decode cX0_asItIs 25 = .ok (.getfield 24, 3) := dk_180 0 24 (dk_at dksX0_asItIs_1 1 rfl rfl)
theorem dX0_asItIs_28 : decode cX0_asItIs 28 = .ok (.iconst 0, 1) := dk_3 (dk_at dksX0_asItIs_1 4 rfl rfl)
theorem dX0_asItIs_29 : decode cX0_asItIs 29 = .ok (.bipush 7, 2) := dk_16 7 (dk_at dksX0_asItIs_1 5 rfl rfl)
theorem dX0_asItIs_31 : decode cX0_asItIs 31 = .ok (.invokestatic 193, 3) := dk_184 0 193 (dk_at dksX0_asItIs_1 7 rfl rfl)
theorem dX0_asItIs_34 : decode cX0_asItIs 34 = .ok (.aload_n 0, 1) := dk_42 (dk_at dksX0_asItIs_1 10 rfl rfl)
theorem dX0_asItIs_35 : decode cX0_asItIs 35 = .ok (.getfield 10, 3) := dk_180 0 10 (dk_at dksX0_asItIs_1 11 rfl rfl)
theorem dX0_asItIs_38 : decode cX0_asItIs 38 = .ok (.getfield 170, 3) := dk_180 0 170 (dk_at dksX0_asItIs_1 14 rfl rfl)
theorem dX0_asItIs_41 : decode cX0_asItIs 41 = .ok (.iconst 0, 1) := dk_3 (dk_at dksX0_asItIs_1 17 rfl rfl)
theorem dX0_asItIs_42 : decode cX0_asItIs 42 = .ok (.aload_n 0, 1) := dk_42 (dk_at dksX0_asItIs_1 18 rfl rfl)
theorem dX0_asItIs_43 : decode cX0_asItIs 43 = .ok (.getfield 28, 3) := dk_180 0 28 (dk_at dksX0_asItIs_1 19 rfl rfl)
theorem dX0_asItIs_46 : decode cX0_asItIs 46 = .ok (.iconst 0, 1) := dk_3 (dk_at dksX0_asItIs_1 22 rfl rfl)
theorem dX0_asItIs_47 : decode cX0_asItIs 47 = .ok (.bipush 7, 2) := dk_16 7 (dk_at dksX0_asItIs_2 0 rfl rfl)
theorem dX0_asItIs_49 : decode cX0_asItIs 49 = .ok (.invokestatic 193, 3) := dk_184 0 193 (dk_at dksX0_asItIs_2 2 rfl rfl)
theorem dX0_asItIs_52 : decode cX0_asItIs 52 = .ok (.aload_n 0, 1) := dk_42 (dk_at dksX0_asItIs_2 5 rfl rfl)
theorem dX0_asItIs_53 : decode cX0_asItIs 53 = .ok (.aload_n 0, 1) := dk_42 (dk_at dksX0_asItIs_2 6 rfl rfl)
theorem dX0_asItIs_54 : decode cX0_asItIs 54 = .ok (.getfield 10, 3) := dk_180 0 10 (dk_at dksX0_asItIs_2 7 rfl rfl)
theorem dX0_asItIs_57 : decode cX0_asItIs 57 = .ok (.getfield 160, 3) := dk_180 0 160 (dk_at dksX0_asItIs_2 10 rfl rfl)
theorem dX0_asItIs_60 : decode cX0_asItIs 60 = .ok (.putfield 199, 3) := dk_181 0 199 (dk_at dksX0_asItIs_2 13 rfl rfl)
theorem dX0_asItIs_63 : decode cX0_asItIs 63 = .ok (.aload_n 0, 1) := dk_42 (dk_at dksX0_asItIs_2 16 rfl rfl)
theorem dX0_asItIs_64 : decode cX0_asItIs 64 = .ok (.iconst 0, 1) := dk_3 (dk_at dksX0_asItIs_2 17 rfl rfl)
theorem dX0_asItIs_65 : decode cX0_asItIs 65 = .ok (.putfield 202, 3) := dk_181 0 202 (dk_at dksX0_asItIs_2 18 rfl rfl)
theorem dX0_asItIs_68 : decode cX0_asItIs 68 = .ok (.aload_n 0, 1) := dk_42 (dk_at dksX0_asItIs_2 21 rfl rfl)
theorem dX0_asItIs_69 : decode cX0_asItIs 69 = .ok (.iconst (-1), 1) := dk_2 (dk_at dksX0_asItIs_2 22 rfl rfl)
theorem dX0_asItIs_70 : decode cX0_asItIs 70 = .ok (.putfield 205, 3) := dk_181 0 205 (dk_at dksX0_asItIs_3 0 rfl rfl)
theorem dX0_asItIs_73 : decode cX0_asItIs 73 = .ok (.aload_n 0, 1) := dk_42 (dk_at dksX0_asItIs_3 3 rfl rfl)
theorem dX0_asItIs_74 : decode cX0_asItIs 74 = .ok (.iconst (-1), 1) := dk_2 (dk_at dksX0_asItIs_3 4 rfl rfl)
theorem dX0_asItIs_75 : decode cX0_asItIs 75 = .ok (.putfield 208, 3) := dk_181 0 208 (dk_at dksX0_asItIs_3 5 rfl rfl)
theorem dX0_asItIs_78 : decode cX0_asItIs 78 = .ok (.aload_n 0, 1) := dk_42 (dk_at dksX0_asItIs_3 8 rfl rfl)
theorem dX0_asItIs_79 : decode cX0_asItIs 79 = .ok (.iconst 0, 1) := dk_3 (dk_at dksX0_asItIs_3 9 rfl rfl)
theorem dX0_asItIs_80 : decode cX0_asItIs 80 = .ok (.putfield 211, 3) := dk_181 0 211 (dk_at dksX0_asItIs_3 10 rfl rfl)
theorem dX0_asItIs_83 : decode cX0_asItIs 83 = .ok (.aload_n 0, 1) := dk_42 (dk_at dksX0_asItIs_3 13 rfl rfl)
theorem dX0_asItIs_84 : decode cX0_asItIs 84 = .ok (.iconst 0, 1) := dk_3 (dk_at dksX0_asItIs_3 14 rfl rfl)
theorem dX0_asItIs_85 : decode cX0_asItIs 85 = .ok (.putfield 214, 3) := dk_181 0 214 (dk_at dksX0_asItIs_3 15 rfl rfl)
theorem dX0_asItIs_88 : decode cX0_asItIs 88 = .ok (.aload_n 0, 1) := dk_42 (dk_at dksX0_asItIs_3 18 rfl rfl)
theorem dX0_asItIs_89 : decode cX0_asItIs 89 = .ok (.iconst 0, 1) := dk_3 (dk_at dksX0_asItIs_3 19 rfl rfl)
theorem dX0_asItIs_90 : decode cX0_asItIs 90 = .ok (.putfield 217, 3) := dk_181 0 217 (dk_at dksX0_asItIs_3 20 rfl rfl)
theorem dX0_asItIs_93 : decode cX0_asItIs 93 = .ok (.return_, 1) := dk_177 (dk_at dksX0_asItIs_3 23 rfl rfl)
abbrev cX0_lays : ByteArray := prog_1_method_32_code
def yX0_lays : MethodName := ⟨RX0, "lays", "()V"⟩
def dkwX0_lays_7 : List UInt8 := [180, 0, 231, 79, 132, 1, 1, 167, 255, 117, 177]
abbrev dktX0_lays_7 : List UInt8 := dkwX0_lays_7 ++ []
def dkwX0_lays_6 : List UInt8 := [180, 0, 31, 3, 42, 180, 0, 62, 16, 7, 27, 104, 16, 7, 184, 0, 193, 42, 180, 0, 65, 27, 42]
abbrev dktX0_lays_6 : List UInt8 := dkwX0_lays_6 ++ dktX0_lays_7
def dkwX0_lays_5 : List UInt8 := [42, 28, 42, 180, 0, 28, 28, 46, 182, 0, 247, 132, 2, 1, 167, 255, 213, 42, 27, 182, 1, 10, 42]
abbrev dktX0_lays_5 : List UInt8 := dkwX0_lays_5 ++ dktX0_lays_6
def dkwX0_lays_4 : List UInt8 := [180, 0, 126, 162, 0, 38, 42, 180, 0, 24, 28, 46, 27, 160, 0, 22, 28, 42, 180, 0, 205, 159, 0, 14]
abbrev dktX0_lays_4 : List UInt8 := dkwX0_lays_4 ++ dktX0_lays_5
def dkwX0_lays_3 : List UInt8 := [158, 0, 15, 42, 28, 27, 182, 1, 7, 132, 2, 1, 167, 255, 232, 3, 61, 28, 42, 180, 0, 10]
abbrev dktX0_lays_3 : List UInt8 := dkwX0_lays_3 ++ dktX0_lays_4
def dkwX0_lays_2 : List UInt8 := [180, 0, 34, 3, 16, 7, 184, 0, 193, 3, 61, 28, 42, 180, 0, 10, 180, 0, 126, 162, 0, 19, 27]
abbrev dktX0_lays_2 : List UInt8 := dkwX0_lays_2 ++ dktX0_lays_3
def dkwX0_lays_1 : List UInt8 := [167, 255, 240, 3, 60, 27, 42, 180, 0, 10, 180, 0, 133, 163, 0, 134, 42, 180, 0, 31, 3, 42]
abbrev dktX0_lays_1 : List UInt8 := dkwX0_lays_1 ++ dktX0_lays_2
def dkwX0_lays_0 : List UInt8 := [42, 3, 181, 0, 231, 3, 60, 27, 16, 7, 162, 0, 16, 42, 180, 0, 31, 27, 3, 79, 132, 1, 1]
abbrev dktX0_lays_0 : List UInt8 := dkwX0_lays_0 ++ dktX0_lays_1
theorem dksX0_lays_0 : cX0_lays.data.toList.drop 0 = dktX0_lays_0 := by decide +kernel
theorem dksX0_lays_1 : cX0_lays.data.toList.drop 23 = dktX0_lays_1 := dk_seg dksX0_lays_0 23 rfl rfl
theorem dksX0_lays_2 : cX0_lays.data.toList.drop 45 = dktX0_lays_2 := dk_seg dksX0_lays_1 22 rfl rfl
theorem dksX0_lays_3 : cX0_lays.data.toList.drop 68 = dktX0_lays_3 := dk_seg dksX0_lays_2 23 rfl rfl
theorem dksX0_lays_4 : cX0_lays.data.toList.drop 90 = dktX0_lays_4 := dk_seg dksX0_lays_3 22 rfl rfl
theorem dksX0_lays_5 : cX0_lays.data.toList.drop 114 = dktX0_lays_5 := dk_seg dksX0_lays_4 24 rfl rfl
theorem dksX0_lays_6 : cX0_lays.data.toList.drop 137 = dktX0_lays_6 := dk_seg dksX0_lays_5 23 rfl rfl
theorem dksX0_lays_7 : cX0_lays.data.toList.drop 160 = dktX0_lays_7 := dk_seg dksX0_lays_6 23 rfl rfl
theorem dX0_lays_0 : decode cX0_lays 0 = .ok (.aload_n 0, 1) := dk_42 (dk_at dksX0_lays_0 0 rfl rfl)
theorem dX0_lays_1 : decode cX0_lays 1 = .ok (.iconst 0, 1) := dk_3 (dk_at dksX0_lays_0 1 rfl rfl)
theorem dX0_lays_2 : decode cX0_lays 2 = .ok (.putfield 231, 3) := dk_181 0 231 (dk_at dksX0_lays_0 2 rfl rfl)
theorem dX0_lays_5 : decode cX0_lays 5 = .ok (.iconst 0, 1) := dk_3 (dk_at dksX0_lays_0 5 rfl rfl)
theorem dX0_lays_6 : decode cX0_lays 6 = .ok (.istore_n 1, 1) := dk_60 (dk_at dksX0_lays_0 6 rfl rfl)
theorem dX0_lays_7 : decode cX0_lays 7 = .ok (.iload_n 1, 1) := dk_27 (dk_at dksX0_lays_0 7 rfl rfl)
theorem dX0_lays_8 : decode cX0_lays 8 = .ok (.bipush 7, 2) := dk_16 7 (dk_at dksX0_lays_0 8 rfl rfl)
theorem dX0_lays_10 : decode cX0_lays 10 = .ok (.if_icmp .ge 16, 3) := dk_162 0 16 (dk_at dksX0_lays_0 10 rfl rfl)
theorem dX0_lays_13 : decode cX0_lays 13 = .ok (.aload_n 0, 1) := dk_42 (dk_at dksX0_lays_0 13 rfl rfl)
theorem dX0_lays_14 : decode cX0_lays 14 = .ok (.getfield 31, 3) := dk_180 0 31 (dk_at dksX0_lays_0 14 rfl rfl)
theorem dX0_lays_17 : decode cX0_lays 17 = .ok (.iload_n 1, 1) := dk_27 (dk_at dksX0_lays_0 17 rfl rfl)
theorem dX0_lays_18 : decode cX0_lays 18 = .ok (.iconst 0, 1) := dk_3 (dk_at dksX0_lays_0 18 rfl rfl)
theorem dX0_lays_19 : decode cX0_lays 19 = .ok (.iastore, 1) := dk_79 (dk_at dksX0_lays_0 19 rfl rfl)
theorem dX0_lays_20 : decode cX0_lays 20 = .ok (.iinc 1 1, 3) := dk_132 1 1 (dk_at dksX0_lays_0 20 rfl rfl)
theorem dX0_lays_23 : decode cX0_lays 23 = .ok (.goto (-16), 3) := dk_167 255 240 (dk_at dksX0_lays_1 0 rfl rfl)
theorem dX0_lays_26 : decode cX0_lays 26 = .ok (.iconst 0, 1) := dk_3 (dk_at dksX0_lays_1 3 rfl rfl)
theorem dX0_lays_27 : decode cX0_lays 27 = .ok (.istore_n 1, 1) := dk_60 (dk_at dksX0_lays_1 4 rfl rfl)
theorem dX0_lays_28 : decode cX0_lays 28 = .ok (.iload_n 1, 1) := dk_27 (dk_at dksX0_lays_1 5 rfl rfl)
theorem dX0_lays_29 : decode cX0_lays 29 = .ok (.aload_n 0, 1) := dk_42 (dk_at dksX0_lays_1 6 rfl rfl)
theorem dX0_lays_30 : decode cX0_lays 30 = .ok (.getfield 10, 3) := dk_180 0 10 (dk_at dksX0_lays_1 7 rfl rfl)
theorem dX0_lays_33 : decode cX0_lays 33 = .ok (.getfield 133, 3) := dk_180 0 133 (dk_at dksX0_lays_1 10 rfl rfl)
theorem dX0_lays_36 : decode cX0_lays 36 = .ok (.if_icmp .gt 134, 3) := dk_163 0 134 (dk_at dksX0_lays_1 13 rfl rfl)
theorem dX0_lays_39 : decode cX0_lays 39 = .ok (.aload_n 0, 1) := dk_42 (dk_at dksX0_lays_1 16 rfl rfl)
theorem dX0_lays_40 : decode cX0_lays 40 = .ok (.getfield 31, 3) := dk_180 0 31 (dk_at dksX0_lays_1 17 rfl rfl)
theorem dX0_lays_43 : decode cX0_lays 43 = .ok (.iconst 0, 1) := dk_3 (dk_at dksX0_lays_1 20 rfl rfl)
theorem dX0_lays_44 : decode cX0_lays 44 = .ok (.aload_n 0, 1) := dk_42 (dk_at dksX0_lays_1 21 rfl rfl)
theorem dX0_lays_45 : decode cX0_lays 45 = .ok (.getfield 34, 3) := dk_180 0 34 (dk_at dksX0_lays_2 0 rfl rfl)
theorem dX0_lays_48 : decode cX0_lays 48 = .ok (.iconst 0, 1) := dk_3 (dk_at dksX0_lays_2 3 rfl rfl)
theorem dX0_lays_49 : decode cX0_lays 49 = .ok (.bipush 7, 2) := dk_16 7 (dk_at dksX0_lays_2 4 rfl rfl)
theorem dX0_lays_51 : decode cX0_lays 51 = .ok (.invokestatic 193, 3) := dk_184 0 193 (dk_at dksX0_lays_2 6 rfl rfl)
theorem dX0_lays_54 : decode cX0_lays 54 = .ok (.iconst 0, 1) := dk_3 (dk_at dksX0_lays_2 9 rfl rfl)
theorem dX0_lays_55 : decode cX0_lays 55 = .ok (.istore_n 2, 1) := dk_61 (dk_at dksX0_lays_2 10 rfl rfl)
theorem dX0_lays_56 : decode cX0_lays 56 = .ok (.iload_n 2, 1) := dk_28 (dk_at dksX0_lays_2 11 rfl rfl)
theorem dX0_lays_57 : decode cX0_lays 57 = .ok (.aload_n 0, 1) := dk_42 (dk_at dksX0_lays_2 12 rfl rfl)
theorem dX0_lays_58 : decode cX0_lays 58 = .ok (.getfield 10, 3) := dk_180 0 10 (dk_at dksX0_lays_2 13 rfl rfl)
theorem dX0_lays_61 : decode cX0_lays 61 = .ok (.getfield 126, 3) := dk_180 0 126 (dk_at dksX0_lays_2 16 rfl rfl)
theorem dX0_lays_64 : decode cX0_lays 64 = .ok (.if_icmp .ge 19, 3) := dk_162 0 19 (dk_at dksX0_lays_2 19 rfl rfl)
theorem dX0_lays_67 : decode cX0_lays 67 = .ok (.iload_n 1, 1) := dk_27 (dk_at dksX0_lays_2 22 rfl rfl)
theorem dX0_lays_68 : decode cX0_lays 68 = .ok (.ifCond .le 15, 3) := dk_158 0 15 (dk_at dksX0_lays_3 0 rfl rfl)
theorem dX0_lays_71 : decode cX0_lays 71 = .ok (.aload_n 0, 1) := dk_42 (dk_at dksX0_lays_3 3 rfl rfl)
theorem dX0_lays_72 : decode cX0_lays 72 = .ok (.iload_n 2, 1) := dk_28 (dk_at dksX0_lays_3 4 rfl rfl)
theorem dX0_lays_73 : decode cX0_lays 73 = .ok (.iload_n 1, 1) := dk_27 (dk_at dksX0_lays_3 5 rfl rfl)
theorem dX0_lays_74 : decode cX0_lays 74 = .ok (.invokevirtual 263, 3) := dk_182 1 7 (dk_at dksX0_lays_3 6 rfl rfl)
theorem dX0_lays_77 : decode cX0_lays 77 = .ok (.iinc 2 1, 3) := dk_132 2 1 (dk_at dksX0_lays_3 9 rfl rfl)
theorem dX0_lays_80 : decode cX0_lays 80 = .ok (.goto (-24), 3) := dk_167 255 232 (dk_at dksX0_lays_3 12 rfl rfl)
theorem dX0_lays_83 : decode cX0_lays 83 = .ok (.iconst 0, 1) := dk_3 (dk_at dksX0_lays_3 15 rfl rfl)
theorem dX0_lays_84 : decode cX0_lays 84 = .ok (.istore_n 2, 1) := dk_61 (dk_at dksX0_lays_3 16 rfl rfl)
theorem dX0_lays_85 : decode cX0_lays 85 = .ok (.iload_n 2, 1) := dk_28 (dk_at dksX0_lays_3 17 rfl rfl)
theorem dX0_lays_86 : decode cX0_lays 86 = .ok (.aload_n 0, 1) := dk_42 (dk_at dksX0_lays_3 18 rfl rfl)
theorem dX0_lays_87 : decode cX0_lays 87 = .ok (.getfield 10, 3) := dk_180 0 10 (dk_at dksX0_lays_3 19 rfl rfl)
theorem dX0_lays_90 : decode cX0_lays 90 = .ok (.getfield 126, 3) := dk_180 0 126 (dk_at dksX0_lays_4 0 rfl rfl)
theorem dX0_lays_93 : decode cX0_lays 93 = .ok (.if_icmp .ge 38, 3) := dk_162 0 38 (dk_at dksX0_lays_4 3 rfl rfl)
theorem dX0_lays_96 : decode cX0_lays 96 = .ok (.aload_n 0, 1) := dk_42 (dk_at dksX0_lays_4 6 rfl rfl)
theorem dX0_lays_97 : decode cX0_lays 97 = .ok (.getfield 24, 3) := dk_180 0 24 (dk_at dksX0_lays_4 7 rfl rfl)
theorem dX0_lays_100 : decode cX0_lays 100 = .ok (.iload_n 2, 1) := dk_28 (dk_at dksX0_lays_4 10 rfl rfl)
theorem dX0_lays_101 : decode cX0_lays 101 = .ok (.iaload, 1) := dk_46 (dk_at dksX0_lays_4 11 rfl rfl)
theorem dX0_lays_102 : decode cX0_lays 102 = .ok (.iload_n 1, 1) := dk_27 (dk_at dksX0_lays_4 12 rfl rfl)
theorem dX0_lays_103 : decode cX0_lays 103 = .ok (.if_icmp .ne 22, 3) := dk_160 0 22 (dk_at dksX0_lays_4 13 rfl rfl)
theorem dX0_lays_106 : decode cX0_lays 106 = .ok (.iload_n 2, 1) := dk_28 (dk_at dksX0_lays_4 16 rfl rfl)
theorem dX0_lays_107 : decode cX0_lays 107 = .ok (.aload_n 0, 1) := dk_42 (dk_at dksX0_lays_4 17 rfl rfl)
theorem dX0_lays_108 : decode cX0_lays 108 = .ok (.getfield 205, 3) := dk_180 0 205 (dk_at dksX0_lays_4 18 rfl rfl)
theorem dX0_lays_111 : decode cX0_lays 111 = .ok (.if_icmp .eq 14, 3) := dk_159 0 14 (dk_at dksX0_lays_4 21 rfl rfl)
theorem dX0_lays_114 : decode cX0_lays 114 = .ok (.aload_n 0, 1) := dk_42 (dk_at dksX0_lays_5 0 rfl rfl)
theorem dX0_lays_115 : decode cX0_lays 115 = .ok (.iload_n 2, 1) := dk_28 (dk_at dksX0_lays_5 1 rfl rfl)
theorem dX0_lays_116 : decode cX0_lays 116 = .ok (.aload_n 0, 1) := dk_42 (dk_at dksX0_lays_5 2 rfl rfl)
theorem dX0_lays_117 : decode cX0_lays 117 = .ok (.getfield 28, 3) := dk_180 0 28 (dk_at dksX0_lays_5 3 rfl rfl)
theorem dX0_lays_120 : decode cX0_lays 120 = .ok (.iload_n 2, 1) := dk_28 (dk_at dksX0_lays_5 6 rfl rfl)
theorem dX0_lays_121 : decode cX0_lays 121 = .ok (.iaload, 1) := dk_46 (dk_at dksX0_lays_5 7 rfl rfl)
theorem dX0_lays_122 : decode cX0_lays 122 = .ok (.invokevirtual 247, 3) := dk_182 0 247 (dk_at dksX0_lays_5 8 rfl rfl)
theorem dX0_lays_125 : decode cX0_lays 125 = .ok (.iinc 2 1, 3) := dk_132 2 1 (dk_at dksX0_lays_5 11 rfl rfl)
theorem dX0_lays_128 : decode cX0_lays 128 = .ok (.goto (-43), 3) := dk_167 255 213 (dk_at dksX0_lays_5 14 rfl rfl)
theorem dX0_lays_131 : decode cX0_lays 131 = .ok (.aload_n 0, 1) := dk_42 (dk_at dksX0_lays_5 17 rfl rfl)
theorem dX0_lays_132 : decode cX0_lays 132 = .ok (.iload_n 1, 1) := dk_27 (dk_at dksX0_lays_5 18 rfl rfl)
theorem dX0_lays_133 : decode cX0_lays 133 = .ok (.invokevirtual 266, 3) := dk_182 1 10 (dk_at dksX0_lays_5 19 rfl rfl)
theorem dX0_lays_136 : decode cX0_lays 136 = .ok (.aload_n 0, 1) := dk_42 (dk_at dksX0_lays_5 22 rfl rfl)
theorem dX0_lays_137 : decode cX0_lays 137 = .ok (.getfield 31, 3) := dk_180 0 31 (dk_at dksX0_lays_6 0 rfl rfl)
theorem dX0_lays_140 : decode cX0_lays 140 = .ok (.iconst 0, 1) := dk_3 (dk_at dksX0_lays_6 3 rfl rfl)
theorem dX0_lays_141 : decode cX0_lays 141 = .ok (.aload_n 0, 1) := dk_42 (dk_at dksX0_lays_6 4 rfl rfl)
theorem dX0_lays_142 : decode cX0_lays 142 = .ok (.getfield 62, 3) := dk_180 0 62 (dk_at dksX0_lays_6 5 rfl rfl)
theorem dX0_lays_145 : decode cX0_lays 145 = .ok (.bipush 7, 2) := dk_16 7 (dk_at dksX0_lays_6 8 rfl rfl)
theorem dX0_lays_147 : decode cX0_lays 147 = .ok (.iload_n 1, 1) := dk_27 (dk_at dksX0_lays_6 10 rfl rfl)
theorem dX0_lays_148 : decode cX0_lays 148 = .ok (.imul, 1) := dk_104 (dk_at dksX0_lays_6 11 rfl rfl)
theorem dX0_lays_149 : decode cX0_lays 149 = .ok (.bipush 7, 2) := dk_16 7 (dk_at dksX0_lays_6 12 rfl rfl)
theorem dX0_lays_151 : decode cX0_lays 151 = .ok (.invokestatic 193, 3) := dk_184 0 193 (dk_at dksX0_lays_6 14 rfl rfl)
theorem dX0_lays_154 : decode cX0_lays 154 = .ok (.aload_n 0, 1) := dk_42 (dk_at dksX0_lays_6 17 rfl rfl)
theorem dX0_lays_155 : decode cX0_lays 155 = .ok (.getfield 65, 3) := dk_180 0 65 (dk_at dksX0_lays_6 18 rfl rfl)
theorem dX0_lays_158 : decode cX0_lays 158 = .ok (.iload_n 1, 1) := dk_27 (dk_at dksX0_lays_6 21 rfl rfl)
theorem dX0_lays_159 : decode cX0_lays 159 = .ok (.aload_n 0, 1) := dk_42 (dk_at dksX0_lays_6 22 rfl rfl)
theorem dX0_lays_160 : decode cX0_lays 160 = .ok (.getfield 231, 3) := dk_180 0 231 (dk_at dksX0_lays_7 0 rfl rfl)
theorem dX0_lays_163 : decode cX0_lays 163 = .ok (.iastore, 1) := dk_79 (dk_at dksX0_lays_7 3 rfl rfl)
theorem dX0_lays_164 : decode cX0_lays 164 = .ok (.iinc 1 1, 3) := dk_132 1 1 (dk_at dksX0_lays_7 4 rfl rfl)
theorem dX0_lays_167 : decode cX0_lays 167 = .ok (.goto (-139), 3) := dk_167 255 117 (dk_at dksX0_lays_7 7 rfl rfl)
theorem dX0_lays_170 : decode cX0_lays 170 = .ok (.return_, 1) := dk_177 (dk_at dksX0_lays_7 10 rfl rfl)
abbrev cX0_goesOn : ByteArray := prog_1_method_31_code
def yX0_goesOn : MethodName := ⟨RX0, "goesOn", "(II)V"⟩
def dkwX0_goesOn_6 : List UInt8 := [184, 0, 221, 79, 177]
abbrev dktX0_goesOn_6 : List UInt8 := dkwX0_goesOn_6 ++ []
def dkwX0_goesOn_5 : List UInt8 := [79, 42, 180, 0, 31, 27, 16, 60, 42, 180, 0, 31, 27, 46, 42, 180, 0, 191, 27, 28, 182, 1, 4, 96]
abbrev dktX0_goesOn_5 : List UInt8 := dkwX0_goesOn_5 ++ dktX0_goesOn_6
def dkwX0_goesOn_4 : List UInt8 := [180, 0, 31, 27, 3, 42, 180, 0, 31, 27, 46, 42, 180, 0, 191, 27, 28, 182, 1, 1, 100, 184, 0, 234]
abbrev dktX0_goesOn_4 : List UInt8 := dkwX0_goesOn_4 ++ dktX0_goesOn_5
def dkwX0_goesOn_3 : List UInt8 := [42, 180, 0, 10, 180, 0, 151, 29, 46, 162, 0, 7, 4, 167, 0, 4, 3, 182, 0, 227, 167, 0, 29, 42]
abbrev dktX0_goesOn_3 : List UInt8 := dkwX0_goesOn_3 ++ dktX0_goesOn_4
def dkwX0_goesOn_2 : List UInt8 := [27, 46, 42, 180, 0, 10, 180, 0, 148, 29, 46, 96, 184, 0, 221, 79, 42, 27, 42, 180, 0, 31, 27, 46]
abbrev dktX0_goesOn_2 : List UInt8 := dkwX0_goesOn_2 ++ dktX0_goesOn_3
def dkwX0_goesOn_1 : List UInt8 := [184, 0, 254, 153, 0, 68, 42, 180, 0, 31, 27, 42, 180, 0, 10, 180, 0, 151, 29, 46, 42, 180, 0, 31]
abbrev dktX0_goesOn_1 : List UInt8 := dkwX0_goesOn_1 ++ dktX0_goesOn_2
def dkwX0_goesOn_0 : List UInt8 := [42, 27, 28, 4, 100, 182, 0, 243, 154, 0, 4, 177, 42, 180, 0, 37, 27, 46, 62, 42, 180, 0, 231, 27]
abbrev dktX0_goesOn_0 : List UInt8 := dkwX0_goesOn_0 ++ dktX0_goesOn_1
theorem dksX0_goesOn_0 : cX0_goesOn.data.toList.drop 0 = dktX0_goesOn_0 := by decide +kernel
theorem dksX0_goesOn_1 : cX0_goesOn.data.toList.drop 24 = dktX0_goesOn_1 := dk_seg dksX0_goesOn_0 24 rfl rfl
theorem dksX0_goesOn_2 : cX0_goesOn.data.toList.drop 48 = dktX0_goesOn_2 := dk_seg dksX0_goesOn_1 24 rfl rfl
theorem dksX0_goesOn_3 : cX0_goesOn.data.toList.drop 72 = dktX0_goesOn_3 := dk_seg dksX0_goesOn_2 24 rfl rfl
theorem dksX0_goesOn_4 : cX0_goesOn.data.toList.drop 96 = dktX0_goesOn_4 := dk_seg dksX0_goesOn_3 24 rfl rfl
theorem dksX0_goesOn_5 : cX0_goesOn.data.toList.drop 120 = dktX0_goesOn_5 := dk_seg dksX0_goesOn_4 24 rfl rfl
theorem dksX0_goesOn_6 : cX0_goesOn.data.toList.drop 144 = dktX0_goesOn_6 := dk_seg dksX0_goesOn_5 24 rfl rfl
theorem dX0_goesOn_0 : decode cX0_goesOn 0 = .ok (.aload_n 0, 1) := dk_42 (dk_at dksX0_goesOn_0 0 rfl rfl)
theorem dX0_goesOn_1 : decode cX0_goesOn 1 = .ok (.iload_n 1, 1) := dk_27 (dk_at dksX0_goesOn_0 1 rfl rfl)
theorem dX0_goesOn_2 : decode cX0_goesOn 2 = .ok (.iload_n 2, 1) := dk_28 (dk_at dksX0_goesOn_0 2 rfl rfl)
theorem dX0_goesOn_3 : decode cX0_goesOn 3 = .ok (.iconst 1, 1) := dk_4 (dk_at dksX0_goesOn_0 3 rfl rfl)
theorem dX0_goesOn_4 : decode cX0_goesOn 4 = .ok (.isub, 1) := dk_100 (dk_at dksX0_goesOn_0 4 rfl rfl)
theorem dX0_goesOn_5 : decode cX0_goesOn 5 = .ok (.invokevirtual 243, 3) := dk_182 0 243 (dk_at dksX0_goesOn_0 5 rfl rfl)
theorem dX0_goesOn_8 : decode cX0_goesOn 8 = .ok (.ifCond .ne 4, 3) := dk_154 0 4 (dk_at dksX0_goesOn_0 8 rfl rfl)
theorem dX0_goesOn_11 : decode cX0_goesOn 11 = .ok (.return_, 1) := dk_177 (dk_at dksX0_goesOn_0 11 rfl rfl)
theorem dX0_goesOn_12 : decode cX0_goesOn 12 = .ok (.aload_n 0, 1) := dk_42 (dk_at dksX0_goesOn_0 12 rfl rfl)
theorem dX0_goesOn_13 : decode cX0_goesOn 13 = .ok (.getfield 37, 3) := dk_180 0 37 (dk_at dksX0_goesOn_0 13 rfl rfl)
theorem dX0_goesOn_16 : decode cX0_goesOn 16 = .ok (.iload_n 1, 1) := dk_27 (dk_at dksX0_goesOn_0 16 rfl rfl)
theorem dX0_goesOn_17 : decode cX0_goesOn 17 = .ok (.iaload, 1) := dk_46 (dk_at dksX0_goesOn_0 17 rfl rfl)
theorem dX0_goesOn_18 : decode cX0_goesOn 18 = .ok (.istore_n 3, 1) := dk_62 (dk_at dksX0_goesOn_0 18 rfl rfl)
theorem dX0_goesOn_19 : decode cX0_goesOn 19 = .ok (.aload_n 0, 1) := dk_42 (dk_at dksX0_goesOn_0 19 rfl rfl)
theorem dX0_goesOn_20 : decode cX0_goesOn 20 = .ok (.getfield 231, 3) := dk_180 0 231 (dk_at dksX0_goesOn_0 20 rfl rfl)
theorem dX0_goesOn_23 : decode cX0_goesOn 23 = .ok (.iload_n 1, 1) := dk_27 (dk_at dksX0_goesOn_0 23 rfl rfl)
theorem dX0_goesOn_24 : decode cX0_goesOn 24 = .ok (.invokestatic 254, 3) := dk_184 0 254 (dk_at dksX0_goesOn_1 0 rfl rfl)
theorem dX0_goesOn_27 : decode cX0_goesOn 27 = .ok (.ifCond .eq 68, 3) := dk_153 0 68 (dk_at dksX0_goesOn_1 3 rfl rfl)
theorem dX0_goesOn_30 : decode cX0_goesOn 30 = .ok (.aload_n 0, 1) := dk_42 (dk_at dksX0_goesOn_1 6 rfl rfl)
theorem dX0_goesOn_31 : decode cX0_goesOn 31 = .ok (.getfield 31, 3) := dk_180 0 31 (dk_at dksX0_goesOn_1 7 rfl rfl)
theorem dX0_goesOn_34 : decode cX0_goesOn 34 = .ok (.iload_n 1, 1) := dk_27 (dk_at dksX0_goesOn_1 10 rfl rfl)
theorem dX0_goesOn_35 : decode cX0_goesOn 35 = .ok (.aload_n 0, 1) := dk_42 (dk_at dksX0_goesOn_1 11 rfl rfl)
theorem dX0_goesOn_36 : decode cX0_goesOn 36 = .ok (.getfield 10, 3) := dk_180 0 10 (dk_at dksX0_goesOn_1 12 rfl rfl)
theorem dX0_goesOn_39 : decode cX0_goesOn 39 = .ok (.getfield 151, 3) := dk_180 0 151 (dk_at dksX0_goesOn_1 15 rfl rfl)
theorem dX0_goesOn_42 : decode cX0_goesOn 42 = .ok (.iload_n 3, 1) := dk_29 (dk_at dksX0_goesOn_1 18 rfl rfl)
theorem dX0_goesOn_43 : decode cX0_goesOn 43 = .ok (.iaload, 1) := dk_46 (dk_at dksX0_goesOn_1 19 rfl rfl)
theorem dX0_goesOn_44 : decode cX0_goesOn 44 = .ok (.aload_n 0, 1) := dk_42 (dk_at dksX0_goesOn_1 20 rfl rfl)
theorem dX0_goesOn_45 : decode cX0_goesOn 45 = .ok (.getfield 31, 3) := dk_180 0 31 (dk_at dksX0_goesOn_1 21 rfl rfl)
theorem dX0_goesOn_48 : decode cX0_goesOn 48 = .ok (.iload_n 1, 1) := dk_27 (dk_at dksX0_goesOn_2 0 rfl rfl)
theorem dX0_goesOn_49 : decode cX0_goesOn 49 = .ok (.iaload, 1) := dk_46 (dk_at dksX0_goesOn_2 1 rfl rfl)
theorem dX0_goesOn_50 : decode cX0_goesOn 50 = .ok (.aload_n 0, 1) := dk_42 (dk_at dksX0_goesOn_2 2 rfl rfl)
theorem dX0_goesOn_51 : decode cX0_goesOn 51 = .ok (.getfield 10, 3) := dk_180 0 10 (dk_at dksX0_goesOn_2 3 rfl rfl)
theorem dX0_goesOn_54 : decode cX0_goesOn 54 = .ok (.getfield 148, 3) := dk_180 0 148 (dk_at dksX0_goesOn_2 6 rfl rfl)
theorem dX0_goesOn_57 : decode cX0_goesOn 57 = .ok (.iload_n 3, 1) := dk_29 (dk_at dksX0_goesOn_2 9 rfl rfl)
theorem dX0_goesOn_58 : decode cX0_goesOn 58 = .ok (.iaload, 1) := dk_46 (dk_at dksX0_goesOn_2 10 rfl rfl)
theorem dX0_goesOn_59 : decode cX0_goesOn 59 = .ok (.iadd, 1) := dk_96 (dk_at dksX0_goesOn_2 11 rfl rfl)
theorem dX0_goesOn_60 : decode cX0_goesOn 60 = .ok (.invokestatic 221, 3) := dk_184 0 221 (dk_at dksX0_goesOn_2 12 rfl rfl)
theorem dX0_goesOn_63 : decode cX0_goesOn 63 = .ok (.iastore, 1) := dk_79 (dk_at dksX0_goesOn_2 15 rfl rfl)
theorem dX0_goesOn_64 : decode cX0_goesOn 64 = .ok (.aload_n 0, 1) := dk_42 (dk_at dksX0_goesOn_2 16 rfl rfl)
theorem dX0_goesOn_65 : decode cX0_goesOn 65 = .ok (.iload_n 1, 1) := dk_27 (dk_at dksX0_goesOn_2 17 rfl rfl)
theorem dX0_goesOn_66 : decode cX0_goesOn 66 = .ok (.aload_n 0, 1) := dk_42 (dk_at dksX0_goesOn_2 18 rfl rfl)
theorem dX0_goesOn_67 : decode cX0_goesOn 67 = .ok (.getfield 31, 3) := dk_180 0 31 (dk_at dksX0_goesOn_2 19 rfl rfl)
theorem dX0_goesOn_70 : decode cX0_goesOn 70 = .ok (.iload_n 1, 1) := dk_27 (dk_at dksX0_goesOn_2 22 rfl rfl)
theorem dX0_goesOn_71 : decode cX0_goesOn 71 = .ok (.iaload, 1) := dk_46 (dk_at dksX0_goesOn_2 23 rfl rfl)
theorem dX0_goesOn_72 : decode cX0_goesOn 72 = .ok (.aload_n 0, 1) := dk_42 (dk_at dksX0_goesOn_3 0 rfl rfl)
theorem dX0_goesOn_73 : decode cX0_goesOn 73 = .ok (.getfield 10, 3) := dk_180 0 10 (dk_at dksX0_goesOn_3 1 rfl rfl)
theorem dX0_goesOn_76 : decode cX0_goesOn 76 = .ok (.getfield 151, 3) := dk_180 0 151 (dk_at dksX0_goesOn_3 4 rfl rfl)
theorem dX0_goesOn_79 : decode cX0_goesOn 79 = .ok (.iload_n 3, 1) := dk_29 (dk_at dksX0_goesOn_3 7 rfl rfl)
theorem dX0_goesOn_80 : decode cX0_goesOn 80 = .ok (.iaload, 1) := dk_46 (dk_at dksX0_goesOn_3 8 rfl rfl)
theorem dX0_goesOn_81 : decode cX0_goesOn 81 = .ok (.if_icmp .ge 7, 3) := dk_162 0 7 (dk_at dksX0_goesOn_3 9 rfl rfl)
theorem dX0_goesOn_84 : decode cX0_goesOn 84 = .ok (.iconst 1, 1) := dk_4 (dk_at dksX0_goesOn_3 12 rfl rfl)
theorem dX0_goesOn_85 : decode cX0_goesOn 85 = .ok (.goto 4, 3) := dk_167 0 4 (dk_at dksX0_goesOn_3 13 rfl rfl)
theorem dX0_goesOn_88 : decode cX0_goesOn 88 = .ok (.iconst 0, 1) := dk_3 (dk_at dksX0_goesOn_3 16 rfl rfl)
theorem dX0_goesOn_89 : decode cX0_goesOn 89 = .ok (.invokevirtual 227, 3) := dk_182 0 227 (dk_at dksX0_goesOn_3 17 rfl rfl)
theorem dX0_goesOn_92 : decode cX0_goesOn 92 = .ok (.goto 29, 3) := dk_167 0 29 (dk_at dksX0_goesOn_3 20 rfl rfl)
theorem dX0_goesOn_95 : decode cX0_goesOn 95 = .ok (.aload_n 0, 1) := dk_42 (dk_at dksX0_goesOn_3 23 rfl rfl)
theorem dX0_goesOn_96 : decode cX0_goesOn 96 = .ok (.getfield 31, 3) := dk_180 0 31 (dk_at dksX0_goesOn_4 0 rfl rfl)
theorem dX0_goesOn_99 : decode cX0_goesOn 99 = .ok (.iload_n 1, 1) := dk_27 (dk_at dksX0_goesOn_4 3 rfl rfl)
theorem dX0_goesOn_100 : decode cX0_goesOn 100 = .ok (.iconst 0, 1) := dk_3 (dk_at dksX0_goesOn_4 4 rfl rfl)
theorem dX0_goesOn_101 : decode cX0_goesOn 101 = .ok (.aload_n 0, 1) := dk_42 (dk_at dksX0_goesOn_4 5 rfl rfl)
theorem dX0_goesOn_102 : decode cX0_goesOn 102 = .ok (.getfield 31, 3) := dk_180 0 31 (dk_at dksX0_goesOn_4 6 rfl rfl)
theorem dX0_goesOn_105 : decode cX0_goesOn 105 = .ok (.iload_n 1, 1) := dk_27 (dk_at dksX0_goesOn_4 9 rfl rfl)
theorem dX0_goesOn_106 : decode cX0_goesOn 106 = .ok (.iaload, 1) := dk_46 (dk_at dksX0_goesOn_4 10 rfl rfl)
theorem dX0_goesOn_107 : decode cX0_goesOn 107 = .ok (.aload_n 0, 1) := dk_42 (dk_at dksX0_goesOn_4 11 rfl rfl)
theorem dX0_goesOn_108 : decode cX0_goesOn 108 = .ok (.getfield 191, 3) := dk_180 0 191 (dk_at dksX0_goesOn_4 12 rfl rfl)
theorem dX0_goesOn_111 : decode cX0_goesOn 111 = .ok (.iload_n 1, 1) := dk_27 (dk_at dksX0_goesOn_4 15 rfl rfl)
theorem dX0_goesOn_112 : decode cX0_goesOn 112 = .ok (.iload_n 2, 1) := dk_28 (dk_at dksX0_goesOn_4 16 rfl rfl)
theorem dX0_goesOn_113 : decode cX0_goesOn 113 = .ok (.invokevirtual 257, 3) := dk_182 1 1 (dk_at dksX0_goesOn_4 17 rfl rfl)
theorem dX0_goesOn_116 : decode cX0_goesOn 116 = .ok (.isub, 1) := dk_100 (dk_at dksX0_goesOn_4 20 rfl rfl)
theorem dX0_goesOn_117 : decode cX0_goesOn 117 = .ok (.invokestatic 234, 3) := dk_184 0 234 (dk_at dksX0_goesOn_4 21 rfl rfl)
theorem dX0_goesOn_120 : decode cX0_goesOn 120 = .ok (.iastore, 1) := dk_79 (dk_at dksX0_goesOn_5 0 rfl rfl)
theorem dX0_goesOn_121 : decode cX0_goesOn 121 = .ok (.aload_n 0, 1) := dk_42 (dk_at dksX0_goesOn_5 1 rfl rfl)
theorem dX0_goesOn_122 : decode cX0_goesOn 122 = .ok (.getfield 31, 3) := dk_180 0 31 (dk_at dksX0_goesOn_5 2 rfl rfl)
theorem dX0_goesOn_125 : decode cX0_goesOn 125 = .ok (.iload_n 1, 1) := dk_27 (dk_at dksX0_goesOn_5 5 rfl rfl)
theorem dX0_goesOn_126 : decode cX0_goesOn 126 = .ok (.bipush 60, 2) := dk_16 60 (dk_at dksX0_goesOn_5 6 rfl rfl)
theorem dX0_goesOn_128 : decode cX0_goesOn 128 = .ok (.aload_n 0, 1) := dk_42 (dk_at dksX0_goesOn_5 8 rfl rfl)
theorem dX0_goesOn_129 : decode cX0_goesOn 129 = .ok (.getfield 31, 3) := dk_180 0 31 (dk_at dksX0_goesOn_5 9 rfl rfl)
theorem dX0_goesOn_132 : decode cX0_goesOn 132 = .ok (.iload_n 1, 1) := dk_27 (dk_at dksX0_goesOn_5 12 rfl rfl)
theorem dX0_goesOn_133 : decode cX0_goesOn 133 = .ok (.iaload, 1) := dk_46 (dk_at dksX0_goesOn_5 13 rfl rfl)
theorem dX0_goesOn_134 : decode cX0_goesOn 134 = .ok (.aload_n 0, 1) := dk_42 (dk_at dksX0_goesOn_5 14 rfl rfl)
theorem dX0_goesOn_135 : decode cX0_goesOn 135 = .ok (.getfield 191, 3) := dk_180 0 191 (dk_at dksX0_goesOn_5 15 rfl rfl)
theorem dX0_goesOn_138 : decode cX0_goesOn 138 = .ok (.iload_n 1, 1) := dk_27 (dk_at dksX0_goesOn_5 18 rfl rfl)
theorem dX0_goesOn_139 : decode cX0_goesOn 139 = .ok (.iload_n 2, 1) := dk_28 (dk_at dksX0_goesOn_5 19 rfl rfl)
theorem dX0_goesOn_140 : decode cX0_goesOn 140 = .ok (.invokevirtual 260, 3) := dk_182 1 4 (dk_at dksX0_goesOn_5 20 rfl rfl)
theorem dX0_goesOn_143 : decode cX0_goesOn 143 = .ok (.iadd, 1) := dk_96 (dk_at dksX0_goesOn_5 23 rfl rfl)
theorem dX0_goesOn_144 : decode cX0_goesOn 144 = .ok (.invokestatic 221, 3) := dk_184 0 221 (dk_at dksX0_goesOn_6 0 rfl rfl)
theorem dX0_goesOn_147 : decode cX0_goesOn 147 = .ok (.iastore, 1) := dk_79 (dk_at dksX0_goesOn_6 3 rfl rfl)
theorem dX0_goesOn_148 : decode cX0_goesOn 148 = .ok (.return_, 1) := dk_177 (dk_at dksX0_goesOn_6 4 rfl rfl)
abbrev cX0_isThere : ByteArray := prog_1_method_26_code
def yX0_isThere : MethodName := ⟨RX0, "isThere", "(II)Z"⟩
def dkwX0_isThere_0 : List UInt8 := [27, 42, 180, 0, 205, 159, 0, 17, 28, 42, 180, 0, 24, 27, 46, 161, 0, 7, 4, 167, 0, 4, 3, 172]
abbrev dktX0_isThere_0 : List UInt8 := dkwX0_isThere_0 ++ []
theorem dksX0_isThere_0 : cX0_isThere.data.toList.drop 0 = dktX0_isThere_0 := by decide +kernel
theorem dX0_isThere_0 : decode cX0_isThere 0 = .ok (.iload_n 1, 1) := dk_27 (dk_at dksX0_isThere_0 0 rfl rfl)
theorem dX0_isThere_1 : decode cX0_isThere 1 = .ok (.aload_n 0, 1) := dk_42 (dk_at dksX0_isThere_0 1 rfl rfl)
theorem dX0_isThere_2 : decode cX0_isThere 2 = .ok (.getfield 205, 3) := dk_180 0 205 (dk_at dksX0_isThere_0 2 rfl rfl)
theorem dX0_isThere_5 : decode cX0_isThere 5 = .ok (.if_icmp .eq 17, 3) := dk_159 0 17 (dk_at dksX0_isThere_0 5 rfl rfl)
theorem dX0_isThere_8 : decode cX0_isThere 8 = .ok (.iload_n 2, 1) := dk_28 (dk_at dksX0_isThere_0 8 rfl rfl)
theorem dX0_isThere_9 : decode cX0_isThere 9 = .ok (.aload_n 0, 1) := dk_42 (dk_at dksX0_isThere_0 9 rfl rfl)
theorem dX0_isThere_10 : decode cX0_isThere 10 = .ok (.getfield 24, 3) := dk_180 0 24 (dk_at dksX0_isThere_0 10 rfl rfl)
theorem dX0_isThere_13 : decode cX0_isThere 13 = .ok (.iload_n 1, 1) := dk_27 (dk_at dksX0_isThere_0 13 rfl rfl)
theorem dX0_isThere_14 : decode cX0_isThere 14 = .ok (.iaload, 1) := dk_46 (dk_at dksX0_isThere_0 14 rfl rfl)
theorem dX0_isThere_15 : decode cX0_isThere 15 = .ok (.if_icmp .lt 7, 3) := dk_161 0 7 (dk_at dksX0_isThere_0 15 rfl rfl)
theorem dX0_isThere_18 : decode cX0_isThere 18 = .ok (.iconst 1, 1) := dk_4 (dk_at dksX0_isThere_0 18 rfl rfl)
theorem dX0_isThere_19 : decode cX0_isThere 19 = .ok (.goto 4, 3) := dk_167 0 4 (dk_at dksX0_isThere_0 19 rfl rfl)
theorem dX0_isThere_22 : decode cX0_isThere 22 = .ok (.iconst 0, 1) := dk_3 (dk_at dksX0_isThere_0 22 rfl rfl)
theorem dX0_isThere_23 : decode cX0_isThere 23 = .ok (.ireturn, 1) := dk_172 (dk_at dksX0_isThere_0 23 rfl rfl)
abbrev cX0_isOf : ByteArray := prog_1_method_2_code
def yX0_isOf : MethodName := ⟨RX0, "isOf", "(II)Z"⟩
def dkwX0_isOf_0 : List UInt8 := [26, 27, 122, 4, 126, 4, 160, 0, 7, 4, 167, 0, 4, 3, 172]
abbrev dktX0_isOf_0 : List UInt8 := dkwX0_isOf_0 ++ []
theorem dksX0_isOf_0 : cX0_isOf.data.toList.drop 0 = dktX0_isOf_0 := by decide +kernel
theorem dX0_isOf_0 : decode cX0_isOf 0 = .ok (.iload_n 0, 1) := dk_26 (dk_at dksX0_isOf_0 0 rfl rfl)
theorem dX0_isOf_1 : decode cX0_isOf 1 = .ok (.iload_n 1, 1) := dk_27 (dk_at dksX0_isOf_0 1 rfl rfl)
theorem dX0_isOf_2 : decode cX0_isOf 2 = .ok (.ishr, 1) := dk_122 (dk_at dksX0_isOf_0 2 rfl rfl)
theorem dX0_isOf_3 : decode cX0_isOf 3 = .ok (.iconst 1, 1) := dk_4 (dk_at dksX0_isOf_0 3 rfl rfl)
theorem dX0_isOf_4 : decode cX0_isOf 4 = .ok (.iand, 1) := dk_126 (dk_at dksX0_isOf_0 4 rfl rfl)
theorem dX0_isOf_5 : decode cX0_isOf 5 = .ok (.iconst 1, 1) := dk_4 (dk_at dksX0_isOf_0 5 rfl rfl)
theorem dX0_isOf_6 : decode cX0_isOf 6 = .ok (.if_icmp .ne 7, 3) := dk_160 0 7 (dk_at dksX0_isOf_0 6 rfl rfl)
theorem dX0_isOf_9 : decode cX0_isOf 9 = .ok (.iconst 1, 1) := dk_4 (dk_at dksX0_isOf_0 9 rfl rfl)
theorem dX0_isOf_10 : decode cX0_isOf 10 = .ok (.goto 4, 3) := dk_167 0 4 (dk_at dksX0_isOf_0 10 rfl rfl)
theorem dX0_isOf_13 : decode cX0_isOf 13 = .ok (.iconst 0, 1) := dk_3 (dk_at dksX0_isOf_0 13 rfl rfl)
theorem dX0_isOf_14 : decode cX0_isOf 14 = .ok (.ireturn, 1) := dk_172 (dk_at dksX0_isOf_0 14 rfl rfl)
abbrev cX0_setsRising : ByteArray := prog_1_method_28_code
def yX0_setsRising : MethodName := ⟨RX0, "setsRising", "(IZ)V"⟩
def dkwX0_setsRising_1 : List UInt8 := [130, 126, 181, 0, 231, 177]
abbrev dktX0_setsRising_1 : List UInt8 := dkwX0_setsRising_1 ++ []
def dkwX0_setsRising_0 : List UInt8 := [42, 28, 153, 0, 14, 42, 180, 0, 231, 4, 27, 120, 128, 167, 0, 13, 42, 180, 0, 231, 4, 27, 120, 2]
abbrev dktX0_setsRising_0 : List UInt8 := dkwX0_setsRising_0 ++ dktX0_setsRising_1
theorem dksX0_setsRising_0 : cX0_setsRising.data.toList.drop 0 = dktX0_setsRising_0 := by decide +kernel
theorem dksX0_setsRising_1 : cX0_setsRising.data.toList.drop 24 = dktX0_setsRising_1 := dk_seg dksX0_setsRising_0 24 rfl rfl
theorem dX0_setsRising_0 : decode cX0_setsRising 0 = .ok (.aload_n 0, 1) := dk_42 (dk_at dksX0_setsRising_0 0 rfl rfl)
theorem dX0_setsRising_1 : decode cX0_setsRising 1 = .ok (.iload_n 2, 1) := dk_28 (dk_at dksX0_setsRising_0 1 rfl rfl)
theorem dX0_setsRising_2 : decode cX0_setsRising 2 = .ok (.ifCond .eq 14, 3) := dk_153 0 14 (dk_at dksX0_setsRising_0 2 rfl rfl)
theorem dX0_setsRising_5 : decode cX0_setsRising 5 = .ok (.aload_n 0, 1) := dk_42 (dk_at dksX0_setsRising_0 5 rfl rfl)
theorem dX0_setsRising_6 : decode cX0_setsRising 6 = .ok (.getfield 231, 3) := dk_180 0 231 (dk_at dksX0_setsRising_0 6 rfl rfl)
theorem dX0_setsRising_9 : decode cX0_setsRising 9 = .ok (.iconst 1, 1) := dk_4 (dk_at dksX0_setsRising_0 9 rfl rfl)
theorem dX0_setsRising_10 : decode cX0_setsRising 10 = .ok (.iload_n 1, 1) := dk_27 (dk_at dksX0_setsRising_0 10 rfl rfl)
theorem dX0_setsRising_11 : decode cX0_setsRising 11 = .ok (.ishl, 1) := dk_120 (dk_at dksX0_setsRising_0 11 rfl rfl)
theorem dX0_setsRising_12 : decode cX0_setsRising 12 = .ok (.ior, 1) := dk_128 (dk_at dksX0_setsRising_0 12 rfl rfl)
theorem dX0_setsRising_13 : decode cX0_setsRising 13 = .ok (.goto 13, 3) := dk_167 0 13 (dk_at dksX0_setsRising_0 13 rfl rfl)
theorem dX0_setsRising_16 : decode cX0_setsRising 16 = .ok (.aload_n 0, 1) := dk_42 (dk_at dksX0_setsRising_0 16 rfl rfl)
theorem dX0_setsRising_17 : decode cX0_setsRising 17 = .ok (.getfield 231, 3) := dk_180 0 231 (dk_at dksX0_setsRising_0 17 rfl rfl)
theorem dX0_setsRising_20 : decode cX0_setsRising 20 = .ok (.iconst 1, 1) := dk_4 (dk_at dksX0_setsRising_0 20 rfl rfl)
theorem dX0_setsRising_21 : decode cX0_setsRising 21 = .ok (.iload_n 1, 1) := dk_27 (dk_at dksX0_setsRising_0 21 rfl rfl)
theorem dX0_setsRising_22 : decode cX0_setsRising 22 = .ok (.ishl, 1) := dk_120 (dk_at dksX0_setsRising_0 22 rfl rfl)
theorem dX0_setsRising_23 : decode cX0_setsRising 23 = .ok (.iconst (-1), 1) := dk_2 (dk_at dksX0_setsRising_0 23 rfl rfl)
theorem dX0_setsRising_24 : decode cX0_setsRising 24 = .ok (.ixor, 1) := dk_130 (dk_at dksX0_setsRising_1 0 rfl rfl)
theorem dX0_setsRising_25 : decode cX0_setsRising 25 = .ok (.iand, 1) := dk_126 (dk_at dksX0_setsRising_1 1 rfl rfl)
theorem dX0_setsRising_26 : decode cX0_setsRising 26 = .ok (.putfield 231, 3) := dk_181 0 231 (dk_at dksX0_setsRising_1 2 rfl rfl)
theorem dX0_setsRising_29 : decode cX0_setsRising 29 = .ok (.return_, 1) := dk_177 (dk_at dksX0_setsRising_1 5 rfl rfl)
abbrev cX0_begins : ByteArray := prog_1_method_27_code
def yX0_begins : MethodName := ⟨RX0, "begins", "(II)V"⟩
def dkwX0_begins_2 : List UInt8 := [180, 0, 151, 28, 46, 162, 0, 7, 4, 167, 0, 4, 3, 182, 0, 227, 177]
abbrev dktX0_begins_2 : List UInt8 := dkwX0_begins_2 ++ []
def dkwX0_begins_1 : List UInt8 := [180, 0, 10, 180, 0, 148, 28, 46, 184, 0, 221, 79, 42, 27, 42, 180, 0, 31, 27, 46, 42, 180, 0, 10]
abbrev dktX0_begins_1 : List UInt8 := dkwX0_begins_1 ++ dktX0_begins_2
def dkwX0_begins_0 : List UInt8 := [42, 180, 0, 37, 27, 28, 79, 42, 180, 0, 31, 27, 42, 180, 0, 10, 180, 0, 151, 28, 46, 42]
abbrev dktX0_begins_0 : List UInt8 := dkwX0_begins_0 ++ dktX0_begins_1
theorem dksX0_begins_0 : cX0_begins.data.toList.drop 0 = dktX0_begins_0 := by decide +kernel
theorem dksX0_begins_1 : cX0_begins.data.toList.drop 22 = dktX0_begins_1 := dk_seg dksX0_begins_0 22 rfl rfl
theorem dksX0_begins_2 : cX0_begins.data.toList.drop 46 = dktX0_begins_2 := dk_seg dksX0_begins_1 24 rfl rfl
theorem dX0_begins_0 : decode cX0_begins 0 = .ok (.aload_n 0, 1) := dk_42 (dk_at dksX0_begins_0 0 rfl rfl)
theorem dX0_begins_1 : decode cX0_begins 1 = .ok (.getfield 37, 3) := dk_180 0 37 (dk_at dksX0_begins_0 1 rfl rfl)
theorem dX0_begins_4 : decode cX0_begins 4 = .ok (.iload_n 1, 1) := dk_27 (dk_at dksX0_begins_0 4 rfl rfl)
theorem dX0_begins_5 : decode cX0_begins 5 = .ok (.iload_n 2, 1) := dk_28 (dk_at dksX0_begins_0 5 rfl rfl)
theorem dX0_begins_6 : decode cX0_begins 6 = .ok (.iastore, 1) := dk_79 (dk_at dksX0_begins_0 6 rfl rfl)
theorem dX0_begins_7 : decode cX0_begins 7 = .ok (.aload_n 0, 1) := dk_42 (dk_at dksX0_begins_0 7 rfl rfl)
theorem dX0_begins_8 : decode cX0_begins 8 = .ok (.getfield 31, 3) := dk_180 0 31 (dk_at dksX0_begins_0 8 rfl rfl)
theorem dX0_begins_11 : decode cX0_begins 11 = .ok (.iload_n 1, 1) := dk_27 (dk_at dksX0_begins_0 11 rfl rfl)
theorem dX0_begins_12 : decode cX0_begins 12 = .ok (.aload_n 0, 1) := dk_42 (dk_at dksX0_begins_0 12 rfl rfl)
theorem dX0_begins_13 : decode cX0_begins 13 = .ok (.getfield 10, 3) := dk_180 0 10 (dk_at dksX0_begins_0 13 rfl rfl)
theorem dX0_begins_16 : decode cX0_begins 16 = .ok (.getfield 151, 3) := dk_180 0 151 (dk_at dksX0_begins_0 16 rfl rfl)
theorem dX0_begins_19 : decode cX0_begins 19 = .ok (.iload_n 2, 1) := dk_28 (dk_at dksX0_begins_0 19 rfl rfl)
theorem dX0_begins_20 : decode cX0_begins 20 = .ok (.iaload, 1) := dk_46 (dk_at dksX0_begins_0 20 rfl rfl)
theorem dX0_begins_21 : decode cX0_begins 21 = .ok (.aload_n 0, 1) := dk_42 (dk_at dksX0_begins_0 21 rfl rfl)
theorem dX0_begins_22 : decode cX0_begins 22 = .ok (.getfield 10, 3) := dk_180 0 10 (dk_at dksX0_begins_1 0 rfl rfl)
theorem dX0_begins_25 : decode cX0_begins 25 = .ok (.getfield 148, 3) := dk_180 0 148 (dk_at dksX0_begins_1 3 rfl rfl)
theorem dX0_begins_28 : decode cX0_begins 28 = .ok (.iload_n 2, 1) := dk_28 (dk_at dksX0_begins_1 6 rfl rfl)
theorem dX0_begins_29 : decode cX0_begins 29 = .ok (.iaload, 1) := dk_46 (dk_at dksX0_begins_1 7 rfl rfl)
theorem dX0_begins_30 : decode cX0_begins 30 = .ok (.invokestatic 221, 3) := dk_184 0 221 (dk_at dksX0_begins_1 8 rfl rfl)
theorem dX0_begins_33 : decode cX0_begins 33 = .ok (.iastore, 1) := dk_79 (dk_at dksX0_begins_1 11 rfl rfl)
theorem dX0_begins_34 : decode cX0_begins 34 = .ok (.aload_n 0, 1) := dk_42 (dk_at dksX0_begins_1 12 rfl rfl)
theorem dX0_begins_35 : decode cX0_begins 35 = .ok (.iload_n 1, 1) := dk_27 (dk_at dksX0_begins_1 13 rfl rfl)
theorem dX0_begins_36 : decode cX0_begins 36 = .ok (.aload_n 0, 1) := dk_42 (dk_at dksX0_begins_1 14 rfl rfl)
theorem dX0_begins_37 : decode cX0_begins 37 = .ok (.getfield 31, 3) := dk_180 0 31 (dk_at dksX0_begins_1 15 rfl rfl)
theorem dX0_begins_40 : decode cX0_begins 40 = .ok (.iload_n 1, 1) := dk_27 (dk_at dksX0_begins_1 18 rfl rfl)
theorem dX0_begins_41 : decode cX0_begins 41 = .ok (.iaload, 1) := dk_46 (dk_at dksX0_begins_1 19 rfl rfl)
theorem dX0_begins_42 : decode cX0_begins 42 = .ok (.aload_n 0, 1) := dk_42 (dk_at dksX0_begins_1 20 rfl rfl)
theorem dX0_begins_43 : decode cX0_begins 43 = .ok (.getfield 10, 3) := dk_180 0 10 (dk_at dksX0_begins_1 21 rfl rfl)
theorem dX0_begins_46 : decode cX0_begins 46 = .ok (.getfield 151, 3) := dk_180 0 151 (dk_at dksX0_begins_2 0 rfl rfl)
theorem dX0_begins_49 : decode cX0_begins 49 = .ok (.iload_n 2, 1) := dk_28 (dk_at dksX0_begins_2 3 rfl rfl)
theorem dX0_begins_50 : decode cX0_begins 50 = .ok (.iaload, 1) := dk_46 (dk_at dksX0_begins_2 4 rfl rfl)
theorem dX0_begins_51 : decode cX0_begins 51 = .ok (.if_icmp .ge 7, 3) := dk_162 0 7 (dk_at dksX0_begins_2 5 rfl rfl)
theorem dX0_begins_54 : decode cX0_begins 54 = .ok (.iconst 1, 1) := dk_4 (dk_at dksX0_begins_2 8 rfl rfl)
theorem dX0_begins_55 : decode cX0_begins 55 = .ok (.goto 4, 3) := dk_167 0 4 (dk_at dksX0_begins_2 9 rfl rfl)
theorem dX0_begins_58 : decode cX0_begins 58 = .ok (.iconst 0, 1) := dk_3 (dk_at dksX0_begins_2 12 rfl rfl)
theorem dX0_begins_59 : decode cX0_begins 59 = .ok (.invokevirtual 227, 3) := dk_182 0 227 (dk_at dksX0_begins_2 13 rfl rfl)
theorem dX0_begins_62 : decode cX0_begins 62 = .ok (.return_, 1) := dk_177 (dk_at dksX0_begins_2 16 rfl rfl)
abbrev cX0_acts : ByteArray := prog_1_method_30_code
def yX0_acts : MethodName := ⟨RX0, "acts", "(I)V"⟩
def dkwX0_acts_7 : List UInt8 := [177]
abbrev dktX0_acts_7 : List UInt8 := dkwX0_acts_7 ++ []
def dkwX0_acts_6 : List UInt8 := [3, 61, 28, 42, 180, 0, 214, 162, 0, 17, 42, 42, 180, 0, 208, 182, 0, 251, 132, 2, 1, 167, 255, 237]
abbrev dktX0_acts_6 : List UInt8 := dkwX0_acts_6 ++ dktX0_acts_7
def dkwX0_acts_5 : List UInt8 := [42, 180, 0, 217, 153, 0, 20, 42, 42, 180, 0, 208, 42, 180, 0, 28, 42, 180, 0, 208, 46, 182, 0, 247]
abbrev dktX0_acts_5 : List UInt8 := dkwX0_acts_5 ++ dktX0_acts_6
def dkwX0_acts_4 : List UInt8 := [159, 0, 23, 42, 180, 0, 211, 27, 160, 0, 15, 42, 42, 180, 0, 208, 27, 182, 0, 243, 154, 0, 4, 177]
abbrev dktX0_acts_4 : List UInt8 := dkwX0_acts_4 ++ dktX0_acts_5
def dkwX0_acts_3 : List UInt8 := [182, 0, 247, 167, 0, 9, 42, 21, 4, 182, 0, 251, 132, 2, 1, 167, 255, 173, 42, 180, 0, 208, 2]
abbrev dktX0_acts_3 : List UInt8 := dkwX0_acts_3 ++ dktX0_acts_4
def dkwX0_acts_2 : List UInt8 := [182, 0, 243, 154, 0, 6, 167, 0, 30, 29, 18, 246, 161, 0, 18, 42, 21, 4, 29, 18, 246, 108, 4, 100]
abbrev dktX0_acts_2 : List UInt8 := dkwX0_acts_2 ++ dktX0_acts_3
def dkwX0_acts_1 : List UInt8 := [17, 3, 232, 108, 16, 100, 112, 54, 4, 29, 17, 3, 232, 112, 27, 160, 0, 43, 42, 21, 4, 27]
abbrev dktX0_acts_1 : List UInt8 := dkwX0_acts_1 ++ dktX0_acts_2
def dkwX0_acts_0 : List UInt8 := [3, 61, 28, 42, 180, 0, 10, 180, 0, 237, 162, 0, 78, 42, 180, 0, 10, 180, 0, 240, 28, 46, 62, 29]
abbrev dktX0_acts_0 : List UInt8 := dkwX0_acts_0 ++ dktX0_acts_1
theorem dksX0_acts_0 : cX0_acts.data.toList.drop 0 = dktX0_acts_0 := by decide +kernel
theorem dksX0_acts_1 : cX0_acts.data.toList.drop 24 = dktX0_acts_1 := dk_seg dksX0_acts_0 24 rfl rfl
theorem dksX0_acts_2 : cX0_acts.data.toList.drop 46 = dktX0_acts_2 := dk_seg dksX0_acts_1 22 rfl rfl
theorem dksX0_acts_3 : cX0_acts.data.toList.drop 70 = dktX0_acts_3 := dk_seg dksX0_acts_2 24 rfl rfl
theorem dksX0_acts_4 : cX0_acts.data.toList.drop 93 = dktX0_acts_4 := dk_seg dksX0_acts_3 23 rfl rfl
theorem dksX0_acts_5 : cX0_acts.data.toList.drop 117 = dktX0_acts_5 := dk_seg dksX0_acts_4 24 rfl rfl
theorem dksX0_acts_6 : cX0_acts.data.toList.drop 141 = dktX0_acts_6 := dk_seg dksX0_acts_5 24 rfl rfl
theorem dksX0_acts_7 : cX0_acts.data.toList.drop 165 = dktX0_acts_7 := dk_seg dksX0_acts_6 24 rfl rfl
theorem dX0_acts_0 : decode cX0_acts 0 = .ok (.iconst 0, 1) := dk_3 (dk_at dksX0_acts_0 0 rfl rfl)
theorem dX0_acts_1 : decode cX0_acts 1 = .ok (.istore_n 2, 1) := dk_61 (dk_at dksX0_acts_0 1 rfl rfl)
theorem dX0_acts_2 : decode cX0_acts 2 = .ok (.iload_n 2, 1) := dk_28 (dk_at dksX0_acts_0 2 rfl rfl)
theorem dX0_acts_3 : decode cX0_acts 3 = .ok (.aload_n 0, 1) := dk_42 (dk_at dksX0_acts_0 3 rfl rfl)
theorem dX0_acts_4 : decode cX0_acts 4 = .ok (.getfield 10, 3) := dk_180 0 10 (dk_at dksX0_acts_0 4 rfl rfl)
theorem dX0_acts_7 : decode cX0_acts 7 = .ok (.getfield 237, 3) := dk_180 0 237 (dk_at dksX0_acts_0 7 rfl rfl)
theorem dX0_acts_10 : decode cX0_acts 10 = .ok (.if_icmp .ge 78, 3) := dk_162 0 78 (dk_at dksX0_acts_0 10 rfl rfl)
theorem dX0_acts_13 : decode cX0_acts 13 = .ok (.aload_n 0, 1) := dk_42 (dk_at dksX0_acts_0 13 rfl rfl)
theorem dX0_acts_14 : decode cX0_acts 14 = .ok (.getfield 10, 3) := dk_180 0 10 (dk_at dksX0_acts_0 14 rfl rfl)
theorem dX0_acts_17 : decode cX0_acts 17 = .ok (.getfield 240, 3) := dk_180 0 240 (dk_at dksX0_acts_0 17 rfl rfl)
theorem dX0_acts_20 : decode cX0_acts 20 = .ok (.iload_n 2, 1) := dk_28 (dk_at dksX0_acts_0 20 rfl rfl)
theorem dX0_acts_21 : decode cX0_acts 21 = .ok (.iaload, 1) := dk_46 (dk_at dksX0_acts_0 21 rfl rfl)
theorem dX0_acts_22 : decode cX0_acts 22 = .ok (.istore_n 3, 1) := dk_62 (dk_at dksX0_acts_0 22 rfl rfl)
theorem dX0_acts_23 : decode cX0_acts 23 = .ok (.iload_n 3, 1) := dk_29 (dk_at dksX0_acts_0 23 rfl rfl)
theorem dX0_acts_24 : decode cX0_acts 24 = .ok (.sipush 1000, 3) := dk_17 3 232 (dk_at dksX0_acts_1 0 rfl rfl)
theorem dX0_acts_27 : decode cX0_acts 27 = .ok (.idiv, 1) := dk_108 (dk_at dksX0_acts_1 3 rfl rfl)
theorem dX0_acts_28 : decode cX0_acts 28 = .ok (.bipush 100, 2) := dk_16 100 (dk_at dksX0_acts_1 4 rfl rfl)
theorem dX0_acts_30 : decode cX0_acts 30 = .ok (.irem, 1) := dk_112 (dk_at dksX0_acts_1 6 rfl rfl)
theorem dX0_acts_31 : decode cX0_acts 31 = .ok (.istore 4, 2) := dk_54 4 (dk_at dksX0_acts_1 7 rfl rfl)
theorem dX0_acts_33 : decode cX0_acts 33 = .ok (.iload_n 3, 1) := dk_29 (dk_at dksX0_acts_1 9 rfl rfl)
theorem dX0_acts_34 : decode cX0_acts 34 = .ok (.sipush 1000, 3) := dk_17 3 232 (dk_at dksX0_acts_1 10 rfl rfl)
theorem dX0_acts_37 : decode cX0_acts 37 = .ok (.irem, 1) := dk_112 (dk_at dksX0_acts_1 13 rfl rfl)
theorem dX0_acts_38 : decode cX0_acts 38 = .ok (.iload_n 1, 1) := dk_27 (dk_at dksX0_acts_1 14 rfl rfl)
theorem dX0_acts_39 : decode cX0_acts 39 = .ok (.if_icmp .ne 43, 3) := dk_160 0 43 (dk_at dksX0_acts_1 15 rfl rfl)
theorem dX0_acts_42 : decode cX0_acts 42 = .ok (.aload_n 0, 1) := dk_42 (dk_at dksX0_acts_1 18 rfl rfl)
theorem dX0_acts_43 : decode cX0_acts 43 = .ok (.iload 4, 2) := dk_21 4 (dk_at dksX0_acts_1 19 rfl rfl)
theorem dX0_acts_45 : decode cX0_acts 45 = .ok (.iload_n 1, 1) := dk_27 (dk_at dksX0_acts_1 21 rfl rfl)
theorem dX0_acts_46 : decode cX0_acts 46 = .ok (.invokevirtual 243, 3) := dk_182 0 243 (dk_at dksX0_acts_2 0 rfl rfl)
theorem dX0_acts_49 : decode cX0_acts 49 = .ok (.ifCond .ne 6, 3) := dk_154 0 6 (dk_at dksX0_acts_2 3 rfl rfl)
theorem dX0_acts_52 : decode cX0_acts 52 = .ok (.goto 30, 3) := dk_167 0 30 (dk_at dksX0_acts_2 6 rfl rfl)
theorem dX0_acts_55 : decode cX0_acts 55 = .ok (.iload_n 3, 1) := dk_29 (dk_at dksX0_acts_2 9 rfl rfl)
theorem dX0_acts_56 : decode cX0_acts 56 = .ok (.ldc 246, 2) := dk_18 246 (dk_at dksX0_acts_2 10 rfl rfl)
theorem dX0_acts_58 : decode cX0_acts 58 = .ok (.if_icmp .lt 18, 3) := dk_161 0 18 (dk_at dksX0_acts_2 12 rfl rfl)
theorem dX0_acts_61 : decode cX0_acts 61 = .ok (.aload_n 0, 1) := dk_42 (dk_at dksX0_acts_2 15 rfl rfl)
theorem dX0_acts_62 : decode cX0_acts 62 = .ok (.iload 4, 2) := dk_21 4 (dk_at dksX0_acts_2 16 rfl rfl)
theorem dX0_acts_64 : decode cX0_acts 64 = .ok (.iload_n 3, 1) := dk_29 (dk_at dksX0_acts_2 18 rfl rfl)
theorem dX0_acts_65 : decode cX0_acts 65 = .ok (.ldc 246, 2) := dk_18 246 (dk_at dksX0_acts_2 19 rfl rfl)
theorem dX0_acts_67 : decode cX0_acts 67 = .ok (.idiv, 1) := dk_108 (dk_at dksX0_acts_2 21 rfl rfl)
theorem dX0_acts_68 : decode cX0_acts 68 = .ok (.iconst 1, 1) := dk_4 (dk_at dksX0_acts_2 22 rfl rfl)
theorem dX0_acts_69 : decode cX0_acts 69 = .ok (.isub, 1) := dk_100 (dk_at dksX0_acts_2 23 rfl rfl)
theorem dX0_acts_70 : decode cX0_acts 70 = .ok (.invokevirtual 247, 3) := dk_182 0 247 (dk_at dksX0_acts_3 0 rfl rfl)
theorem dX0_acts_73 : decode cX0_acts 73 = .ok (.goto 9, 3) := dk_167 0 9 (dk_at dksX0_acts_3 3 rfl rfl)
theorem dX0_acts_76 : decode cX0_acts 76 = .ok (.aload_n 0, 1) := dk_42 (dk_at dksX0_acts_3 6 rfl rfl)
theorem dX0_acts_77 : decode cX0_acts 77 = .ok (.iload 4, 2) := dk_21 4 (dk_at dksX0_acts_3 7 rfl rfl)
theorem dX0_acts_79 : decode cX0_acts 79 = .ok (.invokevirtual 251, 3) := dk_182 0 251 (dk_at dksX0_acts_3 9 rfl rfl)
theorem dX0_acts_82 : decode cX0_acts 82 = .ok (.iinc 2 1, 3) := dk_132 2 1 (dk_at dksX0_acts_3 12 rfl rfl)
theorem dX0_acts_85 : decode cX0_acts 85 = .ok (.goto (-83), 3) := dk_167 255 173 (dk_at dksX0_acts_3 15 rfl rfl)
theorem dX0_acts_88 : decode cX0_acts 88 = .ok (.aload_n 0, 1) := dk_42 (dk_at dksX0_acts_3 18 rfl rfl)
theorem dX0_acts_89 : decode cX0_acts 89 = .ok (.getfield 208, 3) := dk_180 0 208 (dk_at dksX0_acts_3 19 rfl rfl)
theorem dX0_acts_92 : decode cX0_acts 92 = .ok (.iconst (-1), 1) := dk_2 (dk_at dksX0_acts_3 22 rfl rfl)
theorem dX0_acts_93 : decode cX0_acts 93 = .ok (.if_icmp .eq 23, 3) := dk_159 0 23 (dk_at dksX0_acts_4 0 rfl rfl)
theorem dX0_acts_96 : decode cX0_acts 96 = .ok (.aload_n 0, 1) := dk_42 (dk_at dksX0_acts_4 3 rfl rfl)
theorem dX0_acts_97 : decode cX0_acts 97 = .ok (.getfield 211, 3) := dk_180 0 211 (dk_at dksX0_acts_4 4 rfl rfl)
theorem dX0_acts_100 : decode cX0_acts 100 = .ok (.iload_n 1, 1) := dk_27 (dk_at dksX0_acts_4 7 rfl rfl)
theorem dX0_acts_101 : decode cX0_acts 101 = .ok (.if_icmp .ne 15, 3) := dk_160 0 15 (dk_at dksX0_acts_4 8 rfl rfl)
theorem dX0_acts_104 : decode cX0_acts 104 = .ok (.aload_n 0, 1) := dk_42 (dk_at dksX0_acts_4 11 rfl rfl)
theorem dX0_acts_105 : decode cX0_acts 105 = .ok (.aload_n 0, 1) := dk_42 (dk_at dksX0_acts_4 12 rfl rfl)
theorem dX0_acts_106 : decode cX0_acts 106 = .ok (.getfield 208, 3) := dk_180 0 208 (dk_at dksX0_acts_4 13 rfl rfl)
theorem dX0_acts_109 : decode cX0_acts 109 = .ok (.iload_n 1, 1) := dk_27 (dk_at dksX0_acts_4 16 rfl rfl)
theorem dX0_acts_110 : decode cX0_acts 110 = .ok (.invokevirtual 243, 3) := dk_182 0 243 (dk_at dksX0_acts_4 17 rfl rfl)
theorem dX0_acts_113 : decode cX0_acts 113 = .ok (.ifCond .ne 4, 3) := dk_154 0 4 (dk_at dksX0_acts_4 20 rfl rfl)
theorem dX0_acts_116 : decode cX0_acts 116 = .ok (.return_, 1) := dk_177 (dk_at dksX0_acts_4 23 rfl rfl)
theorem dX0_acts_117 : decode cX0_acts 117 = .ok (.aload_n 0, 1) := dk_42 (dk_at dksX0_acts_5 0 rfl rfl)
theorem dX0_acts_118 : decode cX0_acts 118 = .ok (.getfield 217, 3) := dk_180 0 217 (dk_at dksX0_acts_5 1 rfl rfl)
theorem dX0_acts_121 : decode cX0_acts 121 = .ok (.ifCond .eq 20, 3) := dk_153 0 20 (dk_at dksX0_acts_5 4 rfl rfl)
theorem dX0_acts_124 : decode cX0_acts 124 = .ok (.aload_n 0, 1) := dk_42 (dk_at dksX0_acts_5 7 rfl rfl)
theorem dX0_acts_125 : decode cX0_acts 125 = .ok (.aload_n 0, 1) := dk_42 (dk_at dksX0_acts_5 8 rfl rfl)
theorem dX0_acts_126 : decode cX0_acts 126 = .ok (.getfield 208, 3) := dk_180 0 208 (dk_at dksX0_acts_5 9 rfl rfl)
theorem dX0_acts_129 : decode cX0_acts 129 = .ok (.aload_n 0, 1) := dk_42 (dk_at dksX0_acts_5 12 rfl rfl)
theorem dX0_acts_130 : decode cX0_acts 130 = .ok (.getfield 28, 3) := dk_180 0 28 (dk_at dksX0_acts_5 13 rfl rfl)
theorem dX0_acts_133 : decode cX0_acts 133 = .ok (.aload_n 0, 1) := dk_42 (dk_at dksX0_acts_5 16 rfl rfl)
theorem dX0_acts_134 : decode cX0_acts 134 = .ok (.getfield 208, 3) := dk_180 0 208 (dk_at dksX0_acts_5 17 rfl rfl)
theorem dX0_acts_137 : decode cX0_acts 137 = .ok (.iaload, 1) := dk_46 (dk_at dksX0_acts_5 20 rfl rfl)
theorem dX0_acts_138 : decode cX0_acts 138 = .ok (.invokevirtual 247, 3) := dk_182 0 247 (dk_at dksX0_acts_5 21 rfl rfl)
theorem dX0_acts_141 : decode cX0_acts 141 = .ok (.iconst 0, 1) := dk_3 (dk_at dksX0_acts_6 0 rfl rfl)
theorem dX0_acts_142 : decode cX0_acts 142 = .ok (.istore_n 2, 1) := dk_61 (dk_at dksX0_acts_6 1 rfl rfl)
theorem dX0_acts_143 : decode cX0_acts 143 = .ok (.iload_n 2, 1) := dk_28 (dk_at dksX0_acts_6 2 rfl rfl)
theorem dX0_acts_144 : decode cX0_acts 144 = .ok (.aload_n 0, 1) := dk_42 (dk_at dksX0_acts_6 3 rfl rfl)
theorem dX0_acts_145 : decode cX0_acts 145 = .ok (.getfield 214, 3) := dk_180 0 214 (dk_at dksX0_acts_6 4 rfl rfl)
theorem dX0_acts_148 : decode cX0_acts 148 = .ok (.if_icmp .ge 17, 3) := dk_162 0 17 (dk_at dksX0_acts_6 7 rfl rfl)
theorem dX0_acts_151 : decode cX0_acts 151 = .ok (.aload_n 0, 1) := dk_42 (dk_at dksX0_acts_6 10 rfl rfl)
theorem dX0_acts_152 : decode cX0_acts 152 = .ok (.aload_n 0, 1) := dk_42 (dk_at dksX0_acts_6 11 rfl rfl)
theorem dX0_acts_153 : decode cX0_acts 153 = .ok (.getfield 208, 3) := dk_180 0 208 (dk_at dksX0_acts_6 12 rfl rfl)
theorem dX0_acts_156 : decode cX0_acts 156 = .ok (.invokevirtual 251, 3) := dk_182 0 251 (dk_at dksX0_acts_6 15 rfl rfl)
theorem dX0_acts_159 : decode cX0_acts 159 = .ok (.iinc 2 1, 3) := dk_132 2 1 (dk_at dksX0_acts_6 18 rfl rfl)
theorem dX0_acts_162 : decode cX0_acts 162 = .ok (.goto (-19), 3) := dk_167 255 237 (dk_at dksX0_acts_6 21 rfl rfl)
theorem dX0_acts_165 : decode cX0_acts 165 = .ok (.return_, 1) := dk_177 (dk_at dksX0_acts_7 0 rfl rfl)
abbrev cX0_bleach : ByteArray := prog_1_method_29_code
def yX0_bleach : MethodName := ⟨RX0, "bleach", "(I)V"⟩
def dkwX0_bleach_1 : List UInt8 := [182, 0, 227, 177]
abbrev dktX0_bleach_1 : List UInt8 := dkwX0_bleach_1 ++ []
def dkwX0_bleach_0 : List UInt8 := [42, 180, 0, 31, 27, 3, 42, 180, 0, 31, 27, 46, 16, 10, 100, 184, 0, 234, 79, 42, 27, 3]
abbrev dktX0_bleach_0 : List UInt8 := dkwX0_bleach_0 ++ dktX0_bleach_1
theorem dksX0_bleach_0 : cX0_bleach.data.toList.drop 0 = dktX0_bleach_0 := by decide +kernel
theorem dksX0_bleach_1 : cX0_bleach.data.toList.drop 22 = dktX0_bleach_1 := dk_seg dksX0_bleach_0 22 rfl rfl
theorem dX0_bleach_0 : decode cX0_bleach 0 = .ok (.aload_n 0, 1) := dk_42 (dk_at dksX0_bleach_0 0 rfl rfl)
theorem dX0_bleach_1 : decode cX0_bleach 1 = .ok (.getfield 31, 3) := dk_180 0 31 (dk_at dksX0_bleach_0 1 rfl rfl)
theorem dX0_bleach_4 : decode cX0_bleach 4 = .ok (.iload_n 1, 1) := dk_27 (dk_at dksX0_bleach_0 4 rfl rfl)
theorem dX0_bleach_5 : decode cX0_bleach 5 = .ok (.iconst 0, 1) := dk_3 (dk_at dksX0_bleach_0 5 rfl rfl)
theorem dX0_bleach_6 : decode cX0_bleach 6 = .ok (.aload_n 0, 1) := dk_42 (dk_at dksX0_bleach_0 6 rfl rfl)
theorem dX0_bleach_7 : decode cX0_bleach 7 = .ok (.getfield 31, 3) := dk_180 0 31 (dk_at dksX0_bleach_0 7 rfl rfl)
theorem dX0_bleach_10 : decode cX0_bleach 10 = .ok (.iload_n 1, 1) := dk_27 (dk_at dksX0_bleach_0 10 rfl rfl)
theorem dX0_bleach_11 : decode cX0_bleach 11 = .ok (.iaload, 1) := dk_46 (dk_at dksX0_bleach_0 11 rfl rfl)
theorem dX0_bleach_12 : decode cX0_bleach 12 = .ok (.bipush 10, 2) := dk_16 10 (dk_at dksX0_bleach_0 12 rfl rfl)
theorem dX0_bleach_14 : decode cX0_bleach 14 = .ok (.isub, 1) := dk_100 (dk_at dksX0_bleach_0 14 rfl rfl)
theorem dX0_bleach_15 : decode cX0_bleach 15 = .ok (.invokestatic 234, 3) := dk_184 0 234 (dk_at dksX0_bleach_0 15 rfl rfl)
theorem dX0_bleach_18 : decode cX0_bleach 18 = .ok (.iastore, 1) := dk_79 (dk_at dksX0_bleach_0 18 rfl rfl)
theorem dX0_bleach_19 : decode cX0_bleach 19 = .ok (.aload_n 0, 1) := dk_42 (dk_at dksX0_bleach_0 19 rfl rfl)
theorem dX0_bleach_20 : decode cX0_bleach 20 = .ok (.iload_n 1, 1) := dk_27 (dk_at dksX0_bleach_0 20 rfl rfl)
theorem dX0_bleach_21 : decode cX0_bleach 21 = .ok (.iconst 0, 1) := dk_3 (dk_at dksX0_bleach_0 21 rfl rfl)
theorem dX0_bleach_22 : decode cX0_bleach 22 = .ok (.invokevirtual 227, 3) := dk_182 0 227 (dk_at dksX0_bleach_1 0 rfl rfl)
theorem dX0_bleach_25 : decode cX0_bleach 25 = .ok (.return_, 1) := dk_177 (dk_at dksX0_bleach_1 3 rfl rfl)
abbrev cX0_isBook : ByteArray := prog_1_method_9_code
def yX0_isBook : MethodName := ⟨RX0, "isBook", "()Z"⟩
def dkwX0_isBook_0 : List UInt8 := [42, 180, 0, 10, 180, 0, 109, 158, 0, 7, 4, 167, 0, 4, 3, 172]
abbrev dktX0_isBook_0 : List UInt8 := dkwX0_isBook_0 ++ []
theorem dksX0_isBook_0 : cX0_isBook.data.toList.drop 0 = dktX0_isBook_0 := by decide +kernel
theorem dX0_isBook_0 : decode cX0_isBook 0 = .ok (.aload_n 0, 1) := dk_42 (dk_at dksX0_isBook_0 0 rfl rfl)
theorem dX0_isBook_1 : decode cX0_isBook 1 = .ok (.getfield 10, 3) := dk_180 0 10 (dk_at dksX0_isBook_0 1 rfl rfl)
theorem dX0_isBook_4 : decode cX0_isBook 4 = .ok (.getfield 109, 3) := dk_180 0 109 (dk_at dksX0_isBook_0 4 rfl rfl)
theorem dX0_isBook_7 : decode cX0_isBook 7 = .ok (.ifCond .le 7, 3) := dk_158 0 7 (dk_at dksX0_isBook_0 7 rfl rfl)
theorem dX0_isBook_10 : decode cX0_isBook 10 = .ok (.iconst 1, 1) := dk_4 (dk_at dksX0_isBook_0 10 rfl rfl)
theorem dX0_isBook_11 : decode cX0_isBook 11 = .ok (.goto 4, 3) := dk_167 0 4 (dk_at dksX0_isBook_0 11 rfl rfl)
theorem dX0_isBook_14 : decode cX0_isBook 14 = .ok (.iconst 0, 1) := dk_3 (dk_at dksX0_isBook_0 14 rfl rfl)
theorem dX0_isBook_15 : decode cX0_isBook 15 = .ok (.ireturn, 1) := dk_172 (dk_at dksX0_isBook_0 15 rfl rfl)
abbrev cX0_isYear : ByteArray := prog_1_method_13_code
def yX0_isYear : MethodName := ⟨RX0, "isYear", "(J)Z"⟩
def dkwX0_isYear_1 : List UInt8 := [167, 0, 4, 3, 172]
abbrev dktX0_isYear_1 : List UInt8 := dkwX0_isYear_1 ++ []
def dkwX0_isYear_0 : List UInt8 := [42, 182, 0, 129, 153, 0, 23, 31, 9, 42, 180, 0, 10, 180, 0, 133, 133, 184, 0, 95, 153, 0, 7, 4]
abbrev dktX0_isYear_0 : List UInt8 := dkwX0_isYear_0 ++ dktX0_isYear_1
theorem dksX0_isYear_0 : cX0_isYear.data.toList.drop 0 = dktX0_isYear_0 := by decide +kernel
theorem dksX0_isYear_1 : cX0_isYear.data.toList.drop 24 = dktX0_isYear_1 := dk_seg dksX0_isYear_0 24 rfl rfl
theorem dX0_isYear_0 : decode cX0_isYear 0 = .ok (.aload_n 0, 1) := dk_42 (dk_at dksX0_isYear_0 0 rfl rfl)
theorem dX0_isYear_1 : decode cX0_isYear 1 = .ok (.invokevirtual 129, 3) := dk_182 0 129 (dk_at dksX0_isYear_0 1 rfl rfl)
theorem dX0_isYear_4 : decode cX0_isYear 4 = .ok (.ifCond .eq 23, 3) := dk_153 0 23 (dk_at dksX0_isYear_0 4 rfl rfl)
theorem dX0_isYear_7 : decode cX0_isYear 7 = .ok (.lload_n 1, 1) := dk_31 (dk_at dksX0_isYear_0 7 rfl rfl)
theorem dX0_isYear_8 : decode cX0_isYear 8 = .ok (.lconst 0, 1) := dk_9 (dk_at dksX0_isYear_0 8 rfl rfl)
theorem dX0_isYear_9 : decode cX0_isYear 9 = .ok (.aload_n 0, 1) := dk_42 (dk_at dksX0_isYear_0 9 rfl rfl)
theorem dX0_isYear_10 : decode cX0_isYear 10 = .ok (.getfield 10, 3) := dk_180 0 10 (dk_at dksX0_isYear_0 10 rfl rfl)
theorem dX0_isYear_13 : decode cX0_isYear 13 = .ok (.getfield 133, 3) := dk_180 0 133 (dk_at dksX0_isYear_0 13 rfl rfl)
theorem dX0_isYear_16 : decode cX0_isYear 16 = .ok (.i2l, 1) := dk_133 (dk_at dksX0_isYear_0 16 rfl rfl)
theorem dX0_isYear_17 : decode cX0_isYear 17 = .ok (.invokestatic 95, 3) := dk_184 0 95 (dk_at dksX0_isYear_0 17 rfl rfl)
theorem dX0_isYear_20 : decode cX0_isYear 20 = .ok (.ifCond .eq 7, 3) := dk_153 0 7 (dk_at dksX0_isYear_0 20 rfl rfl)
theorem dX0_isYear_23 : decode cX0_isYear 23 = .ok (.iconst 1, 1) := dk_4 (dk_at dksX0_isYear_0 23 rfl rfl)
theorem dX0_isYear_24 : decode cX0_isYear 24 = .ok (.goto 4, 3) := dk_167 0 4 (dk_at dksX0_isYear_1 0 rfl rfl)
theorem dX0_isYear_27 : decode cX0_isYear 27 = .ok (.iconst 0, 1) := dk_3 (dk_at dksX0_isYear_1 3 rfl rfl)
theorem dX0_isYear_28 : decode cX0_isYear 28 = .ok (.ireturn, 1) := dk_172 (dk_at dksX0_isYear_1 4 rfl rfl)
abbrev cX0_thereIn : ByteArray := prog_1_method_38_code
def yX0_thereIn : MethodName := ⟨RX0, "thereIn", "(I)I"⟩
def dkwX0_thereIn_1 : List UInt8 := [153, 0, 9, 4, 29, 120, 167, 0, 4, 3, 128, 61, 132, 3, 1, 167, 255, 223, 28, 172]
abbrev dktX0_thereIn_1 : List UInt8 := dkwX0_thereIn_1 ++ []
def dkwX0_thereIn_0 : List UInt8 := [3, 61, 3, 62, 29, 42, 180, 0, 10, 180, 0, 126, 162, 0, 28, 28, 42, 29, 27, 182, 0, 243]
abbrev dktX0_thereIn_0 : List UInt8 := dkwX0_thereIn_0 ++ dktX0_thereIn_1
theorem dksX0_thereIn_0 : cX0_thereIn.data.toList.drop 0 = dktX0_thereIn_0 := by decide +kernel
theorem dksX0_thereIn_1 : cX0_thereIn.data.toList.drop 22 = dktX0_thereIn_1 := dk_seg dksX0_thereIn_0 22 rfl rfl
theorem dX0_thereIn_0 : decode cX0_thereIn 0 = .ok (.iconst 0, 1) := dk_3 (dk_at dksX0_thereIn_0 0 rfl rfl)
theorem dX0_thereIn_1 : decode cX0_thereIn 1 = .ok (.istore_n 2, 1) := dk_61 (dk_at dksX0_thereIn_0 1 rfl rfl)
theorem dX0_thereIn_2 : decode cX0_thereIn 2 = .ok (.iconst 0, 1) := dk_3 (dk_at dksX0_thereIn_0 2 rfl rfl)
theorem dX0_thereIn_3 : decode cX0_thereIn 3 = .ok (.istore_n 3, 1) := dk_62 (dk_at dksX0_thereIn_0 3 rfl rfl)
theorem dX0_thereIn_4 : decode cX0_thereIn 4 = .ok (.iload_n 3, 1) := dk_29 (dk_at dksX0_thereIn_0 4 rfl rfl)
theorem dX0_thereIn_5 : decode cX0_thereIn 5 = .ok (.aload_n 0, 1) := dk_42 (dk_at dksX0_thereIn_0 5 rfl rfl)
theorem dX0_thereIn_6 : decode cX0_thereIn 6 = .ok (.getfield 10, 3) := dk_180 0 10 (dk_at dksX0_thereIn_0 6 rfl rfl)
theorem dX0_thereIn_9 : decode cX0_thereIn 9 = .ok (.getfield 126, 3) := dk_180 0 126 (dk_at dksX0_thereIn_0 9 rfl rfl)
theorem dX0_thereIn_12 : decode cX0_thereIn 12 = .ok (.if_icmp .ge 28, 3) := dk_162 0 28 (dk_at dksX0_thereIn_0 12 rfl rfl)
theorem dX0_thereIn_15 : decode cX0_thereIn 15 = .ok (.iload_n 2, 1) := dk_28 (dk_at dksX0_thereIn_0 15 rfl rfl)
theorem dX0_thereIn_16 : decode cX0_thereIn 16 = .ok (.aload_n 0, 1) := dk_42 (dk_at dksX0_thereIn_0 16 rfl rfl)
theorem dX0_thereIn_17 : decode cX0_thereIn 17 = .ok (.iload_n 3, 1) := dk_29 (dk_at dksX0_thereIn_0 17 rfl rfl)
theorem dX0_thereIn_18 : decode cX0_thereIn 18 = .ok (.iload_n 1, 1) := dk_27 (dk_at dksX0_thereIn_0 18 rfl rfl)
theorem dX0_thereIn_19 : decode cX0_thereIn 19 = .ok (.invokevirtual 243, 3) := dk_182 0 243 (dk_at dksX0_thereIn_0 19 rfl rfl)
theorem dX0_thereIn_22 : decode cX0_thereIn 22 = .ok (.ifCond .eq 9, 3) := dk_153 0 9 (dk_at dksX0_thereIn_1 0 rfl rfl)
theorem dX0_thereIn_25 : decode cX0_thereIn 25 = .ok (.iconst 1, 1) := dk_4 (dk_at dksX0_thereIn_1 3 rfl rfl)
theorem dX0_thereIn_26 : decode cX0_thereIn 26 = .ok (.iload_n 3, 1) := dk_29 (dk_at dksX0_thereIn_1 4 rfl rfl)
theorem dX0_thereIn_27 : decode cX0_thereIn 27 = .ok (.ishl, 1) := dk_120 (dk_at dksX0_thereIn_1 5 rfl rfl)
theorem dX0_thereIn_28 : decode cX0_thereIn 28 = .ok (.goto 4, 3) := dk_167 0 4 (dk_at dksX0_thereIn_1 6 rfl rfl)
theorem dX0_thereIn_31 : decode cX0_thereIn 31 = .ok (.iconst 0, 1) := dk_3 (dk_at dksX0_thereIn_1 9 rfl rfl)
theorem dX0_thereIn_32 : decode cX0_thereIn 32 = .ok (.ior, 1) := dk_128 (dk_at dksX0_thereIn_1 10 rfl rfl)
theorem dX0_thereIn_33 : decode cX0_thereIn 33 = .ok (.istore_n 2, 1) := dk_61 (dk_at dksX0_thereIn_1 11 rfl rfl)
theorem dX0_thereIn_34 : decode cX0_thereIn 34 = .ok (.iinc 3 1, 3) := dk_132 3 1 (dk_at dksX0_thereIn_1 12 rfl rfl)
theorem dX0_thereIn_37 : decode cX0_thereIn 37 = .ok (.goto (-33), 3) := dk_167 255 223 (dk_at dksX0_thereIn_1 15 rfl rfl)
theorem dX0_thereIn_40 : decode cX0_thereIn 40 = .ok (.iload_n 2, 1) := dk_28 (dk_at dksX0_thereIn_1 18 rfl rfl)
theorem dX0_thereIn_41 : decode cX0_thereIn 41 = .ok (.ireturn, 1) := dk_172 (dk_at dksX0_thereIn_1 19 rfl rfl)
abbrev cX0_shade : ByteArray := prog_1_method_40_code
def yX0_shade : MethodName := ⟨RX0, "shade", "(II)I"⟩
def dkwX0_shade_1 : List UInt8 := [167, 0, 5, 16, 254, 172]
abbrev dktX0_shade_1 : List UInt8 := dkwX0_shade_1 ++ []
def dkwX0_shade_0 : List UInt8 := [42, 28, 182, 1, 27, 153, 0, 21, 42, 27, 133, 182, 0, 163, 153, 0, 12, 42, 27, 28, 182, 1, 24]
abbrev dktX0_shade_0 : List UInt8 := dkwX0_shade_0 ++ dktX0_shade_1
theorem dksX0_shade_0 : cX0_shade.data.toList.drop 0 = dktX0_shade_0 := by decide +kernel
theorem dksX0_shade_1 : cX0_shade.data.toList.drop 23 = dktX0_shade_1 := dk_seg dksX0_shade_0 23 rfl rfl
theorem dX0_shade_0 : decode cX0_shade 0 = .ok (.aload_n 0, 1) := dk_42 (dk_at dksX0_shade_0 0 rfl rfl)
theorem dX0_shade_1 : decode cX0_shade 1 = .ok (.iload_n 2, 1) := dk_28 (dk_at dksX0_shade_0 1 rfl rfl)
theorem dX0_shade_2 : decode cX0_shade 2 = .ok (.invokevirtual 283, 3) := dk_182 1 27 (dk_at dksX0_shade_0 2 rfl rfl)
theorem dX0_shade_5 : decode cX0_shade 5 = .ok (.ifCond .eq 21, 3) := dk_153 0 21 (dk_at dksX0_shade_0 5 rfl rfl)
theorem dX0_shade_8 : decode cX0_shade 8 = .ok (.aload_n 0, 1) := dk_42 (dk_at dksX0_shade_0 8 rfl rfl)
theorem dX0_shade_9 : decode cX0_shade 9 = .ok (.iload_n 1, 1) := dk_27 (dk_at dksX0_shade_0 9 rfl rfl)
theorem dX0_shade_10 : decode cX0_shade 10 = .ok (.i2l, 1) := dk_133 (dk_at dksX0_shade_0 10 rfl rfl)
theorem dX0_shade_11 : decode cX0_shade 11 = .ok (.invokevirtual 163, 3) := dk_182 0 163 (dk_at dksX0_shade_0 11 rfl rfl)
theorem dX0_shade_14 : decode cX0_shade 14 = .ok (.ifCond .eq 12, 3) := dk_153 0 12 (dk_at dksX0_shade_0 14 rfl rfl)
theorem dX0_shade_17 : decode cX0_shade 17 = .ok (.aload_n 0, 1) := dk_42 (dk_at dksX0_shade_0 17 rfl rfl)
theorem dX0_shade_18 : decode cX0_shade 18 = .ok (.iload_n 1, 1) := dk_27 (dk_at dksX0_shade_0 18 rfl rfl)
theorem dX0_shade_19 : decode cX0_shade 19 = .ok (.iload_n 2, 1) := dk_28 (dk_at dksX0_shade_0 19 rfl rfl)
theorem dX0_shade_20 : decode cX0_shade 20 = .ok (.invokevirtual 280, 3) := dk_182 1 24 (dk_at dksX0_shade_0 20 rfl rfl)
theorem dX0_shade_23 : decode cX0_shade 23 = .ok (.goto 5, 3) := dk_167 0 5 (dk_at dksX0_shade_1 0 rfl rfl)
theorem dX0_shade_26 : decode cX0_shade 26 = .ok (.bipush (-2), 2) := dk_16 254 (dk_at dksX0_shade_1 3 rfl rfl)
theorem dX0_shade_28 : decode cX0_shade 28 = .ok (.ireturn, 1) := dk_172 (dk_at dksX0_shade_1 5 rfl rfl)
abbrev cX0_shadeOf : ByteArray := prog_1_method_36_code
def yX0_shadeOf : MethodName := ⟨RX0, "shadeOf", "(II)I"⟩
def dkwX0_shadeOf_0 : List UInt8 := [42, 180, 0, 62, 16, 7, 28, 104, 27, 96, 46, 172]
abbrev dktX0_shadeOf_0 : List UInt8 := dkwX0_shadeOf_0 ++ []
theorem dksX0_shadeOf_0 : cX0_shadeOf.data.toList.drop 0 = dktX0_shadeOf_0 := by decide +kernel
theorem dX0_shadeOf_0 : decode cX0_shadeOf 0 = .ok (.aload_n 0, 1) := dk_42 (dk_at dksX0_shadeOf_0 0 rfl rfl)
theorem dX0_shadeOf_1 : decode cX0_shadeOf 1 = .ok (.getfield 62, 3) := dk_180 0 62 (dk_at dksX0_shadeOf_0 1 rfl rfl)
theorem dX0_shadeOf_4 : decode cX0_shadeOf 4 = .ok (.bipush 7, 2) := dk_16 7 (dk_at dksX0_shadeOf_0 4 rfl rfl)
theorem dX0_shadeOf_6 : decode cX0_shadeOf 6 = .ok (.iload_n 2, 1) := dk_28 (dk_at dksX0_shadeOf_0 6 rfl rfl)
theorem dX0_shadeOf_7 : decode cX0_shadeOf 7 = .ok (.imul, 1) := dk_104 (dk_at dksX0_shadeOf_0 7 rfl rfl)
theorem dX0_shadeOf_8 : decode cX0_shadeOf 8 = .ok (.iload_n 1, 1) := dk_27 (dk_at dksX0_shadeOf_0 8 rfl rfl)
theorem dX0_shadeOf_9 : decode cX0_shadeOf 9 = .ok (.iadd, 1) := dk_96 (dk_at dksX0_shadeOf_0 9 rfl rfl)
theorem dX0_shadeOf_10 : decode cX0_shadeOf 10 = .ok (.iaload, 1) := dk_46 (dk_at dksX0_shadeOf_0 10 rfl rfl)
theorem dX0_shadeOf_11 : decode cX0_shadeOf 11 = .ok (.ireturn, 1) := dk_172 (dk_at dksX0_shadeOf_0 11 rfl rfl)
abbrev cX0_peak : ByteArray := prog_1_method_42_code
def yX0_peak : MethodName := ⟨RX0, "peak", "(I)I"⟩
def dkwX0_peak_0 : List UInt8 := [42, 27, 182, 1, 33, 153, 0, 16, 42, 27, 42, 27, 182, 1, 36, 182, 1, 24, 167, 0, 5, 16, 254, 172]
abbrev dktX0_peak_0 : List UInt8 := dkwX0_peak_0 ++ []
theorem dksX0_peak_0 : cX0_peak.data.toList.drop 0 = dktX0_peak_0 := by decide +kernel
theorem dX0_peak_0 : decode cX0_peak 0 = .ok (.aload_n 0, 1) := dk_42 (dk_at dksX0_peak_0 0 rfl rfl)
theorem dX0_peak_1 : decode cX0_peak 1 = .ok (.iload_n 1, 1) := dk_27 (dk_at dksX0_peak_0 1 rfl rfl)
theorem dX0_peak_2 : decode cX0_peak 2 = .ok (.invokevirtual 289, 3) := dk_182 1 33 (dk_at dksX0_peak_0 2 rfl rfl)
theorem dX0_peak_5 : decode cX0_peak 5 = .ok (.ifCond .eq 16, 3) := dk_153 0 16 (dk_at dksX0_peak_0 5 rfl rfl)
theorem dX0_peak_8 : decode cX0_peak 8 = .ok (.aload_n 0, 1) := dk_42 (dk_at dksX0_peak_0 8 rfl rfl)
theorem dX0_peak_9 : decode cX0_peak 9 = .ok (.iload_n 1, 1) := dk_27 (dk_at dksX0_peak_0 9 rfl rfl)
theorem dX0_peak_10 : decode cX0_peak 10 = .ok (.aload_n 0, 1) := dk_42 (dk_at dksX0_peak_0 10 rfl rfl)
theorem dX0_peak_11 : decode cX0_peak 11 = .ok (.iload_n 1, 1) := dk_27 (dk_at dksX0_peak_0 11 rfl rfl)
theorem dX0_peak_12 : decode cX0_peak 12 = .ok (.invokevirtual 292, 3) := dk_182 1 36 (dk_at dksX0_peak_0 12 rfl rfl)
theorem dX0_peak_15 : decode cX0_peak 15 = .ok (.invokevirtual 280, 3) := dk_182 1 24 (dk_at dksX0_peak_0 15 rfl rfl)
theorem dX0_peak_18 : decode cX0_peak 18 = .ok (.goto 5, 3) := dk_167 0 5 (dk_at dksX0_peak_0 18 rfl rfl)
theorem dX0_peak_21 : decode cX0_peak 21 = .ok (.bipush (-2), 2) := dk_16 254 (dk_at dksX0_peak_0 21 rfl rfl)
theorem dX0_peak_23 : decode cX0_peak 23 = .ok (.ireturn, 1) := dk_172 (dk_at dksX0_peak_0 23 rfl rfl)
abbrev cX0_asksEntry : ByteArray := prog_1_method_35_code
def yX0_asksEntry : MethodName := ⟨RX0, "asksEntry", "(I)Z"⟩
def dkwX0_asksEntry_0 : List UInt8 := [42, 182, 1, 18, 153, 0, 16, 42, 27, 133, 182, 0, 163, 153, 0, 7, 4, 167, 0, 4, 3, 172]
abbrev dktX0_asksEntry_0 : List UInt8 := dkwX0_asksEntry_0 ++ []
theorem dksX0_asksEntry_0 : cX0_asksEntry.data.toList.drop 0 = dktX0_asksEntry_0 := by decide +kernel
theorem dX0_asksEntry_0 : decode cX0_asksEntry 0 = .ok (.aload_n 0, 1) := dk_42 (dk_at dksX0_asksEntry_0 0 rfl rfl)
theorem dX0_asksEntry_1 : decode cX0_asksEntry 1 = .ok (.invokevirtual 274, 3) := dk_182 1 18 (dk_at dksX0_asksEntry_0 1 rfl rfl)
theorem dX0_asksEntry_4 : decode cX0_asksEntry 4 = .ok (.ifCond .eq 16, 3) := dk_153 0 16 (dk_at dksX0_asksEntry_0 4 rfl rfl)
theorem dX0_asksEntry_7 : decode cX0_asksEntry 7 = .ok (.aload_n 0, 1) := dk_42 (dk_at dksX0_asksEntry_0 7 rfl rfl)
theorem dX0_asksEntry_8 : decode cX0_asksEntry 8 = .ok (.iload_n 1, 1) := dk_27 (dk_at dksX0_asksEntry_0 8 rfl rfl)
theorem dX0_asksEntry_9 : decode cX0_asksEntry 9 = .ok (.i2l, 1) := dk_133 (dk_at dksX0_asksEntry_0 9 rfl rfl)
theorem dX0_asksEntry_10 : decode cX0_asksEntry 10 = .ok (.invokevirtual 163, 3) := dk_182 0 163 (dk_at dksX0_asksEntry_0 10 rfl rfl)
theorem dX0_asksEntry_13 : decode cX0_asksEntry 13 = .ok (.ifCond .eq 7, 3) := dk_153 0 7 (dk_at dksX0_asksEntry_0 13 rfl rfl)
theorem dX0_asksEntry_16 : decode cX0_asksEntry 16 = .ok (.iconst 1, 1) := dk_4 (dk_at dksX0_asksEntry_0 16 rfl rfl)
theorem dX0_asksEntry_17 : decode cX0_asksEntry 17 = .ok (.goto 4, 3) := dk_167 0 4 (dk_at dksX0_asksEntry_0 17 rfl rfl)
theorem dX0_asksEntry_20 : decode cX0_asksEntry 20 = .ok (.iconst 0, 1) := dk_3 (dk_at dksX0_asksEntry_0 20 rfl rfl)
theorem dX0_asksEntry_21 : decode cX0_asksEntry 21 = .ok (.ireturn, 1) := dk_172 (dk_at dksX0_asksEntry_0 21 rfl rfl)
abbrev cX0_ripeOf : ByteArray := prog_1_method_41_code
def yX0_ripeOf : MethodName := ⟨RX0, "ripeOf", "(I)I"⟩
def dkwX0_ripeOf_1 : List UInt8 := [182, 1, 24, 164, 0, 5, 29, 61, 132, 3, 1, 167, 255, 225, 28, 172]
abbrev dktX0_ripeOf_1 : List UInt8 := dkwX0_ripeOf_1 ++ []
def dkwX0_ripeOf_0 : List UInt8 := [3, 61, 4, 62, 29, 42, 180, 0, 10, 180, 0, 133, 163, 0, 26, 42, 27, 29, 182, 1, 24, 42, 27, 28]
abbrev dktX0_ripeOf_0 : List UInt8 := dkwX0_ripeOf_0 ++ dktX0_ripeOf_1
theorem dksX0_ripeOf_0 : cX0_ripeOf.data.toList.drop 0 = dktX0_ripeOf_0 := by decide +kernel
theorem dksX0_ripeOf_1 : cX0_ripeOf.data.toList.drop 24 = dktX0_ripeOf_1 := dk_seg dksX0_ripeOf_0 24 rfl rfl
theorem dX0_ripeOf_0 : decode cX0_ripeOf 0 = .ok (.iconst 0, 1) := dk_3 (dk_at dksX0_ripeOf_0 0 rfl rfl)
theorem dX0_ripeOf_1 : decode cX0_ripeOf 1 = .ok (.istore_n 2, 1) := dk_61 (dk_at dksX0_ripeOf_0 1 rfl rfl)
theorem dX0_ripeOf_2 : decode cX0_ripeOf 2 = .ok (.iconst 1, 1) := dk_4 (dk_at dksX0_ripeOf_0 2 rfl rfl)
theorem dX0_ripeOf_3 : decode cX0_ripeOf 3 = .ok (.istore_n 3, 1) := dk_62 (dk_at dksX0_ripeOf_0 3 rfl rfl)
theorem dX0_ripeOf_4 : decode cX0_ripeOf 4 = .ok (.iload_n 3, 1) := dk_29 (dk_at dksX0_ripeOf_0 4 rfl rfl)
theorem dX0_ripeOf_5 : decode cX0_ripeOf 5 = .ok (.aload_n 0, 1) := dk_42 (dk_at dksX0_ripeOf_0 5 rfl rfl)
theorem dX0_ripeOf_6 : decode cX0_ripeOf 6 = .ok (.getfield 10, 3) := dk_180 0 10 (dk_at dksX0_ripeOf_0 6 rfl rfl)
theorem dX0_ripeOf_9 : decode cX0_ripeOf 9 = .ok (.getfield 133, 3) := dk_180 0 133 (dk_at dksX0_ripeOf_0 9 rfl rfl)
theorem dX0_ripeOf_12 : decode cX0_ripeOf 12 = .ok (.if_icmp .gt 26, 3) := dk_163 0 26 (dk_at dksX0_ripeOf_0 12 rfl rfl)
theorem dX0_ripeOf_15 : decode cX0_ripeOf 15 = .ok (.aload_n 0, 1) := dk_42 (dk_at dksX0_ripeOf_0 15 rfl rfl)
theorem dX0_ripeOf_16 : decode cX0_ripeOf 16 = .ok (.iload_n 1, 1) := dk_27 (dk_at dksX0_ripeOf_0 16 rfl rfl)
theorem dX0_ripeOf_17 : decode cX0_ripeOf 17 = .ok (.iload_n 3, 1) := dk_29 (dk_at dksX0_ripeOf_0 17 rfl rfl)
theorem dX0_ripeOf_18 : decode cX0_ripeOf 18 = .ok (.invokevirtual 280, 3) := dk_182 1 24 (dk_at dksX0_ripeOf_0 18 rfl rfl)
theorem dX0_ripeOf_21 : decode cX0_ripeOf 21 = .ok (.aload_n 0, 1) := dk_42 (dk_at dksX0_ripeOf_0 21 rfl rfl)
theorem dX0_ripeOf_22 : decode cX0_ripeOf 22 = .ok (.iload_n 1, 1) := dk_27 (dk_at dksX0_ripeOf_0 22 rfl rfl)
theorem dX0_ripeOf_23 : decode cX0_ripeOf 23 = .ok (.iload_n 2, 1) := dk_28 (dk_at dksX0_ripeOf_0 23 rfl rfl)
theorem dX0_ripeOf_24 : decode cX0_ripeOf 24 = .ok (.invokevirtual 280, 3) := dk_182 1 24 (dk_at dksX0_ripeOf_1 0 rfl rfl)
theorem dX0_ripeOf_27 : decode cX0_ripeOf 27 = .ok (.if_icmp .le 5, 3) := dk_164 0 5 (dk_at dksX0_ripeOf_1 3 rfl rfl)
theorem dX0_ripeOf_30 : decode cX0_ripeOf 30 = .ok (.iload_n 3, 1) := dk_29 (dk_at dksX0_ripeOf_1 6 rfl rfl)
theorem dX0_ripeOf_31 : decode cX0_ripeOf 31 = .ok (.istore_n 2, 1) := dk_61 (dk_at dksX0_ripeOf_1 7 rfl rfl)
theorem dX0_ripeOf_32 : decode cX0_ripeOf 32 = .ok (.iinc 3 1, 3) := dk_132 3 1 (dk_at dksX0_ripeOf_1 8 rfl rfl)
theorem dX0_ripeOf_35 : decode cX0_ripeOf 35 = .ok (.goto (-31), 3) := dk_167 255 225 (dk_at dksX0_ripeOf_1 11 rfl rfl)
theorem dX0_ripeOf_38 : decode cX0_ripeOf 38 = .ok (.iload_n 2, 1) := dk_28 (dk_at dksX0_ripeOf_1 14 rfl rfl)
theorem dX0_ripeOf_39 : decode cX0_ripeOf 39 = .ok (.ireturn, 1) := dk_172 (dk_at dksX0_ripeOf_1 15 rfl rfl)
abbrev cX0_ripe : ByteArray := prog_1_method_43_code
def yX0_ripe : MethodName := ⟨RX0, "ripe", "(I)I"⟩
def dkwX0_ripe_0 : List UInt8 := [42, 27, 182, 1, 33, 153, 0, 11, 42, 27, 182, 1, 36, 167, 0, 5, 16, 254, 172]
abbrev dktX0_ripe_0 : List UInt8 := dkwX0_ripe_0 ++ []
theorem dksX0_ripe_0 : cX0_ripe.data.toList.drop 0 = dktX0_ripe_0 := by decide +kernel
theorem dX0_ripe_0 : decode cX0_ripe 0 = .ok (.aload_n 0, 1) := dk_42 (dk_at dksX0_ripe_0 0 rfl rfl)
theorem dX0_ripe_1 : decode cX0_ripe 1 = .ok (.iload_n 1, 1) := dk_27 (dk_at dksX0_ripe_0 1 rfl rfl)
theorem dX0_ripe_2 : decode cX0_ripe 2 = .ok (.invokevirtual 289, 3) := dk_182 1 33 (dk_at dksX0_ripe_0 2 rfl rfl)
theorem dX0_ripe_5 : decode cX0_ripe 5 = .ok (.ifCond .eq 11, 3) := dk_153 0 11 (dk_at dksX0_ripe_0 5 rfl rfl)
theorem dX0_ripe_8 : decode cX0_ripe 8 = .ok (.aload_n 0, 1) := dk_42 (dk_at dksX0_ripe_0 8 rfl rfl)
theorem dX0_ripe_9 : decode cX0_ripe 9 = .ok (.iload_n 1, 1) := dk_27 (dk_at dksX0_ripe_0 9 rfl rfl)
theorem dX0_ripe_10 : decode cX0_ripe 10 = .ok (.invokevirtual 292, 3) := dk_182 1 36 (dk_at dksX0_ripe_0 10 rfl rfl)
theorem dX0_ripe_13 : decode cX0_ripe 13 = .ok (.goto 5, 3) := dk_167 0 5 (dk_at dksX0_ripe_0 13 rfl rfl)
theorem dX0_ripe_16 : decode cX0_ripe 16 = .ok (.bipush (-2), 2) := dk_16 254 (dk_at dksX0_ripe_0 16 rfl rfl)
theorem dX0_ripe_18 : decode cX0_ripe 18 = .ok (.ireturn, 1) := dk_172 (dk_at dksX0_ripe_0 18 rfl rfl)
abbrev cX0_blank : ByteArray := prog_1_method_44_code
def yX0_blank : MethodName := ⟨RX0, "blank", "(I)I"⟩
def dkwX0_blank_2 : List UInt8 := [167, 255, 222, 2, 172]
abbrev dktX0_blank_2 : List UInt8 := dkwX0_blank_2 ++ []
def dkwX0_blank_1 : List UInt8 := [42, 27, 28, 182, 0, 243, 153, 0, 14, 42, 27, 28, 182, 1, 24, 154, 0, 5, 28, 172, 132, 2, 1]
abbrev dktX0_blank_1 : List UInt8 := dkwX0_blank_1 ++ dktX0_blank_2
def dkwX0_blank_0 : List UInt8 := [42, 27, 182, 1, 33, 154, 0, 6, 16, 254, 172, 3, 61, 28, 42, 180, 0, 10, 180, 0, 133, 163, 0, 29]
abbrev dktX0_blank_0 : List UInt8 := dkwX0_blank_0 ++ dktX0_blank_1
theorem dksX0_blank_0 : cX0_blank.data.toList.drop 0 = dktX0_blank_0 := by decide +kernel
theorem dksX0_blank_1 : cX0_blank.data.toList.drop 24 = dktX0_blank_1 := dk_seg dksX0_blank_0 24 rfl rfl
theorem dksX0_blank_2 : cX0_blank.data.toList.drop 47 = dktX0_blank_2 := dk_seg dksX0_blank_1 23 rfl rfl
theorem dX0_blank_0 : decode cX0_blank 0 = .ok (.aload_n 0, 1) := dk_42 (dk_at dksX0_blank_0 0 rfl rfl)
theorem dX0_blank_1 : decode cX0_blank 1 = .ok (.iload_n 1, 1) := dk_27 (dk_at dksX0_blank_0 1 rfl rfl)
theorem dX0_blank_2 : decode cX0_blank 2 = .ok (.invokevirtual 289, 3) := dk_182 1 33 (dk_at dksX0_blank_0 2 rfl rfl)
theorem dX0_blank_5 : decode cX0_blank 5 = .ok (.ifCond .ne 6, 3) := dk_154 0 6 (dk_at dksX0_blank_0 5 rfl rfl)
theorem dX0_blank_8 : decode cX0_blank 8 = .ok (.bipush (-2), 2) := dk_16 254 (dk_at dksX0_blank_0 8 rfl rfl)
theorem dX0_blank_10 : decode cX0_blank 10 = .ok (.ireturn, 1) := dk_172 (dk_at dksX0_blank_0 10 rfl rfl)
theorem dX0_blank_11 : decode cX0_blank 11 = .ok (.iconst 0, 1) := dk_3 (dk_at dksX0_blank_0 11 rfl rfl)
theorem dX0_blank_12 : decode cX0_blank 12 = .ok (.istore_n 2, 1) := dk_61 (dk_at dksX0_blank_0 12 rfl rfl)
theorem dX0_blank_13 : decode cX0_blank 13 = .ok (.iload_n 2, 1) := dk_28 (dk_at dksX0_blank_0 13 rfl rfl)
theorem dX0_blank_14 : decode cX0_blank 14 = .ok (.aload_n 0, 1) := dk_42 (dk_at dksX0_blank_0 14 rfl rfl)
theorem dX0_blank_15 : decode cX0_blank 15 = .ok (.getfield 10, 3) := dk_180 0 10 (dk_at dksX0_blank_0 15 rfl rfl)
theorem dX0_blank_18 : decode cX0_blank 18 = .ok (.getfield 133, 3) := dk_180 0 133 (dk_at dksX0_blank_0 18 rfl rfl)
theorem dX0_blank_21 : decode cX0_blank 21 = .ok (.if_icmp .gt 29, 3) := dk_163 0 29 (dk_at dksX0_blank_0 21 rfl rfl)
theorem dX0_blank_24 : decode cX0_blank 24 = .ok (.aload_n 0, 1) := dk_42 (dk_at dksX0_blank_1 0 rfl rfl)
theorem dX0_blank_25 : decode cX0_blank 25 = .ok (.iload_n 1, 1) := dk_27 (dk_at dksX0_blank_1 1 rfl rfl)
theorem dX0_blank_26 : decode cX0_blank 26 = .ok (.iload_n 2, 1) := dk_28 (dk_at dksX0_blank_1 2 rfl rfl)
theorem dX0_blank_27 : decode cX0_blank 27 = .ok (.invokevirtual 243, 3) := dk_182 0 243 (dk_at dksX0_blank_1 3 rfl rfl)
theorem dX0_blank_30 : decode cX0_blank 30 = .ok (.ifCond .eq 14, 3) := dk_153 0 14 (dk_at dksX0_blank_1 6 rfl rfl)
theorem dX0_blank_33 : decode cX0_blank 33 = .ok (.aload_n 0, 1) := dk_42 (dk_at dksX0_blank_1 9 rfl rfl)
theorem dX0_blank_34 : decode cX0_blank 34 = .ok (.iload_n 1, 1) := dk_27 (dk_at dksX0_blank_1 10 rfl rfl)
theorem dX0_blank_35 : decode cX0_blank 35 = .ok (.iload_n 2, 1) := dk_28 (dk_at dksX0_blank_1 11 rfl rfl)
theorem dX0_blank_36 : decode cX0_blank 36 = .ok (.invokevirtual 280, 3) := dk_182 1 24 (dk_at dksX0_blank_1 12 rfl rfl)
theorem dX0_blank_39 : decode cX0_blank 39 = .ok (.ifCond .ne 5, 3) := dk_154 0 5 (dk_at dksX0_blank_1 15 rfl rfl)
theorem dX0_blank_42 : decode cX0_blank 42 = .ok (.iload_n 2, 1) := dk_28 (dk_at dksX0_blank_1 18 rfl rfl)
theorem dX0_blank_43 : decode cX0_blank 43 = .ok (.ireturn, 1) := dk_172 (dk_at dksX0_blank_1 19 rfl rfl)
theorem dX0_blank_44 : decode cX0_blank 44 = .ok (.iinc 2 1, 3) := dk_132 2 1 (dk_at dksX0_blank_1 20 rfl rfl)
theorem dX0_blank_47 : decode cX0_blank 47 = .ok (.goto (-34), 3) := dk_167 255 222 (dk_at dksX0_blank_2 0 rfl rfl)
theorem dX0_blank_50 : decode cX0_blank 50 = .ok (.iconst (-1), 1) := dk_2 (dk_at dksX0_blank_2 3 rfl rfl)
theorem dX0_blank_51 : decode cX0_blank 51 = .ok (.ireturn, 1) := dk_172 (dk_at dksX0_blank_2 4 rfl rfl)
abbrev cX0_clear : ByteArray := prog_1_method_46_code
def yX0_clear : MethodName := ⟨RX0, "clear", "(I)I"⟩
def dkwX0_clear_0 : List UInt8 := [42, 27, 182, 1, 27, 153, 0, 11, 42, 27, 182, 1, 39, 167, 0, 5, 16, 254, 172]
abbrev dktX0_clear_0 : List UInt8 := dkwX0_clear_0 ++ []
theorem dksX0_clear_0 : cX0_clear.data.toList.drop 0 = dktX0_clear_0 := by decide +kernel
theorem dX0_clear_0 : decode cX0_clear 0 = .ok (.aload_n 0, 1) := dk_42 (dk_at dksX0_clear_0 0 rfl rfl)
theorem dX0_clear_1 : decode cX0_clear 1 = .ok (.iload_n 1, 1) := dk_27 (dk_at dksX0_clear_0 1 rfl rfl)
theorem dX0_clear_2 : decode cX0_clear 2 = .ok (.invokevirtual 283, 3) := dk_182 1 27 (dk_at dksX0_clear_0 2 rfl rfl)
theorem dX0_clear_5 : decode cX0_clear 5 = .ok (.ifCond .eq 11, 3) := dk_153 0 11 (dk_at dksX0_clear_0 5 rfl rfl)
theorem dX0_clear_8 : decode cX0_clear 8 = .ok (.aload_n 0, 1) := dk_42 (dk_at dksX0_clear_0 8 rfl rfl)
theorem dX0_clear_9 : decode cX0_clear 9 = .ok (.iload_n 1, 1) := dk_27 (dk_at dksX0_clear_0 9 rfl rfl)
theorem dX0_clear_10 : decode cX0_clear 10 = .ok (.invokevirtual 295, 3) := dk_182 1 39 (dk_at dksX0_clear_0 10 rfl rfl)
theorem dX0_clear_13 : decode cX0_clear 13 = .ok (.goto 5, 3) := dk_167 0 5 (dk_at dksX0_clear_0 13 rfl rfl)
theorem dX0_clear_16 : decode cX0_clear 16 = .ok (.bipush (-2), 2) := dk_16 254 (dk_at dksX0_clear_0 16 rfl rfl)
theorem dX0_clear_18 : decode cX0_clear 18 = .ok (.ireturn, 1) := dk_172 (dk_at dksX0_clear_0 18 rfl rfl)
abbrev cX0_clearIn : ByteArray := prog_1_method_45_code
def yX0_clearIn : MethodName := ⟨RX0, "clearIn", "(I)I"⟩
def dkwX0_clearIn_1 : List UInt8 := [161, 0, 9, 4, 29, 120, 167, 0, 4, 3, 128, 61, 132, 3, 1, 167, 255, 222, 28, 172]
abbrev dktX0_clearIn_1 : List UInt8 := dkwX0_clearIn_1 ++ []
def dkwX0_clearIn_0 : List UInt8 := [3, 61, 3, 62, 29, 42, 180, 0, 10, 180, 0, 126, 162, 0, 29, 28, 42, 29, 27, 182, 1, 24, 8]
abbrev dktX0_clearIn_0 : List UInt8 := dkwX0_clearIn_0 ++ dktX0_clearIn_1
theorem dksX0_clearIn_0 : cX0_clearIn.data.toList.drop 0 = dktX0_clearIn_0 := by decide +kernel
theorem dksX0_clearIn_1 : cX0_clearIn.data.toList.drop 23 = dktX0_clearIn_1 := dk_seg dksX0_clearIn_0 23 rfl rfl
theorem dX0_clearIn_0 : decode cX0_clearIn 0 = .ok (.iconst 0, 1) := dk_3 (dk_at dksX0_clearIn_0 0 rfl rfl)
theorem dX0_clearIn_1 : decode cX0_clearIn 1 = .ok (.istore_n 2, 1) := dk_61 (dk_at dksX0_clearIn_0 1 rfl rfl)
theorem dX0_clearIn_2 : decode cX0_clearIn 2 = .ok (.iconst 0, 1) := dk_3 (dk_at dksX0_clearIn_0 2 rfl rfl)
theorem dX0_clearIn_3 : decode cX0_clearIn 3 = .ok (.istore_n 3, 1) := dk_62 (dk_at dksX0_clearIn_0 3 rfl rfl)
theorem dX0_clearIn_4 : decode cX0_clearIn 4 = .ok (.iload_n 3, 1) := dk_29 (dk_at dksX0_clearIn_0 4 rfl rfl)
theorem dX0_clearIn_5 : decode cX0_clearIn 5 = .ok (.aload_n 0, 1) := dk_42 (dk_at dksX0_clearIn_0 5 rfl rfl)
theorem dX0_clearIn_6 : decode cX0_clearIn 6 = .ok (.getfield 10, 3) := dk_180 0 10 (dk_at dksX0_clearIn_0 6 rfl rfl)
theorem dX0_clearIn_9 : decode cX0_clearIn 9 = .ok (.getfield 126, 3) := dk_180 0 126 (dk_at dksX0_clearIn_0 9 rfl rfl)
theorem dX0_clearIn_12 : decode cX0_clearIn 12 = .ok (.if_icmp .ge 29, 3) := dk_162 0 29 (dk_at dksX0_clearIn_0 12 rfl rfl)
theorem dX0_clearIn_15 : decode cX0_clearIn 15 = .ok (.iload_n 2, 1) := dk_28 (dk_at dksX0_clearIn_0 15 rfl rfl)
theorem dX0_clearIn_16 : decode cX0_clearIn 16 = .ok (.aload_n 0, 1) := dk_42 (dk_at dksX0_clearIn_0 16 rfl rfl)
theorem dX0_clearIn_17 : decode cX0_clearIn 17 = .ok (.iload_n 3, 1) := dk_29 (dk_at dksX0_clearIn_0 17 rfl rfl)
theorem dX0_clearIn_18 : decode cX0_clearIn 18 = .ok (.iload_n 1, 1) := dk_27 (dk_at dksX0_clearIn_0 18 rfl rfl)
theorem dX0_clearIn_19 : decode cX0_clearIn 19 = .ok (.invokevirtual 280, 3) := dk_182 1 24 (dk_at dksX0_clearIn_0 19 rfl rfl)
theorem dX0_clearIn_22 : decode cX0_clearIn 22 = .ok (.iconst 5, 1) := dk_8 (dk_at dksX0_clearIn_0 22 rfl rfl)
theorem dX0_clearIn_23 : decode cX0_clearIn 23 = .ok (.if_icmp .lt 9, 3) := dk_161 0 9 (dk_at dksX0_clearIn_1 0 rfl rfl)
theorem dX0_clearIn_26 : decode cX0_clearIn 26 = .ok (.iconst 1, 1) := dk_4 (dk_at dksX0_clearIn_1 3 rfl rfl)
theorem dX0_clearIn_27 : decode cX0_clearIn 27 = .ok (.iload_n 3, 1) := dk_29 (dk_at dksX0_clearIn_1 4 rfl rfl)
theorem dX0_clearIn_28 : decode cX0_clearIn 28 = .ok (.ishl, 1) := dk_120 (dk_at dksX0_clearIn_1 5 rfl rfl)
theorem dX0_clearIn_29 : decode cX0_clearIn 29 = .ok (.goto 4, 3) := dk_167 0 4 (dk_at dksX0_clearIn_1 6 rfl rfl)
theorem dX0_clearIn_32 : decode cX0_clearIn 32 = .ok (.iconst 0, 1) := dk_3 (dk_at dksX0_clearIn_1 9 rfl rfl)
theorem dX0_clearIn_33 : decode cX0_clearIn 33 = .ok (.ior, 1) := dk_128 (dk_at dksX0_clearIn_1 10 rfl rfl)
theorem dX0_clearIn_34 : decode cX0_clearIn 34 = .ok (.istore_n 2, 1) := dk_61 (dk_at dksX0_clearIn_1 11 rfl rfl)
theorem dX0_clearIn_35 : decode cX0_clearIn 35 = .ok (.iinc 3 1, 3) := dk_132 3 1 (dk_at dksX0_clearIn_1 12 rfl rfl)
theorem dX0_clearIn_38 : decode cX0_clearIn 38 = .ok (.goto (-34), 3) := dk_167 255 222 (dk_at dksX0_clearIn_1 15 rfl rfl)
theorem dX0_clearIn_41 : decode cX0_clearIn 41 = .ok (.iload_n 2, 1) := dk_28 (dk_at dksX0_clearIn_1 18 rfl rfl)
theorem dX0_clearIn_42 : decode cX0_clearIn 42 = .ok (.ireturn, 1) := dk_172 (dk_at dksX0_clearIn_1 19 rfl rfl)
abbrev cX0_all : ByteArray := prog_1_method_49_code
def yX0_all : MethodName := ⟨RX0, "all", "(I)I"⟩
def dkwX0_all_0 : List UInt8 := [42, 27, 182, 1, 27, 153, 0, 11, 42, 27, 182, 1, 42, 167, 0, 5, 16, 254, 172]
abbrev dktX0_all_0 : List UInt8 := dkwX0_all_0 ++ []
theorem dksX0_all_0 : cX0_all.data.toList.drop 0 = dktX0_all_0 := by decide +kernel
theorem dX0_all_0 : decode cX0_all 0 = .ok (.aload_n 0, 1) := dk_42 (dk_at dksX0_all_0 0 rfl rfl)
theorem dX0_all_1 : decode cX0_all 1 = .ok (.iload_n 1, 1) := dk_27 (dk_at dksX0_all_0 1 rfl rfl)
theorem dX0_all_2 : decode cX0_all 2 = .ok (.invokevirtual 283, 3) := dk_182 1 27 (dk_at dksX0_all_0 2 rfl rfl)
theorem dX0_all_5 : decode cX0_all 5 = .ok (.ifCond .eq 11, 3) := dk_153 0 11 (dk_at dksX0_all_0 5 rfl rfl)
theorem dX0_all_8 : decode cX0_all 8 = .ok (.aload_n 0, 1) := dk_42 (dk_at dksX0_all_0 8 rfl rfl)
theorem dX0_all_9 : decode cX0_all 9 = .ok (.iload_n 1, 1) := dk_27 (dk_at dksX0_all_0 9 rfl rfl)
theorem dX0_all_10 : decode cX0_all 10 = .ok (.invokevirtual 298, 3) := dk_182 1 42 (dk_at dksX0_all_0 10 rfl rfl)
theorem dX0_all_13 : decode cX0_all 13 = .ok (.goto 5, 3) := dk_167 0 5 (dk_at dksX0_all_0 13 rfl rfl)
theorem dX0_all_16 : decode cX0_all 16 = .ok (.bipush (-2), 2) := dk_16 254 (dk_at dksX0_all_0 16 rfl rfl)
theorem dX0_all_18 : decode cX0_all 18 = .ok (.ireturn, 1) := dk_172 (dk_at dksX0_all_0 18 rfl rfl)
abbrev cX0_allIn : ByteArray := prog_1_method_47_code
def yX0_allIn : MethodName := ⟨RX0, "allIn", "(I)I"⟩
def dkwX0_allIn_1 : List UInt8 := [132, 3, 1, 167, 255, 233, 28, 172]
abbrev dktX0_allIn_1 : List UInt8 := dkwX0_allIn_1 ++ []
def dkwX0_allIn_0 : List UInt8 := [3, 61, 3, 62, 29, 42, 180, 0, 10, 180, 0, 126, 162, 0, 18, 28, 42, 29, 27, 182, 1, 24, 96, 61]
abbrev dktX0_allIn_0 : List UInt8 := dkwX0_allIn_0 ++ dktX0_allIn_1
theorem dksX0_allIn_0 : cX0_allIn.data.toList.drop 0 = dktX0_allIn_0 := by decide +kernel
theorem dksX0_allIn_1 : cX0_allIn.data.toList.drop 24 = dktX0_allIn_1 := dk_seg dksX0_allIn_0 24 rfl rfl
theorem dX0_allIn_0 : decode cX0_allIn 0 = .ok (.iconst 0, 1) := dk_3 (dk_at dksX0_allIn_0 0 rfl rfl)
theorem dX0_allIn_1 : decode cX0_allIn 1 = .ok (.istore_n 2, 1) := dk_61 (dk_at dksX0_allIn_0 1 rfl rfl)
theorem dX0_allIn_2 : decode cX0_allIn 2 = .ok (.iconst 0, 1) := dk_3 (dk_at dksX0_allIn_0 2 rfl rfl)
theorem dX0_allIn_3 : decode cX0_allIn 3 = .ok (.istore_n 3, 1) := dk_62 (dk_at dksX0_allIn_0 3 rfl rfl)
theorem dX0_allIn_4 : decode cX0_allIn 4 = .ok (.iload_n 3, 1) := dk_29 (dk_at dksX0_allIn_0 4 rfl rfl)
theorem dX0_allIn_5 : decode cX0_allIn 5 = .ok (.aload_n 0, 1) := dk_42 (dk_at dksX0_allIn_0 5 rfl rfl)
theorem dX0_allIn_6 : decode cX0_allIn 6 = .ok (.getfield 10, 3) := dk_180 0 10 (dk_at dksX0_allIn_0 6 rfl rfl)
theorem dX0_allIn_9 : decode cX0_allIn 9 = .ok (.getfield 126, 3) := dk_180 0 126 (dk_at dksX0_allIn_0 9 rfl rfl)
theorem dX0_allIn_12 : decode cX0_allIn 12 = .ok (.if_icmp .ge 18, 3) := dk_162 0 18 (dk_at dksX0_allIn_0 12 rfl rfl)
theorem dX0_allIn_15 : decode cX0_allIn 15 = .ok (.iload_n 2, 1) := dk_28 (dk_at dksX0_allIn_0 15 rfl rfl)
theorem dX0_allIn_16 : decode cX0_allIn 16 = .ok (.aload_n 0, 1) := dk_42 (dk_at dksX0_allIn_0 16 rfl rfl)
theorem dX0_allIn_17 : decode cX0_allIn 17 = .ok (.iload_n 3, 1) := dk_29 (dk_at dksX0_allIn_0 17 rfl rfl)
theorem dX0_allIn_18 : decode cX0_allIn 18 = .ok (.iload_n 1, 1) := dk_27 (dk_at dksX0_allIn_0 18 rfl rfl)
theorem dX0_allIn_19 : decode cX0_allIn 19 = .ok (.invokevirtual 280, 3) := dk_182 1 24 (dk_at dksX0_allIn_0 19 rfl rfl)
theorem dX0_allIn_22 : decode cX0_allIn 22 = .ok (.iadd, 1) := dk_96 (dk_at dksX0_allIn_0 22 rfl rfl)
theorem dX0_allIn_23 : decode cX0_allIn 23 = .ok (.istore_n 2, 1) := dk_61 (dk_at dksX0_allIn_0 23 rfl rfl)
theorem dX0_allIn_24 : decode cX0_allIn 24 = .ok (.iinc 3 1, 3) := dk_132 3 1 (dk_at dksX0_allIn_1 0 rfl rfl)
theorem dX0_allIn_27 : decode cX0_allIn 27 = .ok (.goto (-23), 3) := dk_167 255 233 (dk_at dksX0_allIn_1 3 rfl rfl)
theorem dX0_allIn_30 : decode cX0_allIn 30 = .ok (.iload_n 2, 1) := dk_28 (dk_at dksX0_allIn_1 6 rfl rfl)
theorem dX0_allIn_31 : decode cX0_allIn 31 = .ok (.ireturn, 1) := dk_172 (dk_at dksX0_allIn_1 7 rfl rfl)
abbrev cX0_darkest : ByteArray := prog_1_method_50_code
def yX0_darkest : MethodName := ⟨RX0, "darkest", "(I)I"⟩
def dkwX0_darkest_2 : List UInt8 := [28, 27, 182, 1, 24, 164, 0, 5, 29, 61, 132, 3, 1, 167, 255, 211, 28, 172]
abbrev dktX0_darkest_2 : List UInt8 := dkwX0_darkest_2 ++ []
def dkwX0_darkest_1 : List UInt8 := [162, 0, 40, 42, 29, 27, 182, 0, 243, 153, 0, 25, 28, 2, 159, 0, 18, 42, 29, 27, 182, 1, 24, 42]
abbrev dktX0_darkest_1 : List UInt8 := dkwX0_darkest_1 ++ dktX0_darkest_2
def dkwX0_darkest_0 : List UInt8 := [42, 27, 182, 1, 27, 154, 0, 6, 16, 254, 172, 2, 61, 3, 62, 29, 42, 180, 0, 10, 180, 0, 126]
abbrev dktX0_darkest_0 : List UInt8 := dkwX0_darkest_0 ++ dktX0_darkest_1
theorem dksX0_darkest_0 : cX0_darkest.data.toList.drop 0 = dktX0_darkest_0 := by decide +kernel
theorem dksX0_darkest_1 : cX0_darkest.data.toList.drop 23 = dktX0_darkest_1 := dk_seg dksX0_darkest_0 23 rfl rfl
theorem dksX0_darkest_2 : cX0_darkest.data.toList.drop 47 = dktX0_darkest_2 := dk_seg dksX0_darkest_1 24 rfl rfl
theorem dX0_darkest_0 : decode cX0_darkest 0 = .ok (.aload_n 0, 1) := dk_42 (dk_at dksX0_darkest_0 0 rfl rfl)
theorem dX0_darkest_1 : decode cX0_darkest 1 = .ok (.iload_n 1, 1) := dk_27 (dk_at dksX0_darkest_0 1 rfl rfl)
theorem dX0_darkest_2 : decode cX0_darkest 2 = .ok (.invokevirtual 283, 3) := dk_182 1 27 (dk_at dksX0_darkest_0 2 rfl rfl)
theorem dX0_darkest_5 : decode cX0_darkest 5 = .ok (.ifCond .ne 6, 3) := dk_154 0 6 (dk_at dksX0_darkest_0 5 rfl rfl)
theorem dX0_darkest_8 : decode cX0_darkest 8 = .ok (.bipush (-2), 2) := dk_16 254 (dk_at dksX0_darkest_0 8 rfl rfl)
theorem dX0_darkest_10 : decode cX0_darkest 10 = .ok (.ireturn, 1) := dk_172 (dk_at dksX0_darkest_0 10 rfl rfl)
theorem dX0_darkest_11 : decode cX0_darkest 11 = .ok (.iconst (-1), 1) := dk_2 (dk_at dksX0_darkest_0 11 rfl rfl)
theorem dX0_darkest_12 : decode cX0_darkest 12 = .ok (.istore_n 2, 1) := dk_61 (dk_at dksX0_darkest_0 12 rfl rfl)
theorem dX0_darkest_13 : decode cX0_darkest 13 = .ok (.iconst 0, 1) := dk_3 (dk_at dksX0_darkest_0 13 rfl rfl)
theorem dX0_darkest_14 : decode cX0_darkest 14 = .ok (.istore_n 3, 1) := dk_62 (dk_at dksX0_darkest_0 14 rfl rfl)
theorem dX0_darkest_15 : decode cX0_darkest 15 = .ok (.iload_n 3, 1) := dk_29 (dk_at dksX0_darkest_0 15 rfl rfl)
theorem dX0_darkest_16 : decode cX0_darkest 16 = .ok (.aload_n 0, 1) := dk_42 (dk_at dksX0_darkest_0 16 rfl rfl)
theorem dX0_darkest_17 : decode cX0_darkest 17 = .ok (.getfield 10, 3) := dk_180 0 10 (dk_at dksX0_darkest_0 17 rfl rfl)
theorem dX0_darkest_20 : decode cX0_darkest 20 = .ok (.getfield 126, 3) := dk_180 0 126 (dk_at dksX0_darkest_0 20 rfl rfl)
theorem dX0_darkest_23 : decode cX0_darkest 23 = .ok (.if_icmp .ge 40, 3) := dk_162 0 40 (dk_at dksX0_darkest_1 0 rfl rfl)
theorem dX0_darkest_26 : decode cX0_darkest 26 = .ok (.aload_n 0, 1) := dk_42 (dk_at dksX0_darkest_1 3 rfl rfl)
theorem dX0_darkest_27 : decode cX0_darkest 27 = .ok (.iload_n 3, 1) := dk_29 (dk_at dksX0_darkest_1 4 rfl rfl)
theorem dX0_darkest_28 : decode cX0_darkest 28 = .ok (.iload_n 1, 1) := dk_27 (dk_at dksX0_darkest_1 5 rfl rfl)
theorem dX0_darkest_29 : decode cX0_darkest 29 = .ok (.invokevirtual 243, 3) := dk_182 0 243 (dk_at dksX0_darkest_1 6 rfl rfl)
theorem dX0_darkest_32 : decode cX0_darkest 32 = .ok (.ifCond .eq 25, 3) := dk_153 0 25 (dk_at dksX0_darkest_1 9 rfl rfl)
theorem dX0_darkest_35 : decode cX0_darkest 35 = .ok (.iload_n 2, 1) := dk_28 (dk_at dksX0_darkest_1 12 rfl rfl)
theorem dX0_darkest_36 : decode cX0_darkest 36 = .ok (.iconst (-1), 1) := dk_2 (dk_at dksX0_darkest_1 13 rfl rfl)
theorem dX0_darkest_37 : decode cX0_darkest 37 = .ok (.if_icmp .eq 18, 3) := dk_159 0 18 (dk_at dksX0_darkest_1 14 rfl rfl)
theorem dX0_darkest_40 : decode cX0_darkest 40 = .ok (.aload_n 0, 1) := dk_42 (dk_at dksX0_darkest_1 17 rfl rfl)
theorem dX0_darkest_41 : decode cX0_darkest 41 = .ok (.iload_n 3, 1) := dk_29 (dk_at dksX0_darkest_1 18 rfl rfl)
theorem dX0_darkest_42 : decode cX0_darkest 42 = .ok (.iload_n 1, 1) := dk_27 (dk_at dksX0_darkest_1 19 rfl rfl)
theorem dX0_darkest_43 : decode cX0_darkest 43 = .ok (.invokevirtual 280, 3) := dk_182 1 24 (dk_at dksX0_darkest_1 20 rfl rfl)
theorem dX0_darkest_46 : decode cX0_darkest 46 = .ok (.aload_n 0, 1) := dk_42 (dk_at dksX0_darkest_1 23 rfl rfl)
theorem dX0_darkest_47 : decode cX0_darkest 47 = .ok (.iload_n 2, 1) := dk_28 (dk_at dksX0_darkest_2 0 rfl rfl)
theorem dX0_darkest_48 : decode cX0_darkest 48 = .ok (.iload_n 1, 1) := dk_27 (dk_at dksX0_darkest_2 1 rfl rfl)
theorem dX0_darkest_49 : decode cX0_darkest 49 = .ok (.invokevirtual 280, 3) := dk_182 1 24 (dk_at dksX0_darkest_2 2 rfl rfl)
theorem dX0_darkest_52 : decode cX0_darkest 52 = .ok (.if_icmp .le 5, 3) := dk_164 0 5 (dk_at dksX0_darkest_2 5 rfl rfl)
theorem dX0_darkest_55 : decode cX0_darkest 55 = .ok (.iload_n 3, 1) := dk_29 (dk_at dksX0_darkest_2 8 rfl rfl)
theorem dX0_darkest_56 : decode cX0_darkest 56 = .ok (.istore_n 2, 1) := dk_61 (dk_at dksX0_darkest_2 9 rfl rfl)
theorem dX0_darkest_57 : decode cX0_darkest 57 = .ok (.iinc 3 1, 3) := dk_132 3 1 (dk_at dksX0_darkest_2 10 rfl rfl)
theorem dX0_darkest_60 : decode cX0_darkest 60 = .ok (.goto (-45), 3) := dk_167 255 211 (dk_at dksX0_darkest_2 13 rfl rfl)
theorem dX0_darkest_63 : decode cX0_darkest 63 = .ok (.iload_n 2, 1) := dk_28 (dk_at dksX0_darkest_2 16 rfl rfl)
theorem dX0_darkest_64 : decode cX0_darkest 64 = .ok (.ireturn, 1) := dk_172 (dk_at dksX0_darkest_2 17 rfl rfl)
abbrev cX0_palest : ByteArray := prog_1_method_51_code
def yX0_palest : MethodName := ⟨RX0, "palest", "(I)I"⟩
def dkwX0_palest_2 : List UInt8 := [28, 27, 182, 1, 24, 162, 0, 5, 29, 61, 132, 3, 1, 167, 255, 211, 28, 172]
abbrev dktX0_palest_2 : List UInt8 := dkwX0_palest_2 ++ []
def dkwX0_palest_1 : List UInt8 := [162, 0, 40, 42, 29, 27, 182, 0, 243, 153, 0, 25, 28, 2, 159, 0, 18, 42, 29, 27, 182, 1, 24, 42]
abbrev dktX0_palest_1 : List UInt8 := dkwX0_palest_1 ++ dktX0_palest_2
def dkwX0_palest_0 : List UInt8 := [42, 27, 182, 1, 27, 154, 0, 6, 16, 254, 172, 2, 61, 3, 62, 29, 42, 180, 0, 10, 180, 0, 126]
abbrev dktX0_palest_0 : List UInt8 := dkwX0_palest_0 ++ dktX0_palest_1
theorem dksX0_palest_0 : cX0_palest.data.toList.drop 0 = dktX0_palest_0 := by decide +kernel
theorem dksX0_palest_1 : cX0_palest.data.toList.drop 23 = dktX0_palest_1 := dk_seg dksX0_palest_0 23 rfl rfl
theorem dksX0_palest_2 : cX0_palest.data.toList.drop 47 = dktX0_palest_2 := dk_seg dksX0_palest_1 24 rfl rfl
theorem dX0_palest_0 : decode cX0_palest 0 = .ok (.aload_n 0, 1) := dk_42 (dk_at dksX0_palest_0 0 rfl rfl)
theorem dX0_palest_1 : decode cX0_palest 1 = .ok (.iload_n 1, 1) := dk_27 (dk_at dksX0_palest_0 1 rfl rfl)
theorem dX0_palest_2 : decode cX0_palest 2 = .ok (.invokevirtual 283, 3) := dk_182 1 27 (dk_at dksX0_palest_0 2 rfl rfl)
theorem dX0_palest_5 : decode cX0_palest 5 = .ok (.ifCond .ne 6, 3) := dk_154 0 6 (dk_at dksX0_palest_0 5 rfl rfl)
theorem dX0_palest_8 : decode cX0_palest 8 = .ok (.bipush (-2), 2) := dk_16 254 (dk_at dksX0_palest_0 8 rfl rfl)
theorem dX0_palest_10 : decode cX0_palest 10 = .ok (.ireturn, 1) := dk_172 (dk_at dksX0_palest_0 10 rfl rfl)
theorem dX0_palest_11 : decode cX0_palest 11 = .ok (.iconst (-1), 1) := dk_2 (dk_at dksX0_palest_0 11 rfl rfl)
theorem dX0_palest_12 : decode cX0_palest 12 = .ok (.istore_n 2, 1) := dk_61 (dk_at dksX0_palest_0 12 rfl rfl)
theorem dX0_palest_13 : decode cX0_palest 13 = .ok (.iconst 0, 1) := dk_3 (dk_at dksX0_palest_0 13 rfl rfl)
theorem dX0_palest_14 : decode cX0_palest 14 = .ok (.istore_n 3, 1) := dk_62 (dk_at dksX0_palest_0 14 rfl rfl)
theorem dX0_palest_15 : decode cX0_palest 15 = .ok (.iload_n 3, 1) := dk_29 (dk_at dksX0_palest_0 15 rfl rfl)
theorem dX0_palest_16 : decode cX0_palest 16 = .ok (.aload_n 0, 1) := dk_42 (dk_at dksX0_palest_0 16 rfl rfl)
theorem dX0_palest_17 : decode cX0_palest 17 = .ok (.getfield 10, 3) := dk_180 0 10 (dk_at dksX0_palest_0 17 rfl rfl)
theorem dX0_palest_20 : decode cX0_palest 20 = .ok (.getfield 126, 3) := dk_180 0 126 (dk_at dksX0_palest_0 20 rfl rfl)
theorem dX0_palest_23 : decode cX0_palest 23 = .ok (.if_icmp .ge 40, 3) := dk_162 0 40 (dk_at dksX0_palest_1 0 rfl rfl)
theorem dX0_palest_26 : decode cX0_palest 26 = .ok (.aload_n 0, 1) := dk_42 (dk_at dksX0_palest_1 3 rfl rfl)
theorem dX0_palest_27 : decode cX0_palest 27 = .ok (.iload_n 3, 1) := dk_29 (dk_at dksX0_palest_1 4 rfl rfl)
theorem dX0_palest_28 : decode cX0_palest 28 = .ok (.iload_n 1, 1) := dk_27 (dk_at dksX0_palest_1 5 rfl rfl)
theorem dX0_palest_29 : decode cX0_palest 29 = .ok (.invokevirtual 243, 3) := dk_182 0 243 (dk_at dksX0_palest_1 6 rfl rfl)
theorem dX0_palest_32 : decode cX0_palest 32 = .ok (.ifCond .eq 25, 3) := dk_153 0 25 (dk_at dksX0_palest_1 9 rfl rfl)
theorem dX0_palest_35 : decode cX0_palest 35 = .ok (.iload_n 2, 1) := dk_28 (dk_at dksX0_palest_1 12 rfl rfl)
theorem dX0_palest_36 : decode cX0_palest 36 = .ok (.iconst (-1), 1) := dk_2 (dk_at dksX0_palest_1 13 rfl rfl)
theorem dX0_palest_37 : decode cX0_palest 37 = .ok (.if_icmp .eq 18, 3) := dk_159 0 18 (dk_at dksX0_palest_1 14 rfl rfl)
theorem dX0_palest_40 : decode cX0_palest 40 = .ok (.aload_n 0, 1) := dk_42 (dk_at dksX0_palest_1 17 rfl rfl)
theorem dX0_palest_41 : decode cX0_palest 41 = .ok (.iload_n 3, 1) := dk_29 (dk_at dksX0_palest_1 18 rfl rfl)
theorem dX0_palest_42 : decode cX0_palest 42 = .ok (.iload_n 1, 1) := dk_27 (dk_at dksX0_palest_1 19 rfl rfl)
theorem dX0_palest_43 : decode cX0_palest 43 = .ok (.invokevirtual 280, 3) := dk_182 1 24 (dk_at dksX0_palest_1 20 rfl rfl)
theorem dX0_palest_46 : decode cX0_palest 46 = .ok (.aload_n 0, 1) := dk_42 (dk_at dksX0_palest_1 23 rfl rfl)
theorem dX0_palest_47 : decode cX0_palest 47 = .ok (.iload_n 2, 1) := dk_28 (dk_at dksX0_palest_2 0 rfl rfl)
theorem dX0_palest_48 : decode cX0_palest 48 = .ok (.iload_n 1, 1) := dk_27 (dk_at dksX0_palest_2 1 rfl rfl)
theorem dX0_palest_49 : decode cX0_palest 49 = .ok (.invokevirtual 280, 3) := dk_182 1 24 (dk_at dksX0_palest_2 2 rfl rfl)
theorem dX0_palest_52 : decode cX0_palest 52 = .ok (.if_icmp .ge 5, 3) := dk_162 0 5 (dk_at dksX0_palest_2 5 rfl rfl)
theorem dX0_palest_55 : decode cX0_palest 55 = .ok (.iload_n 3, 1) := dk_29 (dk_at dksX0_palest_2 8 rfl rfl)
theorem dX0_palest_56 : decode cX0_palest 56 = .ok (.istore_n 2, 1) := dk_61 (dk_at dksX0_palest_2 9 rfl rfl)
theorem dX0_palest_57 : decode cX0_palest 57 = .ok (.iinc 3 1, 3) := dk_132 3 1 (dk_at dksX0_palest_2 10 rfl rfl)
theorem dX0_palest_60 : decode cX0_palest 60 = .ok (.goto (-45), 3) := dk_167 255 211 (dk_at dksX0_palest_2 13 rfl rfl)
theorem dX0_palest_63 : decode cX0_palest 63 = .ok (.iload_n 2, 1) := dk_28 (dk_at dksX0_palest_2 16 rfl rfl)
theorem dX0_palest_64 : decode cX0_palest 64 = .ok (.ireturn, 1) := dk_172 (dk_at dksX0_palest_2 17 rfl rfl)
abbrev cX0_sorts : ByteArray := prog_1_method_53_code
def yX0_sorts : MethodName := ⟨RX0, "sorts", "(I)I"⟩
def dkwX0_sorts_0 : List UInt8 := [42, 27, 182, 1, 27, 153, 0, 15, 42, 42, 182, 1, 45, 27, 182, 1, 49, 167, 0, 5, 16, 254, 172]
abbrev dktX0_sorts_0 : List UInt8 := dkwX0_sorts_0 ++ []
theorem dksX0_sorts_0 : cX0_sorts.data.toList.drop 0 = dktX0_sorts_0 := by decide +kernel
theorem dX0_sorts_0 : decode cX0_sorts 0 = .ok (.aload_n 0, 1) := dk_42 (dk_at dksX0_sorts_0 0 rfl rfl)
theorem dX0_sorts_1 : decode cX0_sorts 1 = .ok (.iload_n 1, 1) := dk_27 (dk_at dksX0_sorts_0 1 rfl rfl)
theorem dX0_sorts_2 : decode cX0_sorts 2 = .ok (.invokevirtual 283, 3) := dk_182 1 27 (dk_at dksX0_sorts_0 2 rfl rfl)
theorem dX0_sorts_5 : decode cX0_sorts 5 = .ok (.ifCond .eq 15, 3) := dk_153 0 15 (dk_at dksX0_sorts_0 5 rfl rfl)
theorem dX0_sorts_8 : decode cX0_sorts 8 = .ok (.aload_n 0, 1) := dk_42 (dk_at dksX0_sorts_0 8 rfl rfl)
theorem dX0_sorts_9 : decode cX0_sorts 9 = .ok (.aload_n 0, 1) := dk_42 (dk_at dksX0_sorts_0 9 rfl rfl)
theorem dX0_sorts_10 : decode cX0_sorts 10 = .ok (.invokevirtual 301, 3) := dk_182 1 45 (dk_at dksX0_sorts_0 10 rfl rfl)
theorem dX0_sorts_13 : decode cX0_sorts 13 = .ok (.iload_n 1, 1) := dk_27 (dk_at dksX0_sorts_0 13 rfl rfl)
theorem dX0_sorts_14 : decode cX0_sorts 14 = .ok (.invokevirtual 305, 3) := dk_182 1 49 (dk_at dksX0_sorts_0 14 rfl rfl)
theorem dX0_sorts_17 : decode cX0_sorts 17 = .ok (.goto 5, 3) := dk_167 0 5 (dk_at dksX0_sorts_0 17 rfl rfl)
theorem dX0_sorts_20 : decode cX0_sorts 20 = .ok (.bipush (-2), 2) := dk_16 254 (dk_at dksX0_sorts_0 20 rfl rfl)
theorem dX0_sorts_22 : decode cX0_sorts 22 = .ok (.ireturn, 1) := dk_172 (dk_at dksX0_sorts_0 22 rfl rfl)
abbrev cX0_everyEntry : ByteArray := prog_1_method_17_code
def yX0_everyEntry : MethodName := ⟨RX0, "everyEntry", "()I"⟩
def dkwX0_everyEntry_0 : List UInt8 := [4, 42, 180, 0, 10, 180, 0, 126, 120, 4, 100, 172]
abbrev dktX0_everyEntry_0 : List UInt8 := dkwX0_everyEntry_0 ++ []
theorem dksX0_everyEntry_0 : cX0_everyEntry.data.toList.drop 0 = dktX0_everyEntry_0 := by decide +kernel
theorem dX0_everyEntry_0 : decode cX0_everyEntry 0 = .ok (.iconst 1, 1) := dk_4 (dk_at dksX0_everyEntry_0 0 rfl rfl)
theorem dX0_everyEntry_1 : decode cX0_everyEntry 1 = .ok (.aload_n 0, 1) := dk_42 (dk_at dksX0_everyEntry_0 1 rfl rfl)
theorem dX0_everyEntry_2 : decode cX0_everyEntry 2 = .ok (.getfield 10, 3) := dk_180 0 10 (dk_at dksX0_everyEntry_0 2 rfl rfl)
theorem dX0_everyEntry_5 : decode cX0_everyEntry 5 = .ok (.getfield 126, 3) := dk_180 0 126 (dk_at dksX0_everyEntry_0 5 rfl rfl)
theorem dX0_everyEntry_8 : decode cX0_everyEntry 8 = .ok (.ishl, 1) := dk_120 (dk_at dksX0_everyEntry_0 8 rfl rfl)
theorem dX0_everyEntry_9 : decode cX0_everyEntry 9 = .ok (.iconst 1, 1) := dk_4 (dk_at dksX0_everyEntry_0 9 rfl rfl)
theorem dX0_everyEntry_10 : decode cX0_everyEntry 10 = .ok (.isub, 1) := dk_100 (dk_at dksX0_everyEntry_0 10 rfl rfl)
theorem dX0_everyEntry_11 : decode cX0_everyEntry 11 = .ok (.ireturn, 1) := dk_172 (dk_at dksX0_everyEntry_0 11 rfl rfl)
abbrev cX0_sortsOf : ByteArray := prog_1_method_52_code
def yX0_sortsOf : MethodName := ⟨RX0, "sortsOf", "(II)I"⟩
def dkwX0_sortsOf_5 : List UInt8 := [96, 62, 132, 4, 1, 167, 255, 138, 29, 172]
abbrev dktX0_sortsOf_5 : List UInt8 := dkwX0_sortsOf_5 ++ []
def dkwX0_sortsOf_4 : List UInt8 := [4, 167, 0, 4, 3, 54, 5, 132, 6, 1, 167, 255, 198, 29, 21, 5, 153, 0, 7, 4, 167, 0, 4, 3]
abbrev dktX0_sortsOf_4 : List UInt8 := dkwX0_sortsOf_4 ++ dktX0_sortsOf_5
def dkwX0_sortsOf_3 : List UInt8 := [28, 182, 0, 243, 153, 0, 20, 42, 21, 6, 28, 182, 1, 24, 42, 21, 4, 28, 182, 1, 24, 159, 0, 7]
abbrev dktX0_sortsOf_3 : List UInt8 := dkwX0_sortsOf_3 ++ dktX0_sortsOf_4
def dkwX0_sortsOf_2 : List UInt8 := [21, 6, 21, 4, 162, 0, 57, 21, 5, 153, 0, 43, 27, 21, 6, 184, 0, 254, 153, 0, 30, 42, 21, 6]
abbrev dktX0_sortsOf_2 : List UInt8 := dkwX0_sortsOf_2 ++ dktX0_sortsOf_3
def dkwX0_sortsOf_1 : List UInt8 := [153, 0, 17, 42, 21, 4, 28, 182, 0, 243, 153, 0, 7, 4, 167, 0, 4, 3, 54, 5, 3, 54, 6]
abbrev dktX0_sortsOf_1 : List UInt8 := dkwX0_sortsOf_1 ++ dktX0_sortsOf_2
def dkwX0_sortsOf_0 : List UInt8 := [3, 62, 3, 54, 4, 21, 4, 42, 180, 0, 10, 180, 0, 126, 162, 0, 112, 27, 21, 4, 184, 0, 254]
abbrev dktX0_sortsOf_0 : List UInt8 := dkwX0_sortsOf_0 ++ dktX0_sortsOf_1
theorem dksX0_sortsOf_0 : cX0_sortsOf.data.toList.drop 0 = dktX0_sortsOf_0 := by decide +kernel
theorem dksX0_sortsOf_1 : cX0_sortsOf.data.toList.drop 23 = dktX0_sortsOf_1 := dk_seg dksX0_sortsOf_0 23 rfl rfl
theorem dksX0_sortsOf_2 : cX0_sortsOf.data.toList.drop 46 = dktX0_sortsOf_2 := dk_seg dksX0_sortsOf_1 23 rfl rfl
theorem dksX0_sortsOf_3 : cX0_sortsOf.data.toList.drop 70 = dktX0_sortsOf_3 := dk_seg dksX0_sortsOf_2 24 rfl rfl
theorem dksX0_sortsOf_4 : cX0_sortsOf.data.toList.drop 94 = dktX0_sortsOf_4 := dk_seg dksX0_sortsOf_3 24 rfl rfl
theorem dksX0_sortsOf_5 : cX0_sortsOf.data.toList.drop 118 = dktX0_sortsOf_5 := dk_seg dksX0_sortsOf_4 24 rfl rfl
theorem dX0_sortsOf_0 : decode cX0_sortsOf 0 = .ok (.iconst 0, 1) := dk_3 (dk_at dksX0_sortsOf_0 0 rfl rfl)
theorem dX0_sortsOf_1 : decode cX0_sortsOf 1 = .ok (.istore_n 3, 1) := dk_62 (dk_at dksX0_sortsOf_0 1 rfl rfl)
theorem dX0_sortsOf_2 : decode cX0_sortsOf 2 = .ok (.iconst 0, 1) := dk_3 (dk_at dksX0_sortsOf_0 2 rfl rfl)
theorem dX0_sortsOf_3 : decode cX0_sortsOf 3 = .ok (.istore 4, 2) := dk_54 4 (dk_at dksX0_sortsOf_0 3 rfl rfl)
theorem dX0_sortsOf_5 : decode cX0_sortsOf 5 = .ok (.iload 4, 2) := dk_21 4 (dk_at dksX0_sortsOf_0 5 rfl rfl)
theorem dX0_sortsOf_7 : decode cX0_sortsOf 7 = .ok (.aload_n 0, 1) := dk_42 (dk_at dksX0_sortsOf_0 7 rfl rfl)
theorem dX0_sortsOf_8 : decode cX0_sortsOf 8 = .ok (.getfield 10, 3) := dk_180 0 10 (dk_at dksX0_sortsOf_0 8 rfl rfl)
theorem dX0_sortsOf_11 : decode cX0_sortsOf 11 = .ok (.getfield 126, 3) := dk_180 0 126 (dk_at dksX0_sortsOf_0 11 rfl rfl)
theorem dX0_sortsOf_14 : decode cX0_sortsOf 14 = .ok (.if_icmp .ge 112, 3) := dk_162 0 112 (dk_at dksX0_sortsOf_0 14 rfl rfl)
theorem dX0_sortsOf_17 : decode cX0_sortsOf 17 = .ok (.iload_n 1, 1) := dk_27 (dk_at dksX0_sortsOf_0 17 rfl rfl)
theorem dX0_sortsOf_18 : decode cX0_sortsOf 18 = .ok (.iload 4, 2) := dk_21 4 (dk_at dksX0_sortsOf_0 18 rfl rfl)
theorem dX0_sortsOf_20 : decode cX0_sortsOf 20 = .ok (.invokestatic 254, 3) := dk_184 0 254 (dk_at dksX0_sortsOf_0 20 rfl rfl)
theorem dX0_sortsOf_23 : decode cX0_sortsOf 23 = .ok (.ifCond .eq 17, 3) := dk_153 0 17 (dk_at dksX0_sortsOf_1 0 rfl rfl)
theorem dX0_sortsOf_26 : decode cX0_sortsOf 26 = .ok (.aload_n 0, 1) := dk_42 (dk_at dksX0_sortsOf_1 3 rfl rfl)
theorem dX0_sortsOf_27 : decode cX0_sortsOf 27 = .ok (.iload 4, 2) := dk_21 4 (dk_at dksX0_sortsOf_1 4 rfl rfl)
theorem dX0_sortsOf_29 : decode cX0_sortsOf 29 = .ok (.iload_n 2, 1) := dk_28 (dk_at dksX0_sortsOf_1 6 rfl rfl)
theorem dX0_sortsOf_30 : decode cX0_sortsOf 30 = .ok (.invokevirtual 243, 3) := dk_182 0 243 (dk_at dksX0_sortsOf_1 7 rfl rfl)
theorem dX0_sortsOf_33 : decode cX0_sortsOf 33 = .ok (.ifCond .eq 7, 3) := dk_153 0 7 (dk_at dksX0_sortsOf_1 10 rfl rfl)
theorem dX0_sortsOf_36 : decode cX0_sortsOf 36 = .ok (.iconst 1, 1) := dk_4 (dk_at dksX0_sortsOf_1 13 rfl rfl)
theorem dX0_sortsOf_37 : decode cX0_sortsOf 37 = .ok (.goto 4, 3) := dk_167 0 4 (dk_at dksX0_sortsOf_1 14 rfl rfl)
theorem dX0_sortsOf_40 : decode cX0_sortsOf 40 = .ok (.iconst 0, 1) := dk_3 (dk_at dksX0_sortsOf_1 17 rfl rfl)
theorem dX0_sortsOf_41 : decode cX0_sortsOf 41 = .ok (.istore 5, 2) := dk_54 5 (dk_at dksX0_sortsOf_1 18 rfl rfl)
theorem dX0_sortsOf_43 : decode cX0_sortsOf 43 = .ok (.iconst 0, 1) := dk_3 (dk_at dksX0_sortsOf_1 20 rfl rfl)
theorem dX0_sortsOf_44 : decode cX0_sortsOf 44 = .ok (.istore 6, 2) := dk_54 6 (dk_at dksX0_sortsOf_1 21 rfl rfl)
theorem dX0_sortsOf_46 : decode cX0_sortsOf 46 = .ok (.iload 6, 2) := dk_21 6 (dk_at dksX0_sortsOf_2 0 rfl rfl)
theorem dX0_sortsOf_48 : decode cX0_sortsOf 48 = .ok (.iload 4, 2) := dk_21 4 (dk_at dksX0_sortsOf_2 2 rfl rfl)
theorem dX0_sortsOf_50 : decode cX0_sortsOf 50 = .ok (.if_icmp .ge 57, 3) := dk_162 0 57 (dk_at dksX0_sortsOf_2 4 rfl rfl)
theorem dX0_sortsOf_53 : decode cX0_sortsOf 53 = .ok (.iload 5, 2) := dk_21 5 (dk_at dksX0_sortsOf_2 7 rfl rfl)
theorem dX0_sortsOf_55 : decode cX0_sortsOf 55 = .ok (.ifCond .eq 43, 3) := dk_153 0 43 (dk_at dksX0_sortsOf_2 9 rfl rfl)
theorem dX0_sortsOf_58 : decode cX0_sortsOf 58 = .ok (.iload_n 1, 1) := dk_27 (dk_at dksX0_sortsOf_2 12 rfl rfl)
theorem dX0_sortsOf_59 : decode cX0_sortsOf 59 = .ok (.iload 6, 2) := dk_21 6 (dk_at dksX0_sortsOf_2 13 rfl rfl)
theorem dX0_sortsOf_61 : decode cX0_sortsOf 61 = .ok (.invokestatic 254, 3) := dk_184 0 254 (dk_at dksX0_sortsOf_2 15 rfl rfl)
theorem dX0_sortsOf_64 : decode cX0_sortsOf 64 = .ok (.ifCond .eq 30, 3) := dk_153 0 30 (dk_at dksX0_sortsOf_2 18 rfl rfl)
theorem dX0_sortsOf_67 : decode cX0_sortsOf 67 = .ok (.aload_n 0, 1) := dk_42 (dk_at dksX0_sortsOf_2 21 rfl rfl)
theorem dX0_sortsOf_68 : decode cX0_sortsOf 68 = .ok (.iload 6, 2) := dk_21 6 (dk_at dksX0_sortsOf_2 22 rfl rfl)
theorem dX0_sortsOf_70 : decode cX0_sortsOf 70 = .ok (.iload_n 2, 1) := dk_28 (dk_at dksX0_sortsOf_3 0 rfl rfl)
theorem dX0_sortsOf_71 : decode cX0_sortsOf 71 = .ok (.invokevirtual 243, 3) := dk_182 0 243 (dk_at dksX0_sortsOf_3 1 rfl rfl)
theorem dX0_sortsOf_74 : decode cX0_sortsOf 74 = .ok (.ifCond .eq 20, 3) := dk_153 0 20 (dk_at dksX0_sortsOf_3 4 rfl rfl)
theorem dX0_sortsOf_77 : decode cX0_sortsOf 77 = .ok (.aload_n 0, 1) := dk_42 (dk_at dksX0_sortsOf_3 7 rfl rfl)
theorem dX0_sortsOf_78 : decode cX0_sortsOf 78 = .ok (.iload 6, 2) := dk_21 6 (dk_at dksX0_sortsOf_3 8 rfl rfl)
theorem dX0_sortsOf_80 : decode cX0_sortsOf 80 = .ok (.iload_n 2, 1) := dk_28 (dk_at dksX0_sortsOf_3 10 rfl rfl)
theorem dX0_sortsOf_81 : decode cX0_sortsOf 81 = .ok (.invokevirtual 280, 3) := dk_182 1 24 (dk_at dksX0_sortsOf_3 11 rfl rfl)
theorem dX0_sortsOf_84 : decode cX0_sortsOf 84 = .ok (.aload_n 0, 1) := dk_42 (dk_at dksX0_sortsOf_3 14 rfl rfl)
theorem dX0_sortsOf_85 : decode cX0_sortsOf 85 = .ok (.iload 4, 2) := dk_21 4 (dk_at dksX0_sortsOf_3 15 rfl rfl)
theorem dX0_sortsOf_87 : decode cX0_sortsOf 87 = .ok (.iload_n 2, 1) := dk_28 (dk_at dksX0_sortsOf_3 17 rfl rfl)
theorem dX0_sortsOf_88 : decode cX0_sortsOf 88 = .ok (.invokevirtual 280, 3) := dk_182 1 24 (dk_at dksX0_sortsOf_3 18 rfl rfl)
theorem dX0_sortsOf_91 : decode cX0_sortsOf 91 = .ok (.if_icmp .eq 7, 3) := dk_159 0 7 (dk_at dksX0_sortsOf_3 21 rfl rfl)
theorem dX0_sortsOf_94 : decode cX0_sortsOf 94 = .ok (.iconst 1, 1) := dk_4 (dk_at dksX0_sortsOf_4 0 rfl rfl)
theorem dX0_sortsOf_95 : decode cX0_sortsOf 95 = .ok (.goto 4, 3) := dk_167 0 4 (dk_at dksX0_sortsOf_4 1 rfl rfl)
theorem dX0_sortsOf_98 : decode cX0_sortsOf 98 = .ok (.iconst 0, 1) := dk_3 (dk_at dksX0_sortsOf_4 4 rfl rfl)
theorem dX0_sortsOf_99 : decode cX0_sortsOf 99 = .ok (.istore 5, 2) := dk_54 5 (dk_at dksX0_sortsOf_4 5 rfl rfl)
theorem dX0_sortsOf_101 : decode cX0_sortsOf 101 = .ok (.iinc 6 1, 3) := dk_132 6 1 (dk_at dksX0_sortsOf_4 7 rfl rfl)
theorem dX0_sortsOf_104 : decode cX0_sortsOf 104 = .ok (.goto (-58), 3) := dk_167 255 198 (dk_at dksX0_sortsOf_4 10 rfl rfl)
theorem dX0_sortsOf_107 : decode cX0_sortsOf 107 = .ok (.iload_n 3, 1) := dk_29 (dk_at dksX0_sortsOf_4 13 rfl rfl)
theorem dX0_sortsOf_108 : decode cX0_sortsOf 108 = .ok (.iload 5, 2) := dk_21 5 (dk_at dksX0_sortsOf_4 14 rfl rfl)
theorem dX0_sortsOf_110 : decode cX0_sortsOf 110 = .ok (.ifCond .eq 7, 3) := dk_153 0 7 (dk_at dksX0_sortsOf_4 16 rfl rfl)
theorem dX0_sortsOf_113 : decode cX0_sortsOf 113 = .ok (.iconst 1, 1) := dk_4 (dk_at dksX0_sortsOf_4 19 rfl rfl)
theorem dX0_sortsOf_114 : decode cX0_sortsOf 114 = .ok (.goto 4, 3) := dk_167 0 4 (dk_at dksX0_sortsOf_4 20 rfl rfl)
theorem dX0_sortsOf_117 : decode cX0_sortsOf 117 = .ok (.iconst 0, 1) := dk_3 (dk_at dksX0_sortsOf_4 23 rfl rfl)
theorem dX0_sortsOf_118 : decode cX0_sortsOf 118 = .ok (.iadd, 1) := dk_96 (dk_at dksX0_sortsOf_5 0 rfl rfl)
theorem dX0_sortsOf_119 : decode cX0_sortsOf 119 = .ok (.istore_n 3, 1) := dk_62 (dk_at dksX0_sortsOf_5 1 rfl rfl)
theorem dX0_sortsOf_120 : decode cX0_sortsOf 120 = .ok (.iinc 4 1, 3) := dk_132 4 1 (dk_at dksX0_sortsOf_5 2 rfl rfl)
theorem dX0_sortsOf_123 : decode cX0_sortsOf 123 = .ok (.goto (-118), 3) := dk_167 255 138 (dk_at dksX0_sortsOf_5 5 rfl rfl)
theorem dX0_sortsOf_126 : decode cX0_sortsOf 126 = .ok (.iload_n 3, 1) := dk_29 (dk_at dksX0_sortsOf_5 8 rfl rfl)
theorem dX0_sortsOf_127 : decode cX0_sortsOf 127 = .ok (.ireturn, 1) := dk_172 (dk_at dksX0_sortsOf_5 9 rfl rfl)
abbrev cX0_alike : ByteArray := prog_1_method_54_code
def yX0_alike : MethodName := ⟨RX0, "alike", "(I)I"⟩
def dkwX0_alike_4 : List UInt8 := [132, 3, 1, 167, 255, 176, 28, 172]
abbrev dktX0_alike_4 : List UInt8 := dkwX0_alike_4 ++ []
def dkwX0_alike_3 : List UInt8 := [21, 4, 27, 182, 1, 24, 160, 0, 7, 4, 167, 0, 4, 3, 96, 61, 132, 4, 1, 167, 255, 198]
abbrev dktX0_alike_3 : List UInt8 := dkwX0_alike_3 ++ dktX0_alike_4
def dkwX0_alike_2 : List UInt8 := [182, 0, 243, 153, 0, 33, 42, 21, 4, 27, 182, 0, 243, 153, 0, 23, 42, 29, 27, 182, 1, 24, 42]
abbrev dktX0_alike_2 : List UInt8 := dkwX0_alike_2 ++ dktX0_alike_3
def dkwX0_alike_1 : List UInt8 := [162, 0, 75, 29, 4, 96, 54, 4, 21, 4, 42, 180, 0, 10, 180, 0, 126, 162, 0, 52, 28, 42, 29, 27]
abbrev dktX0_alike_1 : List UInt8 := dkwX0_alike_1 ++ dktX0_alike_2
def dkwX0_alike_0 : List UInt8 := [42, 27, 182, 1, 27, 154, 0, 6, 16, 254, 172, 3, 61, 3, 62, 29, 42, 180, 0, 10, 180, 0, 126]
abbrev dktX0_alike_0 : List UInt8 := dkwX0_alike_0 ++ dktX0_alike_1
theorem dksX0_alike_0 : cX0_alike.data.toList.drop 0 = dktX0_alike_0 := by decide +kernel
theorem dksX0_alike_1 : cX0_alike.data.toList.drop 23 = dktX0_alike_1 := dk_seg dksX0_alike_0 23 rfl rfl
theorem dksX0_alike_2 : cX0_alike.data.toList.drop 47 = dktX0_alike_2 := dk_seg dksX0_alike_1 24 rfl rfl
theorem dksX0_alike_3 : cX0_alike.data.toList.drop 70 = dktX0_alike_3 := dk_seg dksX0_alike_2 23 rfl rfl
theorem dksX0_alike_4 : cX0_alike.data.toList.drop 92 = dktX0_alike_4 := dk_seg dksX0_alike_3 22 rfl rfl
theorem dX0_alike_0 : decode cX0_alike 0 = .ok (.aload_n 0, 1) := dk_42 (dk_at dksX0_alike_0 0 rfl rfl)
theorem dX0_alike_1 : decode cX0_alike 1 = .ok (.iload_n 1, 1) := dk_27 (dk_at dksX0_alike_0 1 rfl rfl)
theorem dX0_alike_2 : decode cX0_alike 2 = .ok (.invokevirtual 283, 3) := dk_182 1 27 (dk_at dksX0_alike_0 2 rfl rfl)
theorem dX0_alike_5 : decode cX0_alike 5 = .ok (.ifCond .ne 6, 3) := dk_154 0 6 (dk_at dksX0_alike_0 5 rfl rfl)
theorem dX0_alike_8 : decode cX0_alike 8 = .ok (.bipush (-2), 2) := dk_16 254 (dk_at dksX0_alike_0 8 rfl rfl)
theorem dX0_alike_10 : decode cX0_alike 10 = .ok (.ireturn, 1) := dk_172 (dk_at dksX0_alike_0 10 rfl rfl)
theorem dX0_alike_11 : decode cX0_alike 11 = .ok (.iconst 0, 1) := dk_3 (dk_at dksX0_alike_0 11 rfl rfl)
theorem dX0_alike_12 : decode cX0_alike 12 = .ok (.istore_n 2, 1) := dk_61 (dk_at dksX0_alike_0 12 rfl rfl)
theorem dX0_alike_13 : decode cX0_alike 13 = .ok (.iconst 0, 1) := dk_3 (dk_at dksX0_alike_0 13 rfl rfl)
theorem dX0_alike_14 : decode cX0_alike 14 = .ok (.istore_n 3, 1) := dk_62 (dk_at dksX0_alike_0 14 rfl rfl)
theorem dX0_alike_15 : decode cX0_alike 15 = .ok (.iload_n 3, 1) := dk_29 (dk_at dksX0_alike_0 15 rfl rfl)
theorem dX0_alike_16 : decode cX0_alike 16 = .ok (.aload_n 0, 1) := dk_42 (dk_at dksX0_alike_0 16 rfl rfl)
theorem dX0_alike_17 : decode cX0_alike 17 = .ok (.getfield 10, 3) := dk_180 0 10 (dk_at dksX0_alike_0 17 rfl rfl)
theorem dX0_alike_20 : decode cX0_alike 20 = .ok (.getfield 126, 3) := dk_180 0 126 (dk_at dksX0_alike_0 20 rfl rfl)
theorem dX0_alike_23 : decode cX0_alike 23 = .ok (.if_icmp .ge 75, 3) := dk_162 0 75 (dk_at dksX0_alike_1 0 rfl rfl)
theorem dX0_alike_26 : decode cX0_alike 26 = .ok (.iload_n 3, 1) := dk_29 (dk_at dksX0_alike_1 3 rfl rfl)
theorem dX0_alike_27 : decode cX0_alike 27 = .ok (.iconst 1, 1) := dk_4 (dk_at dksX0_alike_1 4 rfl rfl)
theorem dX0_alike_28 : decode cX0_alike 28 = .ok (.iadd, 1) := dk_96 (dk_at dksX0_alike_1 5 rfl rfl)
theorem dX0_alike_29 : decode cX0_alike 29 = .ok (.istore 4, 2) := dk_54 4 (dk_at dksX0_alike_1 6 rfl rfl)
theorem dX0_alike_31 : decode cX0_alike 31 = .ok (.iload 4, 2) := dk_21 4 (dk_at dksX0_alike_1 8 rfl rfl)
theorem dX0_alike_33 : decode cX0_alike 33 = .ok (.aload_n 0, 1) := dk_42 (dk_at dksX0_alike_1 10 rfl rfl)
theorem dX0_alike_34 : decode cX0_alike 34 = .ok (.getfield 10, 3) := dk_180 0 10 (dk_at dksX0_alike_1 11 rfl rfl)
theorem dX0_alike_37 : decode cX0_alike 37 = .ok (.getfield 126, 3) := dk_180 0 126 (dk_at dksX0_alike_1 14 rfl rfl)
theorem dX0_alike_40 : decode cX0_alike 40 = .ok (.if_icmp .ge 52, 3) := dk_162 0 52 (dk_at dksX0_alike_1 17 rfl rfl)
theorem dX0_alike_43 : decode cX0_alike 43 = .ok (.iload_n 2, 1) := dk_28 (dk_at dksX0_alike_1 20 rfl rfl)
theorem dX0_alike_44 : decode cX0_alike 44 = .ok (.aload_n 0, 1) := dk_42 (dk_at dksX0_alike_1 21 rfl rfl)
theorem dX0_alike_45 : decode cX0_alike 45 = .ok (.iload_n 3, 1) := dk_29 (dk_at dksX0_alike_1 22 rfl rfl)
theorem dX0_alike_46 : decode cX0_alike 46 = .ok (.iload_n 1, 1) := dk_27 (dk_at dksX0_alike_1 23 rfl rfl)
theorem dX0_alike_47 : decode cX0_alike 47 = .ok (.invokevirtual 243, 3) := dk_182 0 243 (dk_at dksX0_alike_2 0 rfl rfl)
theorem dX0_alike_50 : decode cX0_alike 50 = .ok (.ifCond .eq 33, 3) := dk_153 0 33 (dk_at dksX0_alike_2 3 rfl rfl)
theorem dX0_alike_53 : decode cX0_alike 53 = .ok (.aload_n 0, 1) := dk_42 (dk_at dksX0_alike_2 6 rfl rfl)
theorem dX0_alike_54 : decode cX0_alike 54 = .ok (.iload 4, 2) := dk_21 4 (dk_at dksX0_alike_2 7 rfl rfl)
theorem dX0_alike_56 : decode cX0_alike 56 = .ok (.iload_n 1, 1) := dk_27 (dk_at dksX0_alike_2 9 rfl rfl)
theorem dX0_alike_57 : decode cX0_alike 57 = .ok (.invokevirtual 243, 3) := dk_182 0 243 (dk_at dksX0_alike_2 10 rfl rfl)
theorem dX0_alike_60 : decode cX0_alike 60 = .ok (.ifCond .eq 23, 3) := dk_153 0 23 (dk_at dksX0_alike_2 13 rfl rfl)
theorem dX0_alike_63 : decode cX0_alike 63 = .ok (.aload_n 0, 1) := dk_42 (dk_at dksX0_alike_2 16 rfl rfl)
theorem dX0_alike_64 : decode cX0_alike 64 = .ok (.iload_n 3, 1) := dk_29 (dk_at dksX0_alike_2 17 rfl rfl)
theorem dX0_alike_65 : decode cX0_alike 65 = .ok (.iload_n 1, 1) := dk_27 (dk_at dksX0_alike_2 18 rfl rfl)
theorem dX0_alike_66 : decode cX0_alike 66 = .ok (.invokevirtual 280, 3) := dk_182 1 24 (dk_at dksX0_alike_2 19 rfl rfl)
theorem dX0_alike_69 : decode cX0_alike 69 = .ok (.aload_n 0, 1) := dk_42 (dk_at dksX0_alike_2 22 rfl rfl)
theorem dX0_alike_70 : decode cX0_alike 70 = .ok (.iload 4, 2) := dk_21 4 (dk_at dksX0_alike_3 0 rfl rfl)
theorem dX0_alike_72 : decode cX0_alike 72 = .ok (.iload_n 1, 1) := dk_27 (dk_at dksX0_alike_3 2 rfl rfl)
theorem dX0_alike_73 : decode cX0_alike 73 = .ok (.invokevirtual 280, 3) := dk_182 1 24 (dk_at dksX0_alike_3 3 rfl rfl)
theorem dX0_alike_76 : decode cX0_alike 76 = .ok (.if_icmp .ne 7, 3) := dk_160 0 7 (dk_at dksX0_alike_3 6 rfl rfl)
theorem dX0_alike_79 : decode cX0_alike 79 = .ok (.iconst 1, 1) := dk_4 (dk_at dksX0_alike_3 9 rfl rfl)
theorem dX0_alike_80 : decode cX0_alike 80 = .ok (.goto 4, 3) := dk_167 0 4 (dk_at dksX0_alike_3 10 rfl rfl)
theorem dX0_alike_83 : decode cX0_alike 83 = .ok (.iconst 0, 1) := dk_3 (dk_at dksX0_alike_3 13 rfl rfl)
theorem dX0_alike_84 : decode cX0_alike 84 = .ok (.iadd, 1) := dk_96 (dk_at dksX0_alike_3 14 rfl rfl)
theorem dX0_alike_85 : decode cX0_alike 85 = .ok (.istore_n 2, 1) := dk_61 (dk_at dksX0_alike_3 15 rfl rfl)
theorem dX0_alike_86 : decode cX0_alike 86 = .ok (.iinc 4 1, 3) := dk_132 4 1 (dk_at dksX0_alike_3 16 rfl rfl)
theorem dX0_alike_89 : decode cX0_alike 89 = .ok (.goto (-58), 3) := dk_167 255 198 (dk_at dksX0_alike_3 19 rfl rfl)
theorem dX0_alike_92 : decode cX0_alike 92 = .ok (.iinc 3 1, 3) := dk_132 3 1 (dk_at dksX0_alike_4 0 rfl rfl)
theorem dX0_alike_95 : decode cX0_alike 95 = .ok (.goto (-80), 3) := dk_167 255 176 (dk_at dksX0_alike_4 3 rfl rfl)
theorem dX0_alike_98 : decode cX0_alike 98 = .ok (.iload_n 2, 1) := dk_28 (dk_at dksX0_alike_4 6 rfl rfl)
theorem dX0_alike_99 : decode cX0_alike 99 = .ok (.ireturn, 1) := dk_172 (dk_at dksX0_alike_4 7 rfl rfl)
abbrev cX0_rising : ByteArray := prog_1_method_55_code
def yX0_rising : MethodName := ⟨RX0, "rising", "(I)I"⟩
def dkwX0_rising_0 : List UInt8 := [42, 27, 182, 1, 27, 153, 0, 12, 42, 180, 0, 65, 27, 46, 167, 0, 5, 16, 254, 172]
abbrev dktX0_rising_0 : List UInt8 := dkwX0_rising_0 ++ []
theorem dksX0_rising_0 : cX0_rising.data.toList.drop 0 = dktX0_rising_0 := by decide +kernel
theorem dX0_rising_0 : decode cX0_rising 0 = .ok (.aload_n 0, 1) := dk_42 (dk_at dksX0_rising_0 0 rfl rfl)
theorem dX0_rising_1 : decode cX0_rising 1 = .ok (.iload_n 1, 1) := dk_27 (dk_at dksX0_rising_0 1 rfl rfl)
theorem dX0_rising_2 : decode cX0_rising 2 = .ok (.invokevirtual 283, 3) := dk_182 1 27 (dk_at dksX0_rising_0 2 rfl rfl)
theorem dX0_rising_5 : decode cX0_rising 5 = .ok (.ifCond .eq 12, 3) := dk_153 0 12 (dk_at dksX0_rising_0 5 rfl rfl)
theorem dX0_rising_8 : decode cX0_rising 8 = .ok (.aload_n 0, 1) := dk_42 (dk_at dksX0_rising_0 8 rfl rfl)
theorem dX0_rising_9 : decode cX0_rising 9 = .ok (.getfield 65, 3) := dk_180 0 65 (dk_at dksX0_rising_0 9 rfl rfl)
theorem dX0_rising_12 : decode cX0_rising 12 = .ok (.iload_n 1, 1) := dk_27 (dk_at dksX0_rising_0 12 rfl rfl)
theorem dX0_rising_13 : decode cX0_rising 13 = .ok (.iaload, 1) := dk_46 (dk_at dksX0_rising_0 13 rfl rfl)
theorem dX0_rising_14 : decode cX0_rising 14 = .ok (.goto 5, 3) := dk_167 0 5 (dk_at dksX0_rising_0 14 rfl rfl)
theorem dX0_rising_17 : decode cX0_rising 17 = .ok (.bipush (-2), 2) := dk_16 254 (dk_at dksX0_rising_0 17 rfl rfl)
theorem dX0_rising_19 : decode cX0_rising 19 = .ok (.ireturn, 1) := dk_172 (dk_at dksX0_rising_0 19 rfl rfl)
abbrev cX0_paling : ByteArray := prog_1_method_56_code
def yX0_paling : MethodName := ⟨RX0, "paling", "(I)I"⟩
def dkwX0_paling_2 : List UInt8 := [162, 0, 9, 4, 29, 120, 167, 0, 4, 3, 128, 61, 132, 3, 1, 167, 255, 211, 28, 172]
abbrev dktX0_paling_2 : List UInt8 := dkwX0_paling_2 ++ []
def dkwX0_paling_1 : List UInt8 := [162, 0, 40, 27, 158, 0, 36, 28, 42, 29, 27, 182, 1, 24, 42, 29, 27, 4, 100, 182, 1, 24]
abbrev dktX0_paling_1 : List UInt8 := dkwX0_paling_1 ++ dktX0_paling_2
def dkwX0_paling_0 : List UInt8 := [42, 27, 182, 1, 27, 154, 0, 6, 16, 254, 172, 3, 61, 3, 62, 29, 42, 180, 0, 10, 180, 0, 126]
abbrev dktX0_paling_0 : List UInt8 := dkwX0_paling_0 ++ dktX0_paling_1
theorem dksX0_paling_0 : cX0_paling.data.toList.drop 0 = dktX0_paling_0 := by decide +kernel
theorem dksX0_paling_1 : cX0_paling.data.toList.drop 23 = dktX0_paling_1 := dk_seg dksX0_paling_0 23 rfl rfl
theorem dksX0_paling_2 : cX0_paling.data.toList.drop 45 = dktX0_paling_2 := dk_seg dksX0_paling_1 22 rfl rfl
theorem dX0_paling_0 : decode cX0_paling 0 = .ok (.aload_n 0, 1) := dk_42 (dk_at dksX0_paling_0 0 rfl rfl)
theorem dX0_paling_1 : decode cX0_paling 1 = .ok (.iload_n 1, 1) := dk_27 (dk_at dksX0_paling_0 1 rfl rfl)
theorem dX0_paling_2 : decode cX0_paling 2 = .ok (.invokevirtual 283, 3) := dk_182 1 27 (dk_at dksX0_paling_0 2 rfl rfl)
theorem dX0_paling_5 : decode cX0_paling 5 = .ok (.ifCond .ne 6, 3) := dk_154 0 6 (dk_at dksX0_paling_0 5 rfl rfl)
theorem dX0_paling_8 : decode cX0_paling 8 = .ok (.bipush (-2), 2) := dk_16 254 (dk_at dksX0_paling_0 8 rfl rfl)
theorem dX0_paling_10 : decode cX0_paling 10 = .ok (.ireturn, 1) := dk_172 (dk_at dksX0_paling_0 10 rfl rfl)
theorem dX0_paling_11 : decode cX0_paling 11 = .ok (.iconst 0, 1) := dk_3 (dk_at dksX0_paling_0 11 rfl rfl)
theorem dX0_paling_12 : decode cX0_paling 12 = .ok (.istore_n 2, 1) := dk_61 (dk_at dksX0_paling_0 12 rfl rfl)
theorem dX0_paling_13 : decode cX0_paling 13 = .ok (.iconst 0, 1) := dk_3 (dk_at dksX0_paling_0 13 rfl rfl)
theorem dX0_paling_14 : decode cX0_paling 14 = .ok (.istore_n 3, 1) := dk_62 (dk_at dksX0_paling_0 14 rfl rfl)
theorem dX0_paling_15 : decode cX0_paling 15 = .ok (.iload_n 3, 1) := dk_29 (dk_at dksX0_paling_0 15 rfl rfl)
theorem dX0_paling_16 : decode cX0_paling 16 = .ok (.aload_n 0, 1) := dk_42 (dk_at dksX0_paling_0 16 rfl rfl)
theorem dX0_paling_17 : decode cX0_paling 17 = .ok (.getfield 10, 3) := dk_180 0 10 (dk_at dksX0_paling_0 17 rfl rfl)
theorem dX0_paling_20 : decode cX0_paling 20 = .ok (.getfield 126, 3) := dk_180 0 126 (dk_at dksX0_paling_0 20 rfl rfl)
theorem dX0_paling_23 : decode cX0_paling 23 = .ok (.if_icmp .ge 40, 3) := dk_162 0 40 (dk_at dksX0_paling_1 0 rfl rfl)
theorem dX0_paling_26 : decode cX0_paling 26 = .ok (.iload_n 1, 1) := dk_27 (dk_at dksX0_paling_1 3 rfl rfl)
theorem dX0_paling_27 : decode cX0_paling 27 = .ok (.ifCond .le 36, 3) := dk_158 0 36 (dk_at dksX0_paling_1 4 rfl rfl)
theorem dX0_paling_30 : decode cX0_paling 30 = .ok (.iload_n 2, 1) := dk_28 (dk_at dksX0_paling_1 7 rfl rfl)
theorem dX0_paling_31 : decode cX0_paling 31 = .ok (.aload_n 0, 1) := dk_42 (dk_at dksX0_paling_1 8 rfl rfl)
theorem dX0_paling_32 : decode cX0_paling 32 = .ok (.iload_n 3, 1) := dk_29 (dk_at dksX0_paling_1 9 rfl rfl)
theorem dX0_paling_33 : decode cX0_paling 33 = .ok (.iload_n 1, 1) := dk_27 (dk_at dksX0_paling_1 10 rfl rfl)
theorem dX0_paling_34 : decode cX0_paling 34 = .ok (.invokevirtual 280, 3) := dk_182 1 24 (dk_at dksX0_paling_1 11 rfl rfl)
theorem dX0_paling_37 : decode cX0_paling 37 = .ok (.aload_n 0, 1) := dk_42 (dk_at dksX0_paling_1 14 rfl rfl)
theorem dX0_paling_38 : decode cX0_paling 38 = .ok (.iload_n 3, 1) := dk_29 (dk_at dksX0_paling_1 15 rfl rfl)
theorem dX0_paling_39 : decode cX0_paling 39 = .ok (.iload_n 1, 1) := dk_27 (dk_at dksX0_paling_1 16 rfl rfl)
theorem dX0_paling_40 : decode cX0_paling 40 = .ok (.iconst 1, 1) := dk_4 (dk_at dksX0_paling_1 17 rfl rfl)
theorem dX0_paling_41 : decode cX0_paling 41 = .ok (.isub, 1) := dk_100 (dk_at dksX0_paling_1 18 rfl rfl)
theorem dX0_paling_42 : decode cX0_paling 42 = .ok (.invokevirtual 280, 3) := dk_182 1 24 (dk_at dksX0_paling_1 19 rfl rfl)
theorem dX0_paling_45 : decode cX0_paling 45 = .ok (.if_icmp .ge 9, 3) := dk_162 0 9 (dk_at dksX0_paling_2 0 rfl rfl)
theorem dX0_paling_48 : decode cX0_paling 48 = .ok (.iconst 1, 1) := dk_4 (dk_at dksX0_paling_2 3 rfl rfl)
theorem dX0_paling_49 : decode cX0_paling 49 = .ok (.iload_n 3, 1) := dk_29 (dk_at dksX0_paling_2 4 rfl rfl)
theorem dX0_paling_50 : decode cX0_paling 50 = .ok (.ishl, 1) := dk_120 (dk_at dksX0_paling_2 5 rfl rfl)
theorem dX0_paling_51 : decode cX0_paling 51 = .ok (.goto 4, 3) := dk_167 0 4 (dk_at dksX0_paling_2 6 rfl rfl)
theorem dX0_paling_54 : decode cX0_paling 54 = .ok (.iconst 0, 1) := dk_3 (dk_at dksX0_paling_2 9 rfl rfl)
theorem dX0_paling_55 : decode cX0_paling 55 = .ok (.ior, 1) := dk_128 (dk_at dksX0_paling_2 10 rfl rfl)
theorem dX0_paling_56 : decode cX0_paling 56 = .ok (.istore_n 2, 1) := dk_61 (dk_at dksX0_paling_2 11 rfl rfl)
theorem dX0_paling_57 : decode cX0_paling 57 = .ok (.iinc 3 1, 3) := dk_132 3 1 (dk_at dksX0_paling_2 12 rfl rfl)
theorem dX0_paling_60 : decode cX0_paling 60 = .ok (.goto (-45), 3) := dk_167 255 211 (dk_at dksX0_paling_2 15 rfl rfl)
theorem dX0_paling_63 : decode cX0_paling 63 = .ok (.iload_n 2, 1) := dk_28 (dk_at dksX0_paling_2 18 rfl rfl)
theorem dX0_paling_64 : decode cX0_paling 64 = .ok (.ireturn, 1) := dk_172 (dk_at dksX0_paling_2 19 rfl rfl)
abbrev cX0_cross : ByteArray := prog_1_method_57_code
def yX0_cross : MethodName := ⟨RX0, "cross", "(II)I"⟩
def dkwX0_cross_3 : List UInt8 := [167, 255, 207, 2, 172]
abbrev dktX0_cross_3 : List UInt8 := dkwX0_cross_3 ++ []
def dkwX0_cross_2 : List UInt8 := [153, 0, 20, 42, 27, 29, 182, 1, 24, 42, 28, 29, 182, 1, 24, 164, 0, 5, 29, 172, 132, 3, 1]
abbrev dktX0_cross_2 : List UInt8 := dkwX0_cross_2 ++ dktX0_cross_3
def dkwX0_cross_1 : List UInt8 := [180, 0, 10, 180, 0, 133, 163, 0, 44, 42, 27, 29, 182, 0, 243, 153, 0, 29, 42, 28, 29, 182, 0, 243]
abbrev dktX0_cross_1 : List UInt8 := dkwX0_cross_1 ++ dktX0_cross_2
def dkwX0_cross_0 : List UInt8 := [42, 28, 133, 182, 0, 163, 153, 0, 11, 42, 27, 182, 1, 33, 154, 0, 6, 16, 254, 172, 3, 62, 29, 42]
abbrev dktX0_cross_0 : List UInt8 := dkwX0_cross_0 ++ dktX0_cross_1
theorem dksX0_cross_0 : cX0_cross.data.toList.drop 0 = dktX0_cross_0 := by decide +kernel
theorem dksX0_cross_1 : cX0_cross.data.toList.drop 24 = dktX0_cross_1 := dk_seg dksX0_cross_0 24 rfl rfl
theorem dksX0_cross_2 : cX0_cross.data.toList.drop 48 = dktX0_cross_2 := dk_seg dksX0_cross_1 24 rfl rfl
theorem dksX0_cross_3 : cX0_cross.data.toList.drop 71 = dktX0_cross_3 := dk_seg dksX0_cross_2 23 rfl rfl
theorem dX0_cross_0 : decode cX0_cross 0 = .ok (.aload_n 0, 1) := dk_42 (dk_at dksX0_cross_0 0 rfl rfl)
theorem dX0_cross_1 : decode cX0_cross 1 = .ok (.iload_n 2, 1) := dk_28 (dk_at dksX0_cross_0 1 rfl rfl)
theorem dX0_cross_2 : decode cX0_cross 2 = .ok (.i2l, 1) := dk_133 (dk_at dksX0_cross_0 2 rfl rfl)
theorem dX0_cross_3 : decode cX0_cross 3 = .ok (.invokevirtual 163, 3) := dk_182 0 163 (dk_at dksX0_cross_0 3 rfl rfl)
theorem dX0_cross_6 : decode cX0_cross 6 = .ok (.ifCond .eq 11, 3) := dk_153 0 11 (dk_at dksX0_cross_0 6 rfl rfl)
theorem dX0_cross_9 : decode cX0_cross 9 = .ok (.aload_n 0, 1) := dk_42 (dk_at dksX0_cross_0 9 rfl rfl)
theorem dX0_cross_10 : decode cX0_cross 10 = .ok (.iload_n 1, 1) := dk_27 (dk_at dksX0_cross_0 10 rfl rfl)
theorem dX0_cross_11 : decode cX0_cross 11 = .ok (.invokevirtual 289, 3) := dk_182 1 33 (dk_at dksX0_cross_0 11 rfl rfl)
theorem dX0_cross_14 : decode cX0_cross 14 = .ok (.ifCond .ne 6, 3) := dk_154 0 6 (dk_at dksX0_cross_0 14 rfl rfl)
theorem dX0_cross_17 : decode cX0_cross 17 = .ok (.bipush (-2), 2) := dk_16 254 (dk_at dksX0_cross_0 17 rfl rfl)
theorem dX0_cross_19 : decode cX0_cross 19 = .ok (.ireturn, 1) := dk_172 (dk_at dksX0_cross_0 19 rfl rfl)
theorem dX0_cross_20 : decode cX0_cross 20 = .ok (.iconst 0, 1) := dk_3 (dk_at dksX0_cross_0 20 rfl rfl)
theorem dX0_cross_21 : decode cX0_cross 21 = .ok (.istore_n 3, 1) := dk_62 (dk_at dksX0_cross_0 21 rfl rfl)
theorem dX0_cross_22 : decode cX0_cross 22 = .ok (.iload_n 3, 1) := dk_29 (dk_at dksX0_cross_0 22 rfl rfl)
theorem dX0_cross_23 : decode cX0_cross 23 = .ok (.aload_n 0, 1) := dk_42 (dk_at dksX0_cross_0 23 rfl rfl)
theorem dX0_cross_24 : decode cX0_cross 24 = .ok (.getfield 10, 3) := dk_180 0 10 (dk_at dksX0_cross_1 0 rfl rfl)
theorem dX0_cross_27 : decode cX0_cross 27 = .ok (.getfield 133, 3) := dk_180 0 133 (dk_at dksX0_cross_1 3 rfl rfl)
theorem dX0_cross_30 : decode cX0_cross 30 = .ok (.if_icmp .gt 44, 3) := dk_163 0 44 (dk_at dksX0_cross_1 6 rfl rfl)
theorem dX0_cross_33 : decode cX0_cross 33 = .ok (.aload_n 0, 1) := dk_42 (dk_at dksX0_cross_1 9 rfl rfl)
theorem dX0_cross_34 : decode cX0_cross 34 = .ok (.iload_n 1, 1) := dk_27 (dk_at dksX0_cross_1 10 rfl rfl)
theorem dX0_cross_35 : decode cX0_cross 35 = .ok (.iload_n 3, 1) := dk_29 (dk_at dksX0_cross_1 11 rfl rfl)
theorem dX0_cross_36 : decode cX0_cross 36 = .ok (.invokevirtual 243, 3) := dk_182 0 243 (dk_at dksX0_cross_1 12 rfl rfl)
theorem dX0_cross_39 : decode cX0_cross 39 = .ok (.ifCond .eq 29, 3) := dk_153 0 29 (dk_at dksX0_cross_1 15 rfl rfl)
theorem dX0_cross_42 : decode cX0_cross 42 = .ok (.aload_n 0, 1) := dk_42 (dk_at dksX0_cross_1 18 rfl rfl)
theorem dX0_cross_43 : decode cX0_cross 43 = .ok (.iload_n 2, 1) := dk_28 (dk_at dksX0_cross_1 19 rfl rfl)
theorem dX0_cross_44 : decode cX0_cross 44 = .ok (.iload_n 3, 1) := dk_29 (dk_at dksX0_cross_1 20 rfl rfl)
theorem dX0_cross_45 : decode cX0_cross 45 = .ok (.invokevirtual 243, 3) := dk_182 0 243 (dk_at dksX0_cross_1 21 rfl rfl)
theorem dX0_cross_48 : decode cX0_cross 48 = .ok (.ifCond .eq 20, 3) := dk_153 0 20 (dk_at dksX0_cross_2 0 rfl rfl)
theorem dX0_cross_51 : decode cX0_cross 51 = .ok (.aload_n 0, 1) := dk_42 (dk_at dksX0_cross_2 3 rfl rfl)
theorem dX0_cross_52 : decode cX0_cross 52 = .ok (.iload_n 1, 1) := dk_27 (dk_at dksX0_cross_2 4 rfl rfl)
theorem dX0_cross_53 : decode cX0_cross 53 = .ok (.iload_n 3, 1) := dk_29 (dk_at dksX0_cross_2 5 rfl rfl)
theorem dX0_cross_54 : decode cX0_cross 54 = .ok (.invokevirtual 280, 3) := dk_182 1 24 (dk_at dksX0_cross_2 6 rfl rfl)
theorem dX0_cross_57 : decode cX0_cross 57 = .ok (.aload_n 0, 1) := dk_42 (dk_at dksX0_cross_2 9 rfl rfl)
theorem dX0_cross_58 : decode cX0_cross 58 = .ok (.iload_n 2, 1) := dk_28 (dk_at dksX0_cross_2 10 rfl rfl)
theorem dX0_cross_59 : decode cX0_cross 59 = .ok (.iload_n 3, 1) := dk_29 (dk_at dksX0_cross_2 11 rfl rfl)
theorem dX0_cross_60 : decode cX0_cross 60 = .ok (.invokevirtual 280, 3) := dk_182 1 24 (dk_at dksX0_cross_2 12 rfl rfl)
theorem dX0_cross_63 : decode cX0_cross 63 = .ok (.if_icmp .le 5, 3) := dk_164 0 5 (dk_at dksX0_cross_2 15 rfl rfl)
theorem dX0_cross_66 : decode cX0_cross 66 = .ok (.iload_n 3, 1) := dk_29 (dk_at dksX0_cross_2 18 rfl rfl)
theorem dX0_cross_67 : decode cX0_cross 67 = .ok (.ireturn, 1) := dk_172 (dk_at dksX0_cross_2 19 rfl rfl)
theorem dX0_cross_68 : decode cX0_cross 68 = .ok (.iinc 3 1, 3) := dk_132 3 1 (dk_at dksX0_cross_2 20 rfl rfl)
theorem dX0_cross_71 : decode cX0_cross 71 = .ok (.goto (-49), 3) := dk_167 255 207 (dk_at dksX0_cross_3 0 rfl rfl)
theorem dX0_cross_74 : decode cX0_cross 74 = .ok (.iconst (-1), 1) := dk_2 (dk_at dksX0_cross_3 3 rfl rfl)
theorem dX0_cross_75 : decode cX0_cross 75 = .ok (.ireturn, 1) := dk_172 (dk_at dksX0_cross_3 4 rfl rfl)
abbrev cX0_swaps : ByteArray := prog_1_method_59_code
def yX0_swaps : MethodName := ⟨RX0, "swaps", "(II)I"⟩
def dkwX0_swaps_4 : List UInt8 := [167, 255, 188, 29, 172]
abbrev dktX0_swaps_4 : List UInt8 := dkwX0_swaps_4 ++ []
def dkwX0_swaps_3 : List UInt8 := [27, 28, 21, 4, 4, 100, 182, 1, 57, 159, 0, 7, 4, 167, 0, 4, 3, 96, 62, 132, 4, 1]
abbrev dktX0_swaps_3 : List UInt8 := dkwX0_swaps_3 ++ dktX0_swaps_4
def dkwX0_swaps_2 : List UInt8 := [153, 0, 40, 42, 28, 21, 4, 4, 100, 182, 0, 243, 153, 0, 28, 42, 27, 28, 21, 4, 182, 1, 57, 42]
abbrev dktX0_swaps_2 : List UInt8 := dkwX0_swaps_2 ++ dktX0_swaps_3
def dkwX0_swaps_1 : List UInt8 := [54, 4, 21, 4, 42, 180, 0, 10, 180, 0, 133, 163, 0, 62, 29, 42, 27, 21, 4, 4, 100, 182, 0, 243]
abbrev dktX0_swaps_1 : List UInt8 := dkwX0_swaps_1 ++ dktX0_swaps_2
def dkwX0_swaps_0 : List UInt8 := [42, 28, 133, 182, 0, 163, 153, 0, 11, 42, 27, 182, 1, 33, 154, 0, 6, 16, 254, 172, 3, 62, 4]
abbrev dktX0_swaps_0 : List UInt8 := dkwX0_swaps_0 ++ dktX0_swaps_1
theorem dksX0_swaps_0 : cX0_swaps.data.toList.drop 0 = dktX0_swaps_0 := by decide +kernel
theorem dksX0_swaps_1 : cX0_swaps.data.toList.drop 23 = dktX0_swaps_1 := dk_seg dksX0_swaps_0 23 rfl rfl
theorem dksX0_swaps_2 : cX0_swaps.data.toList.drop 47 = dktX0_swaps_2 := dk_seg dksX0_swaps_1 24 rfl rfl
theorem dksX0_swaps_3 : cX0_swaps.data.toList.drop 71 = dktX0_swaps_3 := dk_seg dksX0_swaps_2 24 rfl rfl
theorem dksX0_swaps_4 : cX0_swaps.data.toList.drop 93 = dktX0_swaps_4 := dk_seg dksX0_swaps_3 22 rfl rfl
theorem dX0_swaps_0 : decode cX0_swaps 0 = .ok (.aload_n 0, 1) := dk_42 (dk_at dksX0_swaps_0 0 rfl rfl)
theorem dX0_swaps_1 : decode cX0_swaps 1 = .ok (.iload_n 2, 1) := dk_28 (dk_at dksX0_swaps_0 1 rfl rfl)
theorem dX0_swaps_2 : decode cX0_swaps 2 = .ok (.i2l, 1) := dk_133 (dk_at dksX0_swaps_0 2 rfl rfl)
theorem dX0_swaps_3 : decode cX0_swaps 3 = .ok (.invokevirtual 163, 3) := dk_182 0 163 (dk_at dksX0_swaps_0 3 rfl rfl)
theorem dX0_swaps_6 : decode cX0_swaps 6 = .ok (.ifCond .eq 11, 3) := dk_153 0 11 (dk_at dksX0_swaps_0 6 rfl rfl)
theorem dX0_swaps_9 : decode cX0_swaps 9 = .ok (.aload_n 0, 1) := dk_42 (dk_at dksX0_swaps_0 9 rfl rfl)
theorem dX0_swaps_10 : decode cX0_swaps 10 = .ok (.iload_n 1, 1) := dk_27 (dk_at dksX0_swaps_0 10 rfl rfl)
theorem dX0_swaps_11 : decode cX0_swaps 11 = .ok (.invokevirtual 289, 3) := dk_182 1 33 (dk_at dksX0_swaps_0 11 rfl rfl)
theorem dX0_swaps_14 : decode cX0_swaps 14 = .ok (.ifCond .ne 6, 3) := dk_154 0 6 (dk_at dksX0_swaps_0 14 rfl rfl)
theorem dX0_swaps_17 : decode cX0_swaps 17 = .ok (.bipush (-2), 2) := dk_16 254 (dk_at dksX0_swaps_0 17 rfl rfl)
theorem dX0_swaps_19 : decode cX0_swaps 19 = .ok (.ireturn, 1) := dk_172 (dk_at dksX0_swaps_0 19 rfl rfl)
theorem dX0_swaps_20 : decode cX0_swaps 20 = .ok (.iconst 0, 1) := dk_3 (dk_at dksX0_swaps_0 20 rfl rfl)
theorem dX0_swaps_21 : decode cX0_swaps 21 = .ok (.istore_n 3, 1) := dk_62 (dk_at dksX0_swaps_0 21 rfl rfl)
theorem dX0_swaps_22 : decode cX0_swaps 22 = .ok (.iconst 1, 1) := dk_4 (dk_at dksX0_swaps_0 22 rfl rfl)
theorem dX0_swaps_23 : decode cX0_swaps 23 = .ok (.istore 4, 2) := dk_54 4 (dk_at dksX0_swaps_1 0 rfl rfl)
theorem dX0_swaps_25 : decode cX0_swaps 25 = .ok (.iload 4, 2) := dk_21 4 (dk_at dksX0_swaps_1 2 rfl rfl)
theorem dX0_swaps_27 : decode cX0_swaps 27 = .ok (.aload_n 0, 1) := dk_42 (dk_at dksX0_swaps_1 4 rfl rfl)
theorem dX0_swaps_28 : decode cX0_swaps 28 = .ok (.getfield 10, 3) := dk_180 0 10 (dk_at dksX0_swaps_1 5 rfl rfl)
theorem dX0_swaps_31 : decode cX0_swaps 31 = .ok (.getfield 133, 3) := dk_180 0 133 (dk_at dksX0_swaps_1 8 rfl rfl)
theorem dX0_swaps_34 : decode cX0_swaps 34 = .ok (.if_icmp .gt 62, 3) := dk_163 0 62 (dk_at dksX0_swaps_1 11 rfl rfl)
theorem dX0_swaps_37 : decode cX0_swaps 37 = .ok (.iload_n 3, 1) := dk_29 (dk_at dksX0_swaps_1 14 rfl rfl)
theorem dX0_swaps_38 : decode cX0_swaps 38 = .ok (.aload_n 0, 1) := dk_42 (dk_at dksX0_swaps_1 15 rfl rfl)
theorem dX0_swaps_39 : decode cX0_swaps 39 = .ok (.iload_n 1, 1) := dk_27 (dk_at dksX0_swaps_1 16 rfl rfl)
theorem dX0_swaps_40 : decode cX0_swaps 40 = .ok (.iload 4, 2) := dk_21 4 (dk_at dksX0_swaps_1 17 rfl rfl)
theorem dX0_swaps_42 : decode cX0_swaps 42 = .ok (.iconst 1, 1) := dk_4 (dk_at dksX0_swaps_1 19 rfl rfl)
theorem dX0_swaps_43 : decode cX0_swaps 43 = .ok (.isub, 1) := dk_100 (dk_at dksX0_swaps_1 20 rfl rfl)
theorem dX0_swaps_44 : decode cX0_swaps 44 = .ok (.invokevirtual 243, 3) := dk_182 0 243 (dk_at dksX0_swaps_1 21 rfl rfl)
theorem dX0_swaps_47 : decode cX0_swaps 47 = .ok (.ifCond .eq 40, 3) := dk_153 0 40 (dk_at dksX0_swaps_2 0 rfl rfl)
theorem dX0_swaps_50 : decode cX0_swaps 50 = .ok (.aload_n 0, 1) := dk_42 (dk_at dksX0_swaps_2 3 rfl rfl)
theorem dX0_swaps_51 : decode cX0_swaps 51 = .ok (.iload_n 2, 1) := dk_28 (dk_at dksX0_swaps_2 4 rfl rfl)
theorem dX0_swaps_52 : decode cX0_swaps 52 = .ok (.iload 4, 2) := dk_21 4 (dk_at dksX0_swaps_2 5 rfl rfl)
theorem dX0_swaps_54 : decode cX0_swaps 54 = .ok (.iconst 1, 1) := dk_4 (dk_at dksX0_swaps_2 7 rfl rfl)
theorem dX0_swaps_55 : decode cX0_swaps 55 = .ok (.isub, 1) := dk_100 (dk_at dksX0_swaps_2 8 rfl rfl)
theorem dX0_swaps_56 : decode cX0_swaps 56 = .ok (.invokevirtual 243, 3) := dk_182 0 243 (dk_at dksX0_swaps_2 9 rfl rfl)
theorem dX0_swaps_59 : decode cX0_swaps 59 = .ok (.ifCond .eq 28, 3) := dk_153 0 28 (dk_at dksX0_swaps_2 12 rfl rfl)
theorem dX0_swaps_62 : decode cX0_swaps 62 = .ok (.aload_n 0, 1) := dk_42 (dk_at dksX0_swaps_2 15 rfl rfl)
theorem dX0_swaps_63 : decode cX0_swaps 63 = .ok (.iload_n 1, 1) := dk_27 (dk_at dksX0_swaps_2 16 rfl rfl)
theorem dX0_swaps_64 : decode cX0_swaps 64 = .ok (.iload_n 2, 1) := dk_28 (dk_at dksX0_swaps_2 17 rfl rfl)
theorem dX0_swaps_65 : decode cX0_swaps 65 = .ok (.iload 4, 2) := dk_21 4 (dk_at dksX0_swaps_2 18 rfl rfl)
theorem dX0_swaps_67 : decode cX0_swaps 67 = .ok (.invokevirtual 313, 3) := dk_182 1 57 (dk_at dksX0_swaps_2 20 rfl rfl)
theorem dX0_swaps_70 : decode cX0_swaps 70 = .ok (.aload_n 0, 1) := dk_42 (dk_at dksX0_swaps_2 23 rfl rfl)
theorem dX0_swaps_71 : decode cX0_swaps 71 = .ok (.iload_n 1, 1) := dk_27 (dk_at dksX0_swaps_3 0 rfl rfl)
theorem dX0_swaps_72 : decode cX0_swaps 72 = .ok (.iload_n 2, 1) := dk_28 (dk_at dksX0_swaps_3 1 rfl rfl)
theorem dX0_swaps_73 : decode cX0_swaps 73 = .ok (.iload 4, 2) := dk_21 4 (dk_at dksX0_swaps_3 2 rfl rfl)
theorem dX0_swaps_75 : decode cX0_swaps 75 = .ok (.iconst 1, 1) := dk_4 (dk_at dksX0_swaps_3 4 rfl rfl)
theorem dX0_swaps_76 : decode cX0_swaps 76 = .ok (.isub, 1) := dk_100 (dk_at dksX0_swaps_3 5 rfl rfl)
theorem dX0_swaps_77 : decode cX0_swaps 77 = .ok (.invokevirtual 313, 3) := dk_182 1 57 (dk_at dksX0_swaps_3 6 rfl rfl)
theorem dX0_swaps_80 : decode cX0_swaps 80 = .ok (.if_icmp .eq 7, 3) := dk_159 0 7 (dk_at dksX0_swaps_3 9 rfl rfl)
theorem dX0_swaps_83 : decode cX0_swaps 83 = .ok (.iconst 1, 1) := dk_4 (dk_at dksX0_swaps_3 12 rfl rfl)
theorem dX0_swaps_84 : decode cX0_swaps 84 = .ok (.goto 4, 3) := dk_167 0 4 (dk_at dksX0_swaps_3 13 rfl rfl)
theorem dX0_swaps_87 : decode cX0_swaps 87 = .ok (.iconst 0, 1) := dk_3 (dk_at dksX0_swaps_3 16 rfl rfl)
theorem dX0_swaps_88 : decode cX0_swaps 88 = .ok (.iadd, 1) := dk_96 (dk_at dksX0_swaps_3 17 rfl rfl)
theorem dX0_swaps_89 : decode cX0_swaps 89 = .ok (.istore_n 3, 1) := dk_62 (dk_at dksX0_swaps_3 18 rfl rfl)
theorem dX0_swaps_90 : decode cX0_swaps 90 = .ok (.iinc 4 1, 3) := dk_132 4 1 (dk_at dksX0_swaps_3 19 rfl rfl)
theorem dX0_swaps_93 : decode cX0_swaps 93 = .ok (.goto (-68), 3) := dk_167 255 188 (dk_at dksX0_swaps_4 0 rfl rfl)
theorem dX0_swaps_96 : decode cX0_swaps 96 = .ok (.iload_n 3, 1) := dk_29 (dk_at dksX0_swaps_4 3 rfl rfl)
theorem dX0_swaps_97 : decode cX0_swaps 97 = .ok (.ireturn, 1) := dk_172 (dk_at dksX0_swaps_4 4 rfl rfl)
abbrev cX0_sign : ByteArray := prog_1_method_58_code
def yX0_sign : MethodName := ⟨RX0, "sign", "(III)I"⟩
def dkwX0_sign_0 : List UInt8 := [42, 27, 29, 182, 1, 24, 42, 28, 29, 182, 1, 24, 100, 184, 1, 52, 172]
abbrev dktX0_sign_0 : List UInt8 := dkwX0_sign_0 ++ []
theorem dksX0_sign_0 : cX0_sign.data.toList.drop 0 = dktX0_sign_0 := by decide +kernel
theorem dX0_sign_0 : decode cX0_sign 0 = .ok (.aload_n 0, 1) := dk_42 (dk_at dksX0_sign_0 0 rfl rfl)
theorem dX0_sign_1 : decode cX0_sign 1 = .ok (.iload_n 1, 1) := dk_27 (dk_at dksX0_sign_0 1 rfl rfl)
theorem dX0_sign_2 : decode cX0_sign 2 = .ok (.iload_n 3, 1) := dk_29 (dk_at dksX0_sign_0 2 rfl rfl)
theorem dX0_sign_3 : decode cX0_sign 3 = .ok (.invokevirtual 280, 3) := dk_182 1 24 (dk_at dksX0_sign_0 3 rfl rfl)
theorem dX0_sign_6 : decode cX0_sign 6 = .ok (.aload_n 0, 1) := dk_42 (dk_at dksX0_sign_0 6 rfl rfl)
theorem dX0_sign_7 : decode cX0_sign 7 = .ok (.iload_n 2, 1) := dk_28 (dk_at dksX0_sign_0 7 rfl rfl)
theorem dX0_sign_8 : decode cX0_sign 8 = .ok (.iload_n 3, 1) := dk_29 (dk_at dksX0_sign_0 8 rfl rfl)
theorem dX0_sign_9 : decode cX0_sign 9 = .ok (.invokevirtual 280, 3) := dk_182 1 24 (dk_at dksX0_sign_0 9 rfl rfl)
theorem dX0_sign_12 : decode cX0_sign 12 = .ok (.isub, 1) := dk_100 (dk_at dksX0_sign_0 12 rfl rfl)
theorem dX0_sign_13 : decode cX0_sign 13 = .ok (.invokestatic 308, 3) := dk_184 1 52 (dk_at dksX0_sign_0 13 rfl rfl)
theorem dX0_sign_16 : decode cX0_sign 16 = .ok (.ireturn, 1) := dk_172 (dk_at dksX0_sign_0 16 rfl rfl)
abbrev cX0_put : ByteArray := prog_1_method_60_code
def yX0_put : MethodName := ⟨RX0, "put", "()I"⟩
def dkwX0_put_4 : List UInt8 := [132, 3, 1, 167, 255, 190, 132, 2, 1, 167, 255, 169, 27, 172]
abbrev dktX0_put_4 : List UInt8 := dkwX0_put_4 ++ []
def dkwX0_put_3 : List UInt8 := [29, 46, 42, 180, 0, 10, 180, 0, 173, 28, 46, 162, 0, 9, 4, 28, 120, 167, 0, 4, 3, 128, 60]
abbrev dktX0_put_3 : List UInt8 := dkwX0_put_3 ++ dktX0_put_4
def dkwX0_put_2 : List UInt8 := [180, 0, 167, 28, 46, 42, 180, 0, 10, 180, 0, 167, 29, 46, 160, 0, 30, 42, 180, 0, 10, 180, 0, 173]
abbrev dktX0_put_2 : List UInt8 := dkwX0_put_2 ++ dktX0_put_3
def dkwX0_put_1 : List UInt8 := [162, 0, 82, 28, 4, 96, 62, 29, 42, 180, 0, 10, 180, 0, 126, 162, 0, 61, 27, 42, 180, 0, 10]
abbrev dktX0_put_1 : List UInt8 := dkwX0_put_1 ++ dktX0_put_2
def dkwX0_put_0 : List UInt8 := [42, 182, 0, 129, 154, 0, 6, 16, 254, 172, 3, 60, 3, 61, 28, 42, 180, 0, 10, 180, 0, 126]
abbrev dktX0_put_0 : List UInt8 := dkwX0_put_0 ++ dktX0_put_1
theorem dksX0_put_0 : cX0_put.data.toList.drop 0 = dktX0_put_0 := by decide +kernel
theorem dksX0_put_1 : cX0_put.data.toList.drop 22 = dktX0_put_1 := dk_seg dksX0_put_0 22 rfl rfl
theorem dksX0_put_2 : cX0_put.data.toList.drop 45 = dktX0_put_2 := dk_seg dksX0_put_1 23 rfl rfl
theorem dksX0_put_3 : cX0_put.data.toList.drop 69 = dktX0_put_3 := dk_seg dksX0_put_2 24 rfl rfl
theorem dksX0_put_4 : cX0_put.data.toList.drop 92 = dktX0_put_4 := dk_seg dksX0_put_3 23 rfl rfl
theorem dX0_put_0 : decode cX0_put 0 = .ok (.aload_n 0, 1) := dk_42 (dk_at dksX0_put_0 0 rfl rfl)
theorem dX0_put_1 : decode cX0_put 1 = .ok (.invokevirtual 129, 3) := dk_182 0 129 (dk_at dksX0_put_0 1 rfl rfl)
theorem dX0_put_4 : decode cX0_put 4 = .ok (.ifCond .ne 6, 3) := dk_154 0 6 (dk_at dksX0_put_0 4 rfl rfl)
theorem dX0_put_7 : decode cX0_put 7 = .ok (.bipush (-2), 2) := dk_16 254 (dk_at dksX0_put_0 7 rfl rfl)
theorem dX0_put_9 : decode cX0_put 9 = .ok (.ireturn, 1) := dk_172 (dk_at dksX0_put_0 9 rfl rfl)
theorem dX0_put_10 : decode cX0_put 10 = .ok (.iconst 0, 1) := dk_3 (dk_at dksX0_put_0 10 rfl rfl)
theorem dX0_put_11 : decode cX0_put 11 = .ok (.istore_n 1, 1) := dk_60 (dk_at dksX0_put_0 11 rfl rfl)
theorem dX0_put_12 : decode cX0_put 12 = .ok (.iconst 0, 1) := dk_3 (dk_at dksX0_put_0 12 rfl rfl)
theorem dX0_put_13 : decode cX0_put 13 = .ok (.istore_n 2, 1) := dk_61 (dk_at dksX0_put_0 13 rfl rfl)
theorem dX0_put_14 : decode cX0_put 14 = .ok (.iload_n 2, 1) := dk_28 (dk_at dksX0_put_0 14 rfl rfl)
theorem dX0_put_15 : decode cX0_put 15 = .ok (.aload_n 0, 1) := dk_42 (dk_at dksX0_put_0 15 rfl rfl)
theorem dX0_put_16 : decode cX0_put 16 = .ok (.getfield 10, 3) := dk_180 0 10 (dk_at dksX0_put_0 16 rfl rfl)
theorem dX0_put_19 : decode cX0_put 19 = .ok (.getfield 126, 3) := dk_180 0 126 (dk_at dksX0_put_0 19 rfl rfl)
theorem dX0_put_22 : decode cX0_put 22 = .ok (.if_icmp .ge 82, 3) := dk_162 0 82 (dk_at dksX0_put_1 0 rfl rfl)
theorem dX0_put_25 : decode cX0_put 25 = .ok (.iload_n 2, 1) := dk_28 (dk_at dksX0_put_1 3 rfl rfl)
theorem dX0_put_26 : decode cX0_put 26 = .ok (.iconst 1, 1) := dk_4 (dk_at dksX0_put_1 4 rfl rfl)
theorem dX0_put_27 : decode cX0_put 27 = .ok (.iadd, 1) := dk_96 (dk_at dksX0_put_1 5 rfl rfl)
theorem dX0_put_28 : decode cX0_put 28 = .ok (.istore_n 3, 1) := dk_62 (dk_at dksX0_put_1 6 rfl rfl)
theorem dX0_put_29 : decode cX0_put 29 = .ok (.iload_n 3, 1) := dk_29 (dk_at dksX0_put_1 7 rfl rfl)
theorem dX0_put_30 : decode cX0_put 30 = .ok (.aload_n 0, 1) := dk_42 (dk_at dksX0_put_1 8 rfl rfl)
theorem dX0_put_31 : decode cX0_put 31 = .ok (.getfield 10, 3) := dk_180 0 10 (dk_at dksX0_put_1 9 rfl rfl)
theorem dX0_put_34 : decode cX0_put 34 = .ok (.getfield 126, 3) := dk_180 0 126 (dk_at dksX0_put_1 12 rfl rfl)
theorem dX0_put_37 : decode cX0_put 37 = .ok (.if_icmp .ge 61, 3) := dk_162 0 61 (dk_at dksX0_put_1 15 rfl rfl)
theorem dX0_put_40 : decode cX0_put 40 = .ok (.iload_n 1, 1) := dk_27 (dk_at dksX0_put_1 18 rfl rfl)
theorem dX0_put_41 : decode cX0_put 41 = .ok (.aload_n 0, 1) := dk_42 (dk_at dksX0_put_1 19 rfl rfl)
theorem dX0_put_42 : decode cX0_put 42 = .ok (.getfield 10, 3) := dk_180 0 10 (dk_at dksX0_put_1 20 rfl rfl)
theorem dX0_put_45 : decode cX0_put 45 = .ok (.getfield 167, 3) := dk_180 0 167 (dk_at dksX0_put_2 0 rfl rfl)
theorem dX0_put_48 : decode cX0_put 48 = .ok (.iload_n 2, 1) := dk_28 (dk_at dksX0_put_2 3 rfl rfl)
theorem dX0_put_49 : decode cX0_put 49 = .ok (.iaload, 1) := dk_46 (dk_at dksX0_put_2 4 rfl rfl)
theorem dX0_put_50 : decode cX0_put 50 = .ok (.aload_n 0, 1) := dk_42 (dk_at dksX0_put_2 5 rfl rfl)
theorem dX0_put_51 : decode cX0_put 51 = .ok (.getfield 10, 3) := dk_180 0 10 (dk_at dksX0_put_2 6 rfl rfl)
theorem dX0_put_54 : decode cX0_put 54 = .ok (.getfield 167, 3) := dk_180 0 167 (dk_at dksX0_put_2 9 rfl rfl)
theorem dX0_put_57 : decode cX0_put 57 = .ok (.iload_n 3, 1) := dk_29 (dk_at dksX0_put_2 12 rfl rfl)
theorem dX0_put_58 : decode cX0_put 58 = .ok (.iaload, 1) := dk_46 (dk_at dksX0_put_2 13 rfl rfl)
theorem dX0_put_59 : decode cX0_put 59 = .ok (.if_icmp .ne 30, 3) := dk_160 0 30 (dk_at dksX0_put_2 14 rfl rfl)
theorem dX0_put_62 : decode cX0_put 62 = .ok (.aload_n 0, 1) := dk_42 (dk_at dksX0_put_2 17 rfl rfl)
theorem dX0_put_63 : decode cX0_put 63 = .ok (.getfield 10, 3) := dk_180 0 10 (dk_at dksX0_put_2 18 rfl rfl)
theorem dX0_put_66 : decode cX0_put 66 = .ok (.getfield 173, 3) := dk_180 0 173 (dk_at dksX0_put_2 21 rfl rfl)
theorem dX0_put_69 : decode cX0_put 69 = .ok (.iload_n 3, 1) := dk_29 (dk_at dksX0_put_3 0 rfl rfl)
theorem dX0_put_70 : decode cX0_put 70 = .ok (.iaload, 1) := dk_46 (dk_at dksX0_put_3 1 rfl rfl)
theorem dX0_put_71 : decode cX0_put 71 = .ok (.aload_n 0, 1) := dk_42 (dk_at dksX0_put_3 2 rfl rfl)
theorem dX0_put_72 : decode cX0_put 72 = .ok (.getfield 10, 3) := dk_180 0 10 (dk_at dksX0_put_3 3 rfl rfl)
theorem dX0_put_75 : decode cX0_put 75 = .ok (.getfield 173, 3) := dk_180 0 173 (dk_at dksX0_put_3 6 rfl rfl)
theorem dX0_put_78 : decode cX0_put 78 = .ok (.iload_n 2, 1) := dk_28 (dk_at dksX0_put_3 9 rfl rfl)
theorem dX0_put_79 : decode cX0_put 79 = .ok (.iaload, 1) := dk_46 (dk_at dksX0_put_3 10 rfl rfl)
theorem dX0_put_80 : decode cX0_put 80 = .ok (.if_icmp .ge 9, 3) := dk_162 0 9 (dk_at dksX0_put_3 11 rfl rfl)
theorem dX0_put_83 : decode cX0_put 83 = .ok (.iconst 1, 1) := dk_4 (dk_at dksX0_put_3 14 rfl rfl)
theorem dX0_put_84 : decode cX0_put 84 = .ok (.iload_n 2, 1) := dk_28 (dk_at dksX0_put_3 15 rfl rfl)
theorem dX0_put_85 : decode cX0_put 85 = .ok (.ishl, 1) := dk_120 (dk_at dksX0_put_3 16 rfl rfl)
theorem dX0_put_86 : decode cX0_put 86 = .ok (.goto 4, 3) := dk_167 0 4 (dk_at dksX0_put_3 17 rfl rfl)
theorem dX0_put_89 : decode cX0_put 89 = .ok (.iconst 0, 1) := dk_3 (dk_at dksX0_put_3 20 rfl rfl)
theorem dX0_put_90 : decode cX0_put 90 = .ok (.ior, 1) := dk_128 (dk_at dksX0_put_3 21 rfl rfl)
theorem dX0_put_91 : decode cX0_put 91 = .ok (.istore_n 1, 1) := dk_60 (dk_at dksX0_put_3 22 rfl rfl)
theorem dX0_put_92 : decode cX0_put 92 = .ok (.iinc 3 1, 3) := dk_132 3 1 (dk_at dksX0_put_4 0 rfl rfl)
theorem dX0_put_95 : decode cX0_put 95 = .ok (.goto (-66), 3) := dk_167 255 190 (dk_at dksX0_put_4 3 rfl rfl)
theorem dX0_put_98 : decode cX0_put 98 = .ok (.iinc 2 1, 3) := dk_132 2 1 (dk_at dksX0_put_4 6 rfl rfl)
theorem dX0_put_101 : decode cX0_put 101 = .ok (.goto (-87), 3) := dk_167 255 169 (dk_at dksX0_put_4 9 rfl rfl)
theorem dX0_put_104 : decode cX0_put 104 = .ok (.iload_n 1, 1) := dk_27 (dk_at dksX0_put_4 12 rfl rfl)
theorem dX0_put_105 : decode cX0_put 105 = .ok (.ireturn, 1) := dk_172 (dk_at dksX0_put_4 13 rfl rfl)
abbrev cX0_bold : ByteArray := prog_1_method_61_code
def yX0_bold : MethodName := ⟨RX0, "bold", "(II)I"⟩
def dkwX0_bold_3 : List UInt8 := [182, 1, 24, 42, 29, 28, 182, 1, 24, 164, 0, 6, 21, 4, 62, 132, 4, 1, 167, 255, 193, 29, 172]
abbrev dktX0_bold_3 : List UInt8 := dkwX0_bold_3 ++ []
def dkwX0_bold_2 : List UInt8 := [160, 0, 37, 42, 21, 4, 28, 182, 0, 243, 153, 0, 27, 29, 2, 159, 0, 19, 42, 21, 4, 28]
abbrev dktX0_bold_2 : List UInt8 := dkwX0_bold_2 ++ dktX0_bold_3
def dkwX0_bold_1 : List UInt8 := [21, 4, 42, 180, 0, 10, 180, 0, 126, 162, 0, 57, 42, 180, 0, 10, 180, 0, 167, 21, 4, 46, 27]
abbrev dktX0_bold_1 : List UInt8 := dkwX0_bold_1 ++ dktX0_bold_2
def dkwX0_bold_0 : List UInt8 := [42, 28, 182, 1, 27, 153, 0, 11, 42, 27, 182, 0, 157, 154, 0, 6, 16, 254, 172, 2, 62, 3, 54, 4]
abbrev dktX0_bold_0 : List UInt8 := dkwX0_bold_0 ++ dktX0_bold_1
theorem dksX0_bold_0 : cX0_bold.data.toList.drop 0 = dktX0_bold_0 := by decide +kernel
theorem dksX0_bold_1 : cX0_bold.data.toList.drop 24 = dktX0_bold_1 := dk_seg dksX0_bold_0 24 rfl rfl
theorem dksX0_bold_2 : cX0_bold.data.toList.drop 47 = dktX0_bold_2 := dk_seg dksX0_bold_1 23 rfl rfl
theorem dksX0_bold_3 : cX0_bold.data.toList.drop 69 = dktX0_bold_3 := dk_seg dksX0_bold_2 22 rfl rfl
theorem dX0_bold_0 : decode cX0_bold 0 = .ok (.aload_n 0, 1) := dk_42 (dk_at dksX0_bold_0 0 rfl rfl)
theorem dX0_bold_1 : decode cX0_bold 1 = .ok (.iload_n 2, 1) := dk_28 (dk_at dksX0_bold_0 1 rfl rfl)
theorem dX0_bold_2 : decode cX0_bold 2 = .ok (.invokevirtual 283, 3) := dk_182 1 27 (dk_at dksX0_bold_0 2 rfl rfl)
theorem dX0_bold_5 : decode cX0_bold 5 = .ok (.ifCond .eq 11, 3) := dk_153 0 11 (dk_at dksX0_bold_0 5 rfl rfl)
theorem dX0_bold_8 : decode cX0_bold 8 = .ok (.aload_n 0, 1) := dk_42 (dk_at dksX0_bold_0 8 rfl rfl)
theorem dX0_bold_9 : decode cX0_bold 9 = .ok (.iload_n 1, 1) := dk_27 (dk_at dksX0_bold_0 9 rfl rfl)
theorem dX0_bold_10 : decode cX0_bold 10 = .ok (.invokevirtual 157, 3) := dk_182 0 157 (dk_at dksX0_bold_0 10 rfl rfl)
theorem dX0_bold_13 : decode cX0_bold 13 = .ok (.ifCond .ne 6, 3) := dk_154 0 6 (dk_at dksX0_bold_0 13 rfl rfl)
theorem dX0_bold_16 : decode cX0_bold 16 = .ok (.bipush (-2), 2) := dk_16 254 (dk_at dksX0_bold_0 16 rfl rfl)
theorem dX0_bold_18 : decode cX0_bold 18 = .ok (.ireturn, 1) := dk_172 (dk_at dksX0_bold_0 18 rfl rfl)
theorem dX0_bold_19 : decode cX0_bold 19 = .ok (.iconst (-1), 1) := dk_2 (dk_at dksX0_bold_0 19 rfl rfl)
theorem dX0_bold_20 : decode cX0_bold 20 = .ok (.istore_n 3, 1) := dk_62 (dk_at dksX0_bold_0 20 rfl rfl)
theorem dX0_bold_21 : decode cX0_bold 21 = .ok (.iconst 0, 1) := dk_3 (dk_at dksX0_bold_0 21 rfl rfl)
theorem dX0_bold_22 : decode cX0_bold 22 = .ok (.istore 4, 2) := dk_54 4 (dk_at dksX0_bold_0 22 rfl rfl)
theorem dX0_bold_24 : decode cX0_bold 24 = .ok (.iload 4, 2) := dk_21 4 (dk_at dksX0_bold_1 0 rfl rfl)
theorem dX0_bold_26 : decode cX0_bold 26 = .ok (.aload_n 0, 1) := dk_42 (dk_at dksX0_bold_1 2 rfl rfl)
theorem dX0_bold_27 : decode cX0_bold 27 = .ok (.getfield 10, 3) := dk_180 0 10 (dk_at dksX0_bold_1 3 rfl rfl)
theorem dX0_bold_30 : decode cX0_bold 30 = .ok (.getfield 126, 3) := dk_180 0 126 (dk_at dksX0_bold_1 6 rfl rfl)
theorem dX0_bold_33 : decode cX0_bold 33 = .ok (.if_icmp .ge 57, 3) := dk_162 0 57 (dk_at dksX0_bold_1 9 rfl rfl)
theorem dX0_bold_36 : decode cX0_bold 36 = .ok (.aload_n 0, 1) := dk_42 (dk_at dksX0_bold_1 12 rfl rfl)
theorem dX0_bold_37 : decode cX0_bold 37 = .ok (.getfield 10, 3) := dk_180 0 10 (dk_at dksX0_bold_1 13 rfl rfl)
theorem dX0_bold_40 : decode cX0_bold 40 = .ok (.getfield 167, 3) := dk_180 0 167 (dk_at dksX0_bold_1 16 rfl rfl)
theorem dX0_bold_43 : decode cX0_bold 43 = .ok (.iload 4, 2) := dk_21 4 (dk_at dksX0_bold_1 19 rfl rfl)
theorem dX0_bold_45 : decode cX0_bold 45 = .ok (.iaload, 1) := dk_46 (dk_at dksX0_bold_1 21 rfl rfl)
theorem dX0_bold_46 : decode cX0_bold 46 = .ok (.iload_n 1, 1) := dk_27 (dk_at dksX0_bold_1 22 rfl rfl)
theorem dX0_bold_47 : decode cX0_bold 47 = .ok (.if_icmp .ne 37, 3) := dk_160 0 37 (dk_at dksX0_bold_2 0 rfl rfl)
theorem dX0_bold_50 : decode cX0_bold 50 = .ok (.aload_n 0, 1) := dk_42 (dk_at dksX0_bold_2 3 rfl rfl)
theorem dX0_bold_51 : decode cX0_bold 51 = .ok (.iload 4, 2) := dk_21 4 (dk_at dksX0_bold_2 4 rfl rfl)
theorem dX0_bold_53 : decode cX0_bold 53 = .ok (.iload_n 2, 1) := dk_28 (dk_at dksX0_bold_2 6 rfl rfl)
theorem dX0_bold_54 : decode cX0_bold 54 = .ok (.invokevirtual 243, 3) := dk_182 0 243 (dk_at dksX0_bold_2 7 rfl rfl)
theorem dX0_bold_57 : decode cX0_bold 57 = .ok (.ifCond .eq 27, 3) := dk_153 0 27 (dk_at dksX0_bold_2 10 rfl rfl)
theorem dX0_bold_60 : decode cX0_bold 60 = .ok (.iload_n 3, 1) := dk_29 (dk_at dksX0_bold_2 13 rfl rfl)
theorem dX0_bold_61 : decode cX0_bold 61 = .ok (.iconst (-1), 1) := dk_2 (dk_at dksX0_bold_2 14 rfl rfl)
theorem dX0_bold_62 : decode cX0_bold 62 = .ok (.if_icmp .eq 19, 3) := dk_159 0 19 (dk_at dksX0_bold_2 15 rfl rfl)
theorem dX0_bold_65 : decode cX0_bold 65 = .ok (.aload_n 0, 1) := dk_42 (dk_at dksX0_bold_2 18 rfl rfl)
theorem dX0_bold_66 : decode cX0_bold 66 = .ok (.iload 4, 2) := dk_21 4 (dk_at dksX0_bold_2 19 rfl rfl)
theorem dX0_bold_68 : decode cX0_bold 68 = .ok (.iload_n 2, 1) := dk_28 (dk_at dksX0_bold_2 21 rfl rfl)
theorem dX0_bold_69 : decode cX0_bold 69 = .ok (.invokevirtual 280, 3) := dk_182 1 24 (dk_at dksX0_bold_3 0 rfl rfl)
theorem dX0_bold_72 : decode cX0_bold 72 = .ok (.aload_n 0, 1) := dk_42 (dk_at dksX0_bold_3 3 rfl rfl)
theorem dX0_bold_73 : decode cX0_bold 73 = .ok (.iload_n 3, 1) := dk_29 (dk_at dksX0_bold_3 4 rfl rfl)
theorem dX0_bold_74 : decode cX0_bold 74 = .ok (.iload_n 2, 1) := dk_28 (dk_at dksX0_bold_3 5 rfl rfl)
theorem dX0_bold_75 : decode cX0_bold 75 = .ok (.invokevirtual 280, 3) := dk_182 1 24 (dk_at dksX0_bold_3 6 rfl rfl)
theorem dX0_bold_78 : decode cX0_bold 78 = .ok (.if_icmp .le 6, 3) := dk_164 0 6 (dk_at dksX0_bold_3 9 rfl rfl)
theorem dX0_bold_81 : decode cX0_bold 81 = .ok (.iload 4, 2) := dk_21 4 (dk_at dksX0_bold_3 12 rfl rfl)
theorem dX0_bold_83 : decode cX0_bold 83 = .ok (.istore_n 3, 1) := dk_62 (dk_at dksX0_bold_3 14 rfl rfl)
theorem dX0_bold_84 : decode cX0_bold 84 = .ok (.iinc 4 1, 3) := dk_132 4 1 (dk_at dksX0_bold_3 15 rfl rfl)
theorem dX0_bold_87 : decode cX0_bold 87 = .ok (.goto (-63), 3) := dk_167 255 193 (dk_at dksX0_bold_3 18 rfl rfl)
theorem dX0_bold_90 : decode cX0_bold 90 = .ok (.iload_n 3, 1) := dk_29 (dk_at dksX0_bold_3 21 rfl rfl)
theorem dX0_bold_91 : decode cX0_bold 91 = .ok (.ireturn, 1) := dk_172 (dk_at dksX0_bold_3 22 rfl rfl)
abbrev cX0_sum : ByteArray := prog_1_method_62_code
def yX0_sum : MethodName := ⟨RX0, "sum", "(II)I"⟩
def dkwX0_sum_2 : List UInt8 := [160, 0, 13, 42, 21, 4, 28, 182, 1, 24, 167, 0, 4, 3, 96, 62, 132, 4, 1, 167, 255, 213, 29, 172]
abbrev dktX0_sum_2 : List UInt8 := dkwX0_sum_2 ++ []
def dkwX0_sum_1 : List UInt8 := [21, 4, 42, 180, 0, 10, 180, 0, 126, 162, 0, 37, 29, 42, 180, 0, 10, 180, 0, 167, 21, 4, 46, 27]
abbrev dktX0_sum_1 : List UInt8 := dkwX0_sum_1 ++ dktX0_sum_2
def dkwX0_sum_0 : List UInt8 := [42, 28, 182, 1, 27, 153, 0, 11, 42, 27, 182, 0, 157, 154, 0, 6, 16, 254, 172, 3, 62, 3, 54, 4]
abbrev dktX0_sum_0 : List UInt8 := dkwX0_sum_0 ++ dktX0_sum_1
theorem dksX0_sum_0 : cX0_sum.data.toList.drop 0 = dktX0_sum_0 := by decide +kernel
theorem dksX0_sum_1 : cX0_sum.data.toList.drop 24 = dktX0_sum_1 := dk_seg dksX0_sum_0 24 rfl rfl
theorem dksX0_sum_2 : cX0_sum.data.toList.drop 48 = dktX0_sum_2 := dk_seg dksX0_sum_1 24 rfl rfl
theorem dX0_sum_0 : decode cX0_sum 0 = .ok (.aload_n 0, 1) := dk_42 (dk_at dksX0_sum_0 0 rfl rfl)
theorem dX0_sum_1 : decode cX0_sum 1 = .ok (.iload_n 2, 1) := dk_28 (dk_at dksX0_sum_0 1 rfl rfl)
theorem dX0_sum_2 : decode cX0_sum 2 = .ok (.invokevirtual 283, 3) := dk_182 1 27 (dk_at dksX0_sum_0 2 rfl rfl)
theorem dX0_sum_5 : decode cX0_sum 5 = .ok (.ifCond .eq 11, 3) := dk_153 0 11 (dk_at dksX0_sum_0 5 rfl rfl)
theorem dX0_sum_8 : decode cX0_sum 8 = .ok (.aload_n 0, 1) := dk_42 (dk_at dksX0_sum_0 8 rfl rfl)
theorem dX0_sum_9 : decode cX0_sum 9 = .ok (.iload_n 1, 1) := dk_27 (dk_at dksX0_sum_0 9 rfl rfl)
theorem dX0_sum_10 : decode cX0_sum 10 = .ok (.invokevirtual 157, 3) := dk_182 0 157 (dk_at dksX0_sum_0 10 rfl rfl)
theorem dX0_sum_13 : decode cX0_sum 13 = .ok (.ifCond .ne 6, 3) := dk_154 0 6 (dk_at dksX0_sum_0 13 rfl rfl)
theorem dX0_sum_16 : decode cX0_sum 16 = .ok (.bipush (-2), 2) := dk_16 254 (dk_at dksX0_sum_0 16 rfl rfl)
theorem dX0_sum_18 : decode cX0_sum 18 = .ok (.ireturn, 1) := dk_172 (dk_at dksX0_sum_0 18 rfl rfl)
theorem dX0_sum_19 : decode cX0_sum 19 = .ok (.iconst 0, 1) := dk_3 (dk_at dksX0_sum_0 19 rfl rfl)
theorem dX0_sum_20 : decode cX0_sum 20 = .ok (.istore_n 3, 1) := dk_62 (dk_at dksX0_sum_0 20 rfl rfl)
theorem dX0_sum_21 : decode cX0_sum 21 = .ok (.iconst 0, 1) := dk_3 (dk_at dksX0_sum_0 21 rfl rfl)
theorem dX0_sum_22 : decode cX0_sum 22 = .ok (.istore 4, 2) := dk_54 4 (dk_at dksX0_sum_0 22 rfl rfl)
theorem dX0_sum_24 : decode cX0_sum 24 = .ok (.iload 4, 2) := dk_21 4 (dk_at dksX0_sum_1 0 rfl rfl)
theorem dX0_sum_26 : decode cX0_sum 26 = .ok (.aload_n 0, 1) := dk_42 (dk_at dksX0_sum_1 2 rfl rfl)
theorem dX0_sum_27 : decode cX0_sum 27 = .ok (.getfield 10, 3) := dk_180 0 10 (dk_at dksX0_sum_1 3 rfl rfl)
theorem dX0_sum_30 : decode cX0_sum 30 = .ok (.getfield 126, 3) := dk_180 0 126 (dk_at dksX0_sum_1 6 rfl rfl)
theorem dX0_sum_33 : decode cX0_sum 33 = .ok (.if_icmp .ge 37, 3) := dk_162 0 37 (dk_at dksX0_sum_1 9 rfl rfl)
theorem dX0_sum_36 : decode cX0_sum 36 = .ok (.iload_n 3, 1) := dk_29 (dk_at dksX0_sum_1 12 rfl rfl)
theorem dX0_sum_37 : decode cX0_sum 37 = .ok (.aload_n 0, 1) := dk_42 (dk_at dksX0_sum_1 13 rfl rfl)
theorem dX0_sum_38 : decode cX0_sum 38 = .ok (.getfield 10, 3) := dk_180 0 10 (dk_at dksX0_sum_1 14 rfl rfl)
theorem dX0_sum_41 : decode cX0_sum 41 = .ok (.getfield 167, 3) := dk_180 0 167 (dk_at dksX0_sum_1 17 rfl rfl)
theorem dX0_sum_44 : decode cX0_sum 44 = .ok (.iload 4, 2) := dk_21 4 (dk_at dksX0_sum_1 20 rfl rfl)
theorem dX0_sum_46 : decode cX0_sum 46 = .ok (.iaload, 1) := dk_46 (dk_at dksX0_sum_1 22 rfl rfl)
theorem dX0_sum_47 : decode cX0_sum 47 = .ok (.iload_n 1, 1) := dk_27 (dk_at dksX0_sum_1 23 rfl rfl)
theorem dX0_sum_48 : decode cX0_sum 48 = .ok (.if_icmp .ne 13, 3) := dk_160 0 13 (dk_at dksX0_sum_2 0 rfl rfl)
theorem dX0_sum_51 : decode cX0_sum 51 = .ok (.aload_n 0, 1) := dk_42 (dk_at dksX0_sum_2 3 rfl rfl)
theorem dX0_sum_52 : decode cX0_sum 52 = .ok (.iload 4, 2) := dk_21 4 (dk_at dksX0_sum_2 4 rfl rfl)
theorem dX0_sum_54 : decode cX0_sum 54 = .ok (.iload_n 2, 1) := dk_28 (dk_at dksX0_sum_2 6 rfl rfl)
theorem dX0_sum_55 : decode cX0_sum 55 = .ok (.invokevirtual 280, 3) := dk_182 1 24 (dk_at dksX0_sum_2 7 rfl rfl)
theorem dX0_sum_58 : decode cX0_sum 58 = .ok (.goto 4, 3) := dk_167 0 4 (dk_at dksX0_sum_2 10 rfl rfl)
theorem dX0_sum_61 : decode cX0_sum 61 = .ok (.iconst 0, 1) := dk_3 (dk_at dksX0_sum_2 13 rfl rfl)
theorem dX0_sum_62 : decode cX0_sum 62 = .ok (.iadd, 1) := dk_96 (dk_at dksX0_sum_2 14 rfl rfl)
theorem dX0_sum_63 : decode cX0_sum 63 = .ok (.istore_n 3, 1) := dk_62 (dk_at dksX0_sum_2 15 rfl rfl)
theorem dX0_sum_64 : decode cX0_sum 64 = .ok (.iinc 4 1, 3) := dk_132 4 1 (dk_at dksX0_sum_2 16 rfl rfl)
theorem dX0_sum_67 : decode cX0_sum 67 = .ok (.goto (-43), 3) := dk_167 255 213 (dk_at dksX0_sum_2 19 rfl rfl)
theorem dX0_sum_70 : decode cX0_sum 70 = .ok (.iload_n 3, 1) := dk_29 (dk_at dksX0_sum_2 22 rfl rfl)
theorem dX0_sum_71 : decode cX0_sum 71 = .ok (.ireturn, 1) := dk_172 (dk_at dksX0_sum_2 23 rfl rfl)
abbrev cX0_spread : ByteArray := prog_1_method_63_code
def yX0_spread : MethodName := ⟨RX0, "spread", "(I)I"⟩
def dkwX0_spread_3 : List UInt8 := [132, 4, 1, 167, 255, 204, 42, 27, 182, 1, 30, 154, 0, 7, 3, 167, 0, 6, 28, 29, 100, 172]
abbrev dktX0_spread_3 : List UInt8 := dkwX0_spread_3 ++ []
def dkwX0_spread_2 : List UInt8 := [21, 4, 27, 182, 1, 24, 184, 0, 234, 61, 29, 42, 21, 4, 27, 182, 1, 24, 184, 0, 221, 62]
abbrev dktX0_spread_2 : List UInt8 := dkwX0_spread_2 ++ dktX0_spread_3
def dkwX0_spread_1 : List UInt8 := [180, 0, 10, 180, 0, 126, 162, 0, 46, 42, 21, 4, 27, 182, 0, 243, 154, 0, 6, 167, 0, 27, 28, 42]
abbrev dktX0_spread_1 : List UInt8 := dkwX0_spread_1 ++ dktX0_spread_2
def dkwX0_spread_0 : List UInt8 := [42, 27, 182, 1, 27, 154, 0, 6, 16, 254, 172, 3, 61, 16, 60, 62, 3, 54, 4, 21, 4, 42]
abbrev dktX0_spread_0 : List UInt8 := dkwX0_spread_0 ++ dktX0_spread_1
theorem dksX0_spread_0 : cX0_spread.data.toList.drop 0 = dktX0_spread_0 := by decide +kernel
theorem dksX0_spread_1 : cX0_spread.data.toList.drop 22 = dktX0_spread_1 := dk_seg dksX0_spread_0 22 rfl rfl
theorem dksX0_spread_2 : cX0_spread.data.toList.drop 46 = dktX0_spread_2 := dk_seg dksX0_spread_1 24 rfl rfl
theorem dksX0_spread_3 : cX0_spread.data.toList.drop 68 = dktX0_spread_3 := dk_seg dksX0_spread_2 22 rfl rfl
theorem dX0_spread_0 : decode cX0_spread 0 = .ok (.aload_n 0, 1) := dk_42 (dk_at dksX0_spread_0 0 rfl rfl)
theorem dX0_spread_1 : decode cX0_spread 1 = .ok (.iload_n 1, 1) := dk_27 (dk_at dksX0_spread_0 1 rfl rfl)
theorem dX0_spread_2 : decode cX0_spread 2 = .ok (.invokevirtual 283, 3) := dk_182 1 27 (dk_at dksX0_spread_0 2 rfl rfl)
theorem dX0_spread_5 : decode cX0_spread 5 = .ok (.ifCond .ne 6, 3) := dk_154 0 6 (dk_at dksX0_spread_0 5 rfl rfl)
theorem dX0_spread_8 : decode cX0_spread 8 = .ok (.bipush (-2), 2) := dk_16 254 (dk_at dksX0_spread_0 8 rfl rfl)
theorem dX0_spread_10 : decode cX0_spread 10 = .ok (.ireturn, 1) := dk_172 (dk_at dksX0_spread_0 10 rfl rfl)
theorem dX0_spread_11 : decode cX0_spread 11 = .ok (.iconst 0, 1) := dk_3 (dk_at dksX0_spread_0 11 rfl rfl)
theorem dX0_spread_12 : decode cX0_spread 12 = .ok (.istore_n 2, 1) := dk_61 (dk_at dksX0_spread_0 12 rfl rfl)
theorem dX0_spread_13 : decode cX0_spread 13 = .ok (.bipush 60, 2) := dk_16 60 (dk_at dksX0_spread_0 13 rfl rfl)
theorem dX0_spread_15 : decode cX0_spread 15 = .ok (.istore_n 3, 1) := dk_62 (dk_at dksX0_spread_0 15 rfl rfl)
theorem dX0_spread_16 : decode cX0_spread 16 = .ok (.iconst 0, 1) := dk_3 (dk_at dksX0_spread_0 16 rfl rfl)
theorem dX0_spread_17 : decode cX0_spread 17 = .ok (.istore 4, 2) := dk_54 4 (dk_at dksX0_spread_0 17 rfl rfl)
theorem dX0_spread_19 : decode cX0_spread 19 = .ok (.iload 4, 2) := dk_21 4 (dk_at dksX0_spread_0 19 rfl rfl)
theorem dX0_spread_21 : decode cX0_spread 21 = .ok (.aload_n 0, 1) := dk_42 (dk_at dksX0_spread_0 21 rfl rfl)
theorem dX0_spread_22 : decode cX0_spread 22 = .ok (.getfield 10, 3) := dk_180 0 10 (dk_at dksX0_spread_1 0 rfl rfl)
theorem dX0_spread_25 : decode cX0_spread 25 = .ok (.getfield 126, 3) := dk_180 0 126 (dk_at dksX0_spread_1 3 rfl rfl)
theorem dX0_spread_28 : decode cX0_spread 28 = .ok (.if_icmp .ge 46, 3) := dk_162 0 46 (dk_at dksX0_spread_1 6 rfl rfl)
theorem dX0_spread_31 : decode cX0_spread 31 = .ok (.aload_n 0, 1) := dk_42 (dk_at dksX0_spread_1 9 rfl rfl)
theorem dX0_spread_32 : decode cX0_spread 32 = .ok (.iload 4, 2) := dk_21 4 (dk_at dksX0_spread_1 10 rfl rfl)
theorem dX0_spread_34 : decode cX0_spread 34 = .ok (.iload_n 1, 1) := dk_27 (dk_at dksX0_spread_1 12 rfl rfl)
theorem dX0_spread_35 : decode cX0_spread 35 = .ok (.invokevirtual 243, 3) := dk_182 0 243 (dk_at dksX0_spread_1 13 rfl rfl)
theorem dX0_spread_38 : decode cX0_spread 38 = .ok (.ifCond .ne 6, 3) := dk_154 0 6 (dk_at dksX0_spread_1 16 rfl rfl)
theorem dX0_spread_41 : decode cX0_spread 41 = .ok (.goto 27, 3) := dk_167 0 27 (dk_at dksX0_spread_1 19 rfl rfl)
theorem dX0_spread_44 : decode cX0_spread 44 = .ok (.iload_n 2, 1) := dk_28 (dk_at dksX0_spread_1 22 rfl rfl)
theorem dX0_spread_45 : decode cX0_spread 45 = .ok (.aload_n 0, 1) := dk_42 (dk_at dksX0_spread_1 23 rfl rfl)
theorem dX0_spread_46 : decode cX0_spread 46 = .ok (.iload 4, 2) := dk_21 4 (dk_at dksX0_spread_2 0 rfl rfl)
theorem dX0_spread_48 : decode cX0_spread 48 = .ok (.iload_n 1, 1) := dk_27 (dk_at dksX0_spread_2 2 rfl rfl)
theorem dX0_spread_49 : decode cX0_spread 49 = .ok (.invokevirtual 280, 3) := dk_182 1 24 (dk_at dksX0_spread_2 3 rfl rfl)
theorem dX0_spread_52 : decode cX0_spread 52 = .ok (.invokestatic 234, 3) := dk_184 0 234 (dk_at dksX0_spread_2 6 rfl rfl)
theorem dX0_spread_55 : decode cX0_spread 55 = .ok (.istore_n 2, 1) := dk_61 (dk_at dksX0_spread_2 9 rfl rfl)
theorem dX0_spread_56 : decode cX0_spread 56 = .ok (.iload_n 3, 1) := dk_29 (dk_at dksX0_spread_2 10 rfl rfl)
theorem dX0_spread_57 : decode cX0_spread 57 = .ok (.aload_n 0, 1) := dk_42 (dk_at dksX0_spread_2 11 rfl rfl)
theorem dX0_spread_58 : decode cX0_spread 58 = .ok (.iload 4, 2) := dk_21 4 (dk_at dksX0_spread_2 12 rfl rfl)
theorem dX0_spread_60 : decode cX0_spread 60 = .ok (.iload_n 1, 1) := dk_27 (dk_at dksX0_spread_2 14 rfl rfl)
theorem dX0_spread_61 : decode cX0_spread 61 = .ok (.invokevirtual 280, 3) := dk_182 1 24 (dk_at dksX0_spread_2 15 rfl rfl)
theorem dX0_spread_64 : decode cX0_spread 64 = .ok (.invokestatic 221, 3) := dk_184 0 221 (dk_at dksX0_spread_2 18 rfl rfl)
theorem dX0_spread_67 : decode cX0_spread 67 = .ok (.istore_n 3, 1) := dk_62 (dk_at dksX0_spread_2 21 rfl rfl)
theorem dX0_spread_68 : decode cX0_spread 68 = .ok (.iinc 4 1, 3) := dk_132 4 1 (dk_at dksX0_spread_3 0 rfl rfl)
theorem dX0_spread_71 : decode cX0_spread 71 = .ok (.goto (-52), 3) := dk_167 255 204 (dk_at dksX0_spread_3 3 rfl rfl)
theorem dX0_spread_74 : decode cX0_spread 74 = .ok (.aload_n 0, 1) := dk_42 (dk_at dksX0_spread_3 6 rfl rfl)
theorem dX0_spread_75 : decode cX0_spread 75 = .ok (.iload_n 1, 1) := dk_27 (dk_at dksX0_spread_3 7 rfl rfl)
theorem dX0_spread_76 : decode cX0_spread 76 = .ok (.invokevirtual 286, 3) := dk_182 1 30 (dk_at dksX0_spread_3 8 rfl rfl)
theorem dX0_spread_79 : decode cX0_spread 79 = .ok (.ifCond .ne 7, 3) := dk_154 0 7 (dk_at dksX0_spread_3 11 rfl rfl)
theorem dX0_spread_82 : decode cX0_spread 82 = .ok (.iconst 0, 1) := dk_3 (dk_at dksX0_spread_3 14 rfl rfl)
theorem dX0_spread_83 : decode cX0_spread 83 = .ok (.goto 6, 3) := dk_167 0 6 (dk_at dksX0_spread_3 15 rfl rfl)
theorem dX0_spread_86 : decode cX0_spread 86 = .ok (.iload_n 2, 1) := dk_28 (dk_at dksX0_spread_3 18 rfl rfl)
theorem dX0_spread_87 : decode cX0_spread 87 = .ok (.iload_n 3, 1) := dk_29 (dk_at dksX0_spread_3 19 rfl rfl)
theorem dX0_spread_88 : decode cX0_spread 88 = .ok (.isub, 1) := dk_100 (dk_at dksX0_spread_3 20 rfl rfl)
theorem dX0_spread_89 : decode cX0_spread 89 = .ok (.ireturn, 1) := dk_172 (dk_at dksX0_spread_3 21 rfl rfl)
abbrev cX0_uses : ByteArray := prog_1_method_64_code
def yX0_uses : MethodName := ⟨RX0, "uses", "(I)I"⟩
def dkwX0_uses_2 : List UInt8 := [128, 61, 132, 3, 1, 167, 255, 219, 28, 172]
abbrev dktX0_uses_2 : List UInt8 := dkwX0_uses_2 ++ []
def dkwX0_uses_1 : List UInt8 := [162, 0, 32, 28, 42, 180, 0, 10, 180, 0, 170, 29, 46, 27, 160, 0, 9, 4, 29, 120, 167, 0, 4, 3]
abbrev dktX0_uses_1 : List UInt8 := dkwX0_uses_1 ++ dktX0_uses_2
def dkwX0_uses_0 : List UInt8 := [42, 27, 182, 0, 140, 154, 0, 6, 16, 254, 172, 3, 61, 3, 62, 29, 42, 180, 0, 10, 180, 0, 126]
abbrev dktX0_uses_0 : List UInt8 := dkwX0_uses_0 ++ dktX0_uses_1
theorem dksX0_uses_0 : cX0_uses.data.toList.drop 0 = dktX0_uses_0 := by decide +kernel
theorem dksX0_uses_1 : cX0_uses.data.toList.drop 23 = dktX0_uses_1 := dk_seg dksX0_uses_0 23 rfl rfl
theorem dksX0_uses_2 : cX0_uses.data.toList.drop 47 = dktX0_uses_2 := dk_seg dksX0_uses_1 24 rfl rfl
theorem dX0_uses_0 : decode cX0_uses 0 = .ok (.aload_n 0, 1) := dk_42 (dk_at dksX0_uses_0 0 rfl rfl)
theorem dX0_uses_1 : decode cX0_uses 1 = .ok (.iload_n 1, 1) := dk_27 (dk_at dksX0_uses_0 1 rfl rfl)
theorem dX0_uses_2 : decode cX0_uses 2 = .ok (.invokevirtual 140, 3) := dk_182 0 140 (dk_at dksX0_uses_0 2 rfl rfl)
theorem dX0_uses_5 : decode cX0_uses 5 = .ok (.ifCond .ne 6, 3) := dk_154 0 6 (dk_at dksX0_uses_0 5 rfl rfl)
theorem dX0_uses_8 : decode cX0_uses 8 = .ok (.bipush (-2), 2) := dk_16 254 (dk_at dksX0_uses_0 8 rfl rfl)
theorem dX0_uses_10 : decode cX0_uses 10 = .ok (.ireturn, 1) := dk_172 (dk_at dksX0_uses_0 10 rfl rfl)
theorem dX0_uses_11 : decode cX0_uses 11 = .ok (.iconst 0, 1) := dk_3 (dk_at dksX0_uses_0 11 rfl rfl)
theorem dX0_uses_12 : decode cX0_uses 12 = .ok (.istore_n 2, 1) := dk_61 (dk_at dksX0_uses_0 12 rfl rfl)
theorem dX0_uses_13 : decode cX0_uses 13 = .ok (.iconst 0, 1) := dk_3 (dk_at dksX0_uses_0 13 rfl rfl)
theorem dX0_uses_14 : decode cX0_uses 14 = .ok (.istore_n 3, 1) := dk_62 (dk_at dksX0_uses_0 14 rfl rfl)
theorem dX0_uses_15 : decode cX0_uses 15 = .ok (.iload_n 3, 1) := dk_29 (dk_at dksX0_uses_0 15 rfl rfl)
theorem dX0_uses_16 : decode cX0_uses 16 = .ok (.aload_n 0, 1) := dk_42 (dk_at dksX0_uses_0 16 rfl rfl)
theorem dX0_uses_17 : decode cX0_uses 17 = .ok (.getfield 10, 3) := dk_180 0 10 (dk_at dksX0_uses_0 17 rfl rfl)
theorem dX0_uses_20 : decode cX0_uses 20 = .ok (.getfield 126, 3) := dk_180 0 126 (dk_at dksX0_uses_0 20 rfl rfl)
theorem dX0_uses_23 : decode cX0_uses 23 = .ok (.if_icmp .ge 32, 3) := dk_162 0 32 (dk_at dksX0_uses_1 0 rfl rfl)
theorem dX0_uses_26 : decode cX0_uses 26 = .ok (.iload_n 2, 1) := dk_28 (dk_at dksX0_uses_1 3 rfl rfl)
theorem dX0_uses_27 : decode cX0_uses 27 = .ok (.aload_n 0, 1) := dk_42 (dk_at dksX0_uses_1 4 rfl rfl)
theorem dX0_uses_28 : decode cX0_uses 28 = .ok (.getfield 10, 3) := dk_180 0 10 (dk_at dksX0_uses_1 5 rfl rfl)
theorem dX0_uses_31 : decode cX0_uses 31 = .ok (.getfield 170, 3) := dk_180 0 170 (dk_at dksX0_uses_1 8 rfl rfl)
theorem dX0_uses_34 : decode cX0_uses 34 = .ok (.iload_n 3, 1) := dk_29 (dk_at dksX0_uses_1 11 rfl rfl)
theorem dX0_uses_35 : decode cX0_uses 35 = .ok (.iaload, 1) := dk_46 (dk_at dksX0_uses_1 12 rfl rfl)
theorem dX0_uses_36 : decode cX0_uses 36 = .ok (.iload_n 1, 1) := dk_27 (dk_at dksX0_uses_1 13 rfl rfl)
theorem dX0_uses_37 : decode cX0_uses 37 = .ok (.if_icmp .ne 9, 3) := dk_160 0 9 (dk_at dksX0_uses_1 14 rfl rfl)
theorem dX0_uses_40 : decode cX0_uses 40 = .ok (.iconst 1, 1) := dk_4 (dk_at dksX0_uses_1 17 rfl rfl)
theorem dX0_uses_41 : decode cX0_uses 41 = .ok (.iload_n 3, 1) := dk_29 (dk_at dksX0_uses_1 18 rfl rfl)
theorem dX0_uses_42 : decode cX0_uses 42 = .ok (.ishl, 1) := dk_120 (dk_at dksX0_uses_1 19 rfl rfl)
theorem dX0_uses_43 : decode cX0_uses 43 = .ok (.goto 4, 3) := dk_167 0 4 (dk_at dksX0_uses_1 20 rfl rfl)
theorem dX0_uses_46 : decode cX0_uses 46 = .ok (.iconst 0, 1) := dk_3 (dk_at dksX0_uses_1 23 rfl rfl)
theorem dX0_uses_47 : decode cX0_uses 47 = .ok (.ior, 1) := dk_128 (dk_at dksX0_uses_2 0 rfl rfl)
theorem dX0_uses_48 : decode cX0_uses 48 = .ok (.istore_n 2, 1) := dk_61 (dk_at dksX0_uses_2 1 rfl rfl)
theorem dX0_uses_49 : decode cX0_uses 49 = .ok (.iinc 3 1, 3) := dk_132 3 1 (dk_at dksX0_uses_2 2 rfl rfl)
theorem dX0_uses_52 : decode cX0_uses 52 = .ok (.goto (-37), 3) := dk_167 255 219 (dk_at dksX0_uses_2 5 rfl rfl)
theorem dX0_uses_55 : decode cX0_uses 55 = .ok (.iload_n 2, 1) := dk_28 (dk_at dksX0_uses_2 8 rfl rfl)
theorem dX0_uses_56 : decode cX0_uses 56 = .ok (.ireturn, 1) := dk_172 (dk_at dksX0_uses_2 9 rfl rfl)
abbrev cX0_newest : ByteArray := prog_1_method_65_code
def yX0_newest : MethodName := ⟨RX0, "newest", "(I)I"⟩
def dkwX0_newest_2 : List UInt8 := [29, 46, 42, 180, 0, 10, 180, 0, 173, 28, 46, 164, 0, 5, 29, 61, 132, 3, 1, 167, 255, 205, 28, 172]
abbrev dktX0_newest_2 : List UInt8 := dkwX0_newest_2 ++ []
def dkwX0_newest_1 : List UInt8 := [162, 0, 46, 42, 29, 27, 182, 0, 243, 153, 0, 31, 28, 2, 159, 0, 24, 42, 180, 0, 10, 180, 0, 173]
abbrev dktX0_newest_1 : List UInt8 := dkwX0_newest_1 ++ dktX0_newest_2
def dkwX0_newest_0 : List UInt8 := [42, 27, 182, 1, 27, 154, 0, 6, 16, 254, 172, 2, 61, 3, 62, 29, 42, 180, 0, 10, 180, 0, 126]
abbrev dktX0_newest_0 : List UInt8 := dkwX0_newest_0 ++ dktX0_newest_1
theorem dksX0_newest_0 : cX0_newest.data.toList.drop 0 = dktX0_newest_0 := by decide +kernel
theorem dksX0_newest_1 : cX0_newest.data.toList.drop 23 = dktX0_newest_1 := dk_seg dksX0_newest_0 23 rfl rfl
theorem dksX0_newest_2 : cX0_newest.data.toList.drop 47 = dktX0_newest_2 := dk_seg dksX0_newest_1 24 rfl rfl
theorem dX0_newest_0 : decode cX0_newest 0 = .ok (.aload_n 0, 1) := dk_42 (dk_at dksX0_newest_0 0 rfl rfl)
theorem dX0_newest_1 : decode cX0_newest 1 = .ok (.iload_n 1, 1) := dk_27 (dk_at dksX0_newest_0 1 rfl rfl)
theorem dX0_newest_2 : decode cX0_newest 2 = .ok (.invokevirtual 283, 3) := dk_182 1 27 (dk_at dksX0_newest_0 2 rfl rfl)
theorem dX0_newest_5 : decode cX0_newest 5 = .ok (.ifCond .ne 6, 3) := dk_154 0 6 (dk_at dksX0_newest_0 5 rfl rfl)
theorem dX0_newest_8 : decode cX0_newest 8 = .ok (.bipush (-2), 2) := dk_16 254 (dk_at dksX0_newest_0 8 rfl rfl)
theorem dX0_newest_10 : decode cX0_newest 10 = .ok (.ireturn, 1) := dk_172 (dk_at dksX0_newest_0 10 rfl rfl)
theorem dX0_newest_11 : decode cX0_newest 11 = .ok (.iconst (-1), 1) := dk_2 (dk_at dksX0_newest_0 11 rfl rfl)
theorem dX0_newest_12 : decode cX0_newest 12 = .ok (.istore_n 2, 1) := dk_61 (dk_at dksX0_newest_0 12 rfl rfl)
theorem dX0_newest_13 : decode cX0_newest 13 = .ok (.iconst 0, 1) := dk_3 (dk_at dksX0_newest_0 13 rfl rfl)
theorem dX0_newest_14 : decode cX0_newest 14 = .ok (.istore_n 3, 1) := dk_62 (dk_at dksX0_newest_0 14 rfl rfl)
theorem dX0_newest_15 : decode cX0_newest 15 = .ok (.iload_n 3, 1) := dk_29 (dk_at dksX0_newest_0 15 rfl rfl)
theorem dX0_newest_16 : decode cX0_newest 16 = .ok (.aload_n 0, 1) := dk_42 (dk_at dksX0_newest_0 16 rfl rfl)
theorem dX0_newest_17 : decode cX0_newest 17 = .ok (.getfield 10, 3) := dk_180 0 10 (dk_at dksX0_newest_0 17 rfl rfl)
theorem dX0_newest_20 : decode cX0_newest 20 = .ok (.getfield 126, 3) := dk_180 0 126 (dk_at dksX0_newest_0 20 rfl rfl)
theorem dX0_newest_23 : decode cX0_newest 23 = .ok (.if_icmp .ge 46, 3) := dk_162 0 46 (dk_at dksX0_newest_1 0 rfl rfl)
theorem dX0_newest_26 : decode cX0_newest 26 = .ok (.aload_n 0, 1) := dk_42 (dk_at dksX0_newest_1 3 rfl rfl)
theorem dX0_newest_27 : decode cX0_newest 27 = .ok (.iload_n 3, 1) := dk_29 (dk_at dksX0_newest_1 4 rfl rfl)
theorem dX0_newest_28 : decode cX0_newest 28 = .ok (.iload_n 1, 1) := dk_27 (dk_at dksX0_newest_1 5 rfl rfl)
theorem dX0_newest_29 : decode cX0_newest 29 = .ok (.invokevirtual 243, 3) := dk_182 0 243 (dk_at dksX0_newest_1 6 rfl rfl)
theorem dX0_newest_32 : decode cX0_newest 32 = .ok (.ifCond .eq 31, 3) := dk_153 0 31 (dk_at dksX0_newest_1 9 rfl rfl)
theorem dX0_newest_35 : decode cX0_newest 35 = .ok (.iload_n 2, 1) := dk_28 (dk_at dksX0_newest_1 12 rfl rfl)
theorem dX0_newest_36 : decode cX0_newest 36 = .ok (.iconst (-1), 1) := dk_2 (dk_at dksX0_newest_1 13 rfl rfl)
theorem dX0_newest_37 : decode cX0_newest 37 = .ok (.if_icmp .eq 24, 3) := dk_159 0 24 (dk_at dksX0_newest_1 14 rfl rfl)
theorem dX0_newest_40 : decode cX0_newest 40 = .ok (.aload_n 0, 1) := dk_42 (dk_at dksX0_newest_1 17 rfl rfl)
theorem dX0_newest_41 : decode cX0_newest 41 = .ok (.getfield 10, 3) := dk_180 0 10 (dk_at dksX0_newest_1 18 rfl rfl)
theorem dX0_newest_44 : decode cX0_newest 44 = .ok (.getfield 173, 3) := dk_180 0 173 (dk_at dksX0_newest_1 21 rfl rfl)
theorem dX0_newest_47 : decode cX0_newest 47 = .ok (.iload_n 3, 1) := dk_29 (dk_at dksX0_newest_2 0 rfl rfl)
theorem dX0_newest_48 : decode cX0_newest 48 = .ok (.iaload, 1) := dk_46 (dk_at dksX0_newest_2 1 rfl rfl)
theorem dX0_newest_49 : decode cX0_newest 49 = .ok (.aload_n 0, 1) := dk_42 (dk_at dksX0_newest_2 2 rfl rfl)
theorem dX0_newest_50 : decode cX0_newest 50 = .ok (.getfield 10, 3) := dk_180 0 10 (dk_at dksX0_newest_2 3 rfl rfl)
theorem dX0_newest_53 : decode cX0_newest 53 = .ok (.getfield 173, 3) := dk_180 0 173 (dk_at dksX0_newest_2 6 rfl rfl)
theorem dX0_newest_56 : decode cX0_newest 56 = .ok (.iload_n 2, 1) := dk_28 (dk_at dksX0_newest_2 9 rfl rfl)
theorem dX0_newest_57 : decode cX0_newest 57 = .ok (.iaload, 1) := dk_46 (dk_at dksX0_newest_2 10 rfl rfl)
theorem dX0_newest_58 : decode cX0_newest 58 = .ok (.if_icmp .le 5, 3) := dk_164 0 5 (dk_at dksX0_newest_2 11 rfl rfl)
theorem dX0_newest_61 : decode cX0_newest 61 = .ok (.iload_n 3, 1) := dk_29 (dk_at dksX0_newest_2 14 rfl rfl)
theorem dX0_newest_62 : decode cX0_newest 62 = .ok (.istore_n 2, 1) := dk_61 (dk_at dksX0_newest_2 15 rfl rfl)
theorem dX0_newest_63 : decode cX0_newest 63 = .ok (.iinc 3 1, 3) := dk_132 3 1 (dk_at dksX0_newest_2 16 rfl rfl)
theorem dX0_newest_66 : decode cX0_newest 66 = .ok (.goto (-51), 3) := dk_167 255 205 (dk_at dksX0_newest_2 19 rfl rfl)
theorem dX0_newest_69 : decode cX0_newest 69 = .ok (.iload_n 2, 1) := dk_28 (dk_at dksX0_newest_2 22 rfl rfl)
theorem dX0_newest_70 : decode cX0_newest 70 = .ok (.ireturn, 1) := dk_172 (dk_at dksX0_newest_2 23 rfl rfl)
abbrev cX0_oldest : ByteArray := prog_1_method_66_code
def yX0_oldest : MethodName := ⟨RX0, "oldest", "(I)I"⟩
def dkwX0_oldest_2 : List UInt8 := [29, 46, 42, 180, 0, 10, 180, 0, 173, 28, 46, 162, 0, 5, 29, 61, 132, 3, 1, 167, 255, 205, 28, 172]
abbrev dktX0_oldest_2 : List UInt8 := dkwX0_oldest_2 ++ []
def dkwX0_oldest_1 : List UInt8 := [162, 0, 46, 42, 29, 27, 182, 0, 243, 153, 0, 31, 28, 2, 159, 0, 24, 42, 180, 0, 10, 180, 0, 173]
abbrev dktX0_oldest_1 : List UInt8 := dkwX0_oldest_1 ++ dktX0_oldest_2
def dkwX0_oldest_0 : List UInt8 := [42, 27, 182, 1, 27, 154, 0, 6, 16, 254, 172, 2, 61, 3, 62, 29, 42, 180, 0, 10, 180, 0, 126]
abbrev dktX0_oldest_0 : List UInt8 := dkwX0_oldest_0 ++ dktX0_oldest_1
theorem dksX0_oldest_0 : cX0_oldest.data.toList.drop 0 = dktX0_oldest_0 := by decide +kernel
theorem dksX0_oldest_1 : cX0_oldest.data.toList.drop 23 = dktX0_oldest_1 := dk_seg dksX0_oldest_0 23 rfl rfl
theorem dksX0_oldest_2 : cX0_oldest.data.toList.drop 47 = dktX0_oldest_2 := dk_seg dksX0_oldest_1 24 rfl rfl
theorem dX0_oldest_0 : decode cX0_oldest 0 = .ok (.aload_n 0, 1) := dk_42 (dk_at dksX0_oldest_0 0 rfl rfl)
theorem dX0_oldest_1 : decode cX0_oldest 1 = .ok (.iload_n 1, 1) := dk_27 (dk_at dksX0_oldest_0 1 rfl rfl)
theorem dX0_oldest_2 : decode cX0_oldest 2 = .ok (.invokevirtual 283, 3) := dk_182 1 27 (dk_at dksX0_oldest_0 2 rfl rfl)
theorem dX0_oldest_5 : decode cX0_oldest 5 = .ok (.ifCond .ne 6, 3) := dk_154 0 6 (dk_at dksX0_oldest_0 5 rfl rfl)
theorem dX0_oldest_8 : decode cX0_oldest 8 = .ok (.bipush (-2), 2) := dk_16 254 (dk_at dksX0_oldest_0 8 rfl rfl)
theorem dX0_oldest_10 : decode cX0_oldest 10 = .ok (.ireturn, 1) := dk_172 (dk_at dksX0_oldest_0 10 rfl rfl)
theorem dX0_oldest_11 : decode cX0_oldest 11 = .ok (.iconst (-1), 1) := dk_2 (dk_at dksX0_oldest_0 11 rfl rfl)
theorem dX0_oldest_12 : decode cX0_oldest 12 = .ok (.istore_n 2, 1) := dk_61 (dk_at dksX0_oldest_0 12 rfl rfl)
theorem dX0_oldest_13 : decode cX0_oldest 13 = .ok (.iconst 0, 1) := dk_3 (dk_at dksX0_oldest_0 13 rfl rfl)
theorem dX0_oldest_14 : decode cX0_oldest 14 = .ok (.istore_n 3, 1) := dk_62 (dk_at dksX0_oldest_0 14 rfl rfl)
theorem dX0_oldest_15 : decode cX0_oldest 15 = .ok (.iload_n 3, 1) := dk_29 (dk_at dksX0_oldest_0 15 rfl rfl)
theorem dX0_oldest_16 : decode cX0_oldest 16 = .ok (.aload_n 0, 1) := dk_42 (dk_at dksX0_oldest_0 16 rfl rfl)
theorem dX0_oldest_17 : decode cX0_oldest 17 = .ok (.getfield 10, 3) := dk_180 0 10 (dk_at dksX0_oldest_0 17 rfl rfl)
theorem dX0_oldest_20 : decode cX0_oldest 20 = .ok (.getfield 126, 3) := dk_180 0 126 (dk_at dksX0_oldest_0 20 rfl rfl)
theorem dX0_oldest_23 : decode cX0_oldest 23 = .ok (.if_icmp .ge 46, 3) := dk_162 0 46 (dk_at dksX0_oldest_1 0 rfl rfl)
theorem dX0_oldest_26 : decode cX0_oldest 26 = .ok (.aload_n 0, 1) := dk_42 (dk_at dksX0_oldest_1 3 rfl rfl)
theorem dX0_oldest_27 : decode cX0_oldest 27 = .ok (.iload_n 3, 1) := dk_29 (dk_at dksX0_oldest_1 4 rfl rfl)
theorem dX0_oldest_28 : decode cX0_oldest 28 = .ok (.iload_n 1, 1) := dk_27 (dk_at dksX0_oldest_1 5 rfl rfl)
theorem dX0_oldest_29 : decode cX0_oldest 29 = .ok (.invokevirtual 243, 3) := dk_182 0 243 (dk_at dksX0_oldest_1 6 rfl rfl)
theorem dX0_oldest_32 : decode cX0_oldest 32 = .ok (.ifCond .eq 31, 3) := dk_153 0 31 (dk_at dksX0_oldest_1 9 rfl rfl)
theorem dX0_oldest_35 : decode cX0_oldest 35 = .ok (.iload_n 2, 1) := dk_28 (dk_at dksX0_oldest_1 12 rfl rfl)
theorem dX0_oldest_36 : decode cX0_oldest 36 = .ok (.iconst (-1), 1) := dk_2 (dk_at dksX0_oldest_1 13 rfl rfl)
theorem dX0_oldest_37 : decode cX0_oldest 37 = .ok (.if_icmp .eq 24, 3) := dk_159 0 24 (dk_at dksX0_oldest_1 14 rfl rfl)
theorem dX0_oldest_40 : decode cX0_oldest 40 = .ok (.aload_n 0, 1) := dk_42 (dk_at dksX0_oldest_1 17 rfl rfl)
theorem dX0_oldest_41 : decode cX0_oldest 41 = .ok (.getfield 10, 3) := dk_180 0 10 (dk_at dksX0_oldest_1 18 rfl rfl)
theorem dX0_oldest_44 : decode cX0_oldest 44 = .ok (.getfield 173, 3) := dk_180 0 173 (dk_at dksX0_oldest_1 21 rfl rfl)
theorem dX0_oldest_47 : decode cX0_oldest 47 = .ok (.iload_n 3, 1) := dk_29 (dk_at dksX0_oldest_2 0 rfl rfl)
theorem dX0_oldest_48 : decode cX0_oldest 48 = .ok (.iaload, 1) := dk_46 (dk_at dksX0_oldest_2 1 rfl rfl)
theorem dX0_oldest_49 : decode cX0_oldest 49 = .ok (.aload_n 0, 1) := dk_42 (dk_at dksX0_oldest_2 2 rfl rfl)
theorem dX0_oldest_50 : decode cX0_oldest 50 = .ok (.getfield 10, 3) := dk_180 0 10 (dk_at dksX0_oldest_2 3 rfl rfl)
theorem dX0_oldest_53 : decode cX0_oldest 53 = .ok (.getfield 173, 3) := dk_180 0 173 (dk_at dksX0_oldest_2 6 rfl rfl)
theorem dX0_oldest_56 : decode cX0_oldest 56 = .ok (.iload_n 2, 1) := dk_28 (dk_at dksX0_oldest_2 9 rfl rfl)
theorem dX0_oldest_57 : decode cX0_oldest 57 = .ok (.iaload, 1) := dk_46 (dk_at dksX0_oldest_2 10 rfl rfl)
theorem dX0_oldest_58 : decode cX0_oldest 58 = .ok (.if_icmp .ge 5, 3) := dk_162 0 5 (dk_at dksX0_oldest_2 11 rfl rfl)
theorem dX0_oldest_61 : decode cX0_oldest 61 = .ok (.iload_n 3, 1) := dk_29 (dk_at dksX0_oldest_2 14 rfl rfl)
theorem dX0_oldest_62 : decode cX0_oldest 62 = .ok (.istore_n 2, 1) := dk_61 (dk_at dksX0_oldest_2 15 rfl rfl)
theorem dX0_oldest_63 : decode cX0_oldest 63 = .ok (.iinc 3 1, 3) := dk_132 3 1 (dk_at dksX0_oldest_2 16 rfl rfl)
theorem dX0_oldest_66 : decode cX0_oldest 66 = .ok (.goto (-51), 3) := dk_167 255 205 (dk_at dksX0_oldest_2 19 rfl rfl)
theorem dX0_oldest_69 : decode cX0_oldest 69 = .ok (.iload_n 2, 1) := dk_28 (dk_at dksX0_oldest_2 22 rfl rfl)
theorem dX0_oldest_70 : decode cX0_oldest 70 = .ok (.ireturn, 1) := dk_172 (dk_at dksX0_oldest_2 23 rfl rfl)
abbrev cX0_steady : ByteArray := prog_1_method_67_code
def yX0_steady : MethodName := ⟨RX0, "steady", "(I)I"⟩
def dkwX0_steady_4 : List UInt8 := [167, 0, 4, 4, 62, 28, 29, 184, 0, 234, 61, 132, 4, 1, 167, 255, 166, 28, 172]
abbrev dktX0_steady_4 : List UInt8 := dkwX0_steady_4 ++ []
def dkwX0_steady_3 : List UInt8 := [42, 27, 21, 4, 182, 0, 243, 154, 0, 7, 3, 167, 0, 15, 21, 5, 153, 0, 9, 29, 4, 96]
abbrev dktX0_steady_3 : List UInt8 := dkwX0_steady_3 ++ dktX0_steady_4
def dkwX0_steady_2 : List UInt8 := [100, 184, 0, 234, 182, 1, 24, 42, 27, 21, 4, 182, 1, 24, 160, 0, 7, 4, 167, 0, 4, 3, 54, 5]
abbrev dktX0_steady_2 : List UInt8 := dkwX0_steady_2 ++ dktX0_steady_3
def dkwX0_steady_1 : List UInt8 := [180, 0, 133, 163, 0, 84, 42, 27, 21, 4, 4, 100, 182, 0, 243, 153, 0, 30, 42, 27, 3, 21, 4, 4]
abbrev dktX0_steady_1 : List UInt8 := dkwX0_steady_1 ++ dktX0_steady_2
def dkwX0_steady_0 : List UInt8 := [42, 27, 182, 1, 33, 154, 0, 6, 16, 254, 172, 3, 61, 3, 62, 3, 54, 4, 21, 4, 42, 180, 0, 10]
abbrev dktX0_steady_0 : List UInt8 := dkwX0_steady_0 ++ dktX0_steady_1
theorem dksX0_steady_0 : cX0_steady.data.toList.drop 0 = dktX0_steady_0 := by decide +kernel
theorem dksX0_steady_1 : cX0_steady.data.toList.drop 24 = dktX0_steady_1 := dk_seg dksX0_steady_0 24 rfl rfl
theorem dksX0_steady_2 : cX0_steady.data.toList.drop 48 = dktX0_steady_2 := dk_seg dksX0_steady_1 24 rfl rfl
theorem dksX0_steady_3 : cX0_steady.data.toList.drop 72 = dktX0_steady_3 := dk_seg dksX0_steady_2 24 rfl rfl
theorem dksX0_steady_4 : cX0_steady.data.toList.drop 94 = dktX0_steady_4 := dk_seg dksX0_steady_3 22 rfl rfl
theorem dX0_steady_0 : decode cX0_steady 0 = .ok (.aload_n 0, 1) := dk_42 (dk_at dksX0_steady_0 0 rfl rfl)
theorem dX0_steady_1 : decode cX0_steady 1 = .ok (.iload_n 1, 1) := dk_27 (dk_at dksX0_steady_0 1 rfl rfl)
theorem dX0_steady_2 : decode cX0_steady 2 = .ok (.invokevirtual 289, 3) := dk_182 1 33 (dk_at dksX0_steady_0 2 rfl rfl)
theorem dX0_steady_5 : decode cX0_steady 5 = .ok (.ifCond .ne 6, 3) := dk_154 0 6 (dk_at dksX0_steady_0 5 rfl rfl)
theorem dX0_steady_8 : decode cX0_steady 8 = .ok (.bipush (-2), 2) := dk_16 254 (dk_at dksX0_steady_0 8 rfl rfl)
theorem dX0_steady_10 : decode cX0_steady 10 = .ok (.ireturn, 1) := dk_172 (dk_at dksX0_steady_0 10 rfl rfl)
theorem dX0_steady_11 : decode cX0_steady 11 = .ok (.iconst 0, 1) := dk_3 (dk_at dksX0_steady_0 11 rfl rfl)
theorem dX0_steady_12 : decode cX0_steady 12 = .ok (.istore_n 2, 1) := dk_61 (dk_at dksX0_steady_0 12 rfl rfl)
theorem dX0_steady_13 : decode cX0_steady 13 = .ok (.iconst 0, 1) := dk_3 (dk_at dksX0_steady_0 13 rfl rfl)
theorem dX0_steady_14 : decode cX0_steady 14 = .ok (.istore_n 3, 1) := dk_62 (dk_at dksX0_steady_0 14 rfl rfl)
theorem dX0_steady_15 : decode cX0_steady 15 = .ok (.iconst 0, 1) := dk_3 (dk_at dksX0_steady_0 15 rfl rfl)
theorem dX0_steady_16 : decode cX0_steady 16 = .ok (.istore 4, 2) := dk_54 4 (dk_at dksX0_steady_0 16 rfl rfl)
theorem dX0_steady_18 : decode cX0_steady 18 = .ok (.iload 4, 2) := dk_21 4 (dk_at dksX0_steady_0 18 rfl rfl)
theorem dX0_steady_20 : decode cX0_steady 20 = .ok (.aload_n 0, 1) := dk_42 (dk_at dksX0_steady_0 20 rfl rfl)
theorem dX0_steady_21 : decode cX0_steady 21 = .ok (.getfield 10, 3) := dk_180 0 10 (dk_at dksX0_steady_0 21 rfl rfl)
theorem dX0_steady_24 : decode cX0_steady 24 = .ok (.getfield 133, 3) := dk_180 0 133 (dk_at dksX0_steady_1 0 rfl rfl)
theorem dX0_steady_27 : decode cX0_steady 27 = .ok (.if_icmp .gt 84, 3) := dk_163 0 84 (dk_at dksX0_steady_1 3 rfl rfl)
theorem dX0_steady_30 : decode cX0_steady 30 = .ok (.aload_n 0, 1) := dk_42 (dk_at dksX0_steady_1 6 rfl rfl)
theorem dX0_steady_31 : decode cX0_steady 31 = .ok (.iload_n 1, 1) := dk_27 (dk_at dksX0_steady_1 7 rfl rfl)
theorem dX0_steady_32 : decode cX0_steady 32 = .ok (.iload 4, 2) := dk_21 4 (dk_at dksX0_steady_1 8 rfl rfl)
theorem dX0_steady_34 : decode cX0_steady 34 = .ok (.iconst 1, 1) := dk_4 (dk_at dksX0_steady_1 10 rfl rfl)
theorem dX0_steady_35 : decode cX0_steady 35 = .ok (.isub, 1) := dk_100 (dk_at dksX0_steady_1 11 rfl rfl)
theorem dX0_steady_36 : decode cX0_steady 36 = .ok (.invokevirtual 243, 3) := dk_182 0 243 (dk_at dksX0_steady_1 12 rfl rfl)
theorem dX0_steady_39 : decode cX0_steady 39 = .ok (.ifCond .eq 30, 3) := dk_153 0 30 (dk_at dksX0_steady_1 15 rfl rfl)
theorem dX0_steady_42 : decode cX0_steady 42 = .ok (.aload_n 0, 1) := dk_42 (dk_at dksX0_steady_1 18 rfl rfl)
theorem dX0_steady_43 : decode cX0_steady 43 = .ok (.iload_n 1, 1) := dk_27 (dk_at dksX0_steady_1 19 rfl rfl)
theorem dX0_steady_44 : decode cX0_steady 44 = .ok (.iconst 0, 1) := dk_3 (dk_at dksX0_steady_1 20 rfl rfl)
theorem dX0_steady_45 : decode cX0_steady 45 = .ok (.iload 4, 2) := dk_21 4 (dk_at dksX0_steady_1 21 rfl rfl)
theorem dX0_steady_47 : decode cX0_steady 47 = .ok (.iconst 1, 1) := dk_4 (dk_at dksX0_steady_1 23 rfl rfl)
theorem dX0_steady_48 : decode cX0_steady 48 = .ok (.isub, 1) := dk_100 (dk_at dksX0_steady_2 0 rfl rfl)
theorem dX0_steady_49 : decode cX0_steady 49 = .ok (.invokestatic 234, 3) := dk_184 0 234 (dk_at dksX0_steady_2 1 rfl rfl)
theorem dX0_steady_52 : decode cX0_steady 52 = .ok (.invokevirtual 280, 3) := dk_182 1 24 (dk_at dksX0_steady_2 4 rfl rfl)
theorem dX0_steady_55 : decode cX0_steady 55 = .ok (.aload_n 0, 1) := dk_42 (dk_at dksX0_steady_2 7 rfl rfl)
theorem dX0_steady_56 : decode cX0_steady 56 = .ok (.iload_n 1, 1) := dk_27 (dk_at dksX0_steady_2 8 rfl rfl)
theorem dX0_steady_57 : decode cX0_steady 57 = .ok (.iload 4, 2) := dk_21 4 (dk_at dksX0_steady_2 9 rfl rfl)
theorem dX0_steady_59 : decode cX0_steady 59 = .ok (.invokevirtual 280, 3) := dk_182 1 24 (dk_at dksX0_steady_2 11 rfl rfl)
theorem dX0_steady_62 : decode cX0_steady 62 = .ok (.if_icmp .ne 7, 3) := dk_160 0 7 (dk_at dksX0_steady_2 14 rfl rfl)
theorem dX0_steady_65 : decode cX0_steady 65 = .ok (.iconst 1, 1) := dk_4 (dk_at dksX0_steady_2 17 rfl rfl)
theorem dX0_steady_66 : decode cX0_steady 66 = .ok (.goto 4, 3) := dk_167 0 4 (dk_at dksX0_steady_2 18 rfl rfl)
theorem dX0_steady_69 : decode cX0_steady 69 = .ok (.iconst 0, 1) := dk_3 (dk_at dksX0_steady_2 21 rfl rfl)
theorem dX0_steady_70 : decode cX0_steady 70 = .ok (.istore 5, 2) := dk_54 5 (dk_at dksX0_steady_2 22 rfl rfl)
theorem dX0_steady_72 : decode cX0_steady 72 = .ok (.aload_n 0, 1) := dk_42 (dk_at dksX0_steady_3 0 rfl rfl)
theorem dX0_steady_73 : decode cX0_steady 73 = .ok (.iload_n 1, 1) := dk_27 (dk_at dksX0_steady_3 1 rfl rfl)
theorem dX0_steady_74 : decode cX0_steady 74 = .ok (.iload 4, 2) := dk_21 4 (dk_at dksX0_steady_3 2 rfl rfl)
theorem dX0_steady_76 : decode cX0_steady 76 = .ok (.invokevirtual 243, 3) := dk_182 0 243 (dk_at dksX0_steady_3 4 rfl rfl)
theorem dX0_steady_79 : decode cX0_steady 79 = .ok (.ifCond .ne 7, 3) := dk_154 0 7 (dk_at dksX0_steady_3 7 rfl rfl)
theorem dX0_steady_82 : decode cX0_steady 82 = .ok (.iconst 0, 1) := dk_3 (dk_at dksX0_steady_3 10 rfl rfl)
theorem dX0_steady_83 : decode cX0_steady 83 = .ok (.goto 15, 3) := dk_167 0 15 (dk_at dksX0_steady_3 11 rfl rfl)
theorem dX0_steady_86 : decode cX0_steady 86 = .ok (.iload 5, 2) := dk_21 5 (dk_at dksX0_steady_3 14 rfl rfl)
theorem dX0_steady_88 : decode cX0_steady 88 = .ok (.ifCond .eq 9, 3) := dk_153 0 9 (dk_at dksX0_steady_3 16 rfl rfl)
theorem dX0_steady_91 : decode cX0_steady 91 = .ok (.iload_n 3, 1) := dk_29 (dk_at dksX0_steady_3 19 rfl rfl)
theorem dX0_steady_92 : decode cX0_steady 92 = .ok (.iconst 1, 1) := dk_4 (dk_at dksX0_steady_3 20 rfl rfl)
theorem dX0_steady_93 : decode cX0_steady 93 = .ok (.iadd, 1) := dk_96 (dk_at dksX0_steady_3 21 rfl rfl)
theorem dX0_steady_94 : decode cX0_steady 94 = .ok (.goto 4, 3) := dk_167 0 4 (dk_at dksX0_steady_4 0 rfl rfl)
theorem dX0_steady_97 : decode cX0_steady 97 = .ok (.iconst 1, 1) := dk_4 (dk_at dksX0_steady_4 3 rfl rfl)
theorem dX0_steady_98 : decode cX0_steady 98 = .ok (.istore_n 3, 1) := dk_62 (dk_at dksX0_steady_4 4 rfl rfl)
theorem dX0_steady_99 : decode cX0_steady 99 = .ok (.iload_n 2, 1) := dk_28 (dk_at dksX0_steady_4 5 rfl rfl)
theorem dX0_steady_100 : decode cX0_steady 100 = .ok (.iload_n 3, 1) := dk_29 (dk_at dksX0_steady_4 6 rfl rfl)
theorem dX0_steady_101 : decode cX0_steady 101 = .ok (.invokestatic 234, 3) := dk_184 0 234 (dk_at dksX0_steady_4 7 rfl rfl)
theorem dX0_steady_104 : decode cX0_steady 104 = .ok (.istore_n 2, 1) := dk_61 (dk_at dksX0_steady_4 10 rfl rfl)
theorem dX0_steady_105 : decode cX0_steady 105 = .ok (.iinc 4 1, 3) := dk_132 4 1 (dk_at dksX0_steady_4 11 rfl rfl)
theorem dX0_steady_108 : decode cX0_steady 108 = .ok (.goto (-90), 3) := dk_167 255 166 (dk_at dksX0_steady_4 14 rfl rfl)
theorem dX0_steady_111 : decode cX0_steady 111 = .ok (.iload_n 2, 1) := dk_28 (dk_at dksX0_steady_4 17 rfl rfl)
theorem dX0_steady_112 : decode cX0_steady 112 = .ok (.ireturn, 1) := dk_172 (dk_at dksX0_steady_4 18 rfl rfl)
abbrev cX0_falls : ByteArray := prog_1_method_68_code
def yX0_falls : MethodName := ⟨RX0, "falls", "(I)I"⟩
def dkwX0_falls_2 : List UInt8 := [167, 0, 4, 3, 96, 61, 132, 3, 1, 167, 255, 217, 28, 172]
abbrev dktX0_falls_2 : List UInt8 := dkwX0_falls_2 ++ []
def dkwX0_falls_1 : List UInt8 := [163, 0, 34, 28, 42, 27, 29, 182, 1, 24, 42, 27, 29, 4, 100, 182, 1, 24, 162, 0, 7, 4]
abbrev dktX0_falls_1 : List UInt8 := dkwX0_falls_1 ++ dktX0_falls_2
def dkwX0_falls_0 : List UInt8 := [42, 27, 182, 1, 33, 154, 0, 6, 16, 254, 172, 3, 61, 4, 62, 29, 42, 180, 0, 10, 180, 0, 133]
abbrev dktX0_falls_0 : List UInt8 := dkwX0_falls_0 ++ dktX0_falls_1
theorem dksX0_falls_0 : cX0_falls.data.toList.drop 0 = dktX0_falls_0 := by decide +kernel
theorem dksX0_falls_1 : cX0_falls.data.toList.drop 23 = dktX0_falls_1 := dk_seg dksX0_falls_0 23 rfl rfl
theorem dksX0_falls_2 : cX0_falls.data.toList.drop 45 = dktX0_falls_2 := dk_seg dksX0_falls_1 22 rfl rfl
theorem dX0_falls_0 : decode cX0_falls 0 = .ok (.aload_n 0, 1) := dk_42 (dk_at dksX0_falls_0 0 rfl rfl)
theorem dX0_falls_1 : decode cX0_falls 1 = .ok (.iload_n 1, 1) := dk_27 (dk_at dksX0_falls_0 1 rfl rfl)
theorem dX0_falls_2 : decode cX0_falls 2 = .ok (.invokevirtual 289, 3) := dk_182 1 33 (dk_at dksX0_falls_0 2 rfl rfl)
theorem dX0_falls_5 : decode cX0_falls 5 = .ok (.ifCond .ne 6, 3) := dk_154 0 6 (dk_at dksX0_falls_0 5 rfl rfl)
theorem dX0_falls_8 : decode cX0_falls 8 = .ok (.bipush (-2), 2) := dk_16 254 (dk_at dksX0_falls_0 8 rfl rfl)
theorem dX0_falls_10 : decode cX0_falls 10 = .ok (.ireturn, 1) := dk_172 (dk_at dksX0_falls_0 10 rfl rfl)
theorem dX0_falls_11 : decode cX0_falls 11 = .ok (.iconst 0, 1) := dk_3 (dk_at dksX0_falls_0 11 rfl rfl)
theorem dX0_falls_12 : decode cX0_falls 12 = .ok (.istore_n 2, 1) := dk_61 (dk_at dksX0_falls_0 12 rfl rfl)
theorem dX0_falls_13 : decode cX0_falls 13 = .ok (.iconst 1, 1) := dk_4 (dk_at dksX0_falls_0 13 rfl rfl)
theorem dX0_falls_14 : decode cX0_falls 14 = .ok (.istore_n 3, 1) := dk_62 (dk_at dksX0_falls_0 14 rfl rfl)
theorem dX0_falls_15 : decode cX0_falls 15 = .ok (.iload_n 3, 1) := dk_29 (dk_at dksX0_falls_0 15 rfl rfl)
theorem dX0_falls_16 : decode cX0_falls 16 = .ok (.aload_n 0, 1) := dk_42 (dk_at dksX0_falls_0 16 rfl rfl)
theorem dX0_falls_17 : decode cX0_falls 17 = .ok (.getfield 10, 3) := dk_180 0 10 (dk_at dksX0_falls_0 17 rfl rfl)
theorem dX0_falls_20 : decode cX0_falls 20 = .ok (.getfield 133, 3) := dk_180 0 133 (dk_at dksX0_falls_0 20 rfl rfl)
theorem dX0_falls_23 : decode cX0_falls 23 = .ok (.if_icmp .gt 34, 3) := dk_163 0 34 (dk_at dksX0_falls_1 0 rfl rfl)
theorem dX0_falls_26 : decode cX0_falls 26 = .ok (.iload_n 2, 1) := dk_28 (dk_at dksX0_falls_1 3 rfl rfl)
theorem dX0_falls_27 : decode cX0_falls 27 = .ok (.aload_n 0, 1) := dk_42 (dk_at dksX0_falls_1 4 rfl rfl)
theorem dX0_falls_28 : decode cX0_falls 28 = .ok (.iload_n 1, 1) := dk_27 (dk_at dksX0_falls_1 5 rfl rfl)
theorem dX0_falls_29 : decode cX0_falls 29 = .ok (.iload_n 3, 1) := dk_29 (dk_at dksX0_falls_1 6 rfl rfl)
theorem dX0_falls_30 : decode cX0_falls 30 = .ok (.invokevirtual 280, 3) := dk_182 1 24 (dk_at dksX0_falls_1 7 rfl rfl)
theorem dX0_falls_33 : decode cX0_falls 33 = .ok (.aload_n 0, 1) := dk_42 (dk_at dksX0_falls_1 10 rfl rfl)
theorem dX0_falls_34 : decode cX0_falls 34 = .ok (.iload_n 1, 1) := dk_27 (dk_at dksX0_falls_1 11 rfl rfl)
theorem dX0_falls_35 : decode cX0_falls 35 = .ok (.iload_n 3, 1) := dk_29 (dk_at dksX0_falls_1 12 rfl rfl)
theorem dX0_falls_36 : decode cX0_falls 36 = .ok (.iconst 1, 1) := dk_4 (dk_at dksX0_falls_1 13 rfl rfl)
theorem dX0_falls_37 : decode cX0_falls 37 = .ok (.isub, 1) := dk_100 (dk_at dksX0_falls_1 14 rfl rfl)
theorem dX0_falls_38 : decode cX0_falls 38 = .ok (.invokevirtual 280, 3) := dk_182 1 24 (dk_at dksX0_falls_1 15 rfl rfl)
theorem dX0_falls_41 : decode cX0_falls 41 = .ok (.if_icmp .ge 7, 3) := dk_162 0 7 (dk_at dksX0_falls_1 18 rfl rfl)
theorem dX0_falls_44 : decode cX0_falls 44 = .ok (.iconst 1, 1) := dk_4 (dk_at dksX0_falls_1 21 rfl rfl)
theorem dX0_falls_45 : decode cX0_falls 45 = .ok (.goto 4, 3) := dk_167 0 4 (dk_at dksX0_falls_2 0 rfl rfl)
theorem dX0_falls_48 : decode cX0_falls 48 = .ok (.iconst 0, 1) := dk_3 (dk_at dksX0_falls_2 3 rfl rfl)
theorem dX0_falls_49 : decode cX0_falls 49 = .ok (.iadd, 1) := dk_96 (dk_at dksX0_falls_2 4 rfl rfl)
theorem dX0_falls_50 : decode cX0_falls 50 = .ok (.istore_n 2, 1) := dk_61 (dk_at dksX0_falls_2 5 rfl rfl)
theorem dX0_falls_51 : decode cX0_falls 51 = .ok (.iinc 3 1, 3) := dk_132 3 1 (dk_at dksX0_falls_2 6 rfl rfl)
theorem dX0_falls_54 : decode cX0_falls 54 = .ok (.goto (-39), 3) := dk_167 255 217 (dk_at dksX0_falls_2 9 rfl rfl)
theorem dX0_falls_57 : decode cX0_falls 57 = .ok (.iload_n 2, 1) := dk_28 (dk_at dksX0_falls_2 12 rfl rfl)
theorem dX0_falls_58 : decode cX0_falls 58 = .ok (.ireturn, 1) := dk_172 (dk_at dksX0_falls_2 13 rfl rfl)
abbrev cX0_age : ByteArray := prog_1_method_69_code
def yX0_age : MethodName := ⟨RX0, "age", "(II)I"⟩
def dkwX0_age_1 : List UInt8 := [182, 0, 243, 153, 0, 17, 28, 42, 180, 0, 10, 180, 0, 173, 27, 46, 100, 167, 0, 4, 2, 172]
abbrev dktX0_age_1 : List UInt8 := dkwX0_age_1 ++ []
def dkwX0_age_0 : List UInt8 := [42, 28, 182, 1, 27, 153, 0, 12, 42, 27, 133, 182, 0, 163, 154, 0, 6, 16, 254, 172, 42, 27, 28]
abbrev dktX0_age_0 : List UInt8 := dkwX0_age_0 ++ dktX0_age_1
theorem dksX0_age_0 : cX0_age.data.toList.drop 0 = dktX0_age_0 := by decide +kernel
theorem dksX0_age_1 : cX0_age.data.toList.drop 23 = dktX0_age_1 := dk_seg dksX0_age_0 23 rfl rfl
theorem dX0_age_0 : decode cX0_age 0 = .ok (.aload_n 0, 1) := dk_42 (dk_at dksX0_age_0 0 rfl rfl)
theorem dX0_age_1 : decode cX0_age 1 = .ok (.iload_n 2, 1) := dk_28 (dk_at dksX0_age_0 1 rfl rfl)
theorem dX0_age_2 : decode cX0_age 2 = .ok (.invokevirtual 283, 3) := dk_182 1 27 (dk_at dksX0_age_0 2 rfl rfl)
theorem dX0_age_5 : decode cX0_age 5 = .ok (.ifCond .eq 12, 3) := dk_153 0 12 (dk_at dksX0_age_0 5 rfl rfl)
theorem dX0_age_8 : decode cX0_age 8 = .ok (.aload_n 0, 1) := dk_42 (dk_at dksX0_age_0 8 rfl rfl)
theorem dX0_age_9 : decode cX0_age 9 = .ok (.iload_n 1, 1) := dk_27 (dk_at dksX0_age_0 9 rfl rfl)
theorem dX0_age_10 : decode cX0_age 10 = .ok (.i2l, 1) := dk_133 (dk_at dksX0_age_0 10 rfl rfl)
theorem dX0_age_11 : decode cX0_age 11 = .ok (.invokevirtual 163, 3) := dk_182 0 163 (dk_at dksX0_age_0 11 rfl rfl)
theorem dX0_age_14 : decode cX0_age 14 = .ok (.ifCond .ne 6, 3) := dk_154 0 6 (dk_at dksX0_age_0 14 rfl rfl)
theorem dX0_age_17 : decode cX0_age 17 = .ok (.bipush (-2), 2) := dk_16 254 (dk_at dksX0_age_0 17 rfl rfl)
theorem dX0_age_19 : decode cX0_age 19 = .ok (.ireturn, 1) := dk_172 (dk_at dksX0_age_0 19 rfl rfl)
theorem dX0_age_20 : decode cX0_age 20 = .ok (.aload_n 0, 1) := dk_42 (dk_at dksX0_age_0 20 rfl rfl)
theorem dX0_age_21 : decode cX0_age 21 = .ok (.iload_n 1, 1) := dk_27 (dk_at dksX0_age_0 21 rfl rfl)
theorem dX0_age_22 : decode cX0_age 22 = .ok (.iload_n 2, 1) := dk_28 (dk_at dksX0_age_0 22 rfl rfl)
theorem dX0_age_23 : decode cX0_age 23 = .ok (.invokevirtual 243, 3) := dk_182 0 243 (dk_at dksX0_age_1 0 rfl rfl)
theorem dX0_age_26 : decode cX0_age 26 = .ok (.ifCond .eq 17, 3) := dk_153 0 17 (dk_at dksX0_age_1 3 rfl rfl)
theorem dX0_age_29 : decode cX0_age 29 = .ok (.iload_n 2, 1) := dk_28 (dk_at dksX0_age_1 6 rfl rfl)
theorem dX0_age_30 : decode cX0_age 30 = .ok (.aload_n 0, 1) := dk_42 (dk_at dksX0_age_1 7 rfl rfl)
theorem dX0_age_31 : decode cX0_age 31 = .ok (.getfield 10, 3) := dk_180 0 10 (dk_at dksX0_age_1 8 rfl rfl)
theorem dX0_age_34 : decode cX0_age 34 = .ok (.getfield 173, 3) := dk_180 0 173 (dk_at dksX0_age_1 11 rfl rfl)
theorem dX0_age_37 : decode cX0_age 37 = .ok (.iload_n 1, 1) := dk_27 (dk_at dksX0_age_1 14 rfl rfl)
theorem dX0_age_38 : decode cX0_age 38 = .ok (.iaload, 1) := dk_46 (dk_at dksX0_age_1 15 rfl rfl)
theorem dX0_age_39 : decode cX0_age 39 = .ok (.isub, 1) := dk_100 (dk_at dksX0_age_1 16 rfl rfl)
theorem dX0_age_40 : decode cX0_age 40 = .ok (.goto 4, 3) := dk_167 0 4 (dk_at dksX0_age_1 17 rfl rfl)
theorem dX0_age_43 : decode cX0_age 43 = .ok (.iconst (-1), 1) := dk_2 (dk_at dksX0_age_1 20 rfl rfl)
theorem dX0_age_44 : decode cX0_age 44 = .ok (.ireturn, 1) := dk_172 (dk_at dksX0_age_1 21 rfl rfl)
abbrev cX0_honest : ByteArray := prog_1_method_70_code
def yX0_honest : MethodName := ⟨RX0, "honest", "(I)I"⟩
def dkwX0_honest_3 : List UInt8 := [167, 255, 202, 28, 172]
abbrev dktX0_honest_3 : List UInt8 := dkwX0_honest_3 ++ []
def dkwX0_honest_2 : List UInt8 := [180, 0, 170, 29, 46, 184, 0, 254, 153, 0, 9, 4, 29, 120, 167, 0, 4, 3, 128, 61, 132, 3, 1]
abbrev dktX0_honest_2 : List UInt8 := dkwX0_honest_2 ++ dktX0_honest_3
def dkwX0_honest_1 : List UInt8 := [162, 0, 49, 28, 42, 29, 27, 182, 0, 243, 153, 0, 30, 42, 29, 27, 182, 1, 61, 42, 180, 0, 10]
abbrev dktX0_honest_1 : List UInt8 := dkwX0_honest_1 ++ dktX0_honest_2
def dkwX0_honest_0 : List UInt8 := [42, 27, 182, 1, 27, 154, 0, 6, 16, 254, 172, 3, 61, 3, 62, 29, 42, 180, 0, 10, 180, 0, 126]
abbrev dktX0_honest_0 : List UInt8 := dkwX0_honest_0 ++ dktX0_honest_1
theorem dksX0_honest_0 : cX0_honest.data.toList.drop 0 = dktX0_honest_0 := by decide +kernel
theorem dksX0_honest_1 : cX0_honest.data.toList.drop 23 = dktX0_honest_1 := dk_seg dksX0_honest_0 23 rfl rfl
theorem dksX0_honest_2 : cX0_honest.data.toList.drop 46 = dktX0_honest_2 := dk_seg dksX0_honest_1 23 rfl rfl
theorem dksX0_honest_3 : cX0_honest.data.toList.drop 69 = dktX0_honest_3 := dk_seg dksX0_honest_2 23 rfl rfl
theorem dX0_honest_0 : decode cX0_honest 0 = .ok (.aload_n 0, 1) := dk_42 (dk_at dksX0_honest_0 0 rfl rfl)
theorem dX0_honest_1 : decode cX0_honest 1 = .ok (.iload_n 1, 1) := dk_27 (dk_at dksX0_honest_0 1 rfl rfl)
theorem dX0_honest_2 : decode cX0_honest 2 = .ok (.invokevirtual 283, 3) := dk_182 1 27 (dk_at dksX0_honest_0 2 rfl rfl)
theorem dX0_honest_5 : decode cX0_honest 5 = .ok (.ifCond .ne 6, 3) := dk_154 0 6 (dk_at dksX0_honest_0 5 rfl rfl)
theorem dX0_honest_8 : decode cX0_honest 8 = .ok (.bipush (-2), 2) := dk_16 254 (dk_at dksX0_honest_0 8 rfl rfl)
theorem dX0_honest_10 : decode cX0_honest 10 = .ok (.ireturn, 1) := dk_172 (dk_at dksX0_honest_0 10 rfl rfl)
theorem dX0_honest_11 : decode cX0_honest 11 = .ok (.iconst 0, 1) := dk_3 (dk_at dksX0_honest_0 11 rfl rfl)
theorem dX0_honest_12 : decode cX0_honest 12 = .ok (.istore_n 2, 1) := dk_61 (dk_at dksX0_honest_0 12 rfl rfl)
theorem dX0_honest_13 : decode cX0_honest 13 = .ok (.iconst 0, 1) := dk_3 (dk_at dksX0_honest_0 13 rfl rfl)
theorem dX0_honest_14 : decode cX0_honest 14 = .ok (.istore_n 3, 1) := dk_62 (dk_at dksX0_honest_0 14 rfl rfl)
theorem dX0_honest_15 : decode cX0_honest 15 = .ok (.iload_n 3, 1) := dk_29 (dk_at dksX0_honest_0 15 rfl rfl)
theorem dX0_honest_16 : decode cX0_honest 16 = .ok (.aload_n 0, 1) := dk_42 (dk_at dksX0_honest_0 16 rfl rfl)
theorem dX0_honest_17 : decode cX0_honest 17 = .ok (.getfield 10, 3) := dk_180 0 10 (dk_at dksX0_honest_0 17 rfl rfl)
theorem dX0_honest_20 : decode cX0_honest 20 = .ok (.getfield 126, 3) := dk_180 0 126 (dk_at dksX0_honest_0 20 rfl rfl)
theorem dX0_honest_23 : decode cX0_honest 23 = .ok (.if_icmp .ge 49, 3) := dk_162 0 49 (dk_at dksX0_honest_1 0 rfl rfl)
theorem dX0_honest_26 : decode cX0_honest 26 = .ok (.iload_n 2, 1) := dk_28 (dk_at dksX0_honest_1 3 rfl rfl)
theorem dX0_honest_27 : decode cX0_honest 27 = .ok (.aload_n 0, 1) := dk_42 (dk_at dksX0_honest_1 4 rfl rfl)
theorem dX0_honest_28 : decode cX0_honest 28 = .ok (.iload_n 3, 1) := dk_29 (dk_at dksX0_honest_1 5 rfl rfl)
theorem dX0_honest_29 : decode cX0_honest 29 = .ok (.iload_n 1, 1) := dk_27 (dk_at dksX0_honest_1 6 rfl rfl)
theorem dX0_honest_30 : decode cX0_honest 30 = .ok (.invokevirtual 243, 3) := dk_182 0 243 (dk_at dksX0_honest_1 7 rfl rfl)
theorem dX0_honest_33 : decode cX0_honest 33 = .ok (.ifCond .eq 30, 3) := dk_153 0 30 (dk_at dksX0_honest_1 10 rfl rfl)
theorem dX0_honest_36 : decode cX0_honest 36 = .ok (.aload_n 0, 1) := dk_42 (dk_at dksX0_honest_1 13 rfl rfl)
theorem dX0_honest_37 : decode cX0_honest 37 = .ok (.iload_n 3, 1) := dk_29 (dk_at dksX0_honest_1 14 rfl rfl)
theorem dX0_honest_38 : decode cX0_honest 38 = .ok (.iload_n 1, 1) := dk_27 (dk_at dksX0_honest_1 15 rfl rfl)
theorem dX0_honest_39 : decode cX0_honest 39 = .ok (.invokevirtual 317, 3) := dk_182 1 61 (dk_at dksX0_honest_1 16 rfl rfl)
theorem dX0_honest_42 : decode cX0_honest 42 = .ok (.aload_n 0, 1) := dk_42 (dk_at dksX0_honest_1 19 rfl rfl)
theorem dX0_honest_43 : decode cX0_honest 43 = .ok (.getfield 10, 3) := dk_180 0 10 (dk_at dksX0_honest_1 20 rfl rfl)
theorem dX0_honest_46 : decode cX0_honest 46 = .ok (.getfield 170, 3) := dk_180 0 170 (dk_at dksX0_honest_2 0 rfl rfl)
theorem dX0_honest_49 : decode cX0_honest 49 = .ok (.iload_n 3, 1) := dk_29 (dk_at dksX0_honest_2 3 rfl rfl)
theorem dX0_honest_50 : decode cX0_honest 50 = .ok (.iaload, 1) := dk_46 (dk_at dksX0_honest_2 4 rfl rfl)
theorem dX0_honest_51 : decode cX0_honest 51 = .ok (.invokestatic 254, 3) := dk_184 0 254 (dk_at dksX0_honest_2 5 rfl rfl)
theorem dX0_honest_54 : decode cX0_honest 54 = .ok (.ifCond .eq 9, 3) := dk_153 0 9 (dk_at dksX0_honest_2 8 rfl rfl)
theorem dX0_honest_57 : decode cX0_honest 57 = .ok (.iconst 1, 1) := dk_4 (dk_at dksX0_honest_2 11 rfl rfl)
theorem dX0_honest_58 : decode cX0_honest 58 = .ok (.iload_n 3, 1) := dk_29 (dk_at dksX0_honest_2 12 rfl rfl)
theorem dX0_honest_59 : decode cX0_honest 59 = .ok (.ishl, 1) := dk_120 (dk_at dksX0_honest_2 13 rfl rfl)
theorem dX0_honest_60 : decode cX0_honest 60 = .ok (.goto 4, 3) := dk_167 0 4 (dk_at dksX0_honest_2 14 rfl rfl)
theorem dX0_honest_63 : decode cX0_honest 63 = .ok (.iconst 0, 1) := dk_3 (dk_at dksX0_honest_2 17 rfl rfl)
theorem dX0_honest_64 : decode cX0_honest 64 = .ok (.ior, 1) := dk_128 (dk_at dksX0_honest_2 18 rfl rfl)
theorem dX0_honest_65 : decode cX0_honest 65 = .ok (.istore_n 2, 1) := dk_61 (dk_at dksX0_honest_2 19 rfl rfl)
theorem dX0_honest_66 : decode cX0_honest 66 = .ok (.iinc 3 1, 3) := dk_132 3 1 (dk_at dksX0_honest_2 20 rfl rfl)
theorem dX0_honest_69 : decode cX0_honest 69 = .ok (.goto (-54), 3) := dk_167 255 202 (dk_at dksX0_honest_3 0 rfl rfl)
theorem dX0_honest_72 : decode cX0_honest 72 = .ok (.iload_n 2, 1) := dk_28 (dk_at dksX0_honest_3 3 rfl rfl)
theorem dX0_honest_73 : decode cX0_honest 73 = .ok (.ireturn, 1) := dk_172 (dk_at dksX0_honest_3 4 rfl rfl)
abbrev cX0_passesBy : ByteArray := prog_1_method_78_code
def yX0_passesBy : MethodName := ⟨RX0, "passesBy", "(II)I"⟩
def dkwX0_passesBy_2 : List UInt8 := [182, 1, 24, 160, 0, 10, 4, 21, 4, 120, 167, 0, 4, 3, 128, 62, 132, 4, 1, 167, 255, 196, 29, 172]
abbrev dktX0_passesBy_2 : List UInt8 := dkwX0_passesBy_2 ++ []
def dkwX0_passesBy_1 : List UInt8 := [180, 0, 167, 27, 46, 21, 4, 42, 180, 0, 10, 180, 0, 176, 27, 46, 28, 182, 1, 69, 42, 27, 28]
abbrev dktX0_passesBy_1 : List UInt8 := dkwX0_passesBy_1 ++ dktX0_passesBy_2
def dkwX0_passesBy_0 : List UInt8 := [3, 62, 3, 54, 4, 21, 4, 42, 180, 0, 10, 180, 0, 120, 162, 0, 54, 29, 42, 42, 180, 0, 10]
abbrev dktX0_passesBy_0 : List UInt8 := dkwX0_passesBy_0 ++ dktX0_passesBy_1
theorem dksX0_passesBy_0 : cX0_passesBy.data.toList.drop 0 = dktX0_passesBy_0 := by decide +kernel
theorem dksX0_passesBy_1 : cX0_passesBy.data.toList.drop 23 = dktX0_passesBy_1 := dk_seg dksX0_passesBy_0 23 rfl rfl
theorem dksX0_passesBy_2 : cX0_passesBy.data.toList.drop 46 = dktX0_passesBy_2 := dk_seg dksX0_passesBy_1 23 rfl rfl
theorem dX0_passesBy_0 : decode cX0_passesBy 0 = .ok (.iconst 0, 1) := dk_3 (dk_at dksX0_passesBy_0 0 rfl rfl)
theorem dX0_passesBy_1 : decode cX0_passesBy 1 = .ok (.istore_n 3, 1) := dk_62 (dk_at dksX0_passesBy_0 1 rfl rfl)
theorem dX0_passesBy_2 : decode cX0_passesBy 2 = .ok (.iconst 0, 1) := dk_3 (dk_at dksX0_passesBy_0 2 rfl rfl)
theorem dX0_passesBy_3 : decode cX0_passesBy 3 = .ok (.istore 4, 2) := dk_54 4 (dk_at dksX0_passesBy_0 3 rfl rfl)
theorem dX0_passesBy_5 : decode cX0_passesBy 5 = .ok (.iload 4, 2) := dk_21 4 (dk_at dksX0_passesBy_0 5 rfl rfl)
theorem dX0_passesBy_7 : decode cX0_passesBy 7 = .ok (.aload_n 0, 1) := dk_42 (dk_at dksX0_passesBy_0 7 rfl rfl)
theorem dX0_passesBy_8 : decode cX0_passesBy 8 = .ok (.getfield 10, 3) := dk_180 0 10 (dk_at dksX0_passesBy_0 8 rfl rfl)
theorem dX0_passesBy_11 : decode cX0_passesBy 11 = .ok (.getfield 120, 3) := dk_180 0 120 (dk_at dksX0_passesBy_0 11 rfl rfl)
theorem dX0_passesBy_14 : decode cX0_passesBy 14 = .ok (.if_icmp .ge 54, 3) := dk_162 0 54 (dk_at dksX0_passesBy_0 14 rfl rfl)
theorem dX0_passesBy_17 : decode cX0_passesBy 17 = .ok (.iload_n 3, 1) := dk_29 (dk_at dksX0_passesBy_0 17 rfl rfl)
theorem dX0_passesBy_18 : decode cX0_passesBy 18 = .ok (.aload_n 0, 1) := dk_42 (dk_at dksX0_passesBy_0 18 rfl rfl)
theorem dX0_passesBy_19 : decode cX0_passesBy 19 = .ok (.aload_n 0, 1) := dk_42 (dk_at dksX0_passesBy_0 19 rfl rfl)
theorem dX0_passesBy_20 : decode cX0_passesBy 20 = .ok (.getfield 10, 3) := dk_180 0 10 (dk_at dksX0_passesBy_0 20 rfl rfl)
theorem dX0_passesBy_23 : decode cX0_passesBy 23 = .ok (.getfield 167, 3) := dk_180 0 167 (dk_at dksX0_passesBy_1 0 rfl rfl)
theorem dX0_passesBy_26 : decode cX0_passesBy 26 = .ok (.iload_n 1, 1) := dk_27 (dk_at dksX0_passesBy_1 3 rfl rfl)
theorem dX0_passesBy_27 : decode cX0_passesBy 27 = .ok (.iaload, 1) := dk_46 (dk_at dksX0_passesBy_1 4 rfl rfl)
theorem dX0_passesBy_28 : decode cX0_passesBy 28 = .ok (.iload 4, 2) := dk_21 4 (dk_at dksX0_passesBy_1 5 rfl rfl)
theorem dX0_passesBy_30 : decode cX0_passesBy 30 = .ok (.aload_n 0, 1) := dk_42 (dk_at dksX0_passesBy_1 7 rfl rfl)
theorem dX0_passesBy_31 : decode cX0_passesBy 31 = .ok (.getfield 10, 3) := dk_180 0 10 (dk_at dksX0_passesBy_1 8 rfl rfl)
theorem dX0_passesBy_34 : decode cX0_passesBy 34 = .ok (.getfield 176, 3) := dk_180 0 176 (dk_at dksX0_passesBy_1 11 rfl rfl)
theorem dX0_passesBy_37 : decode cX0_passesBy 37 = .ok (.iload_n 1, 1) := dk_27 (dk_at dksX0_passesBy_1 14 rfl rfl)
theorem dX0_passesBy_38 : decode cX0_passesBy 38 = .ok (.iaload, 1) := dk_46 (dk_at dksX0_passesBy_1 15 rfl rfl)
theorem dX0_passesBy_39 : decode cX0_passesBy 39 = .ok (.iload_n 2, 1) := dk_28 (dk_at dksX0_passesBy_1 16 rfl rfl)
theorem dX0_passesBy_40 : decode cX0_passesBy 40 = .ok (.invokevirtual 325, 3) := dk_182 1 69 (dk_at dksX0_passesBy_1 17 rfl rfl)
theorem dX0_passesBy_43 : decode cX0_passesBy 43 = .ok (.aload_n 0, 1) := dk_42 (dk_at dksX0_passesBy_1 20 rfl rfl)
theorem dX0_passesBy_44 : decode cX0_passesBy 44 = .ok (.iload_n 1, 1) := dk_27 (dk_at dksX0_passesBy_1 21 rfl rfl)
theorem dX0_passesBy_45 : decode cX0_passesBy 45 = .ok (.iload_n 2, 1) := dk_28 (dk_at dksX0_passesBy_1 22 rfl rfl)
theorem dX0_passesBy_46 : decode cX0_passesBy 46 = .ok (.invokevirtual 280, 3) := dk_182 1 24 (dk_at dksX0_passesBy_2 0 rfl rfl)
theorem dX0_passesBy_49 : decode cX0_passesBy 49 = .ok (.if_icmp .ne 10, 3) := dk_160 0 10 (dk_at dksX0_passesBy_2 3 rfl rfl)
theorem dX0_passesBy_52 : decode cX0_passesBy 52 = .ok (.iconst 1, 1) := dk_4 (dk_at dksX0_passesBy_2 6 rfl rfl)
theorem dX0_passesBy_53 : decode cX0_passesBy 53 = .ok (.iload 4, 2) := dk_21 4 (dk_at dksX0_passesBy_2 7 rfl rfl)
theorem dX0_passesBy_55 : decode cX0_passesBy 55 = .ok (.ishl, 1) := dk_120 (dk_at dksX0_passesBy_2 9 rfl rfl)
theorem dX0_passesBy_56 : decode cX0_passesBy 56 = .ok (.goto 4, 3) := dk_167 0 4 (dk_at dksX0_passesBy_2 10 rfl rfl)
theorem dX0_passesBy_59 : decode cX0_passesBy 59 = .ok (.iconst 0, 1) := dk_3 (dk_at dksX0_passesBy_2 13 rfl rfl)
theorem dX0_passesBy_60 : decode cX0_passesBy 60 = .ok (.ior, 1) := dk_128 (dk_at dksX0_passesBy_2 14 rfl rfl)
theorem dX0_passesBy_61 : decode cX0_passesBy 61 = .ok (.istore_n 3, 1) := dk_62 (dk_at dksX0_passesBy_2 15 rfl rfl)
theorem dX0_passesBy_62 : decode cX0_passesBy 62 = .ok (.iinc 4 1, 3) := dk_132 4 1 (dk_at dksX0_passesBy_2 16 rfl rfl)
theorem dX0_passesBy_65 : decode cX0_passesBy 65 = .ok (.goto (-60), 3) := dk_167 255 196 (dk_at dksX0_passesBy_2 19 rfl rfl)
theorem dX0_passesBy_68 : decode cX0_passesBy 68 = .ok (.iload_n 3, 1) := dk_29 (dk_at dksX0_passesBy_2 22 rfl rfl)
theorem dX0_passesBy_69 : decode cX0_passesBy 69 = .ok (.ireturn, 1) := dk_172 (dk_at dksX0_passesBy_2 23 rfl rfl)
abbrev cX0_pure : ByteArray := prog_1_method_77_code
def yX0_pure : MethodName := ⟨RX0, "pure", "(IIII)I"⟩
def dkwX0_pure_9 : List UInt8 := [21, 9, 100, 184, 0, 234, 54, 5, 132, 7, 1, 167, 255, 95, 21, 5, 172]
abbrev dktX0_pure_9 : List UInt8 := dkwX0_pure_9 ++ []
def dkwX0_pure_8 : List UInt8 := [180, 0, 154, 28, 46, 104, 167, 0, 12, 42, 180, 0, 10, 180, 0, 154, 28, 46, 54, 9, 3, 21, 5]
abbrev dktX0_pure_8 : List UInt8 := dkwX0_pure_8 ++ dktX0_pure_9
def dkwX0_pure_7 : List UInt8 := [21, 7, 5, 112, 4, 160, 0, 7, 3, 167, 0, 31, 21, 8, 153, 0, 17, 5, 42, 180, 0, 10]
abbrev dktX0_pure_7 : List UInt8 := dkwX0_pure_7 ++ dktX0_pure_8
def dkwX0_pure_6 : List UInt8 := [184, 0, 254, 153, 0, 7, 4, 167, 0, 4, 3, 54, 8, 42, 180, 0, 10, 180, 0, 188, 6, 160, 0, 15]
abbrev dktX0_pure_6 : List UInt8 := dkwX0_pure_6 ++ dktX0_pure_7
def dkwX0_pure_5 : List UInt8 := [167, 0, 99, 42, 180, 0, 10, 180, 0, 188, 4, 160, 0, 21, 42, 180, 0, 10, 180, 0, 160, 27]
abbrev dktX0_pure_5 : List UInt8 := dkwX0_pure_5 ++ dktX0_pure_6
def dkwX0_pure_4 : List UInt8 := [54, 5, 21, 5, 42, 180, 0, 10, 180, 0, 151, 28, 46, 162, 0, 7, 4, 167, 0, 4, 3, 54, 6]
abbrev dktX0_pure_4 : List UInt8 := dkwX0_pure_4 ++ dktX0_pure_5
def dkwX0_pure_3 : List UInt8 := [42, 180, 0, 10, 180, 0, 151, 28, 46, 21, 5, 42, 180, 0, 10, 180, 0, 148, 28, 46, 96, 184, 0, 221]
abbrev dktX0_pure_3 : List UInt8 := dkwX0_pure_3 ++ dktX0_pure_4
def dkwX0_pure_2 : List UInt8 := [4, 167, 0, 4, 3, 54, 6, 29, 4, 96, 54, 7, 21, 7, 21, 4, 163, 0, 160, 21, 6, 153, 0, 53]
abbrev dktX0_pure_2 : List UInt8 := dkwX0_pure_2 ++ dktX0_pure_3
def dkwX0_pure_1 : List UInt8 := [180, 0, 148, 28, 46, 184, 0, 221, 54, 5, 21, 5, 42, 180, 0, 10, 180, 0, 151, 28, 46, 162, 0, 7]
abbrev dktX0_pure_1 : List UInt8 := dkwX0_pure_1 ++ dktX0_pure_2
def dkwX0_pure_0 : List UInt8 := [21, 4, 29, 162, 0, 7, 3, 167, 0, 24, 42, 180, 0, 10, 180, 0, 151, 28, 46, 42, 180, 0, 10]
abbrev dktX0_pure_0 : List UInt8 := dkwX0_pure_0 ++ dktX0_pure_1
theorem dksX0_pure_0 : cX0_pure.data.toList.drop 0 = dktX0_pure_0 := by decide +kernel
theorem dksX0_pure_1 : cX0_pure.data.toList.drop 23 = dktX0_pure_1 := dk_seg dksX0_pure_0 23 rfl rfl
theorem dksX0_pure_2 : cX0_pure.data.toList.drop 47 = dktX0_pure_2 := dk_seg dksX0_pure_1 24 rfl rfl
theorem dksX0_pure_3 : cX0_pure.data.toList.drop 71 = dktX0_pure_3 := dk_seg dksX0_pure_2 24 rfl rfl
theorem dksX0_pure_4 : cX0_pure.data.toList.drop 95 = dktX0_pure_4 := dk_seg dksX0_pure_3 24 rfl rfl
theorem dksX0_pure_5 : cX0_pure.data.toList.drop 118 = dktX0_pure_5 := dk_seg dksX0_pure_4 23 rfl rfl
theorem dksX0_pure_6 : cX0_pure.data.toList.drop 140 = dktX0_pure_6 := dk_seg dksX0_pure_5 22 rfl rfl
theorem dksX0_pure_7 : cX0_pure.data.toList.drop 164 = dktX0_pure_7 := dk_seg dksX0_pure_6 24 rfl rfl
theorem dksX0_pure_8 : cX0_pure.data.toList.drop 186 = dktX0_pure_8 := dk_seg dksX0_pure_7 22 rfl rfl
theorem dksX0_pure_9 : cX0_pure.data.toList.drop 209 = dktX0_pure_9 := dk_seg dksX0_pure_8 23 rfl rfl
theorem dX0_pure_0 : decode cX0_pure 0 = .ok (.iload 4, 2) := dk_21 4 (dk_at dksX0_pure_0 0 rfl rfl)
theorem dX0_pure_2 : decode cX0_pure 2 = .ok (.iload_n 3, 1) := dk_29 (dk_at dksX0_pure_0 2 rfl rfl)
theorem dX0_pure_3 : decode cX0_pure 3 = .ok (.if_icmp .ge 7, 3) := dk_162 0 7 (dk_at dksX0_pure_0 3 rfl rfl)
theorem dX0_pure_6 : decode cX0_pure 6 = .ok (.iconst 0, 1) := dk_3 (dk_at dksX0_pure_0 6 rfl rfl)
theorem dX0_pure_7 : decode cX0_pure 7 = .ok (.goto 24, 3) := dk_167 0 24 (dk_at dksX0_pure_0 7 rfl rfl)
theorem dX0_pure_10 : decode cX0_pure 10 = .ok (.aload_n 0, 1) := dk_42 (dk_at dksX0_pure_0 10 rfl rfl)
theorem dX0_pure_11 : decode cX0_pure 11 = .ok (.getfield 10, 3) := dk_180 0 10 (dk_at dksX0_pure_0 11 rfl rfl)
theorem dX0_pure_14 : decode cX0_pure 14 = .ok (.getfield 151, 3) := dk_180 0 151 (dk_at dksX0_pure_0 14 rfl rfl)
theorem dX0_pure_17 : decode cX0_pure 17 = .ok (.iload_n 2, 1) := dk_28 (dk_at dksX0_pure_0 17 rfl rfl)
theorem dX0_pure_18 : decode cX0_pure 18 = .ok (.iaload, 1) := dk_46 (dk_at dksX0_pure_0 18 rfl rfl)
theorem dX0_pure_19 : decode cX0_pure 19 = .ok (.aload_n 0, 1) := dk_42 (dk_at dksX0_pure_0 19 rfl rfl)
theorem dX0_pure_20 : decode cX0_pure 20 = .ok (.getfield 10, 3) := dk_180 0 10 (dk_at dksX0_pure_0 20 rfl rfl)
theorem dX0_pure_23 : decode cX0_pure 23 = .ok (.getfield 148, 3) := dk_180 0 148 (dk_at dksX0_pure_1 0 rfl rfl)
theorem dX0_pure_26 : decode cX0_pure 26 = .ok (.iload_n 2, 1) := dk_28 (dk_at dksX0_pure_1 3 rfl rfl)
theorem dX0_pure_27 : decode cX0_pure 27 = .ok (.iaload, 1) := dk_46 (dk_at dksX0_pure_1 4 rfl rfl)
theorem dX0_pure_28 : decode cX0_pure 28 = .ok (.invokestatic 221, 3) := dk_184 0 221 (dk_at dksX0_pure_1 5 rfl rfl)
theorem dX0_pure_31 : decode cX0_pure 31 = .ok (.istore 5, 2) := dk_54 5 (dk_at dksX0_pure_1 8 rfl rfl)
theorem dX0_pure_33 : decode cX0_pure 33 = .ok (.iload 5, 2) := dk_21 5 (dk_at dksX0_pure_1 10 rfl rfl)
theorem dX0_pure_35 : decode cX0_pure 35 = .ok (.aload_n 0, 1) := dk_42 (dk_at dksX0_pure_1 12 rfl rfl)
theorem dX0_pure_36 : decode cX0_pure 36 = .ok (.getfield 10, 3) := dk_180 0 10 (dk_at dksX0_pure_1 13 rfl rfl)
theorem dX0_pure_39 : decode cX0_pure 39 = .ok (.getfield 151, 3) := dk_180 0 151 (dk_at dksX0_pure_1 16 rfl rfl)
theorem dX0_pure_42 : decode cX0_pure 42 = .ok (.iload_n 2, 1) := dk_28 (dk_at dksX0_pure_1 19 rfl rfl)
theorem dX0_pure_43 : decode cX0_pure 43 = .ok (.iaload, 1) := dk_46 (dk_at dksX0_pure_1 20 rfl rfl)
theorem dX0_pure_44 : decode cX0_pure 44 = .ok (.if_icmp .ge 7, 3) := dk_162 0 7 (dk_at dksX0_pure_1 21 rfl rfl)
theorem dX0_pure_47 : decode cX0_pure 47 = .ok (.iconst 1, 1) := dk_4 (dk_at dksX0_pure_2 0 rfl rfl)
theorem dX0_pure_48 : decode cX0_pure 48 = .ok (.goto 4, 3) := dk_167 0 4 (dk_at dksX0_pure_2 1 rfl rfl)
theorem dX0_pure_51 : decode cX0_pure 51 = .ok (.iconst 0, 1) := dk_3 (dk_at dksX0_pure_2 4 rfl rfl)
theorem dX0_pure_52 : decode cX0_pure 52 = .ok (.istore 6, 2) := dk_54 6 (dk_at dksX0_pure_2 5 rfl rfl)
theorem dX0_pure_54 : decode cX0_pure 54 = .ok (.iload_n 3, 1) := dk_29 (dk_at dksX0_pure_2 7 rfl rfl)
theorem dX0_pure_55 : decode cX0_pure 55 = .ok (.iconst 1, 1) := dk_4 (dk_at dksX0_pure_2 8 rfl rfl)
theorem dX0_pure_56 : decode cX0_pure 56 = .ok (.iadd, 1) := dk_96 (dk_at dksX0_pure_2 9 rfl rfl)
theorem dX0_pure_57 : decode cX0_pure 57 = .ok (.istore 7, 2) := dk_54 7 (dk_at dksX0_pure_2 10 rfl rfl)
theorem dX0_pure_59 : decode cX0_pure 59 = .ok (.iload 7, 2) := dk_21 7 (dk_at dksX0_pure_2 12 rfl rfl)
theorem dX0_pure_61 : decode cX0_pure 61 = .ok (.iload 4, 2) := dk_21 4 (dk_at dksX0_pure_2 14 rfl rfl)
theorem dX0_pure_63 : decode cX0_pure 63 = .ok (.if_icmp .gt 160, 3) := dk_163 0 160 (dk_at dksX0_pure_2 16 rfl rfl)
theorem dX0_pure_66 : decode cX0_pure 66 = .ok (.iload 6, 2) := dk_21 6 (dk_at dksX0_pure_2 19 rfl rfl)
theorem dX0_pure_68 : decode cX0_pure 68 = .ok (.ifCond .eq 53, 3) := dk_153 0 53 (dk_at dksX0_pure_2 21 rfl rfl)
theorem dX0_pure_71 : decode cX0_pure 71 = .ok (.aload_n 0, 1) := dk_42 (dk_at dksX0_pure_3 0 rfl rfl)
theorem dX0_pure_72 : decode cX0_pure 72 = .ok (.getfield 10, 3) := dk_180 0 10 (dk_at dksX0_pure_3 1 rfl rfl)
theorem dX0_pure_75 : decode cX0_pure 75 = .ok (.getfield 151, 3) := dk_180 0 151 (dk_at dksX0_pure_3 4 rfl rfl)
theorem dX0_pure_78 : decode cX0_pure 78 = .ok (.iload_n 2, 1) := dk_28 (dk_at dksX0_pure_3 7 rfl rfl)
theorem dX0_pure_79 : decode cX0_pure 79 = .ok (.iaload, 1) := dk_46 (dk_at dksX0_pure_3 8 rfl rfl)
theorem dX0_pure_80 : decode cX0_pure 80 = .ok (.iload 5, 2) := dk_21 5 (dk_at dksX0_pure_3 9 rfl rfl)
theorem dX0_pure_82 : decode cX0_pure 82 = .ok (.aload_n 0, 1) := dk_42 (dk_at dksX0_pure_3 11 rfl rfl)
theorem dX0_pure_83 : decode cX0_pure 83 = .ok (.getfield 10, 3) := dk_180 0 10 (dk_at dksX0_pure_3 12 rfl rfl)
theorem dX0_pure_86 : decode cX0_pure 86 = .ok (.getfield 148, 3) := dk_180 0 148 (dk_at dksX0_pure_3 15 rfl rfl)
theorem dX0_pure_89 : decode cX0_pure 89 = .ok (.iload_n 2, 1) := dk_28 (dk_at dksX0_pure_3 18 rfl rfl)
theorem dX0_pure_90 : decode cX0_pure 90 = .ok (.iaload, 1) := dk_46 (dk_at dksX0_pure_3 19 rfl rfl)
theorem dX0_pure_91 : decode cX0_pure 91 = .ok (.iadd, 1) := dk_96 (dk_at dksX0_pure_3 20 rfl rfl)
theorem dX0_pure_92 : decode cX0_pure 92 = .ok (.invokestatic 221, 3) := dk_184 0 221 (dk_at dksX0_pure_3 21 rfl rfl)
theorem dX0_pure_95 : decode cX0_pure 95 = .ok (.istore 5, 2) := dk_54 5 (dk_at dksX0_pure_4 0 rfl rfl)
theorem dX0_pure_97 : decode cX0_pure 97 = .ok (.iload 5, 2) := dk_21 5 (dk_at dksX0_pure_4 2 rfl rfl)
theorem dX0_pure_99 : decode cX0_pure 99 = .ok (.aload_n 0, 1) := dk_42 (dk_at dksX0_pure_4 4 rfl rfl)
theorem dX0_pure_100 : decode cX0_pure 100 = .ok (.getfield 10, 3) := dk_180 0 10 (dk_at dksX0_pure_4 5 rfl rfl)
theorem dX0_pure_103 : decode cX0_pure 103 = .ok (.getfield 151, 3) := dk_180 0 151 (dk_at dksX0_pure_4 8 rfl rfl)
theorem dX0_pure_106 : decode cX0_pure 106 = .ok (.iload_n 2, 1) := dk_28 (dk_at dksX0_pure_4 11 rfl rfl)
theorem dX0_pure_107 : decode cX0_pure 107 = .ok (.iaload, 1) := dk_46 (dk_at dksX0_pure_4 12 rfl rfl)
theorem dX0_pure_108 : decode cX0_pure 108 = .ok (.if_icmp .ge 7, 3) := dk_162 0 7 (dk_at dksX0_pure_4 13 rfl rfl)
theorem dX0_pure_111 : decode cX0_pure 111 = .ok (.iconst 1, 1) := dk_4 (dk_at dksX0_pure_4 16 rfl rfl)
theorem dX0_pure_112 : decode cX0_pure 112 = .ok (.goto 4, 3) := dk_167 0 4 (dk_at dksX0_pure_4 17 rfl rfl)
theorem dX0_pure_115 : decode cX0_pure 115 = .ok (.iconst 0, 1) := dk_3 (dk_at dksX0_pure_4 20 rfl rfl)
theorem dX0_pure_116 : decode cX0_pure 116 = .ok (.istore 6, 2) := dk_54 6 (dk_at dksX0_pure_4 21 rfl rfl)
theorem dX0_pure_118 : decode cX0_pure 118 = .ok (.goto 99, 3) := dk_167 0 99 (dk_at dksX0_pure_5 0 rfl rfl)
theorem dX0_pure_121 : decode cX0_pure 121 = .ok (.aload_n 0, 1) := dk_42 (dk_at dksX0_pure_5 3 rfl rfl)
theorem dX0_pure_122 : decode cX0_pure 122 = .ok (.getfield 10, 3) := dk_180 0 10 (dk_at dksX0_pure_5 4 rfl rfl)
theorem dX0_pure_125 : decode cX0_pure 125 = .ok (.getfield 188, 3) := dk_180 0 188 (dk_at dksX0_pure_5 7 rfl rfl)
theorem dX0_pure_128 : decode cX0_pure 128 = .ok (.iconst 1, 1) := dk_4 (dk_at dksX0_pure_5 10 rfl rfl)
theorem dX0_pure_129 : decode cX0_pure 129 = .ok (.if_icmp .ne 21, 3) := dk_160 0 21 (dk_at dksX0_pure_5 11 rfl rfl)
theorem dX0_pure_132 : decode cX0_pure 132 = .ok (.aload_n 0, 1) := dk_42 (dk_at dksX0_pure_5 14 rfl rfl)
theorem dX0_pure_133 : decode cX0_pure 133 = .ok (.getfield 10, 3) := dk_180 0 10 (dk_at dksX0_pure_5 15 rfl rfl)
theorem dX0_pure_136 : decode cX0_pure 136 = .ok (.getfield 160, 3) := dk_180 0 160 (dk_at dksX0_pure_5 18 rfl rfl)
theorem dX0_pure_139 : decode cX0_pure 139 = .ok (.iload_n 1, 1) := dk_27 (dk_at dksX0_pure_5 21 rfl rfl)
theorem dX0_pure_140 : decode cX0_pure 140 = .ok (.invokestatic 254, 3) := dk_184 0 254 (dk_at dksX0_pure_6 0 rfl rfl)
theorem dX0_pure_143 : decode cX0_pure 143 = .ok (.ifCond .eq 7, 3) := dk_153 0 7 (dk_at dksX0_pure_6 3 rfl rfl)
theorem dX0_pure_146 : decode cX0_pure 146 = .ok (.iconst 1, 1) := dk_4 (dk_at dksX0_pure_6 6 rfl rfl)
theorem dX0_pure_147 : decode cX0_pure 147 = .ok (.goto 4, 3) := dk_167 0 4 (dk_at dksX0_pure_6 7 rfl rfl)
theorem dX0_pure_150 : decode cX0_pure 150 = .ok (.iconst 0, 1) := dk_3 (dk_at dksX0_pure_6 10 rfl rfl)
theorem dX0_pure_151 : decode cX0_pure 151 = .ok (.istore 8, 2) := dk_54 8 (dk_at dksX0_pure_6 11 rfl rfl)
theorem dX0_pure_153 : decode cX0_pure 153 = .ok (.aload_n 0, 1) := dk_42 (dk_at dksX0_pure_6 13 rfl rfl)
theorem dX0_pure_154 : decode cX0_pure 154 = .ok (.getfield 10, 3) := dk_180 0 10 (dk_at dksX0_pure_6 14 rfl rfl)
theorem dX0_pure_157 : decode cX0_pure 157 = .ok (.getfield 188, 3) := dk_180 0 188 (dk_at dksX0_pure_6 17 rfl rfl)
theorem dX0_pure_160 : decode cX0_pure 160 = .ok (.iconst 3, 1) := dk_6 (dk_at dksX0_pure_6 20 rfl rfl)
theorem dX0_pure_161 : decode cX0_pure 161 = .ok (.if_icmp .ne 15, 3) := dk_160 0 15 (dk_at dksX0_pure_6 21 rfl rfl)
theorem dX0_pure_164 : decode cX0_pure 164 = .ok (.iload 7, 2) := dk_21 7 (dk_at dksX0_pure_7 0 rfl rfl)
theorem dX0_pure_166 : decode cX0_pure 166 = .ok (.iconst 2, 1) := dk_5 (dk_at dksX0_pure_7 2 rfl rfl)
theorem dX0_pure_167 : decode cX0_pure 167 = .ok (.irem, 1) := dk_112 (dk_at dksX0_pure_7 3 rfl rfl)
theorem dX0_pure_168 : decode cX0_pure 168 = .ok (.iconst 1, 1) := dk_4 (dk_at dksX0_pure_7 4 rfl rfl)
theorem dX0_pure_169 : decode cX0_pure 169 = .ok (.if_icmp .ne 7, 3) := dk_160 0 7 (dk_at dksX0_pure_7 5 rfl rfl)
theorem dX0_pure_172 : decode cX0_pure 172 = .ok (.iconst 0, 1) := dk_3 (dk_at dksX0_pure_7 8 rfl rfl)
theorem dX0_pure_173 : decode cX0_pure 173 = .ok (.goto 31, 3) := dk_167 0 31 (dk_at dksX0_pure_7 9 rfl rfl)
theorem dX0_pure_176 : decode cX0_pure 176 = .ok (.iload 8, 2) := dk_21 8 (dk_at dksX0_pure_7 12 rfl rfl)
theorem dX0_pure_178 : decode cX0_pure 178 = .ok (.ifCond .eq 17, 3) := dk_153 0 17 (dk_at dksX0_pure_7 14 rfl rfl)
theorem dX0_pure_181 : decode cX0_pure 181 = .ok (.iconst 2, 1) := dk_5 (dk_at dksX0_pure_7 17 rfl rfl)
theorem dX0_pure_182 : decode cX0_pure 182 = .ok (.aload_n 0, 1) := dk_42 (dk_at dksX0_pure_7 18 rfl rfl)
theorem dX0_pure_183 : decode cX0_pure 183 = .ok (.getfield 10, 3) := dk_180 0 10 (dk_at dksX0_pure_7 19 rfl rfl)
theorem dX0_pure_186 : decode cX0_pure 186 = .ok (.getfield 154, 3) := dk_180 0 154 (dk_at dksX0_pure_8 0 rfl rfl)
theorem dX0_pure_189 : decode cX0_pure 189 = .ok (.iload_n 2, 1) := dk_28 (dk_at dksX0_pure_8 3 rfl rfl)
theorem dX0_pure_190 : decode cX0_pure 190 = .ok (.iaload, 1) := dk_46 (dk_at dksX0_pure_8 4 rfl rfl)
theorem dX0_pure_191 : decode cX0_pure 191 = .ok (.imul, 1) := dk_104 (dk_at dksX0_pure_8 5 rfl rfl)
theorem dX0_pure_192 : decode cX0_pure 192 = .ok (.goto 12, 3) := dk_167 0 12 (dk_at dksX0_pure_8 6 rfl rfl)
theorem dX0_pure_195 : decode cX0_pure 195 = .ok (.aload_n 0, 1) := dk_42 (dk_at dksX0_pure_8 9 rfl rfl)
theorem dX0_pure_196 : decode cX0_pure 196 = .ok (.getfield 10, 3) := dk_180 0 10 (dk_at dksX0_pure_8 10 rfl rfl)
theorem dX0_pure_199 : decode cX0_pure 199 = .ok (.getfield 154, 3) := dk_180 0 154 (dk_at dksX0_pure_8 13 rfl rfl)
theorem dX0_pure_202 : decode cX0_pure 202 = .ok (.iload_n 2, 1) := dk_28 (dk_at dksX0_pure_8 16 rfl rfl)
theorem dX0_pure_203 : decode cX0_pure 203 = .ok (.iaload, 1) := dk_46 (dk_at dksX0_pure_8 17 rfl rfl)
theorem dX0_pure_204 : decode cX0_pure 204 = .ok (.istore 9, 2) := dk_54 9 (dk_at dksX0_pure_8 18 rfl rfl)
theorem dX0_pure_206 : decode cX0_pure 206 = .ok (.iconst 0, 1) := dk_3 (dk_at dksX0_pure_8 20 rfl rfl)
theorem dX0_pure_207 : decode cX0_pure 207 = .ok (.iload 5, 2) := dk_21 5 (dk_at dksX0_pure_8 21 rfl rfl)
theorem dX0_pure_209 : decode cX0_pure 209 = .ok (.iload 9, 2) := dk_21 9 (dk_at dksX0_pure_9 0 rfl rfl)
theorem dX0_pure_211 : decode cX0_pure 211 = .ok (.isub, 1) := dk_100 (dk_at dksX0_pure_9 2 rfl rfl)
theorem dX0_pure_212 : decode cX0_pure 212 = .ok (.invokestatic 234, 3) := dk_184 0 234 (dk_at dksX0_pure_9 3 rfl rfl)
theorem dX0_pure_215 : decode cX0_pure 215 = .ok (.istore 5, 2) := dk_54 5 (dk_at dksX0_pure_9 6 rfl rfl)
theorem dX0_pure_217 : decode cX0_pure 217 = .ok (.iinc 7 1, 3) := dk_132 7 1 (dk_at dksX0_pure_9 8 rfl rfl)
theorem dX0_pure_220 : decode cX0_pure 220 = .ok (.goto (-161), 3) := dk_167 255 95 (dk_at dksX0_pure_9 11 rfl rfl)
theorem dX0_pure_223 : decode cX0_pure 223 = .ok (.iload 5, 2) := dk_21 5 (dk_at dksX0_pure_9 14 rfl rfl)
theorem dX0_pure_225 : decode cX0_pure 225 = .ok (.ireturn, 1) := dk_172 (dk_at dksX0_pure_9 16 rfl rfl)
abbrev cX0_peaks : ByteArray := prog_1_method_71_code
def yX0_peaks : MethodName := ⟨RX0, "peaks", "()I"⟩
def dkwX0_peaks_2 : List UInt8 := [27, 172]
abbrev dktX0_peaks_2 : List UInt8 := dkwX0_peaks_2 ++ []
def dkwX0_peaks_1 : List UInt8 := [163, 0, 24, 42, 28, 182, 1, 42, 42, 27, 182, 1, 42, 164, 0, 5, 28, 60, 132, 2, 1, 167, 255, 227]
abbrev dktX0_peaks_1 : List UInt8 := dkwX0_peaks_1 ++ dktX0_peaks_2
def dkwX0_peaks_0 : List UInt8 := [42, 182, 1, 18, 154, 0, 6, 16, 254, 172, 3, 60, 4, 61, 28, 42, 180, 0, 10, 180, 0, 133]
abbrev dktX0_peaks_0 : List UInt8 := dkwX0_peaks_0 ++ dktX0_peaks_1
theorem dksX0_peaks_0 : cX0_peaks.data.toList.drop 0 = dktX0_peaks_0 := by decide +kernel
theorem dksX0_peaks_1 : cX0_peaks.data.toList.drop 22 = dktX0_peaks_1 := dk_seg dksX0_peaks_0 22 rfl rfl
theorem dksX0_peaks_2 : cX0_peaks.data.toList.drop 46 = dktX0_peaks_2 := dk_seg dksX0_peaks_1 24 rfl rfl
theorem dX0_peaks_0 : decode cX0_peaks 0 = .ok (.aload_n 0, 1) := dk_42 (dk_at dksX0_peaks_0 0 rfl rfl)
theorem dX0_peaks_1 : decode cX0_peaks 1 = .ok (.invokevirtual 274, 3) := dk_182 1 18 (dk_at dksX0_peaks_0 1 rfl rfl)
theorem dX0_peaks_4 : decode cX0_peaks 4 = .ok (.ifCond .ne 6, 3) := dk_154 0 6 (dk_at dksX0_peaks_0 4 rfl rfl)
theorem dX0_peaks_7 : decode cX0_peaks 7 = .ok (.bipush (-2), 2) := dk_16 254 (dk_at dksX0_peaks_0 7 rfl rfl)
theorem dX0_peaks_9 : decode cX0_peaks 9 = .ok (.ireturn, 1) := dk_172 (dk_at dksX0_peaks_0 9 rfl rfl)
theorem dX0_peaks_10 : decode cX0_peaks 10 = .ok (.iconst 0, 1) := dk_3 (dk_at dksX0_peaks_0 10 rfl rfl)
theorem dX0_peaks_11 : decode cX0_peaks 11 = .ok (.istore_n 1, 1) := dk_60 (dk_at dksX0_peaks_0 11 rfl rfl)
theorem dX0_peaks_12 : decode cX0_peaks 12 = .ok (.iconst 1, 1) := dk_4 (dk_at dksX0_peaks_0 12 rfl rfl)
theorem dX0_peaks_13 : decode cX0_peaks 13 = .ok (.istore_n 2, 1) := dk_61 (dk_at dksX0_peaks_0 13 rfl rfl)
theorem dX0_peaks_14 : decode cX0_peaks 14 = .ok (.iload_n 2, 1) := dk_28 (dk_at dksX0_peaks_0 14 rfl rfl)
theorem dX0_peaks_15 : decode cX0_peaks 15 = .ok (.aload_n 0, 1) := dk_42 (dk_at dksX0_peaks_0 15 rfl rfl)
theorem dX0_peaks_16 : decode cX0_peaks 16 = .ok (.getfield 10, 3) := dk_180 0 10 (dk_at dksX0_peaks_0 16 rfl rfl)
theorem dX0_peaks_19 : decode cX0_peaks 19 = .ok (.getfield 133, 3) := dk_180 0 133 (dk_at dksX0_peaks_0 19 rfl rfl)
theorem dX0_peaks_22 : decode cX0_peaks 22 = .ok (.if_icmp .gt 24, 3) := dk_163 0 24 (dk_at dksX0_peaks_1 0 rfl rfl)
theorem dX0_peaks_25 : decode cX0_peaks 25 = .ok (.aload_n 0, 1) := dk_42 (dk_at dksX0_peaks_1 3 rfl rfl)
theorem dX0_peaks_26 : decode cX0_peaks 26 = .ok (.iload_n 2, 1) := dk_28 (dk_at dksX0_peaks_1 4 rfl rfl)
theorem dX0_peaks_27 : decode cX0_peaks 27 = .ok (.invokevirtual 298, 3) := dk_182 1 42 (dk_at dksX0_peaks_1 5 rfl rfl)
theorem dX0_peaks_30 : decode cX0_peaks 30 = .ok (.aload_n 0, 1) := dk_42 (dk_at dksX0_peaks_1 8 rfl rfl)
theorem dX0_peaks_31 : decode cX0_peaks 31 = .ok (.iload_n 1, 1) := dk_27 (dk_at dksX0_peaks_1 9 rfl rfl)
theorem dX0_peaks_32 : decode cX0_peaks 32 = .ok (.invokevirtual 298, 3) := dk_182 1 42 (dk_at dksX0_peaks_1 10 rfl rfl)
theorem dX0_peaks_35 : decode cX0_peaks 35 = .ok (.if_icmp .le 5, 3) := dk_164 0 5 (dk_at dksX0_peaks_1 13 rfl rfl)
theorem dX0_peaks_38 : decode cX0_peaks 38 = .ok (.iload_n 2, 1) := dk_28 (dk_at dksX0_peaks_1 16 rfl rfl)
theorem dX0_peaks_39 : decode cX0_peaks 39 = .ok (.istore_n 1, 1) := dk_60 (dk_at dksX0_peaks_1 17 rfl rfl)
theorem dX0_peaks_40 : decode cX0_peaks 40 = .ok (.iinc 2 1, 3) := dk_132 2 1 (dk_at dksX0_peaks_1 18 rfl rfl)
theorem dX0_peaks_43 : decode cX0_peaks 43 = .ok (.goto (-29), 3) := dk_167 255 227 (dk_at dksX0_peaks_1 21 rfl rfl)
theorem dX0_peaks_46 : decode cX0_peaks 46 = .ok (.iload_n 1, 1) := dk_27 (dk_at dksX0_peaks_2 0 rfl rfl)
theorem dX0_peaks_47 : decode cX0_peaks 47 = .ok (.ireturn, 1) := dk_172 (dk_at dksX0_peaks_2 1 rfl rfl)
abbrev cX0_lasts : ByteArray := prog_1_method_72_code
def yX0_lasts : MethodName := ⟨RX0, "lasts", "(I)I"⟩
def dkwX0_lasts_2 : List UInt8 := [167, 255, 224, 28, 172]
abbrev dktX0_lasts_2 : List UInt8 := dkwX0_lasts_2 ++ []
def dkwX0_lasts_1 : List UInt8 := [163, 0, 27, 28, 42, 27, 29, 182, 1, 24, 8, 161, 0, 7, 4, 167, 0, 4, 3, 96, 61, 132, 3, 1]
abbrev dktX0_lasts_1 : List UInt8 := dkwX0_lasts_1 ++ dktX0_lasts_2
def dkwX0_lasts_0 : List UInt8 := [42, 27, 182, 1, 33, 154, 0, 6, 16, 254, 172, 3, 61, 3, 62, 29, 42, 180, 0, 10, 180, 0, 133]
abbrev dktX0_lasts_0 : List UInt8 := dkwX0_lasts_0 ++ dktX0_lasts_1
theorem dksX0_lasts_0 : cX0_lasts.data.toList.drop 0 = dktX0_lasts_0 := by decide +kernel
theorem dksX0_lasts_1 : cX0_lasts.data.toList.drop 23 = dktX0_lasts_1 := dk_seg dksX0_lasts_0 23 rfl rfl
theorem dksX0_lasts_2 : cX0_lasts.data.toList.drop 47 = dktX0_lasts_2 := dk_seg dksX0_lasts_1 24 rfl rfl
theorem dX0_lasts_0 : decode cX0_lasts 0 = .ok (.aload_n 0, 1) := dk_42 (dk_at dksX0_lasts_0 0 rfl rfl)
theorem dX0_lasts_1 : decode cX0_lasts 1 = .ok (.iload_n 1, 1) := dk_27 (dk_at dksX0_lasts_0 1 rfl rfl)
theorem dX0_lasts_2 : decode cX0_lasts 2 = .ok (.invokevirtual 289, 3) := dk_182 1 33 (dk_at dksX0_lasts_0 2 rfl rfl)
theorem dX0_lasts_5 : decode cX0_lasts 5 = .ok (.ifCond .ne 6, 3) := dk_154 0 6 (dk_at dksX0_lasts_0 5 rfl rfl)
theorem dX0_lasts_8 : decode cX0_lasts 8 = .ok (.bipush (-2), 2) := dk_16 254 (dk_at dksX0_lasts_0 8 rfl rfl)
theorem dX0_lasts_10 : decode cX0_lasts 10 = .ok (.ireturn, 1) := dk_172 (dk_at dksX0_lasts_0 10 rfl rfl)
theorem dX0_lasts_11 : decode cX0_lasts 11 = .ok (.iconst 0, 1) := dk_3 (dk_at dksX0_lasts_0 11 rfl rfl)
theorem dX0_lasts_12 : decode cX0_lasts 12 = .ok (.istore_n 2, 1) := dk_61 (dk_at dksX0_lasts_0 12 rfl rfl)
theorem dX0_lasts_13 : decode cX0_lasts 13 = .ok (.iconst 0, 1) := dk_3 (dk_at dksX0_lasts_0 13 rfl rfl)
theorem dX0_lasts_14 : decode cX0_lasts 14 = .ok (.istore_n 3, 1) := dk_62 (dk_at dksX0_lasts_0 14 rfl rfl)
theorem dX0_lasts_15 : decode cX0_lasts 15 = .ok (.iload_n 3, 1) := dk_29 (dk_at dksX0_lasts_0 15 rfl rfl)
theorem dX0_lasts_16 : decode cX0_lasts 16 = .ok (.aload_n 0, 1) := dk_42 (dk_at dksX0_lasts_0 16 rfl rfl)
theorem dX0_lasts_17 : decode cX0_lasts 17 = .ok (.getfield 10, 3) := dk_180 0 10 (dk_at dksX0_lasts_0 17 rfl rfl)
theorem dX0_lasts_20 : decode cX0_lasts 20 = .ok (.getfield 133, 3) := dk_180 0 133 (dk_at dksX0_lasts_0 20 rfl rfl)
theorem dX0_lasts_23 : decode cX0_lasts 23 = .ok (.if_icmp .gt 27, 3) := dk_163 0 27 (dk_at dksX0_lasts_1 0 rfl rfl)
theorem dX0_lasts_26 : decode cX0_lasts 26 = .ok (.iload_n 2, 1) := dk_28 (dk_at dksX0_lasts_1 3 rfl rfl)
theorem dX0_lasts_27 : decode cX0_lasts 27 = .ok (.aload_n 0, 1) := dk_42 (dk_at dksX0_lasts_1 4 rfl rfl)
theorem dX0_lasts_28 : decode cX0_lasts 28 = .ok (.iload_n 1, 1) := dk_27 (dk_at dksX0_lasts_1 5 rfl rfl)
theorem dX0_lasts_29 : decode cX0_lasts 29 = .ok (.iload_n 3, 1) := dk_29 (dk_at dksX0_lasts_1 6 rfl rfl)
theorem dX0_lasts_30 : decode cX0_lasts 30 = .ok (.invokevirtual 280, 3) := dk_182 1 24 (dk_at dksX0_lasts_1 7 rfl rfl)
theorem dX0_lasts_33 : decode cX0_lasts 33 = .ok (.iconst 5, 1) := dk_8 (dk_at dksX0_lasts_1 10 rfl rfl)
theorem dX0_lasts_34 : decode cX0_lasts 34 = .ok (.if_icmp .lt 7, 3) := dk_161 0 7 (dk_at dksX0_lasts_1 11 rfl rfl)
theorem dX0_lasts_37 : decode cX0_lasts 37 = .ok (.iconst 1, 1) := dk_4 (dk_at dksX0_lasts_1 14 rfl rfl)
theorem dX0_lasts_38 : decode cX0_lasts 38 = .ok (.goto 4, 3) := dk_167 0 4 (dk_at dksX0_lasts_1 15 rfl rfl)
theorem dX0_lasts_41 : decode cX0_lasts 41 = .ok (.iconst 0, 1) := dk_3 (dk_at dksX0_lasts_1 18 rfl rfl)
theorem dX0_lasts_42 : decode cX0_lasts 42 = .ok (.iadd, 1) := dk_96 (dk_at dksX0_lasts_1 19 rfl rfl)
theorem dX0_lasts_43 : decode cX0_lasts 43 = .ok (.istore_n 2, 1) := dk_61 (dk_at dksX0_lasts_1 20 rfl rfl)
theorem dX0_lasts_44 : decode cX0_lasts 44 = .ok (.iinc 3 1, 3) := dk_132 3 1 (dk_at dksX0_lasts_1 21 rfl rfl)
theorem dX0_lasts_47 : decode cX0_lasts 47 = .ok (.goto (-32), 3) := dk_167 255 224 (dk_at dksX0_lasts_2 0 rfl rfl)
theorem dX0_lasts_50 : decode cX0_lasts 50 = .ok (.iload_n 2, 1) := dk_28 (dk_at dksX0_lasts_2 3 rfl rfl)
theorem dX0_lasts_51 : decode cX0_lasts 51 = .ok (.ireturn, 1) := dk_172 (dk_at dksX0_lasts_2 4 rfl rfl)
abbrev cX0_order : ByteArray := prog_1_method_73_code
def yX0_order : MethodName := ⟨RX0, "order", "(I)I"⟩
def dkwX0_order_3 : List UInt8 := [167, 255, 201, 4, 172]
abbrev dktX0_order_3 : List UInt8 := dkwX0_order_3 ++ []
def dkwX0_order_2 : List UInt8 := [180, 0, 173, 29, 46, 28, 162, 0, 5, 3, 172, 42, 180, 0, 10, 180, 0, 173, 29, 46, 61, 132, 3, 1]
abbrev dktX0_order_2 : List UInt8 := dkwX0_order_2 ++ dktX0_order_3
def dkwX0_order_1 : List UInt8 := [162, 0, 50, 42, 180, 0, 10, 180, 0, 167, 29, 46, 27, 159, 0, 6, 167, 0, 28, 42, 180, 0, 10]
abbrev dktX0_order_1 : List UInt8 := dkwX0_order_1 ++ dktX0_order_2
def dkwX0_order_0 : List UInt8 := [42, 27, 182, 0, 157, 154, 0, 6, 16, 254, 172, 3, 61, 3, 62, 29, 42, 180, 0, 10, 180, 0, 126]
abbrev dktX0_order_0 : List UInt8 := dkwX0_order_0 ++ dktX0_order_1
theorem dksX0_order_0 : cX0_order.data.toList.drop 0 = dktX0_order_0 := by decide +kernel
theorem dksX0_order_1 : cX0_order.data.toList.drop 23 = dktX0_order_1 := dk_seg dksX0_order_0 23 rfl rfl
theorem dksX0_order_2 : cX0_order.data.toList.drop 46 = dktX0_order_2 := dk_seg dksX0_order_1 23 rfl rfl
theorem dksX0_order_3 : cX0_order.data.toList.drop 70 = dktX0_order_3 := dk_seg dksX0_order_2 24 rfl rfl
theorem dX0_order_0 : decode cX0_order 0 = .ok (.aload_n 0, 1) := dk_42 (dk_at dksX0_order_0 0 rfl rfl)
theorem dX0_order_1 : decode cX0_order 1 = .ok (.iload_n 1, 1) := dk_27 (dk_at dksX0_order_0 1 rfl rfl)
theorem dX0_order_2 : decode cX0_order 2 = .ok (.invokevirtual 157, 3) := dk_182 0 157 (dk_at dksX0_order_0 2 rfl rfl)
theorem dX0_order_5 : decode cX0_order 5 = .ok (.ifCond .ne 6, 3) := dk_154 0 6 (dk_at dksX0_order_0 5 rfl rfl)
theorem dX0_order_8 : decode cX0_order 8 = .ok (.bipush (-2), 2) := dk_16 254 (dk_at dksX0_order_0 8 rfl rfl)
theorem dX0_order_10 : decode cX0_order 10 = .ok (.ireturn, 1) := dk_172 (dk_at dksX0_order_0 10 rfl rfl)
theorem dX0_order_11 : decode cX0_order 11 = .ok (.iconst 0, 1) := dk_3 (dk_at dksX0_order_0 11 rfl rfl)
theorem dX0_order_12 : decode cX0_order 12 = .ok (.istore_n 2, 1) := dk_61 (dk_at dksX0_order_0 12 rfl rfl)
theorem dX0_order_13 : decode cX0_order 13 = .ok (.iconst 0, 1) := dk_3 (dk_at dksX0_order_0 13 rfl rfl)
theorem dX0_order_14 : decode cX0_order 14 = .ok (.istore_n 3, 1) := dk_62 (dk_at dksX0_order_0 14 rfl rfl)
theorem dX0_order_15 : decode cX0_order 15 = .ok (.iload_n 3, 1) := dk_29 (dk_at dksX0_order_0 15 rfl rfl)
theorem dX0_order_16 : decode cX0_order 16 = .ok (.aload_n 0, 1) := dk_42 (dk_at dksX0_order_0 16 rfl rfl)
theorem dX0_order_17 : decode cX0_order 17 = .ok (.getfield 10, 3) := dk_180 0 10 (dk_at dksX0_order_0 17 rfl rfl)
theorem dX0_order_20 : decode cX0_order 20 = .ok (.getfield 126, 3) := dk_180 0 126 (dk_at dksX0_order_0 20 rfl rfl)
theorem dX0_order_23 : decode cX0_order 23 = .ok (.if_icmp .ge 50, 3) := dk_162 0 50 (dk_at dksX0_order_1 0 rfl rfl)
theorem dX0_order_26 : decode cX0_order 26 = .ok (.aload_n 0, 1) := dk_42 (dk_at dksX0_order_1 3 rfl rfl)
theorem dX0_order_27 : decode cX0_order 27 = .ok (.getfield 10, 3) := dk_180 0 10 (dk_at dksX0_order_1 4 rfl rfl)
theorem dX0_order_30 : decode cX0_order 30 = .ok (.getfield 167, 3) := dk_180 0 167 (dk_at dksX0_order_1 7 rfl rfl)
theorem dX0_order_33 : decode cX0_order 33 = .ok (.iload_n 3, 1) := dk_29 (dk_at dksX0_order_1 10 rfl rfl)
theorem dX0_order_34 : decode cX0_order 34 = .ok (.iaload, 1) := dk_46 (dk_at dksX0_order_1 11 rfl rfl)
theorem dX0_order_35 : decode cX0_order 35 = .ok (.iload_n 1, 1) := dk_27 (dk_at dksX0_order_1 12 rfl rfl)
theorem dX0_order_36 : decode cX0_order 36 = .ok (.if_icmp .eq 6, 3) := dk_159 0 6 (dk_at dksX0_order_1 13 rfl rfl)
theorem dX0_order_39 : decode cX0_order 39 = .ok (.goto 28, 3) := dk_167 0 28 (dk_at dksX0_order_1 16 rfl rfl)
theorem dX0_order_42 : decode cX0_order 42 = .ok (.aload_n 0, 1) := dk_42 (dk_at dksX0_order_1 19 rfl rfl)
theorem dX0_order_43 : decode cX0_order 43 = .ok (.getfield 10, 3) := dk_180 0 10 (dk_at dksX0_order_1 20 rfl rfl)
theorem dX0_order_46 : decode cX0_order 46 = .ok (.getfield 173, 3) := dk_180 0 173 (dk_at dksX0_order_2 0 rfl rfl)
theorem dX0_order_49 : decode cX0_order 49 = .ok (.iload_n 3, 1) := dk_29 (dk_at dksX0_order_2 3 rfl rfl)
theorem dX0_order_50 : decode cX0_order 50 = .ok (.iaload, 1) := dk_46 (dk_at dksX0_order_2 4 rfl rfl)
theorem dX0_order_51 : decode cX0_order 51 = .ok (.iload_n 2, 1) := dk_28 (dk_at dksX0_order_2 5 rfl rfl)
theorem dX0_order_52 : decode cX0_order 52 = .ok (.if_icmp .ge 5, 3) := dk_162 0 5 (dk_at dksX0_order_2 6 rfl rfl)
theorem dX0_order_55 : decode cX0_order 55 = .ok (.iconst 0, 1) := dk_3 (dk_at dksX0_order_2 9 rfl rfl)
theorem dX0_order_56 : decode cX0_order 56 = .ok (.ireturn, 1) := dk_172 (dk_at dksX0_order_2 10 rfl rfl)
theorem dX0_order_57 : decode cX0_order 57 = .ok (.aload_n 0, 1) := dk_42 (dk_at dksX0_order_2 11 rfl rfl)
theorem dX0_order_58 : decode cX0_order 58 = .ok (.getfield 10, 3) := dk_180 0 10 (dk_at dksX0_order_2 12 rfl rfl)
theorem dX0_order_61 : decode cX0_order 61 = .ok (.getfield 173, 3) := dk_180 0 173 (dk_at dksX0_order_2 15 rfl rfl)
theorem dX0_order_64 : decode cX0_order 64 = .ok (.iload_n 3, 1) := dk_29 (dk_at dksX0_order_2 18 rfl rfl)
theorem dX0_order_65 : decode cX0_order 65 = .ok (.iaload, 1) := dk_46 (dk_at dksX0_order_2 19 rfl rfl)
theorem dX0_order_66 : decode cX0_order 66 = .ok (.istore_n 2, 1) := dk_61 (dk_at dksX0_order_2 20 rfl rfl)
theorem dX0_order_67 : decode cX0_order 67 = .ok (.iinc 3 1, 3) := dk_132 3 1 (dk_at dksX0_order_2 21 rfl rfl)
theorem dX0_order_70 : decode cX0_order 70 = .ok (.goto (-55), 3) := dk_167 255 201 (dk_at dksX0_order_3 0 rfl rfl)
theorem dX0_order_73 : decode cX0_order 73 = .ok (.iconst 1, 1) := dk_4 (dk_at dksX0_order_3 3 rfl rfl)
theorem dX0_order_74 : decode cX0_order 74 = .ok (.ireturn, 1) := dk_172 (dk_at dksX0_order_3 4 rfl rfl)
abbrev cX0_match : ByteArray := prog_1_method_74_code
def yX0_match : MethodName := ⟨RX0, "match", "(II)I"⟩
def dkwX0_match_3 : List UInt8 := [182, 1, 24, 160, 0, 7, 4, 167, 0, 4, 3, 96, 62, 132, 4, 1, 167, 255, 196, 29, 172]
abbrev dktX0_match_3 : List UInt8 := dkwX0_match_3 ++ []
def dkwX0_match_2 : List UInt8 := [153, 0, 34, 42, 28, 21, 4, 182, 0, 243, 153, 0, 24, 42, 27, 21, 4, 182, 1, 24, 42, 28, 21, 4]
abbrev dktX0_match_2 : List UInt8 := dkwX0_match_2 ++ dktX0_match_3
def dkwX0_match_1 : List UInt8 := [54, 4, 21, 4, 42, 180, 0, 10, 180, 0, 133, 163, 0, 54, 29, 42, 27, 21, 4, 182, 0, 243]
abbrev dktX0_match_1 : List UInt8 := dkwX0_match_1 ++ dktX0_match_2
def dkwX0_match_0 : List UInt8 := [42, 28, 133, 182, 0, 163, 153, 0, 11, 42, 27, 182, 1, 33, 154, 0, 6, 16, 254, 172, 3, 62, 3]
abbrev dktX0_match_0 : List UInt8 := dkwX0_match_0 ++ dktX0_match_1
theorem dksX0_match_0 : cX0_match.data.toList.drop 0 = dktX0_match_0 := by decide +kernel
theorem dksX0_match_1 : cX0_match.data.toList.drop 23 = dktX0_match_1 := dk_seg dksX0_match_0 23 rfl rfl
theorem dksX0_match_2 : cX0_match.data.toList.drop 45 = dktX0_match_2 := dk_seg dksX0_match_1 22 rfl rfl
theorem dksX0_match_3 : cX0_match.data.toList.drop 69 = dktX0_match_3 := dk_seg dksX0_match_2 24 rfl rfl
theorem dX0_match_0 : decode cX0_match 0 = .ok (.aload_n 0, 1) := dk_42 (dk_at dksX0_match_0 0 rfl rfl)
theorem dX0_match_1 : decode cX0_match 1 = .ok (.iload_n 2, 1) := dk_28 (dk_at dksX0_match_0 1 rfl rfl)
theorem dX0_match_2 : decode cX0_match 2 = .ok (.i2l, 1) := dk_133 (dk_at dksX0_match_0 2 rfl rfl)
theorem dX0_match_3 : decode cX0_match 3 = .ok (.invokevirtual 163, 3) := dk_182 0 163 (dk_at dksX0_match_0 3 rfl rfl)
theorem dX0_match_6 : decode cX0_match 6 = .ok (.ifCond .eq 11, 3) := dk_153 0 11 (dk_at dksX0_match_0 6 rfl rfl)
theorem dX0_match_9 : decode cX0_match 9 = .ok (.aload_n 0, 1) := dk_42 (dk_at dksX0_match_0 9 rfl rfl)
theorem dX0_match_10 : decode cX0_match 10 = .ok (.iload_n 1, 1) := dk_27 (dk_at dksX0_match_0 10 rfl rfl)
theorem dX0_match_11 : decode cX0_match 11 = .ok (.invokevirtual 289, 3) := dk_182 1 33 (dk_at dksX0_match_0 11 rfl rfl)
theorem dX0_match_14 : decode cX0_match 14 = .ok (.ifCond .ne 6, 3) := dk_154 0 6 (dk_at dksX0_match_0 14 rfl rfl)
theorem dX0_match_17 : decode cX0_match 17 = .ok (.bipush (-2), 2) := dk_16 254 (dk_at dksX0_match_0 17 rfl rfl)
theorem dX0_match_19 : decode cX0_match 19 = .ok (.ireturn, 1) := dk_172 (dk_at dksX0_match_0 19 rfl rfl)
theorem dX0_match_20 : decode cX0_match 20 = .ok (.iconst 0, 1) := dk_3 (dk_at dksX0_match_0 20 rfl rfl)
theorem dX0_match_21 : decode cX0_match 21 = .ok (.istore_n 3, 1) := dk_62 (dk_at dksX0_match_0 21 rfl rfl)
theorem dX0_match_22 : decode cX0_match 22 = .ok (.iconst 0, 1) := dk_3 (dk_at dksX0_match_0 22 rfl rfl)
theorem dX0_match_23 : decode cX0_match 23 = .ok (.istore 4, 2) := dk_54 4 (dk_at dksX0_match_1 0 rfl rfl)
theorem dX0_match_25 : decode cX0_match 25 = .ok (.iload 4, 2) := dk_21 4 (dk_at dksX0_match_1 2 rfl rfl)
theorem dX0_match_27 : decode cX0_match 27 = .ok (.aload_n 0, 1) := dk_42 (dk_at dksX0_match_1 4 rfl rfl)
theorem dX0_match_28 : decode cX0_match 28 = .ok (.getfield 10, 3) := dk_180 0 10 (dk_at dksX0_match_1 5 rfl rfl)
theorem dX0_match_31 : decode cX0_match 31 = .ok (.getfield 133, 3) := dk_180 0 133 (dk_at dksX0_match_1 8 rfl rfl)
theorem dX0_match_34 : decode cX0_match 34 = .ok (.if_icmp .gt 54, 3) := dk_163 0 54 (dk_at dksX0_match_1 11 rfl rfl)
theorem dX0_match_37 : decode cX0_match 37 = .ok (.iload_n 3, 1) := dk_29 (dk_at dksX0_match_1 14 rfl rfl)
theorem dX0_match_38 : decode cX0_match 38 = .ok (.aload_n 0, 1) := dk_42 (dk_at dksX0_match_1 15 rfl rfl)
theorem dX0_match_39 : decode cX0_match 39 = .ok (.iload_n 1, 1) := dk_27 (dk_at dksX0_match_1 16 rfl rfl)
theorem dX0_match_40 : decode cX0_match 40 = .ok (.iload 4, 2) := dk_21 4 (dk_at dksX0_match_1 17 rfl rfl)
theorem dX0_match_42 : decode cX0_match 42 = .ok (.invokevirtual 243, 3) := dk_182 0 243 (dk_at dksX0_match_1 19 rfl rfl)
theorem dX0_match_45 : decode cX0_match 45 = .ok (.ifCond .eq 34, 3) := dk_153 0 34 (dk_at dksX0_match_2 0 rfl rfl)
theorem dX0_match_48 : decode cX0_match 48 = .ok (.aload_n 0, 1) := dk_42 (dk_at dksX0_match_2 3 rfl rfl)
theorem dX0_match_49 : decode cX0_match 49 = .ok (.iload_n 2, 1) := dk_28 (dk_at dksX0_match_2 4 rfl rfl)
theorem dX0_match_50 : decode cX0_match 50 = .ok (.iload 4, 2) := dk_21 4 (dk_at dksX0_match_2 5 rfl rfl)
theorem dX0_match_52 : decode cX0_match 52 = .ok (.invokevirtual 243, 3) := dk_182 0 243 (dk_at dksX0_match_2 7 rfl rfl)
theorem dX0_match_55 : decode cX0_match 55 = .ok (.ifCond .eq 24, 3) := dk_153 0 24 (dk_at dksX0_match_2 10 rfl rfl)
theorem dX0_match_58 : decode cX0_match 58 = .ok (.aload_n 0, 1) := dk_42 (dk_at dksX0_match_2 13 rfl rfl)
theorem dX0_match_59 : decode cX0_match 59 = .ok (.iload_n 1, 1) := dk_27 (dk_at dksX0_match_2 14 rfl rfl)
theorem dX0_match_60 : decode cX0_match 60 = .ok (.iload 4, 2) := dk_21 4 (dk_at dksX0_match_2 15 rfl rfl)
theorem dX0_match_62 : decode cX0_match 62 = .ok (.invokevirtual 280, 3) := dk_182 1 24 (dk_at dksX0_match_2 17 rfl rfl)
theorem dX0_match_65 : decode cX0_match 65 = .ok (.aload_n 0, 1) := dk_42 (dk_at dksX0_match_2 20 rfl rfl)
theorem dX0_match_66 : decode cX0_match 66 = .ok (.iload_n 2, 1) := dk_28 (dk_at dksX0_match_2 21 rfl rfl)
theorem dX0_match_67 : decode cX0_match 67 = .ok (.iload 4, 2) := dk_21 4 (dk_at dksX0_match_2 22 rfl rfl)
theorem dX0_match_69 : decode cX0_match 69 = .ok (.invokevirtual 280, 3) := dk_182 1 24 (dk_at dksX0_match_3 0 rfl rfl)
theorem dX0_match_72 : decode cX0_match 72 = .ok (.if_icmp .ne 7, 3) := dk_160 0 7 (dk_at dksX0_match_3 3 rfl rfl)
theorem dX0_match_75 : decode cX0_match 75 = .ok (.iconst 1, 1) := dk_4 (dk_at dksX0_match_3 6 rfl rfl)
theorem dX0_match_76 : decode cX0_match 76 = .ok (.goto 4, 3) := dk_167 0 4 (dk_at dksX0_match_3 7 rfl rfl)
theorem dX0_match_79 : decode cX0_match 79 = .ok (.iconst 0, 1) := dk_3 (dk_at dksX0_match_3 10 rfl rfl)
theorem dX0_match_80 : decode cX0_match 80 = .ok (.iadd, 1) := dk_96 (dk_at dksX0_match_3 11 rfl rfl)
theorem dX0_match_81 : decode cX0_match 81 = .ok (.istore_n 3, 1) := dk_62 (dk_at dksX0_match_3 12 rfl rfl)
theorem dX0_match_82 : decode cX0_match 82 = .ok (.iinc 4 1, 3) := dk_132 4 1 (dk_at dksX0_match_3 13 rfl rfl)
theorem dX0_match_85 : decode cX0_match 85 = .ok (.goto (-60), 3) := dk_167 255 196 (dk_at dksX0_match_3 16 rfl rfl)
theorem dX0_match_88 : decode cX0_match 88 = .ok (.iload_n 3, 1) := dk_29 (dk_at dksX0_match_3 19 rfl rfl)
theorem dX0_match_89 : decode cX0_match 89 = .ok (.ireturn, 1) := dk_172 (dk_at dksX0_match_3 20 rfl rfl)
abbrev cX0_later : ByteArray := prog_1_method_75_code
def yX0_later : MethodName := ⟨RX0, "later", "(II)I"⟩
def dkwX0_later_1 : List UInt8 := [42, 182, 1, 12, 42, 180, 0, 24, 27, 92, 46, 28, 96, 79, 42, 182, 1, 15, 42, 27, 182, 1, 66, 172]
abbrev dktX0_later_1 : List UInt8 := dkwX0_later_1 ++ []
def dkwX0_later_0 : List UInt8 := [42, 27, 133, 182, 0, 163, 153, 0, 15, 28, 133, 9, 20, 1, 64, 184, 0, 95, 154, 0, 6, 16, 254, 172]
abbrev dktX0_later_0 : List UInt8 := dkwX0_later_0 ++ dktX0_later_1
theorem dksX0_later_0 : cX0_later.data.toList.drop 0 = dktX0_later_0 := by decide +kernel
theorem dksX0_later_1 : cX0_later.data.toList.drop 24 = dktX0_later_1 := dk_seg dksX0_later_0 24 rfl rfl
theorem dX0_later_0 : decode cX0_later 0 = .ok (.aload_n 0, 1) := dk_42 (dk_at dksX0_later_0 0 rfl rfl)
theorem dX0_later_1 : decode cX0_later 1 = .ok (.iload_n 1, 1) := dk_27 (dk_at dksX0_later_0 1 rfl rfl)
theorem dX0_later_2 : decode cX0_later 2 = .ok (.i2l, 1) := dk_133 (dk_at dksX0_later_0 2 rfl rfl)
theorem dX0_later_3 : decode cX0_later 3 = .ok (.invokevirtual 163, 3) := dk_182 0 163 (dk_at dksX0_later_0 3 rfl rfl)
theorem dX0_later_6 : decode cX0_later 6 = .ok (.ifCond .eq 15, 3) := dk_153 0 15 (dk_at dksX0_later_0 6 rfl rfl)
theorem dX0_later_9 : decode cX0_later 9 = .ok (.iload_n 2, 1) := dk_28 (dk_at dksX0_later_0 9 rfl rfl)
theorem dX0_later_10 : decode cX0_later 10 = .ok (.i2l, 1) := dk_133 (dk_at dksX0_later_0 10 rfl rfl)
theorem dX0_later_11 : decode cX0_later 11 = .ok (.lconst 0, 1) := dk_9 (dk_at dksX0_later_0 11 rfl rfl)
theorem dX0_later_12 : decode cX0_later 12 = .ok (.ldc2_w 320, 3) := dk_20 1 64 (dk_at dksX0_later_0 12 rfl rfl)
theorem dX0_later_15 : decode cX0_later 15 = .ok (.invokestatic 95, 3) := dk_184 0 95 (dk_at dksX0_later_0 15 rfl rfl)
theorem dX0_later_18 : decode cX0_later 18 = .ok (.ifCond .ne 6, 3) := dk_154 0 6 (dk_at dksX0_later_0 18 rfl rfl)
theorem dX0_later_21 : decode cX0_later 21 = .ok (.bipush (-2), 2) := dk_16 254 (dk_at dksX0_later_0 21 rfl rfl)
theorem dX0_later_23 : decode cX0_later 23 = .ok (.ireturn, 1) := dk_172 (dk_at dksX0_later_0 23 rfl rfl)
theorem dX0_later_24 : decode cX0_later 24 = .ok (.aload_n 0, 1) := dk_42 (dk_at dksX0_later_1 0 rfl rfl)
theorem dX0_later_25 : decode cX0_later 25 = .ok (.invokevirtual 268, 3) := dk_182 1 12 (dk_at dksX0_later_1 1 rfl rfl)
theorem dX0_later_28 : decode cX0_later 28 = .ok (.aload_n 0, 1) := dk_42 (dk_at dksX0_later_1 4 rfl rfl)
theorem dX0_later_29 : decode cX0_later 29 = .ok (.getfield 24, 3) := dk_180 0 24 (dk_at dksX0_later_1 5 rfl rfl)
theorem dX0_later_32 : decode cX0_later 32 = .ok (.iload_n 1, 1) := dk_27 (dk_at dksX0_later_1 8 rfl rfl)
theorem dX0_later_33 : decode cX0_later 33 = .ok (.dup2, 1) := dk_92 (dk_at dksX0_later_1 9 rfl rfl)
theorem dX0_later_34 : decode cX0_later 34 = .ok (.iaload, 1) := dk_46 (dk_at dksX0_later_1 10 rfl rfl)
theorem dX0_later_35 : decode cX0_later 35 = .ok (.iload_n 2, 1) := dk_28 (dk_at dksX0_later_1 11 rfl rfl)
theorem dX0_later_36 : decode cX0_later 36 = .ok (.iadd, 1) := dk_96 (dk_at dksX0_later_1 12 rfl rfl)
theorem dX0_later_37 : decode cX0_later 37 = .ok (.iastore, 1) := dk_79 (dk_at dksX0_later_1 13 rfl rfl)
theorem dX0_later_38 : decode cX0_later 38 = .ok (.aload_n 0, 1) := dk_42 (dk_at dksX0_later_1 14 rfl rfl)
theorem dX0_later_39 : decode cX0_later 39 = .ok (.invokevirtual 271, 3) := dk_182 1 15 (dk_at dksX0_later_1 15 rfl rfl)
theorem dX0_later_42 : decode cX0_later 42 = .ok (.aload_n 0, 1) := dk_42 (dk_at dksX0_later_1 18 rfl rfl)
theorem dX0_later_43 : decode cX0_later 43 = .ok (.iload_n 1, 1) := dk_27 (dk_at dksX0_later_1 19 rfl rfl)
theorem dX0_later_44 : decode cX0_later 44 = .ok (.invokevirtual 322, 3) := dk_182 1 66 (dk_at dksX0_later_1 20 rfl rfl)
theorem dX0_later_47 : decode cX0_later 47 = .ok (.ireturn, 1) := dk_172 (dk_at dksX0_later_1 23 rfl rfl)
abbrev cX0_lastOf : ByteArray := prog_1_method_37_code
def yX0_lastOf : MethodName := ⟨RX0, "lastOf", "(I)I"⟩
def dkwX0_lastOf_0 : List UInt8 := [42, 27, 42, 180, 0, 10, 180, 0, 133, 182, 1, 24, 172]
abbrev dktX0_lastOf_0 : List UInt8 := dkwX0_lastOf_0 ++ []
theorem dksX0_lastOf_0 : cX0_lastOf.data.toList.drop 0 = dktX0_lastOf_0 := by decide +kernel
theorem dX0_lastOf_0 : decode cX0_lastOf 0 = .ok (.aload_n 0, 1) := dk_42 (dk_at dksX0_lastOf_0 0 rfl rfl)
theorem dX0_lastOf_1 : decode cX0_lastOf 1 = .ok (.iload_n 1, 1) := dk_27 (dk_at dksX0_lastOf_0 1 rfl rfl)
theorem dX0_lastOf_2 : decode cX0_lastOf 2 = .ok (.aload_n 0, 1) := dk_42 (dk_at dksX0_lastOf_0 2 rfl rfl)
theorem dX0_lastOf_3 : decode cX0_lastOf 3 = .ok (.getfield 10, 3) := dk_180 0 10 (dk_at dksX0_lastOf_0 3 rfl rfl)
theorem dX0_lastOf_6 : decode cX0_lastOf 6 = .ok (.getfield 133, 3) := dk_180 0 133 (dk_at dksX0_lastOf_0 6 rfl rfl)
theorem dX0_lastOf_9 : decode cX0_lastOf 9 = .ok (.invokevirtual 280, 3) := dk_182 1 24 (dk_at dksX0_lastOf_0 9 rfl rfl)
theorem dX0_lastOf_12 : decode cX0_lastOf 12 = .ok (.ireturn, 1) := dk_172 (dk_at dksX0_lastOf_0 12 rfl rfl)
abbrev cX0_other : ByteArray := prog_1_method_76_code
def yX0_other : MethodName := ⟨RX0, "other", "(II)I"⟩
def dkwX0_other_1 : List UInt8 := [42, 180, 0, 28, 27, 28, 79, 42, 182, 1, 15, 42, 27, 182, 1, 66, 172]
abbrev dktX0_other_1 : List UInt8 := dkwX0_other_1 ++ []
def dkwX0_other_0 : List UInt8 := [42, 27, 133, 182, 0, 163, 153, 0, 11, 42, 28, 182, 0, 140, 154, 0, 6, 16, 254, 172, 42, 182, 1, 12]
abbrev dktX0_other_0 : List UInt8 := dkwX0_other_0 ++ dktX0_other_1
theorem dksX0_other_0 : cX0_other.data.toList.drop 0 = dktX0_other_0 := by decide +kernel
theorem dksX0_other_1 : cX0_other.data.toList.drop 24 = dktX0_other_1 := dk_seg dksX0_other_0 24 rfl rfl
theorem dX0_other_0 : decode cX0_other 0 = .ok (.aload_n 0, 1) := dk_42 (dk_at dksX0_other_0 0 rfl rfl)
theorem dX0_other_1 : decode cX0_other 1 = .ok (.iload_n 1, 1) := dk_27 (dk_at dksX0_other_0 1 rfl rfl)
theorem dX0_other_2 : decode cX0_other 2 = .ok (.i2l, 1) := dk_133 (dk_at dksX0_other_0 2 rfl rfl)
theorem dX0_other_3 : decode cX0_other 3 = .ok (.invokevirtual 163, 3) := dk_182 0 163 (dk_at dksX0_other_0 3 rfl rfl)
theorem dX0_other_6 : decode cX0_other 6 = .ok (.ifCond .eq 11, 3) := dk_153 0 11 (dk_at dksX0_other_0 6 rfl rfl)
theorem dX0_other_9 : decode cX0_other 9 = .ok (.aload_n 0, 1) := dk_42 (dk_at dksX0_other_0 9 rfl rfl)
theorem dX0_other_10 : decode cX0_other 10 = .ok (.iload_n 2, 1) := dk_28 (dk_at dksX0_other_0 10 rfl rfl)
theorem dX0_other_11 : decode cX0_other 11 = .ok (.invokevirtual 140, 3) := dk_182 0 140 (dk_at dksX0_other_0 11 rfl rfl)
theorem dX0_other_14 : decode cX0_other 14 = .ok (.ifCond .ne 6, 3) := dk_154 0 6 (dk_at dksX0_other_0 14 rfl rfl)
theorem dX0_other_17 : decode cX0_other 17 = .ok (.bipush (-2), 2) := dk_16 254 (dk_at dksX0_other_0 17 rfl rfl)
theorem dX0_other_19 : decode cX0_other 19 = .ok (.ireturn, 1) := dk_172 (dk_at dksX0_other_0 19 rfl rfl)
theorem dX0_other_20 : decode cX0_other 20 = .ok (.aload_n 0, 1) := dk_42 (dk_at dksX0_other_0 20 rfl rfl)
theorem dX0_other_21 : decode cX0_other 21 = .ok (.invokevirtual 268, 3) := dk_182 1 12 (dk_at dksX0_other_0 21 rfl rfl)
theorem dX0_other_24 : decode cX0_other 24 = .ok (.aload_n 0, 1) := dk_42 (dk_at dksX0_other_1 0 rfl rfl)
theorem dX0_other_25 : decode cX0_other 25 = .ok (.getfield 28, 3) := dk_180 0 28 (dk_at dksX0_other_1 1 rfl rfl)
theorem dX0_other_28 : decode cX0_other 28 = .ok (.iload_n 1, 1) := dk_27 (dk_at dksX0_other_1 4 rfl rfl)
theorem dX0_other_29 : decode cX0_other 29 = .ok (.iload_n 2, 1) := dk_28 (dk_at dksX0_other_1 5 rfl rfl)
theorem dX0_other_30 : decode cX0_other 30 = .ok (.iastore, 1) := dk_79 (dk_at dksX0_other_1 6 rfl rfl)
theorem dX0_other_31 : decode cX0_other 31 = .ok (.aload_n 0, 1) := dk_42 (dk_at dksX0_other_1 7 rfl rfl)
theorem dX0_other_32 : decode cX0_other 32 = .ok (.invokevirtual 271, 3) := dk_182 1 15 (dk_at dksX0_other_1 8 rfl rfl)
theorem dX0_other_35 : decode cX0_other 35 = .ok (.aload_n 0, 1) := dk_42 (dk_at dksX0_other_1 11 rfl rfl)
theorem dX0_other_36 : decode cX0_other 36 = .ok (.iload_n 1, 1) := dk_27 (dk_at dksX0_other_1 12 rfl rfl)
theorem dX0_other_37 : decode cX0_other 37 = .ok (.invokevirtual 322, 3) := dk_182 1 66 (dk_at dksX0_other_1 13 rfl rfl)
theorem dX0_other_40 : decode cX0_other 40 = .ok (.ireturn, 1) := dk_172 (dk_at dksX0_other_1 16 rfl rfl)
abbrev cX0_lies : ByteArray := prog_1_method_79_code
def yX0_lies : MethodName := ⟨RX0, "lies", "()I"⟩
def dkwX0_lies_2 : List UInt8 := [159, 0, 9, 4, 28, 120, 167, 0, 4, 3, 128, 60, 132, 2, 1, 167, 255, 211, 27, 172]
abbrev dktX0_lies_2 : List UInt8 := dkwX0_lies_2 ++ []
def dkwX0_lies_1 : List UInt8 := [162, 0, 40, 27, 42, 180, 0, 10, 180, 0, 176, 28, 46, 42, 180, 0, 10, 180, 0, 173, 28, 46]
abbrev dktX0_lies_1 : List UInt8 := dkwX0_lies_1 ++ dktX0_lies_2
def dkwX0_lies_0 : List UInt8 := [42, 182, 0, 129, 154, 0, 6, 16, 254, 172, 3, 60, 3, 61, 28, 42, 180, 0, 10, 180, 0, 126]
abbrev dktX0_lies_0 : List UInt8 := dkwX0_lies_0 ++ dktX0_lies_1
theorem dksX0_lies_0 : cX0_lies.data.toList.drop 0 = dktX0_lies_0 := by decide +kernel
theorem dksX0_lies_1 : cX0_lies.data.toList.drop 22 = dktX0_lies_1 := dk_seg dksX0_lies_0 22 rfl rfl
theorem dksX0_lies_2 : cX0_lies.data.toList.drop 44 = dktX0_lies_2 := dk_seg dksX0_lies_1 22 rfl rfl
theorem dX0_lies_0 : decode cX0_lies 0 = .ok (.aload_n 0, 1) := dk_42 (dk_at dksX0_lies_0 0 rfl rfl)
theorem dX0_lies_1 : decode cX0_lies 1 = .ok (.invokevirtual 129, 3) := dk_182 0 129 (dk_at dksX0_lies_0 1 rfl rfl)
theorem dX0_lies_4 : decode cX0_lies 4 = .ok (.ifCond .ne 6, 3) := dk_154 0 6 (dk_at dksX0_lies_0 4 rfl rfl)
theorem dX0_lies_7 : decode cX0_lies 7 = .ok (.bipush (-2), 2) := dk_16 254 (dk_at dksX0_lies_0 7 rfl rfl)
theorem dX0_lies_9 : decode cX0_lies 9 = .ok (.ireturn, 1) := dk_172 (dk_at dksX0_lies_0 9 rfl rfl)
theorem dX0_lies_10 : decode cX0_lies 10 = .ok (.iconst 0, 1) := dk_3 (dk_at dksX0_lies_0 10 rfl rfl)
theorem dX0_lies_11 : decode cX0_lies 11 = .ok (.istore_n 1, 1) := dk_60 (dk_at dksX0_lies_0 11 rfl rfl)
theorem dX0_lies_12 : decode cX0_lies 12 = .ok (.iconst 0, 1) := dk_3 (dk_at dksX0_lies_0 12 rfl rfl)
theorem dX0_lies_13 : decode cX0_lies 13 = .ok (.istore_n 2, 1) := dk_61 (dk_at dksX0_lies_0 13 rfl rfl)
theorem dX0_lies_14 : decode cX0_lies 14 = .ok (.iload_n 2, 1) := dk_28 (dk_at dksX0_lies_0 14 rfl rfl)
theorem dX0_lies_15 : decode cX0_lies 15 = .ok (.aload_n 0, 1) := dk_42 (dk_at dksX0_lies_0 15 rfl rfl)
theorem dX0_lies_16 : decode cX0_lies 16 = .ok (.getfield 10, 3) := dk_180 0 10 (dk_at dksX0_lies_0 16 rfl rfl)
theorem dX0_lies_19 : decode cX0_lies 19 = .ok (.getfield 126, 3) := dk_180 0 126 (dk_at dksX0_lies_0 19 rfl rfl)
theorem dX0_lies_22 : decode cX0_lies 22 = .ok (.if_icmp .ge 40, 3) := dk_162 0 40 (dk_at dksX0_lies_1 0 rfl rfl)
theorem dX0_lies_25 : decode cX0_lies 25 = .ok (.iload_n 1, 1) := dk_27 (dk_at dksX0_lies_1 3 rfl rfl)
theorem dX0_lies_26 : decode cX0_lies 26 = .ok (.aload_n 0, 1) := dk_42 (dk_at dksX0_lies_1 4 rfl rfl)
theorem dX0_lies_27 : decode cX0_lies 27 = .ok (.getfield 10, 3) := dk_180 0 10 (dk_at dksX0_lies_1 5 rfl rfl)
theorem dX0_lies_30 : decode cX0_lies 30 = .ok (.getfield 176, 3) := dk_180 0 176 (dk_at dksX0_lies_1 8 rfl rfl)
theorem dX0_lies_33 : decode cX0_lies 33 = .ok (.iload_n 2, 1) := dk_28 (dk_at dksX0_lies_1 11 rfl rfl)
theorem dX0_lies_34 : decode cX0_lies 34 = .ok (.iaload, 1) := dk_46 (dk_at dksX0_lies_1 12 rfl rfl)
theorem dX0_lies_35 : decode cX0_lies 35 = .ok (.aload_n 0, 1) := dk_42 (dk_at dksX0_lies_1 13 rfl rfl)
theorem dX0_lies_36 : decode cX0_lies 36 = .ok (.getfield 10, 3) := dk_180 0 10 (dk_at dksX0_lies_1 14 rfl rfl)
theorem dX0_lies_39 : decode cX0_lies 39 = .ok (.getfield 173, 3) := dk_180 0 173 (dk_at dksX0_lies_1 17 rfl rfl)
theorem dX0_lies_42 : decode cX0_lies 42 = .ok (.iload_n 2, 1) := dk_28 (dk_at dksX0_lies_1 20 rfl rfl)
theorem dX0_lies_43 : decode cX0_lies 43 = .ok (.iaload, 1) := dk_46 (dk_at dksX0_lies_1 21 rfl rfl)
theorem dX0_lies_44 : decode cX0_lies 44 = .ok (.if_icmp .eq 9, 3) := dk_159 0 9 (dk_at dksX0_lies_2 0 rfl rfl)
theorem dX0_lies_47 : decode cX0_lies 47 = .ok (.iconst 1, 1) := dk_4 (dk_at dksX0_lies_2 3 rfl rfl)
theorem dX0_lies_48 : decode cX0_lies 48 = .ok (.iload_n 2, 1) := dk_28 (dk_at dksX0_lies_2 4 rfl rfl)
theorem dX0_lies_49 : decode cX0_lies 49 = .ok (.ishl, 1) := dk_120 (dk_at dksX0_lies_2 5 rfl rfl)
theorem dX0_lies_50 : decode cX0_lies 50 = .ok (.goto 4, 3) := dk_167 0 4 (dk_at dksX0_lies_2 6 rfl rfl)
theorem dX0_lies_53 : decode cX0_lies 53 = .ok (.iconst 0, 1) := dk_3 (dk_at dksX0_lies_2 9 rfl rfl)
theorem dX0_lies_54 : decode cX0_lies 54 = .ok (.ior, 1) := dk_128 (dk_at dksX0_lies_2 10 rfl rfl)
theorem dX0_lies_55 : decode cX0_lies 55 = .ok (.istore_n 1, 1) := dk_60 (dk_at dksX0_lies_2 11 rfl rfl)
theorem dX0_lies_56 : decode cX0_lies 56 = .ok (.iinc 2 1, 3) := dk_132 2 1 (dk_at dksX0_lies_2 12 rfl rfl)
theorem dX0_lies_59 : decode cX0_lies 59 = .ok (.goto (-45), 3) := dk_167 255 211 (dk_at dksX0_lies_2 15 rfl rfl)
theorem dX0_lies_62 : decode cX0_lies 62 = .ok (.iload_n 1, 1) := dk_27 (dk_at dksX0_lies_2 18 rfl rfl)
theorem dX0_lies_63 : decode cX0_lies 63 = .ok (.ireturn, 1) := dk_172 (dk_at dksX0_lies_2 19 rfl rfl)
abbrev cX0_passes : ByteArray := prog_1_method_80_code
def yX0_passes : MethodName := ⟨RX0, "passes", "(II)I"⟩
def dkwX0_passes_1 : List UInt8 := [167, 0, 5, 16, 254, 172]
abbrev dktX0_passes_1 : List UInt8 := dkwX0_passes_1 ++ []
def dkwX0_passes_0 : List UInt8 := [42, 28, 182, 1, 27, 153, 0, 21, 42, 27, 133, 182, 0, 163, 153, 0, 12, 42, 27, 28, 182, 1, 61]
abbrev dktX0_passes_0 : List UInt8 := dkwX0_passes_0 ++ dktX0_passes_1
theorem dksX0_passes_0 : cX0_passes.data.toList.drop 0 = dktX0_passes_0 := by decide +kernel
theorem dksX0_passes_1 : cX0_passes.data.toList.drop 23 = dktX0_passes_1 := dk_seg dksX0_passes_0 23 rfl rfl
theorem dX0_passes_0 : decode cX0_passes 0 = .ok (.aload_n 0, 1) := dk_42 (dk_at dksX0_passes_0 0 rfl rfl)
theorem dX0_passes_1 : decode cX0_passes 1 = .ok (.iload_n 2, 1) := dk_28 (dk_at dksX0_passes_0 1 rfl rfl)
theorem dX0_passes_2 : decode cX0_passes 2 = .ok (.invokevirtual 283, 3) := dk_182 1 27 (dk_at dksX0_passes_0 2 rfl rfl)
theorem dX0_passes_5 : decode cX0_passes 5 = .ok (.ifCond .eq 21, 3) := dk_153 0 21 (dk_at dksX0_passes_0 5 rfl rfl)
theorem dX0_passes_8 : decode cX0_passes 8 = .ok (.aload_n 0, 1) := dk_42 (dk_at dksX0_passes_0 8 rfl rfl)
theorem dX0_passes_9 : decode cX0_passes 9 = .ok (.iload_n 1, 1) := dk_27 (dk_at dksX0_passes_0 9 rfl rfl)
theorem dX0_passes_10 : decode cX0_passes 10 = .ok (.i2l, 1) := dk_133 (dk_at dksX0_passes_0 10 rfl rfl)
theorem dX0_passes_11 : decode cX0_passes 11 = .ok (.invokevirtual 163, 3) := dk_182 0 163 (dk_at dksX0_passes_0 11 rfl rfl)
theorem dX0_passes_14 : decode cX0_passes 14 = .ok (.ifCond .eq 12, 3) := dk_153 0 12 (dk_at dksX0_passes_0 14 rfl rfl)
theorem dX0_passes_17 : decode cX0_passes 17 = .ok (.aload_n 0, 1) := dk_42 (dk_at dksX0_passes_0 17 rfl rfl)
theorem dX0_passes_18 : decode cX0_passes 18 = .ok (.iload_n 1, 1) := dk_27 (dk_at dksX0_passes_0 18 rfl rfl)
theorem dX0_passes_19 : decode cX0_passes 19 = .ok (.iload_n 2, 1) := dk_28 (dk_at dksX0_passes_0 19 rfl rfl)
theorem dX0_passes_20 : decode cX0_passes 20 = .ok (.invokevirtual 317, 3) := dk_182 1 61 (dk_at dksX0_passes_0 20 rfl rfl)
theorem dX0_passes_23 : decode cX0_passes 23 = .ok (.goto 5, 3) := dk_167 0 5 (dk_at dksX0_passes_1 0 rfl rfl)
theorem dX0_passes_26 : decode cX0_passes 26 = .ok (.bipush (-2), 2) := dk_16 254 (dk_at dksX0_passes_1 3 rfl rfl)
theorem dX0_passes_28 : decode cX0_passes 28 = .ok (.ireturn, 1) := dk_172 (dk_at dksX0_passes_1 5 rfl rfl)
abbrev cX0_suspects : ByteArray := prog_1_method_81_code
def yX0_suspects : MethodName := ⟨RX0, "suspects", "(I)I"⟩
def dkwX0_suspects_2 : List UInt8 := [120, 167, 0, 4, 3, 128, 61, 132, 3, 1, 167, 255, 214, 28, 172]
abbrev dktX0_suspects_2 : List UInt8 := dkwX0_suspects_2 ++ []
def dkwX0_suspects_1 : List UInt8 := [162, 0, 37, 28, 42, 29, 27, 182, 0, 243, 153, 0, 18, 42, 29, 27, 182, 1, 61, 154, 0, 9, 4, 29]
abbrev dktX0_suspects_1 : List UInt8 := dkwX0_suspects_1 ++ dktX0_suspects_2
def dkwX0_suspects_0 : List UInt8 := [42, 27, 182, 1, 27, 154, 0, 6, 16, 254, 172, 3, 61, 3, 62, 29, 42, 180, 0, 10, 180, 0, 126]
abbrev dktX0_suspects_0 : List UInt8 := dkwX0_suspects_0 ++ dktX0_suspects_1
theorem dksX0_suspects_0 : cX0_suspects.data.toList.drop 0 = dktX0_suspects_0 := by decide +kernel
theorem dksX0_suspects_1 : cX0_suspects.data.toList.drop 23 = dktX0_suspects_1 := dk_seg dksX0_suspects_0 23 rfl rfl
theorem dksX0_suspects_2 : cX0_suspects.data.toList.drop 47 = dktX0_suspects_2 := dk_seg dksX0_suspects_1 24 rfl rfl
theorem dX0_suspects_0 : decode cX0_suspects 0 = .ok (.aload_n 0, 1) := dk_42 (dk_at dksX0_suspects_0 0 rfl rfl)
theorem dX0_suspects_1 : decode cX0_suspects 1 = .ok (.iload_n 1, 1) := dk_27 (dk_at dksX0_suspects_0 1 rfl rfl)
theorem dX0_suspects_2 : decode cX0_suspects 2 = .ok (.invokevirtual 283, 3) := dk_182 1 27 (dk_at dksX0_suspects_0 2 rfl rfl)
theorem dX0_suspects_5 : decode cX0_suspects 5 = .ok (.ifCond .ne 6, 3) := dk_154 0 6 (dk_at dksX0_suspects_0 5 rfl rfl)
theorem dX0_suspects_8 : decode cX0_suspects 8 = .ok (.bipush (-2), 2) := dk_16 254 (dk_at dksX0_suspects_0 8 rfl rfl)
theorem dX0_suspects_10 : decode cX0_suspects 10 = .ok (.ireturn, 1) := dk_172 (dk_at dksX0_suspects_0 10 rfl rfl)
theorem dX0_suspects_11 : decode cX0_suspects 11 = .ok (.iconst 0, 1) := dk_3 (dk_at dksX0_suspects_0 11 rfl rfl)
theorem dX0_suspects_12 : decode cX0_suspects 12 = .ok (.istore_n 2, 1) := dk_61 (dk_at dksX0_suspects_0 12 rfl rfl)
theorem dX0_suspects_13 : decode cX0_suspects 13 = .ok (.iconst 0, 1) := dk_3 (dk_at dksX0_suspects_0 13 rfl rfl)
theorem dX0_suspects_14 : decode cX0_suspects 14 = .ok (.istore_n 3, 1) := dk_62 (dk_at dksX0_suspects_0 14 rfl rfl)
theorem dX0_suspects_15 : decode cX0_suspects 15 = .ok (.iload_n 3, 1) := dk_29 (dk_at dksX0_suspects_0 15 rfl rfl)
theorem dX0_suspects_16 : decode cX0_suspects 16 = .ok (.aload_n 0, 1) := dk_42 (dk_at dksX0_suspects_0 16 rfl rfl)
theorem dX0_suspects_17 : decode cX0_suspects 17 = .ok (.getfield 10, 3) := dk_180 0 10 (dk_at dksX0_suspects_0 17 rfl rfl)
theorem dX0_suspects_20 : decode cX0_suspects 20 = .ok (.getfield 126, 3) := dk_180 0 126 (dk_at dksX0_suspects_0 20 rfl rfl)
theorem dX0_suspects_23 : decode cX0_suspects 23 = .ok (.if_icmp .ge 37, 3) := dk_162 0 37 (dk_at dksX0_suspects_1 0 rfl rfl)
theorem dX0_suspects_26 : decode cX0_suspects 26 = .ok (.iload_n 2, 1) := dk_28 (dk_at dksX0_suspects_1 3 rfl rfl)
theorem dX0_suspects_27 : decode cX0_suspects 27 = .ok (.aload_n 0, 1) := dk_42 (dk_at dksX0_suspects_1 4 rfl rfl)
theorem dX0_suspects_28 : decode cX0_suspects 28 = .ok (.iload_n 3, 1) := dk_29 (dk_at dksX0_suspects_1 5 rfl rfl)
theorem dX0_suspects_29 : decode cX0_suspects 29 = .ok (.iload_n 1, 1) := dk_27 (dk_at dksX0_suspects_1 6 rfl rfl)
theorem dX0_suspects_30 : decode cX0_suspects 30 = .ok (.invokevirtual 243, 3) := dk_182 0 243 (dk_at dksX0_suspects_1 7 rfl rfl)
theorem dX0_suspects_33 : decode cX0_suspects 33 = .ok (.ifCond .eq 18, 3) := dk_153 0 18 (dk_at dksX0_suspects_1 10 rfl rfl)
theorem dX0_suspects_36 : decode cX0_suspects 36 = .ok (.aload_n 0, 1) := dk_42 (dk_at dksX0_suspects_1 13 rfl rfl)
theorem dX0_suspects_37 : decode cX0_suspects 37 = .ok (.iload_n 3, 1) := dk_29 (dk_at dksX0_suspects_1 14 rfl rfl)
theorem dX0_suspects_38 : decode cX0_suspects 38 = .ok (.iload_n 1, 1) := dk_27 (dk_at dksX0_suspects_1 15 rfl rfl)
theorem dX0_suspects_39 : decode cX0_suspects 39 = .ok (.invokevirtual 317, 3) := dk_182 1 61 (dk_at dksX0_suspects_1 16 rfl rfl)
theorem dX0_suspects_42 : decode cX0_suspects 42 = .ok (.ifCond .ne 9, 3) := dk_154 0 9 (dk_at dksX0_suspects_1 19 rfl rfl)
theorem dX0_suspects_45 : decode cX0_suspects 45 = .ok (.iconst 1, 1) := dk_4 (dk_at dksX0_suspects_1 22 rfl rfl)
theorem dX0_suspects_46 : decode cX0_suspects 46 = .ok (.iload_n 3, 1) := dk_29 (dk_at dksX0_suspects_1 23 rfl rfl)
theorem dX0_suspects_47 : decode cX0_suspects 47 = .ok (.ishl, 1) := dk_120 (dk_at dksX0_suspects_2 0 rfl rfl)
theorem dX0_suspects_48 : decode cX0_suspects 48 = .ok (.goto 4, 3) := dk_167 0 4 (dk_at dksX0_suspects_2 1 rfl rfl)
theorem dX0_suspects_51 : decode cX0_suspects 51 = .ok (.iconst 0, 1) := dk_3 (dk_at dksX0_suspects_2 4 rfl rfl)
theorem dX0_suspects_52 : decode cX0_suspects 52 = .ok (.ior, 1) := dk_128 (dk_at dksX0_suspects_2 5 rfl rfl)
theorem dX0_suspects_53 : decode cX0_suspects 53 = .ok (.istore_n 2, 1) := dk_61 (dk_at dksX0_suspects_2 6 rfl rfl)
theorem dX0_suspects_54 : decode cX0_suspects 54 = .ok (.iinc 3 1, 3) := dk_132 3 1 (dk_at dksX0_suspects_2 7 rfl rfl)
theorem dX0_suspects_57 : decode cX0_suspects 57 = .ok (.goto (-42), 3) := dk_167 255 214 (dk_at dksX0_suspects_2 10 rfl rfl)
theorem dX0_suspects_60 : decode cX0_suspects 60 = .ok (.iload_n 2, 1) := dk_28 (dk_at dksX0_suspects_2 13 rfl rfl)
theorem dX0_suspects_61 : decode cX0_suspects 61 = .ok (.ireturn, 1) := dk_172 (dk_at dksX0_suspects_2 14 rfl rfl)
abbrev cX0_betrayed : ByteArray := prog_1_method_82_code
def yX0_betrayed : MethodName := ⟨RX0, "betrayed", "(I)I"⟩
def dkwX0_betrayed_2 : List UInt8 := [167, 255, 222, 2, 172]
abbrev dktX0_betrayed_2 : List UInt8 := dkwX0_betrayed_2 ++ []
def dkwX0_betrayed_1 : List UInt8 := [42, 27, 28, 182, 0, 243, 153, 0, 14, 42, 27, 28, 182, 1, 61, 154, 0, 5, 28, 172, 132, 2, 1]
abbrev dktX0_betrayed_1 : List UInt8 := dkwX0_betrayed_1 ++ dktX0_betrayed_2
def dkwX0_betrayed_0 : List UInt8 := [42, 27, 182, 1, 33, 154, 0, 6, 16, 254, 172, 3, 61, 28, 42, 180, 0, 10, 180, 0, 133, 163, 0, 29]
abbrev dktX0_betrayed_0 : List UInt8 := dkwX0_betrayed_0 ++ dktX0_betrayed_1
theorem dksX0_betrayed_0 : cX0_betrayed.data.toList.drop 0 = dktX0_betrayed_0 := by decide +kernel
theorem dksX0_betrayed_1 : cX0_betrayed.data.toList.drop 24 = dktX0_betrayed_1 := dk_seg dksX0_betrayed_0 24 rfl rfl
theorem dksX0_betrayed_2 : cX0_betrayed.data.toList.drop 47 = dktX0_betrayed_2 := dk_seg dksX0_betrayed_1 23 rfl rfl
theorem dX0_betrayed_0 : decode cX0_betrayed 0 = .ok (.aload_n 0, 1) := dk_42 (dk_at dksX0_betrayed_0 0 rfl rfl)
theorem dX0_betrayed_1 : decode cX0_betrayed 1 = .ok (.iload_n 1, 1) := dk_27 (dk_at dksX0_betrayed_0 1 rfl rfl)
theorem dX0_betrayed_2 : decode cX0_betrayed 2 = .ok (.invokevirtual 289, 3) := dk_182 1 33 (dk_at dksX0_betrayed_0 2 rfl rfl)
theorem dX0_betrayed_5 : decode cX0_betrayed 5 = .ok (.ifCond .ne 6, 3) := dk_154 0 6 (dk_at dksX0_betrayed_0 5 rfl rfl)
theorem dX0_betrayed_8 : decode cX0_betrayed 8 = .ok (.bipush (-2), 2) := dk_16 254 (dk_at dksX0_betrayed_0 8 rfl rfl)
theorem dX0_betrayed_10 : decode cX0_betrayed 10 = .ok (.ireturn, 1) := dk_172 (dk_at dksX0_betrayed_0 10 rfl rfl)
theorem dX0_betrayed_11 : decode cX0_betrayed 11 = .ok (.iconst 0, 1) := dk_3 (dk_at dksX0_betrayed_0 11 rfl rfl)
theorem dX0_betrayed_12 : decode cX0_betrayed 12 = .ok (.istore_n 2, 1) := dk_61 (dk_at dksX0_betrayed_0 12 rfl rfl)
theorem dX0_betrayed_13 : decode cX0_betrayed 13 = .ok (.iload_n 2, 1) := dk_28 (dk_at dksX0_betrayed_0 13 rfl rfl)
theorem dX0_betrayed_14 : decode cX0_betrayed 14 = .ok (.aload_n 0, 1) := dk_42 (dk_at dksX0_betrayed_0 14 rfl rfl)
theorem dX0_betrayed_15 : decode cX0_betrayed 15 = .ok (.getfield 10, 3) := dk_180 0 10 (dk_at dksX0_betrayed_0 15 rfl rfl)
theorem dX0_betrayed_18 : decode cX0_betrayed 18 = .ok (.getfield 133, 3) := dk_180 0 133 (dk_at dksX0_betrayed_0 18 rfl rfl)
theorem dX0_betrayed_21 : decode cX0_betrayed 21 = .ok (.if_icmp .gt 29, 3) := dk_163 0 29 (dk_at dksX0_betrayed_0 21 rfl rfl)
theorem dX0_betrayed_24 : decode cX0_betrayed 24 = .ok (.aload_n 0, 1) := dk_42 (dk_at dksX0_betrayed_1 0 rfl rfl)
theorem dX0_betrayed_25 : decode cX0_betrayed 25 = .ok (.iload_n 1, 1) := dk_27 (dk_at dksX0_betrayed_1 1 rfl rfl)
theorem dX0_betrayed_26 : decode cX0_betrayed 26 = .ok (.iload_n 2, 1) := dk_28 (dk_at dksX0_betrayed_1 2 rfl rfl)
theorem dX0_betrayed_27 : decode cX0_betrayed 27 = .ok (.invokevirtual 243, 3) := dk_182 0 243 (dk_at dksX0_betrayed_1 3 rfl rfl)
theorem dX0_betrayed_30 : decode cX0_betrayed 30 = .ok (.ifCond .eq 14, 3) := dk_153 0 14 (dk_at dksX0_betrayed_1 6 rfl rfl)
theorem dX0_betrayed_33 : decode cX0_betrayed 33 = .ok (.aload_n 0, 1) := dk_42 (dk_at dksX0_betrayed_1 9 rfl rfl)
theorem dX0_betrayed_34 : decode cX0_betrayed 34 = .ok (.iload_n 1, 1) := dk_27 (dk_at dksX0_betrayed_1 10 rfl rfl)
theorem dX0_betrayed_35 : decode cX0_betrayed 35 = .ok (.iload_n 2, 1) := dk_28 (dk_at dksX0_betrayed_1 11 rfl rfl)
theorem dX0_betrayed_36 : decode cX0_betrayed 36 = .ok (.invokevirtual 317, 3) := dk_182 1 61 (dk_at dksX0_betrayed_1 12 rfl rfl)
theorem dX0_betrayed_39 : decode cX0_betrayed 39 = .ok (.ifCond .ne 5, 3) := dk_154 0 5 (dk_at dksX0_betrayed_1 15 rfl rfl)
theorem dX0_betrayed_42 : decode cX0_betrayed 42 = .ok (.iload_n 2, 1) := dk_28 (dk_at dksX0_betrayed_1 18 rfl rfl)
theorem dX0_betrayed_43 : decode cX0_betrayed 43 = .ok (.ireturn, 1) := dk_172 (dk_at dksX0_betrayed_1 19 rfl rfl)
theorem dX0_betrayed_44 : decode cX0_betrayed 44 = .ok (.iinc 2 1, 3) := dk_132 2 1 (dk_at dksX0_betrayed_1 20 rfl rfl)
theorem dX0_betrayed_47 : decode cX0_betrayed 47 = .ok (.goto (-34), 3) := dk_167 255 222 (dk_at dksX0_betrayed_2 0 rfl rfl)
theorem dX0_betrayed_50 : decode cX0_betrayed 50 = .ok (.iconst (-1), 1) := dk_2 (dk_at dksX0_betrayed_2 3 rfl rfl)
theorem dX0_betrayed_51 : decode cX0_betrayed 51 = .ok (.ireturn, 1) := dk_172 (dk_at dksX0_betrayed_2 4 rfl rfl)
abbrev cX0_ages : ByteArray := prog_1_method_83_code
def yX0_ages : MethodName := ⟨RX0, "ages", "(IIII)I"⟩
def dkwX0_ages_4 : List UInt8 := [21, 5, 172]
abbrev dktX0_ages_4 : List UInt8 := dkwX0_ages_4 ++ []
def dkwX0_ages_3 : List UInt8 := [182, 1, 69, 29, 160, 0, 10, 4, 21, 6, 120, 167, 0, 4, 3, 128, 54, 5, 132, 6, 1, 167, 255, 214]
abbrev dktX0_ages_3 : List UInt8 := dkwX0_ages_3 ++ dktX0_ages_4
def dkwX0_ages_2 : List UInt8 := [54, 6, 21, 6, 42, 180, 0, 10, 180, 0, 133, 163, 0, 36, 21, 5, 42, 28, 27, 21, 6, 21, 4]
abbrev dktX0_ages_2 : List UInt8 := dkwX0_ages_2 ++ dktX0_ages_3
def dkwX0_ages_1 : List UInt8 := [184, 0, 95, 153, 0, 13, 42, 21, 4, 133, 182, 1, 21, 154, 0, 6, 16, 254, 172, 3, 54, 5, 3]
abbrev dktX0_ages_1 : List UInt8 := dkwX0_ages_1 ++ dktX0_ages_2
def dkwX0_ages_0 : List UInt8 := [42, 27, 182, 0, 140, 153, 0, 33, 42, 28, 182, 0, 157, 153, 0, 25, 29, 133, 10, 20, 1, 73]
abbrev dktX0_ages_0 : List UInt8 := dkwX0_ages_0 ++ dktX0_ages_1
theorem dksX0_ages_0 : cX0_ages.data.toList.drop 0 = dktX0_ages_0 := by decide +kernel
theorem dksX0_ages_1 : cX0_ages.data.toList.drop 22 = dktX0_ages_1 := dk_seg dksX0_ages_0 22 rfl rfl
theorem dksX0_ages_2 : cX0_ages.data.toList.drop 45 = dktX0_ages_2 := dk_seg dksX0_ages_1 23 rfl rfl
theorem dksX0_ages_3 : cX0_ages.data.toList.drop 68 = dktX0_ages_3 := dk_seg dksX0_ages_2 23 rfl rfl
theorem dksX0_ages_4 : cX0_ages.data.toList.drop 92 = dktX0_ages_4 := dk_seg dksX0_ages_3 24 rfl rfl
theorem dX0_ages_0 : decode cX0_ages 0 = .ok (.aload_n 0, 1) := dk_42 (dk_at dksX0_ages_0 0 rfl rfl)
theorem dX0_ages_1 : decode cX0_ages 1 = .ok (.iload_n 1, 1) := dk_27 (dk_at dksX0_ages_0 1 rfl rfl)
theorem dX0_ages_2 : decode cX0_ages 2 = .ok (.invokevirtual 140, 3) := dk_182 0 140 (dk_at dksX0_ages_0 2 rfl rfl)
theorem dX0_ages_5 : decode cX0_ages 5 = .ok (.ifCond .eq 33, 3) := dk_153 0 33 (dk_at dksX0_ages_0 5 rfl rfl)
theorem dX0_ages_8 : decode cX0_ages 8 = .ok (.aload_n 0, 1) := dk_42 (dk_at dksX0_ages_0 8 rfl rfl)
theorem dX0_ages_9 : decode cX0_ages 9 = .ok (.iload_n 2, 1) := dk_28 (dk_at dksX0_ages_0 9 rfl rfl)
theorem dX0_ages_10 : decode cX0_ages 10 = .ok (.invokevirtual 157, 3) := dk_182 0 157 (dk_at dksX0_ages_0 10 rfl rfl)
theorem dX0_ages_13 : decode cX0_ages 13 = .ok (.ifCond .eq 25, 3) := dk_153 0 25 (dk_at dksX0_ages_0 13 rfl rfl)
theorem dX0_ages_16 : decode cX0_ages 16 = .ok (.iload_n 3, 1) := dk_29 (dk_at dksX0_ages_0 16 rfl rfl)
theorem dX0_ages_17 : decode cX0_ages 17 = .ok (.i2l, 1) := dk_133 (dk_at dksX0_ages_0 17 rfl rfl)
theorem dX0_ages_18 : decode cX0_ages 18 = .ok (.lconst 1, 1) := dk_10 (dk_at dksX0_ages_0 18 rfl rfl)
theorem dX0_ages_19 : decode cX0_ages 19 = .ok (.ldc2_w 329, 3) := dk_20 1 73 (dk_at dksX0_ages_0 19 rfl rfl)
theorem dX0_ages_22 : decode cX0_ages 22 = .ok (.invokestatic 95, 3) := dk_184 0 95 (dk_at dksX0_ages_1 0 rfl rfl)
theorem dX0_ages_25 : decode cX0_ages 25 = .ok (.ifCond .eq 13, 3) := dk_153 0 13 (dk_at dksX0_ages_1 3 rfl rfl)
theorem dX0_ages_28 : decode cX0_ages 28 = .ok (.aload_n 0, 1) := dk_42 (dk_at dksX0_ages_1 6 rfl rfl)
theorem dX0_ages_29 : decode cX0_ages 29 = .ok (.iload 4, 2) := dk_21 4 (dk_at dksX0_ages_1 7 rfl rfl)
theorem dX0_ages_31 : decode cX0_ages 31 = .ok (.i2l, 1) := dk_133 (dk_at dksX0_ages_1 9 rfl rfl)
theorem dX0_ages_32 : decode cX0_ages 32 = .ok (.invokevirtual 277, 3) := dk_182 1 21 (dk_at dksX0_ages_1 10 rfl rfl)
theorem dX0_ages_35 : decode cX0_ages 35 = .ok (.ifCond .ne 6, 3) := dk_154 0 6 (dk_at dksX0_ages_1 13 rfl rfl)
theorem dX0_ages_38 : decode cX0_ages 38 = .ok (.bipush (-2), 2) := dk_16 254 (dk_at dksX0_ages_1 16 rfl rfl)
theorem dX0_ages_40 : decode cX0_ages 40 = .ok (.ireturn, 1) := dk_172 (dk_at dksX0_ages_1 18 rfl rfl)
theorem dX0_ages_41 : decode cX0_ages 41 = .ok (.iconst 0, 1) := dk_3 (dk_at dksX0_ages_1 19 rfl rfl)
theorem dX0_ages_42 : decode cX0_ages 42 = .ok (.istore 5, 2) := dk_54 5 (dk_at dksX0_ages_1 20 rfl rfl)
theorem dX0_ages_44 : decode cX0_ages 44 = .ok (.iconst 0, 1) := dk_3 (dk_at dksX0_ages_1 22 rfl rfl)
theorem dX0_ages_45 : decode cX0_ages 45 = .ok (.istore 6, 2) := dk_54 6 (dk_at dksX0_ages_2 0 rfl rfl)
theorem dX0_ages_47 : decode cX0_ages 47 = .ok (.iload 6, 2) := dk_21 6 (dk_at dksX0_ages_2 2 rfl rfl)
theorem dX0_ages_49 : decode cX0_ages 49 = .ok (.aload_n 0, 1) := dk_42 (dk_at dksX0_ages_2 4 rfl rfl)
theorem dX0_ages_50 : decode cX0_ages 50 = .ok (.getfield 10, 3) := dk_180 0 10 (dk_at dksX0_ages_2 5 rfl rfl)
theorem dX0_ages_53 : decode cX0_ages 53 = .ok (.getfield 133, 3) := dk_180 0 133 (dk_at dksX0_ages_2 8 rfl rfl)
theorem dX0_ages_56 : decode cX0_ages 56 = .ok (.if_icmp .gt 36, 3) := dk_163 0 36 (dk_at dksX0_ages_2 11 rfl rfl)
theorem dX0_ages_59 : decode cX0_ages 59 = .ok (.iload 5, 2) := dk_21 5 (dk_at dksX0_ages_2 14 rfl rfl)
theorem dX0_ages_61 : decode cX0_ages 61 = .ok (.aload_n 0, 1) := dk_42 (dk_at dksX0_ages_2 16 rfl rfl)
theorem dX0_ages_62 : decode cX0_ages 62 = .ok (.iload_n 2, 1) := dk_28 (dk_at dksX0_ages_2 17 rfl rfl)
theorem dX0_ages_63 : decode cX0_ages 63 = .ok (.iload_n 1, 1) := dk_27 (dk_at dksX0_ages_2 18 rfl rfl)
theorem dX0_ages_64 : decode cX0_ages 64 = .ok (.iload 6, 2) := dk_21 6 (dk_at dksX0_ages_2 19 rfl rfl)
theorem dX0_ages_66 : decode cX0_ages 66 = .ok (.iload 4, 2) := dk_21 4 (dk_at dksX0_ages_2 21 rfl rfl)
theorem dX0_ages_68 : decode cX0_ages 68 = .ok (.invokevirtual 325, 3) := dk_182 1 69 (dk_at dksX0_ages_3 0 rfl rfl)
theorem dX0_ages_71 : decode cX0_ages 71 = .ok (.iload_n 3, 1) := dk_29 (dk_at dksX0_ages_3 3 rfl rfl)
theorem dX0_ages_72 : decode cX0_ages 72 = .ok (.if_icmp .ne 10, 3) := dk_160 0 10 (dk_at dksX0_ages_3 4 rfl rfl)
theorem dX0_ages_75 : decode cX0_ages 75 = .ok (.iconst 1, 1) := dk_4 (dk_at dksX0_ages_3 7 rfl rfl)
theorem dX0_ages_76 : decode cX0_ages 76 = .ok (.iload 6, 2) := dk_21 6 (dk_at dksX0_ages_3 8 rfl rfl)
theorem dX0_ages_78 : decode cX0_ages 78 = .ok (.ishl, 1) := dk_120 (dk_at dksX0_ages_3 10 rfl rfl)
theorem dX0_ages_79 : decode cX0_ages 79 = .ok (.goto 4, 3) := dk_167 0 4 (dk_at dksX0_ages_3 11 rfl rfl)
theorem dX0_ages_82 : decode cX0_ages 82 = .ok (.iconst 0, 1) := dk_3 (dk_at dksX0_ages_3 14 rfl rfl)
theorem dX0_ages_83 : decode cX0_ages 83 = .ok (.ior, 1) := dk_128 (dk_at dksX0_ages_3 15 rfl rfl)
theorem dX0_ages_84 : decode cX0_ages 84 = .ok (.istore 5, 2) := dk_54 5 (dk_at dksX0_ages_3 16 rfl rfl)
theorem dX0_ages_86 : decode cX0_ages 86 = .ok (.iinc 6 1, 3) := dk_132 6 1 (dk_at dksX0_ages_3 18 rfl rfl)
theorem dX0_ages_89 : decode cX0_ages 89 = .ok (.goto (-42), 3) := dk_167 255 214 (dk_at dksX0_ages_3 21 rfl rfl)
theorem dX0_ages_92 : decode cX0_ages 92 = .ok (.iload 5, 2) := dk_21 5 (dk_at dksX0_ages_4 0 rfl rfl)
theorem dX0_ages_94 : decode cX0_ages 94 = .ok (.ireturn, 1) := dk_172 (dk_at dksX0_ages_4 2 rfl rfl)
abbrev cX0_dates : ByteArray := prog_1_method_88_code
def yX0_dates : MethodName := ⟨RX0, "dates", "(II)I"⟩
def dkwX0_dates_0 : List UInt8 := [42, 27, 28, 182, 1, 99, 62, 29, 156, 0, 7, 29, 167, 0, 7, 42, 180, 1, 93, 172]
abbrev dktX0_dates_0 : List UInt8 := dkwX0_dates_0 ++ []
theorem dksX0_dates_0 : cX0_dates.data.toList.drop 0 = dktX0_dates_0 := by decide +kernel
theorem dX0_dates_0 : decode cX0_dates 0 = .ok (.aload_n 0, 1) := dk_42 (dk_at dksX0_dates_0 0 rfl rfl)
theorem dX0_dates_1 : decode cX0_dates 1 = .ok (.iload_n 1, 1) := dk_27 (dk_at dksX0_dates_0 1 rfl rfl)
theorem dX0_dates_2 : decode cX0_dates 2 = .ok (.iload_n 2, 1) := dk_28 (dk_at dksX0_dates_0 2 rfl rfl)
theorem dX0_dates_3 : decode cX0_dates 3 = .ok (.invokevirtual 355, 3) := dk_182 1 99 (dk_at dksX0_dates_0 3 rfl rfl)
theorem dX0_dates_6 : decode cX0_dates 6 = .ok (.istore_n 3, 1) := dk_62 (dk_at dksX0_dates_0 6 rfl rfl)
theorem dX0_dates_7 : decode cX0_dates 7 = .ok (.iload_n 3, 1) := dk_29 (dk_at dksX0_dates_0 7 rfl rfl)
theorem dX0_dates_8 : decode cX0_dates 8 = .ok (.ifCond .ge 7, 3) := dk_156 0 7 (dk_at dksX0_dates_0 8 rfl rfl)
theorem dX0_dates_11 : decode cX0_dates 11 = .ok (.iload_n 3, 1) := dk_29 (dk_at dksX0_dates_0 11 rfl rfl)
theorem dX0_dates_12 : decode cX0_dates 12 = .ok (.goto 7, 3) := dk_167 0 7 (dk_at dksX0_dates_0 12 rfl rfl)
theorem dX0_dates_15 : decode cX0_dates 15 = .ok (.aload_n 0, 1) := dk_42 (dk_at dksX0_dates_0 15 rfl rfl)
theorem dX0_dates_16 : decode cX0_dates 16 = .ok (.getfield 349, 3) := dk_180 1 93 (dk_at dksX0_dates_0 16 rfl rfl)
theorem dX0_dates_19 : decode cX0_dates 19 = .ok (.ireturn, 1) := dk_172 (dk_at dksX0_dates_0 19 rfl rfl)
abbrev cX0_laysFits : ByteArray := prog_1_method_87_code
def yX0_laysFits : MethodName := ⟨RX0, "laysFits", "(II)I"⟩
def dkwX0_laysFits_5 : List UInt8 := [180, 1, 93, 4, 96, 181, 1, 93, 132, 4, 1, 167, 255, 158, 3, 172]
abbrev dktX0_laysFits_5 : List UInt8 := dkwX0_laysFits_5 ++ []
def dkwX0_laysFits_4 : List UInt8 := [42, 180, 1, 93, 104, 21, 5, 96, 42, 28, 21, 5, 182, 1, 24, 79, 132, 5, 1, 167, 255, 219, 42, 89]
abbrev dktX0_laysFits_4 : List UInt8 := dkwX0_laysFits_4 ++ dktX0_laysFits_5
def dkwX0_laysFits_3 : List UInt8 := [21, 4, 79, 3, 54, 5, 21, 5, 42, 180, 0, 10, 180, 0, 133, 163, 0, 31, 42, 180, 0, 71, 16, 21]
abbrev dktX0_laysFits_3 : List UInt8 := dkwX0_laysFits_3 ++ dktX0_laysFits_4
def dkwX0_laysFits_2 : List UInt8 := [28, 21, 4, 79, 42, 27, 182, 1, 96, 154, 0, 6, 167, 0, 67, 42, 180, 0, 68, 42, 180, 1, 93]
abbrev dktX0_laysFits_2 : List UInt8 := dkwX0_laysFits_2 ++ dktX0_laysFits_3
def dkwX0_laysFits_1 : List UInt8 := [42, 3, 181, 1, 93, 3, 54, 4, 21, 4, 42, 180, 0, 10, 180, 0, 133, 163, 0, 92, 42, 180, 0, 24]
abbrev dktX0_laysFits_1 : List UInt8 := dkwX0_laysFits_1 ++ dktX0_laysFits_2
def dkwX0_laysFits_0 : List UInt8 := [42, 28, 133, 182, 0, 163, 154, 0, 6, 16, 254, 172, 42, 27, 182, 1, 90, 62, 29, 156, 0, 5, 29, 172]
abbrev dktX0_laysFits_0 : List UInt8 := dkwX0_laysFits_0 ++ dktX0_laysFits_1
theorem dksX0_laysFits_0 : cX0_laysFits.data.toList.drop 0 = dktX0_laysFits_0 := by decide +kernel
theorem dksX0_laysFits_1 : cX0_laysFits.data.toList.drop 24 = dktX0_laysFits_1 := dk_seg dksX0_laysFits_0 24 rfl rfl
theorem dksX0_laysFits_2 : cX0_laysFits.data.toList.drop 48 = dktX0_laysFits_2 := dk_seg dksX0_laysFits_1 24 rfl rfl
theorem dksX0_laysFits_3 : cX0_laysFits.data.toList.drop 71 = dktX0_laysFits_3 := dk_seg dksX0_laysFits_2 23 rfl rfl
theorem dksX0_laysFits_4 : cX0_laysFits.data.toList.drop 95 = dktX0_laysFits_4 := dk_seg dksX0_laysFits_3 24 rfl rfl
theorem dksX0_laysFits_5 : cX0_laysFits.data.toList.drop 119 = dktX0_laysFits_5 := dk_seg dksX0_laysFits_4 24 rfl rfl
theorem dX0_laysFits_0 : decode cX0_laysFits 0 = .ok (.aload_n 0, 1) := dk_42 (dk_at dksX0_laysFits_0 0 rfl rfl)
theorem dX0_laysFits_1 : decode cX0_laysFits 1 = .ok (.iload_n 2, 1) := dk_28 (dk_at dksX0_laysFits_0 1 rfl rfl)
theorem dX0_laysFits_2 : decode cX0_laysFits 2 = .ok (.i2l, 1) := dk_133 (dk_at dksX0_laysFits_0 2 rfl rfl)
theorem dX0_laysFits_3 : decode cX0_laysFits 3 = .ok (.invokevirtual 163, 3) := dk_182 0 163 (dk_at dksX0_laysFits_0 3 rfl rfl)
theorem dX0_laysFits_6 : decode cX0_laysFits 6 = .ok (.ifCond .ne 6, 3) := dk_154 0 6 (dk_at dksX0_laysFits_0 6 rfl rfl)
theorem dX0_laysFits_9 : decode cX0_laysFits 9 = .ok (.bipush (-2), 2) := dk_16 254 (dk_at dksX0_laysFits_0 9 rfl rfl)
theorem dX0_laysFits_11 : decode cX0_laysFits 11 = .ok (.ireturn, 1) := dk_172 (dk_at dksX0_laysFits_0 11 rfl rfl)
theorem dX0_laysFits_12 : decode cX0_laysFits 12 = .ok (.aload_n 0, 1) := dk_42 (dk_at dksX0_laysFits_0 12 rfl rfl)
theorem dX0_laysFits_13 : decode cX0_laysFits 13 = .ok (.iload_n 1, 1) := dk_27 (dk_at dksX0_laysFits_0 13 rfl rfl)
theorem dX0_laysFits_14 : decode cX0_laysFits 14 = .ok (.invokevirtual 346, 3) := dk_182 1 90 (dk_at dksX0_laysFits_0 14 rfl rfl)
theorem dX0_laysFits_17 : decode cX0_laysFits 17 = .ok (.istore_n 3, 1) := dk_62 (dk_at dksX0_laysFits_0 17 rfl rfl)
theorem dX0_laysFits_18 : decode cX0_laysFits 18 = .ok (.iload_n 3, 1) := dk_29 (dk_at dksX0_laysFits_0 18 rfl rfl)
theorem dX0_laysFits_19 : decode cX0_laysFits 19 = .ok (.ifCond .ge 5, 3) := dk_156 0 5 (dk_at dksX0_laysFits_0 19 rfl rfl)
theorem dX0_laysFits_22 : decode cX0_laysFits 22 = .ok (.iload_n 3, 1) := dk_29 (dk_at dksX0_laysFits_0 22 rfl rfl)
theorem dX0_laysFits_23 : decode cX0_laysFits 23 = .ok (.ireturn, 1) := dk_172 (dk_at dksX0_laysFits_0 23 rfl rfl)
theorem dX0_laysFits_24 : decode cX0_laysFits 24 = .ok (.aload_n 0, 1) := dk_42 (dk_at dksX0_laysFits_1 0 rfl rfl)
theorem dX0_laysFits_25 : decode cX0_laysFits 25 = .ok (.iconst 0, 1) := dk_3 (dk_at dksX0_laysFits_1 1 rfl rfl)
theorem dX0_laysFits_26 : decode cX0_laysFits 26 = .ok (.putfield 349, 3) := dk_181 1 93 (dk_at dksX0_laysFits_1 2 rfl rfl)
theorem dX0_laysFits_29 : decode cX0_laysFits 29 = .ok (.iconst 0, 1) := dk_3 (dk_at dksX0_laysFits_1 5 rfl rfl)
theorem dX0_laysFits_30 : decode cX0_laysFits 30 = .ok (.istore 4, 2) := dk_54 4 (dk_at dksX0_laysFits_1 6 rfl rfl)
theorem dX0_laysFits_32 : decode cX0_laysFits 32 = .ok (.iload 4, 2) := dk_21 4 (dk_at dksX0_laysFits_1 8 rfl rfl)
theorem dX0_laysFits_34 : decode cX0_laysFits 34 = .ok (.aload_n 0, 1) := dk_42 (dk_at dksX0_laysFits_1 10 rfl rfl)
theorem dX0_laysFits_35 : decode cX0_laysFits 35 = .ok (.getfield 10, 3) := dk_180 0 10 (dk_at dksX0_laysFits_1 11 rfl rfl)
theorem dX0_laysFits_38 : decode cX0_laysFits 38 = .ok (.getfield 133, 3) := dk_180 0 133 (dk_at dksX0_laysFits_1 14 rfl rfl)
theorem dX0_laysFits_41 : decode cX0_laysFits 41 = .ok (.if_icmp .gt 92, 3) := dk_163 0 92 (dk_at dksX0_laysFits_1 17 rfl rfl)
theorem dX0_laysFits_44 : decode cX0_laysFits 44 = .ok (.aload_n 0, 1) := dk_42 (dk_at dksX0_laysFits_1 20 rfl rfl)
theorem dX0_laysFits_45 : decode cX0_laysFits 45 = .ok (.getfield 24, 3) := dk_180 0 24 (dk_at dksX0_laysFits_1 21 rfl rfl)
theorem dX0_laysFits_48 : decode cX0_laysFits 48 = .ok (.iload_n 2, 1) := dk_28 (dk_at dksX0_laysFits_2 0 rfl rfl)
theorem dX0_laysFits_49 : decode cX0_laysFits 49 = .ok (.iload 4, 2) := dk_21 4 (dk_at dksX0_laysFits_2 1 rfl rfl)
theorem dX0_laysFits_51 : decode cX0_laysFits 51 = .ok (.iastore, 1) := dk_79 (dk_at dksX0_laysFits_2 3 rfl rfl)
theorem dX0_laysFits_52 : decode cX0_laysFits 52 = .ok (.aload_n 0, 1) := dk_42 (dk_at dksX0_laysFits_2 4 rfl rfl)
theorem dX0_laysFits_53 : decode cX0_laysFits 53 = .ok (.iload_n 1, 1) := dk_27 (dk_at dksX0_laysFits_2 5 rfl rfl)
theorem dX0_laysFits_54 : decode cX0_laysFits 54 = .ok (.invokevirtual 352, 3) := dk_182 1 96 (dk_at dksX0_laysFits_2 6 rfl rfl)
theorem dX0_laysFits_57 : decode cX0_laysFits 57 = .ok (.ifCond .ne 6, 3) := dk_154 0 6 (dk_at dksX0_laysFits_2 9 rfl rfl)
theorem dX0_laysFits_60 : decode cX0_laysFits 60 = .ok (.goto 67, 3) := dk_167 0 67 (dk_at dksX0_laysFits_2 12 rfl rfl)
theorem dX0_laysFits_63 : decode cX0_laysFits 63 = .ok (.aload_n 0, 1) := dk_42 (dk_at dksX0_laysFits_2 15 rfl rfl)
theorem dX0_laysFits_64 : decode cX0_laysFits 64 = .ok (.getfield 68, 3) := dk_180 0 68 (dk_at dksX0_laysFits_2 16 rfl rfl)
theorem dX0_laysFits_67 : decode cX0_laysFits 67 = .ok (.aload_n 0, 1) := dk_42 (dk_at dksX0_laysFits_2 19 rfl rfl)
theorem dX0_laysFits_68 : decode cX0_laysFits 68 = .ok (.getfield 349, 3) := dk_180 1 93 (dk_at dksX0_laysFits_2 20 rfl rfl)
theorem dX0_laysFits_71 : decode cX0_laysFits 71 = .ok (.iload 4, 2) := dk_21 4 (dk_at dksX0_laysFits_3 0 rfl rfl)
theorem dX0_laysFits_73 : decode cX0_laysFits 73 = .ok (.iastore, 1) := dk_79 (dk_at dksX0_laysFits_3 2 rfl rfl)
theorem dX0_laysFits_74 : decode cX0_laysFits 74 = .ok (.iconst 0, 1) := dk_3 (dk_at dksX0_laysFits_3 3 rfl rfl)
theorem dX0_laysFits_75 : decode cX0_laysFits 75 = .ok (.istore 5, 2) := dk_54 5 (dk_at dksX0_laysFits_3 4 rfl rfl)
theorem dX0_laysFits_77 : decode cX0_laysFits 77 = .ok (.iload 5, 2) := dk_21 5 (dk_at dksX0_laysFits_3 6 rfl rfl)
theorem dX0_laysFits_79 : decode cX0_laysFits 79 = .ok (.aload_n 0, 1) := dk_42 (dk_at dksX0_laysFits_3 8 rfl rfl)
theorem dX0_laysFits_80 : decode cX0_laysFits 80 = .ok (.getfield 10, 3) := dk_180 0 10 (dk_at dksX0_laysFits_3 9 rfl rfl)
theorem dX0_laysFits_83 : decode cX0_laysFits 83 = .ok (.getfield 133, 3) := dk_180 0 133 (dk_at dksX0_laysFits_3 12 rfl rfl)
theorem dX0_laysFits_86 : decode cX0_laysFits 86 = .ok (.if_icmp .gt 31, 3) := dk_163 0 31 (dk_at dksX0_laysFits_3 15 rfl rfl)
theorem dX0_laysFits_89 : decode cX0_laysFits 89 = .ok (.aload_n 0, 1) := dk_42 (dk_at dksX0_laysFits_3 18 rfl rfl)
theorem dX0_laysFits_90 : decode cX0_laysFits 90 = .ok (.getfield 71, 3) := dk_180 0 71 (dk_at dksX0_laysFits_3 19 rfl rfl)
theorem dX0_laysFits_93 : decode cX0_laysFits 93 = .ok (.bipush 21, 2) := dk_16 21 (dk_at dksX0_laysFits_3 22 rfl rfl)
theorem dX0_laysFits_95 : decode cX0_laysFits 95 = .ok (.aload_n 0, 1) := dk_42 (dk_at dksX0_laysFits_4 0 rfl rfl)
theorem dX0_laysFits_96 : decode cX0_laysFits 96 = .ok (.getfield 349, 3) := dk_180 1 93 (dk_at dksX0_laysFits_4 1 rfl rfl)
theorem dX0_laysFits_99 : decode cX0_laysFits 99 = .ok (.imul, 1) := dk_104 (dk_at dksX0_laysFits_4 4 rfl rfl)
theorem dX0_laysFits_100 : decode cX0_laysFits 100 = .ok (.iload 5, 2) := dk_21 5 (dk_at dksX0_laysFits_4 5 rfl rfl)
theorem dX0_laysFits_102 : decode cX0_laysFits 102 = .ok (.iadd, 1) := dk_96 (dk_at dksX0_laysFits_4 7 rfl rfl)
theorem dX0_laysFits_103 : decode cX0_laysFits 103 = .ok (.aload_n 0, 1) := dk_42 (dk_at dksX0_laysFits_4 8 rfl rfl)
theorem dX0_laysFits_104 : decode cX0_laysFits 104 = .ok (.iload_n 2, 1) := dk_28 (dk_at dksX0_laysFits_4 9 rfl rfl)
theorem dX0_laysFits_105 : decode cX0_laysFits 105 = .ok (.iload 5, 2) := dk_21 5 (dk_at dksX0_laysFits_4 10 rfl rfl)
theorem dX0_laysFits_107 : decode cX0_laysFits 107 = .ok (.invokevirtual 280, 3) := dk_182 1 24 (dk_at dksX0_laysFits_4 12 rfl rfl)
theorem dX0_laysFits_110 : decode cX0_laysFits 110 = .ok (.iastore, 1) := dk_79 (dk_at dksX0_laysFits_4 15 rfl rfl)
theorem dX0_laysFits_111 : decode cX0_laysFits 111 = .ok (.iinc 5 1, 3) := dk_132 5 1 (dk_at dksX0_laysFits_4 16 rfl rfl)
theorem dX0_laysFits_114 : decode cX0_laysFits 114 = .ok (.goto (-37), 3) := dk_167 255 219 (dk_at dksX0_laysFits_4 19 rfl rfl)
theorem dX0_laysFits_117 : decode cX0_laysFits 117 = .ok (.aload_n 0, 1) := dk_42 (dk_at dksX0_laysFits_4 22 rfl rfl)
theorem dX0_laysFits_118 : decode cX0_laysFits 118 = .ok (.dup, 1) := dk_89 (dk_at dksX0_laysFits_4 23 rfl rfl)
theorem dX0_laysFits_119 : decode cX0_laysFits 119 = .ok (.getfield 349, 3) := dk_180 1 93 (dk_at dksX0_laysFits_5 0 rfl rfl)
theorem dX0_laysFits_122 : decode cX0_laysFits 122 = .ok (.iconst 1, 1) := dk_4 (dk_at dksX0_laysFits_5 3 rfl rfl)
theorem dX0_laysFits_123 : decode cX0_laysFits 123 = .ok (.iadd, 1) := dk_96 (dk_at dksX0_laysFits_5 4 rfl rfl)
theorem dX0_laysFits_124 : decode cX0_laysFits 124 = .ok (.putfield 349, 3) := dk_181 1 93 (dk_at dksX0_laysFits_5 5 rfl rfl)
theorem dX0_laysFits_127 : decode cX0_laysFits 127 = .ok (.iinc 4 1, 3) := dk_132 4 1 (dk_at dksX0_laysFits_5 8 rfl rfl)
theorem dX0_laysFits_130 : decode cX0_laysFits 130 = .ok (.goto (-98), 3) := dk_167 255 158 (dk_at dksX0_laysFits_5 11 rfl rfl)
theorem dX0_laysFits_133 : decode cX0_laysFits 133 = .ok (.iconst 0, 1) := dk_3 (dk_at dksX0_laysFits_5 14 rfl rfl)
theorem dX0_laysFits_134 : decode cX0_laysFits 134 = .ok (.ireturn, 1) := dk_172 (dk_at dksX0_laysFits_5 15 rfl rfl)
abbrev cX0_asksSeen : ByteArray := prog_1_method_85_code
def yX0_asksSeen : MethodName := ⟨RX0, "asksSeen", "(I)I"⟩
def dkwX0_asksSeen_4 : List UInt8 := [167, 255, 199, 42, 182, 1, 12, 3, 172, 77, 16, 250, 172]
abbrev dktX0_asksSeen_4 : List UInt8 := dkwX0_asksSeen_4 ++ []
def dkwX0_asksSeen_3 : List UInt8 := [44, 29, 5, 96, 182, 1, 75, 9, 20, 1, 73, 184, 0, 95, 154, 0, 6, 16, 254, 172, 132, 3, 3]
abbrev dktX0_asksSeen_3 : List UInt8 := dkwX0_asksSeen_3 ++ dktX0_asksSeen_4
def dkwX0_asksSeen_2 : List UInt8 := [29, 182, 1, 75, 182, 0, 163, 153, 0, 34, 42, 44, 29, 4, 96, 182, 1, 75, 182, 1, 21, 153, 0, 20]
abbrev dktX0_asksSeen_2 : List UInt8 := dkwX0_asksSeen_2 ++ dktX0_asksSeen_3
def dkwX0_asksSeen_1 : List UInt8 := [44, 182, 1, 82, 6, 112, 153, 0, 6, 16, 254, 172, 3, 62, 29, 44, 182, 1, 82, 162, 0, 55, 42, 44]
abbrev dktX0_asksSeen_1 : List UInt8 := dkwX0_asksSeen_1 ++ dktX0_asksSeen_2
def dkwX0_asksSeen_0 : List UInt8 := [27, 184, 1, 79, 153, 0, 10, 42, 182, 0, 129, 154, 0, 6, 16, 254, 172, 42, 180, 0, 77, 27, 50, 77]
abbrev dktX0_asksSeen_0 : List UInt8 := dkwX0_asksSeen_0 ++ dktX0_asksSeen_1
theorem dksX0_asksSeen_0 : cX0_asksSeen.data.toList.drop 0 = dktX0_asksSeen_0 := by decide +kernel
theorem dksX0_asksSeen_1 : cX0_asksSeen.data.toList.drop 24 = dktX0_asksSeen_1 := dk_seg dksX0_asksSeen_0 24 rfl rfl
theorem dksX0_asksSeen_2 : cX0_asksSeen.data.toList.drop 48 = dktX0_asksSeen_2 := dk_seg dksX0_asksSeen_1 24 rfl rfl
theorem dksX0_asksSeen_3 : cX0_asksSeen.data.toList.drop 72 = dktX0_asksSeen_3 := dk_seg dksX0_asksSeen_2 24 rfl rfl
theorem dksX0_asksSeen_4 : cX0_asksSeen.data.toList.drop 95 = dktX0_asksSeen_4 := dk_seg dksX0_asksSeen_3 23 rfl rfl
theorem dX0_asksSeen_0 : decode cX0_asksSeen 0 = .ok (.iload_n 1, 1) := dk_27 (dk_at dksX0_asksSeen_0 0 rfl rfl)
theorem dX0_asksSeen_1 : decode cX0_asksSeen 1 = .ok (.invokestatic 335, 3) := dk_184 1 79 (dk_at dksX0_asksSeen_0 1 rfl rfl)
theorem dX0_asksSeen_4 : decode cX0_asksSeen 4 = .ok (.ifCond .eq 10, 3) := dk_153 0 10 (dk_at dksX0_asksSeen_0 4 rfl rfl)
theorem dX0_asksSeen_7 : decode cX0_asksSeen 7 = .ok (.aload_n 0, 1) := dk_42 (dk_at dksX0_asksSeen_0 7 rfl rfl)
theorem dX0_asksSeen_8 : decode cX0_asksSeen 8 = .ok (.invokevirtual 129, 3) := dk_182 0 129 (dk_at dksX0_asksSeen_0 8 rfl rfl)
theorem dX0_asksSeen_11 : decode cX0_asksSeen 11 = .ok (.ifCond .ne 6, 3) := dk_154 0 6 (dk_at dksX0_asksSeen_0 11 rfl rfl)
theorem dX0_asksSeen_14 : decode cX0_asksSeen 14 = .ok (.bipush (-2), 2) := dk_16 254 (dk_at dksX0_asksSeen_0 14 rfl rfl)
theorem dX0_asksSeen_16 : decode cX0_asksSeen 16 = .ok (.ireturn, 1) := dk_172 (dk_at dksX0_asksSeen_0 16 rfl rfl)
theorem dX0_asksSeen_17 : decode cX0_asksSeen 17 = .ok (.aload_n 0, 1) := dk_42 (dk_at dksX0_asksSeen_0 17 rfl rfl)
theorem dX0_asksSeen_18 : decode cX0_asksSeen 18 = .ok (.getfield 77, 3) := dk_180 0 77 (dk_at dksX0_asksSeen_0 18 rfl rfl)
theorem dX0_asksSeen_21 : decode cX0_asksSeen 21 = .ok (.iload_n 1, 1) := dk_27 (dk_at dksX0_asksSeen_0 21 rfl rfl)
theorem dX0_asksSeen_22 : decode cX0_asksSeen 22 = .ok (.aaload, 1) := dk_50 (dk_at dksX0_asksSeen_0 22 rfl rfl)
theorem dX0_asksSeen_23 : decode cX0_asksSeen 23 = .ok (.astore_n 2, 1) := dk_77 (dk_at dksX0_asksSeen_0 23 rfl rfl)
theorem dX0_asksSeen_24 : decode cX0_asksSeen 24 = .ok (.aload_n 2, 1) := dk_44 (dk_at dksX0_asksSeen_1 0 rfl rfl)
theorem dX0_asksSeen_25 : decode cX0_asksSeen 25 = .ok (.invokevirtual 338, 3) := dk_182 1 82 (dk_at dksX0_asksSeen_1 1 rfl rfl)
theorem dX0_asksSeen_28 : decode cX0_asksSeen 28 = .ok (.iconst 3, 1) := dk_6 (dk_at dksX0_asksSeen_1 4 rfl rfl)
theorem dX0_asksSeen_29 : decode cX0_asksSeen 29 = .ok (.irem, 1) := dk_112 (dk_at dksX0_asksSeen_1 5 rfl rfl)
theorem dX0_asksSeen_30 : decode cX0_asksSeen 30 = .ok (.ifCond .eq 6, 3) := dk_153 0 6 (dk_at dksX0_asksSeen_1 6 rfl rfl)
theorem dX0_asksSeen_33 : decode cX0_asksSeen 33 = .ok (.bipush (-2), 2) := dk_16 254 (dk_at dksX0_asksSeen_1 9 rfl rfl)
theorem dX0_asksSeen_35 : decode cX0_asksSeen 35 = .ok (.ireturn, 1) := dk_172 (dk_at dksX0_asksSeen_1 11 rfl rfl)
theorem dX0_asksSeen_36 : decode cX0_asksSeen 36 = .ok (.iconst 0, 1) := dk_3 (dk_at dksX0_asksSeen_1 12 rfl rfl)
theorem dX0_asksSeen_37 : decode cX0_asksSeen 37 = .ok (.istore_n 3, 1) := dk_62 (dk_at dksX0_asksSeen_1 13 rfl rfl)
theorem dX0_asksSeen_38 : decode cX0_asksSeen 38 = .ok (.iload_n 3, 1) := dk_29 (dk_at dksX0_asksSeen_1 14 rfl rfl)
theorem dX0_asksSeen_39 : decode cX0_asksSeen 39 = .ok (.aload_n 2, 1) := dk_44 (dk_at dksX0_asksSeen_1 15 rfl rfl)
theorem dX0_asksSeen_40 : decode cX0_asksSeen 40 = .ok (.invokevirtual 338, 3) := dk_182 1 82 (dk_at dksX0_asksSeen_1 16 rfl rfl)
theorem dX0_asksSeen_43 : decode cX0_asksSeen 43 = .ok (.if_icmp .ge 55, 3) := dk_162 0 55 (dk_at dksX0_asksSeen_1 19 rfl rfl)
theorem dX0_asksSeen_46 : decode cX0_asksSeen 46 = .ok (.aload_n 0, 1) := dk_42 (dk_at dksX0_asksSeen_1 22 rfl rfl)
theorem dX0_asksSeen_47 : decode cX0_asksSeen 47 = .ok (.aload_n 2, 1) := dk_44 (dk_at dksX0_asksSeen_1 23 rfl rfl)
theorem dX0_asksSeen_48 : decode cX0_asksSeen 48 = .ok (.iload_n 3, 1) := dk_29 (dk_at dksX0_asksSeen_2 0 rfl rfl)
theorem dX0_asksSeen_49 : decode cX0_asksSeen 49 = .ok (.invokevirtual 331, 3) := dk_182 1 75 (dk_at dksX0_asksSeen_2 1 rfl rfl)
theorem dX0_asksSeen_52 : decode cX0_asksSeen 52 = .ok (.invokevirtual 163, 3) := dk_182 0 163 (dk_at dksX0_asksSeen_2 4 rfl rfl)
theorem dX0_asksSeen_55 : decode cX0_asksSeen 55 = .ok (.ifCond .eq 34, 3) := dk_153 0 34 (dk_at dksX0_asksSeen_2 7 rfl rfl)
theorem dX0_asksSeen_58 : decode cX0_asksSeen 58 = .ok (.aload_n 0, 1) := dk_42 (dk_at dksX0_asksSeen_2 10 rfl rfl)
theorem dX0_asksSeen_59 : decode cX0_asksSeen 59 = .ok (.aload_n 2, 1) := dk_44 (dk_at dksX0_asksSeen_2 11 rfl rfl)
theorem dX0_asksSeen_60 : decode cX0_asksSeen 60 = .ok (.iload_n 3, 1) := dk_29 (dk_at dksX0_asksSeen_2 12 rfl rfl)
theorem dX0_asksSeen_61 : decode cX0_asksSeen 61 = .ok (.iconst 1, 1) := dk_4 (dk_at dksX0_asksSeen_2 13 rfl rfl)
theorem dX0_asksSeen_62 : decode cX0_asksSeen 62 = .ok (.iadd, 1) := dk_96 (dk_at dksX0_asksSeen_2 14 rfl rfl)
theorem dX0_asksSeen_63 : decode cX0_asksSeen 63 = .ok (.invokevirtual 331, 3) := dk_182 1 75 (dk_at dksX0_asksSeen_2 15 rfl rfl)
theorem dX0_asksSeen_66 : decode cX0_asksSeen 66 = .ok (.invokevirtual 277, 3) := dk_182 1 21 (dk_at dksX0_asksSeen_2 18 rfl rfl)
theorem dX0_asksSeen_69 : decode cX0_asksSeen 69 = .ok (.ifCond .eq 20, 3) := dk_153 0 20 (dk_at dksX0_asksSeen_2 21 rfl rfl)
theorem dX0_asksSeen_72 : decode cX0_asksSeen 72 = .ok (.aload_n 2, 1) := dk_44 (dk_at dksX0_asksSeen_3 0 rfl rfl)
theorem dX0_asksSeen_73 : decode cX0_asksSeen 73 = .ok (.iload_n 3, 1) := dk_29 (dk_at dksX0_asksSeen_3 1 rfl rfl)
theorem dX0_asksSeen_74 : decode cX0_asksSeen 74 = .ok (.iconst 2, 1) := dk_5 (dk_at dksX0_asksSeen_3 2 rfl rfl)
theorem dX0_asksSeen_75 : decode cX0_asksSeen 75 = .ok (.iadd, 1) := dk_96 (dk_at dksX0_asksSeen_3 3 rfl rfl)
theorem dX0_asksSeen_76 : decode cX0_asksSeen 76 = .ok (.invokevirtual 331, 3) := dk_182 1 75 (dk_at dksX0_asksSeen_3 4 rfl rfl)
theorem dX0_asksSeen_79 : decode cX0_asksSeen 79 = .ok (.lconst 0, 1) := dk_9 (dk_at dksX0_asksSeen_3 7 rfl rfl)
theorem dX0_asksSeen_80 : decode cX0_asksSeen 80 = .ok (.ldc2_w 329, 3) := dk_20 1 73 (dk_at dksX0_asksSeen_3 8 rfl rfl)
theorem dX0_asksSeen_83 : decode cX0_asksSeen 83 = .ok (.invokestatic 95, 3) := dk_184 0 95 (dk_at dksX0_asksSeen_3 11 rfl rfl)
theorem dX0_asksSeen_86 : decode cX0_asksSeen 86 = .ok (.ifCond .ne 6, 3) := dk_154 0 6 (dk_at dksX0_asksSeen_3 14 rfl rfl)
theorem dX0_asksSeen_89 : decode cX0_asksSeen 89 = .ok (.bipush (-2), 2) := dk_16 254 (dk_at dksX0_asksSeen_3 17 rfl rfl)
theorem dX0_asksSeen_91 : decode cX0_asksSeen 91 = .ok (.ireturn, 1) := dk_172 (dk_at dksX0_asksSeen_3 19 rfl rfl)
theorem dX0_asksSeen_92 : decode cX0_asksSeen 92 = .ok (.iinc 3 3, 3) := dk_132 3 3 (dk_at dksX0_asksSeen_3 20 rfl rfl)
theorem dX0_asksSeen_95 : decode cX0_asksSeen 95 = .ok (.goto (-57), 3) := dk_167 255 199 (dk_at dksX0_asksSeen_4 0 rfl rfl)
theorem dX0_asksSeen_98 : decode cX0_asksSeen 98 = .ok (.aload_n 0, 1) := dk_42 (dk_at dksX0_asksSeen_4 3 rfl rfl)
theorem dX0_asksSeen_99 : decode cX0_asksSeen 99 = .ok (.invokevirtual 268, 3) := dk_182 1 12 (dk_at dksX0_asksSeen_4 4 rfl rfl)
theorem dX0_asksSeen_102 : decode cX0_asksSeen 102 = .ok (.iconst 0, 1) := dk_3 (dk_at dksX0_asksSeen_4 7 rfl rfl)
theorem dX0_asksSeen_103 : decode cX0_asksSeen 103 = .ok (.ireturn, 1) := dk_172 (dk_at dksX0_asksSeen_4 8 rfl rfl)
theorem dX0_asksSeen_104 : decode cX0_asksSeen 104 = .ok (.astore_n 2, 1) := dk_77 (dk_at dksX0_asksSeen_4 9 rfl rfl)
theorem dX0_asksSeen_105 : decode cX0_asksSeen 105 = .ok (.bipush (-6), 2) := dk_16 250 (dk_at dksX0_asksSeen_4 10 rfl rfl)
theorem dX0_asksSeen_107 : decode cX0_asksSeen 107 = .ok (.ireturn, 1) := dk_172 (dk_at dksX0_asksSeen_4 12 rfl rfl)
abbrev cX0_isSlot : ByteArray := prog_1_method_125_code
def yX0_isSlot : MethodName := ⟨RX0, "isSlot", "(I)Z"⟩
def dkwX0_isSlot_0 : List UInt8 := [26, 133, 9, 20, 0, 136, 184, 0, 95, 172]
abbrev dktX0_isSlot_0 : List UInt8 := dkwX0_isSlot_0 ++ []
theorem dksX0_isSlot_0 : cX0_isSlot.data.toList.drop 0 = dktX0_isSlot_0 := by decide +kernel
theorem dX0_isSlot_0 : decode cX0_isSlot 0 = .ok (.iload_n 0, 1) := dk_26 (dk_at dksX0_isSlot_0 0 rfl rfl)
theorem dX0_isSlot_1 : decode cX0_isSlot 1 = .ok (.i2l, 1) := dk_133 (dk_at dksX0_isSlot_0 1 rfl rfl)
theorem dX0_isSlot_2 : decode cX0_isSlot 2 = .ok (.lconst 0, 1) := dk_9 (dk_at dksX0_isSlot_0 2 rfl rfl)
theorem dX0_isSlot_3 : decode cX0_isSlot 3 = .ok (.ldc2_w 136, 3) := dk_20 0 136 (dk_at dksX0_isSlot_0 3 rfl rfl)
theorem dX0_isSlot_6 : decode cX0_isSlot 6 = .ok (.invokestatic 95, 3) := dk_184 0 95 (dk_at dksX0_isSlot_0 6 rfl rfl)
theorem dX0_isSlot_9 : decode cX0_isSlot 9 = .ok (.ireturn, 1) := dk_172 (dk_at dksX0_isSlot_0 9 rfl rfl)
abbrev cX0_isSo : ByteArray := prog_1_method_86_code
def yX0_isSo : MethodName := ⟨RX0, "isSo", "(I)Z"⟩
def dkwX0_isSo_2 : List UInt8 := [159, 0, 5, 3, 172, 132, 2, 3, 167, 255, 209, 4, 172]
abbrev dktX0_isSo_2 : List UInt8 := dkwX0_isSo_2 ++ []
def dkwX0_isSo_1 : List UInt8 := [182, 1, 87, 42, 27, 28, 4, 96, 182, 1, 87, 182, 1, 24, 42, 27, 28, 5, 96, 182, 1, 87]
abbrev dktX0_isSo_1 : List UInt8 := dkwX0_isSo_1 ++ dktX0_isSo_2
def dkwX0_isSo_0 : List UInt8 := [42, 182, 1, 15, 3, 61, 28, 42, 180, 0, 77, 27, 50, 182, 1, 82, 162, 0, 40, 42, 42, 27, 28]
abbrev dktX0_isSo_0 : List UInt8 := dkwX0_isSo_0 ++ dktX0_isSo_1
theorem dksX0_isSo_0 : cX0_isSo.data.toList.drop 0 = dktX0_isSo_0 := by decide +kernel
theorem dksX0_isSo_1 : cX0_isSo.data.toList.drop 23 = dktX0_isSo_1 := dk_seg dksX0_isSo_0 23 rfl rfl
theorem dksX0_isSo_2 : cX0_isSo.data.toList.drop 45 = dktX0_isSo_2 := dk_seg dksX0_isSo_1 22 rfl rfl
theorem dX0_isSo_0 : decode cX0_isSo 0 = .ok (.aload_n 0, 1) := dk_42 (dk_at dksX0_isSo_0 0 rfl rfl)
theorem dX0_isSo_1 : decode cX0_isSo 1 = .ok (.invokevirtual 271, 3) := dk_182 1 15 (dk_at dksX0_isSo_0 1 rfl rfl)
theorem dX0_isSo_4 : decode cX0_isSo 4 = .ok (.iconst 0, 1) := dk_3 (dk_at dksX0_isSo_0 4 rfl rfl)
theorem dX0_isSo_5 : decode cX0_isSo 5 = .ok (.istore_n 2, 1) := dk_61 (dk_at dksX0_isSo_0 5 rfl rfl)
theorem dX0_isSo_6 : decode cX0_isSo 6 = .ok (.iload_n 2, 1) := dk_28 (dk_at dksX0_isSo_0 6 rfl rfl)
theorem dX0_isSo_7 : decode cX0_isSo 7 = .ok (.aload_n 0, 1) := dk_42 (dk_at dksX0_isSo_0 7 rfl rfl)
theorem dX0_isSo_8 : decode cX0_isSo 8 = .ok (.getfield 77, 3) := dk_180 0 77 (dk_at dksX0_isSo_0 8 rfl rfl)
theorem dX0_isSo_11 : decode cX0_isSo 11 = .ok (.iload_n 1, 1) := dk_27 (dk_at dksX0_isSo_0 11 rfl rfl)
theorem dX0_isSo_12 : decode cX0_isSo 12 = .ok (.aaload, 1) := dk_50 (dk_at dksX0_isSo_0 12 rfl rfl)
theorem dX0_isSo_13 : decode cX0_isSo 13 = .ok (.invokevirtual 338, 3) := dk_182 1 82 (dk_at dksX0_isSo_0 13 rfl rfl)
theorem dX0_isSo_16 : decode cX0_isSo 16 = .ok (.if_icmp .ge 40, 3) := dk_162 0 40 (dk_at dksX0_isSo_0 16 rfl rfl)
theorem dX0_isSo_19 : decode cX0_isSo 19 = .ok (.aload_n 0, 1) := dk_42 (dk_at dksX0_isSo_0 19 rfl rfl)
theorem dX0_isSo_20 : decode cX0_isSo 20 = .ok (.aload_n 0, 1) := dk_42 (dk_at dksX0_isSo_0 20 rfl rfl)
theorem dX0_isSo_21 : decode cX0_isSo 21 = .ok (.iload_n 1, 1) := dk_27 (dk_at dksX0_isSo_0 21 rfl rfl)
theorem dX0_isSo_22 : decode cX0_isSo 22 = .ok (.iload_n 2, 1) := dk_28 (dk_at dksX0_isSo_0 22 rfl rfl)
theorem dX0_isSo_23 : decode cX0_isSo 23 = .ok (.invokevirtual 343, 3) := dk_182 1 87 (dk_at dksX0_isSo_1 0 rfl rfl)
theorem dX0_isSo_26 : decode cX0_isSo 26 = .ok (.aload_n 0, 1) := dk_42 (dk_at dksX0_isSo_1 3 rfl rfl)
theorem dX0_isSo_27 : decode cX0_isSo 27 = .ok (.iload_n 1, 1) := dk_27 (dk_at dksX0_isSo_1 4 rfl rfl)
theorem dX0_isSo_28 : decode cX0_isSo 28 = .ok (.iload_n 2, 1) := dk_28 (dk_at dksX0_isSo_1 5 rfl rfl)
theorem dX0_isSo_29 : decode cX0_isSo 29 = .ok (.iconst 1, 1) := dk_4 (dk_at dksX0_isSo_1 6 rfl rfl)
theorem dX0_isSo_30 : decode cX0_isSo 30 = .ok (.iadd, 1) := dk_96 (dk_at dksX0_isSo_1 7 rfl rfl)
theorem dX0_isSo_31 : decode cX0_isSo 31 = .ok (.invokevirtual 343, 3) := dk_182 1 87 (dk_at dksX0_isSo_1 8 rfl rfl)
theorem dX0_isSo_34 : decode cX0_isSo 34 = .ok (.invokevirtual 280, 3) := dk_182 1 24 (dk_at dksX0_isSo_1 11 rfl rfl)
theorem dX0_isSo_37 : decode cX0_isSo 37 = .ok (.aload_n 0, 1) := dk_42 (dk_at dksX0_isSo_1 14 rfl rfl)
theorem dX0_isSo_38 : decode cX0_isSo 38 = .ok (.iload_n 1, 1) := dk_27 (dk_at dksX0_isSo_1 15 rfl rfl)
theorem dX0_isSo_39 : decode cX0_isSo 39 = .ok (.iload_n 2, 1) := dk_28 (dk_at dksX0_isSo_1 16 rfl rfl)
theorem dX0_isSo_40 : decode cX0_isSo 40 = .ok (.iconst 2, 1) := dk_5 (dk_at dksX0_isSo_1 17 rfl rfl)
theorem dX0_isSo_41 : decode cX0_isSo 41 = .ok (.iadd, 1) := dk_96 (dk_at dksX0_isSo_1 18 rfl rfl)
theorem dX0_isSo_42 : decode cX0_isSo 42 = .ok (.invokevirtual 343, 3) := dk_182 1 87 (dk_at dksX0_isSo_1 19 rfl rfl)
theorem dX0_isSo_45 : decode cX0_isSo 45 = .ok (.if_icmp .eq 5, 3) := dk_159 0 5 (dk_at dksX0_isSo_2 0 rfl rfl)
theorem dX0_isSo_48 : decode cX0_isSo 48 = .ok (.iconst 0, 1) := dk_3 (dk_at dksX0_isSo_2 3 rfl rfl)
theorem dX0_isSo_49 : decode cX0_isSo 49 = .ok (.ireturn, 1) := dk_172 (dk_at dksX0_isSo_2 4 rfl rfl)
theorem dX0_isSo_50 : decode cX0_isSo 50 = .ok (.iinc 2 3, 3) := dk_132 2 3 (dk_at dksX0_isSo_2 5 rfl rfl)
theorem dX0_isSo_53 : decode cX0_isSo 53 = .ok (.goto (-47), 3) := dk_167 255 209 (dk_at dksX0_isSo_2 8 rfl rfl)
theorem dX0_isSo_56 : decode cX0_isSo 56 = .ok (.iconst 1, 1) := dk_4 (dk_at dksX0_isSo_2 11 rfl rfl)
theorem dX0_isSo_57 : decode cX0_isSo 57 = .ok (.ireturn, 1) := dk_172 (dk_at dksX0_isSo_2 12 rfl rfl)
abbrev cX0_number : ByteArray := prog_1_method_84_code
def yX0_number : MethodName := ⟨RX0, "number", "(II)I"⟩
def dkwX0_number_0 : List UInt8 := [42, 180, 0, 77, 27, 50, 28, 182, 1, 75, 136, 172]
abbrev dktX0_number_0 : List UInt8 := dkwX0_number_0 ++ []
theorem dksX0_number_0 : cX0_number.data.toList.drop 0 = dktX0_number_0 := by decide +kernel
theorem dX0_number_0 : decode cX0_number 0 = .ok (.aload_n 0, 1) := dk_42 (dk_at dksX0_number_0 0 rfl rfl)
theorem dX0_number_1 : decode cX0_number 1 = .ok (.getfield 77, 3) := dk_180 0 77 (dk_at dksX0_number_0 1 rfl rfl)
theorem dX0_number_4 : decode cX0_number 4 = .ok (.iload_n 1, 1) := dk_27 (dk_at dksX0_number_0 4 rfl rfl)
theorem dX0_number_5 : decode cX0_number 5 = .ok (.aaload, 1) := dk_50 (dk_at dksX0_number_0 5 rfl rfl)
theorem dX0_number_6 : decode cX0_number 6 = .ok (.iload_n 2, 1) := dk_28 (dk_at dksX0_number_0 6 rfl rfl)
theorem dX0_number_7 : decode cX0_number 7 = .ok (.invokevirtual 331, 3) := dk_182 1 75 (dk_at dksX0_number_0 7 rfl rfl)
theorem dX0_number_10 : decode cX0_number 10 = .ok (.l2i, 1) := dk_136 (dk_at dksX0_number_0 10 rfl rfl)
theorem dX0_number_11 : decode cX0_number 11 = .ok (.ireturn, 1) := dk_172 (dk_at dksX0_number_0 11 rfl rfl)
abbrev cX0_first : ByteArray := prog_1_method_89_code
def yX0_first : MethodName := ⟨RX0, "first", "(II)I"⟩
def dkwX0_first_1 : List UInt8 := [167, 0, 9, 42, 180, 0, 68, 3, 46, 172]
abbrev dktX0_first_1 : List UInt8 := dkwX0_first_1 ++ []
def dkwX0_first_0 : List UInt8 := [42, 27, 28, 182, 1, 99, 62, 29, 156, 0, 7, 29, 167, 0, 20, 42, 180, 1, 93, 154, 0, 7, 2]
abbrev dktX0_first_0 : List UInt8 := dkwX0_first_0 ++ dktX0_first_1
theorem dksX0_first_0 : cX0_first.data.toList.drop 0 = dktX0_first_0 := by decide +kernel
theorem dksX0_first_1 : cX0_first.data.toList.drop 23 = dktX0_first_1 := dk_seg dksX0_first_0 23 rfl rfl
theorem dX0_first_0 : decode cX0_first 0 = .ok (.aload_n 0, 1) := dk_42 (dk_at dksX0_first_0 0 rfl rfl)
theorem dX0_first_1 : decode cX0_first 1 = .ok (.iload_n 1, 1) := dk_27 (dk_at dksX0_first_0 1 rfl rfl)
theorem dX0_first_2 : decode cX0_first 2 = .ok (.iload_n 2, 1) := dk_28 (dk_at dksX0_first_0 2 rfl rfl)
theorem dX0_first_3 : decode cX0_first 3 = .ok (.invokevirtual 355, 3) := dk_182 1 99 (dk_at dksX0_first_0 3 rfl rfl)
theorem dX0_first_6 : decode cX0_first 6 = .ok (.istore_n 3, 1) := dk_62 (dk_at dksX0_first_0 6 rfl rfl)
theorem dX0_first_7 : decode cX0_first 7 = .ok (.iload_n 3, 1) := dk_29 (dk_at dksX0_first_0 7 rfl rfl)
theorem dX0_first_8 : decode cX0_first 8 = .ok (.ifCond .ge 7, 3) := dk_156 0 7 (dk_at dksX0_first_0 8 rfl rfl)
theorem dX0_first_11 : decode cX0_first 11 = .ok (.iload_n 3, 1) := dk_29 (dk_at dksX0_first_0 11 rfl rfl)
theorem dX0_first_12 : decode cX0_first 12 = .ok (.goto 20, 3) := dk_167 0 20 (dk_at dksX0_first_0 12 rfl rfl)
theorem dX0_first_15 : decode cX0_first 15 = .ok (.aload_n 0, 1) := dk_42 (dk_at dksX0_first_0 15 rfl rfl)
theorem dX0_first_16 : decode cX0_first 16 = .ok (.getfield 349, 3) := dk_180 1 93 (dk_at dksX0_first_0 16 rfl rfl)
theorem dX0_first_19 : decode cX0_first 19 = .ok (.ifCond .ne 7, 3) := dk_154 0 7 (dk_at dksX0_first_0 19 rfl rfl)
theorem dX0_first_22 : decode cX0_first 22 = .ok (.iconst (-1), 1) := dk_2 (dk_at dksX0_first_0 22 rfl rfl)
theorem dX0_first_23 : decode cX0_first 23 = .ok (.goto 9, 3) := dk_167 0 9 (dk_at dksX0_first_1 0 rfl rfl)
theorem dX0_first_26 : decode cX0_first 26 = .ok (.aload_n 0, 1) := dk_42 (dk_at dksX0_first_1 3 rfl rfl)
theorem dX0_first_27 : decode cX0_first 27 = .ok (.getfield 68, 3) := dk_180 0 68 (dk_at dksX0_first_1 4 rfl rfl)
theorem dX0_first_30 : decode cX0_first 30 = .ok (.iconst 0, 1) := dk_3 (dk_at dksX0_first_1 7 rfl rfl)
theorem dX0_first_31 : decode cX0_first 31 = .ok (.iaload, 1) := dk_46 (dk_at dksX0_first_1 8 rfl rfl)
theorem dX0_first_32 : decode cX0_first 32 = .ok (.ireturn, 1) := dk_172 (dk_at dksX0_first_1 9 rfl rfl)
abbrev cX0_last : ByteArray := prog_1_method_90_code
def yX0_last : MethodName := ⟨RX0, "last", "(II)I"⟩
def dkwX0_last_1 : List UInt8 := [167, 0, 14, 42, 180, 0, 68, 42, 180, 1, 93, 4, 100, 46, 172]
abbrev dktX0_last_1 : List UInt8 := dkwX0_last_1 ++ []
def dkwX0_last_0 : List UInt8 := [42, 27, 28, 182, 1, 99, 62, 29, 156, 0, 7, 29, 167, 0, 25, 42, 180, 1, 93, 154, 0, 7, 2]
abbrev dktX0_last_0 : List UInt8 := dkwX0_last_0 ++ dktX0_last_1
theorem dksX0_last_0 : cX0_last.data.toList.drop 0 = dktX0_last_0 := by decide +kernel
theorem dksX0_last_1 : cX0_last.data.toList.drop 23 = dktX0_last_1 := dk_seg dksX0_last_0 23 rfl rfl
theorem dX0_last_0 : decode cX0_last 0 = .ok (.aload_n 0, 1) := dk_42 (dk_at dksX0_last_0 0 rfl rfl)
theorem dX0_last_1 : decode cX0_last 1 = .ok (.iload_n 1, 1) := dk_27 (dk_at dksX0_last_0 1 rfl rfl)
theorem dX0_last_2 : decode cX0_last 2 = .ok (.iload_n 2, 1) := dk_28 (dk_at dksX0_last_0 2 rfl rfl)
theorem dX0_last_3 : decode cX0_last 3 = .ok (.invokevirtual 355, 3) := dk_182 1 99 (dk_at dksX0_last_0 3 rfl rfl)
theorem dX0_last_6 : decode cX0_last 6 = .ok (.istore_n 3, 1) := dk_62 (dk_at dksX0_last_0 6 rfl rfl)
theorem dX0_last_7 : decode cX0_last 7 = .ok (.iload_n 3, 1) := dk_29 (dk_at dksX0_last_0 7 rfl rfl)
theorem dX0_last_8 : decode cX0_last 8 = .ok (.ifCond .ge 7, 3) := dk_156 0 7 (dk_at dksX0_last_0 8 rfl rfl)
theorem dX0_last_11 : decode cX0_last 11 = .ok (.iload_n 3, 1) := dk_29 (dk_at dksX0_last_0 11 rfl rfl)
theorem dX0_last_12 : decode cX0_last 12 = .ok (.goto 25, 3) := dk_167 0 25 (dk_at dksX0_last_0 12 rfl rfl)
theorem dX0_last_15 : decode cX0_last 15 = .ok (.aload_n 0, 1) := dk_42 (dk_at dksX0_last_0 15 rfl rfl)
theorem dX0_last_16 : decode cX0_last 16 = .ok (.getfield 349, 3) := dk_180 1 93 (dk_at dksX0_last_0 16 rfl rfl)
theorem dX0_last_19 : decode cX0_last 19 = .ok (.ifCond .ne 7, 3) := dk_154 0 7 (dk_at dksX0_last_0 19 rfl rfl)
theorem dX0_last_22 : decode cX0_last 22 = .ok (.iconst (-1), 1) := dk_2 (dk_at dksX0_last_0 22 rfl rfl)
theorem dX0_last_23 : decode cX0_last 23 = .ok (.goto 14, 3) := dk_167 0 14 (dk_at dksX0_last_1 0 rfl rfl)
theorem dX0_last_26 : decode cX0_last 26 = .ok (.aload_n 0, 1) := dk_42 (dk_at dksX0_last_1 3 rfl rfl)
theorem dX0_last_27 : decode cX0_last 27 = .ok (.getfield 68, 3) := dk_180 0 68 (dk_at dksX0_last_1 4 rfl rfl)
theorem dX0_last_30 : decode cX0_last 30 = .ok (.aload_n 0, 1) := dk_42 (dk_at dksX0_last_1 7 rfl rfl)
theorem dX0_last_31 : decode cX0_last 31 = .ok (.getfield 349, 3) := dk_180 1 93 (dk_at dksX0_last_1 8 rfl rfl)
theorem dX0_last_34 : decode cX0_last 34 = .ok (.iconst 1, 1) := dk_4 (dk_at dksX0_last_1 11 rfl rfl)
theorem dX0_last_35 : decode cX0_last 35 = .ok (.isub, 1) := dk_100 (dk_at dksX0_last_1 12 rfl rfl)
theorem dX0_last_36 : decode cX0_last 36 = .ok (.iaload, 1) := dk_46 (dk_at dksX0_last_1 13 rfl rfl)
theorem dX0_last_37 : decode cX0_last 37 = .ok (.ireturn, 1) := dk_172 (dk_at dksX0_last_1 14 rfl rfl)
abbrev cX0_ask : ByteArray := prog_1_method_93_code
def yX0_ask : MethodName := ⟨RX0, "ask", "(II)I"⟩
def dkwX0_ask_0 : List UInt8 := [42, 27, 28, 182, 1, 99, 62, 29, 156, 0, 7, 29, 167, 0, 7, 42, 182, 1, 108, 172]
abbrev dktX0_ask_0 : List UInt8 := dkwX0_ask_0 ++ []
theorem dksX0_ask_0 : cX0_ask.data.toList.drop 0 = dktX0_ask_0 := by decide +kernel
theorem dX0_ask_0 : decode cX0_ask 0 = .ok (.aload_n 0, 1) := dk_42 (dk_at dksX0_ask_0 0 rfl rfl)
theorem dX0_ask_1 : decode cX0_ask 1 = .ok (.iload_n 1, 1) := dk_27 (dk_at dksX0_ask_0 1 rfl rfl)
theorem dX0_ask_2 : decode cX0_ask 2 = .ok (.iload_n 2, 1) := dk_28 (dk_at dksX0_ask_0 2 rfl rfl)
theorem dX0_ask_3 : decode cX0_ask 3 = .ok (.invokevirtual 355, 3) := dk_182 1 99 (dk_at dksX0_ask_0 3 rfl rfl)
theorem dX0_ask_6 : decode cX0_ask 6 = .ok (.istore_n 3, 1) := dk_62 (dk_at dksX0_ask_0 6 rfl rfl)
theorem dX0_ask_7 : decode cX0_ask 7 = .ok (.iload_n 3, 1) := dk_29 (dk_at dksX0_ask_0 7 rfl rfl)
theorem dX0_ask_8 : decode cX0_ask 8 = .ok (.ifCond .ge 7, 3) := dk_156 0 7 (dk_at dksX0_ask_0 8 rfl rfl)
theorem dX0_ask_11 : decode cX0_ask 11 = .ok (.iload_n 3, 1) := dk_29 (dk_at dksX0_ask_0 11 rfl rfl)
theorem dX0_ask_12 : decode cX0_ask 12 = .ok (.goto 7, 3) := dk_167 0 7 (dk_at dksX0_ask_0 12 rfl rfl)
theorem dX0_ask_15 : decode cX0_ask 15 = .ok (.aload_n 0, 1) := dk_42 (dk_at dksX0_ask_0 15 rfl rfl)
theorem dX0_ask_16 : decode cX0_ask 16 = .ok (.invokevirtual 364, 3) := dk_182 1 108 (dk_at dksX0_ask_0 16 rfl rfl)
theorem dX0_ask_19 : decode cX0_ask 19 = .ok (.ireturn, 1) := dk_172 (dk_at dksX0_ask_0 19 rfl rfl)
abbrev cX0_askOf : ByteArray := prog_1_method_92_code
def yX0_askOf : MethodName := ⟨RX0, "askOf", "()I"⟩
def dkwX0_askOf_2 : List UInt8 := [132, 2, 1, 167, 255, 218, 27, 172]
abbrev dktX0_askOf_2 : List UInt8 := dkwX0_askOf_2 ++ []
def dkwX0_askOf_1 : List UInt8 := [28, 182, 1, 105, 62, 29, 42, 180, 1, 102, 161, 0, 6, 167, 0, 10, 42, 29, 181, 1, 102, 28, 60]
abbrev dktX0_askOf_1 : List UInt8 := dkwX0_askOf_1 ++ dktX0_askOf_2
def dkwX0_askOf_0 : List UInt8 := [42, 42, 180, 1, 93, 181, 1, 102, 2, 60, 3, 61, 28, 42, 180, 0, 10, 180, 0, 133, 163, 0, 33, 42]
abbrev dktX0_askOf_0 : List UInt8 := dkwX0_askOf_0 ++ dktX0_askOf_1
theorem dksX0_askOf_0 : cX0_askOf.data.toList.drop 0 = dktX0_askOf_0 := by decide +kernel
theorem dksX0_askOf_1 : cX0_askOf.data.toList.drop 24 = dktX0_askOf_1 := dk_seg dksX0_askOf_0 24 rfl rfl
theorem dksX0_askOf_2 : cX0_askOf.data.toList.drop 47 = dktX0_askOf_2 := dk_seg dksX0_askOf_1 23 rfl rfl
theorem dX0_askOf_0 : decode cX0_askOf 0 = .ok (.aload_n 0, 1) := dk_42 (dk_at dksX0_askOf_0 0 rfl rfl)
theorem dX0_askOf_1 : decode cX0_askOf 1 = .ok (.aload_n 0, 1) := dk_42 (dk_at dksX0_askOf_0 1 rfl rfl)
theorem dX0_askOf_2 : decode cX0_askOf 2 = .ok (.getfield 349, 3) := dk_180 1 93 (dk_at dksX0_askOf_0 2 rfl rfl)
theorem dX0_askOf_5 : decode cX0_askOf 5 = .ok (.putfield 358, 3) := dk_181 1 102 (dk_at dksX0_askOf_0 5 rfl rfl)
theorem dX0_askOf_8 : decode cX0_askOf 8 = .ok (.iconst (-1), 1) := dk_2 (dk_at dksX0_askOf_0 8 rfl rfl)
theorem dX0_askOf_9 : decode cX0_askOf 9 = .ok (.istore_n 1, 1) := dk_60 (dk_at dksX0_askOf_0 9 rfl rfl)
theorem dX0_askOf_10 : decode cX0_askOf 10 = .ok (.iconst 0, 1) := dk_3 (dk_at dksX0_askOf_0 10 rfl rfl)
theorem dX0_askOf_11 : decode cX0_askOf 11 = .ok (.istore_n 2, 1) := dk_61 (dk_at dksX0_askOf_0 11 rfl rfl)
theorem dX0_askOf_12 : decode cX0_askOf 12 = .ok (.iload_n 2, 1) := dk_28 (dk_at dksX0_askOf_0 12 rfl rfl)
theorem dX0_askOf_13 : decode cX0_askOf 13 = .ok (.aload_n 0, 1) := dk_42 (dk_at dksX0_askOf_0 13 rfl rfl)
theorem dX0_askOf_14 : decode cX0_askOf 14 = .ok (.getfield 10, 3) := dk_180 0 10 (dk_at dksX0_askOf_0 14 rfl rfl)
theorem dX0_askOf_17 : decode cX0_askOf 17 = .ok (.getfield 133, 3) := dk_180 0 133 (dk_at dksX0_askOf_0 17 rfl rfl)
theorem dX0_askOf_20 : decode cX0_askOf 20 = .ok (.if_icmp .gt 33, 3) := dk_163 0 33 (dk_at dksX0_askOf_0 20 rfl rfl)
theorem dX0_askOf_23 : decode cX0_askOf 23 = .ok (.aload_n 0, 1) := dk_42 (dk_at dksX0_askOf_0 23 rfl rfl)
theorem dX0_askOf_24 : decode cX0_askOf 24 = .ok (.iload_n 2, 1) := dk_28 (dk_at dksX0_askOf_1 0 rfl rfl)
theorem dX0_askOf_25 : decode cX0_askOf 25 = .ok (.invokevirtual 361, 3) := dk_182 1 105 (dk_at dksX0_askOf_1 1 rfl rfl)
theorem dX0_askOf_28 : decode cX0_askOf 28 = .ok (.istore_n 3, 1) := dk_62 (dk_at dksX0_askOf_1 4 rfl rfl)
theorem dX0_askOf_29 : decode cX0_askOf 29 = .ok (.iload_n 3, 1) := dk_29 (dk_at dksX0_askOf_1 5 rfl rfl)
theorem dX0_askOf_30 : decode cX0_askOf 30 = .ok (.aload_n 0, 1) := dk_42 (dk_at dksX0_askOf_1 6 rfl rfl)
theorem dX0_askOf_31 : decode cX0_askOf 31 = .ok (.getfield 358, 3) := dk_180 1 102 (dk_at dksX0_askOf_1 7 rfl rfl)
theorem dX0_askOf_34 : decode cX0_askOf 34 = .ok (.if_icmp .lt 6, 3) := dk_161 0 6 (dk_at dksX0_askOf_1 10 rfl rfl)
theorem dX0_askOf_37 : decode cX0_askOf 37 = .ok (.goto 10, 3) := dk_167 0 10 (dk_at dksX0_askOf_1 13 rfl rfl)
theorem dX0_askOf_40 : decode cX0_askOf 40 = .ok (.aload_n 0, 1) := dk_42 (dk_at dksX0_askOf_1 16 rfl rfl)
theorem dX0_askOf_41 : decode cX0_askOf 41 = .ok (.iload_n 3, 1) := dk_29 (dk_at dksX0_askOf_1 17 rfl rfl)
theorem dX0_askOf_42 : decode cX0_askOf 42 = .ok (.putfield 358, 3) := dk_181 1 102 (dk_at dksX0_askOf_1 18 rfl rfl)
theorem dX0_askOf_45 : decode cX0_askOf 45 = .ok (.iload_n 2, 1) := dk_28 (dk_at dksX0_askOf_1 21 rfl rfl)
theorem dX0_askOf_46 : decode cX0_askOf 46 = .ok (.istore_n 1, 1) := dk_60 (dk_at dksX0_askOf_1 22 rfl rfl)
theorem dX0_askOf_47 : decode cX0_askOf 47 = .ok (.iinc 2 1, 3) := dk_132 2 1 (dk_at dksX0_askOf_2 0 rfl rfl)
theorem dX0_askOf_50 : decode cX0_askOf 50 = .ok (.goto (-38), 3) := dk_167 255 218 (dk_at dksX0_askOf_2 3 rfl rfl)
theorem dX0_askOf_53 : decode cX0_askOf 53 = .ok (.iload_n 1, 1) := dk_27 (dk_at dksX0_askOf_2 6 rfl rfl)
theorem dX0_askOf_54 : decode cX0_askOf 54 = .ok (.ireturn, 1) := dk_172 (dk_at dksX0_askOf_2 7 rfl rfl)
abbrev cX0_worstIn : ByteArray := prog_1_method_91_code
def yX0_worstIn : MethodName := ⟨RX0, "worstIn", "(I)I"⟩
def dkwX0_worstIn_3 : List UInt8 := [184, 0, 234, 61, 132, 3, 1, 167, 255, 181, 28, 172]
abbrev dktX0_worstIn_3 : List UInt8 := dkwX0_worstIn_3 ++ []
def dkwX0_worstIn_2 : List UInt8 := [104, 27, 96, 46, 160, 0, 7, 4, 167, 0, 4, 3, 96, 54, 4, 132, 5, 1, 167, 255, 208, 28, 21, 4]
abbrev dktX0_worstIn_2 : List UInt8 := dkwX0_worstIn_2 ++ dktX0_worstIn_3
def dkwX0_worstIn_1 : List UInt8 := [162, 0, 45, 21, 4, 42, 180, 0, 71, 16, 21, 29, 104, 27, 96, 46, 42, 180, 0, 71, 16, 21, 21, 5]
abbrev dktX0_worstIn_1 : List UInt8 := dkwX0_worstIn_1 ++ dktX0_worstIn_2
def dkwX0_worstIn_0 : List UInt8 := [3, 61, 3, 62, 29, 42, 180, 1, 93, 162, 0, 73, 3, 54, 4, 3, 54, 5, 21, 5, 42, 180, 1, 93]
abbrev dktX0_worstIn_0 : List UInt8 := dkwX0_worstIn_0 ++ dktX0_worstIn_1
theorem dksX0_worstIn_0 : cX0_worstIn.data.toList.drop 0 = dktX0_worstIn_0 := by decide +kernel
theorem dksX0_worstIn_1 : cX0_worstIn.data.toList.drop 24 = dktX0_worstIn_1 := dk_seg dksX0_worstIn_0 24 rfl rfl
theorem dksX0_worstIn_2 : cX0_worstIn.data.toList.drop 48 = dktX0_worstIn_2 := dk_seg dksX0_worstIn_1 24 rfl rfl
theorem dksX0_worstIn_3 : cX0_worstIn.data.toList.drop 72 = dktX0_worstIn_3 := dk_seg dksX0_worstIn_2 24 rfl rfl
theorem dX0_worstIn_0 : decode cX0_worstIn 0 = .ok (.iconst 0, 1) := dk_3 (dk_at dksX0_worstIn_0 0 rfl rfl)
theorem dX0_worstIn_1 : decode cX0_worstIn 1 = .ok (.istore_n 2, 1) := dk_61 (dk_at dksX0_worstIn_0 1 rfl rfl)
theorem dX0_worstIn_2 : decode cX0_worstIn 2 = .ok (.iconst 0, 1) := dk_3 (dk_at dksX0_worstIn_0 2 rfl rfl)
theorem dX0_worstIn_3 : decode cX0_worstIn 3 = .ok (.istore_n 3, 1) := dk_62 (dk_at dksX0_worstIn_0 3 rfl rfl)
theorem dX0_worstIn_4 : decode cX0_worstIn 4 = .ok (.iload_n 3, 1) := dk_29 (dk_at dksX0_worstIn_0 4 rfl rfl)
theorem dX0_worstIn_5 : decode cX0_worstIn 5 = .ok (.aload_n 0, 1) := dk_42 (dk_at dksX0_worstIn_0 5 rfl rfl)
theorem dX0_worstIn_6 : decode cX0_worstIn 6 = .ok (.getfield 349, 3) := dk_180 1 93 (dk_at dksX0_worstIn_0 6 rfl rfl)
theorem dX0_worstIn_9 : decode cX0_worstIn 9 = .ok (.if_icmp .ge 73, 3) := dk_162 0 73 (dk_at dksX0_worstIn_0 9 rfl rfl)
theorem dX0_worstIn_12 : decode cX0_worstIn 12 = .ok (.iconst 0, 1) := dk_3 (dk_at dksX0_worstIn_0 12 rfl rfl)
theorem dX0_worstIn_13 : decode cX0_worstIn 13 = .ok (.istore 4, 2) := dk_54 4 (dk_at dksX0_worstIn_0 13 rfl rfl)
theorem dX0_worstIn_15 : decode cX0_worstIn 15 = .ok (.iconst 0, 1) := dk_3 (dk_at dksX0_worstIn_0 15 rfl rfl)
theorem dX0_worstIn_16 : decode cX0_worstIn 16 = .ok (.istore 5, 2) := dk_54 5 (dk_at dksX0_worstIn_0 16 rfl rfl)
theorem dX0_worstIn_18 : decode cX0_worstIn 18 = .ok (.iload 5, 2) := dk_21 5 (dk_at dksX0_worstIn_0 18 rfl rfl)
theorem dX0_worstIn_20 : decode cX0_worstIn 20 = .ok (.aload_n 0, 1) := dk_42 (dk_at dksX0_worstIn_0 20 rfl rfl)
theorem dX0_worstIn_21 : decode cX0_worstIn 21 = .ok (.getfield 349, 3) := dk_180 1 93 (dk_at dksX0_worstIn_0 21 rfl rfl)
theorem dX0_worstIn_24 : decode cX0_worstIn 24 = .ok (.if_icmp .ge 45, 3) := dk_162 0 45 (dk_at dksX0_worstIn_1 0 rfl rfl)
theorem dX0_worstIn_27 : decode cX0_worstIn 27 = .ok (.iload 4, 2) := dk_21 4 (dk_at dksX0_worstIn_1 3 rfl rfl)
theorem dX0_worstIn_29 : decode cX0_worstIn 29 = .ok (.aload_n 0, 1) := dk_42 (dk_at dksX0_worstIn_1 5 rfl rfl)
theorem dX0_worstIn_30 : decode cX0_worstIn 30 = .ok (.getfield 71, 3) := dk_180 0 71 (dk_at dksX0_worstIn_1 6 rfl rfl)
theorem dX0_worstIn_33 : decode cX0_worstIn 33 = .ok (.bipush 21, 2) := dk_16 21 (dk_at dksX0_worstIn_1 9 rfl rfl)
theorem dX0_worstIn_35 : decode cX0_worstIn 35 = .ok (.iload_n 3, 1) := dk_29 (dk_at dksX0_worstIn_1 11 rfl rfl)
theorem dX0_worstIn_36 : decode cX0_worstIn 36 = .ok (.imul, 1) := dk_104 (dk_at dksX0_worstIn_1 12 rfl rfl)
theorem dX0_worstIn_37 : decode cX0_worstIn 37 = .ok (.iload_n 1, 1) := dk_27 (dk_at dksX0_worstIn_1 13 rfl rfl)
theorem dX0_worstIn_38 : decode cX0_worstIn 38 = .ok (.iadd, 1) := dk_96 (dk_at dksX0_worstIn_1 14 rfl rfl)
theorem dX0_worstIn_39 : decode cX0_worstIn 39 = .ok (.iaload, 1) := dk_46 (dk_at dksX0_worstIn_1 15 rfl rfl)
theorem dX0_worstIn_40 : decode cX0_worstIn 40 = .ok (.aload_n 0, 1) := dk_42 (dk_at dksX0_worstIn_1 16 rfl rfl)
theorem dX0_worstIn_41 : decode cX0_worstIn 41 = .ok (.getfield 71, 3) := dk_180 0 71 (dk_at dksX0_worstIn_1 17 rfl rfl)
theorem dX0_worstIn_44 : decode cX0_worstIn 44 = .ok (.bipush 21, 2) := dk_16 21 (dk_at dksX0_worstIn_1 20 rfl rfl)
theorem dX0_worstIn_46 : decode cX0_worstIn 46 = .ok (.iload 5, 2) := dk_21 5 (dk_at dksX0_worstIn_1 22 rfl rfl)
theorem dX0_worstIn_48 : decode cX0_worstIn 48 = .ok (.imul, 1) := dk_104 (dk_at dksX0_worstIn_2 0 rfl rfl)
theorem dX0_worstIn_49 : decode cX0_worstIn 49 = .ok (.iload_n 1, 1) := dk_27 (dk_at dksX0_worstIn_2 1 rfl rfl)
theorem dX0_worstIn_50 : decode cX0_worstIn 50 = .ok (.iadd, 1) := dk_96 (dk_at dksX0_worstIn_2 2 rfl rfl)
theorem dX0_worstIn_51 : decode cX0_worstIn 51 = .ok (.iaload, 1) := dk_46 (dk_at dksX0_worstIn_2 3 rfl rfl)
theorem dX0_worstIn_52 : decode cX0_worstIn 52 = .ok (.if_icmp .ne 7, 3) := dk_160 0 7 (dk_at dksX0_worstIn_2 4 rfl rfl)
theorem dX0_worstIn_55 : decode cX0_worstIn 55 = .ok (.iconst 1, 1) := dk_4 (dk_at dksX0_worstIn_2 7 rfl rfl)
theorem dX0_worstIn_56 : decode cX0_worstIn 56 = .ok (.goto 4, 3) := dk_167 0 4 (dk_at dksX0_worstIn_2 8 rfl rfl)
theorem dX0_worstIn_59 : decode cX0_worstIn 59 = .ok (.iconst 0, 1) := dk_3 (dk_at dksX0_worstIn_2 11 rfl rfl)
theorem dX0_worstIn_60 : decode cX0_worstIn 60 = .ok (.iadd, 1) := dk_96 (dk_at dksX0_worstIn_2 12 rfl rfl)
theorem dX0_worstIn_61 : decode cX0_worstIn 61 = .ok (.istore 4, 2) := dk_54 4 (dk_at dksX0_worstIn_2 13 rfl rfl)
theorem dX0_worstIn_63 : decode cX0_worstIn 63 = .ok (.iinc 5 1, 3) := dk_132 5 1 (dk_at dksX0_worstIn_2 15 rfl rfl)
theorem dX0_worstIn_66 : decode cX0_worstIn 66 = .ok (.goto (-48), 3) := dk_167 255 208 (dk_at dksX0_worstIn_2 18 rfl rfl)
theorem dX0_worstIn_69 : decode cX0_worstIn 69 = .ok (.iload_n 2, 1) := dk_28 (dk_at dksX0_worstIn_2 21 rfl rfl)
theorem dX0_worstIn_70 : decode cX0_worstIn 70 = .ok (.iload 4, 2) := dk_21 4 (dk_at dksX0_worstIn_2 22 rfl rfl)
theorem dX0_worstIn_72 : decode cX0_worstIn 72 = .ok (.invokestatic 234, 3) := dk_184 0 234 (dk_at dksX0_worstIn_3 0 rfl rfl)
theorem dX0_worstIn_75 : decode cX0_worstIn 75 = .ok (.istore_n 2, 1) := dk_61 (dk_at dksX0_worstIn_3 3 rfl rfl)
theorem dX0_worstIn_76 : decode cX0_worstIn 76 = .ok (.iinc 3 1, 3) := dk_132 3 1 (dk_at dksX0_worstIn_3 4 rfl rfl)
theorem dX0_worstIn_79 : decode cX0_worstIn 79 = .ok (.goto (-75), 3) := dk_167 255 181 (dk_at dksX0_worstIn_3 7 rfl rfl)
theorem dX0_worstIn_82 : decode cX0_worstIn 82 = .ok (.iload_n 2, 1) := dk_28 (dk_at dksX0_worstIn_3 10 rfl rfl)
theorem dX0_worstIn_83 : decode cX0_worstIn 83 = .ok (.ireturn, 1) := dk_172 (dk_at dksX0_worstIn_3 11 rfl rfl)
abbrev cX0_leaves : ByteArray := prog_1_method_94_code
def yX0_leaves : MethodName := ⟨RX0, "leaves", "(II)I"⟩
def dkwX0_leaves_0 : List UInt8 := [42, 27, 28, 182, 1, 99, 62, 29, 156, 0, 5, 29, 172, 42, 182, 1, 108, 87, 42, 180, 1, 102, 172]
abbrev dktX0_leaves_0 : List UInt8 := dkwX0_leaves_0 ++ []
theorem dksX0_leaves_0 : cX0_leaves.data.toList.drop 0 = dktX0_leaves_0 := by decide +kernel
theorem dX0_leaves_0 : decode cX0_leaves 0 = .ok (.aload_n 0, 1) := dk_42 (dk_at dksX0_leaves_0 0 rfl rfl)
theorem dX0_leaves_1 : decode cX0_leaves 1 = .ok (.iload_n 1, 1) := dk_27 (dk_at dksX0_leaves_0 1 rfl rfl)
theorem dX0_leaves_2 : decode cX0_leaves 2 = .ok (.iload_n 2, 1) := dk_28 (dk_at dksX0_leaves_0 2 rfl rfl)
theorem dX0_leaves_3 : decode cX0_leaves 3 = .ok (.invokevirtual 355, 3) := dk_182 1 99 (dk_at dksX0_leaves_0 3 rfl rfl)
theorem dX0_leaves_6 : decode cX0_leaves 6 = .ok (.istore_n 3, 1) := dk_62 (dk_at dksX0_leaves_0 6 rfl rfl)
theorem dX0_leaves_7 : decode cX0_leaves 7 = .ok (.iload_n 3, 1) := dk_29 (dk_at dksX0_leaves_0 7 rfl rfl)
theorem dX0_leaves_8 : decode cX0_leaves 8 = .ok (.ifCond .ge 5, 3) := dk_156 0 5 (dk_at dksX0_leaves_0 8 rfl rfl)
theorem dX0_leaves_11 : decode cX0_leaves 11 = .ok (.iload_n 3, 1) := dk_29 (dk_at dksX0_leaves_0 11 rfl rfl)
theorem dX0_leaves_12 : decode cX0_leaves 12 = .ok (.ireturn, 1) := dk_172 (dk_at dksX0_leaves_0 12 rfl rfl)
theorem dX0_leaves_13 : decode cX0_leaves 13 = .ok (.aload_n 0, 1) := dk_42 (dk_at dksX0_leaves_0 13 rfl rfl)
theorem dX0_leaves_14 : decode cX0_leaves 14 = .ok (.invokevirtual 364, 3) := dk_182 1 108 (dk_at dksX0_leaves_0 14 rfl rfl)
theorem dX0_leaves_17 : decode cX0_leaves 17 = .ok (.pop, 1) := dk_87 (dk_at dksX0_leaves_0 17 rfl rfl)
theorem dX0_leaves_18 : decode cX0_leaves 18 = .ok (.aload_n 0, 1) := dk_42 (dk_at dksX0_leaves_0 18 rfl rfl)
theorem dX0_leaves_19 : decode cX0_leaves 19 = .ok (.getfield 358, 3) := dk_180 1 102 (dk_at dksX0_leaves_0 19 rfl rfl)
theorem dX0_leaves_22 : decode cX0_leaves 22 = .ok (.ireturn, 1) := dk_172 (dk_at dksX0_leaves_0 22 rfl rfl)
abbrev cX0_kinds : ByteArray := prog_1_method_95_code
def yX0_kinds : MethodName := ⟨RX0, "kinds", "(II)I"⟩
def dkwX0_kinds_3 : List UInt8 := [132, 5, 1, 167, 255, 212, 21, 4, 172]
abbrev dktX0_kinds_3 : List UInt8 := dkwX0_kinds_3 ++ []
def dkwX0_kinds_2 : List UInt8 := [21, 5, 79, 21, 4, 42, 27, 182, 1, 96, 153, 0, 10, 4, 21, 5, 120, 167, 0, 4, 3, 128, 54, 4]
abbrev dktX0_kinds_2 : List UInt8 := dkwX0_kinds_2 ++ dktX0_kinds_3
def dkwX0_kinds_1 : List UInt8 := [3, 54, 4, 3, 54, 5, 21, 5, 42, 180, 0, 10, 180, 0, 120, 162, 0, 38, 42, 180, 0, 28, 28]
abbrev dktX0_kinds_1 : List UInt8 := dkwX0_kinds_1 ++ dktX0_kinds_2
def dkwX0_kinds_0 : List UInt8 := [42, 28, 133, 182, 0, 163, 154, 0, 6, 16, 254, 172, 42, 27, 182, 1, 90, 62, 29, 156, 0, 5, 29, 172]
abbrev dktX0_kinds_0 : List UInt8 := dkwX0_kinds_0 ++ dktX0_kinds_1
theorem dksX0_kinds_0 : cX0_kinds.data.toList.drop 0 = dktX0_kinds_0 := by decide +kernel
theorem dksX0_kinds_1 : cX0_kinds.data.toList.drop 24 = dktX0_kinds_1 := dk_seg dksX0_kinds_0 24 rfl rfl
theorem dksX0_kinds_2 : cX0_kinds.data.toList.drop 47 = dktX0_kinds_2 := dk_seg dksX0_kinds_1 23 rfl rfl
theorem dksX0_kinds_3 : cX0_kinds.data.toList.drop 71 = dktX0_kinds_3 := dk_seg dksX0_kinds_2 24 rfl rfl
theorem dX0_kinds_0 : decode cX0_kinds 0 = .ok (.aload_n 0, 1) := dk_42 (dk_at dksX0_kinds_0 0 rfl rfl)
theorem dX0_kinds_1 : decode cX0_kinds 1 = .ok (.iload_n 2, 1) := dk_28 (dk_at dksX0_kinds_0 1 rfl rfl)
theorem dX0_kinds_2 : decode cX0_kinds 2 = .ok (.i2l, 1) := dk_133 (dk_at dksX0_kinds_0 2 rfl rfl)
theorem dX0_kinds_3 : decode cX0_kinds 3 = .ok (.invokevirtual 163, 3) := dk_182 0 163 (dk_at dksX0_kinds_0 3 rfl rfl)
theorem dX0_kinds_6 : decode cX0_kinds 6 = .ok (.ifCond .ne 6, 3) := dk_154 0 6 (dk_at dksX0_kinds_0 6 rfl rfl)
theorem dX0_kinds_9 : decode cX0_kinds 9 = .ok (.bipush (-2), 2) := dk_16 254 (dk_at dksX0_kinds_0 9 rfl rfl)
theorem dX0_kinds_11 : decode cX0_kinds 11 = .ok (.ireturn, 1) := dk_172 (dk_at dksX0_kinds_0 11 rfl rfl)
theorem dX0_kinds_12 : decode cX0_kinds 12 = .ok (.aload_n 0, 1) := dk_42 (dk_at dksX0_kinds_0 12 rfl rfl)
theorem dX0_kinds_13 : decode cX0_kinds 13 = .ok (.iload_n 1, 1) := dk_27 (dk_at dksX0_kinds_0 13 rfl rfl)
theorem dX0_kinds_14 : decode cX0_kinds 14 = .ok (.invokevirtual 346, 3) := dk_182 1 90 (dk_at dksX0_kinds_0 14 rfl rfl)
theorem dX0_kinds_17 : decode cX0_kinds 17 = .ok (.istore_n 3, 1) := dk_62 (dk_at dksX0_kinds_0 17 rfl rfl)
theorem dX0_kinds_18 : decode cX0_kinds 18 = .ok (.iload_n 3, 1) := dk_29 (dk_at dksX0_kinds_0 18 rfl rfl)
theorem dX0_kinds_19 : decode cX0_kinds 19 = .ok (.ifCond .ge 5, 3) := dk_156 0 5 (dk_at dksX0_kinds_0 19 rfl rfl)
theorem dX0_kinds_22 : decode cX0_kinds 22 = .ok (.iload_n 3, 1) := dk_29 (dk_at dksX0_kinds_0 22 rfl rfl)
theorem dX0_kinds_23 : decode cX0_kinds 23 = .ok (.ireturn, 1) := dk_172 (dk_at dksX0_kinds_0 23 rfl rfl)
theorem dX0_kinds_24 : decode cX0_kinds 24 = .ok (.iconst 0, 1) := dk_3 (dk_at dksX0_kinds_1 0 rfl rfl)
theorem dX0_kinds_25 : decode cX0_kinds 25 = .ok (.istore 4, 2) := dk_54 4 (dk_at dksX0_kinds_1 1 rfl rfl)
theorem dX0_kinds_27 : decode cX0_kinds 27 = .ok (.iconst 0, 1) := dk_3 (dk_at dksX0_kinds_1 3 rfl rfl)
theorem dX0_kinds_28 : decode cX0_kinds 28 = .ok (.istore 5, 2) := dk_54 5 (dk_at dksX0_kinds_1 4 rfl rfl)
theorem dX0_kinds_30 : decode cX0_kinds 30 = .ok (.iload 5, 2) := dk_21 5 (dk_at dksX0_kinds_1 6 rfl rfl)
theorem dX0_kinds_32 : decode cX0_kinds 32 = .ok (.aload_n 0, 1) := dk_42 (dk_at dksX0_kinds_1 8 rfl rfl)
theorem dX0_kinds_33 : decode cX0_kinds 33 = .ok (.getfield 10, 3) := dk_180 0 10 (dk_at dksX0_kinds_1 9 rfl rfl)
theorem dX0_kinds_36 : decode cX0_kinds 36 = .ok (.getfield 120, 3) := dk_180 0 120 (dk_at dksX0_kinds_1 12 rfl rfl)
theorem dX0_kinds_39 : decode cX0_kinds 39 = .ok (.if_icmp .ge 38, 3) := dk_162 0 38 (dk_at dksX0_kinds_1 15 rfl rfl)
theorem dX0_kinds_42 : decode cX0_kinds 42 = .ok (.aload_n 0, 1) := dk_42 (dk_at dksX0_kinds_1 18 rfl rfl)
theorem dX0_kinds_43 : decode cX0_kinds 43 = .ok (.getfield 28, 3) := dk_180 0 28 (dk_at dksX0_kinds_1 19 rfl rfl)
theorem dX0_kinds_46 : decode cX0_kinds 46 = .ok (.iload_n 2, 1) := dk_28 (dk_at dksX0_kinds_1 22 rfl rfl)
theorem dX0_kinds_47 : decode cX0_kinds 47 = .ok (.iload 5, 2) := dk_21 5 (dk_at dksX0_kinds_2 0 rfl rfl)
theorem dX0_kinds_49 : decode cX0_kinds 49 = .ok (.iastore, 1) := dk_79 (dk_at dksX0_kinds_2 2 rfl rfl)
theorem dX0_kinds_50 : decode cX0_kinds 50 = .ok (.iload 4, 2) := dk_21 4 (dk_at dksX0_kinds_2 3 rfl rfl)
theorem dX0_kinds_52 : decode cX0_kinds 52 = .ok (.aload_n 0, 1) := dk_42 (dk_at dksX0_kinds_2 5 rfl rfl)
theorem dX0_kinds_53 : decode cX0_kinds 53 = .ok (.iload_n 1, 1) := dk_27 (dk_at dksX0_kinds_2 6 rfl rfl)
theorem dX0_kinds_54 : decode cX0_kinds 54 = .ok (.invokevirtual 352, 3) := dk_182 1 96 (dk_at dksX0_kinds_2 7 rfl rfl)
theorem dX0_kinds_57 : decode cX0_kinds 57 = .ok (.ifCond .eq 10, 3) := dk_153 0 10 (dk_at dksX0_kinds_2 10 rfl rfl)
theorem dX0_kinds_60 : decode cX0_kinds 60 = .ok (.iconst 1, 1) := dk_4 (dk_at dksX0_kinds_2 13 rfl rfl)
theorem dX0_kinds_61 : decode cX0_kinds 61 = .ok (.iload 5, 2) := dk_21 5 (dk_at dksX0_kinds_2 14 rfl rfl)
theorem dX0_kinds_63 : decode cX0_kinds 63 = .ok (.ishl, 1) := dk_120 (dk_at dksX0_kinds_2 16 rfl rfl)
theorem dX0_kinds_64 : decode cX0_kinds 64 = .ok (.goto 4, 3) := dk_167 0 4 (dk_at dksX0_kinds_2 17 rfl rfl)
theorem dX0_kinds_67 : decode cX0_kinds 67 = .ok (.iconst 0, 1) := dk_3 (dk_at dksX0_kinds_2 20 rfl rfl)
theorem dX0_kinds_68 : decode cX0_kinds 68 = .ok (.ior, 1) := dk_128 (dk_at dksX0_kinds_2 21 rfl rfl)
theorem dX0_kinds_69 : decode cX0_kinds 69 = .ok (.istore 4, 2) := dk_54 4 (dk_at dksX0_kinds_2 22 rfl rfl)
theorem dX0_kinds_71 : decode cX0_kinds 71 = .ok (.iinc 5 1, 3) := dk_132 5 1 (dk_at dksX0_kinds_3 0 rfl rfl)
theorem dX0_kinds_74 : decode cX0_kinds 74 = .ok (.goto (-44), 3) := dk_167 255 212 (dk_at dksX0_kinds_3 3 rfl rfl)
theorem dX0_kinds_77 : decode cX0_kinds 77 = .ok (.iload 4, 2) := dk_21 4 (dk_at dksX0_kinds_3 6 rfl rfl)
theorem dX0_kinds_79 : decode cX0_kinds 79 = .ok (.ireturn, 1) := dk_172 (dk_at dksX0_kinds_3 8 rfl rfl)
abbrev cX0_laws : ByteArray := prog_1_method_96_code
def yX0_laws : MethodName := ⟨RX0, "laws", "(I)I"⟩
def dkwX0_laws_2 : List UInt8 := [167, 0, 4, 3, 128, 62, 132, 4, 1, 167, 255, 217, 29, 172]
abbrev dktX0_laws_2 : List UInt8 := dkwX0_laws_2 ++ []
def dkwX0_laws_1 : List UInt8 := [42, 180, 0, 58, 21, 4, 50, 181, 0, 191, 29, 42, 27, 182, 1, 96, 153, 0, 10, 4, 21, 4, 120]
abbrev dktX0_laws_1 : List UInt8 := dkwX0_laws_1 ++ dktX0_laws_2
def dkwX0_laws_0 : List UInt8 := [42, 27, 182, 1, 90, 61, 28, 156, 0, 5, 28, 172, 3, 62, 3, 54, 4, 21, 4, 7, 162, 0, 39, 42]
abbrev dktX0_laws_0 : List UInt8 := dkwX0_laws_0 ++ dktX0_laws_1
theorem dksX0_laws_0 : cX0_laws.data.toList.drop 0 = dktX0_laws_0 := by decide +kernel
theorem dksX0_laws_1 : cX0_laws.data.toList.drop 24 = dktX0_laws_1 := dk_seg dksX0_laws_0 24 rfl rfl
theorem dksX0_laws_2 : cX0_laws.data.toList.drop 47 = dktX0_laws_2 := dk_seg dksX0_laws_1 23 rfl rfl
theorem dX0_laws_0 : decode cX0_laws 0 = .ok (.aload_n 0, 1) := dk_42 (dk_at dksX0_laws_0 0 rfl rfl)
theorem dX0_laws_1 : decode cX0_laws 1 = .ok (.iload_n 1, 1) := dk_27 (dk_at dksX0_laws_0 1 rfl rfl)
theorem dX0_laws_2 : decode cX0_laws 2 = .ok (.invokevirtual 346, 3) := dk_182 1 90 (dk_at dksX0_laws_0 2 rfl rfl)
theorem dX0_laws_5 : decode cX0_laws 5 = .ok (.istore_n 2, 1) := dk_61 (dk_at dksX0_laws_0 5 rfl rfl)
theorem dX0_laws_6 : decode cX0_laws 6 = .ok (.iload_n 2, 1) := dk_28 (dk_at dksX0_laws_0 6 rfl rfl)
theorem dX0_laws_7 : decode cX0_laws 7 = .ok (.ifCond .ge 5, 3) := dk_156 0 5 (dk_at dksX0_laws_0 7 rfl rfl)
theorem dX0_laws_10 : decode cX0_laws 10 = .ok (.iload_n 2, 1) := dk_28 (dk_at dksX0_laws_0 10 rfl rfl)
theorem dX0_laws_11 : decode cX0_laws 11 = .ok (.ireturn, 1) := dk_172 (dk_at dksX0_laws_0 11 rfl rfl)
theorem dX0_laws_12 : decode cX0_laws 12 = .ok (.iconst 0, 1) := dk_3 (dk_at dksX0_laws_0 12 rfl rfl)
theorem dX0_laws_13 : decode cX0_laws 13 = .ok (.istore_n 3, 1) := dk_62 (dk_at dksX0_laws_0 13 rfl rfl)
theorem dX0_laws_14 : decode cX0_laws 14 = .ok (.iconst 0, 1) := dk_3 (dk_at dksX0_laws_0 14 rfl rfl)
theorem dX0_laws_15 : decode cX0_laws 15 = .ok (.istore 4, 2) := dk_54 4 (dk_at dksX0_laws_0 15 rfl rfl)
theorem dX0_laws_17 : decode cX0_laws 17 = .ok (.iload 4, 2) := dk_21 4 (dk_at dksX0_laws_0 17 rfl rfl)
theorem dX0_laws_19 : decode cX0_laws 19 = .ok (.iconst 4, 1) := dk_7 (dk_at dksX0_laws_0 19 rfl rfl)
theorem dX0_laws_20 : decode cX0_laws 20 = .ok (.if_icmp .ge 39, 3) := dk_162 0 39 (dk_at dksX0_laws_0 20 rfl rfl)
theorem dX0_laws_23 : decode cX0_laws 23 = .ok (.aload_n 0, 1) := dk_42 (dk_at dksX0_laws_0 23 rfl rfl)
theorem dX0_laws_24 : decode cX0_laws 24 = .ok (.aload_n 0, 1) := dk_42 (dk_at dksX0_laws_1 0 rfl rfl)
theorem dX0_laws_25 : decode cX0_laws 25 = .ok (.getfield 58, 3) := dk_180 0 58 (dk_at dksX0_laws_1 1 rfl rfl)
theorem dX0_laws_28 : decode cX0_laws 28 = .ok (.iload 4, 2) := dk_21 4 (dk_at dksX0_laws_1 4 rfl rfl)
theorem dX0_laws_30 : decode cX0_laws 30 = .ok (.aaload, 1) := dk_50 (dk_at dksX0_laws_1 6 rfl rfl)
theorem dX0_laws_31 : decode cX0_laws 31 = .ok (.putfield 191, 3) := dk_181 0 191 (dk_at dksX0_laws_1 7 rfl rfl)
theorem dX0_laws_34 : decode cX0_laws 34 = .ok (.iload_n 3, 1) := dk_29 (dk_at dksX0_laws_1 10 rfl rfl)
theorem dX0_laws_35 : decode cX0_laws 35 = .ok (.aload_n 0, 1) := dk_42 (dk_at dksX0_laws_1 11 rfl rfl)
theorem dX0_laws_36 : decode cX0_laws 36 = .ok (.iload_n 1, 1) := dk_27 (dk_at dksX0_laws_1 12 rfl rfl)
theorem dX0_laws_37 : decode cX0_laws 37 = .ok (.invokevirtual 352, 3) := dk_182 1 96 (dk_at dksX0_laws_1 13 rfl rfl)
theorem dX0_laws_40 : decode cX0_laws 40 = .ok (.ifCond .eq 10, 3) := dk_153 0 10 (dk_at dksX0_laws_1 16 rfl rfl)
theorem dX0_laws_43 : decode cX0_laws 43 = .ok (.iconst 1, 1) := dk_4 (dk_at dksX0_laws_1 19 rfl rfl)
theorem dX0_laws_44 : decode cX0_laws 44 = .ok (.iload 4, 2) := dk_21 4 (dk_at dksX0_laws_1 20 rfl rfl)
theorem dX0_laws_46 : decode cX0_laws 46 = .ok (.ishl, 1) := dk_120 (dk_at dksX0_laws_1 22 rfl rfl)
theorem dX0_laws_47 : decode cX0_laws 47 = .ok (.goto 4, 3) := dk_167 0 4 (dk_at dksX0_laws_2 0 rfl rfl)
theorem dX0_laws_50 : decode cX0_laws 50 = .ok (.iconst 0, 1) := dk_3 (dk_at dksX0_laws_2 3 rfl rfl)
theorem dX0_laws_51 : decode cX0_laws 51 = .ok (.ior, 1) := dk_128 (dk_at dksX0_laws_2 4 rfl rfl)
theorem dX0_laws_52 : decode cX0_laws 52 = .ok (.istore_n 3, 1) := dk_62 (dk_at dksX0_laws_2 5 rfl rfl)
theorem dX0_laws_53 : decode cX0_laws 53 = .ok (.iinc 4 1, 3) := dk_132 4 1 (dk_at dksX0_laws_2 6 rfl rfl)
theorem dX0_laws_56 : decode cX0_laws 56 = .ok (.goto (-39), 3) := dk_167 255 217 (dk_at dksX0_laws_2 9 rfl rfl)
theorem dX0_laws_59 : decode cX0_laws 59 = .ok (.iload_n 3, 1) := dk_29 (dk_at dksX0_laws_2 12 rfl rfl)
theorem dX0_laws_60 : decode cX0_laws 60 = .ok (.ireturn, 1) := dk_172 (dk_at dksX0_laws_2 13 rfl rfl)
abbrev cX0_by : ByteArray := prog_1_method_98_code
def yX0_by : MethodName := ⟨RX0, "by", "(I)I"⟩
def dkwX0_by_1 : List UInt8 := [172]
abbrev dktX0_by_1 : List UInt8 := dkwX0_by_1 ++ []
def dkwX0_by_0 : List UInt8 := [27, 184, 1, 114, 153, 0, 18, 42, 182, 1, 18, 153, 0, 11, 42, 27, 182, 1, 117, 167, 0, 5, 16, 254]
abbrev dktX0_by_0 : List UInt8 := dkwX0_by_0 ++ dktX0_by_1
theorem dksX0_by_0 : cX0_by.data.toList.drop 0 = dktX0_by_0 := by decide +kernel
theorem dksX0_by_1 : cX0_by.data.toList.drop 24 = dktX0_by_1 := dk_seg dksX0_by_0 24 rfl rfl
theorem dX0_by_0 : decode cX0_by 0 = .ok (.iload_n 1, 1) := dk_27 (dk_at dksX0_by_0 0 rfl rfl)
theorem dX0_by_1 : decode cX0_by 1 = .ok (.invokestatic 370, 3) := dk_184 1 114 (dk_at dksX0_by_0 1 rfl rfl)
theorem dX0_by_4 : decode cX0_by 4 = .ok (.ifCond .eq 18, 3) := dk_153 0 18 (dk_at dksX0_by_0 4 rfl rfl)
theorem dX0_by_7 : decode cX0_by 7 = .ok (.aload_n 0, 1) := dk_42 (dk_at dksX0_by_0 7 rfl rfl)
theorem dX0_by_8 : decode cX0_by 8 = .ok (.invokevirtual 274, 3) := dk_182 1 18 (dk_at dksX0_by_0 8 rfl rfl)
theorem dX0_by_11 : decode cX0_by 11 = .ok (.ifCond .eq 11, 3) := dk_153 0 11 (dk_at dksX0_by_0 11 rfl rfl)
theorem dX0_by_14 : decode cX0_by 14 = .ok (.aload_n 0, 1) := dk_42 (dk_at dksX0_by_0 14 rfl rfl)
theorem dX0_by_15 : decode cX0_by 15 = .ok (.iload_n 1, 1) := dk_27 (dk_at dksX0_by_0 15 rfl rfl)
theorem dX0_by_16 : decode cX0_by 16 = .ok (.invokevirtual 373, 3) := dk_182 1 117 (dk_at dksX0_by_0 16 rfl rfl)
theorem dX0_by_19 : decode cX0_by 19 = .ok (.goto 5, 3) := dk_167 0 5 (dk_at dksX0_by_0 19 rfl rfl)
theorem dX0_by_22 : decode cX0_by 22 = .ok (.bipush (-2), 2) := dk_16 254 (dk_at dksX0_by_0 22 rfl rfl)
theorem dX0_by_24 : decode cX0_by 24 = .ok (.ireturn, 1) := dk_172 (dk_at dksX0_by_1 0 rfl rfl)
abbrev cX0_isLaw : ByteArray := prog_1_method_14_code
def yX0_isLaw : MethodName := ⟨RX0, "isLaw", "(I)Z"⟩
def dkwX0_isLaw_0 : List UInt8 := [26, 133, 9, 20, 0, 136, 184, 0, 95, 172]
abbrev dktX0_isLaw_0 : List UInt8 := dkwX0_isLaw_0 ++ []
theorem dksX0_isLaw_0 : cX0_isLaw.data.toList.drop 0 = dktX0_isLaw_0 := by decide +kernel
theorem dX0_isLaw_0 : decode cX0_isLaw 0 = .ok (.iload_n 0, 1) := dk_26 (dk_at dksX0_isLaw_0 0 rfl rfl)
theorem dX0_isLaw_1 : decode cX0_isLaw 1 = .ok (.i2l, 1) := dk_133 (dk_at dksX0_isLaw_0 1 rfl rfl)
theorem dX0_isLaw_2 : decode cX0_isLaw 2 = .ok (.lconst 0, 1) := dk_9 (dk_at dksX0_isLaw_0 2 rfl rfl)
theorem dX0_isLaw_3 : decode cX0_isLaw 3 = .ok (.ldc2_w 136, 3) := dk_20 0 136 (dk_at dksX0_isLaw_0 3 rfl rfl)
theorem dX0_isLaw_6 : decode cX0_isLaw 6 = .ok (.invokestatic 95, 3) := dk_184 0 95 (dk_at dksX0_isLaw_0 6 rfl rfl)
theorem dX0_isLaw_9 : decode cX0_isLaw 9 = .ok (.ireturn, 1) := dk_172 (dk_at dksX0_isLaw_0 9 rfl rfl)
abbrev cX0_allByLaw : ByteArray := prog_1_method_97_code
def yX0_allByLaw : MethodName := ⟨RX0, "allByLaw", "(I)I"⟩
def dkwX0_allByLaw_0 : List UInt8 := [42, 42, 180, 0, 58, 27, 50, 181, 0, 191, 42, 182, 1, 15, 42, 182, 1, 111, 172]
abbrev dktX0_allByLaw_0 : List UInt8 := dkwX0_allByLaw_0 ++ []
theorem dksX0_allByLaw_0 : cX0_allByLaw.data.toList.drop 0 = dktX0_allByLaw_0 := by decide +kernel
theorem dX0_allByLaw_0 : decode cX0_allByLaw 0 = .ok (.aload_n 0, 1) := dk_42 (dk_at dksX0_allByLaw_0 0 rfl rfl)
theorem dX0_allByLaw_1 : decode cX0_allByLaw 1 = .ok (.aload_n 0, 1) := dk_42 (dk_at dksX0_allByLaw_0 1 rfl rfl)
theorem dX0_allByLaw_2 : decode cX0_allByLaw 2 = .ok (.getfield 58, 3) := dk_180 0 58 (dk_at dksX0_allByLaw_0 2 rfl rfl)
theorem dX0_allByLaw_5 : decode cX0_allByLaw 5 = .ok (.iload_n 1, 1) := dk_27 (dk_at dksX0_allByLaw_0 5 rfl rfl)
theorem dX0_allByLaw_6 : decode cX0_allByLaw 6 = .ok (.aaload, 1) := dk_50 (dk_at dksX0_allByLaw_0 6 rfl rfl)
theorem dX0_allByLaw_7 : decode cX0_allByLaw 7 = .ok (.putfield 191, 3) := dk_181 0 191 (dk_at dksX0_allByLaw_0 7 rfl rfl)
theorem dX0_allByLaw_10 : decode cX0_allByLaw 10 = .ok (.aload_n 0, 1) := dk_42 (dk_at dksX0_allByLaw_0 10 rfl rfl)
theorem dX0_allByLaw_11 : decode cX0_allByLaw 11 = .ok (.invokevirtual 271, 3) := dk_182 1 15 (dk_at dksX0_allByLaw_0 11 rfl rfl)
theorem dX0_allByLaw_14 : decode cX0_allByLaw 14 = .ok (.aload_n 0, 1) := dk_42 (dk_at dksX0_allByLaw_0 14 rfl rfl)
theorem dX0_allByLaw_15 : decode cX0_allByLaw 15 = .ok (.invokevirtual 367, 3) := dk_182 1 111 (dk_at dksX0_allByLaw_0 15 rfl rfl)
theorem dX0_allByLaw_18 : decode cX0_allByLaw 18 = .ok (.ireturn, 1) := dk_172 (dk_at dksX0_allByLaw_0 18 rfl rfl)
abbrev cX0_allLast : ByteArray := prog_1_method_48_code
def yX0_allLast : MethodName := ⟨RX0, "allLast", "()I"⟩
def dkwX0_allLast_0 : List UInt8 := [42, 42, 180, 0, 10, 180, 0, 133, 182, 1, 42, 172]
abbrev dktX0_allLast_0 : List UInt8 := dkwX0_allLast_0 ++ []
theorem dksX0_allLast_0 : cX0_allLast.data.toList.drop 0 = dktX0_allLast_0 := by decide +kernel
theorem dX0_allLast_0 : decode cX0_allLast 0 = .ok (.aload_n 0, 1) := dk_42 (dk_at dksX0_allLast_0 0 rfl rfl)
theorem dX0_allLast_1 : decode cX0_allLast 1 = .ok (.aload_n 0, 1) := dk_42 (dk_at dksX0_allLast_0 1 rfl rfl)
theorem dX0_allLast_2 : decode cX0_allLast 2 = .ok (.getfield 10, 3) := dk_180 0 10 (dk_at dksX0_allLast_0 2 rfl rfl)
theorem dX0_allLast_5 : decode cX0_allLast 5 = .ok (.getfield 133, 3) := dk_180 0 133 (dk_at dksX0_allLast_0 5 rfl rfl)
theorem dX0_allLast_8 : decode cX0_allLast 8 = .ok (.invokevirtual 298, 3) := dk_182 1 42 (dk_at dksX0_allLast_0 8 rfl rfl)
theorem dX0_allLast_11 : decode cX0_allLast 11 = .ok (.ireturn, 1) := dk_172 (dk_at dksX0_allLast_0 11 rfl rfl)
abbrev cX0_law : ByteArray := prog_1_method_99_code
def yX0_law : MethodName := ⟨RX0, "law", "()I"⟩
def dkwX0_law_1 : List UInt8 := [42, 27, 182, 1, 117, 164, 0, 7, 28, 167, 0, 4, 27, 60, 132, 2, 1, 167, 255, 229, 27, 172]
abbrev dktX0_law_1 : List UInt8 := dkwX0_law_1 ++ []
def dkwX0_law_0 : List UInt8 := [42, 182, 1, 18, 154, 0, 6, 16, 254, 172, 3, 60, 4, 61, 28, 7, 162, 0, 28, 42, 28, 182, 1, 117]
abbrev dktX0_law_0 : List UInt8 := dkwX0_law_0 ++ dktX0_law_1
theorem dksX0_law_0 : cX0_law.data.toList.drop 0 = dktX0_law_0 := by decide +kernel
theorem dksX0_law_1 : cX0_law.data.toList.drop 24 = dktX0_law_1 := dk_seg dksX0_law_0 24 rfl rfl
theorem dX0_law_0 : decode cX0_law 0 = .ok (.aload_n 0, 1) := dk_42 (dk_at dksX0_law_0 0 rfl rfl)
theorem dX0_law_1 : decode cX0_law 1 = .ok (.invokevirtual 274, 3) := dk_182 1 18 (dk_at dksX0_law_0 1 rfl rfl)
theorem dX0_law_4 : decode cX0_law 4 = .ok (.ifCond .ne 6, 3) := dk_154 0 6 (dk_at dksX0_law_0 4 rfl rfl)
theorem dX0_law_7 : decode cX0_law 7 = .ok (.bipush (-2), 2) := dk_16 254 (dk_at dksX0_law_0 7 rfl rfl)
theorem dX0_law_9 : decode cX0_law 9 = .ok (.ireturn, 1) := dk_172 (dk_at dksX0_law_0 9 rfl rfl)
theorem dX0_law_10 : decode cX0_law 10 = .ok (.iconst 0, 1) := dk_3 (dk_at dksX0_law_0 10 rfl rfl)
theorem dX0_law_11 : decode cX0_law 11 = .ok (.istore_n 1, 1) := dk_60 (dk_at dksX0_law_0 11 rfl rfl)
theorem dX0_law_12 : decode cX0_law 12 = .ok (.iconst 1, 1) := dk_4 (dk_at dksX0_law_0 12 rfl rfl)
theorem dX0_law_13 : decode cX0_law 13 = .ok (.istore_n 2, 1) := dk_61 (dk_at dksX0_law_0 13 rfl rfl)
theorem dX0_law_14 : decode cX0_law 14 = .ok (.iload_n 2, 1) := dk_28 (dk_at dksX0_law_0 14 rfl rfl)
theorem dX0_law_15 : decode cX0_law 15 = .ok (.iconst 4, 1) := dk_7 (dk_at dksX0_law_0 15 rfl rfl)
theorem dX0_law_16 : decode cX0_law 16 = .ok (.if_icmp .ge 28, 3) := dk_162 0 28 (dk_at dksX0_law_0 16 rfl rfl)
theorem dX0_law_19 : decode cX0_law 19 = .ok (.aload_n 0, 1) := dk_42 (dk_at dksX0_law_0 19 rfl rfl)
theorem dX0_law_20 : decode cX0_law 20 = .ok (.iload_n 2, 1) := dk_28 (dk_at dksX0_law_0 20 rfl rfl)
theorem dX0_law_21 : decode cX0_law 21 = .ok (.invokevirtual 373, 3) := dk_182 1 117 (dk_at dksX0_law_0 21 rfl rfl)
theorem dX0_law_24 : decode cX0_law 24 = .ok (.aload_n 0, 1) := dk_42 (dk_at dksX0_law_1 0 rfl rfl)
theorem dX0_law_25 : decode cX0_law 25 = .ok (.iload_n 1, 1) := dk_27 (dk_at dksX0_law_1 1 rfl rfl)
theorem dX0_law_26 : decode cX0_law 26 = .ok (.invokevirtual 373, 3) := dk_182 1 117 (dk_at dksX0_law_1 2 rfl rfl)
theorem dX0_law_29 : decode cX0_law 29 = .ok (.if_icmp .le 7, 3) := dk_164 0 7 (dk_at dksX0_law_1 5 rfl rfl)
theorem dX0_law_32 : decode cX0_law 32 = .ok (.iload_n 2, 1) := dk_28 (dk_at dksX0_law_1 8 rfl rfl)
theorem dX0_law_33 : decode cX0_law 33 = .ok (.goto 4, 3) := dk_167 0 4 (dk_at dksX0_law_1 9 rfl rfl)
theorem dX0_law_36 : decode cX0_law 36 = .ok (.iload_n 1, 1) := dk_27 (dk_at dksX0_law_1 12 rfl rfl)
theorem dX0_law_37 : decode cX0_law 37 = .ok (.istore_n 1, 1) := dk_60 (dk_at dksX0_law_1 13 rfl rfl)
theorem dX0_law_38 : decode cX0_law 38 = .ok (.iinc 2 1, 3) := dk_132 2 1 (dk_at dksX0_law_1 14 rfl rfl)
theorem dX0_law_41 : decode cX0_law 41 = .ok (.goto (-27), 3) := dk_167 255 229 (dk_at dksX0_law_1 17 rfl rfl)
theorem dX0_law_44 : decode cX0_law 44 = .ok (.iload_n 1, 1) := dk_27 (dk_at dksX0_law_1 20 rfl rfl)
theorem dX0_law_45 : decode cX0_law 45 = .ok (.ireturn, 1) := dk_172 (dk_at dksX0_law_1 21 rfl rfl)
abbrev cX0_hide : ByteArray := prog_1_method_100_code
def yX0_hide : MethodName := ⟨RX0, "hide", "(II)I"⟩
def dkwX0_hide_3 : List UInt8 := [181, 0, 214, 167, 255, 219, 2, 172]
abbrev dktX0_hide_3 : List UInt8 := dkwX0_hide_3 ++ []
def dkwX0_hide_2 : List UInt8 := [182, 1, 15, 42, 27, 182, 1, 66, 8, 162, 0, 8, 42, 180, 0, 214, 172, 42, 89, 180, 0, 214, 4, 96]
abbrev dktX0_hide_2 : List UInt8 := dkwX0_hide_2 ++ dktX0_hide_3
def dkwX0_hide_1 : List UInt8 := [181, 0, 208, 42, 28, 181, 0, 211, 42, 3, 181, 0, 214, 42, 180, 0, 214, 16, 9, 163, 0, 34, 42]
abbrev dktX0_hide_1 : List UInt8 := dkwX0_hide_1 ++ dktX0_hide_2
def dkwX0_hide_0 : List UInt8 := [42, 28, 182, 1, 27, 153, 0, 12, 42, 27, 133, 182, 0, 163, 154, 0, 6, 16, 254, 172, 42, 27]
abbrev dktX0_hide_0 : List UInt8 := dkwX0_hide_0 ++ dktX0_hide_1
theorem dksX0_hide_0 : cX0_hide.data.toList.drop 0 = dktX0_hide_0 := by decide +kernel
theorem dksX0_hide_1 : cX0_hide.data.toList.drop 22 = dktX0_hide_1 := dk_seg dksX0_hide_0 22 rfl rfl
theorem dksX0_hide_2 : cX0_hide.data.toList.drop 45 = dktX0_hide_2 := dk_seg dksX0_hide_1 23 rfl rfl
theorem dksX0_hide_3 : cX0_hide.data.toList.drop 69 = dktX0_hide_3 := dk_seg dksX0_hide_2 24 rfl rfl
theorem dX0_hide_0 : decode cX0_hide 0 = .ok (.aload_n 0, 1) := dk_42 (dk_at dksX0_hide_0 0 rfl rfl)
theorem dX0_hide_1 : decode cX0_hide 1 = .ok (.iload_n 2, 1) := dk_28 (dk_at dksX0_hide_0 1 rfl rfl)
theorem dX0_hide_2 : decode cX0_hide 2 = .ok (.invokevirtual 283, 3) := dk_182 1 27 (dk_at dksX0_hide_0 2 rfl rfl)
theorem dX0_hide_5 : decode cX0_hide 5 = .ok (.ifCond .eq 12, 3) := dk_153 0 12 (dk_at dksX0_hide_0 5 rfl rfl)
theorem dX0_hide_8 : decode cX0_hide 8 = .ok (.aload_n 0, 1) := dk_42 (dk_at dksX0_hide_0 8 rfl rfl)
theorem dX0_hide_9 : decode cX0_hide 9 = .ok (.iload_n 1, 1) := dk_27 (dk_at dksX0_hide_0 9 rfl rfl)
theorem dX0_hide_10 : decode cX0_hide 10 = .ok (.i2l, 1) := dk_133 (dk_at dksX0_hide_0 10 rfl rfl)
theorem dX0_hide_11 : decode cX0_hide 11 = .ok (.invokevirtual 163, 3) := dk_182 0 163 (dk_at dksX0_hide_0 11 rfl rfl)
theorem dX0_hide_14 : decode cX0_hide 14 = .ok (.ifCond .ne 6, 3) := dk_154 0 6 (dk_at dksX0_hide_0 14 rfl rfl)
theorem dX0_hide_17 : decode cX0_hide 17 = .ok (.bipush (-2), 2) := dk_16 254 (dk_at dksX0_hide_0 17 rfl rfl)
theorem dX0_hide_19 : decode cX0_hide 19 = .ok (.ireturn, 1) := dk_172 (dk_at dksX0_hide_0 19 rfl rfl)
theorem dX0_hide_20 : decode cX0_hide 20 = .ok (.aload_n 0, 1) := dk_42 (dk_at dksX0_hide_0 20 rfl rfl)
theorem dX0_hide_21 : decode cX0_hide 21 = .ok (.iload_n 1, 1) := dk_27 (dk_at dksX0_hide_0 21 rfl rfl)
theorem dX0_hide_22 : decode cX0_hide 22 = .ok (.putfield 208, 3) := dk_181 0 208 (dk_at dksX0_hide_1 0 rfl rfl)
theorem dX0_hide_25 : decode cX0_hide 25 = .ok (.aload_n 0, 1) := dk_42 (dk_at dksX0_hide_1 3 rfl rfl)
theorem dX0_hide_26 : decode cX0_hide 26 = .ok (.iload_n 2, 1) := dk_28 (dk_at dksX0_hide_1 4 rfl rfl)
theorem dX0_hide_27 : decode cX0_hide 27 = .ok (.putfield 211, 3) := dk_181 0 211 (dk_at dksX0_hide_1 5 rfl rfl)
theorem dX0_hide_30 : decode cX0_hide 30 = .ok (.aload_n 0, 1) := dk_42 (dk_at dksX0_hide_1 8 rfl rfl)
theorem dX0_hide_31 : decode cX0_hide 31 = .ok (.iconst 0, 1) := dk_3 (dk_at dksX0_hide_1 9 rfl rfl)
theorem dX0_hide_32 : decode cX0_hide 32 = .ok (.putfield 214, 3) := dk_181 0 214 (dk_at dksX0_hide_1 10 rfl rfl)
theorem dX0_hide_35 : decode cX0_hide 35 = .ok (.aload_n 0, 1) := dk_42 (dk_at dksX0_hide_1 13 rfl rfl)
theorem dX0_hide_36 : decode cX0_hide 36 = .ok (.getfield 214, 3) := dk_180 0 214 (dk_at dksX0_hide_1 14 rfl rfl)
theorem dX0_hide_39 : decode cX0_hide 39 = .ok (.bipush 9, 2) := dk_16 9 (dk_at dksX0_hide_1 17 rfl rfl)
theorem dX0_hide_41 : decode cX0_hide 41 = .ok (.if_icmp .gt 34, 3) := dk_163 0 34 (dk_at dksX0_hide_1 19 rfl rfl)
theorem dX0_hide_44 : decode cX0_hide 44 = .ok (.aload_n 0, 1) := dk_42 (dk_at dksX0_hide_1 22 rfl rfl)
theorem dX0_hide_45 : decode cX0_hide 45 = .ok (.invokevirtual 271, 3) := dk_182 1 15 (dk_at dksX0_hide_2 0 rfl rfl)
theorem dX0_hide_48 : decode cX0_hide 48 = .ok (.aload_n 0, 1) := dk_42 (dk_at dksX0_hide_2 3 rfl rfl)
theorem dX0_hide_49 : decode cX0_hide 49 = .ok (.iload_n 1, 1) := dk_27 (dk_at dksX0_hide_2 4 rfl rfl)
theorem dX0_hide_50 : decode cX0_hide 50 = .ok (.invokevirtual 322, 3) := dk_182 1 66 (dk_at dksX0_hide_2 5 rfl rfl)
theorem dX0_hide_53 : decode cX0_hide 53 = .ok (.iconst 5, 1) := dk_8 (dk_at dksX0_hide_2 8 rfl rfl)
theorem dX0_hide_54 : decode cX0_hide 54 = .ok (.if_icmp .ge 8, 3) := dk_162 0 8 (dk_at dksX0_hide_2 9 rfl rfl)
theorem dX0_hide_57 : decode cX0_hide 57 = .ok (.aload_n 0, 1) := dk_42 (dk_at dksX0_hide_2 12 rfl rfl)
theorem dX0_hide_58 : decode cX0_hide 58 = .ok (.getfield 214, 3) := dk_180 0 214 (dk_at dksX0_hide_2 13 rfl rfl)
theorem dX0_hide_61 : decode cX0_hide 61 = .ok (.ireturn, 1) := dk_172 (dk_at dksX0_hide_2 16 rfl rfl)
theorem dX0_hide_62 : decode cX0_hide 62 = .ok (.aload_n 0, 1) := dk_42 (dk_at dksX0_hide_2 17 rfl rfl)
theorem dX0_hide_63 : decode cX0_hide 63 = .ok (.dup, 1) := dk_89 (dk_at dksX0_hide_2 18 rfl rfl)
theorem dX0_hide_64 : decode cX0_hide 64 = .ok (.getfield 214, 3) := dk_180 0 214 (dk_at dksX0_hide_2 19 rfl rfl)
theorem dX0_hide_67 : decode cX0_hide 67 = .ok (.iconst 1, 1) := dk_4 (dk_at dksX0_hide_2 22 rfl rfl)
theorem dX0_hide_68 : decode cX0_hide 68 = .ok (.iadd, 1) := dk_96 (dk_at dksX0_hide_2 23 rfl rfl)
theorem dX0_hide_69 : decode cX0_hide 69 = .ok (.putfield 214, 3) := dk_181 0 214 (dk_at dksX0_hide_3 0 rfl rfl)
theorem dX0_hide_72 : decode cX0_hide 72 = .ok (.goto (-37), 3) := dk_167 255 219 (dk_at dksX0_hide_3 3 rfl rfl)
theorem dX0_hide_75 : decode cX0_hide 75 = .ok (.iconst (-1), 1) := dk_2 (dk_at dksX0_hide_3 6 rfl rfl)
theorem dX0_hide_76 : decode cX0_hide 76 = .ok (.ireturn, 1) := dk_172 (dk_at dksX0_hide_3 7 rfl rfl)
abbrev cX0_save : ByteArray := prog_1_method_101_code
def yX0_save : MethodName := ⟨RX0, "save", "(I)I"⟩
def dkwX0_save_3 : List UInt8 := [180, 0, 211, 172, 42, 89, 180, 0, 211, 4, 96, 181, 0, 211, 167, 255, 199, 2, 172]
abbrev dktX0_save_3 : List UInt8 := dkwX0_save_3 ++ []
def dkwX0_save_2 : List UInt8 := [182, 0, 243, 154, 0, 6, 167, 0, 21, 42, 182, 1, 15, 42, 27, 182, 1, 66, 8, 161, 0, 8, 42]
abbrev dktX0_save_2 : List UInt8 := dkwX0_save_2 ++ dktX0_save_3
def dkwX0_save_1 : List UInt8 := [181, 0, 211, 42, 180, 0, 211, 42, 180, 0, 10, 180, 0, 133, 163, 0, 49, 42, 27, 42, 180, 0, 211]
abbrev dktX0_save_1 : List UInt8 := dkwX0_save_1 ++ dktX0_save_2
def dkwX0_save_0 : List UInt8 := [42, 27, 182, 1, 33, 154, 0, 6, 16, 254, 172, 42, 27, 181, 0, 208, 42, 4, 181, 0, 217, 42, 3]
abbrev dktX0_save_0 : List UInt8 := dkwX0_save_0 ++ dktX0_save_1
theorem dksX0_save_0 : cX0_save.data.toList.drop 0 = dktX0_save_0 := by decide +kernel
theorem dksX0_save_1 : cX0_save.data.toList.drop 23 = dktX0_save_1 := dk_seg dksX0_save_0 23 rfl rfl
theorem dksX0_save_2 : cX0_save.data.toList.drop 46 = dktX0_save_2 := dk_seg dksX0_save_1 23 rfl rfl
theorem dksX0_save_3 : cX0_save.data.toList.drop 69 = dktX0_save_3 := dk_seg dksX0_save_2 23 rfl rfl
theorem dX0_save_0 : decode cX0_save 0 = .ok (.aload_n 0, 1) := dk_42 (dk_at dksX0_save_0 0 rfl rfl)
theorem dX0_save_1 : decode cX0_save 1 = .ok (.iload_n 1, 1) := dk_27 (dk_at dksX0_save_0 1 rfl rfl)
theorem dX0_save_2 : decode cX0_save 2 = .ok (.invokevirtual 289, 3) := dk_182 1 33 (dk_at dksX0_save_0 2 rfl rfl)
theorem dX0_save_5 : decode cX0_save 5 = .ok (.ifCond .ne 6, 3) := dk_154 0 6 (dk_at dksX0_save_0 5 rfl rfl)
theorem dX0_save_8 : decode cX0_save 8 = .ok (.bipush (-2), 2) := dk_16 254 (dk_at dksX0_save_0 8 rfl rfl)
theorem dX0_save_10 : decode cX0_save 10 = .ok (.ireturn, 1) := dk_172 (dk_at dksX0_save_0 10 rfl rfl)
theorem dX0_save_11 : decode cX0_save 11 = .ok (.aload_n 0, 1) := dk_42 (dk_at dksX0_save_0 11 rfl rfl)
theorem dX0_save_12 : decode cX0_save 12 = .ok (.iload_n 1, 1) := dk_27 (dk_at dksX0_save_0 12 rfl rfl)
theorem dX0_save_13 : decode cX0_save 13 = .ok (.putfield 208, 3) := dk_181 0 208 (dk_at dksX0_save_0 13 rfl rfl)
theorem dX0_save_16 : decode cX0_save 16 = .ok (.aload_n 0, 1) := dk_42 (dk_at dksX0_save_0 16 rfl rfl)
theorem dX0_save_17 : decode cX0_save 17 = .ok (.iconst 1, 1) := dk_4 (dk_at dksX0_save_0 17 rfl rfl)
theorem dX0_save_18 : decode cX0_save 18 = .ok (.putfield 217, 3) := dk_181 0 217 (dk_at dksX0_save_0 18 rfl rfl)
theorem dX0_save_21 : decode cX0_save 21 = .ok (.aload_n 0, 1) := dk_42 (dk_at dksX0_save_0 21 rfl rfl)
theorem dX0_save_22 : decode cX0_save 22 = .ok (.iconst 0, 1) := dk_3 (dk_at dksX0_save_0 22 rfl rfl)
theorem dX0_save_23 : decode cX0_save 23 = .ok (.putfield 211, 3) := dk_181 0 211 (dk_at dksX0_save_1 0 rfl rfl)
theorem dX0_save_26 : decode cX0_save 26 = .ok (.aload_n 0, 1) := dk_42 (dk_at dksX0_save_1 3 rfl rfl)
theorem dX0_save_27 : decode cX0_save 27 = .ok (.getfield 211, 3) := dk_180 0 211 (dk_at dksX0_save_1 4 rfl rfl)
theorem dX0_save_30 : decode cX0_save 30 = .ok (.aload_n 0, 1) := dk_42 (dk_at dksX0_save_1 7 rfl rfl)
theorem dX0_save_31 : decode cX0_save 31 = .ok (.getfield 10, 3) := dk_180 0 10 (dk_at dksX0_save_1 8 rfl rfl)
theorem dX0_save_34 : decode cX0_save 34 = .ok (.getfield 133, 3) := dk_180 0 133 (dk_at dksX0_save_1 11 rfl rfl)
theorem dX0_save_37 : decode cX0_save 37 = .ok (.if_icmp .gt 49, 3) := dk_163 0 49 (dk_at dksX0_save_1 14 rfl rfl)
theorem dX0_save_40 : decode cX0_save 40 = .ok (.aload_n 0, 1) := dk_42 (dk_at dksX0_save_1 17 rfl rfl)
theorem dX0_save_41 : decode cX0_save 41 = .ok (.iload_n 1, 1) := dk_27 (dk_at dksX0_save_1 18 rfl rfl)
theorem dX0_save_42 : decode cX0_save 42 = .ok (.aload_n 0, 1) := dk_42 (dk_at dksX0_save_1 19 rfl rfl)
theorem dX0_save_43 : decode cX0_save 43 = .ok (.getfield 211, 3) := dk_180 0 211 (dk_at dksX0_save_1 20 rfl rfl)
theorem dX0_save_46 : decode cX0_save 46 = .ok (.invokevirtual 243, 3) := dk_182 0 243 (dk_at dksX0_save_2 0 rfl rfl)
theorem dX0_save_49 : decode cX0_save 49 = .ok (.ifCond .ne 6, 3) := dk_154 0 6 (dk_at dksX0_save_2 3 rfl rfl)
theorem dX0_save_52 : decode cX0_save 52 = .ok (.goto 21, 3) := dk_167 0 21 (dk_at dksX0_save_2 6 rfl rfl)
theorem dX0_save_55 : decode cX0_save 55 = .ok (.aload_n 0, 1) := dk_42 (dk_at dksX0_save_2 9 rfl rfl)
theorem dX0_save_56 : decode cX0_save 56 = .ok (.invokevirtual 271, 3) := dk_182 1 15 (dk_at dksX0_save_2 10 rfl rfl)
theorem dX0_save_59 : decode cX0_save 59 = .ok (.aload_n 0, 1) := dk_42 (dk_at dksX0_save_2 13 rfl rfl)
theorem dX0_save_60 : decode cX0_save 60 = .ok (.iload_n 1, 1) := dk_27 (dk_at dksX0_save_2 14 rfl rfl)
theorem dX0_save_61 : decode cX0_save 61 = .ok (.invokevirtual 322, 3) := dk_182 1 66 (dk_at dksX0_save_2 15 rfl rfl)
theorem dX0_save_64 : decode cX0_save 64 = .ok (.iconst 5, 1) := dk_8 (dk_at dksX0_save_2 18 rfl rfl)
theorem dX0_save_65 : decode cX0_save 65 = .ok (.if_icmp .lt 8, 3) := dk_161 0 8 (dk_at dksX0_save_2 19 rfl rfl)
theorem dX0_save_68 : decode cX0_save 68 = .ok (.aload_n 0, 1) := dk_42 (dk_at dksX0_save_2 22 rfl rfl)
theorem dX0_save_69 : decode cX0_save 69 = .ok (.getfield 211, 3) := dk_180 0 211 (dk_at dksX0_save_3 0 rfl rfl)
theorem dX0_save_72 : decode cX0_save 72 = .ok (.ireturn, 1) := dk_172 (dk_at dksX0_save_3 3 rfl rfl)
theorem dX0_save_73 : decode cX0_save 73 = .ok (.aload_n 0, 1) := dk_42 (dk_at dksX0_save_3 4 rfl rfl)
theorem dX0_save_74 : decode cX0_save 74 = .ok (.dup, 1) := dk_89 (dk_at dksX0_save_3 5 rfl rfl)
theorem dX0_save_75 : decode cX0_save 75 = .ok (.getfield 211, 3) := dk_180 0 211 (dk_at dksX0_save_3 6 rfl rfl)
theorem dX0_save_78 : decode cX0_save 78 = .ok (.iconst 1, 1) := dk_4 (dk_at dksX0_save_3 9 rfl rfl)
theorem dX0_save_79 : decode cX0_save 79 = .ok (.iadd, 1) := dk_96 (dk_at dksX0_save_3 10 rfl rfl)
theorem dX0_save_80 : decode cX0_save 80 = .ok (.putfield 211, 3) := dk_181 0 211 (dk_at dksX0_save_3 11 rfl rfl)
theorem dX0_save_83 : decode cX0_save 83 = .ok (.goto (-57), 3) := dk_167 255 199 (dk_at dksX0_save_3 14 rfl rfl)
theorem dX0_save_86 : decode cX0_save 86 = .ok (.iconst (-1), 1) := dk_2 (dk_at dksX0_save_3 17 rfl rfl)
theorem dX0_save_87 : decode cX0_save 87 = .ok (.ireturn, 1) := dk_172 (dk_at dksX0_save_3 18 rfl rfl)
abbrev cX0_heavy : ByteArray := prog_1_method_102_code
def yX0_heavy : MethodName := ⟨RX0, "heavy", "()I"⟩
def dkwX0_heavy_3 : List UInt8 := [181, 0, 205, 167, 255, 207, 28, 172]
abbrev dktX0_heavy_3 : List UInt8 := dkwX0_heavy_3 ++ []
def dkwX0_heavy_2 : List UInt8 := [161, 0, 6, 167, 0, 13, 42, 182, 1, 111, 60, 42, 180, 0, 205, 61, 42, 89, 180, 0, 205, 4, 96]
abbrev dktX0_heavy_2 : List UInt8 := dkwX0_heavy_2 ++ dktX0_heavy_3
def dkwX0_heavy_1 : List UInt8 := [180, 0, 205, 42, 180, 0, 10, 180, 0, 126, 162, 0, 41, 42, 182, 1, 15, 42, 182, 1, 111, 27]
abbrev dktX0_heavy_1 : List UInt8 := dkwX0_heavy_1 ++ dktX0_heavy_2
def dkwX0_heavy_0 : List UInt8 := [42, 182, 1, 18, 154, 0, 6, 16, 254, 172, 42, 182, 1, 111, 60, 2, 61, 42, 3, 181, 0, 205, 42]
abbrev dktX0_heavy_0 : List UInt8 := dkwX0_heavy_0 ++ dktX0_heavy_1
theorem dksX0_heavy_0 : cX0_heavy.data.toList.drop 0 = dktX0_heavy_0 := by decide +kernel
theorem dksX0_heavy_1 : cX0_heavy.data.toList.drop 23 = dktX0_heavy_1 := dk_seg dksX0_heavy_0 23 rfl rfl
theorem dksX0_heavy_2 : cX0_heavy.data.toList.drop 45 = dktX0_heavy_2 := dk_seg dksX0_heavy_1 22 rfl rfl
theorem dksX0_heavy_3 : cX0_heavy.data.toList.drop 68 = dktX0_heavy_3 := dk_seg dksX0_heavy_2 23 rfl rfl
theorem dX0_heavy_0 : decode cX0_heavy 0 = .ok (.aload_n 0, 1) := dk_42 (dk_at dksX0_heavy_0 0 rfl rfl)
theorem dX0_heavy_1 : decode cX0_heavy 1 = .ok (.invokevirtual 274, 3) := dk_182 1 18 (dk_at dksX0_heavy_0 1 rfl rfl)
theorem dX0_heavy_4 : decode cX0_heavy 4 = .ok (.ifCond .ne 6, 3) := dk_154 0 6 (dk_at dksX0_heavy_0 4 rfl rfl)
theorem dX0_heavy_7 : decode cX0_heavy 7 = .ok (.bipush (-2), 2) := dk_16 254 (dk_at dksX0_heavy_0 7 rfl rfl)
theorem dX0_heavy_9 : decode cX0_heavy 9 = .ok (.ireturn, 1) := dk_172 (dk_at dksX0_heavy_0 9 rfl rfl)
theorem dX0_heavy_10 : decode cX0_heavy 10 = .ok (.aload_n 0, 1) := dk_42 (dk_at dksX0_heavy_0 10 rfl rfl)
theorem dX0_heavy_11 : decode cX0_heavy 11 = .ok (.invokevirtual 367, 3) := dk_182 1 111 (dk_at dksX0_heavy_0 11 rfl rfl)
theorem dX0_heavy_14 : decode cX0_heavy 14 = .ok (.istore_n 1, 1) := dk_60 (dk_at dksX0_heavy_0 14 rfl rfl)
theorem dX0_heavy_15 : decode cX0_heavy 15 = .ok (.iconst (-1), 1) := dk_2 (dk_at dksX0_heavy_0 15 rfl rfl)
theorem dX0_heavy_16 : decode cX0_heavy 16 = .ok (.istore_n 2, 1) := dk_61 (dk_at dksX0_heavy_0 16 rfl rfl)
theorem dX0_heavy_17 : decode cX0_heavy 17 = .ok (.aload_n 0, 1) := dk_42 (dk_at dksX0_heavy_0 17 rfl rfl)
theorem dX0_heavy_18 : decode cX0_heavy 18 = .ok (.iconst 0, 1) := dk_3 (dk_at dksX0_heavy_0 18 rfl rfl)
theorem dX0_heavy_19 : decode cX0_heavy 19 = .ok (.putfield 205, 3) := dk_181 0 205 (dk_at dksX0_heavy_0 19 rfl rfl)
theorem dX0_heavy_22 : decode cX0_heavy 22 = .ok (.aload_n 0, 1) := dk_42 (dk_at dksX0_heavy_0 22 rfl rfl)
theorem dX0_heavy_23 : decode cX0_heavy 23 = .ok (.getfield 205, 3) := dk_180 0 205 (dk_at dksX0_heavy_1 0 rfl rfl)
theorem dX0_heavy_26 : decode cX0_heavy 26 = .ok (.aload_n 0, 1) := dk_42 (dk_at dksX0_heavy_1 3 rfl rfl)
theorem dX0_heavy_27 : decode cX0_heavy 27 = .ok (.getfield 10, 3) := dk_180 0 10 (dk_at dksX0_heavy_1 4 rfl rfl)
theorem dX0_heavy_30 : decode cX0_heavy 30 = .ok (.getfield 126, 3) := dk_180 0 126 (dk_at dksX0_heavy_1 7 rfl rfl)
theorem dX0_heavy_33 : decode cX0_heavy 33 = .ok (.if_icmp .ge 41, 3) := dk_162 0 41 (dk_at dksX0_heavy_1 10 rfl rfl)
theorem dX0_heavy_36 : decode cX0_heavy 36 = .ok (.aload_n 0, 1) := dk_42 (dk_at dksX0_heavy_1 13 rfl rfl)
theorem dX0_heavy_37 : decode cX0_heavy 37 = .ok (.invokevirtual 271, 3) := dk_182 1 15 (dk_at dksX0_heavy_1 14 rfl rfl)
theorem dX0_heavy_40 : decode cX0_heavy 40 = .ok (.aload_n 0, 1) := dk_42 (dk_at dksX0_heavy_1 17 rfl rfl)
theorem dX0_heavy_41 : decode cX0_heavy 41 = .ok (.invokevirtual 367, 3) := dk_182 1 111 (dk_at dksX0_heavy_1 18 rfl rfl)
theorem dX0_heavy_44 : decode cX0_heavy 44 = .ok (.iload_n 1, 1) := dk_27 (dk_at dksX0_heavy_1 21 rfl rfl)
theorem dX0_heavy_45 : decode cX0_heavy 45 = .ok (.if_icmp .lt 6, 3) := dk_161 0 6 (dk_at dksX0_heavy_2 0 rfl rfl)
theorem dX0_heavy_48 : decode cX0_heavy 48 = .ok (.goto 13, 3) := dk_167 0 13 (dk_at dksX0_heavy_2 3 rfl rfl)
theorem dX0_heavy_51 : decode cX0_heavy 51 = .ok (.aload_n 0, 1) := dk_42 (dk_at dksX0_heavy_2 6 rfl rfl)
theorem dX0_heavy_52 : decode cX0_heavy 52 = .ok (.invokevirtual 367, 3) := dk_182 1 111 (dk_at dksX0_heavy_2 7 rfl rfl)
theorem dX0_heavy_55 : decode cX0_heavy 55 = .ok (.istore_n 1, 1) := dk_60 (dk_at dksX0_heavy_2 10 rfl rfl)
theorem dX0_heavy_56 : decode cX0_heavy 56 = .ok (.aload_n 0, 1) := dk_42 (dk_at dksX0_heavy_2 11 rfl rfl)
theorem dX0_heavy_57 : decode cX0_heavy 57 = .ok (.getfield 205, 3) := dk_180 0 205 (dk_at dksX0_heavy_2 12 rfl rfl)
theorem dX0_heavy_60 : decode cX0_heavy 60 = .ok (.istore_n 2, 1) := dk_61 (dk_at dksX0_heavy_2 15 rfl rfl)
theorem dX0_heavy_61 : decode cX0_heavy 61 = .ok (.aload_n 0, 1) := dk_42 (dk_at dksX0_heavy_2 16 rfl rfl)
theorem dX0_heavy_62 : decode cX0_heavy 62 = .ok (.dup, 1) := dk_89 (dk_at dksX0_heavy_2 17 rfl rfl)
theorem dX0_heavy_63 : decode cX0_heavy 63 = .ok (.getfield 205, 3) := dk_180 0 205 (dk_at dksX0_heavy_2 18 rfl rfl)
theorem dX0_heavy_66 : decode cX0_heavy 66 = .ok (.iconst 1, 1) := dk_4 (dk_at dksX0_heavy_2 21 rfl rfl)
theorem dX0_heavy_67 : decode cX0_heavy 67 = .ok (.iadd, 1) := dk_96 (dk_at dksX0_heavy_2 22 rfl rfl)
theorem dX0_heavy_68 : decode cX0_heavy 68 = .ok (.putfield 205, 3) := dk_181 0 205 (dk_at dksX0_heavy_3 0 rfl rfl)
theorem dX0_heavy_71 : decode cX0_heavy 71 = .ok (.goto (-49), 3) := dk_167 255 207 (dk_at dksX0_heavy_3 3 rfl rfl)
theorem dX0_heavy_74 : decode cX0_heavy 74 = .ok (.iload_n 2, 1) := dk_28 (dk_at dksX0_heavy_3 6 rfl rfl)
theorem dX0_heavy_75 : decode cX0_heavy 75 = .ok (.ireturn, 1) := dk_172 (dk_at dksX0_heavy_3 7 rfl rfl)
abbrev cX0_worth : ByteArray := prog_1_method_106_code
def yX0_worth : MethodName := ⟨RX0, "worth", "(I)I"⟩
def dkwX0_worth_1 : List UInt8 := [180, 0, 10, 180, 0, 133, 182, 1, 49, 167, 0, 5, 16, 254, 172]
abbrev dktX0_worth_1 : List UInt8 := dkwX0_worth_1 ++ []
def dkwX0_worth_0 : List UInt8 := [42, 182, 1, 18, 153, 0, 32, 27, 133, 9, 42, 182, 1, 45, 133, 184, 0, 95, 153, 0, 18, 42, 27, 42]
abbrev dktX0_worth_0 : List UInt8 := dkwX0_worth_0 ++ dktX0_worth_1
theorem dksX0_worth_0 : cX0_worth.data.toList.drop 0 = dktX0_worth_0 := by decide +kernel
theorem dksX0_worth_1 : cX0_worth.data.toList.drop 24 = dktX0_worth_1 := dk_seg dksX0_worth_0 24 rfl rfl
theorem dX0_worth_0 : decode cX0_worth 0 = .ok (.aload_n 0, 1) := dk_42 (dk_at dksX0_worth_0 0 rfl rfl)
theorem dX0_worth_1 : decode cX0_worth 1 = .ok (.invokevirtual 274, 3) := dk_182 1 18 (dk_at dksX0_worth_0 1 rfl rfl)
theorem dX0_worth_4 : decode cX0_worth 4 = .ok (.ifCond .eq 32, 3) := dk_153 0 32 (dk_at dksX0_worth_0 4 rfl rfl)
theorem dX0_worth_7 : decode cX0_worth 7 = .ok (.iload_n 1, 1) := dk_27 (dk_at dksX0_worth_0 7 rfl rfl)
theorem dX0_worth_8 : decode cX0_worth 8 = .ok (.i2l, 1) := dk_133 (dk_at dksX0_worth_0 8 rfl rfl)
theorem dX0_worth_9 : decode cX0_worth 9 = .ok (.lconst 0, 1) := dk_9 (dk_at dksX0_worth_0 9 rfl rfl)
theorem dX0_worth_10 : decode cX0_worth 10 = .ok (.aload_n 0, 1) := dk_42 (dk_at dksX0_worth_0 10 rfl rfl)
theorem dX0_worth_11 : decode cX0_worth 11 = .ok (.invokevirtual 301, 3) := dk_182 1 45 (dk_at dksX0_worth_0 11 rfl rfl)
theorem dX0_worth_14 : decode cX0_worth 14 = .ok (.i2l, 1) := dk_133 (dk_at dksX0_worth_0 14 rfl rfl)
theorem dX0_worth_15 : decode cX0_worth 15 = .ok (.invokestatic 95, 3) := dk_184 0 95 (dk_at dksX0_worth_0 15 rfl rfl)
theorem dX0_worth_18 : decode cX0_worth 18 = .ok (.ifCond .eq 18, 3) := dk_153 0 18 (dk_at dksX0_worth_0 18 rfl rfl)
theorem dX0_worth_21 : decode cX0_worth 21 = .ok (.aload_n 0, 1) := dk_42 (dk_at dksX0_worth_0 21 rfl rfl)
theorem dX0_worth_22 : decode cX0_worth 22 = .ok (.iload_n 1, 1) := dk_27 (dk_at dksX0_worth_0 22 rfl rfl)
theorem dX0_worth_23 : decode cX0_worth 23 = .ok (.aload_n 0, 1) := dk_42 (dk_at dksX0_worth_0 23 rfl rfl)
theorem dX0_worth_24 : decode cX0_worth 24 = .ok (.getfield 10, 3) := dk_180 0 10 (dk_at dksX0_worth_1 0 rfl rfl)
theorem dX0_worth_27 : decode cX0_worth 27 = .ok (.getfield 133, 3) := dk_180 0 133 (dk_at dksX0_worth_1 3 rfl rfl)
theorem dX0_worth_30 : decode cX0_worth 30 = .ok (.invokevirtual 305, 3) := dk_182 1 49 (dk_at dksX0_worth_1 6 rfl rfl)
theorem dX0_worth_33 : decode cX0_worth 33 = .ok (.goto 5, 3) := dk_167 0 5 (dk_at dksX0_worth_1 9 rfl rfl)
theorem dX0_worth_36 : decode cX0_worth 36 = .ok (.bipush (-2), 2) := dk_16 254 (dk_at dksX0_worth_1 12 rfl rfl)
theorem dX0_worth_38 : decode cX0_worth 38 = .ok (.ireturn, 1) := dk_172 (dk_at dksX0_worth_1 14 rfl rfl)
abbrev cX0_share : ByteArray := prog_1_method_107_code
def yX0_share : MethodName := ⟨RX0, "share", "(II)I"⟩
def dkwX0_share_5 : List UInt8 := [180, 0, 10, 180, 0, 126, 184, 1, 131, 28, 184, 1, 134, 136, 172]
abbrev dktX0_share_5 : List UInt8 := dkwX0_share_5 ++ []
def dkwX0_share_4 : List UInt8 := [180, 0, 10, 180, 0, 133, 182, 1, 49, 100, 133, 105, 97, 66, 132, 5, 1, 167, 255, 171, 33, 42]
abbrev dktX0_share_4 : List UInt8 := dkwX0_share_4 ++ dktX0_share_5
def dkwX0_share_3 : List UInt8 := [105, 42, 21, 5, 4, 27, 120, 128, 42, 180, 0, 10, 180, 0, 133, 182, 1, 49, 42, 21, 5, 42]
abbrev dktX0_share_3 : List UInt8 := dkwX0_share_3 ++ dktX0_share_4
def dkwX0_share_2 : List UInt8 := [154, 0, 60, 33, 21, 6, 184, 1, 131, 42, 180, 0, 10, 180, 0, 126, 4, 100, 21, 6, 100, 184, 1, 131]
abbrev dktX0_share_2 : List UInt8 := dkwX0_share_2 ++ dktX0_share_3
def dkwX0_share_1 : List UInt8 := [21, 5, 42, 182, 1, 45, 163, 0, 82, 21, 5, 184, 1, 128, 54, 6, 21, 5, 27, 184, 0, 254]
abbrev dktX0_share_1 : List UInt8 := dkwX0_share_1 ++ dktX0_share_2
def dkwX0_share_0 : List UInt8 := [28, 5, 184, 0, 144, 153, 0, 11, 42, 27, 182, 1, 33, 154, 0, 6, 16, 254, 172, 9, 66, 3, 54, 5]
abbrev dktX0_share_0 : List UInt8 := dkwX0_share_0 ++ dktX0_share_1
theorem dksX0_share_0 : cX0_share.data.toList.drop 0 = dktX0_share_0 := by decide +kernel
theorem dksX0_share_1 : cX0_share.data.toList.drop 24 = dktX0_share_1 := dk_seg dksX0_share_0 24 rfl rfl
theorem dksX0_share_2 : cX0_share.data.toList.drop 46 = dktX0_share_2 := dk_seg dksX0_share_1 22 rfl rfl
theorem dksX0_share_3 : cX0_share.data.toList.drop 70 = dktX0_share_3 := dk_seg dksX0_share_2 24 rfl rfl
theorem dksX0_share_4 : cX0_share.data.toList.drop 92 = dktX0_share_4 := dk_seg dksX0_share_3 22 rfl rfl
theorem dksX0_share_5 : cX0_share.data.toList.drop 114 = dktX0_share_5 := dk_seg dksX0_share_4 22 rfl rfl
theorem dX0_share_0 : decode cX0_share 0 = .ok (.iload_n 2, 1) := dk_28 (dk_at dksX0_share_0 0 rfl rfl)
theorem dX0_share_1 : decode cX0_share 1 = .ok (.iconst 2, 1) := dk_5 (dk_at dksX0_share_0 1 rfl rfl)
theorem dX0_share_2 : decode cX0_share 2 = .ok (.invokestatic 144, 3) := dk_184 0 144 (dk_at dksX0_share_0 2 rfl rfl)
theorem dX0_share_5 : decode cX0_share 5 = .ok (.ifCond .eq 11, 3) := dk_153 0 11 (dk_at dksX0_share_0 5 rfl rfl)
theorem dX0_share_8 : decode cX0_share 8 = .ok (.aload_n 0, 1) := dk_42 (dk_at dksX0_share_0 8 rfl rfl)
theorem dX0_share_9 : decode cX0_share 9 = .ok (.iload_n 1, 1) := dk_27 (dk_at dksX0_share_0 9 rfl rfl)
theorem dX0_share_10 : decode cX0_share 10 = .ok (.invokevirtual 289, 3) := dk_182 1 33 (dk_at dksX0_share_0 10 rfl rfl)
theorem dX0_share_13 : decode cX0_share 13 = .ok (.ifCond .ne 6, 3) := dk_154 0 6 (dk_at dksX0_share_0 13 rfl rfl)
theorem dX0_share_16 : decode cX0_share 16 = .ok (.bipush (-2), 2) := dk_16 254 (dk_at dksX0_share_0 16 rfl rfl)
theorem dX0_share_18 : decode cX0_share 18 = .ok (.ireturn, 1) := dk_172 (dk_at dksX0_share_0 18 rfl rfl)
theorem dX0_share_19 : decode cX0_share 19 = .ok (.lconst 0, 1) := dk_9 (dk_at dksX0_share_0 19 rfl rfl)
theorem dX0_share_20 : decode cX0_share 20 = .ok (.lstore_n 3, 1) := dk_66 (dk_at dksX0_share_0 20 rfl rfl)
theorem dX0_share_21 : decode cX0_share 21 = .ok (.iconst 0, 1) := dk_3 (dk_at dksX0_share_0 21 rfl rfl)
theorem dX0_share_22 : decode cX0_share 22 = .ok (.istore 5, 2) := dk_54 5 (dk_at dksX0_share_0 22 rfl rfl)
theorem dX0_share_24 : decode cX0_share 24 = .ok (.iload 5, 2) := dk_21 5 (dk_at dksX0_share_1 0 rfl rfl)
theorem dX0_share_26 : decode cX0_share 26 = .ok (.aload_n 0, 1) := dk_42 (dk_at dksX0_share_1 2 rfl rfl)
theorem dX0_share_27 : decode cX0_share 27 = .ok (.invokevirtual 301, 3) := dk_182 1 45 (dk_at dksX0_share_1 3 rfl rfl)
theorem dX0_share_30 : decode cX0_share 30 = .ok (.if_icmp .gt 82, 3) := dk_163 0 82 (dk_at dksX0_share_1 6 rfl rfl)
theorem dX0_share_33 : decode cX0_share 33 = .ok (.iload 5, 2) := dk_21 5 (dk_at dksX0_share_1 9 rfl rfl)
theorem dX0_share_35 : decode cX0_share 35 = .ok (.invokestatic 384, 3) := dk_184 1 128 (dk_at dksX0_share_1 11 rfl rfl)
theorem dX0_share_38 : decode cX0_share 38 = .ok (.istore 6, 2) := dk_54 6 (dk_at dksX0_share_1 14 rfl rfl)
theorem dX0_share_40 : decode cX0_share 40 = .ok (.iload 5, 2) := dk_21 5 (dk_at dksX0_share_1 16 rfl rfl)
theorem dX0_share_42 : decode cX0_share 42 = .ok (.iload_n 1, 1) := dk_27 (dk_at dksX0_share_1 18 rfl rfl)
theorem dX0_share_43 : decode cX0_share 43 = .ok (.invokestatic 254, 3) := dk_184 0 254 (dk_at dksX0_share_1 19 rfl rfl)
theorem dX0_share_46 : decode cX0_share 46 = .ok (.ifCond .ne 60, 3) := dk_154 0 60 (dk_at dksX0_share_2 0 rfl rfl)
theorem dX0_share_49 : decode cX0_share 49 = .ok (.lload_n 3, 1) := dk_33 (dk_at dksX0_share_2 3 rfl rfl)
theorem dX0_share_50 : decode cX0_share 50 = .ok (.iload 6, 2) := dk_21 6 (dk_at dksX0_share_2 4 rfl rfl)
theorem dX0_share_52 : decode cX0_share 52 = .ok (.invokestatic 387, 3) := dk_184 1 131 (dk_at dksX0_share_2 6 rfl rfl)
theorem dX0_share_55 : decode cX0_share 55 = .ok (.aload_n 0, 1) := dk_42 (dk_at dksX0_share_2 9 rfl rfl)
theorem dX0_share_56 : decode cX0_share 56 = .ok (.getfield 10, 3) := dk_180 0 10 (dk_at dksX0_share_2 10 rfl rfl)
theorem dX0_share_59 : decode cX0_share 59 = .ok (.getfield 126, 3) := dk_180 0 126 (dk_at dksX0_share_2 13 rfl rfl)
theorem dX0_share_62 : decode cX0_share 62 = .ok (.iconst 1, 1) := dk_4 (dk_at dksX0_share_2 16 rfl rfl)
theorem dX0_share_63 : decode cX0_share 63 = .ok (.isub, 1) := dk_100 (dk_at dksX0_share_2 17 rfl rfl)
theorem dX0_share_64 : decode cX0_share 64 = .ok (.iload 6, 2) := dk_21 6 (dk_at dksX0_share_2 18 rfl rfl)
theorem dX0_share_66 : decode cX0_share 66 = .ok (.isub, 1) := dk_100 (dk_at dksX0_share_2 20 rfl rfl)
theorem dX0_share_67 : decode cX0_share 67 = .ok (.invokestatic 387, 3) := dk_184 1 131 (dk_at dksX0_share_2 21 rfl rfl)
theorem dX0_share_70 : decode cX0_share 70 = .ok (.lmul, 1) := dk_105 (dk_at dksX0_share_3 0 rfl rfl)
theorem dX0_share_71 : decode cX0_share 71 = .ok (.aload_n 0, 1) := dk_42 (dk_at dksX0_share_3 1 rfl rfl)
theorem dX0_share_72 : decode cX0_share 72 = .ok (.iload 5, 2) := dk_21 5 (dk_at dksX0_share_3 2 rfl rfl)
theorem dX0_share_74 : decode cX0_share 74 = .ok (.iconst 1, 1) := dk_4 (dk_at dksX0_share_3 4 rfl rfl)
theorem dX0_share_75 : decode cX0_share 75 = .ok (.iload_n 1, 1) := dk_27 (dk_at dksX0_share_3 5 rfl rfl)
theorem dX0_share_76 : decode cX0_share 76 = .ok (.ishl, 1) := dk_120 (dk_at dksX0_share_3 6 rfl rfl)
theorem dX0_share_77 : decode cX0_share 77 = .ok (.ior, 1) := dk_128 (dk_at dksX0_share_3 7 rfl rfl)
theorem dX0_share_78 : decode cX0_share 78 = .ok (.aload_n 0, 1) := dk_42 (dk_at dksX0_share_3 8 rfl rfl)
theorem dX0_share_79 : decode cX0_share 79 = .ok (.getfield 10, 3) := dk_180 0 10 (dk_at dksX0_share_3 9 rfl rfl)
theorem dX0_share_82 : decode cX0_share 82 = .ok (.getfield 133, 3) := dk_180 0 133 (dk_at dksX0_share_3 12 rfl rfl)
theorem dX0_share_85 : decode cX0_share 85 = .ok (.invokevirtual 305, 3) := dk_182 1 49 (dk_at dksX0_share_3 15 rfl rfl)
theorem dX0_share_88 : decode cX0_share 88 = .ok (.aload_n 0, 1) := dk_42 (dk_at dksX0_share_3 18 rfl rfl)
theorem dX0_share_89 : decode cX0_share 89 = .ok (.iload 5, 2) := dk_21 5 (dk_at dksX0_share_3 19 rfl rfl)
theorem dX0_share_91 : decode cX0_share 91 = .ok (.aload_n 0, 1) := dk_42 (dk_at dksX0_share_3 21 rfl rfl)
theorem dX0_share_92 : decode cX0_share 92 = .ok (.getfield 10, 3) := dk_180 0 10 (dk_at dksX0_share_4 0 rfl rfl)
theorem dX0_share_95 : decode cX0_share 95 = .ok (.getfield 133, 3) := dk_180 0 133 (dk_at dksX0_share_4 3 rfl rfl)
theorem dX0_share_98 : decode cX0_share 98 = .ok (.invokevirtual 305, 3) := dk_182 1 49 (dk_at dksX0_share_4 6 rfl rfl)
theorem dX0_share_101 : decode cX0_share 101 = .ok (.isub, 1) := dk_100 (dk_at dksX0_share_4 9 rfl rfl)
theorem dX0_share_102 : decode cX0_share 102 = .ok (.i2l, 1) := dk_133 (dk_at dksX0_share_4 10 rfl rfl)
theorem dX0_share_103 : decode cX0_share 103 = .ok (.lmul, 1) := dk_105 (dk_at dksX0_share_4 11 rfl rfl)
theorem dX0_share_104 : decode cX0_share 104 = .ok (.ladd, 1) := dk_97 (dk_at dksX0_share_4 12 rfl rfl)
theorem dX0_share_105 : decode cX0_share 105 = .ok (.lstore_n 3, 1) := dk_66 (dk_at dksX0_share_4 13 rfl rfl)
theorem dX0_share_106 : decode cX0_share 106 = .ok (.iinc 5 1, 3) := dk_132 5 1 (dk_at dksX0_share_4 14 rfl rfl)
theorem dX0_share_109 : decode cX0_share 109 = .ok (.goto (-85), 3) := dk_167 255 171 (dk_at dksX0_share_4 17 rfl rfl)
theorem dX0_share_112 : decode cX0_share 112 = .ok (.lload_n 3, 1) := dk_33 (dk_at dksX0_share_4 20 rfl rfl)
theorem dX0_share_113 : decode cX0_share 113 = .ok (.aload_n 0, 1) := dk_42 (dk_at dksX0_share_4 21 rfl rfl)
theorem dX0_share_114 : decode cX0_share 114 = .ok (.getfield 10, 3) := dk_180 0 10 (dk_at dksX0_share_5 0 rfl rfl)
theorem dX0_share_117 : decode cX0_share 117 = .ok (.getfield 126, 3) := dk_180 0 126 (dk_at dksX0_share_5 3 rfl rfl)
theorem dX0_share_120 : decode cX0_share 120 = .ok (.invokestatic 387, 3) := dk_184 1 131 (dk_at dksX0_share_5 6 rfl rfl)
theorem dX0_share_123 : decode cX0_share 123 = .ok (.iload_n 2, 1) := dk_28 (dk_at dksX0_share_5 9 rfl rfl)
theorem dX0_share_124 : decode cX0_share 124 = .ok (.invokestatic 390, 3) := dk_184 1 134 (dk_at dksX0_share_5 10 rfl rfl)
theorem dX0_share_127 : decode cX0_share 127 = .ok (.l2i, 1) := dk_136 (dk_at dksX0_share_5 13 rfl rfl)
theorem dX0_share_128 : decode cX0_share 128 = .ok (.ireturn, 1) := dk_172 (dk_at dksX0_share_5 14 rfl rfl)
abbrev cX0_factorial : ByteArray := prog_1_method_103_code
def yX0_factorial : MethodName := ⟨RX0, "factorial", "(I)J"⟩
def dkwX0_factorial_0 : List UInt8 := [10, 64, 5, 62, 29, 26, 163, 0, 14, 31, 29, 133, 105, 64, 132, 3, 1, 167, 255, 243, 31, 173]
abbrev dktX0_factorial_0 : List UInt8 := dkwX0_factorial_0 ++ []
theorem dksX0_factorial_0 : cX0_factorial.data.toList.drop 0 = dktX0_factorial_0 := by decide +kernel
theorem dX0_factorial_0 : decode cX0_factorial 0 = .ok (.lconst 1, 1) := dk_10 (dk_at dksX0_factorial_0 0 rfl rfl)
theorem dX0_factorial_1 : decode cX0_factorial 1 = .ok (.lstore_n 1, 1) := dk_64 (dk_at dksX0_factorial_0 1 rfl rfl)
theorem dX0_factorial_2 : decode cX0_factorial 2 = .ok (.iconst 2, 1) := dk_5 (dk_at dksX0_factorial_0 2 rfl rfl)
theorem dX0_factorial_3 : decode cX0_factorial 3 = .ok (.istore_n 3, 1) := dk_62 (dk_at dksX0_factorial_0 3 rfl rfl)
theorem dX0_factorial_4 : decode cX0_factorial 4 = .ok (.iload_n 3, 1) := dk_29 (dk_at dksX0_factorial_0 4 rfl rfl)
theorem dX0_factorial_5 : decode cX0_factorial 5 = .ok (.iload_n 0, 1) := dk_26 (dk_at dksX0_factorial_0 5 rfl rfl)
theorem dX0_factorial_6 : decode cX0_factorial 6 = .ok (.if_icmp .gt 14, 3) := dk_163 0 14 (dk_at dksX0_factorial_0 6 rfl rfl)
theorem dX0_factorial_9 : decode cX0_factorial 9 = .ok (.lload_n 1, 1) := dk_31 (dk_at dksX0_factorial_0 9 rfl rfl)
theorem dX0_factorial_10 : decode cX0_factorial 10 = .ok (.iload_n 3, 1) := dk_29 (dk_at dksX0_factorial_0 10 rfl rfl)
theorem dX0_factorial_11 : decode cX0_factorial 11 = .ok (.i2l, 1) := dk_133 (dk_at dksX0_factorial_0 11 rfl rfl)
theorem dX0_factorial_12 : decode cX0_factorial 12 = .ok (.lmul, 1) := dk_105 (dk_at dksX0_factorial_0 12 rfl rfl)
theorem dX0_factorial_13 : decode cX0_factorial 13 = .ok (.lstore_n 1, 1) := dk_64 (dk_at dksX0_factorial_0 13 rfl rfl)
theorem dX0_factorial_14 : decode cX0_factorial 14 = .ok (.iinc 3 1, 3) := dk_132 3 1 (dk_at dksX0_factorial_0 14 rfl rfl)
theorem dX0_factorial_17 : decode cX0_factorial 17 = .ok (.goto (-13), 3) := dk_167 255 243 (dk_at dksX0_factorial_0 17 rfl rfl)
theorem dX0_factorial_20 : decode cX0_factorial 20 = .ok (.lload_n 1, 1) := dk_31 (dk_at dksX0_factorial_0 20 rfl rfl)
theorem dX0_factorial_21 : decode cX0_factorial 21 = .ok (.lreturn, 1) := dk_173 (dk_at dksX0_factorial_0 21 rfl rfl)
abbrev cX0_part : ByteArray := prog_1_method_105_code
def yX0_part : MethodName := ⟨RX0, "part", "(JJI)J"⟩
def dkwX0_part_0 : List UInt8 := [21, 4, 154, 0, 7, 30, 167, 0, 4, 32, 30, 32, 184, 1, 124, 109, 173]
abbrev dktX0_part_0 : List UInt8 := dkwX0_part_0 ++ []
theorem dksX0_part_0 : cX0_part.data.toList.drop 0 = dktX0_part_0 := by decide +kernel
theorem dX0_part_0 : decode cX0_part 0 = .ok (.iload 4, 2) := dk_21 4 (dk_at dksX0_part_0 0 rfl rfl)
theorem dX0_part_2 : decode cX0_part 2 = .ok (.ifCond .ne 7, 3) := dk_154 0 7 (dk_at dksX0_part_0 2 rfl rfl)
theorem dX0_part_5 : decode cX0_part 5 = .ok (.lload_n 0, 1) := dk_30 (dk_at dksX0_part_0 5 rfl rfl)
theorem dX0_part_6 : decode cX0_part 6 = .ok (.goto 4, 3) := dk_167 0 4 (dk_at dksX0_part_0 6 rfl rfl)
theorem dX0_part_9 : decode cX0_part 9 = .ok (.lload_n 2, 1) := dk_32 (dk_at dksX0_part_0 9 rfl rfl)
theorem dX0_part_10 : decode cX0_part 10 = .ok (.lload_n 0, 1) := dk_30 (dk_at dksX0_part_0 10 rfl rfl)
theorem dX0_part_11 : decode cX0_part 11 = .ok (.lload_n 2, 1) := dk_32 (dk_at dksX0_part_0 11 rfl rfl)
theorem dX0_part_12 : decode cX0_part 12 = .ok (.invokestatic 380, 3) := dk_184 1 124 (dk_at dksX0_part_0 12 rfl rfl)
theorem dX0_part_15 : decode cX0_part 15 = .ok (.ldiv, 1) := dk_109 (dk_at dksX0_part_0 15 rfl rfl)
theorem dX0_part_16 : decode cX0_part 16 = .ok (.lreturn, 1) := dk_173 (dk_at dksX0_part_0 16 rfl rfl)
abbrev cX0_divisor : ByteArray := prog_1_method_104_code
def yX0_divisor : MethodName := ⟨RX0, "divisor", "(JJ)J"⟩
def dkwX0_divisor_1 : List UInt8 := [22, 6, 55, 4, 22, 8, 55, 6, 167, 255, 234, 22, 4, 173]
abbrev dktX0_divisor_1 : List UInt8 := dkwX0_divisor_1 ++ []
def dkwX0_divisor_0 : List UInt8 := [30, 184, 1, 120, 55, 4, 32, 55, 6, 22, 6, 9, 148, 153, 0, 21, 22, 4, 22, 6, 113, 55, 8]
abbrev dktX0_divisor_0 : List UInt8 := dkwX0_divisor_0 ++ dktX0_divisor_1
theorem dksX0_divisor_0 : cX0_divisor.data.toList.drop 0 = dktX0_divisor_0 := by decide +kernel
theorem dksX0_divisor_1 : cX0_divisor.data.toList.drop 23 = dktX0_divisor_1 := dk_seg dksX0_divisor_0 23 rfl rfl
theorem dX0_divisor_0 : decode cX0_divisor 0 = .ok (.lload_n 0, 1) := dk_30 (dk_at dksX0_divisor_0 0 rfl rfl)
theorem dX0_divisor_1 : decode cX0_divisor 1 = .ok (.invokestatic 376, 3) := dk_184 1 120 (dk_at dksX0_divisor_0 1 rfl rfl)
theorem dX0_divisor_4 : decode cX0_divisor 4 = .ok (.lstore 4, 2) := dk_55 4 (dk_at dksX0_divisor_0 4 rfl rfl)
theorem dX0_divisor_6 : decode cX0_divisor 6 = .ok (.lload_n 2, 1) := dk_32 (dk_at dksX0_divisor_0 6 rfl rfl)
theorem dX0_divisor_7 : decode cX0_divisor 7 = .ok (.lstore 6, 2) := dk_55 6 (dk_at dksX0_divisor_0 7 rfl rfl)
theorem dX0_divisor_9 : decode cX0_divisor 9 = .ok (.lload 6, 2) := dk_22 6 (dk_at dksX0_divisor_0 9 rfl rfl)
theorem dX0_divisor_11 : decode cX0_divisor 11 = .ok (.lconst 0, 1) := dk_9 (dk_at dksX0_divisor_0 11 rfl rfl)
theorem dX0_divisor_12 : decode cX0_divisor 12 = .ok (.lcmp, 1) := dk_148 (dk_at dksX0_divisor_0 12 rfl rfl)
theorem dX0_divisor_13 : decode cX0_divisor 13 = .ok (.ifCond .eq 21, 3) := dk_153 0 21 (dk_at dksX0_divisor_0 13 rfl rfl)
theorem dX0_divisor_16 : decode cX0_divisor 16 = .ok (.lload 4, 2) := dk_22 4 (dk_at dksX0_divisor_0 16 rfl rfl)
theorem dX0_divisor_18 : decode cX0_divisor 18 = .ok (.lload 6, 2) := dk_22 6 (dk_at dksX0_divisor_0 18 rfl rfl)
theorem dX0_divisor_20 : decode cX0_divisor 20 = .ok (.lrem, 1) := dk_113 (dk_at dksX0_divisor_0 20 rfl rfl)
theorem dX0_divisor_21 : decode cX0_divisor 21 = .ok (.lstore 8, 2) := dk_55 8 (dk_at dksX0_divisor_0 21 rfl rfl)
theorem dX0_divisor_23 : decode cX0_divisor 23 = .ok (.lload 6, 2) := dk_22 6 (dk_at dksX0_divisor_1 0 rfl rfl)
theorem dX0_divisor_25 : decode cX0_divisor 25 = .ok (.lstore 4, 2) := dk_55 4 (dk_at dksX0_divisor_1 2 rfl rfl)
theorem dX0_divisor_27 : decode cX0_divisor 27 = .ok (.lload 8, 2) := dk_22 8 (dk_at dksX0_divisor_1 4 rfl rfl)
theorem dX0_divisor_29 : decode cX0_divisor 29 = .ok (.lstore 6, 2) := dk_55 6 (dk_at dksX0_divisor_1 6 rfl rfl)
theorem dX0_divisor_31 : decode cX0_divisor 31 = .ok (.goto (-22), 3) := dk_167 255 234 (dk_at dksX0_divisor_1 8 rfl rfl)
theorem dX0_divisor_34 : decode cX0_divisor 34 = .ok (.lload 4, 2) := dk_22 4 (dk_at dksX0_divisor_1 11 rfl rfl)
theorem dX0_divisor_36 : decode cX0_divisor 36 = .ok (.lreturn, 1) := dk_173 (dk_at dksX0_divisor_1 13 rfl rfl)
abbrev cX0_rests : ByteArray := prog_1_method_110_code
def yX0_rests : MethodName := ⟨RX0, "rests", "(II)I"⟩
def dkwX0_rests_4 : List UInt8 := [132, 4, 1, 167, 255, 178, 29, 172]
abbrev dktX0_rests_4 : List UInt8 := dkwX0_rests_4 ++ []
def dkwX0_rests_3 : List UInt8 := [167, 0, 4, 3, 54, 5, 29, 21, 5, 153, 0, 10, 4, 21, 4, 120, 167, 0, 4, 3, 128, 62]
abbrev dktX0_rests_3 : List UInt8 := dkwX0_rests_3 ++ dktX0_rests_4
def dkwX0_rests_2 : List UInt8 := [28, 21, 4, 4, 182, 1, 141, 42, 27, 28, 21, 4, 5, 130, 4, 182, 1, 141, 161, 0, 7, 4]
abbrev dktX0_rests_2 : List UInt8 := dkwX0_rests_2 ++ dktX0_rests_3
def dkwX0_rests_1 : List UInt8 := [27, 28, 21, 4, 3, 182, 1, 141, 42, 27, 28, 21, 4, 4, 130, 3, 182, 1, 141, 161, 0, 30, 42, 27]
abbrev dktX0_rests_1 : List UInt8 := dkwX0_rests_1 ++ dktX0_rests_2
def dkwX0_rests_0 : List UInt8 := [42, 27, 28, 182, 1, 138, 154, 0, 6, 16, 254, 172, 3, 62, 3, 54, 4, 21, 4, 7, 162, 0, 78, 42]
abbrev dktX0_rests_0 : List UInt8 := dkwX0_rests_0 ++ dktX0_rests_1
theorem dksX0_rests_0 : cX0_rests.data.toList.drop 0 = dktX0_rests_0 := by decide +kernel
theorem dksX0_rests_1 : cX0_rests.data.toList.drop 24 = dktX0_rests_1 := dk_seg dksX0_rests_0 24 rfl rfl
theorem dksX0_rests_2 : cX0_rests.data.toList.drop 48 = dktX0_rests_2 := dk_seg dksX0_rests_1 24 rfl rfl
theorem dksX0_rests_3 : cX0_rests.data.toList.drop 70 = dktX0_rests_3 := dk_seg dksX0_rests_2 22 rfl rfl
theorem dksX0_rests_4 : cX0_rests.data.toList.drop 92 = dktX0_rests_4 := dk_seg dksX0_rests_3 22 rfl rfl
theorem dX0_rests_0 : decode cX0_rests 0 = .ok (.aload_n 0, 1) := dk_42 (dk_at dksX0_rests_0 0 rfl rfl)
theorem dX0_rests_1 : decode cX0_rests 1 = .ok (.iload_n 1, 1) := dk_27 (dk_at dksX0_rests_0 1 rfl rfl)
theorem dX0_rests_2 : decode cX0_rests 2 = .ok (.iload_n 2, 1) := dk_28 (dk_at dksX0_rests_0 2 rfl rfl)
theorem dX0_rests_3 : decode cX0_rests 3 = .ok (.invokevirtual 394, 3) := dk_182 1 138 (dk_at dksX0_rests_0 3 rfl rfl)
theorem dX0_rests_6 : decode cX0_rests 6 = .ok (.ifCond .ne 6, 3) := dk_154 0 6 (dk_at dksX0_rests_0 6 rfl rfl)
theorem dX0_rests_9 : decode cX0_rests 9 = .ok (.bipush (-2), 2) := dk_16 254 (dk_at dksX0_rests_0 9 rfl rfl)
theorem dX0_rests_11 : decode cX0_rests 11 = .ok (.ireturn, 1) := dk_172 (dk_at dksX0_rests_0 11 rfl rfl)
theorem dX0_rests_12 : decode cX0_rests 12 = .ok (.iconst 0, 1) := dk_3 (dk_at dksX0_rests_0 12 rfl rfl)
theorem dX0_rests_13 : decode cX0_rests 13 = .ok (.istore_n 3, 1) := dk_62 (dk_at dksX0_rests_0 13 rfl rfl)
theorem dX0_rests_14 : decode cX0_rests 14 = .ok (.iconst 0, 1) := dk_3 (dk_at dksX0_rests_0 14 rfl rfl)
theorem dX0_rests_15 : decode cX0_rests 15 = .ok (.istore 4, 2) := dk_54 4 (dk_at dksX0_rests_0 15 rfl rfl)
theorem dX0_rests_17 : decode cX0_rests 17 = .ok (.iload 4, 2) := dk_21 4 (dk_at dksX0_rests_0 17 rfl rfl)
theorem dX0_rests_19 : decode cX0_rests 19 = .ok (.iconst 4, 1) := dk_7 (dk_at dksX0_rests_0 19 rfl rfl)
theorem dX0_rests_20 : decode cX0_rests 20 = .ok (.if_icmp .ge 78, 3) := dk_162 0 78 (dk_at dksX0_rests_0 20 rfl rfl)
theorem dX0_rests_23 : decode cX0_rests 23 = .ok (.aload_n 0, 1) := dk_42 (dk_at dksX0_rests_0 23 rfl rfl)
theorem dX0_rests_24 : decode cX0_rests 24 = .ok (.iload_n 1, 1) := dk_27 (dk_at dksX0_rests_1 0 rfl rfl)
theorem dX0_rests_25 : decode cX0_rests 25 = .ok (.iload_n 2, 1) := dk_28 (dk_at dksX0_rests_1 1 rfl rfl)
theorem dX0_rests_26 : decode cX0_rests 26 = .ok (.iload 4, 2) := dk_21 4 (dk_at dksX0_rests_1 2 rfl rfl)
theorem dX0_rests_28 : decode cX0_rests 28 = .ok (.iconst 0, 1) := dk_3 (dk_at dksX0_rests_1 4 rfl rfl)
theorem dX0_rests_29 : decode cX0_rests 29 = .ok (.invokevirtual 397, 3) := dk_182 1 141 (dk_at dksX0_rests_1 5 rfl rfl)
theorem dX0_rests_32 : decode cX0_rests 32 = .ok (.aload_n 0, 1) := dk_42 (dk_at dksX0_rests_1 8 rfl rfl)
theorem dX0_rests_33 : decode cX0_rests 33 = .ok (.iload_n 1, 1) := dk_27 (dk_at dksX0_rests_1 9 rfl rfl)
theorem dX0_rests_34 : decode cX0_rests 34 = .ok (.iload_n 2, 1) := dk_28 (dk_at dksX0_rests_1 10 rfl rfl)
theorem dX0_rests_35 : decode cX0_rests 35 = .ok (.iload 4, 2) := dk_21 4 (dk_at dksX0_rests_1 11 rfl rfl)
theorem dX0_rests_37 : decode cX0_rests 37 = .ok (.iconst 1, 1) := dk_4 (dk_at dksX0_rests_1 13 rfl rfl)
theorem dX0_rests_38 : decode cX0_rests 38 = .ok (.ixor, 1) := dk_130 (dk_at dksX0_rests_1 14 rfl rfl)
theorem dX0_rests_39 : decode cX0_rests 39 = .ok (.iconst 0, 1) := dk_3 (dk_at dksX0_rests_1 15 rfl rfl)
theorem dX0_rests_40 : decode cX0_rests 40 = .ok (.invokevirtual 397, 3) := dk_182 1 141 (dk_at dksX0_rests_1 16 rfl rfl)
theorem dX0_rests_43 : decode cX0_rests 43 = .ok (.if_icmp .lt 30, 3) := dk_161 0 30 (dk_at dksX0_rests_1 19 rfl rfl)
theorem dX0_rests_46 : decode cX0_rests 46 = .ok (.aload_n 0, 1) := dk_42 (dk_at dksX0_rests_1 22 rfl rfl)
theorem dX0_rests_47 : decode cX0_rests 47 = .ok (.iload_n 1, 1) := dk_27 (dk_at dksX0_rests_1 23 rfl rfl)
theorem dX0_rests_48 : decode cX0_rests 48 = .ok (.iload_n 2, 1) := dk_28 (dk_at dksX0_rests_2 0 rfl rfl)
theorem dX0_rests_49 : decode cX0_rests 49 = .ok (.iload 4, 2) := dk_21 4 (dk_at dksX0_rests_2 1 rfl rfl)
theorem dX0_rests_51 : decode cX0_rests 51 = .ok (.iconst 1, 1) := dk_4 (dk_at dksX0_rests_2 3 rfl rfl)
theorem dX0_rests_52 : decode cX0_rests 52 = .ok (.invokevirtual 397, 3) := dk_182 1 141 (dk_at dksX0_rests_2 4 rfl rfl)
theorem dX0_rests_55 : decode cX0_rests 55 = .ok (.aload_n 0, 1) := dk_42 (dk_at dksX0_rests_2 7 rfl rfl)
theorem dX0_rests_56 : decode cX0_rests 56 = .ok (.iload_n 1, 1) := dk_27 (dk_at dksX0_rests_2 8 rfl rfl)
theorem dX0_rests_57 : decode cX0_rests 57 = .ok (.iload_n 2, 1) := dk_28 (dk_at dksX0_rests_2 9 rfl rfl)
theorem dX0_rests_58 : decode cX0_rests 58 = .ok (.iload 4, 2) := dk_21 4 (dk_at dksX0_rests_2 10 rfl rfl)
theorem dX0_rests_60 : decode cX0_rests 60 = .ok (.iconst 2, 1) := dk_5 (dk_at dksX0_rests_2 12 rfl rfl)
theorem dX0_rests_61 : decode cX0_rests 61 = .ok (.ixor, 1) := dk_130 (dk_at dksX0_rests_2 13 rfl rfl)
theorem dX0_rests_62 : decode cX0_rests 62 = .ok (.iconst 1, 1) := dk_4 (dk_at dksX0_rests_2 14 rfl rfl)
theorem dX0_rests_63 : decode cX0_rests 63 = .ok (.invokevirtual 397, 3) := dk_182 1 141 (dk_at dksX0_rests_2 15 rfl rfl)
theorem dX0_rests_66 : decode cX0_rests 66 = .ok (.if_icmp .lt 7, 3) := dk_161 0 7 (dk_at dksX0_rests_2 18 rfl rfl)
theorem dX0_rests_69 : decode cX0_rests 69 = .ok (.iconst 1, 1) := dk_4 (dk_at dksX0_rests_2 21 rfl rfl)
theorem dX0_rests_70 : decode cX0_rests 70 = .ok (.goto 4, 3) := dk_167 0 4 (dk_at dksX0_rests_3 0 rfl rfl)
theorem dX0_rests_73 : decode cX0_rests 73 = .ok (.iconst 0, 1) := dk_3 (dk_at dksX0_rests_3 3 rfl rfl)
theorem dX0_rests_74 : decode cX0_rests 74 = .ok (.istore 5, 2) := dk_54 5 (dk_at dksX0_rests_3 4 rfl rfl)
theorem dX0_rests_76 : decode cX0_rests 76 = .ok (.iload_n 3, 1) := dk_29 (dk_at dksX0_rests_3 6 rfl rfl)
theorem dX0_rests_77 : decode cX0_rests 77 = .ok (.iload 5, 2) := dk_21 5 (dk_at dksX0_rests_3 7 rfl rfl)
theorem dX0_rests_79 : decode cX0_rests 79 = .ok (.ifCond .eq 10, 3) := dk_153 0 10 (dk_at dksX0_rests_3 9 rfl rfl)
theorem dX0_rests_82 : decode cX0_rests 82 = .ok (.iconst 1, 1) := dk_4 (dk_at dksX0_rests_3 12 rfl rfl)
theorem dX0_rests_83 : decode cX0_rests 83 = .ok (.iload 4, 2) := dk_21 4 (dk_at dksX0_rests_3 13 rfl rfl)
theorem dX0_rests_85 : decode cX0_rests 85 = .ok (.ishl, 1) := dk_120 (dk_at dksX0_rests_3 15 rfl rfl)
theorem dX0_rests_86 : decode cX0_rests 86 = .ok (.goto 4, 3) := dk_167 0 4 (dk_at dksX0_rests_3 16 rfl rfl)
theorem dX0_rests_89 : decode cX0_rests 89 = .ok (.iconst 0, 1) := dk_3 (dk_at dksX0_rests_3 19 rfl rfl)
theorem dX0_rests_90 : decode cX0_rests 90 = .ok (.ior, 1) := dk_128 (dk_at dksX0_rests_3 20 rfl rfl)
theorem dX0_rests_91 : decode cX0_rests 91 = .ok (.istore_n 3, 1) := dk_62 (dk_at dksX0_rests_3 21 rfl rfl)
theorem dX0_rests_92 : decode cX0_rests 92 = .ok (.iinc 4 1, 3) := dk_132 4 1 (dk_at dksX0_rests_4 0 rfl rfl)
theorem dX0_rests_95 : decode cX0_rests 95 = .ok (.goto (-78), 3) := dk_167 255 178 (dk_at dksX0_rests_4 3 rfl rfl)
theorem dX0_rests_98 : decode cX0_rests 98 = .ok (.iload_n 3, 1) := dk_29 (dk_at dksX0_rests_4 6 rfl rfl)
theorem dX0_rests_99 : decode cX0_rests 99 = .ok (.ireturn, 1) := dk_172 (dk_at dksX0_rests_4 7 rfl rfl)
abbrev cX0_areTwo : ByteArray := prog_1_method_109_code
def yX0_areTwo : MethodName := ⟨RX0, "areTwo", "(II)Z"⟩
def dkwX0_areTwo_1 : List UInt8 := [167, 0, 4, 3, 172]
abbrev dktX0_areTwo_1 : List UInt8 := dkwX0_areTwo_1 ++ []
def dkwX0_areTwo_0 : List UInt8 := [42, 27, 182, 0, 157, 153, 0, 20, 42, 28, 182, 0, 157, 153, 0, 12, 27, 28, 159, 0, 7, 4]
abbrev dktX0_areTwo_0 : List UInt8 := dkwX0_areTwo_0 ++ dktX0_areTwo_1
theorem dksX0_areTwo_0 : cX0_areTwo.data.toList.drop 0 = dktX0_areTwo_0 := by decide +kernel
theorem dksX0_areTwo_1 : cX0_areTwo.data.toList.drop 22 = dktX0_areTwo_1 := dk_seg dksX0_areTwo_0 22 rfl rfl
theorem dX0_areTwo_0 : decode cX0_areTwo 0 = .ok (.aload_n 0, 1) := dk_42 (dk_at dksX0_areTwo_0 0 rfl rfl)
theorem dX0_areTwo_1 : decode cX0_areTwo 1 = .ok (.iload_n 1, 1) := dk_27 (dk_at dksX0_areTwo_0 1 rfl rfl)
theorem dX0_areTwo_2 : decode cX0_areTwo 2 = .ok (.invokevirtual 157, 3) := dk_182 0 157 (dk_at dksX0_areTwo_0 2 rfl rfl)
theorem dX0_areTwo_5 : decode cX0_areTwo 5 = .ok (.ifCond .eq 20, 3) := dk_153 0 20 (dk_at dksX0_areTwo_0 5 rfl rfl)
theorem dX0_areTwo_8 : decode cX0_areTwo 8 = .ok (.aload_n 0, 1) := dk_42 (dk_at dksX0_areTwo_0 8 rfl rfl)
theorem dX0_areTwo_9 : decode cX0_areTwo 9 = .ok (.iload_n 2, 1) := dk_28 (dk_at dksX0_areTwo_0 9 rfl rfl)
theorem dX0_areTwo_10 : decode cX0_areTwo 10 = .ok (.invokevirtual 157, 3) := dk_182 0 157 (dk_at dksX0_areTwo_0 10 rfl rfl)
theorem dX0_areTwo_13 : decode cX0_areTwo 13 = .ok (.ifCond .eq 12, 3) := dk_153 0 12 (dk_at dksX0_areTwo_0 13 rfl rfl)
theorem dX0_areTwo_16 : decode cX0_areTwo 16 = .ok (.iload_n 1, 1) := dk_27 (dk_at dksX0_areTwo_0 16 rfl rfl)
theorem dX0_areTwo_17 : decode cX0_areTwo 17 = .ok (.iload_n 2, 1) := dk_28 (dk_at dksX0_areTwo_0 17 rfl rfl)
theorem dX0_areTwo_18 : decode cX0_areTwo 18 = .ok (.if_icmp .eq 7, 3) := dk_159 0 7 (dk_at dksX0_areTwo_0 18 rfl rfl)
theorem dX0_areTwo_21 : decode cX0_areTwo 21 = .ok (.iconst 1, 1) := dk_4 (dk_at dksX0_areTwo_0 21 rfl rfl)
theorem dX0_areTwo_22 : decode cX0_areTwo 22 = .ok (.goto 4, 3) := dk_167 0 4 (dk_at dksX0_areTwo_1 0 rfl rfl)
theorem dX0_areTwo_25 : decode cX0_areTwo 25 = .ok (.iconst 0, 1) := dk_3 (dk_at dksX0_areTwo_1 3 rfl rfl)
theorem dX0_areTwo_26 : decode cX0_areTwo 26 = .ok (.ireturn, 1) := dk_172 (dk_at dksX0_areTwo_1 4 rfl rfl)
abbrev cX0_getsOf : ByteArray := prog_1_method_108_code
def yX0_getsOf : MethodName := ⟨RX0, "getsOf", "(IIII)I"⟩
def dkwX0_getsOf_3 : List UInt8 := [167, 0, 4, 3, 100, 172]
abbrev dktX0_getsOf_3 : List UInt8 := dkwX0_getsOf_3 ++ []
def dkwX0_getsOf_2 : List UInt8 := [167, 0, 4, 28, 182, 0, 182, 126, 184, 1, 128, 104, 29, 21, 4, 184, 0, 254, 153, 0, 7, 4]
abbrev dktX0_getsOf_2 : List UInt8 := dkwX0_getsOf_2 ++ dktX0_getsOf_3
def dkwX0_getsOf_1 : List UInt8 := [42, 182, 1, 15, 6, 42, 42, 180, 0, 10, 180, 0, 133, 182, 1, 39, 42, 21, 4, 154, 0, 7, 27]
abbrev dktX0_getsOf_1 : List UInt8 := dkwX0_getsOf_1 ++ dktX0_getsOf_2
def dkwX0_getsOf_0 : List UInt8 := [42, 182, 1, 12, 42, 89, 180, 0, 199, 29, 4, 126, 27, 120, 29, 4, 122, 28, 120, 128, 130, 181, 0, 199]
abbrev dktX0_getsOf_0 : List UInt8 := dkwX0_getsOf_0 ++ dktX0_getsOf_1
theorem dksX0_getsOf_0 : cX0_getsOf.data.toList.drop 0 = dktX0_getsOf_0 := by decide +kernel
theorem dksX0_getsOf_1 : cX0_getsOf.data.toList.drop 24 = dktX0_getsOf_1 := dk_seg dksX0_getsOf_0 24 rfl rfl
theorem dksX0_getsOf_2 : cX0_getsOf.data.toList.drop 47 = dktX0_getsOf_2 := dk_seg dksX0_getsOf_1 23 rfl rfl
theorem dksX0_getsOf_3 : cX0_getsOf.data.toList.drop 69 = dktX0_getsOf_3 := dk_seg dksX0_getsOf_2 22 rfl rfl
theorem dX0_getsOf_0 : decode cX0_getsOf 0 = .ok (.aload_n 0, 1) := dk_42 (dk_at dksX0_getsOf_0 0 rfl rfl)
theorem dX0_getsOf_1 : decode cX0_getsOf 1 = .ok (.invokevirtual 268, 3) := dk_182 1 12 (dk_at dksX0_getsOf_0 1 rfl rfl)
theorem dX0_getsOf_4 : decode cX0_getsOf 4 = .ok (.aload_n 0, 1) := dk_42 (dk_at dksX0_getsOf_0 4 rfl rfl)
theorem dX0_getsOf_5 : decode cX0_getsOf 5 = .ok (.dup, 1) := dk_89 (dk_at dksX0_getsOf_0 5 rfl rfl)
theorem dX0_getsOf_6 : decode cX0_getsOf 6 = .ok (.getfield 199, 3) := dk_180 0 199 (dk_at dksX0_getsOf_0 6 rfl rfl)
theorem dX0_getsOf_9 : decode cX0_getsOf 9 = .ok (.iload_n 3, 1) := dk_29 (dk_at dksX0_getsOf_0 9 rfl rfl)
theorem dX0_getsOf_10 : decode cX0_getsOf 10 = .ok (.iconst 1, 1) := dk_4 (dk_at dksX0_getsOf_0 10 rfl rfl)
theorem dX0_getsOf_11 : decode cX0_getsOf 11 = .ok (.iand, 1) := dk_126 (dk_at dksX0_getsOf_0 11 rfl rfl)
theorem dX0_getsOf_12 : decode cX0_getsOf 12 = .ok (.iload_n 1, 1) := dk_27 (dk_at dksX0_getsOf_0 12 rfl rfl)
theorem dX0_getsOf_13 : decode cX0_getsOf 13 = .ok (.ishl, 1) := dk_120 (dk_at dksX0_getsOf_0 13 rfl rfl)
theorem dX0_getsOf_14 : decode cX0_getsOf 14 = .ok (.iload_n 3, 1) := dk_29 (dk_at dksX0_getsOf_0 14 rfl rfl)
theorem dX0_getsOf_15 : decode cX0_getsOf 15 = .ok (.iconst 1, 1) := dk_4 (dk_at dksX0_getsOf_0 15 rfl rfl)
theorem dX0_getsOf_16 : decode cX0_getsOf 16 = .ok (.ishr, 1) := dk_122 (dk_at dksX0_getsOf_0 16 rfl rfl)
theorem dX0_getsOf_17 : decode cX0_getsOf 17 = .ok (.iload_n 2, 1) := dk_28 (dk_at dksX0_getsOf_0 17 rfl rfl)
theorem dX0_getsOf_18 : decode cX0_getsOf 18 = .ok (.ishl, 1) := dk_120 (dk_at dksX0_getsOf_0 18 rfl rfl)
theorem dX0_getsOf_19 : decode cX0_getsOf 19 = .ok (.ior, 1) := dk_128 (dk_at dksX0_getsOf_0 19 rfl rfl)
theorem dX0_getsOf_20 : decode cX0_getsOf 20 = .ok (.ixor, 1) := dk_130 (dk_at dksX0_getsOf_0 20 rfl rfl)
theorem dX0_getsOf_21 : decode cX0_getsOf 21 = .ok (.putfield 199, 3) := dk_181 0 199 (dk_at dksX0_getsOf_0 21 rfl rfl)
theorem dX0_getsOf_24 : decode cX0_getsOf 24 = .ok (.aload_n 0, 1) := dk_42 (dk_at dksX0_getsOf_1 0 rfl rfl)
theorem dX0_getsOf_25 : decode cX0_getsOf 25 = .ok (.invokevirtual 271, 3) := dk_182 1 15 (dk_at dksX0_getsOf_1 1 rfl rfl)
theorem dX0_getsOf_28 : decode cX0_getsOf 28 = .ok (.iconst 3, 1) := dk_6 (dk_at dksX0_getsOf_1 4 rfl rfl)
theorem dX0_getsOf_29 : decode cX0_getsOf 29 = .ok (.aload_n 0, 1) := dk_42 (dk_at dksX0_getsOf_1 5 rfl rfl)
theorem dX0_getsOf_30 : decode cX0_getsOf 30 = .ok (.aload_n 0, 1) := dk_42 (dk_at dksX0_getsOf_1 6 rfl rfl)
theorem dX0_getsOf_31 : decode cX0_getsOf 31 = .ok (.getfield 10, 3) := dk_180 0 10 (dk_at dksX0_getsOf_1 7 rfl rfl)
theorem dX0_getsOf_34 : decode cX0_getsOf 34 = .ok (.getfield 133, 3) := dk_180 0 133 (dk_at dksX0_getsOf_1 10 rfl rfl)
theorem dX0_getsOf_37 : decode cX0_getsOf 37 = .ok (.invokevirtual 295, 3) := dk_182 1 39 (dk_at dksX0_getsOf_1 13 rfl rfl)
theorem dX0_getsOf_40 : decode cX0_getsOf 40 = .ok (.aload_n 0, 1) := dk_42 (dk_at dksX0_getsOf_1 16 rfl rfl)
theorem dX0_getsOf_41 : decode cX0_getsOf 41 = .ok (.iload 4, 2) := dk_21 4 (dk_at dksX0_getsOf_1 17 rfl rfl)
theorem dX0_getsOf_43 : decode cX0_getsOf 43 = .ok (.ifCond .ne 7, 3) := dk_154 0 7 (dk_at dksX0_getsOf_1 19 rfl rfl)
theorem dX0_getsOf_46 : decode cX0_getsOf 46 = .ok (.iload_n 1, 1) := dk_27 (dk_at dksX0_getsOf_1 22 rfl rfl)
theorem dX0_getsOf_47 : decode cX0_getsOf 47 = .ok (.goto 4, 3) := dk_167 0 4 (dk_at dksX0_getsOf_2 0 rfl rfl)
theorem dX0_getsOf_50 : decode cX0_getsOf 50 = .ok (.iload_n 2, 1) := dk_28 (dk_at dksX0_getsOf_2 3 rfl rfl)
theorem dX0_getsOf_51 : decode cX0_getsOf 51 = .ok (.invokevirtual 182, 3) := dk_182 0 182 (dk_at dksX0_getsOf_2 4 rfl rfl)
theorem dX0_getsOf_54 : decode cX0_getsOf 54 = .ok (.iand, 1) := dk_126 (dk_at dksX0_getsOf_2 7 rfl rfl)
theorem dX0_getsOf_55 : decode cX0_getsOf 55 = .ok (.invokestatic 384, 3) := dk_184 1 128 (dk_at dksX0_getsOf_2 8 rfl rfl)
theorem dX0_getsOf_58 : decode cX0_getsOf 58 = .ok (.imul, 1) := dk_104 (dk_at dksX0_getsOf_2 11 rfl rfl)
theorem dX0_getsOf_59 : decode cX0_getsOf 59 = .ok (.iload_n 3, 1) := dk_29 (dk_at dksX0_getsOf_2 12 rfl rfl)
theorem dX0_getsOf_60 : decode cX0_getsOf 60 = .ok (.iload 4, 2) := dk_21 4 (dk_at dksX0_getsOf_2 13 rfl rfl)
theorem dX0_getsOf_62 : decode cX0_getsOf 62 = .ok (.invokestatic 254, 3) := dk_184 0 254 (dk_at dksX0_getsOf_2 15 rfl rfl)
theorem dX0_getsOf_65 : decode cX0_getsOf 65 = .ok (.ifCond .eq 7, 3) := dk_153 0 7 (dk_at dksX0_getsOf_2 18 rfl rfl)
theorem dX0_getsOf_68 : decode cX0_getsOf 68 = .ok (.iconst 1, 1) := dk_4 (dk_at dksX0_getsOf_2 21 rfl rfl)
theorem dX0_getsOf_69 : decode cX0_getsOf 69 = .ok (.goto 4, 3) := dk_167 0 4 (dk_at dksX0_getsOf_3 0 rfl rfl)
theorem dX0_getsOf_72 : decode cX0_getsOf 72 = .ok (.iconst 0, 1) := dk_3 (dk_at dksX0_getsOf_3 3 rfl rfl)
theorem dX0_getsOf_73 : decode cX0_getsOf 73 = .ok (.isub, 1) := dk_100 (dk_at dksX0_getsOf_3 4 rfl rfl)
theorem dX0_getsOf_74 : decode cX0_getsOf 74 = .ok (.ireturn, 1) := dk_172 (dk_at dksX0_getsOf_3 5 rfl rfl)
abbrev cX0_gets : ByteArray := prog_1_method_111_code
def yX0_gets : MethodName := ⟨RX0, "gets", "(IIII)I"⟩
def dkwX0_gets_1 : List UInt8 := [154, 0, 7, 17, 252, 24, 172, 42, 27, 28, 29, 5, 21, 4, 104, 96, 3, 182, 1, 141, 172]
abbrev dktX0_gets_1 : List UInt8 := dkwX0_gets_1 ++ []
def dkwX0_gets_0 : List UInt8 := [42, 27, 28, 182, 1, 138, 153, 0, 20, 29, 5, 184, 0, 144, 153, 0, 12, 21, 4, 5, 184, 0, 144]
abbrev dktX0_gets_0 : List UInt8 := dkwX0_gets_0 ++ dktX0_gets_1
theorem dksX0_gets_0 : cX0_gets.data.toList.drop 0 = dktX0_gets_0 := by decide +kernel
theorem dksX0_gets_1 : cX0_gets.data.toList.drop 23 = dktX0_gets_1 := dk_seg dksX0_gets_0 23 rfl rfl
theorem dX0_gets_0 : decode cX0_gets 0 = .ok (.aload_n 0, 1) := dk_42 (dk_at dksX0_gets_0 0 rfl rfl)
theorem dX0_gets_1 : decode cX0_gets 1 = .ok (.iload_n 1, 1) := dk_27 (dk_at dksX0_gets_0 1 rfl rfl)
theorem dX0_gets_2 : decode cX0_gets 2 = .ok (.iload_n 2, 1) := dk_28 (dk_at dksX0_gets_0 2 rfl rfl)
theorem dX0_gets_3 : decode cX0_gets 3 = .ok (.invokevirtual 394, 3) := dk_182 1 138 (dk_at dksX0_gets_0 3 rfl rfl)
theorem dX0_gets_6 : decode cX0_gets 6 = .ok (.ifCond .eq 20, 3) := dk_153 0 20 (dk_at dksX0_gets_0 6 rfl rfl)
theorem dX0_gets_9 : decode cX0_gets 9 = .ok (.iload_n 3, 1) := dk_29 (dk_at dksX0_gets_0 9 rfl rfl)
theorem dX0_gets_10 : decode cX0_gets 10 = .ok (.iconst 2, 1) := dk_5 (dk_at dksX0_gets_0 10 rfl rfl)
theorem dX0_gets_11 : decode cX0_gets 11 = .ok (.invokestatic 144, 3) := dk_184 0 144 (dk_at dksX0_gets_0 11 rfl rfl)
theorem dX0_gets_14 : decode cX0_gets 14 = .ok (.ifCond .eq 12, 3) := dk_153 0 12 (dk_at dksX0_gets_0 14 rfl rfl)
theorem dX0_gets_17 : decode cX0_gets 17 = .ok (.iload 4, 2) := dk_21 4 (dk_at dksX0_gets_0 17 rfl rfl)
theorem dX0_gets_19 : decode cX0_gets 19 = .ok (.iconst 2, 1) := dk_5 (dk_at dksX0_gets_0 19 rfl rfl)
theorem dX0_gets_20 : decode cX0_gets 20 = .ok (.invokestatic 144, 3) := dk_184 0 144 (dk_at dksX0_gets_0 20 rfl rfl)
theorem dX0_gets_23 : decode cX0_gets 23 = .ok (.ifCond .ne 7, 3) := dk_154 0 7 (dk_at dksX0_gets_1 0 rfl rfl)
theorem dX0_gets_26 : decode cX0_gets 26 = .ok (.sipush (-1000), 3) := dk_17 252 24 (dk_at dksX0_gets_1 3 rfl rfl)
theorem dX0_gets_29 : decode cX0_gets 29 = .ok (.ireturn, 1) := dk_172 (dk_at dksX0_gets_1 6 rfl rfl)
theorem dX0_gets_30 : decode cX0_gets 30 = .ok (.aload_n 0, 1) := dk_42 (dk_at dksX0_gets_1 7 rfl rfl)
theorem dX0_gets_31 : decode cX0_gets 31 = .ok (.iload_n 1, 1) := dk_27 (dk_at dksX0_gets_1 8 rfl rfl)
theorem dX0_gets_32 : decode cX0_gets 32 = .ok (.iload_n 2, 1) := dk_28 (dk_at dksX0_gets_1 9 rfl rfl)
theorem dX0_gets_33 : decode cX0_gets 33 = .ok (.iload_n 3, 1) := dk_29 (dk_at dksX0_gets_1 10 rfl rfl)
theorem dX0_gets_34 : decode cX0_gets 34 = .ok (.iconst 2, 1) := dk_5 (dk_at dksX0_gets_1 11 rfl rfl)
theorem dX0_gets_35 : decode cX0_gets 35 = .ok (.iload 4, 2) := dk_21 4 (dk_at dksX0_gets_1 12 rfl rfl)
theorem dX0_gets_37 : decode cX0_gets 37 = .ok (.imul, 1) := dk_104 (dk_at dksX0_gets_1 14 rfl rfl)
theorem dX0_gets_38 : decode cX0_gets 38 = .ok (.iadd, 1) := dk_96 (dk_at dksX0_gets_1 15 rfl rfl)
theorem dX0_gets_39 : decode cX0_gets 39 = .ok (.iconst 0, 1) := dk_3 (dk_at dksX0_gets_1 16 rfl rfl)
theorem dX0_gets_40 : decode cX0_gets 40 = .ok (.invokevirtual 397, 3) := dk_182 1 141 (dk_at dksX0_gets_1 17 rfl rfl)
theorem dX0_gets_43 : decode cX0_gets 43 = .ok (.ireturn, 1) := dk_172 (dk_at dksX0_gets_1 20 rfl rfl)
abbrev cX0_chance : ByteArray := prog_1_method_114_code
def yX0_chance : MethodName := ⟨RX0, "chance", "(IIII)I"⟩
def dkwX0_chance_2 : List UInt8 := [182, 1, 162, 42, 180, 1, 148, 42, 180, 1, 144, 21, 4, 184, 1, 134, 136, 172]
abbrev dktX0_chance_2 : List UInt8 := dkwX0_chance_2 ++ []
def dkwX0_chance_1 : List UInt8 := [184, 0, 95, 153, 0, 12, 21, 4, 5, 184, 0, 144, 154, 0, 6, 16, 254, 172, 42, 27, 28, 29]
abbrev dktX0_chance_1 : List UInt8 := dkwX0_chance_1 ++ dktX0_chance_2
def dkwX0_chance_0 : List UInt8 := [42, 27, 133, 182, 0, 163, 153, 0, 32, 42, 28, 182, 1, 159, 153, 0, 24, 29, 133, 9, 20, 1, 73]
abbrev dktX0_chance_0 : List UInt8 := dkwX0_chance_0 ++ dktX0_chance_1
theorem dksX0_chance_0 : cX0_chance.data.toList.drop 0 = dktX0_chance_0 := by decide +kernel
theorem dksX0_chance_1 : cX0_chance.data.toList.drop 23 = dktX0_chance_1 := dk_seg dksX0_chance_0 23 rfl rfl
theorem dksX0_chance_2 : cX0_chance.data.toList.drop 45 = dktX0_chance_2 := dk_seg dksX0_chance_1 22 rfl rfl
theorem dX0_chance_0 : decode cX0_chance 0 = .ok (.aload_n 0, 1) := dk_42 (dk_at dksX0_chance_0 0 rfl rfl)
theorem dX0_chance_1 : decode cX0_chance 1 = .ok (.iload_n 1, 1) := dk_27 (dk_at dksX0_chance_0 1 rfl rfl)
theorem dX0_chance_2 : decode cX0_chance 2 = .ok (.i2l, 1) := dk_133 (dk_at dksX0_chance_0 2 rfl rfl)
theorem dX0_chance_3 : decode cX0_chance 3 = .ok (.invokevirtual 163, 3) := dk_182 0 163 (dk_at dksX0_chance_0 3 rfl rfl)
theorem dX0_chance_6 : decode cX0_chance 6 = .ok (.ifCond .eq 32, 3) := dk_153 0 32 (dk_at dksX0_chance_0 6 rfl rfl)
theorem dX0_chance_9 : decode cX0_chance 9 = .ok (.aload_n 0, 1) := dk_42 (dk_at dksX0_chance_0 9 rfl rfl)
theorem dX0_chance_10 : decode cX0_chance 10 = .ok (.iload_n 2, 1) := dk_28 (dk_at dksX0_chance_0 10 rfl rfl)
theorem dX0_chance_11 : decode cX0_chance 11 = .ok (.invokevirtual 415, 3) := dk_182 1 159 (dk_at dksX0_chance_0 11 rfl rfl)
theorem dX0_chance_14 : decode cX0_chance 14 = .ok (.ifCond .eq 24, 3) := dk_153 0 24 (dk_at dksX0_chance_0 14 rfl rfl)
theorem dX0_chance_17 : decode cX0_chance 17 = .ok (.iload_n 3, 1) := dk_29 (dk_at dksX0_chance_0 17 rfl rfl)
theorem dX0_chance_18 : decode cX0_chance 18 = .ok (.i2l, 1) := dk_133 (dk_at dksX0_chance_0 18 rfl rfl)
theorem dX0_chance_19 : decode cX0_chance 19 = .ok (.lconst 0, 1) := dk_9 (dk_at dksX0_chance_0 19 rfl rfl)
theorem dX0_chance_20 : decode cX0_chance 20 = .ok (.ldc2_w 329, 3) := dk_20 1 73 (dk_at dksX0_chance_0 20 rfl rfl)
theorem dX0_chance_23 : decode cX0_chance 23 = .ok (.invokestatic 95, 3) := dk_184 0 95 (dk_at dksX0_chance_1 0 rfl rfl)
theorem dX0_chance_26 : decode cX0_chance 26 = .ok (.ifCond .eq 12, 3) := dk_153 0 12 (dk_at dksX0_chance_1 3 rfl rfl)
theorem dX0_chance_29 : decode cX0_chance 29 = .ok (.iload 4, 2) := dk_21 4 (dk_at dksX0_chance_1 6 rfl rfl)
theorem dX0_chance_31 : decode cX0_chance 31 = .ok (.iconst 2, 1) := dk_5 (dk_at dksX0_chance_1 8 rfl rfl)
theorem dX0_chance_32 : decode cX0_chance 32 = .ok (.invokestatic 144, 3) := dk_184 0 144 (dk_at dksX0_chance_1 9 rfl rfl)
theorem dX0_chance_35 : decode cX0_chance 35 = .ok (.ifCond .ne 6, 3) := dk_154 0 6 (dk_at dksX0_chance_1 12 rfl rfl)
theorem dX0_chance_38 : decode cX0_chance 38 = .ok (.bipush (-2), 2) := dk_16 254 (dk_at dksX0_chance_1 15 rfl rfl)
theorem dX0_chance_40 : decode cX0_chance 40 = .ok (.ireturn, 1) := dk_172 (dk_at dksX0_chance_1 17 rfl rfl)
theorem dX0_chance_41 : decode cX0_chance 41 = .ok (.aload_n 0, 1) := dk_42 (dk_at dksX0_chance_1 18 rfl rfl)
theorem dX0_chance_42 : decode cX0_chance 42 = .ok (.iload_n 1, 1) := dk_27 (dk_at dksX0_chance_1 19 rfl rfl)
theorem dX0_chance_43 : decode cX0_chance 43 = .ok (.iload_n 2, 1) := dk_28 (dk_at dksX0_chance_1 20 rfl rfl)
theorem dX0_chance_44 : decode cX0_chance 44 = .ok (.iload_n 3, 1) := dk_29 (dk_at dksX0_chance_1 21 rfl rfl)
theorem dX0_chance_45 : decode cX0_chance 45 = .ok (.invokevirtual 418, 3) := dk_182 1 162 (dk_at dksX0_chance_2 0 rfl rfl)
theorem dX0_chance_48 : decode cX0_chance 48 = .ok (.aload_n 0, 1) := dk_42 (dk_at dksX0_chance_2 3 rfl rfl)
theorem dX0_chance_49 : decode cX0_chance 49 = .ok (.getfield 404, 3) := dk_180 1 148 (dk_at dksX0_chance_2 4 rfl rfl)
theorem dX0_chance_52 : decode cX0_chance 52 = .ok (.aload_n 0, 1) := dk_42 (dk_at dksX0_chance_2 7 rfl rfl)
theorem dX0_chance_53 : decode cX0_chance 53 = .ok (.getfield 400, 3) := dk_180 1 144 (dk_at dksX0_chance_2 8 rfl rfl)
theorem dX0_chance_56 : decode cX0_chance 56 = .ok (.iload 4, 2) := dk_21 4 (dk_at dksX0_chance_2 11 rfl rfl)
theorem dX0_chance_58 : decode cX0_chance 58 = .ok (.invokestatic 390, 3) := dk_184 1 134 (dk_at dksX0_chance_2 13 rfl rfl)
theorem dX0_chance_61 : decode cX0_chance 61 = .ok (.l2i, 1) := dk_136 (dk_at dksX0_chance_2 16 rfl rfl)
theorem dX0_chance_62 : decode cX0_chance 62 = .ok (.ireturn, 1) := dk_172 (dk_at dksX0_chance_2 17 rfl rfl)
abbrev cX0_isChance : ByteArray := prog_1_method_113_code
def yX0_isChance : MethodName := ⟨RX0, "isChance", "(I)Z"⟩
def dkwX0_isChance_1 : List UInt8 := [167, 0, 4, 3, 172]
abbrev dktX0_isChance_1 : List UInt8 := dkwX0_isChance_1 ++ []
def dkwX0_isChance_0 : List UInt8 := [42, 27, 133, 182, 1, 21, 153, 0, 19, 27, 133, 10, 20, 1, 157, 184, 0, 95, 153, 0, 7, 4]
abbrev dktX0_isChance_0 : List UInt8 := dkwX0_isChance_0 ++ dktX0_isChance_1
theorem dksX0_isChance_0 : cX0_isChance.data.toList.drop 0 = dktX0_isChance_0 := by decide +kernel
theorem dksX0_isChance_1 : cX0_isChance.data.toList.drop 22 = dktX0_isChance_1 := dk_seg dksX0_isChance_0 22 rfl rfl
theorem dX0_isChance_0 : decode cX0_isChance 0 = .ok (.aload_n 0, 1) := dk_42 (dk_at dksX0_isChance_0 0 rfl rfl)
theorem dX0_isChance_1 : decode cX0_isChance 1 = .ok (.iload_n 1, 1) := dk_27 (dk_at dksX0_isChance_0 1 rfl rfl)
theorem dX0_isChance_2 : decode cX0_isChance 2 = .ok (.i2l, 1) := dk_133 (dk_at dksX0_isChance_0 2 rfl rfl)
theorem dX0_isChance_3 : decode cX0_isChance 3 = .ok (.invokevirtual 277, 3) := dk_182 1 21 (dk_at dksX0_isChance_0 3 rfl rfl)
theorem dX0_isChance_6 : decode cX0_isChance 6 = .ok (.ifCond .eq 19, 3) := dk_153 0 19 (dk_at dksX0_isChance_0 6 rfl rfl)
theorem dX0_isChance_9 : decode cX0_isChance 9 = .ok (.iload_n 1, 1) := dk_27 (dk_at dksX0_isChance_0 9 rfl rfl)
theorem dX0_isChance_10 : decode cX0_isChance 10 = .ok (.i2l, 1) := dk_133 (dk_at dksX0_isChance_0 10 rfl rfl)
theorem dX0_isChance_11 : decode cX0_isChance 11 = .ok (.lconst 1, 1) := dk_10 (dk_at dksX0_isChance_0 11 rfl rfl)
theorem dX0_isChance_12 : decode cX0_isChance 12 = .ok (.ldc2_w 413, 3) := dk_20 1 157 (dk_at dksX0_isChance_0 12 rfl rfl)
theorem dX0_isChance_15 : decode cX0_isChance 15 = .ok (.invokestatic 95, 3) := dk_184 0 95 (dk_at dksX0_isChance_0 15 rfl rfl)
theorem dX0_isChance_18 : decode cX0_isChance 18 = .ok (.ifCond .eq 7, 3) := dk_153 0 7 (dk_at dksX0_isChance_0 18 rfl rfl)
theorem dX0_isChance_21 : decode cX0_isChance 21 = .ok (.iconst 1, 1) := dk_4 (dk_at dksX0_isChance_0 21 rfl rfl)
theorem dX0_isChance_22 : decode cX0_isChance 22 = .ok (.goto 4, 3) := dk_167 0 4 (dk_at dksX0_isChance_1 0 rfl rfl)
theorem dX0_isChance_25 : decode cX0_isChance 25 = .ok (.iconst 0, 1) := dk_3 (dk_at dksX0_isChance_1 3 rfl rfl)
theorem dX0_isChance_26 : decode cX0_isChance 26 = .ok (.ireturn, 1) := dk_172 (dk_at dksX0_isChance_1 4 rfl rfl)
abbrev cX0_laysChance : ByteArray := prog_1_method_112_code
def yX0_laysChance : MethodName := ⟨RX0, "laysChance", "(III)V"⟩
def dkwX0_laysChance_6 : List UInt8 := [182, 1, 42, 133, 105, 97, 181, 1, 151, 42, 89, 180, 0, 202, 4, 96, 181, 0, 202, 167, 255, 121, 177]
abbrev dktX0_laysChance_6 : List UInt8 := dkwX0_laysChance_6 ++ []
def dkwX0_laysChance_5 : List UInt8 := [161, 0, 8, 22, 4, 167, 0, 4, 9, 97, 181, 1, 148, 42, 89, 180, 1, 151, 22, 4, 42, 28]
abbrev dktX0_laysChance_5 : List UInt8 := dkwX0_laysChance_5 ++ dktX0_laysChance_6
def dkwX0_laysChance_4 : List UInt8 := [42, 89, 180, 1, 144, 22, 4, 97, 181, 1, 144, 42, 89, 180, 1, 148, 42, 27, 28, 182, 1, 24, 29]
abbrev dktX0_laysChance_4 : List UInt8 := dkwX0_laysChance_4 ++ dktX0_laysChance_5
def dkwX0_laysChance_3 : List UInt8 := [16, 10, 42, 180, 0, 10, 180, 1, 154, 100, 133, 105, 55, 4, 132, 6, 1, 167, 255, 208, 42, 182, 1, 15]
abbrev dktX0_laysChance_3 : List UInt8 := dkwX0_laysChance_3 ++ dktX0_laysChance_4
def dkwX0_laysChance_2 : List UInt8 := [42, 180, 0, 202, 21, 6, 184, 0, 254, 153, 0, 14, 42, 180, 0, 10, 180, 1, 154, 133, 167, 0, 14]
abbrev dktX0_laysChance_2 : List UInt8 := dkwX0_laysChance_2 ++ dktX0_laysChance_3
def dkwX0_laysChance_1 : List UInt8 := [42, 180, 0, 202, 4, 28, 120, 162, 0, 131, 10, 55, 4, 3, 54, 6, 21, 6, 28, 162, 0, 48, 22, 4]
abbrev dktX0_laysChance_1 : List UInt8 := dkwX0_laysChance_1 ++ dktX0_laysChance_2
def dkwX0_laysChance_0 : List UInt8 := [42, 9, 181, 1, 144, 42, 9, 181, 1, 148, 42, 9, 181, 1, 151, 42, 182, 1, 12, 42, 3, 181, 0, 202]
abbrev dktX0_laysChance_0 : List UInt8 := dkwX0_laysChance_0 ++ dktX0_laysChance_1
theorem dksX0_laysChance_0 : cX0_laysChance.data.toList.drop 0 = dktX0_laysChance_0 := by decide +kernel
theorem dksX0_laysChance_1 : cX0_laysChance.data.toList.drop 24 = dktX0_laysChance_1 := dk_seg dksX0_laysChance_0 24 rfl rfl
theorem dksX0_laysChance_2 : cX0_laysChance.data.toList.drop 48 = dktX0_laysChance_2 := dk_seg dksX0_laysChance_1 24 rfl rfl
theorem dksX0_laysChance_3 : cX0_laysChance.data.toList.drop 71 = dktX0_laysChance_3 := dk_seg dksX0_laysChance_2 23 rfl rfl
theorem dksX0_laysChance_4 : cX0_laysChance.data.toList.drop 95 = dktX0_laysChance_4 := dk_seg dksX0_laysChance_3 24 rfl rfl
theorem dksX0_laysChance_5 : cX0_laysChance.data.toList.drop 118 = dktX0_laysChance_5 := dk_seg dksX0_laysChance_4 23 rfl rfl
theorem dksX0_laysChance_6 : cX0_laysChance.data.toList.drop 140 = dktX0_laysChance_6 := dk_seg dksX0_laysChance_5 22 rfl rfl
theorem dX0_laysChance_0 : decode cX0_laysChance 0 = .ok (.aload_n 0, 1) := dk_42 (dk_at dksX0_laysChance_0 0 rfl rfl)
theorem dX0_laysChance_1 : decode cX0_laysChance 1 = .ok (.lconst 0, 1) := dk_9 (dk_at dksX0_laysChance_0 1 rfl rfl)
theorem dX0_laysChance_2 : decode cX0_laysChance 2 = .ok (.putfield 400, 3) := dk_181 1 144 (dk_at dksX0_laysChance_0 2 rfl rfl)
theorem dX0_laysChance_5 : decode cX0_laysChance 5 = .ok (.aload_n 0, 1) := dk_42 (dk_at dksX0_laysChance_0 5 rfl rfl)
theorem dX0_laysChance_6 : decode cX0_laysChance 6 = .ok (.lconst 0, 1) := dk_9 (dk_at dksX0_laysChance_0 6 rfl rfl)
theorem dX0_laysChance_7 : decode cX0_laysChance 7 = .ok (.putfield 404, 3) := dk_181 1 148 (dk_at dksX0_laysChance_0 7 rfl rfl)
theorem dX0_laysChance_10 : decode cX0_laysChance 10 = .ok (.aload_n 0, 1) := dk_42 (dk_at dksX0_laysChance_0 10 rfl rfl)
theorem dX0_laysChance_11 : decode cX0_laysChance 11 = .ok (.lconst 0, 1) := dk_9 (dk_at dksX0_laysChance_0 11 rfl rfl)
theorem dX0_laysChance_12 : decode cX0_laysChance 12 = .ok (.putfield 407, 3) := dk_181 1 151 (dk_at dksX0_laysChance_0 12 rfl rfl)
theorem dX0_laysChance_15 : decode cX0_laysChance 15 = .ok (.aload_n 0, 1) := dk_42 (dk_at dksX0_laysChance_0 15 rfl rfl)
theorem dX0_laysChance_16 : decode cX0_laysChance 16 = .ok (.invokevirtual 268, 3) := dk_182 1 12 (dk_at dksX0_laysChance_0 16 rfl rfl)
theorem dX0_laysChance_19 : decode cX0_laysChance 19 = .ok (.aload_n 0, 1) := dk_42 (dk_at dksX0_laysChance_0 19 rfl rfl)
theorem dX0_laysChance_20 : decode cX0_laysChance 20 = .ok (.iconst 0, 1) := dk_3 (dk_at dksX0_laysChance_0 20 rfl rfl)
theorem dX0_laysChance_21 : decode cX0_laysChance 21 = .ok (.putfield 202, 3) := dk_181 0 202 (dk_at dksX0_laysChance_0 21 rfl rfl)
theorem dX0_laysChance_24 : decode cX0_laysChance 24 = .ok (.aload_n 0, 1) := dk_42 (dk_at dksX0_laysChance_1 0 rfl rfl)
theorem dX0_laysChance_25 : decode cX0_laysChance 25 = .ok (.getfield 202, 3) := dk_180 0 202 (dk_at dksX0_laysChance_1 1 rfl rfl)
theorem dX0_laysChance_28 : decode cX0_laysChance 28 = .ok (.iconst 1, 1) := dk_4 (dk_at dksX0_laysChance_1 4 rfl rfl)
theorem dX0_laysChance_29 : decode cX0_laysChance 29 = .ok (.iload_n 2, 1) := dk_28 (dk_at dksX0_laysChance_1 5 rfl rfl)
theorem dX0_laysChance_30 : decode cX0_laysChance 30 = .ok (.ishl, 1) := dk_120 (dk_at dksX0_laysChance_1 6 rfl rfl)
theorem dX0_laysChance_31 : decode cX0_laysChance 31 = .ok (.if_icmp .ge 131, 3) := dk_162 0 131 (dk_at dksX0_laysChance_1 7 rfl rfl)
theorem dX0_laysChance_34 : decode cX0_laysChance 34 = .ok (.lconst 1, 1) := dk_10 (dk_at dksX0_laysChance_1 10 rfl rfl)
theorem dX0_laysChance_35 : decode cX0_laysChance 35 = .ok (.lstore 4, 2) := dk_55 4 (dk_at dksX0_laysChance_1 11 rfl rfl)
theorem dX0_laysChance_37 : decode cX0_laysChance 37 = .ok (.iconst 0, 1) := dk_3 (dk_at dksX0_laysChance_1 13 rfl rfl)
theorem dX0_laysChance_38 : decode cX0_laysChance 38 = .ok (.istore 6, 2) := dk_54 6 (dk_at dksX0_laysChance_1 14 rfl rfl)
theorem dX0_laysChance_40 : decode cX0_laysChance 40 = .ok (.iload 6, 2) := dk_21 6 (dk_at dksX0_laysChance_1 16 rfl rfl)
theorem dX0_laysChance_42 : decode cX0_laysChance 42 = .ok (.iload_n 2, 1) := dk_28 (dk_at dksX0_laysChance_1 18 rfl rfl)
theorem dX0_laysChance_43 : decode cX0_laysChance 43 = .ok (.if_icmp .ge 48, 3) := dk_162 0 48 (dk_at dksX0_laysChance_1 19 rfl rfl)
theorem dX0_laysChance_46 : decode cX0_laysChance 46 = .ok (.lload 4, 2) := dk_22 4 (dk_at dksX0_laysChance_1 22 rfl rfl)
theorem dX0_laysChance_48 : decode cX0_laysChance 48 = .ok (.aload_n 0, 1) := dk_42 (dk_at dksX0_laysChance_2 0 rfl rfl)
theorem dX0_laysChance_49 : decode cX0_laysChance 49 = .ok (.getfield 202, 3) := dk_180 0 202 (dk_at dksX0_laysChance_2 1 rfl rfl)
theorem dX0_laysChance_52 : decode cX0_laysChance 52 = .ok (.iload 6, 2) := dk_21 6 (dk_at dksX0_laysChance_2 4 rfl rfl)
theorem dX0_laysChance_54 : decode cX0_laysChance 54 = .ok (.invokestatic 254, 3) := dk_184 0 254 (dk_at dksX0_laysChance_2 6 rfl rfl)
theorem dX0_laysChance_57 : decode cX0_laysChance 57 = .ok (.ifCond .eq 14, 3) := dk_153 0 14 (dk_at dksX0_laysChance_2 9 rfl rfl)
theorem dX0_laysChance_60 : decode cX0_laysChance 60 = .ok (.aload_n 0, 1) := dk_42 (dk_at dksX0_laysChance_2 12 rfl rfl)
theorem dX0_laysChance_61 : decode cX0_laysChance 61 = .ok (.getfield 10, 3) := dk_180 0 10 (dk_at dksX0_laysChance_2 13 rfl rfl)
theorem dX0_laysChance_64 : decode cX0_laysChance 64 = .ok (.getfield 410, 3) := dk_180 1 154 (dk_at dksX0_laysChance_2 16 rfl rfl)
theorem dX0_laysChance_67 : decode cX0_laysChance 67 = .ok (.i2l, 1) := dk_133 (dk_at dksX0_laysChance_2 19 rfl rfl)
theorem dX0_laysChance_68 : decode cX0_laysChance 68 = .ok (.goto 14, 3) := dk_167 0 14 (dk_at dksX0_laysChance_2 20 rfl rfl)
theorem dX0_laysChance_71 : decode cX0_laysChance 71 = .ok (.bipush 10, 2) := dk_16 10 (dk_at dksX0_laysChance_3 0 rfl rfl)
theorem dX0_laysChance_73 : decode cX0_laysChance 73 = .ok (.aload_n 0, 1) := dk_42 (dk_at dksX0_laysChance_3 2 rfl rfl)
theorem dX0_laysChance_74 : decode cX0_laysChance 74 = .ok (.getfield 10, 3) := dk_180 0 10 (dk_at dksX0_laysChance_3 3 rfl rfl)
theorem dX0_laysChance_77 : decode cX0_laysChance 77 = .ok (.getfield 410, 3) := dk_180 1 154 (dk_at dksX0_laysChance_3 6 rfl rfl)
theorem dX0_laysChance_80 : decode cX0_laysChance 80 = .ok (.isub, 1) := dk_100 (dk_at dksX0_laysChance_3 9 rfl rfl)
theorem dX0_laysChance_81 : decode cX0_laysChance 81 = .ok (.i2l, 1) := dk_133 (dk_at dksX0_laysChance_3 10 rfl rfl)
theorem dX0_laysChance_82 : decode cX0_laysChance 82 = .ok (.lmul, 1) := dk_105 (dk_at dksX0_laysChance_3 11 rfl rfl)
theorem dX0_laysChance_83 : decode cX0_laysChance 83 = .ok (.lstore 4, 2) := dk_55 4 (dk_at dksX0_laysChance_3 12 rfl rfl)
theorem dX0_laysChance_85 : decode cX0_laysChance 85 = .ok (.iinc 6 1, 3) := dk_132 6 1 (dk_at dksX0_laysChance_3 14 rfl rfl)
theorem dX0_laysChance_88 : decode cX0_laysChance 88 = .ok (.goto (-48), 3) := dk_167 255 208 (dk_at dksX0_laysChance_3 17 rfl rfl)
theorem dX0_laysChance_91 : decode cX0_laysChance 91 = .ok (.aload_n 0, 1) := dk_42 (dk_at dksX0_laysChance_3 20 rfl rfl)
theorem dX0_laysChance_92 : decode cX0_laysChance 92 = .ok (.invokevirtual 271, 3) := dk_182 1 15 (dk_at dksX0_laysChance_3 21 rfl rfl)
theorem dX0_laysChance_95 : decode cX0_laysChance 95 = .ok (.aload_n 0, 1) := dk_42 (dk_at dksX0_laysChance_4 0 rfl rfl)
theorem dX0_laysChance_96 : decode cX0_laysChance 96 = .ok (.dup, 1) := dk_89 (dk_at dksX0_laysChance_4 1 rfl rfl)
theorem dX0_laysChance_97 : decode cX0_laysChance 97 = .ok (.getfield 400, 3) := dk_180 1 144 (dk_at dksX0_laysChance_4 2 rfl rfl)
theorem dX0_laysChance_100 : decode cX0_laysChance 100 = .ok (.lload 4, 2) := dk_22 4 (dk_at dksX0_laysChance_4 5 rfl rfl)
theorem dX0_laysChance_102 : decode cX0_laysChance 102 = .ok (.ladd, 1) := dk_97 (dk_at dksX0_laysChance_4 7 rfl rfl)
theorem dX0_laysChance_103 : decode cX0_laysChance 103 = .ok (.putfield 400, 3) := dk_181 1 144 (dk_at dksX0_laysChance_4 8 rfl rfl)
theorem dX0_laysChance_106 : decode cX0_laysChance 106 = .ok (.aload_n 0, 1) := dk_42 (dk_at dksX0_laysChance_4 11 rfl rfl)
theorem dX0_laysChance_107 : decode cX0_laysChance 107 = .ok (.dup, 1) := dk_89 (dk_at dksX0_laysChance_4 12 rfl rfl)
theorem dX0_laysChance_108 : decode cX0_laysChance 108 = .ok (.getfield 404, 3) := dk_180 1 148 (dk_at dksX0_laysChance_4 13 rfl rfl)
theorem dX0_laysChance_111 : decode cX0_laysChance 111 = .ok (.aload_n 0, 1) := dk_42 (dk_at dksX0_laysChance_4 16 rfl rfl)
theorem dX0_laysChance_112 : decode cX0_laysChance 112 = .ok (.iload_n 1, 1) := dk_27 (dk_at dksX0_laysChance_4 17 rfl rfl)
theorem dX0_laysChance_113 : decode cX0_laysChance 113 = .ok (.iload_n 2, 1) := dk_28 (dk_at dksX0_laysChance_4 18 rfl rfl)
theorem dX0_laysChance_114 : decode cX0_laysChance 114 = .ok (.invokevirtual 280, 3) := dk_182 1 24 (dk_at dksX0_laysChance_4 19 rfl rfl)
theorem dX0_laysChance_117 : decode cX0_laysChance 117 = .ok (.iload_n 3, 1) := dk_29 (dk_at dksX0_laysChance_4 22 rfl rfl)
theorem dX0_laysChance_118 : decode cX0_laysChance 118 = .ok (.if_icmp .lt 8, 3) := dk_161 0 8 (dk_at dksX0_laysChance_5 0 rfl rfl)
theorem dX0_laysChance_121 : decode cX0_laysChance 121 = .ok (.lload 4, 2) := dk_22 4 (dk_at dksX0_laysChance_5 3 rfl rfl)
theorem dX0_laysChance_123 : decode cX0_laysChance 123 = .ok (.goto 4, 3) := dk_167 0 4 (dk_at dksX0_laysChance_5 5 rfl rfl)
theorem dX0_laysChance_126 : decode cX0_laysChance 126 = .ok (.lconst 0, 1) := dk_9 (dk_at dksX0_laysChance_5 8 rfl rfl)
theorem dX0_laysChance_127 : decode cX0_laysChance 127 = .ok (.ladd, 1) := dk_97 (dk_at dksX0_laysChance_5 9 rfl rfl)
theorem dX0_laysChance_128 : decode cX0_laysChance 128 = .ok (.putfield 404, 3) := dk_181 1 148 (dk_at dksX0_laysChance_5 10 rfl rfl)
theorem dX0_laysChance_131 : decode cX0_laysChance 131 = .ok (.aload_n 0, 1) := dk_42 (dk_at dksX0_laysChance_5 13 rfl rfl)
theorem dX0_laysChance_132 : decode cX0_laysChance 132 = .ok (.dup, 1) := dk_89 (dk_at dksX0_laysChance_5 14 rfl rfl)
theorem dX0_laysChance_133 : decode cX0_laysChance 133 = .ok (.getfield 407, 3) := dk_180 1 151 (dk_at dksX0_laysChance_5 15 rfl rfl)
theorem dX0_laysChance_136 : decode cX0_laysChance 136 = .ok (.lload 4, 2) := dk_22 4 (dk_at dksX0_laysChance_5 18 rfl rfl)
theorem dX0_laysChance_138 : decode cX0_laysChance 138 = .ok (.aload_n 0, 1) := dk_42 (dk_at dksX0_laysChance_5 20 rfl rfl)
theorem dX0_laysChance_139 : decode cX0_laysChance 139 = .ok (.iload_n 2, 1) := dk_28 (dk_at dksX0_laysChance_5 21 rfl rfl)
theorem dX0_laysChance_140 : decode cX0_laysChance 140 = .ok (.invokevirtual 298, 3) := dk_182 1 42 (dk_at dksX0_laysChance_6 0 rfl rfl)
theorem dX0_laysChance_143 : decode cX0_laysChance 143 = .ok (.i2l, 1) := dk_133 (dk_at dksX0_laysChance_6 3 rfl rfl)
theorem dX0_laysChance_144 : decode cX0_laysChance 144 = .ok (.lmul, 1) := dk_105 (dk_at dksX0_laysChance_6 4 rfl rfl)
theorem dX0_laysChance_145 : decode cX0_laysChance 145 = .ok (.ladd, 1) := dk_97 (dk_at dksX0_laysChance_6 5 rfl rfl)
theorem dX0_laysChance_146 : decode cX0_laysChance 146 = .ok (.putfield 407, 3) := dk_181 1 151 (dk_at dksX0_laysChance_6 6 rfl rfl)
theorem dX0_laysChance_149 : decode cX0_laysChance 149 = .ok (.aload_n 0, 1) := dk_42 (dk_at dksX0_laysChance_6 9 rfl rfl)
theorem dX0_laysChance_150 : decode cX0_laysChance 150 = .ok (.dup, 1) := dk_89 (dk_at dksX0_laysChance_6 10 rfl rfl)
theorem dX0_laysChance_151 : decode cX0_laysChance 151 = .ok (.getfield 202, 3) := dk_180 0 202 (dk_at dksX0_laysChance_6 11 rfl rfl)
theorem dX0_laysChance_154 : decode cX0_laysChance 154 = .ok (.iconst 1, 1) := dk_4 (dk_at dksX0_laysChance_6 14 rfl rfl)
theorem dX0_laysChance_155 : decode cX0_laysChance 155 = .ok (.iadd, 1) := dk_96 (dk_at dksX0_laysChance_6 15 rfl rfl)
theorem dX0_laysChance_156 : decode cX0_laysChance 156 = .ok (.putfield 202, 3) := dk_181 0 202 (dk_at dksX0_laysChance_6 16 rfl rfl)
theorem dX0_laysChance_159 : decode cX0_laysChance 159 = .ok (.goto (-135), 3) := dk_167 255 121 (dk_at dksX0_laysChance_6 19 rfl rfl)
theorem dX0_laysChance_162 : decode cX0_laysChance 162 = .ok (.return_, 1) := dk_177 (dk_at dksX0_laysChance_6 22 rfl rfl)
abbrev cX0_mean : ByteArray := prog_1_method_115_code
def yX0_mean : MethodName := ⟨RX0, "mean", "(II)J"⟩
def dkwX0_mean_1 : List UInt8 := [182, 1, 162, 42, 180, 1, 151, 42, 180, 1, 144, 28, 184, 1, 134, 173]
abbrev dktX0_mean_1 : List UInt8 := dkwX0_mean_1 ++ []
def dkwX0_mean_0 : List UInt8 := [42, 27, 182, 1, 159, 153, 0, 11, 28, 5, 184, 0, 144, 154, 0, 7, 20, 1, 166, 173, 42, 3, 27, 3]
abbrev dktX0_mean_0 : List UInt8 := dkwX0_mean_0 ++ dktX0_mean_1
theorem dksX0_mean_0 : cX0_mean.data.toList.drop 0 = dktX0_mean_0 := by decide +kernel
theorem dksX0_mean_1 : cX0_mean.data.toList.drop 24 = dktX0_mean_1 := dk_seg dksX0_mean_0 24 rfl rfl
theorem dX0_mean_0 : decode cX0_mean 0 = .ok (.aload_n 0, 1) := dk_42 (dk_at dksX0_mean_0 0 rfl rfl)
theorem dX0_mean_1 : decode cX0_mean 1 = .ok (.iload_n 1, 1) := dk_27 (dk_at dksX0_mean_0 1 rfl rfl)
theorem dX0_mean_2 : decode cX0_mean 2 = .ok (.invokevirtual 415, 3) := dk_182 1 159 (dk_at dksX0_mean_0 2 rfl rfl)
theorem dX0_mean_5 : decode cX0_mean 5 = .ok (.ifCond .eq 11, 3) := dk_153 0 11 (dk_at dksX0_mean_0 5 rfl rfl)
theorem dX0_mean_8 : decode cX0_mean 8 = .ok (.iload_n 2, 1) := dk_28 (dk_at dksX0_mean_0 8 rfl rfl)
theorem dX0_mean_9 : decode cX0_mean 9 = .ok (.iconst 2, 1) := dk_5 (dk_at dksX0_mean_0 9 rfl rfl)
theorem dX0_mean_10 : decode cX0_mean 10 = .ok (.invokestatic 144, 3) := dk_184 0 144 (dk_at dksX0_mean_0 10 rfl rfl)
theorem dX0_mean_13 : decode cX0_mean 13 = .ok (.ifCond .ne 7, 3) := dk_154 0 7 (dk_at dksX0_mean_0 13 rfl rfl)
theorem dX0_mean_16 : decode cX0_mean 16 = .ok (.ldc2_w 422, 3) := dk_20 1 166 (dk_at dksX0_mean_0 16 rfl rfl)
theorem dX0_mean_19 : decode cX0_mean 19 = .ok (.lreturn, 1) := dk_173 (dk_at dksX0_mean_0 19 rfl rfl)
theorem dX0_mean_20 : decode cX0_mean 20 = .ok (.aload_n 0, 1) := dk_42 (dk_at dksX0_mean_0 20 rfl rfl)
theorem dX0_mean_21 : decode cX0_mean 21 = .ok (.iconst 0, 1) := dk_3 (dk_at dksX0_mean_0 21 rfl rfl)
theorem dX0_mean_22 : decode cX0_mean 22 = .ok (.iload_n 1, 1) := dk_27 (dk_at dksX0_mean_0 22 rfl rfl)
theorem dX0_mean_23 : decode cX0_mean 23 = .ok (.iconst 0, 1) := dk_3 (dk_at dksX0_mean_0 23 rfl rfl)
theorem dX0_mean_24 : decode cX0_mean 24 = .ok (.invokevirtual 418, 3) := dk_182 1 162 (dk_at dksX0_mean_1 0 rfl rfl)
theorem dX0_mean_27 : decode cX0_mean 27 = .ok (.aload_n 0, 1) := dk_42 (dk_at dksX0_mean_1 3 rfl rfl)
theorem dX0_mean_28 : decode cX0_mean 28 = .ok (.getfield 407, 3) := dk_180 1 151 (dk_at dksX0_mean_1 4 rfl rfl)
theorem dX0_mean_31 : decode cX0_mean 31 = .ok (.aload_n 0, 1) := dk_42 (dk_at dksX0_mean_1 7 rfl rfl)
theorem dX0_mean_32 : decode cX0_mean 32 = .ok (.getfield 400, 3) := dk_180 1 144 (dk_at dksX0_mean_1 8 rfl rfl)
theorem dX0_mean_35 : decode cX0_mean 35 = .ok (.iload_n 2, 1) := dk_28 (dk_at dksX0_mean_1 11 rfl rfl)
theorem dX0_mean_36 : decode cX0_mean 36 = .ok (.invokestatic 390, 3) := dk_184 1 134 (dk_at dksX0_mean_1 12 rfl rfl)
theorem dX0_mean_39 : decode cX0_mean 39 = .ok (.lreturn, 1) := dk_173 (dk_at dksX0_mean_1 15 rfl rfl)
abbrev cX0_drawn : ByteArray := prog_1_method_117_code
def yX0_drawn : MethodName := ⟨RX0, "drawn", "(II)I"⟩
def dkwX0_drawn_2 : List UInt8 := [180, 0, 133, 182, 1, 39, 172]
abbrev dktX0_drawn_2 : List UInt8 := dkwX0_drawn_2 ++ []
def dkwX0_drawn_1 : List UInt8 := [172, 42, 27, 133, 182, 1, 181, 28, 154, 0, 10, 42, 180, 0, 202, 167, 0, 14, 42, 42, 180, 0, 10]
abbrev dktX0_drawn_1 : List UInt8 := dkwX0_drawn_1 ++ dktX0_drawn_2
def dkwX0_drawn_0 : List UInt8 := [42, 182, 0, 129, 153, 0, 18, 27, 184, 1, 178, 153, 0, 11, 28, 5, 184, 0, 144, 154, 0, 6, 16, 254]
abbrev dktX0_drawn_0 : List UInt8 := dkwX0_drawn_0 ++ dktX0_drawn_1
theorem dksX0_drawn_0 : cX0_drawn.data.toList.drop 0 = dktX0_drawn_0 := by decide +kernel
theorem dksX0_drawn_1 : cX0_drawn.data.toList.drop 24 = dktX0_drawn_1 := dk_seg dksX0_drawn_0 24 rfl rfl
theorem dksX0_drawn_2 : cX0_drawn.data.toList.drop 47 = dktX0_drawn_2 := dk_seg dksX0_drawn_1 23 rfl rfl
theorem dX0_drawn_0 : decode cX0_drawn 0 = .ok (.aload_n 0, 1) := dk_42 (dk_at dksX0_drawn_0 0 rfl rfl)
theorem dX0_drawn_1 : decode cX0_drawn 1 = .ok (.invokevirtual 129, 3) := dk_182 0 129 (dk_at dksX0_drawn_0 1 rfl rfl)
theorem dX0_drawn_4 : decode cX0_drawn 4 = .ok (.ifCond .eq 18, 3) := dk_153 0 18 (dk_at dksX0_drawn_0 4 rfl rfl)
theorem dX0_drawn_7 : decode cX0_drawn 7 = .ok (.iload_n 1, 1) := dk_27 (dk_at dksX0_drawn_0 7 rfl rfl)
theorem dX0_drawn_8 : decode cX0_drawn 8 = .ok (.invokestatic 434, 3) := dk_184 1 178 (dk_at dksX0_drawn_0 8 rfl rfl)
theorem dX0_drawn_11 : decode cX0_drawn 11 = .ok (.ifCond .eq 11, 3) := dk_153 0 11 (dk_at dksX0_drawn_0 11 rfl rfl)
theorem dX0_drawn_14 : decode cX0_drawn 14 = .ok (.iload_n 2, 1) := dk_28 (dk_at dksX0_drawn_0 14 rfl rfl)
theorem dX0_drawn_15 : decode cX0_drawn 15 = .ok (.iconst 2, 1) := dk_5 (dk_at dksX0_drawn_0 15 rfl rfl)
theorem dX0_drawn_16 : decode cX0_drawn 16 = .ok (.invokestatic 144, 3) := dk_184 0 144 (dk_at dksX0_drawn_0 16 rfl rfl)
theorem dX0_drawn_19 : decode cX0_drawn 19 = .ok (.ifCond .ne 6, 3) := dk_154 0 6 (dk_at dksX0_drawn_0 19 rfl rfl)
theorem dX0_drawn_22 : decode cX0_drawn 22 = .ok (.bipush (-2), 2) := dk_16 254 (dk_at dksX0_drawn_0 22 rfl rfl)
theorem dX0_drawn_24 : decode cX0_drawn 24 = .ok (.ireturn, 1) := dk_172 (dk_at dksX0_drawn_1 0 rfl rfl)
theorem dX0_drawn_25 : decode cX0_drawn 25 = .ok (.aload_n 0, 1) := dk_42 (dk_at dksX0_drawn_1 1 rfl rfl)
theorem dX0_drawn_26 : decode cX0_drawn 26 = .ok (.iload_n 1, 1) := dk_27 (dk_at dksX0_drawn_1 2 rfl rfl)
theorem dX0_drawn_27 : decode cX0_drawn 27 = .ok (.i2l, 1) := dk_133 (dk_at dksX0_drawn_1 3 rfl rfl)
theorem dX0_drawn_28 : decode cX0_drawn 28 = .ok (.invokevirtual 437, 3) := dk_182 1 181 (dk_at dksX0_drawn_1 4 rfl rfl)
theorem dX0_drawn_31 : decode cX0_drawn 31 = .ok (.iload_n 2, 1) := dk_28 (dk_at dksX0_drawn_1 7 rfl rfl)
theorem dX0_drawn_32 : decode cX0_drawn 32 = .ok (.ifCond .ne 10, 3) := dk_154 0 10 (dk_at dksX0_drawn_1 8 rfl rfl)
theorem dX0_drawn_35 : decode cX0_drawn 35 = .ok (.aload_n 0, 1) := dk_42 (dk_at dksX0_drawn_1 11 rfl rfl)
theorem dX0_drawn_36 : decode cX0_drawn 36 = .ok (.getfield 202, 3) := dk_180 0 202 (dk_at dksX0_drawn_1 12 rfl rfl)
theorem dX0_drawn_39 : decode cX0_drawn 39 = .ok (.goto 14, 3) := dk_167 0 14 (dk_at dksX0_drawn_1 15 rfl rfl)
theorem dX0_drawn_42 : decode cX0_drawn 42 = .ok (.aload_n 0, 1) := dk_42 (dk_at dksX0_drawn_1 18 rfl rfl)
theorem dX0_drawn_43 : decode cX0_drawn 43 = .ok (.aload_n 0, 1) := dk_42 (dk_at dksX0_drawn_1 19 rfl rfl)
theorem dX0_drawn_44 : decode cX0_drawn 44 = .ok (.getfield 10, 3) := dk_180 0 10 (dk_at dksX0_drawn_1 20 rfl rfl)
theorem dX0_drawn_47 : decode cX0_drawn 47 = .ok (.getfield 133, 3) := dk_180 0 133 (dk_at dksX0_drawn_2 0 rfl rfl)
theorem dX0_drawn_50 : decode cX0_drawn 50 = .ok (.invokevirtual 295, 3) := dk_182 1 39 (dk_at dksX0_drawn_2 3 rfl rfl)
theorem dX0_drawn_53 : decode cX0_drawn 53 = .ok (.ireturn, 1) := dk_172 (dk_at dksX0_drawn_2 6 rfl rfl)
abbrev cX0_isSeed : ByteArray := prog_1_method_16_code
def yX0_isSeed : MethodName := ⟨RX0, "isSeed", "(I)Z"⟩
def dkwX0_isSeed_0 : List UInt8 := [26, 133, 9, 20, 0, 138, 184, 0, 95, 172]
abbrev dktX0_isSeed_0 : List UInt8 := dkwX0_isSeed_0 ++ []
theorem dksX0_isSeed_0 : cX0_isSeed.data.toList.drop 0 = dktX0_isSeed_0 := by decide +kernel
theorem dX0_isSeed_0 : decode cX0_isSeed 0 = .ok (.iload_n 0, 1) := dk_26 (dk_at dksX0_isSeed_0 0 rfl rfl)
theorem dX0_isSeed_1 : decode cX0_isSeed 1 = .ok (.i2l, 1) := dk_133 (dk_at dksX0_isSeed_0 1 rfl rfl)
theorem dX0_isSeed_2 : decode cX0_isSeed 2 = .ok (.lconst 0, 1) := dk_9 (dk_at dksX0_isSeed_0 2 rfl rfl)
theorem dX0_isSeed_3 : decode cX0_isSeed 3 = .ok (.ldc2_w 138, 3) := dk_20 0 138 (dk_at dksX0_isSeed_0 3 rfl rfl)
theorem dX0_isSeed_6 : decode cX0_isSeed 6 = .ok (.invokestatic 95, 3) := dk_184 0 95 (dk_at dksX0_isSeed_0 6 rfl rfl)
theorem dX0_isSeed_9 : decode cX0_isSeed 9 = .ok (.ireturn, 1) := dk_172 (dk_at dksX0_isSeed_0 9 rfl rfl)
abbrev cX0_draws : ByteArray := prog_1_method_116_code
def yX0_draws : MethodName := ⟨RX0, "draws", "(J)V"⟩
def dkwX0_draws_3 : List UInt8 := [181, 0, 202, 132, 5, 1, 167, 255, 189, 42, 182, 1, 15, 177]
abbrev dktX0_draws_3 : List UInt8 := dkwX0_draws_3 ++ []
def dkwX0_draws_2 : List UInt8 := [113, 42, 180, 0, 10, 180, 1, 154, 133, 148, 156, 0, 10, 4, 21, 5, 120, 167, 0, 4, 3, 128]
abbrev dktX0_draws_2 : List UInt8 := dkwX0_draws_2 ++ dktX0_draws_3
def dkwX0_draws_1 : List UInt8 := [33, 105, 20, 1, 170, 97, 20, 1, 172, 113, 66, 42, 89, 180, 0, 202, 33, 20, 1, 174, 109, 20, 1, 176]
abbrev dktX0_draws_1 : List UInt8 := dkwX0_draws_1 ++ dktX0_draws_2
def dkwX0_draws_0 : List UInt8 := [42, 182, 1, 12, 31, 66, 3, 54, 5, 21, 5, 42, 180, 0, 10, 180, 0, 133, 162, 0, 61, 20, 1, 168]
abbrev dktX0_draws_0 : List UInt8 := dkwX0_draws_0 ++ dktX0_draws_1
theorem dksX0_draws_0 : cX0_draws.data.toList.drop 0 = dktX0_draws_0 := by decide +kernel
theorem dksX0_draws_1 : cX0_draws.data.toList.drop 24 = dktX0_draws_1 := dk_seg dksX0_draws_0 24 rfl rfl
theorem dksX0_draws_2 : cX0_draws.data.toList.drop 48 = dktX0_draws_2 := dk_seg dksX0_draws_1 24 rfl rfl
theorem dksX0_draws_3 : cX0_draws.data.toList.drop 70 = dktX0_draws_3 := dk_seg dksX0_draws_2 22 rfl rfl
theorem dX0_draws_0 : decode cX0_draws 0 = .ok (.aload_n 0, 1) := dk_42 (dk_at dksX0_draws_0 0 rfl rfl)
theorem dX0_draws_1 : decode cX0_draws 1 = .ok (.invokevirtual 268, 3) := dk_182 1 12 (dk_at dksX0_draws_0 1 rfl rfl)
theorem dX0_draws_4 : decode cX0_draws 4 = .ok (.lload_n 1, 1) := dk_31 (dk_at dksX0_draws_0 4 rfl rfl)
theorem dX0_draws_5 : decode cX0_draws 5 = .ok (.lstore_n 3, 1) := dk_66 (dk_at dksX0_draws_0 5 rfl rfl)
theorem dX0_draws_6 : decode cX0_draws 6 = .ok (.iconst 0, 1) := dk_3 (dk_at dksX0_draws_0 6 rfl rfl)
theorem dX0_draws_7 : decode cX0_draws 7 = .ok (.istore 5, 2) := dk_54 5 (dk_at dksX0_draws_0 7 rfl rfl)
theorem dX0_draws_9 : decode cX0_draws 9 = .ok (.iload 5, 2) := dk_21 5 (dk_at dksX0_draws_0 9 rfl rfl)
theorem dX0_draws_11 : decode cX0_draws 11 = .ok (.aload_n 0, 1) := dk_42 (dk_at dksX0_draws_0 11 rfl rfl)
theorem dX0_draws_12 : decode cX0_draws 12 = .ok (.getfield 10, 3) := dk_180 0 10 (dk_at dksX0_draws_0 12 rfl rfl)
theorem dX0_draws_15 : decode cX0_draws 15 = .ok (.getfield 133, 3) := dk_180 0 133 (dk_at dksX0_draws_0 15 rfl rfl)
theorem dX0_draws_18 : decode cX0_draws 18 = .ok (.if_icmp .ge 61, 3) := dk_162 0 61 (dk_at dksX0_draws_0 18 rfl rfl)
theorem dX0_draws_21 : decode cX0_draws 21 = .ok (.ldc2_w 424, 3) := dk_20 1 168 (dk_at dksX0_draws_0 21 rfl rfl)
theorem dX0_draws_24 : decode cX0_draws 24 = .ok (.lload_n 3, 1) := dk_33 (dk_at dksX0_draws_1 0 rfl rfl)
theorem dX0_draws_25 : decode cX0_draws 25 = .ok (.lmul, 1) := dk_105 (dk_at dksX0_draws_1 1 rfl rfl)
theorem dX0_draws_26 : decode cX0_draws 26 = .ok (.ldc2_w 426, 3) := dk_20 1 170 (dk_at dksX0_draws_1 2 rfl rfl)
theorem dX0_draws_29 : decode cX0_draws 29 = .ok (.ladd, 1) := dk_97 (dk_at dksX0_draws_1 5 rfl rfl)
theorem dX0_draws_30 : decode cX0_draws 30 = .ok (.ldc2_w 428, 3) := dk_20 1 172 (dk_at dksX0_draws_1 6 rfl rfl)
theorem dX0_draws_33 : decode cX0_draws 33 = .ok (.lrem, 1) := dk_113 (dk_at dksX0_draws_1 9 rfl rfl)
theorem dX0_draws_34 : decode cX0_draws 34 = .ok (.lstore_n 3, 1) := dk_66 (dk_at dksX0_draws_1 10 rfl rfl)
theorem dX0_draws_35 : decode cX0_draws 35 = .ok (.aload_n 0, 1) := dk_42 (dk_at dksX0_draws_1 11 rfl rfl)
theorem dX0_draws_36 : decode cX0_draws 36 = .ok (.dup, 1) := dk_89 (dk_at dksX0_draws_1 12 rfl rfl)
theorem dX0_draws_37 : decode cX0_draws 37 = .ok (.getfield 202, 3) := dk_180 0 202 (dk_at dksX0_draws_1 13 rfl rfl)
theorem dX0_draws_40 : decode cX0_draws 40 = .ok (.lload_n 3, 1) := dk_33 (dk_at dksX0_draws_1 16 rfl rfl)
theorem dX0_draws_41 : decode cX0_draws 41 = .ok (.ldc2_w 430, 3) := dk_20 1 174 (dk_at dksX0_draws_1 17 rfl rfl)
theorem dX0_draws_44 : decode cX0_draws 44 = .ok (.ldiv, 1) := dk_109 (dk_at dksX0_draws_1 20 rfl rfl)
theorem dX0_draws_45 : decode cX0_draws 45 = .ok (.ldc2_w 432, 3) := dk_20 1 176 (dk_at dksX0_draws_1 21 rfl rfl)
theorem dX0_draws_48 : decode cX0_draws 48 = .ok (.lrem, 1) := dk_113 (dk_at dksX0_draws_2 0 rfl rfl)
theorem dX0_draws_49 : decode cX0_draws 49 = .ok (.aload_n 0, 1) := dk_42 (dk_at dksX0_draws_2 1 rfl rfl)
theorem dX0_draws_50 : decode cX0_draws 50 = .ok (.getfield 10, 3) := dk_180 0 10 (dk_at dksX0_draws_2 2 rfl rfl)
theorem dX0_draws_53 : decode cX0_draws 53 = .ok (.getfield 410, 3) := dk_180 1 154 (dk_at dksX0_draws_2 5 rfl rfl)
theorem dX0_draws_56 : decode cX0_draws 56 = .ok (.i2l, 1) := dk_133 (dk_at dksX0_draws_2 8 rfl rfl)
theorem dX0_draws_57 : decode cX0_draws 57 = .ok (.lcmp, 1) := dk_148 (dk_at dksX0_draws_2 9 rfl rfl)
theorem dX0_draws_58 : decode cX0_draws 58 = .ok (.ifCond .ge 10, 3) := dk_156 0 10 (dk_at dksX0_draws_2 10 rfl rfl)
theorem dX0_draws_61 : decode cX0_draws 61 = .ok (.iconst 1, 1) := dk_4 (dk_at dksX0_draws_2 13 rfl rfl)
theorem dX0_draws_62 : decode cX0_draws 62 = .ok (.iload 5, 2) := dk_21 5 (dk_at dksX0_draws_2 14 rfl rfl)
theorem dX0_draws_64 : decode cX0_draws 64 = .ok (.ishl, 1) := dk_120 (dk_at dksX0_draws_2 16 rfl rfl)
theorem dX0_draws_65 : decode cX0_draws 65 = .ok (.goto 4, 3) := dk_167 0 4 (dk_at dksX0_draws_2 17 rfl rfl)
theorem dX0_draws_68 : decode cX0_draws 68 = .ok (.iconst 0, 1) := dk_3 (dk_at dksX0_draws_2 20 rfl rfl)
theorem dX0_draws_69 : decode cX0_draws 69 = .ok (.ior, 1) := dk_128 (dk_at dksX0_draws_2 21 rfl rfl)
theorem dX0_draws_70 : decode cX0_draws 70 = .ok (.putfield 202, 3) := dk_181 0 202 (dk_at dksX0_draws_3 0 rfl rfl)
theorem dX0_draws_73 : decode cX0_draws 73 = .ok (.iinc 5 1, 3) := dk_132 5 1 (dk_at dksX0_draws_3 3 rfl rfl)
theorem dX0_draws_76 : decode cX0_draws 76 = .ok (.goto (-67), 3) := dk_167 255 189 (dk_at dksX0_draws_3 6 rfl rfl)
theorem dX0_draws_79 : decode cX0_draws 79 = .ok (.aload_n 0, 1) := dk_42 (dk_at dksX0_draws_3 9 rfl rfl)
theorem dX0_draws_80 : decode cX0_draws 80 = .ok (.invokevirtual 271, 3) := dk_182 1 15 (dk_at dksX0_draws_3 10 rfl rfl)
theorem dX0_draws_83 : decode cX0_draws 83 = .ok (.return_, 1) := dk_177 (dk_at dksX0_draws_3 13 rfl rfl)
abbrev cX0_luck : ByteArray := prog_1_method_118_code
def yX0_luck : MethodName := ⟨RX0, "luck", "(III)I"⟩
def dkwX0_luck_3 : List UInt8 := [54, 4, 132, 5, 1, 167, 255, 218, 21, 4, 172]
abbrev dktX0_luck_3 : List UInt8 := dkwX0_luck_3 ++ []
def dkwX0_luck_2 : List UInt8 := [21, 5, 133, 97, 182, 1, 181, 21, 4, 42, 29, 182, 1, 66, 8, 161, 0, 7, 4, 167, 0, 4, 3, 96]
abbrev dktX0_luck_2 : List UInt8 := dkwX0_luck_2 ++ dktX0_luck_3
def dkwX0_luck_1 : List UInt8 := [182, 0, 163, 154, 0, 6, 16, 254, 172, 3, 54, 4, 3, 54, 5, 21, 5, 28, 162, 0, 38, 42, 27, 133]
abbrev dktX0_luck_1 : List UInt8 := dkwX0_luck_1 ++ dktX0_luck_2
def dkwX0_luck_0 : List UInt8 := [27, 184, 1, 178, 153, 0, 24, 28, 133, 10, 20, 1, 64, 184, 0, 95, 153, 0, 12, 42, 29, 133]
abbrev dktX0_luck_0 : List UInt8 := dkwX0_luck_0 ++ dktX0_luck_1
theorem dksX0_luck_0 : cX0_luck.data.toList.drop 0 = dktX0_luck_0 := by decide +kernel
theorem dksX0_luck_1 : cX0_luck.data.toList.drop 22 = dktX0_luck_1 := dk_seg dksX0_luck_0 22 rfl rfl
theorem dksX0_luck_2 : cX0_luck.data.toList.drop 46 = dktX0_luck_2 := dk_seg dksX0_luck_1 24 rfl rfl
theorem dksX0_luck_3 : cX0_luck.data.toList.drop 70 = dktX0_luck_3 := dk_seg dksX0_luck_2 24 rfl rfl
theorem dX0_luck_0 : decode cX0_luck 0 = .ok (.iload_n 1, 1) := dk_27 (dk_at dksX0_luck_0 0 rfl rfl)
theorem dX0_luck_1 : decode cX0_luck 1 = .ok (.invokestatic 434, 3) := dk_184 1 178 (dk_at dksX0_luck_0 1 rfl rfl)
theorem dX0_luck_4 : decode cX0_luck 4 = .ok (.ifCond .eq 24, 3) := dk_153 0 24 (dk_at dksX0_luck_0 4 rfl rfl)
theorem dX0_luck_7 : decode cX0_luck 7 = .ok (.iload_n 2, 1) := dk_28 (dk_at dksX0_luck_0 7 rfl rfl)
theorem dX0_luck_8 : decode cX0_luck 8 = .ok (.i2l, 1) := dk_133 (dk_at dksX0_luck_0 8 rfl rfl)
theorem dX0_luck_9 : decode cX0_luck 9 = .ok (.lconst 1, 1) := dk_10 (dk_at dksX0_luck_0 9 rfl rfl)
theorem dX0_luck_10 : decode cX0_luck 10 = .ok (.ldc2_w 320, 3) := dk_20 1 64 (dk_at dksX0_luck_0 10 rfl rfl)
theorem dX0_luck_13 : decode cX0_luck 13 = .ok (.invokestatic 95, 3) := dk_184 0 95 (dk_at dksX0_luck_0 13 rfl rfl)
theorem dX0_luck_16 : decode cX0_luck 16 = .ok (.ifCond .eq 12, 3) := dk_153 0 12 (dk_at dksX0_luck_0 16 rfl rfl)
theorem dX0_luck_19 : decode cX0_luck 19 = .ok (.aload_n 0, 1) := dk_42 (dk_at dksX0_luck_0 19 rfl rfl)
theorem dX0_luck_20 : decode cX0_luck 20 = .ok (.iload_n 3, 1) := dk_29 (dk_at dksX0_luck_0 20 rfl rfl)
theorem dX0_luck_21 : decode cX0_luck 21 = .ok (.i2l, 1) := dk_133 (dk_at dksX0_luck_0 21 rfl rfl)
theorem dX0_luck_22 : decode cX0_luck 22 = .ok (.invokevirtual 163, 3) := dk_182 0 163 (dk_at dksX0_luck_1 0 rfl rfl)
theorem dX0_luck_25 : decode cX0_luck 25 = .ok (.ifCond .ne 6, 3) := dk_154 0 6 (dk_at dksX0_luck_1 3 rfl rfl)
theorem dX0_luck_28 : decode cX0_luck 28 = .ok (.bipush (-2), 2) := dk_16 254 (dk_at dksX0_luck_1 6 rfl rfl)
theorem dX0_luck_30 : decode cX0_luck 30 = .ok (.ireturn, 1) := dk_172 (dk_at dksX0_luck_1 8 rfl rfl)
theorem dX0_luck_31 : decode cX0_luck 31 = .ok (.iconst 0, 1) := dk_3 (dk_at dksX0_luck_1 9 rfl rfl)
theorem dX0_luck_32 : decode cX0_luck 32 = .ok (.istore 4, 2) := dk_54 4 (dk_at dksX0_luck_1 10 rfl rfl)
theorem dX0_luck_34 : decode cX0_luck 34 = .ok (.iconst 0, 1) := dk_3 (dk_at dksX0_luck_1 12 rfl rfl)
theorem dX0_luck_35 : decode cX0_luck 35 = .ok (.istore 5, 2) := dk_54 5 (dk_at dksX0_luck_1 13 rfl rfl)
theorem dX0_luck_37 : decode cX0_luck 37 = .ok (.iload 5, 2) := dk_21 5 (dk_at dksX0_luck_1 15 rfl rfl)
theorem dX0_luck_39 : decode cX0_luck 39 = .ok (.iload_n 2, 1) := dk_28 (dk_at dksX0_luck_1 17 rfl rfl)
theorem dX0_luck_40 : decode cX0_luck 40 = .ok (.if_icmp .ge 38, 3) := dk_162 0 38 (dk_at dksX0_luck_1 18 rfl rfl)
theorem dX0_luck_43 : decode cX0_luck 43 = .ok (.aload_n 0, 1) := dk_42 (dk_at dksX0_luck_1 21 rfl rfl)
theorem dX0_luck_44 : decode cX0_luck 44 = .ok (.iload_n 1, 1) := dk_27 (dk_at dksX0_luck_1 22 rfl rfl)
theorem dX0_luck_45 : decode cX0_luck 45 = .ok (.i2l, 1) := dk_133 (dk_at dksX0_luck_1 23 rfl rfl)
theorem dX0_luck_46 : decode cX0_luck 46 = .ok (.iload 5, 2) := dk_21 5 (dk_at dksX0_luck_2 0 rfl rfl)
theorem dX0_luck_48 : decode cX0_luck 48 = .ok (.i2l, 1) := dk_133 (dk_at dksX0_luck_2 2 rfl rfl)
theorem dX0_luck_49 : decode cX0_luck 49 = .ok (.ladd, 1) := dk_97 (dk_at dksX0_luck_2 3 rfl rfl)
theorem dX0_luck_50 : decode cX0_luck 50 = .ok (.invokevirtual 437, 3) := dk_182 1 181 (dk_at dksX0_luck_2 4 rfl rfl)
theorem dX0_luck_53 : decode cX0_luck 53 = .ok (.iload 4, 2) := dk_21 4 (dk_at dksX0_luck_2 7 rfl rfl)
theorem dX0_luck_55 : decode cX0_luck 55 = .ok (.aload_n 0, 1) := dk_42 (dk_at dksX0_luck_2 9 rfl rfl)
theorem dX0_luck_56 : decode cX0_luck 56 = .ok (.iload_n 3, 1) := dk_29 (dk_at dksX0_luck_2 10 rfl rfl)
theorem dX0_luck_57 : decode cX0_luck 57 = .ok (.invokevirtual 322, 3) := dk_182 1 66 (dk_at dksX0_luck_2 11 rfl rfl)
theorem dX0_luck_60 : decode cX0_luck 60 = .ok (.iconst 5, 1) := dk_8 (dk_at dksX0_luck_2 14 rfl rfl)
theorem dX0_luck_61 : decode cX0_luck 61 = .ok (.if_icmp .lt 7, 3) := dk_161 0 7 (dk_at dksX0_luck_2 15 rfl rfl)
theorem dX0_luck_64 : decode cX0_luck 64 = .ok (.iconst 1, 1) := dk_4 (dk_at dksX0_luck_2 18 rfl rfl)
theorem dX0_luck_65 : decode cX0_luck 65 = .ok (.goto 4, 3) := dk_167 0 4 (dk_at dksX0_luck_2 19 rfl rfl)
theorem dX0_luck_68 : decode cX0_luck 68 = .ok (.iconst 0, 1) := dk_3 (dk_at dksX0_luck_2 22 rfl rfl)
theorem dX0_luck_69 : decode cX0_luck 69 = .ok (.iadd, 1) := dk_96 (dk_at dksX0_luck_2 23 rfl rfl)
theorem dX0_luck_70 : decode cX0_luck 70 = .ok (.istore 4, 2) := dk_54 4 (dk_at dksX0_luck_3 0 rfl rfl)
theorem dX0_luck_72 : decode cX0_luck 72 = .ok (.iinc 5 1, 3) := dk_132 5 1 (dk_at dksX0_luck_3 2 rfl rfl)
theorem dX0_luck_75 : decode cX0_luck 75 = .ok (.goto (-38), 3) := dk_167 255 218 (dk_at dksX0_luck_3 5 rfl rfl)
theorem dX0_luck_78 : decode cX0_luck 78 = .ok (.iload 4, 2) := dk_21 4 (dk_at dksX0_luck_3 8 rfl rfl)
theorem dX0_luck_80 : decode cX0_luck 80 = .ok (.ireturn, 1) := dk_172 (dk_at dksX0_luck_3 10 rfl rfl)
abbrev cX0_retraces : ByteArray := prog_1_method_120_code
def yX0_retraces : MethodName := ⟨RX0, "retraces", "(III)I"⟩
def dkwX0_retraces_2 : List UInt8 := [153, 0, 11, 42, 27, 182, 1, 66, 167, 0, 5, 16, 251, 172]
abbrev dktX0_retraces_2 : List UInt8 := dkwX0_retraces_2 ++ []
def dkwX0_retraces_1 : List UInt8 := [154, 0, 6, 16, 254, 172, 42, 18, 246, 28, 4, 96, 104, 17, 3, 232, 27, 104, 96, 29, 96, 182, 1, 185]
abbrev dktX0_retraces_1 : List UInt8 := dkwX0_retraces_1 ++ dktX0_retraces_2
def dkwX0_retraces_0 : List UInt8 := [42, 27, 133, 182, 0, 163, 153, 0, 20, 42, 28, 182, 0, 140, 153, 0, 12, 42, 29, 133, 182, 1, 21]
abbrev dktX0_retraces_0 : List UInt8 := dkwX0_retraces_0 ++ dktX0_retraces_1
theorem dksX0_retraces_0 : cX0_retraces.data.toList.drop 0 = dktX0_retraces_0 := by decide +kernel
theorem dksX0_retraces_1 : cX0_retraces.data.toList.drop 23 = dktX0_retraces_1 := dk_seg dksX0_retraces_0 23 rfl rfl
theorem dksX0_retraces_2 : cX0_retraces.data.toList.drop 47 = dktX0_retraces_2 := dk_seg dksX0_retraces_1 24 rfl rfl
theorem dX0_retraces_0 : decode cX0_retraces 0 = .ok (.aload_n 0, 1) := dk_42 (dk_at dksX0_retraces_0 0 rfl rfl)
theorem dX0_retraces_1 : decode cX0_retraces 1 = .ok (.iload_n 1, 1) := dk_27 (dk_at dksX0_retraces_0 1 rfl rfl)
theorem dX0_retraces_2 : decode cX0_retraces 2 = .ok (.i2l, 1) := dk_133 (dk_at dksX0_retraces_0 2 rfl rfl)
theorem dX0_retraces_3 : decode cX0_retraces 3 = .ok (.invokevirtual 163, 3) := dk_182 0 163 (dk_at dksX0_retraces_0 3 rfl rfl)
theorem dX0_retraces_6 : decode cX0_retraces 6 = .ok (.ifCond .eq 20, 3) := dk_153 0 20 (dk_at dksX0_retraces_0 6 rfl rfl)
theorem dX0_retraces_9 : decode cX0_retraces 9 = .ok (.aload_n 0, 1) := dk_42 (dk_at dksX0_retraces_0 9 rfl rfl)
theorem dX0_retraces_10 : decode cX0_retraces 10 = .ok (.iload_n 2, 1) := dk_28 (dk_at dksX0_retraces_0 10 rfl rfl)
theorem dX0_retraces_11 : decode cX0_retraces 11 = .ok (.invokevirtual 140, 3) := dk_182 0 140 (dk_at dksX0_retraces_0 11 rfl rfl)
theorem dX0_retraces_14 : decode cX0_retraces 14 = .ok (.ifCond .eq 12, 3) := dk_153 0 12 (dk_at dksX0_retraces_0 14 rfl rfl)
theorem dX0_retraces_17 : decode cX0_retraces 17 = .ok (.aload_n 0, 1) := dk_42 (dk_at dksX0_retraces_0 17 rfl rfl)
theorem dX0_retraces_18 : decode cX0_retraces 18 = .ok (.iload_n 3, 1) := dk_29 (dk_at dksX0_retraces_0 18 rfl rfl)
theorem dX0_retraces_19 : decode cX0_retraces 19 = .ok (.i2l, 1) := dk_133 (dk_at dksX0_retraces_0 19 rfl rfl)
theorem dX0_retraces_20 : decode cX0_retraces 20 = .ok (.invokevirtual 277, 3) := dk_182 1 21 (dk_at dksX0_retraces_0 20 rfl rfl)
theorem dX0_retraces_23 : decode cX0_retraces 23 = .ok (.ifCond .ne 6, 3) := dk_154 0 6 (dk_at dksX0_retraces_1 0 rfl rfl)
theorem dX0_retraces_26 : decode cX0_retraces 26 = .ok (.bipush (-2), 2) := dk_16 254 (dk_at dksX0_retraces_1 3 rfl rfl)
theorem dX0_retraces_28 : decode cX0_retraces 28 = .ok (.ireturn, 1) := dk_172 (dk_at dksX0_retraces_1 5 rfl rfl)
theorem dX0_retraces_29 : decode cX0_retraces 29 = .ok (.aload_n 0, 1) := dk_42 (dk_at dksX0_retraces_1 6 rfl rfl)
theorem dX0_retraces_30 : decode cX0_retraces 30 = .ok (.ldc 246, 2) := dk_18 246 (dk_at dksX0_retraces_1 7 rfl rfl)
theorem dX0_retraces_32 : decode cX0_retraces 32 = .ok (.iload_n 2, 1) := dk_28 (dk_at dksX0_retraces_1 9 rfl rfl)
theorem dX0_retraces_33 : decode cX0_retraces 33 = .ok (.iconst 1, 1) := dk_4 (dk_at dksX0_retraces_1 10 rfl rfl)
theorem dX0_retraces_34 : decode cX0_retraces 34 = .ok (.iadd, 1) := dk_96 (dk_at dksX0_retraces_1 11 rfl rfl)
theorem dX0_retraces_35 : decode cX0_retraces 35 = .ok (.imul, 1) := dk_104 (dk_at dksX0_retraces_1 12 rfl rfl)
theorem dX0_retraces_36 : decode cX0_retraces 36 = .ok (.sipush 1000, 3) := dk_17 3 232 (dk_at dksX0_retraces_1 13 rfl rfl)
theorem dX0_retraces_39 : decode cX0_retraces 39 = .ok (.iload_n 1, 1) := dk_27 (dk_at dksX0_retraces_1 16 rfl rfl)
theorem dX0_retraces_40 : decode cX0_retraces 40 = .ok (.imul, 1) := dk_104 (dk_at dksX0_retraces_1 17 rfl rfl)
theorem dX0_retraces_41 : decode cX0_retraces 41 = .ok (.iadd, 1) := dk_96 (dk_at dksX0_retraces_1 18 rfl rfl)
theorem dX0_retraces_42 : decode cX0_retraces 42 = .ok (.iload_n 3, 1) := dk_29 (dk_at dksX0_retraces_1 19 rfl rfl)
theorem dX0_retraces_43 : decode cX0_retraces 43 = .ok (.iadd, 1) := dk_96 (dk_at dksX0_retraces_1 20 rfl rfl)
theorem dX0_retraces_44 : decode cX0_retraces 44 = .ok (.invokevirtual 441, 3) := dk_182 1 185 (dk_at dksX0_retraces_1 21 rfl rfl)
theorem dX0_retraces_47 : decode cX0_retraces 47 = .ok (.ifCond .eq 11, 3) := dk_153 0 11 (dk_at dksX0_retraces_2 0 rfl rfl)
theorem dX0_retraces_50 : decode cX0_retraces 50 = .ok (.aload_n 0, 1) := dk_42 (dk_at dksX0_retraces_2 3 rfl rfl)
theorem dX0_retraces_51 : decode cX0_retraces 51 = .ok (.iload_n 1, 1) := dk_27 (dk_at dksX0_retraces_2 4 rfl rfl)
theorem dX0_retraces_52 : decode cX0_retraces 52 = .ok (.invokevirtual 322, 3) := dk_182 1 66 (dk_at dksX0_retraces_2 5 rfl rfl)
theorem dX0_retraces_55 : decode cX0_retraces 55 = .ok (.goto 5, 3) := dk_167 0 5 (dk_at dksX0_retraces_2 8 rfl rfl)
theorem dX0_retraces_58 : decode cX0_retraces 58 = .ok (.bipush (-5), 2) := dk_16 251 (dk_at dksX0_retraces_2 11 rfl rfl)
theorem dX0_retraces_60 : decode cX0_retraces 60 = .ok (.ireturn, 1) := dk_172 (dk_at dksX0_retraces_2 13 rfl rfl)
abbrev cX0_isKept : ByteArray := prog_1_method_119_code
def yX0_isKept : MethodName := ⟨RX0, "isKept", "(I)Z"⟩
def dkwX0_isKept_2 : List UInt8 := [182, 1, 18, 87, 4, 172]
abbrev dktX0_isKept_2 : List UInt8 := dkwX0_isKept_2 ++ []
def dkwX0_isKept_1 : List UInt8 := [180, 0, 10, 180, 0, 237, 27, 79, 42, 180, 0, 10, 89, 180, 0, 237, 4, 96, 181, 0, 237, 42]
abbrev dktX0_isKept_1 : List UInt8 := dkwX0_isKept_1 ++ dktX0_isKept_2
def dkwX0_isKept_0 : List UInt8 := [42, 180, 0, 10, 180, 0, 237, 16, 30, 160, 0, 5, 3, 172, 42, 180, 0, 10, 180, 0, 240, 42]
abbrev dktX0_isKept_0 : List UInt8 := dkwX0_isKept_0 ++ dktX0_isKept_1
theorem dksX0_isKept_0 : cX0_isKept.data.toList.drop 0 = dktX0_isKept_0 := by decide +kernel
theorem dksX0_isKept_1 : cX0_isKept.data.toList.drop 22 = dktX0_isKept_1 := dk_seg dksX0_isKept_0 22 rfl rfl
theorem dksX0_isKept_2 : cX0_isKept.data.toList.drop 44 = dktX0_isKept_2 := dk_seg dksX0_isKept_1 22 rfl rfl
theorem dX0_isKept_0 : decode cX0_isKept 0 = .ok (.aload_n 0, 1) := dk_42 (dk_at dksX0_isKept_0 0 rfl rfl)
theorem dX0_isKept_1 : decode cX0_isKept 1 = .ok (.getfield 10, 3) := dk_180 0 10 (dk_at dksX0_isKept_0 1 rfl rfl)
theorem dX0_isKept_4 : decode cX0_isKept 4 = .ok (.getfield 237, 3) := dk_180 0 237 (dk_at dksX0_isKept_0 4 rfl rfl)
theorem dX0_isKept_7 : decode cX0_isKept 7 = .ok (.bipush 30, 2) := dk_16 30 (dk_at dksX0_isKept_0 7 rfl rfl)
theorem dX0_isKept_9 : decode cX0_isKept 9 = .ok (.if_icmp .ne 5, 3) := dk_160 0 5 (dk_at dksX0_isKept_0 9 rfl rfl)
theorem dX0_isKept_12 : decode cX0_isKept 12 = .ok (.iconst 0, 1) := dk_3 (dk_at dksX0_isKept_0 12 rfl rfl)
theorem dX0_isKept_13 : decode cX0_isKept 13 = .ok (.ireturn, 1) := dk_172 (dk_at dksX0_isKept_0 13 rfl rfl)
theorem dX0_isKept_14 : decode cX0_isKept 14 = .ok (.aload_n 0, 1) := dk_42 (dk_at dksX0_isKept_0 14 rfl rfl)
theorem dX0_isKept_15 : decode cX0_isKept 15 = .ok (.getfield 10, 3) := dk_180 0 10 (dk_at dksX0_isKept_0 15 rfl rfl)
theorem dX0_isKept_18 : decode cX0_isKept 18 = .ok (.getfield 240, 3) := dk_180 0 240 (dk_at dksX0_isKept_0 18 rfl rfl)
theorem dX0_isKept_21 : decode cX0_isKept 21 = .ok (.aload_n 0, 1) := dk_42 (dk_at dksX0_isKept_0 21 rfl rfl)
theorem dX0_isKept_22 : decode cX0_isKept 22 = .ok (.getfield 10, 3) := dk_180 0 10 (dk_at dksX0_isKept_1 0 rfl rfl)
theorem dX0_isKept_25 : decode cX0_isKept 25 = .ok (.getfield 237, 3) := dk_180 0 237 (dk_at dksX0_isKept_1 3 rfl rfl)
theorem dX0_isKept_28 : decode cX0_isKept 28 = .ok (.iload_n 1, 1) := dk_27 (dk_at dksX0_isKept_1 6 rfl rfl)
theorem dX0_isKept_29 : decode cX0_isKept 29 = .ok (.iastore, 1) := dk_79 (dk_at dksX0_isKept_1 7 rfl rfl)
theorem dX0_isKept_30 : decode cX0_isKept 30 = .ok (.aload_n 0, 1) := dk_42 (dk_at dksX0_isKept_1 8 rfl rfl)
theorem dX0_isKept_31 : decode cX0_isKept 31 = .ok (.getfield 10, 3) := dk_180 0 10 (dk_at dksX0_isKept_1 9 rfl rfl)
theorem dX0_isKept_34 : decode cX0_isKept 34 = .ok (.dup, 1) := dk_89 (dk_at dksX0_isKept_1 12 rfl rfl)
theorem dX0_isKept_35 : decode cX0_isKept 35 = .ok (.getfield 237, 3) := dk_180 0 237 (dk_at dksX0_isKept_1 13 rfl rfl)
theorem dX0_isKept_38 : decode cX0_isKept 38 = .ok (.iconst 1, 1) := dk_4 (dk_at dksX0_isKept_1 16 rfl rfl)
theorem dX0_isKept_39 : decode cX0_isKept 39 = .ok (.iadd, 1) := dk_96 (dk_at dksX0_isKept_1 17 rfl rfl)
theorem dX0_isKept_40 : decode cX0_isKept 40 = .ok (.putfield 237, 3) := dk_181 0 237 (dk_at dksX0_isKept_1 18 rfl rfl)
theorem dX0_isKept_43 : decode cX0_isKept 43 = .ok (.aload_n 0, 1) := dk_42 (dk_at dksX0_isKept_1 21 rfl rfl)
theorem dX0_isKept_44 : decode cX0_isKept 44 = .ok (.invokevirtual 274, 3) := dk_182 1 18 (dk_at dksX0_isKept_2 0 rfl rfl)
theorem dX0_isKept_47 : decode cX0_isKept 47 = .ok (.pop, 1) := dk_87 (dk_at dksX0_isKept_2 3 rfl rfl)
theorem dX0_isKept_48 : decode cX0_isKept 48 = .ok (.iconst 1, 1) := dk_4 (dk_at dksX0_isKept_2 4 rfl rfl)
theorem dX0_isKept_49 : decode cX0_isKept 49 = .ok (.ireturn, 1) := dk_172 (dk_at dksX0_isKept_2 5 rfl rfl)
abbrev cX0_bleaches : ByteArray := prog_1_method_121_code
def yX0_bleaches : MethodName := ⟨RX0, "bleaches", "(II)I"⟩
def dkwX0_bleaches_1 : List UInt8 := [17, 3, 232, 27, 104, 28, 96, 182, 1, 185, 153, 0, 11, 42, 27, 182, 1, 66, 167, 0, 5, 16, 251, 172]
abbrev dktX0_bleaches_1 : List UInt8 := dkwX0_bleaches_1 ++ []
def dkwX0_bleaches_0 : List UInt8 := [42, 27, 133, 182, 0, 163, 153, 0, 12, 42, 28, 133, 182, 1, 21, 154, 0, 6, 16, 254, 172, 42]
abbrev dktX0_bleaches_0 : List UInt8 := dkwX0_bleaches_0 ++ dktX0_bleaches_1
theorem dksX0_bleaches_0 : cX0_bleaches.data.toList.drop 0 = dktX0_bleaches_0 := by decide +kernel
theorem dksX0_bleaches_1 : cX0_bleaches.data.toList.drop 22 = dktX0_bleaches_1 := dk_seg dksX0_bleaches_0 22 rfl rfl
theorem dX0_bleaches_0 : decode cX0_bleaches 0 = .ok (.aload_n 0, 1) := dk_42 (dk_at dksX0_bleaches_0 0 rfl rfl)
theorem dX0_bleaches_1 : decode cX0_bleaches 1 = .ok (.iload_n 1, 1) := dk_27 (dk_at dksX0_bleaches_0 1 rfl rfl)
theorem dX0_bleaches_2 : decode cX0_bleaches 2 = .ok (.i2l, 1) := dk_133 (dk_at dksX0_bleaches_0 2 rfl rfl)
theorem dX0_bleaches_3 : decode cX0_bleaches 3 = .ok (.invokevirtual 163, 3) := dk_182 0 163 (dk_at dksX0_bleaches_0 3 rfl rfl)
theorem dX0_bleaches_6 : decode cX0_bleaches 6 = .ok (.ifCond .eq 12, 3) := dk_153 0 12 (dk_at dksX0_bleaches_0 6 rfl rfl)
theorem dX0_bleaches_9 : decode cX0_bleaches 9 = .ok (.aload_n 0, 1) := dk_42 (dk_at dksX0_bleaches_0 9 rfl rfl)
theorem dX0_bleaches_10 : decode cX0_bleaches 10 = .ok (.iload_n 2, 1) := dk_28 (dk_at dksX0_bleaches_0 10 rfl rfl)
theorem dX0_bleaches_11 : decode cX0_bleaches 11 = .ok (.i2l, 1) := dk_133 (dk_at dksX0_bleaches_0 11 rfl rfl)
theorem dX0_bleaches_12 : decode cX0_bleaches 12 = .ok (.invokevirtual 277, 3) := dk_182 1 21 (dk_at dksX0_bleaches_0 12 rfl rfl)
theorem dX0_bleaches_15 : decode cX0_bleaches 15 = .ok (.ifCond .ne 6, 3) := dk_154 0 6 (dk_at dksX0_bleaches_0 15 rfl rfl)
theorem dX0_bleaches_18 : decode cX0_bleaches 18 = .ok (.bipush (-2), 2) := dk_16 254 (dk_at dksX0_bleaches_0 18 rfl rfl)
theorem dX0_bleaches_20 : decode cX0_bleaches 20 = .ok (.ireturn, 1) := dk_172 (dk_at dksX0_bleaches_0 20 rfl rfl)
theorem dX0_bleaches_21 : decode cX0_bleaches 21 = .ok (.aload_n 0, 1) := dk_42 (dk_at dksX0_bleaches_0 21 rfl rfl)
theorem dX0_bleaches_22 : decode cX0_bleaches 22 = .ok (.sipush 1000, 3) := dk_17 3 232 (dk_at dksX0_bleaches_1 0 rfl rfl)
theorem dX0_bleaches_25 : decode cX0_bleaches 25 = .ok (.iload_n 1, 1) := dk_27 (dk_at dksX0_bleaches_1 3 rfl rfl)
theorem dX0_bleaches_26 : decode cX0_bleaches 26 = .ok (.imul, 1) := dk_104 (dk_at dksX0_bleaches_1 4 rfl rfl)
theorem dX0_bleaches_27 : decode cX0_bleaches 27 = .ok (.iload_n 2, 1) := dk_28 (dk_at dksX0_bleaches_1 5 rfl rfl)
theorem dX0_bleaches_28 : decode cX0_bleaches 28 = .ok (.iadd, 1) := dk_96 (dk_at dksX0_bleaches_1 6 rfl rfl)
theorem dX0_bleaches_29 : decode cX0_bleaches 29 = .ok (.invokevirtual 441, 3) := dk_182 1 185 (dk_at dksX0_bleaches_1 7 rfl rfl)
theorem dX0_bleaches_32 : decode cX0_bleaches 32 = .ok (.ifCond .eq 11, 3) := dk_153 0 11 (dk_at dksX0_bleaches_1 10 rfl rfl)
theorem dX0_bleaches_35 : decode cX0_bleaches 35 = .ok (.aload_n 0, 1) := dk_42 (dk_at dksX0_bleaches_1 13 rfl rfl)
theorem dX0_bleaches_36 : decode cX0_bleaches 36 = .ok (.iload_n 1, 1) := dk_27 (dk_at dksX0_bleaches_1 14 rfl rfl)
theorem dX0_bleaches_37 : decode cX0_bleaches 37 = .ok (.invokevirtual 322, 3) := dk_182 1 66 (dk_at dksX0_bleaches_1 15 rfl rfl)
theorem dX0_bleaches_40 : decode cX0_bleaches 40 = .ok (.goto 5, 3) := dk_167 0 5 (dk_at dksX0_bleaches_1 18 rfl rfl)
theorem dX0_bleaches_43 : decode cX0_bleaches 43 = .ok (.bipush (-5), 2) := dk_16 251 (dk_at dksX0_bleaches_1 21 rfl rfl)
theorem dX0_bleaches_45 : decode cX0_bleaches 45 = .ok (.ireturn, 1) := dk_172 (dk_at dksX0_bleaches_1 23 rfl rfl)
abbrev cX0_undo : ByteArray := prog_1_method_122_code
def yX0_undo : MethodName := ⟨RX0, "undo", "()I"⟩
def dkwX0_undo_1 : List UInt8 := [180, 0, 10, 89, 180, 0, 237, 4, 100, 181, 0, 237, 42, 180, 0, 10, 180, 0, 237, 172]
abbrev dktX0_undo_1 : List UInt8 := dkwX0_undo_1 ++ []
def dkwX0_undo_0 : List UInt8 := [42, 182, 0, 129, 154, 0, 6, 16, 254, 172, 42, 180, 0, 10, 180, 0, 237, 154, 0, 6, 16, 251, 172, 42]
abbrev dktX0_undo_0 : List UInt8 := dkwX0_undo_0 ++ dktX0_undo_1
theorem dksX0_undo_0 : cX0_undo.data.toList.drop 0 = dktX0_undo_0 := by decide +kernel
theorem dksX0_undo_1 : cX0_undo.data.toList.drop 24 = dktX0_undo_1 := dk_seg dksX0_undo_0 24 rfl rfl
theorem dX0_undo_0 : decode cX0_undo 0 = .ok (.aload_n 0, 1) := dk_42 (dk_at dksX0_undo_0 0 rfl rfl)
theorem dX0_undo_1 : decode cX0_undo 1 = .ok (.invokevirtual 129, 3) := dk_182 0 129 (dk_at dksX0_undo_0 1 rfl rfl)
theorem dX0_undo_4 : decode cX0_undo 4 = .ok (.ifCond .ne 6, 3) := dk_154 0 6 (dk_at dksX0_undo_0 4 rfl rfl)
theorem dX0_undo_7 : decode cX0_undo 7 = .ok (.bipush (-2), 2) := dk_16 254 (dk_at dksX0_undo_0 7 rfl rfl)
theorem dX0_undo_9 : decode cX0_undo 9 = .ok (.ireturn, 1) := dk_172 (dk_at dksX0_undo_0 9 rfl rfl)
theorem dX0_undo_10 : decode cX0_undo 10 = .ok (.aload_n 0, 1) := dk_42 (dk_at dksX0_undo_0 10 rfl rfl)
theorem dX0_undo_11 : decode cX0_undo 11 = .ok (.getfield 10, 3) := dk_180 0 10 (dk_at dksX0_undo_0 11 rfl rfl)
theorem dX0_undo_14 : decode cX0_undo 14 = .ok (.getfield 237, 3) := dk_180 0 237 (dk_at dksX0_undo_0 14 rfl rfl)
theorem dX0_undo_17 : decode cX0_undo 17 = .ok (.ifCond .ne 6, 3) := dk_154 0 6 (dk_at dksX0_undo_0 17 rfl rfl)
theorem dX0_undo_20 : decode cX0_undo 20 = .ok (.bipush (-5), 2) := dk_16 251 (dk_at dksX0_undo_0 20 rfl rfl)
theorem dX0_undo_22 : decode cX0_undo 22 = .ok (.ireturn, 1) := dk_172 (dk_at dksX0_undo_0 22 rfl rfl)
theorem dX0_undo_23 : decode cX0_undo 23 = .ok (.aload_n 0, 1) := dk_42 (dk_at dksX0_undo_0 23 rfl rfl)
theorem dX0_undo_24 : decode cX0_undo 24 = .ok (.getfield 10, 3) := dk_180 0 10 (dk_at dksX0_undo_1 0 rfl rfl)
theorem dX0_undo_27 : decode cX0_undo 27 = .ok (.dup, 1) := dk_89 (dk_at dksX0_undo_1 3 rfl rfl)
theorem dX0_undo_28 : decode cX0_undo 28 = .ok (.getfield 237, 3) := dk_180 0 237 (dk_at dksX0_undo_1 4 rfl rfl)
theorem dX0_undo_31 : decode cX0_undo 31 = .ok (.iconst 1, 1) := dk_4 (dk_at dksX0_undo_1 7 rfl rfl)
theorem dX0_undo_32 : decode cX0_undo 32 = .ok (.isub, 1) := dk_100 (dk_at dksX0_undo_1 8 rfl rfl)
theorem dX0_undo_33 : decode cX0_undo 33 = .ok (.putfield 237, 3) := dk_181 0 237 (dk_at dksX0_undo_1 9 rfl rfl)
theorem dX0_undo_36 : decode cX0_undo 36 = .ok (.aload_n 0, 1) := dk_42 (dk_at dksX0_undo_1 12 rfl rfl)
theorem dX0_undo_37 : decode cX0_undo 37 = .ok (.getfield 10, 3) := dk_180 0 10 (dk_at dksX0_undo_1 13 rfl rfl)
theorem dX0_undo_40 : decode cX0_undo 40 = .ok (.getfield 237, 3) := dk_180 0 237 (dk_at dksX0_undo_1 16 rfl rfl)
theorem dX0_undo_43 : decode cX0_undo 43 = .ok (.ireturn, 1) := dk_172 (dk_at dksX0_undo_1 19 rfl rfl)
abbrev cX0_anew : ByteArray := prog_1_method_123_code
def yX0_anew : MethodName := ⟨RX0, "anew", "()I"⟩
def dkwX0_anew_1 : List UInt8 := [181, 0, 237, 27, 172]
abbrev dktX0_anew_1 : List UInt8 := dkwX0_anew_1 ++ []
def dkwX0_anew_0 : List UInt8 := [42, 182, 0, 129, 154, 0, 6, 16, 254, 172, 42, 180, 0, 10, 180, 0, 237, 60, 42, 180, 0, 10, 3]
abbrev dktX0_anew_0 : List UInt8 := dkwX0_anew_0 ++ dktX0_anew_1
theorem dksX0_anew_0 : cX0_anew.data.toList.drop 0 = dktX0_anew_0 := by decide +kernel
theorem dksX0_anew_1 : cX0_anew.data.toList.drop 23 = dktX0_anew_1 := dk_seg dksX0_anew_0 23 rfl rfl
theorem dX0_anew_0 : decode cX0_anew 0 = .ok (.aload_n 0, 1) := dk_42 (dk_at dksX0_anew_0 0 rfl rfl)
theorem dX0_anew_1 : decode cX0_anew 1 = .ok (.invokevirtual 129, 3) := dk_182 0 129 (dk_at dksX0_anew_0 1 rfl rfl)
theorem dX0_anew_4 : decode cX0_anew 4 = .ok (.ifCond .ne 6, 3) := dk_154 0 6 (dk_at dksX0_anew_0 4 rfl rfl)
theorem dX0_anew_7 : decode cX0_anew 7 = .ok (.bipush (-2), 2) := dk_16 254 (dk_at dksX0_anew_0 7 rfl rfl)
theorem dX0_anew_9 : decode cX0_anew 9 = .ok (.ireturn, 1) := dk_172 (dk_at dksX0_anew_0 9 rfl rfl)
theorem dX0_anew_10 : decode cX0_anew 10 = .ok (.aload_n 0, 1) := dk_42 (dk_at dksX0_anew_0 10 rfl rfl)
theorem dX0_anew_11 : decode cX0_anew 11 = .ok (.getfield 10, 3) := dk_180 0 10 (dk_at dksX0_anew_0 11 rfl rfl)
theorem dX0_anew_14 : decode cX0_anew 14 = .ok (.getfield 237, 3) := dk_180 0 237 (dk_at dksX0_anew_0 14 rfl rfl)
theorem dX0_anew_17 : decode cX0_anew 17 = .ok (.istore_n 1, 1) := dk_60 (dk_at dksX0_anew_0 17 rfl rfl)
theorem dX0_anew_18 : decode cX0_anew 18 = .ok (.aload_n 0, 1) := dk_42 (dk_at dksX0_anew_0 18 rfl rfl)
theorem dX0_anew_19 : decode cX0_anew 19 = .ok (.getfield 10, 3) := dk_180 0 10 (dk_at dksX0_anew_0 19 rfl rfl)
theorem dX0_anew_22 : decode cX0_anew 22 = .ok (.iconst 0, 1) := dk_3 (dk_at dksX0_anew_0 22 rfl rfl)
theorem dX0_anew_23 : decode cX0_anew 23 = .ok (.putfield 237, 3) := dk_181 0 237 (dk_at dksX0_anew_1 0 rfl rfl)
theorem dX0_anew_26 : decode cX0_anew 26 = .ok (.iload_n 1, 1) := dk_27 (dk_at dksX0_anew_1 3 rfl rfl)
theorem dX0_anew_27 : decode cX0_anew 27 = .ok (.ireturn, 1) := dk_172 (dk_at dksX0_anew_1 4 rfl rfl)
abbrev cX0_rate : ByteArray := prog_1_method_124_code
def yX0_rate : MethodName := ⟨RX0, "rate", "(II)I"⟩
def dkwX0_rate_2 : List UInt8 := [180, 0, 10, 180, 0, 176, 27, 28, 79, 29, 172]
abbrev dktX0_rate_2 : List UInt8 := dkwX0_rate_2 ++ []
def dkwX0_rate_1 : List UInt8 := [42, 180, 0, 10, 180, 0, 237, 158, 0, 6, 16, 251, 172, 42, 180, 0, 10, 180, 0, 176, 27, 46, 62, 42]
abbrev dktX0_rate_1 : List UInt8 := dkwX0_rate_1 ++ dktX0_rate_2
def dkwX0_rate_0 : List UInt8 := [42, 27, 133, 182, 0, 163, 153, 0, 15, 28, 133, 9, 20, 1, 64, 184, 0, 95, 154, 0, 6, 16, 254, 172]
abbrev dktX0_rate_0 : List UInt8 := dkwX0_rate_0 ++ dktX0_rate_1
theorem dksX0_rate_0 : cX0_rate.data.toList.drop 0 = dktX0_rate_0 := by decide +kernel
theorem dksX0_rate_1 : cX0_rate.data.toList.drop 24 = dktX0_rate_1 := dk_seg dksX0_rate_0 24 rfl rfl
theorem dksX0_rate_2 : cX0_rate.data.toList.drop 48 = dktX0_rate_2 := dk_seg dksX0_rate_1 24 rfl rfl
theorem dX0_rate_0 : decode cX0_rate 0 = .ok (.aload_n 0, 1) := dk_42 (dk_at dksX0_rate_0 0 rfl rfl)
theorem dX0_rate_1 : decode cX0_rate 1 = .ok (.iload_n 1, 1) := dk_27 (dk_at dksX0_rate_0 1 rfl rfl)
theorem dX0_rate_2 : decode cX0_rate 2 = .ok (.i2l, 1) := dk_133 (dk_at dksX0_rate_0 2 rfl rfl)
theorem dX0_rate_3 : decode cX0_rate 3 = .ok (.invokevirtual 163, 3) := dk_182 0 163 (dk_at dksX0_rate_0 3 rfl rfl)
theorem dX0_rate_6 : decode cX0_rate 6 = .ok (.ifCond .eq 15, 3) := dk_153 0 15 (dk_at dksX0_rate_0 6 rfl rfl)
theorem dX0_rate_9 : decode cX0_rate 9 = .ok (.iload_n 2, 1) := dk_28 (dk_at dksX0_rate_0 9 rfl rfl)
theorem dX0_rate_10 : decode cX0_rate 10 = .ok (.i2l, 1) := dk_133 (dk_at dksX0_rate_0 10 rfl rfl)
theorem dX0_rate_11 : decode cX0_rate 11 = .ok (.lconst 0, 1) := dk_9 (dk_at dksX0_rate_0 11 rfl rfl)
theorem dX0_rate_12 : decode cX0_rate 12 = .ok (.ldc2_w 320, 3) := dk_20 1 64 (dk_at dksX0_rate_0 12 rfl rfl)
theorem dX0_rate_15 : decode cX0_rate 15 = .ok (.invokestatic 95, 3) := dk_184 0 95 (dk_at dksX0_rate_0 15 rfl rfl)
theorem dX0_rate_18 : decode cX0_rate 18 = .ok (.ifCond .ne 6, 3) := dk_154 0 6 (dk_at dksX0_rate_0 18 rfl rfl)
theorem dX0_rate_21 : decode cX0_rate 21 = .ok (.bipush (-2), 2) := dk_16 254 (dk_at dksX0_rate_0 21 rfl rfl)
theorem dX0_rate_23 : decode cX0_rate 23 = .ok (.ireturn, 1) := dk_172 (dk_at dksX0_rate_0 23 rfl rfl)
theorem dX0_rate_24 : decode cX0_rate 24 = .ok (.aload_n 0, 1) := dk_42 (dk_at dksX0_rate_1 0 rfl rfl)
theorem dX0_rate_25 : decode cX0_rate 25 = .ok (.getfield 10, 3) := dk_180 0 10 (dk_at dksX0_rate_1 1 rfl rfl)
theorem dX0_rate_28 : decode cX0_rate 28 = .ok (.getfield 237, 3) := dk_180 0 237 (dk_at dksX0_rate_1 4 rfl rfl)
theorem dX0_rate_31 : decode cX0_rate 31 = .ok (.ifCond .le 6, 3) := dk_158 0 6 (dk_at dksX0_rate_1 7 rfl rfl)
theorem dX0_rate_34 : decode cX0_rate 34 = .ok (.bipush (-5), 2) := dk_16 251 (dk_at dksX0_rate_1 10 rfl rfl)
theorem dX0_rate_36 : decode cX0_rate 36 = .ok (.ireturn, 1) := dk_172 (dk_at dksX0_rate_1 12 rfl rfl)
theorem dX0_rate_37 : decode cX0_rate 37 = .ok (.aload_n 0, 1) := dk_42 (dk_at dksX0_rate_1 13 rfl rfl)
theorem dX0_rate_38 : decode cX0_rate 38 = .ok (.getfield 10, 3) := dk_180 0 10 (dk_at dksX0_rate_1 14 rfl rfl)
theorem dX0_rate_41 : decode cX0_rate 41 = .ok (.getfield 176, 3) := dk_180 0 176 (dk_at dksX0_rate_1 17 rfl rfl)
theorem dX0_rate_44 : decode cX0_rate 44 = .ok (.iload_n 1, 1) := dk_27 (dk_at dksX0_rate_1 20 rfl rfl)
theorem dX0_rate_45 : decode cX0_rate 45 = .ok (.iaload, 1) := dk_46 (dk_at dksX0_rate_1 21 rfl rfl)
theorem dX0_rate_46 : decode cX0_rate 46 = .ok (.istore_n 3, 1) := dk_62 (dk_at dksX0_rate_1 22 rfl rfl)
theorem dX0_rate_47 : decode cX0_rate 47 = .ok (.aload_n 0, 1) := dk_42 (dk_at dksX0_rate_1 23 rfl rfl)
theorem dX0_rate_48 : decode cX0_rate 48 = .ok (.getfield 10, 3) := dk_180 0 10 (dk_at dksX0_rate_2 0 rfl rfl)
theorem dX0_rate_51 : decode cX0_rate 51 = .ok (.getfield 176, 3) := dk_180 0 176 (dk_at dksX0_rate_2 3 rfl rfl)
theorem dX0_rate_54 : decode cX0_rate 54 = .ok (.iload_n 1, 1) := dk_27 (dk_at dksX0_rate_2 6 rfl rfl)
theorem dX0_rate_55 : decode cX0_rate 55 = .ok (.iload_n 2, 1) := dk_28 (dk_at dksX0_rate_2 7 rfl rfl)
theorem dX0_rate_56 : decode cX0_rate 56 = .ok (.iastore, 1) := dk_79 (dk_at dksX0_rate_2 8 rfl rfl)
theorem dX0_rate_57 : decode cX0_rate 57 = .ok (.iload_n 3, 1) := dk_29 (dk_at dksX0_rate_2 9 rfl rfl)
theorem dX0_rate_58 : decode cX0_rate 58 = .ok (.ireturn, 1) := dk_172 (dk_at dksX0_rate_2 10 rfl rfl)
abbrev cX0_count : ByteArray := prog_1_method_126_code
def yX0_count : MethodName := ⟨RX0, "count", "(I)I"⟩
def dkwX0_count_6 : List UInt8 := [132, 3, 1, 167, 255, 228, 28, 172, 2, 172]
abbrev dktX0_count_6 : List UInt8 := dkwX0_count_6 ++ []
def dkwX0_count_5 : List UInt8 := [7, 162, 0, 29, 28, 42, 180, 0, 77, 29, 50, 180, 1, 188, 199, 0, 7, 3, 167, 0, 4, 4, 96, 61]
abbrev dktX0_count_5 : List UInt8 := dkwX0_count_5 ++ dktX0_count_6
def dkwX0_count_4 : List UInt8 := [42, 180, 0, 10, 180, 0, 237, 172, 42, 180, 0, 10, 180, 0, 109, 172, 42, 180, 0, 88, 172, 3, 62, 29]
abbrev dktX0_count_4 : List UInt8 := dkwX0_count_4 ++ dktX0_count_5
def dkwX0_count_3 : List UInt8 := [42, 180, 0, 10, 180, 0, 120, 172, 42, 180, 0, 10, 180, 0, 123, 172, 42, 180, 0, 10, 180, 0, 126, 172]
abbrev dktX0_count_3 : List UInt8 := dkwX0_count_3 ++ dktX0_count_4
def dkwX0_count_2 : List UInt8 := [42, 180, 0, 10, 180, 0, 133, 172, 42, 180, 0, 10, 180, 0, 188, 172, 42, 180, 0, 10, 180, 1, 154, 172]
abbrev dktX0_count_2 : List UInt8 := dkwX0_count_2 ++ dktX0_count_3
def dkwX0_count_1 : List UInt8 := [170, 0, 0, 0, 157, 0, 0, 0, 0, 0, 0, 0, 9, 0, 0, 0, 53, 0, 0, 0, 61, 0, 0, 0, 69, 0, 0, 0, 77, 0, 0, 0, 85, 0, 0, 0, 93, 0, 0, 0, 101, 0, 0, 0, 109, 0, 0, 0, 117, 0, 0, 0, 122]
abbrev dktX0_count_1 : List UInt8 := dkwX0_count_1 ++ dktX0_count_2
def dkwX0_count_0 : List UInt8 := [3, 61, 27]
abbrev dktX0_count_0 : List UInt8 := dkwX0_count_0 ++ dktX0_count_1
theorem dksX0_count_0 : cX0_count.data.toList.drop 0 = dktX0_count_0 := by decide +kernel
theorem dksX0_count_1 : cX0_count.data.toList.drop 3 = dktX0_count_1 := dk_seg dksX0_count_0 3 rfl rfl
theorem dksX0_count_2 : cX0_count.data.toList.drop 56 = dktX0_count_2 := dk_seg dksX0_count_1 53 rfl rfl
theorem dksX0_count_3 : cX0_count.data.toList.drop 80 = dktX0_count_3 := dk_seg dksX0_count_2 24 rfl rfl
theorem dksX0_count_4 : cX0_count.data.toList.drop 104 = dktX0_count_4 := dk_seg dksX0_count_3 24 rfl rfl
theorem dksX0_count_5 : cX0_count.data.toList.drop 128 = dktX0_count_5 := dk_seg dksX0_count_4 24 rfl rfl
theorem dksX0_count_6 : cX0_count.data.toList.drop 152 = dktX0_count_6 := dk_seg dksX0_count_5 24 rfl rfl
theorem dX0_count_0 : decode cX0_count 0 = .ok (.iconst 0, 1) := dk_3 (dk_at dksX0_count_0 0 rfl rfl)
theorem dX0_count_1 : decode cX0_count 1 = .ok (.istore_n 2, 1) := dk_61 (dk_at dksX0_count_0 1 rfl rfl)
theorem dX0_count_2 : decode cX0_count 2 = .ok (.iload_n 1, 1) := dk_27 (dk_at dksX0_count_0 2 rfl rfl)
theorem dX0_count_3 : decode cX0_count 3 = .ok (.tableswitch 157 0 9 #[53, 61, 69, 77, 85, 93, 101, 109, 117, 122], 53) := by decide +kernel
theorem dX0_count_56 : decode cX0_count 56 = .ok (.aload_n 0, 1) := dk_42 (dk_at dksX0_count_2 0 rfl rfl)
theorem dX0_count_57 : decode cX0_count 57 = .ok (.getfield 10, 3) := dk_180 0 10 (dk_at dksX0_count_2 1 rfl rfl)
theorem dX0_count_60 : decode cX0_count 60 = .ok (.getfield 133, 3) := dk_180 0 133 (dk_at dksX0_count_2 4 rfl rfl)
theorem dX0_count_63 : decode cX0_count 63 = .ok (.ireturn, 1) := dk_172 (dk_at dksX0_count_2 7 rfl rfl)
theorem dX0_count_64 : decode cX0_count 64 = .ok (.aload_n 0, 1) := dk_42 (dk_at dksX0_count_2 8 rfl rfl)
theorem dX0_count_65 : decode cX0_count 65 = .ok (.getfield 10, 3) := dk_180 0 10 (dk_at dksX0_count_2 9 rfl rfl)
theorem dX0_count_68 : decode cX0_count 68 = .ok (.getfield 188, 3) := dk_180 0 188 (dk_at dksX0_count_2 12 rfl rfl)
theorem dX0_count_71 : decode cX0_count 71 = .ok (.ireturn, 1) := dk_172 (dk_at dksX0_count_2 15 rfl rfl)
theorem dX0_count_72 : decode cX0_count 72 = .ok (.aload_n 0, 1) := dk_42 (dk_at dksX0_count_2 16 rfl rfl)
theorem dX0_count_73 : decode cX0_count 73 = .ok (.getfield 10, 3) := dk_180 0 10 (dk_at dksX0_count_2 17 rfl rfl)
theorem dX0_count_76 : decode cX0_count 76 = .ok (.getfield 410, 3) := dk_180 1 154 (dk_at dksX0_count_2 20 rfl rfl)
theorem dX0_count_79 : decode cX0_count 79 = .ok (.ireturn, 1) := dk_172 (dk_at dksX0_count_2 23 rfl rfl)
theorem dX0_count_80 : decode cX0_count 80 = .ok (.aload_n 0, 1) := dk_42 (dk_at dksX0_count_3 0 rfl rfl)
theorem dX0_count_81 : decode cX0_count 81 = .ok (.getfield 10, 3) := dk_180 0 10 (dk_at dksX0_count_3 1 rfl rfl)
theorem dX0_count_84 : decode cX0_count 84 = .ok (.getfield 120, 3) := dk_180 0 120 (dk_at dksX0_count_3 4 rfl rfl)
theorem dX0_count_87 : decode cX0_count 87 = .ok (.ireturn, 1) := dk_172 (dk_at dksX0_count_3 7 rfl rfl)
theorem dX0_count_88 : decode cX0_count 88 = .ok (.aload_n 0, 1) := dk_42 (dk_at dksX0_count_3 8 rfl rfl)
theorem dX0_count_89 : decode cX0_count 89 = .ok (.getfield 10, 3) := dk_180 0 10 (dk_at dksX0_count_3 9 rfl rfl)
theorem dX0_count_92 : decode cX0_count 92 = .ok (.getfield 123, 3) := dk_180 0 123 (dk_at dksX0_count_3 12 rfl rfl)
theorem dX0_count_95 : decode cX0_count 95 = .ok (.ireturn, 1) := dk_172 (dk_at dksX0_count_3 15 rfl rfl)
theorem dX0_count_96 : decode cX0_count 96 = .ok (.aload_n 0, 1) := dk_42 (dk_at dksX0_count_3 16 rfl rfl)
theorem dX0_count_97 : decode cX0_count 97 = .ok (.getfield 10, 3) := dk_180 0 10 (dk_at dksX0_count_3 17 rfl rfl)
theorem dX0_count_100 : decode cX0_count 100 = .ok (.getfield 126, 3) := dk_180 0 126 (dk_at dksX0_count_3 20 rfl rfl)
theorem dX0_count_103 : decode cX0_count 103 = .ok (.ireturn, 1) := dk_172 (dk_at dksX0_count_3 23 rfl rfl)
theorem dX0_count_104 : decode cX0_count 104 = .ok (.aload_n 0, 1) := dk_42 (dk_at dksX0_count_4 0 rfl rfl)
theorem dX0_count_105 : decode cX0_count 105 = .ok (.getfield 10, 3) := dk_180 0 10 (dk_at dksX0_count_4 1 rfl rfl)
theorem dX0_count_108 : decode cX0_count 108 = .ok (.getfield 237, 3) := dk_180 0 237 (dk_at dksX0_count_4 4 rfl rfl)
theorem dX0_count_111 : decode cX0_count 111 = .ok (.ireturn, 1) := dk_172 (dk_at dksX0_count_4 7 rfl rfl)
theorem dX0_count_112 : decode cX0_count 112 = .ok (.aload_n 0, 1) := dk_42 (dk_at dksX0_count_4 8 rfl rfl)
theorem dX0_count_113 : decode cX0_count 113 = .ok (.getfield 10, 3) := dk_180 0 10 (dk_at dksX0_count_4 9 rfl rfl)
theorem dX0_count_116 : decode cX0_count 116 = .ok (.getfield 109, 3) := dk_180 0 109 (dk_at dksX0_count_4 12 rfl rfl)
theorem dX0_count_119 : decode cX0_count 119 = .ok (.ireturn, 1) := dk_172 (dk_at dksX0_count_4 15 rfl rfl)
theorem dX0_count_120 : decode cX0_count 120 = .ok (.aload_n 0, 1) := dk_42 (dk_at dksX0_count_4 16 rfl rfl)
theorem dX0_count_121 : decode cX0_count 121 = .ok (.getfield 88, 3) := dk_180 0 88 (dk_at dksX0_count_4 17 rfl rfl)
theorem dX0_count_124 : decode cX0_count 124 = .ok (.ireturn, 1) := dk_172 (dk_at dksX0_count_4 20 rfl rfl)
theorem dX0_count_125 : decode cX0_count 125 = .ok (.iconst 0, 1) := dk_3 (dk_at dksX0_count_4 21 rfl rfl)
theorem dX0_count_126 : decode cX0_count 126 = .ok (.istore_n 3, 1) := dk_62 (dk_at dksX0_count_4 22 rfl rfl)
theorem dX0_count_127 : decode cX0_count 127 = .ok (.iload_n 3, 1) := dk_29 (dk_at dksX0_count_4 23 rfl rfl)
theorem dX0_count_128 : decode cX0_count 128 = .ok (.iconst 4, 1) := dk_7 (dk_at dksX0_count_5 0 rfl rfl)
theorem dX0_count_129 : decode cX0_count 129 = .ok (.if_icmp .ge 29, 3) := dk_162 0 29 (dk_at dksX0_count_5 1 rfl rfl)
theorem dX0_count_132 : decode cX0_count 132 = .ok (.iload_n 2, 1) := dk_28 (dk_at dksX0_count_5 4 rfl rfl)
theorem dX0_count_133 : decode cX0_count 133 = .ok (.aload_n 0, 1) := dk_42 (dk_at dksX0_count_5 5 rfl rfl)
theorem dX0_count_134 : decode cX0_count 134 = .ok (.getfield 77, 3) := dk_180 0 77 (dk_at dksX0_count_5 6 rfl rfl)
theorem dX0_count_137 : decode cX0_count 137 = .ok (.iload_n 3, 1) := dk_29 (dk_at dksX0_count_5 9 rfl rfl)
theorem dX0_count_138 : decode cX0_count 138 = .ok (.aaload, 1) := dk_50 (dk_at dksX0_count_5 10 rfl rfl)
theorem dX0_count_139 : decode cX0_count 139 = .ok (.getfield 444, 3) := dk_180 1 188 (dk_at dksX0_count_5 11 rfl rfl)
theorem dX0_count_142 : decode cX0_count 142 = .ok (.ifnonnull 7, 3) := dk_199 0 7 (dk_at dksX0_count_5 14 rfl rfl)
theorem dX0_count_145 : decode cX0_count 145 = .ok (.iconst 0, 1) := dk_3 (dk_at dksX0_count_5 17 rfl rfl)
theorem dX0_count_146 : decode cX0_count 146 = .ok (.goto 4, 3) := dk_167 0 4 (dk_at dksX0_count_5 18 rfl rfl)
theorem dX0_count_149 : decode cX0_count 149 = .ok (.iconst 1, 1) := dk_4 (dk_at dksX0_count_5 21 rfl rfl)
theorem dX0_count_150 : decode cX0_count 150 = .ok (.iadd, 1) := dk_96 (dk_at dksX0_count_5 22 rfl rfl)
theorem dX0_count_151 : decode cX0_count 151 = .ok (.istore_n 2, 1) := dk_61 (dk_at dksX0_count_5 23 rfl rfl)
theorem dX0_count_152 : decode cX0_count 152 = .ok (.iinc 3 1, 3) := dk_132 3 1 (dk_at dksX0_count_6 0 rfl rfl)
theorem dX0_count_155 : decode cX0_count 155 = .ok (.goto (-28), 3) := dk_167 255 228 (dk_at dksX0_count_6 3 rfl rfl)
theorem dX0_count_158 : decode cX0_count 158 = .ok (.iload_n 2, 1) := dk_28 (dk_at dksX0_count_6 6 rfl rfl)
theorem dX0_count_159 : decode cX0_count 159 = .ok (.ireturn, 1) := dk_172 (dk_at dksX0_count_6 7 rfl rfl)
theorem dX0_count_160 : decode cX0_count 160 = .ok (.iconst (-1), 1) := dk_2 (dk_at dksX0_count_6 8 rfl rfl)
theorem dX0_count_161 : decode cX0_count 161 = .ok (.ireturn, 1) := dk_172 (dk_at dksX0_count_6 9 rfl rfl)
abbrev cX0_image : ByteArray := prog_1_method_127_code
def yX0_image : MethodName := ⟨RX0, "image", "(I)I"⟩
def dkwX0_image_2 : List UInt8 := [182, 1, 199, 182, 1, 202, 87, 3, 172]
abbrev dktX0_image_2 : List UInt8 := dkwX0_image_2 ++ []
def dkwX0_image_1 : List UInt8 := [162, 0, 15, 42, 180, 0, 84, 1, 182, 1, 195, 87, 167, 255, 236, 42, 180, 0, 84, 27, 42, 180, 0, 10]
abbrev dktX0_image_1 : List UInt8 := dkwX0_image_1 ++ dktX0_image_2
def dkwX0_image_0 : List UInt8 := [27, 133, 9, 20, 1, 192, 184, 0, 95, 154, 0, 6, 16, 254, 172, 42, 180, 0, 84, 182, 1, 194, 6]
abbrev dktX0_image_0 : List UInt8 := dkwX0_image_0 ++ dktX0_image_1
theorem dksX0_image_0 : cX0_image.data.toList.drop 0 = dktX0_image_0 := by decide +kernel
theorem dksX0_image_1 : cX0_image.data.toList.drop 23 = dktX0_image_1 := dk_seg dksX0_image_0 23 rfl rfl
theorem dksX0_image_2 : cX0_image.data.toList.drop 47 = dktX0_image_2 := dk_seg dksX0_image_1 24 rfl rfl
theorem dX0_image_0 : decode cX0_image 0 = .ok (.iload_n 1, 1) := dk_27 (dk_at dksX0_image_0 0 rfl rfl)
theorem dX0_image_1 : decode cX0_image 1 = .ok (.i2l, 1) := dk_133 (dk_at dksX0_image_0 1 rfl rfl)
theorem dX0_image_2 : decode cX0_image 2 = .ok (.lconst 0, 1) := dk_9 (dk_at dksX0_image_0 2 rfl rfl)
theorem dX0_image_3 : decode cX0_image 3 = .ok (.ldc2_w 448, 3) := dk_20 1 192 (dk_at dksX0_image_0 3 rfl rfl)
theorem dX0_image_6 : decode cX0_image 6 = .ok (.invokestatic 95, 3) := dk_184 0 95 (dk_at dksX0_image_0 6 rfl rfl)
theorem dX0_image_9 : decode cX0_image 9 = .ok (.ifCond .ne 6, 3) := dk_154 0 6 (dk_at dksX0_image_0 9 rfl rfl)
theorem dX0_image_12 : decode cX0_image 12 = .ok (.bipush (-2), 2) := dk_16 254 (dk_at dksX0_image_0 12 rfl rfl)
theorem dX0_image_14 : decode cX0_image 14 = .ok (.ireturn, 1) := dk_172 (dk_at dksX0_image_0 14 rfl rfl)
theorem dX0_image_15 : decode cX0_image 15 = .ok (.aload_n 0, 1) := dk_42 (dk_at dksX0_image_0 15 rfl rfl)
theorem dX0_image_16 : decode cX0_image 16 = .ok (.getfield 84, 3) := dk_180 0 84 (dk_at dksX0_image_0 16 rfl rfl)
theorem dX0_image_19 : decode cX0_image 19 = .ok (.invokevirtual 450, 3) := dk_182 1 194 (dk_at dksX0_image_0 19 rfl rfl)
theorem dX0_image_22 : decode cX0_image 22 = .ok (.iconst 3, 1) := dk_6 (dk_at dksX0_image_0 22 rfl rfl)
theorem dX0_image_23 : decode cX0_image 23 = .ok (.if_icmp .ge 15, 3) := dk_162 0 15 (dk_at dksX0_image_1 0 rfl rfl)
theorem dX0_image_26 : decode cX0_image 26 = .ok (.aload_n 0, 1) := dk_42 (dk_at dksX0_image_1 3 rfl rfl)
theorem dX0_image_27 : decode cX0_image 27 = .ok (.getfield 84, 3) := dk_180 0 84 (dk_at dksX0_image_1 4 rfl rfl)
theorem dX0_image_30 : decode cX0_image 30 = .ok (.aconst_null, 1) := dk_1 (dk_at dksX0_image_1 7 rfl rfl)
theorem dX0_image_31 : decode cX0_image 31 = .ok (.invokevirtual 451, 3) := dk_182 1 195 (dk_at dksX0_image_1 8 rfl rfl)
theorem dX0_image_34 : decode cX0_image 34 = .ok (.pop, 1) := dk_87 (dk_at dksX0_image_1 11 rfl rfl)
theorem dX0_image_35 : decode cX0_image 35 = .ok (.goto (-20), 3) := dk_167 255 236 (dk_at dksX0_image_1 12 rfl rfl)
theorem dX0_image_38 : decode cX0_image 38 = .ok (.aload_n 0, 1) := dk_42 (dk_at dksX0_image_1 15 rfl rfl)
theorem dX0_image_39 : decode cX0_image 39 = .ok (.getfield 84, 3) := dk_180 0 84 (dk_at dksX0_image_1 16 rfl rfl)
theorem dX0_image_42 : decode cX0_image 42 = .ok (.iload_n 1, 1) := dk_27 (dk_at dksX0_image_1 19 rfl rfl)
theorem dX0_image_43 : decode cX0_image 43 = .ok (.aload_n 0, 1) := dk_42 (dk_at dksX0_image_1 20 rfl rfl)
theorem dX0_image_44 : decode cX0_image 44 = .ok (.getfield 10, 3) := dk_180 0 10 (dk_at dksX0_image_1 21 rfl rfl)
theorem dX0_image_47 : decode cX0_image 47 = .ok (.invokevirtual 455, 3) := dk_182 1 199 (dk_at dksX0_image_2 0 rfl rfl)
theorem dX0_image_50 : decode cX0_image 50 = .ok (.invokevirtual 458, 3) := dk_182 1 202 (dk_at dksX0_image_2 3 rfl rfl)
theorem dX0_image_53 : decode cX0_image 53 = .ok (.pop, 1) := dk_87 (dk_at dksX0_image_2 6 rfl rfl)
theorem dX0_image_54 : decode cX0_image 54 = .ok (.iconst 0, 1) := dk_3 (dk_at dksX0_image_2 7 rfl rfl)
theorem dX0_image_55 : decode cX0_image 55 = .ok (.ireturn, 1) := dk_172 (dk_at dksX0_image_2 8 rfl rfl)
abbrev cX0_back : ByteArray := prog_1_method_128_code
def yX0_back : MethodName := ⟨RX0, "back", "(I)I"⟩
def dkwX0_back_2 : List UInt8 := [182, 1, 209, 192, 0, 7, 182, 1, 199, 181, 0, 10, 3, 172]
abbrev dktX0_back_2 : List UInt8 := dkwX0_back_2 ++ []
def dkwX0_back_1 : List UInt8 := [154, 0, 14, 42, 180, 0, 84, 27, 182, 1, 209, 199, 0, 6, 16, 250, 172, 42, 42, 180, 0, 84, 27]
abbrev dktX0_back_1 : List UInt8 := dkwX0_back_1 ++ dktX0_back_2
def dkwX0_back_0 : List UInt8 := [27, 133, 9, 20, 1, 192, 184, 0, 95, 154, 0, 6, 16, 254, 172, 42, 180, 0, 84, 182, 1, 206]
abbrev dktX0_back_0 : List UInt8 := dkwX0_back_0 ++ dktX0_back_1
theorem dksX0_back_0 : cX0_back.data.toList.drop 0 = dktX0_back_0 := by decide +kernel
theorem dksX0_back_1 : cX0_back.data.toList.drop 22 = dktX0_back_1 := dk_seg dksX0_back_0 22 rfl rfl
theorem dksX0_back_2 : cX0_back.data.toList.drop 45 = dktX0_back_2 := dk_seg dksX0_back_1 23 rfl rfl
theorem dX0_back_0 : decode cX0_back 0 = .ok (.iload_n 1, 1) := dk_27 (dk_at dksX0_back_0 0 rfl rfl)
theorem dX0_back_1 : decode cX0_back 1 = .ok (.i2l, 1) := dk_133 (dk_at dksX0_back_0 1 rfl rfl)
theorem dX0_back_2 : decode cX0_back 2 = .ok (.lconst 0, 1) := dk_9 (dk_at dksX0_back_0 2 rfl rfl)
theorem dX0_back_3 : decode cX0_back 3 = .ok (.ldc2_w 448, 3) := dk_20 1 192 (dk_at dksX0_back_0 3 rfl rfl)
theorem dX0_back_6 : decode cX0_back 6 = .ok (.invokestatic 95, 3) := dk_184 0 95 (dk_at dksX0_back_0 6 rfl rfl)
theorem dX0_back_9 : decode cX0_back 9 = .ok (.ifCond .ne 6, 3) := dk_154 0 6 (dk_at dksX0_back_0 9 rfl rfl)
theorem dX0_back_12 : decode cX0_back 12 = .ok (.bipush (-2), 2) := dk_16 254 (dk_at dksX0_back_0 12 rfl rfl)
theorem dX0_back_14 : decode cX0_back 14 = .ok (.ireturn, 1) := dk_172 (dk_at dksX0_back_0 14 rfl rfl)
theorem dX0_back_15 : decode cX0_back 15 = .ok (.aload_n 0, 1) := dk_42 (dk_at dksX0_back_0 15 rfl rfl)
theorem dX0_back_16 : decode cX0_back 16 = .ok (.getfield 84, 3) := dk_180 0 84 (dk_at dksX0_back_0 16 rfl rfl)
theorem dX0_back_19 : decode cX0_back 19 = .ok (.invokevirtual 462, 3) := dk_182 1 206 (dk_at dksX0_back_0 19 rfl rfl)
theorem dX0_back_22 : decode cX0_back 22 = .ok (.ifCond .ne 14, 3) := dk_154 0 14 (dk_at dksX0_back_1 0 rfl rfl)
theorem dX0_back_25 : decode cX0_back 25 = .ok (.aload_n 0, 1) := dk_42 (dk_at dksX0_back_1 3 rfl rfl)
theorem dX0_back_26 : decode cX0_back 26 = .ok (.getfield 84, 3) := dk_180 0 84 (dk_at dksX0_back_1 4 rfl rfl)
theorem dX0_back_29 : decode cX0_back 29 = .ok (.iload_n 1, 1) := dk_27 (dk_at dksX0_back_1 7 rfl rfl)
theorem dX0_back_30 : decode cX0_back 30 = .ok (.invokevirtual 465, 3) := dk_182 1 209 (dk_at dksX0_back_1 8 rfl rfl)
theorem dX0_back_33 : decode cX0_back 33 = .ok (.ifnonnull 6, 3) := dk_199 0 6 (dk_at dksX0_back_1 11 rfl rfl)
theorem dX0_back_36 : decode cX0_back 36 = .ok (.bipush (-6), 2) := dk_16 250 (dk_at dksX0_back_1 14 rfl rfl)
theorem dX0_back_38 : decode cX0_back 38 = .ok (.ireturn, 1) := dk_172 (dk_at dksX0_back_1 16 rfl rfl)
theorem dX0_back_39 : decode cX0_back 39 = .ok (.aload_n 0, 1) := dk_42 (dk_at dksX0_back_1 17 rfl rfl)
theorem dX0_back_40 : decode cX0_back 40 = .ok (.aload_n 0, 1) := dk_42 (dk_at dksX0_back_1 18 rfl rfl)
theorem dX0_back_41 : decode cX0_back 41 = .ok (.getfield 84, 3) := dk_180 0 84 (dk_at dksX0_back_1 19 rfl rfl)
theorem dX0_back_44 : decode cX0_back 44 = .ok (.iload_n 1, 1) := dk_27 (dk_at dksX0_back_1 22 rfl rfl)
theorem dX0_back_45 : decode cX0_back 45 = .ok (.invokevirtual 465, 3) := dk_182 1 209 (dk_at dksX0_back_2 0 rfl rfl)
theorem dX0_back_48 : decode cX0_back 48 = .ok (.checkcast 7, 3) := dk_192 0 7 (dk_at dksX0_back_2 3 rfl rfl)
theorem dX0_back_51 : decode cX0_back 51 = .ok (.invokevirtual 455, 3) := dk_182 1 199 (dk_at dksX0_back_2 6 rfl rfl)
theorem dX0_back_54 : decode cX0_back 54 = .ok (.putfield 10, 3) := dk_181 0 10 (dk_at dksX0_back_2 9 rfl rfl)
theorem dX0_back_57 : decode cX0_back 57 = .ok (.iconst 0, 1) := dk_3 (dk_at dksX0_back_2 12 rfl rfl)
theorem dX0_back_58 : decode cX0_back 58 = .ok (.ireturn, 1) := dk_172 (dk_at dksX0_back_2 13 rfl rfl)
abbrev cX0_row : ByteArray := prog_1_method_129_code
def yX0_row : MethodName := ⟨RX0, "row", "(III)I"⟩
def dkwX0_row_1 : List UInt8 := [164, 0, 6, 16, 254, 172, 42, 180, 0, 77, 27, 50, 28, 29, 182, 1, 213, 3, 172, 58, 4, 16, 253, 172]
abbrev dktX0_row_1 : List UInt8 := dkwX0_row_1 ++ []
def dkwX0_row_0 : List UInt8 := [27, 184, 1, 79, 153, 0, 21, 28, 133, 9, 20, 0, 136, 184, 0, 95, 153, 0, 9, 29, 16, 60]
abbrev dktX0_row_0 : List UInt8 := dkwX0_row_0 ++ dktX0_row_1
theorem dksX0_row_0 : cX0_row.data.toList.drop 0 = dktX0_row_0 := by decide +kernel
theorem dksX0_row_1 : cX0_row.data.toList.drop 22 = dktX0_row_1 := dk_seg dksX0_row_0 22 rfl rfl
theorem dX0_row_0 : decode cX0_row 0 = .ok (.iload_n 1, 1) := dk_27 (dk_at dksX0_row_0 0 rfl rfl)
theorem dX0_row_1 : decode cX0_row 1 = .ok (.invokestatic 335, 3) := dk_184 1 79 (dk_at dksX0_row_0 1 rfl rfl)
theorem dX0_row_4 : decode cX0_row 4 = .ok (.ifCond .eq 21, 3) := dk_153 0 21 (dk_at dksX0_row_0 4 rfl rfl)
theorem dX0_row_7 : decode cX0_row 7 = .ok (.iload_n 2, 1) := dk_28 (dk_at dksX0_row_0 7 rfl rfl)
theorem dX0_row_8 : decode cX0_row 8 = .ok (.i2l, 1) := dk_133 (dk_at dksX0_row_0 8 rfl rfl)
theorem dX0_row_9 : decode cX0_row 9 = .ok (.lconst 0, 1) := dk_9 (dk_at dksX0_row_0 9 rfl rfl)
theorem dX0_row_10 : decode cX0_row 10 = .ok (.ldc2_w 136, 3) := dk_20 0 136 (dk_at dksX0_row_0 10 rfl rfl)
theorem dX0_row_13 : decode cX0_row 13 = .ok (.invokestatic 95, 3) := dk_184 0 95 (dk_at dksX0_row_0 13 rfl rfl)
theorem dX0_row_16 : decode cX0_row 16 = .ok (.ifCond .eq 9, 3) := dk_153 0 9 (dk_at dksX0_row_0 16 rfl rfl)
theorem dX0_row_19 : decode cX0_row 19 = .ok (.iload_n 3, 1) := dk_29 (dk_at dksX0_row_0 19 rfl rfl)
theorem dX0_row_20 : decode cX0_row 20 = .ok (.bipush 60, 2) := dk_16 60 (dk_at dksX0_row_0 20 rfl rfl)
theorem dX0_row_22 : decode cX0_row 22 = .ok (.if_icmp .le 6, 3) := dk_164 0 6 (dk_at dksX0_row_1 0 rfl rfl)
theorem dX0_row_25 : decode cX0_row 25 = .ok (.bipush (-2), 2) := dk_16 254 (dk_at dksX0_row_1 3 rfl rfl)
theorem dX0_row_27 : decode cX0_row 27 = .ok (.ireturn, 1) := dk_172 (dk_at dksX0_row_1 5 rfl rfl)
theorem dX0_row_28 : decode cX0_row 28 = .ok (.aload_n 0, 1) := dk_42 (dk_at dksX0_row_1 6 rfl rfl)
theorem dX0_row_29 : decode cX0_row 29 = .ok (.getfield 77, 3) := dk_180 0 77 (dk_at dksX0_row_1 7 rfl rfl)
theorem dX0_row_32 : decode cX0_row 32 = .ok (.iload_n 1, 1) := dk_27 (dk_at dksX0_row_1 10 rfl rfl)
theorem dX0_row_33 : decode cX0_row 33 = .ok (.aaload, 1) := dk_50 (dk_at dksX0_row_1 11 rfl rfl)
theorem dX0_row_34 : decode cX0_row 34 = .ok (.iload_n 2, 1) := dk_28 (dk_at dksX0_row_1 12 rfl rfl)
theorem dX0_row_35 : decode cX0_row 35 = .ok (.iload_n 3, 1) := dk_29 (dk_at dksX0_row_1 13 rfl rfl)
theorem dX0_row_36 : decode cX0_row 36 = .ok (.invokevirtual 469, 3) := dk_182 1 213 (dk_at dksX0_row_1 14 rfl rfl)
theorem dX0_row_39 : decode cX0_row 39 = .ok (.iconst 0, 1) := dk_3 (dk_at dksX0_row_1 17 rfl rfl)
theorem dX0_row_40 : decode cX0_row 40 = .ok (.ireturn, 1) := dk_172 (dk_at dksX0_row_1 18 rfl rfl)
theorem dX0_row_41 : decode cX0_row 41 = .ok (.astore 4, 2) := dk_58 4 (dk_at dksX0_row_1 19 rfl rfl)
theorem dX0_row_43 : decode cX0_row 43 = .ok (.bipush (-3), 2) := dk_16 253 (dk_at dksX0_row_1 21 rfl rfl)
theorem dX0_row_45 : decode cX0_row 45 = .ok (.ireturn, 1) := dk_172 (dk_at dksX0_row_1 23 rfl rfl)
abbrev cX0_write : ByteArray := prog_1_method_130_code
def yX0_write : MethodName := ⟨RX0, "write", "(IIJ)I"⟩
def dkwX0_write_1 : List UInt8 := [58, 5, 16, 250, 172, 58, 5, 16, 249, 172]
abbrev dktX0_write_1 : List UInt8 := dkwX0_write_1 ++ []
def dkwX0_write_0 : List UInt8 := [27, 184, 1, 79, 154, 0, 6, 16, 254, 172, 42, 180, 0, 77, 27, 50, 28, 33, 182, 1, 218, 3, 172]
abbrev dktX0_write_0 : List UInt8 := dkwX0_write_0 ++ dktX0_write_1
theorem dksX0_write_0 : cX0_write.data.toList.drop 0 = dktX0_write_0 := by decide +kernel
theorem dksX0_write_1 : cX0_write.data.toList.drop 23 = dktX0_write_1 := dk_seg dksX0_write_0 23 rfl rfl
theorem dX0_write_0 : decode cX0_write 0 = .ok (.iload_n 1, 1) := dk_27 (dk_at dksX0_write_0 0 rfl rfl)
theorem dX0_write_1 : decode cX0_write 1 = .ok (.invokestatic 335, 3) := dk_184 1 79 (dk_at dksX0_write_0 1 rfl rfl)
theorem dX0_write_4 : decode cX0_write 4 = .ok (.ifCond .ne 6, 3) := dk_154 0 6 (dk_at dksX0_write_0 4 rfl rfl)
theorem dX0_write_7 : decode cX0_write 7 = .ok (.bipush (-2), 2) := dk_16 254 (dk_at dksX0_write_0 7 rfl rfl)
theorem dX0_write_9 : decode cX0_write 9 = .ok (.ireturn, 1) := dk_172 (dk_at dksX0_write_0 9 rfl rfl)
theorem dX0_write_10 : decode cX0_write 10 = .ok (.aload_n 0, 1) := dk_42 (dk_at dksX0_write_0 10 rfl rfl)
theorem dX0_write_11 : decode cX0_write 11 = .ok (.getfield 77, 3) := dk_180 0 77 (dk_at dksX0_write_0 11 rfl rfl)
theorem dX0_write_14 : decode cX0_write 14 = .ok (.iload_n 1, 1) := dk_27 (dk_at dksX0_write_0 14 rfl rfl)
theorem dX0_write_15 : decode cX0_write 15 = .ok (.aaload, 1) := dk_50 (dk_at dksX0_write_0 15 rfl rfl)
theorem dX0_write_16 : decode cX0_write 16 = .ok (.iload_n 2, 1) := dk_28 (dk_at dksX0_write_0 16 rfl rfl)
theorem dX0_write_17 : decode cX0_write 17 = .ok (.lload_n 3, 1) := dk_33 (dk_at dksX0_write_0 17 rfl rfl)
theorem dX0_write_18 : decode cX0_write 18 = .ok (.invokevirtual 474, 3) := dk_182 1 218 (dk_at dksX0_write_0 18 rfl rfl)
theorem dX0_write_21 : decode cX0_write 21 = .ok (.iconst 0, 1) := dk_3 (dk_at dksX0_write_0 21 rfl rfl)
theorem dX0_write_22 : decode cX0_write 22 = .ok (.ireturn, 1) := dk_172 (dk_at dksX0_write_0 22 rfl rfl)
theorem dX0_write_23 : decode cX0_write 23 = .ok (.astore 5, 2) := dk_58 5 (dk_at dksX0_write_1 0 rfl rfl)
theorem dX0_write_25 : decode cX0_write 25 = .ok (.bipush (-6), 2) := dk_16 250 (dk_at dksX0_write_1 2 rfl rfl)
theorem dX0_write_27 : decode cX0_write 27 = .ok (.ireturn, 1) := dk_172 (dk_at dksX0_write_1 4 rfl rfl)
theorem dX0_write_28 : decode cX0_write 28 = .ok (.astore 5, 2) := dk_58 5 (dk_at dksX0_write_1 5 rfl rfl)
theorem dX0_write_30 : decode cX0_write 30 = .ok (.bipush (-7), 2) := dk_16 249 (dk_at dksX0_write_1 7 rfl rfl)
theorem dX0_write_32 : decode cX0_write 32 = .ok (.ireturn, 1) := dk_172 (dk_at dksX0_write_1 9 rfl rfl)
abbrev cX0_paste : ByteArray := prog_1_method_131_code
def yX0_paste : MethodName := ⟨RX0, "paste", "(IIIII)I"⟩
def dkwX0_paste_2 : List UInt8 := [16, 250, 172, 58, 6, 16, 248, 172, 58, 6, 16, 249, 172]
abbrev dktX0_paste_2 : List UInt8 := dkwX0_paste_2 ++ []
def dkwX0_paste_1 : List UInt8 := [180, 1, 188, 28, 42, 180, 0, 77, 29, 50, 180, 1, 188, 21, 4, 21, 5, 184, 0, 193, 3, 172, 58, 6]
abbrev dktX0_paste_1 : List UInt8 := dkwX0_paste_1 ++ dktX0_paste_2
def dkwX0_paste_0 : List UInt8 := [27, 184, 1, 79, 153, 0, 10, 29, 184, 1, 79, 154, 0, 6, 16, 254, 172, 42, 180, 0, 77, 27, 50]
abbrev dktX0_paste_0 : List UInt8 := dkwX0_paste_0 ++ dktX0_paste_1
theorem dksX0_paste_0 : cX0_paste.data.toList.drop 0 = dktX0_paste_0 := by decide +kernel
theorem dksX0_paste_1 : cX0_paste.data.toList.drop 23 = dktX0_paste_1 := dk_seg dksX0_paste_0 23 rfl rfl
theorem dksX0_paste_2 : cX0_paste.data.toList.drop 47 = dktX0_paste_2 := dk_seg dksX0_paste_1 24 rfl rfl
theorem dX0_paste_0 : decode cX0_paste 0 = .ok (.iload_n 1, 1) := dk_27 (dk_at dksX0_paste_0 0 rfl rfl)
theorem dX0_paste_1 : decode cX0_paste 1 = .ok (.invokestatic 335, 3) := dk_184 1 79 (dk_at dksX0_paste_0 1 rfl rfl)
theorem dX0_paste_4 : decode cX0_paste 4 = .ok (.ifCond .eq 10, 3) := dk_153 0 10 (dk_at dksX0_paste_0 4 rfl rfl)
theorem dX0_paste_7 : decode cX0_paste 7 = .ok (.iload_n 3, 1) := dk_29 (dk_at dksX0_paste_0 7 rfl rfl)
theorem dX0_paste_8 : decode cX0_paste 8 = .ok (.invokestatic 335, 3) := dk_184 1 79 (dk_at dksX0_paste_0 8 rfl rfl)
theorem dX0_paste_11 : decode cX0_paste 11 = .ok (.ifCond .ne 6, 3) := dk_154 0 6 (dk_at dksX0_paste_0 11 rfl rfl)
theorem dX0_paste_14 : decode cX0_paste 14 = .ok (.bipush (-2), 2) := dk_16 254 (dk_at dksX0_paste_0 14 rfl rfl)
theorem dX0_paste_16 : decode cX0_paste 16 = .ok (.ireturn, 1) := dk_172 (dk_at dksX0_paste_0 16 rfl rfl)
theorem dX0_paste_17 : decode cX0_paste 17 = .ok (.aload_n 0, 1) := dk_42 (dk_at dksX0_paste_0 17 rfl rfl)
theorem dX0_paste_18 : decode cX0_paste 18 = .ok (.getfield 77, 3) := dk_180 0 77 (dk_at dksX0_paste_0 18 rfl rfl)
theorem dX0_paste_21 : decode cX0_paste 21 = .ok (.iload_n 1, 1) := dk_27 (dk_at dksX0_paste_0 21 rfl rfl)
theorem dX0_paste_22 : decode cX0_paste 22 = .ok (.aaload, 1) := dk_50 (dk_at dksX0_paste_0 22 rfl rfl)
theorem dX0_paste_23 : decode cX0_paste 23 = .ok (.getfield 444, 3) := dk_180 1 188 (dk_at dksX0_paste_1 0 rfl rfl)
theorem dX0_paste_26 : decode cX0_paste 26 = .ok (.iload_n 2, 1) := dk_28 (dk_at dksX0_paste_1 3 rfl rfl)
theorem dX0_paste_27 : decode cX0_paste 27 = .ok (.aload_n 0, 1) := dk_42 (dk_at dksX0_paste_1 4 rfl rfl)
theorem dX0_paste_28 : decode cX0_paste 28 = .ok (.getfield 77, 3) := dk_180 0 77 (dk_at dksX0_paste_1 5 rfl rfl)
theorem dX0_paste_31 : decode cX0_paste 31 = .ok (.iload_n 3, 1) := dk_29 (dk_at dksX0_paste_1 8 rfl rfl)
theorem dX0_paste_32 : decode cX0_paste 32 = .ok (.aaload, 1) := dk_50 (dk_at dksX0_paste_1 9 rfl rfl)
theorem dX0_paste_33 : decode cX0_paste 33 = .ok (.getfield 444, 3) := dk_180 1 188 (dk_at dksX0_paste_1 10 rfl rfl)
theorem dX0_paste_36 : decode cX0_paste 36 = .ok (.iload 4, 2) := dk_21 4 (dk_at dksX0_paste_1 13 rfl rfl)
theorem dX0_paste_38 : decode cX0_paste 38 = .ok (.iload 5, 2) := dk_21 5 (dk_at dksX0_paste_1 15 rfl rfl)
theorem dX0_paste_40 : decode cX0_paste 40 = .ok (.invokestatic 193, 3) := dk_184 0 193 (dk_at dksX0_paste_1 17 rfl rfl)
theorem dX0_paste_43 : decode cX0_paste 43 = .ok (.iconst 0, 1) := dk_3 (dk_at dksX0_paste_1 20 rfl rfl)
theorem dX0_paste_44 : decode cX0_paste 44 = .ok (.ireturn, 1) := dk_172 (dk_at dksX0_paste_1 21 rfl rfl)
theorem dX0_paste_45 : decode cX0_paste 45 = .ok (.astore 6, 2) := dk_58 6 (dk_at dksX0_paste_1 22 rfl rfl)
theorem dX0_paste_47 : decode cX0_paste 47 = .ok (.bipush (-6), 2) := dk_16 250 (dk_at dksX0_paste_2 0 rfl rfl)
theorem dX0_paste_49 : decode cX0_paste 49 = .ok (.ireturn, 1) := dk_172 (dk_at dksX0_paste_2 2 rfl rfl)
theorem dX0_paste_50 : decode cX0_paste 50 = .ok (.astore 6, 2) := dk_58 6 (dk_at dksX0_paste_2 3 rfl rfl)
theorem dX0_paste_52 : decode cX0_paste 52 = .ok (.bipush (-8), 2) := dk_16 248 (dk_at dksX0_paste_2 5 rfl rfl)
theorem dX0_paste_54 : decode cX0_paste 54 = .ok (.ireturn, 1) := dk_172 (dk_at dksX0_paste_2 7 rfl rfl)
theorem dX0_paste_55 : decode cX0_paste 55 = .ok (.astore 6, 2) := dk_58 6 (dk_at dksX0_paste_2 8 rfl rfl)
theorem dX0_paste_57 : decode cX0_paste 57 = .ok (.bipush (-7), 2) := dk_16 249 (dk_at dksX0_paste_2 10 rfl rfl)
theorem dX0_paste_59 : decode cX0_paste 59 = .ok (.ireturn, 1) := dk_172 (dk_at dksX0_paste_2 12 rfl rfl)
theorem q126 : (Jvm.Cond.initialized "GallRegister") ∈ lw_all := lw_g (lw_at lw_m1 1 rfl) rfl
theorem q160 : (Jvm.Cond.instantiable "GallRegister" (32 : Nat)) ∈ lw_all := lw_g (lw_at lw_m1 35 rfl) rfl
theorem q162 : (Jvm.Cond.instanceMethod ({ cls := "GallRegister", name := "<init>", desc := "()V" } : Jvm.MethodName)) ∈ lw_all := lw_g (lw_at lw_m1 37 rfl) rfl
theorem q163 : (Jvm.Cond.code ({ cls := "GallRegister", name := "<init>", desc := "()V" } : Jvm.MethodName) prog_1_method_3_code (1 : Nat) (Option.none : Option Jvm.ClassFile.FieldType)) ∈ lw_all := lw_g (lw_at lw_m1 38 rfl) rfl
theorem q164 : (Jvm.Cond.methodLink "GallRegister" (1 : Nat) ({ cls := "java/lang/Object", name := "<init>", desc := "()V" } : Jvm.MethodName)) ∈ lw_all := lw_g (lw_at lw_m1 39 rfl) rfl
theorem q167 : (Jvm.Cond.classLink "GallRegister" (7 : Nat) "GallRegister$Book") ∈ lw_all := lw_g (lw_at lw_m1 42 rfl) rfl
theorem q169 : (Jvm.Cond.methodLinkNest "GallRegister" (9 : Nat) ({ cls := "GallRegister$Book", name := "<init>", desc := "()V" } : Jvm.MethodName) "GallRegister") ∈ lw_tbl := lw_at lw_m1 44 rfl
theorem q175 : (Jvm.Cond.fieldLinkNest "GallRegister" (133 : Nat) "GallRegister$Book" "years" "I" "GallRegister") ∈ lw_tbl := lw_at lw_m1 50 rfl
theorem q178 : (Jvm.Cond.fieldLinkNest "GallRegister" (188 : Nat) "GallRegister$Book" "law" "I" "GallRegister") ∈ lw_tbl := lw_at lw_m1 53 rfl
theorem q181 : (Jvm.Cond.fieldLinkNest "GallRegister" (410 : Nat) "GallRegister$Book" "odds" "I" "GallRegister") ∈ lw_tbl := lw_at lw_m1 56 rfl
theorem q183 : (Jvm.Cond.fieldLinkNest "GallRegister" (109 : Nat) "GallRegister$Book" "lines" "I" "GallRegister") ∈ lw_tbl := lw_at lw_m1 58 rfl
theorem q186 : (Jvm.Cond.fieldLinkNest "GallRegister" (120 : Nat) "GallRegister$Book" "inks" "I" "GallRegister") ∈ lw_tbl := lw_at lw_m1 61 rfl
theorem q189 : (Jvm.Cond.fieldLinkNest "GallRegister" (123 : Nat) "GallRegister$Book" "pages" "I" "GallRegister") ∈ lw_tbl := lw_at lw_m1 64 rfl
theorem q192 : (Jvm.Cond.fieldLinkNest "GallRegister" (126 : Nat) "GallRegister$Book" "entries" "I" "GallRegister") ∈ lw_tbl := lw_at lw_m1 67 rfl
theorem q195 : (Jvm.Cond.fieldLinkNest "GallRegister" (237 : Nat) "GallRegister$Book" "acts" "I" "GallRegister") ∈ lw_tbl := lw_at lw_m1 70 rfl
theorem q198 : (Jvm.Cond.fieldLinkNest "GallRegister" (160 : Nat) "GallRegister$Book" "damp" "I" "GallRegister") ∈ lw_tbl := lw_at lw_m1 73 rfl
theorem q201 : (Jvm.Cond.fieldLinkNest "GallRegister" (148 : Nat) "GallRegister$Book" "rise" "[I" "GallRegister") ∈ lw_tbl := lw_at lw_m1 76 rfl
theorem q204 : (Jvm.Cond.fieldLinkNest "GallRegister" (151 : Nat) "GallRegister$Book" "top" "[I" "GallRegister") ∈ lw_tbl := lw_at lw_m1 79 rfl
theorem q209 : (Jvm.Cond.fieldLinkNest "GallRegister" (154 : Nat) "GallRegister$Book" "fade" "[I" "GallRegister") ∈ lw_tbl := lw_at lw_m1 84 rfl
theorem q213 : (Jvm.Cond.fieldLinkNest "GallRegister" (167 : Nat) "GallRegister$Book" "page" "[I" "GallRegister") ∈ lw_tbl := lw_at lw_m1 88 rfl
theorem q216 : (Jvm.Cond.fieldLinkNest "GallRegister" (170 : Nat) "GallRegister$Book" "ink" "[I" "GallRegister") ∈ lw_tbl := lw_at lw_m1 91 rfl
theorem q219 : (Jvm.Cond.fieldLinkNest "GallRegister" (173 : Nat) "GallRegister$Book" "wrote" "[I" "GallRegister") ∈ lw_tbl := lw_at lw_m1 94 rfl
theorem q222 : (Jvm.Cond.fieldLinkNest "GallRegister" (176 : Nat) "GallRegister$Book" "says" "[I" "GallRegister") ∈ lw_tbl := lw_at lw_m1 97 rfl
theorem q224 : (Jvm.Cond.fieldLinkNest "GallRegister" (240 : Nat) "GallRegister$Book" "act" "[I" "GallRegister") ∈ lw_tbl := lw_at lw_m1 99 rfl
theorem q261 : (Jvm.Cond.classLink "GallRegister" (40 : Nat) "GallRegister$Fading") ∈ lw_all := lw_g (lw_at lw_m1 136 rfl) rfl
theorem q263 : (Jvm.Cond.methodLinkNest "GallRegister" (42 : Nat) ({ cls := "GallRegister$Fading", name := "<init>", desc := "(LGallRegister;)V" } : Jvm.MethodName) "GallRegister") ∈ lw_tbl := lw_at lw_m1 138 rfl
theorem q273 : (Jvm.Cond.classLink "GallRegister" (49 : Nat) "GallRegister$Damp") ∈ lw_all := lw_g (lw_at lw_m1 148 rfl) rfl
theorem q275 : (Jvm.Cond.methodLinkNest "GallRegister" (51 : Nat) ({ cls := "GallRegister$Damp", name := "<init>", desc := "(LGallRegister;)V" } : Jvm.MethodName) "GallRegister") ∈ lw_tbl := lw_at lw_m1 150 rfl
theorem q284 : (Jvm.Cond.classLink "GallRegister" (52 : Nat) "GallRegister$Printed") ∈ lw_all := lw_g (lw_at lw_m1 159 rfl) rfl
theorem q286 : (Jvm.Cond.methodLinkNest "GallRegister" (54 : Nat) ({ cls := "GallRegister$Printed", name := "<init>", desc := "(LGallRegister;)V" } : Jvm.MethodName) "GallRegister") ∈ lw_tbl := lw_at lw_m1 161 rfl
theorem q295 : (Jvm.Cond.classLink "GallRegister" (55 : Nat) "GallRegister$EvenYears") ∈ lw_all := lw_g (lw_at lw_m1 170 rfl) rfl
theorem q297 : (Jvm.Cond.methodLinkNest "GallRegister" (57 : Nat) ({ cls := "GallRegister$EvenYears", name := "<init>", desc := "(LGallRegister;)V" } : Jvm.MethodName) "GallRegister") ∈ lw_tbl := lw_at lw_m1 172 rfl
theorem q306 : (Jvm.Cond.classLink "GallRegister" (74 : Nat) "GallRegister$Slot") ∈ lw_all := lw_g (lw_at lw_m1 181 rfl) rfl
theorem q309 : (Jvm.Cond.methodLinkNest "GallRegister" (76 : Nat) ({ cls := "GallRegister$Slot", name := "<init>", desc := "()V" } : Jvm.MethodName) "GallRegister") ∈ lw_tbl := lw_at lw_m1 184 rfl
theorem q314 : (Jvm.Cond.fieldLinkNest "GallRegister" (444 : Nat) "GallRegister$Slot" "row" "Ljava/lang/Object;" "GallRegister") ∈ lw_tbl := lw_at lw_m1 189 rfl
theorem q318 : (Jvm.Cond.classLink "GallRegister" (81 : Nat) "java/util/ArrayList") ∈ lw_all := lw_g (lw_at lw_m1 193 rfl) rfl
theorem q320 : (Jvm.Cond.methodLink "GallRegister" (83 : Nat) ({ cls := "java/util/ArrayList", name := "<init>", desc := "()V" } : Jvm.MethodName)) ∈ lw_all := lw_g (lw_at lw_m1 195 rfl) rfl
theorem q346 : (Jvm.Cond.fieldLink "GallRegister" (10 : Nat) "GallRegister" "book" "LGallRegister$Book;") ∈ lw_all := lw_g (lw_at lw_m1 221 rfl) rfl
theorem q348 : (Jvm.Cond.fieldLink "GallRegister" (16 : Nat) "GallRegister" "tape" "[B") ∈ lw_all := lw_g (lw_at lw_m1 223 rfl) rfl
theorem q350 : (Jvm.Cond.fieldLink "GallRegister" (88 : Nat) "GallRegister" "taped" "I") ∈ lw_all := lw_g (lw_at lw_m1 225 rfl) rfl
theorem q351 : (Jvm.Cond.fieldLink "GallRegister" (106 : Nat) "GallRegister" "faultKind" "I") ∈ lw_all := lw_g (lw_at lw_m1 226 rfl) rfl
theorem q352 : (Jvm.Cond.fieldLink "GallRegister" (20 : Nat) "GallRegister" "faultPlace" "I") ∈ lw_all := lw_g (lw_at lw_m1 227 rfl) rfl
theorem q353 : (Jvm.Cond.fieldLink "GallRegister" (24 : Nat) "GallRegister" "wroteAt" "[I") ∈ lw_all := lw_g (lw_at lw_m1 228 rfl) rfl
theorem q354 : (Jvm.Cond.fieldLink "GallRegister" (28 : Nat) "GallRegister" "inkAt" "[I") ∈ lw_all := lw_g (lw_at lw_m1 229 rfl) rfl
theorem q356 : (Jvm.Cond.fieldLink "GallRegister" (199 : Nat) "GallRegister" "dampNow" "I") ∈ lw_all := lw_g (lw_at lw_m1 231 rfl) rfl
theorem q358 : (Jvm.Cond.fieldLink "GallRegister" (202 : Nat) "GallRegister" "wet" "I") ∈ lw_all := lw_g (lw_at lw_m1 233 rfl) rfl
theorem q359 : (Jvm.Cond.fieldLink "GallRegister" (205 : Nat) "GallRegister" "without" "I") ∈ lw_all := lw_g (lw_at lw_m1 234 rfl) rfl
theorem q360 : (Jvm.Cond.fieldLink "GallRegister" (208 : Nat) "GallRegister" "moreEntry" "I") ∈ lw_all := lw_g (lw_at lw_m1 235 rfl) rfl
theorem q361 : (Jvm.Cond.fieldLink "GallRegister" (211 : Nat) "GallRegister" "moreYear" "I") ∈ lw_all := lw_g (lw_at lw_m1 236 rfl) rfl
theorem q362 : (Jvm.Cond.fieldLink "GallRegister" (214 : Nat) "GallRegister" "moreTimes" "I") ∈ lw_all := lw_g (lw_at lw_m1 237 rfl) rfl
theorem q363 : (Jvm.Cond.fieldLink "GallRegister" (217 : Nat) "GallRegister" "isMoreRetraced" "Z") ∈ lw_all := lw_g (lw_at lw_m1 238 rfl) rfl
theorem q364 : (Jvm.Cond.fieldLink "GallRegister" (191 : Nat) "GallRegister" "law" "LGallRegister$Fading;") ∈ lw_all := lw_g (lw_at lw_m1 239 rfl) rfl
theorem q365 : (Jvm.Cond.fieldLink "GallRegister" (31 : Nat) "GallRegister" "now" "[I") ∈ lw_all := lw_g (lw_at lw_m2 0 rfl) rfl
theorem q367 : (Jvm.Cond.fieldLink "GallRegister" (34 : Nat) "GallRegister" "ahead" "[I") ∈ lw_all := lw_g (lw_at lw_m2 2 rfl) rfl
theorem q370 : (Jvm.Cond.fieldLink "GallRegister" (37 : Nat) "GallRegister" "inkNow" "[I") ∈ lw_all := lw_g (lw_at lw_m2 5 rfl) rfl
theorem q371 : (Jvm.Cond.fieldLink "GallRegister" (231 : Nat) "GallRegister" "risingNow" "I") ∈ lw_all := lw_g (lw_at lw_m2 6 rfl) rfl
theorem q372 : (Jvm.Cond.fieldLink "GallRegister" (45 : Nat) "GallRegister" "plain" "LGallRegister$Fading;") ∈ lw_all := lw_g (lw_at lw_m2 7 rfl) rfl
theorem q373 : (Jvm.Cond.fieldLink "GallRegister" (58 : Nat) "GallRegister" "laws" "[LGallRegister$Fading;") ∈ lw_all := lw_g (lw_at lw_m2 8 rfl) rfl
theorem q374 : (Jvm.Cond.fieldLink "GallRegister" (62 : Nat) "GallRegister" "shadeBy" "[I") ∈ lw_all := lw_g (lw_at lw_m2 9 rfl) rfl
theorem q375 : (Jvm.Cond.fieldLink "GallRegister" (65 : Nat) "GallRegister" "risingBy" "[I") ∈ lw_all := lw_g (lw_at lw_m2 10 rfl) rfl
theorem q376 : (Jvm.Cond.fieldLink "GallRegister" (68 : Nat) "GallRegister" "fit" "[I") ∈ lw_all := lw_g (lw_at lw_m2 11 rfl) rfl
theorem q377 : (Jvm.Cond.fieldLink "GallRegister" (71 : Nat) "GallRegister" "wasBy" "[I") ∈ lw_all := lw_g (lw_at lw_m2 12 rfl) rfl
theorem q378 : (Jvm.Cond.fieldLink "GallRegister" (349 : Nat) "GallRegister" "fitMany" "I") ∈ lw_all := lw_g (lw_at lw_m2 13 rfl) rfl
theorem q379 : (Jvm.Cond.fieldLink "GallRegister" (358 : Nat) "GallRegister" "askWorst" "I") ∈ lw_all := lw_g (lw_at lw_m2 14 rfl) rfl
theorem q380 : (Jvm.Cond.fieldLink "GallRegister" (400 : Nat) "GallRegister" "oftenAll" "J") ∈ lw_all := lw_g (lw_at lw_m2 15 rfl) rfl
theorem q381 : (Jvm.Cond.fieldLink "GallRegister" (404 : Nat) "GallRegister" "oftenDark" "J") ∈ lw_all := lw_g (lw_at lw_m2 16 rfl) rfl
theorem q382 : (Jvm.Cond.fieldLink "GallRegister" (407 : Nat) "GallRegister" "oftenSum" "J") ∈ lw_all := lw_g (lw_at lw_m2 17 rfl) rfl
theorem q383 : (Jvm.Cond.fieldLink "GallRegister" (77 : Nat) "GallRegister" "slots" "[LGallRegister$Slot;") ∈ lw_all := lw_g (lw_at lw_m2 18 rfl) rfl
theorem q384 : (Jvm.Cond.fieldLink "GallRegister" (84 : Nat) "GallRegister" "images" "Ljava/util/ArrayList;") ∈ lw_all := lw_g (lw_at lw_m2 19 rfl) rfl
theorem q385 : (Jvm.Cond.lays "GallRegister" "GallRegister" "book" "LGallRegister$Book;") ∈ lw_all := lw_g (lw_at lw_m2 20 rfl) rfl
theorem q386 : (Jvm.Cond.soleField "GallRegister" "book") ∈ lw_all := lw_g (lw_at lw_m2 21 rfl) rfl
theorem q387 : (Jvm.Cond.laysFinal "GallRegister" "GallRegister" "tape" "[B") ∈ lw_all := lw_g (lw_at lw_m2 22 rfl) rfl
theorem q388 : (Jvm.Cond.soleField "GallRegister" "tape") ∈ lw_all := lw_g (lw_at lw_m2 23 rfl) rfl
theorem q389 : (Jvm.Cond.lays "GallRegister" "GallRegister" "taped" "I") ∈ lw_all := lw_g (lw_at lw_m2 24 rfl) rfl
theorem q390 : (Jvm.Cond.soleField "GallRegister" "taped") ∈ lw_all := lw_g (lw_at lw_m2 25 rfl) rfl
theorem q391 : (Jvm.Cond.lays "GallRegister" "GallRegister" "faultKind" "I") ∈ lw_all := lw_g (lw_at lw_m2 26 rfl) rfl
theorem q392 : (Jvm.Cond.soleField "GallRegister" "faultKind") ∈ lw_all := lw_g (lw_at lw_m2 27 rfl) rfl
theorem q393 : (Jvm.Cond.lays "GallRegister" "GallRegister" "faultPlace" "I") ∈ lw_all := lw_g (lw_at lw_m2 28 rfl) rfl
theorem q394 : (Jvm.Cond.soleField "GallRegister" "faultPlace") ∈ lw_all := lw_g (lw_at lw_m2 29 rfl) rfl
theorem q395 : (Jvm.Cond.laysFinal "GallRegister" "GallRegister" "wroteAt" "[I") ∈ lw_all := lw_g (lw_at lw_m2 30 rfl) rfl
theorem q396 : (Jvm.Cond.soleField "GallRegister" "wroteAt") ∈ lw_all := lw_g (lw_at lw_m2 31 rfl) rfl
theorem q397 : (Jvm.Cond.laysFinal "GallRegister" "GallRegister" "inkAt" "[I") ∈ lw_all := lw_g (lw_at lw_m2 32 rfl) rfl
theorem q398 : (Jvm.Cond.soleField "GallRegister" "inkAt") ∈ lw_all := lw_g (lw_at lw_m2 33 rfl) rfl
theorem q399 : (Jvm.Cond.lays "GallRegister" "GallRegister" "dampNow" "I") ∈ lw_all := lw_g (lw_at lw_m2 34 rfl) rfl
theorem q400 : (Jvm.Cond.soleField "GallRegister" "dampNow") ∈ lw_all := lw_g (lw_at lw_m2 35 rfl) rfl
theorem q401 : (Jvm.Cond.lays "GallRegister" "GallRegister" "wet" "I") ∈ lw_all := lw_g (lw_at lw_m2 36 rfl) rfl
theorem q402 : (Jvm.Cond.soleField "GallRegister" "wet") ∈ lw_all := lw_g (lw_at lw_m2 37 rfl) rfl
theorem q403 : (Jvm.Cond.lays "GallRegister" "GallRegister" "without" "I") ∈ lw_all := lw_g (lw_at lw_m2 38 rfl) rfl
theorem q404 : (Jvm.Cond.soleField "GallRegister" "without") ∈ lw_all := lw_g (lw_at lw_m2 39 rfl) rfl
theorem q405 : (Jvm.Cond.lays "GallRegister" "GallRegister" "moreEntry" "I") ∈ lw_all := lw_g (lw_at lw_m2 40 rfl) rfl
theorem q406 : (Jvm.Cond.soleField "GallRegister" "moreEntry") ∈ lw_all := lw_g (lw_at lw_m2 41 rfl) rfl
theorem q407 : (Jvm.Cond.lays "GallRegister" "GallRegister" "moreYear" "I") ∈ lw_all := lw_g (lw_at lw_m2 42 rfl) rfl
theorem q408 : (Jvm.Cond.soleField "GallRegister" "moreYear") ∈ lw_all := lw_g (lw_at lw_m2 43 rfl) rfl
theorem q409 : (Jvm.Cond.lays "GallRegister" "GallRegister" "moreTimes" "I") ∈ lw_all := lw_g (lw_at lw_m2 44 rfl) rfl
theorem q410 : (Jvm.Cond.soleField "GallRegister" "moreTimes") ∈ lw_all := lw_g (lw_at lw_m2 45 rfl) rfl
theorem q411 : (Jvm.Cond.lays "GallRegister" "GallRegister" "isMoreRetraced" "Z") ∈ lw_all := lw_g (lw_at lw_m2 46 rfl) rfl
theorem q412 : (Jvm.Cond.soleField "GallRegister" "isMoreRetraced") ∈ lw_all := lw_g (lw_at lw_m2 47 rfl) rfl
theorem q413 : (Jvm.Cond.lays "GallRegister" "GallRegister" "law" "LGallRegister$Fading;") ∈ lw_all := lw_g (lw_at lw_m2 48 rfl) rfl
theorem q414 : (Jvm.Cond.soleField "GallRegister" "law") ∈ lw_all := lw_g (lw_at lw_m2 49 rfl) rfl
theorem q415 : (Jvm.Cond.laysFinal "GallRegister" "GallRegister" "now" "[I") ∈ lw_all := lw_g (lw_at lw_m2 50 rfl) rfl
theorem q416 : (Jvm.Cond.soleField "GallRegister" "now") ∈ lw_all := lw_g (lw_at lw_m2 51 rfl) rfl
theorem q417 : (Jvm.Cond.laysFinal "GallRegister" "GallRegister" "ahead" "[I") ∈ lw_all := lw_g (lw_at lw_m2 52 rfl) rfl
theorem q418 : (Jvm.Cond.soleField "GallRegister" "ahead") ∈ lw_all := lw_g (lw_at lw_m2 53 rfl) rfl
theorem q419 : (Jvm.Cond.laysFinal "GallRegister" "GallRegister" "inkNow" "[I") ∈ lw_all := lw_g (lw_at lw_m2 54 rfl) rfl
theorem q420 : (Jvm.Cond.soleField "GallRegister" "inkNow") ∈ lw_all := lw_g (lw_at lw_m2 55 rfl) rfl
theorem q421 : (Jvm.Cond.lays "GallRegister" "GallRegister" "risingNow" "I") ∈ lw_all := lw_g (lw_at lw_m2 56 rfl) rfl
theorem q422 : (Jvm.Cond.soleField "GallRegister" "risingNow") ∈ lw_all := lw_g (lw_at lw_m2 57 rfl) rfl
theorem q423 : (Jvm.Cond.laysFinal "GallRegister" "GallRegister" "plain" "LGallRegister$Fading;") ∈ lw_all := lw_g (lw_at lw_m2 58 rfl) rfl
theorem q424 : (Jvm.Cond.soleField "GallRegister" "plain") ∈ lw_all := lw_g (lw_at lw_m2 59 rfl) rfl
theorem q425 : (Jvm.Cond.laysFinal "GallRegister" "GallRegister" "laws" "[LGallRegister$Fading;") ∈ lw_all := lw_g (lw_at lw_m2 60 rfl) rfl
theorem q426 : (Jvm.Cond.soleField "GallRegister" "laws") ∈ lw_all := lw_g (lw_at lw_m2 61 rfl) rfl
theorem q427 : (Jvm.Cond.laysFinal "GallRegister" "GallRegister" "shadeBy" "[I") ∈ lw_all := lw_g (lw_at lw_m2 62 rfl) rfl
theorem q428 : (Jvm.Cond.soleField "GallRegister" "shadeBy") ∈ lw_all := lw_g (lw_at lw_m2 63 rfl) rfl
theorem q429 : (Jvm.Cond.laysFinal "GallRegister" "GallRegister" "risingBy" "[I") ∈ lw_all := lw_g (lw_at lw_m2 64 rfl) rfl
theorem q430 : (Jvm.Cond.soleField "GallRegister" "risingBy") ∈ lw_all := lw_g (lw_at lw_m2 65 rfl) rfl
theorem q431 : (Jvm.Cond.laysFinal "GallRegister" "GallRegister" "fit" "[I") ∈ lw_all := lw_g (lw_at lw_m2 66 rfl) rfl
theorem q432 : (Jvm.Cond.soleField "GallRegister" "fit") ∈ lw_all := lw_g (lw_at lw_m2 67 rfl) rfl
theorem q433 : (Jvm.Cond.laysFinal "GallRegister" "GallRegister" "wasBy" "[I") ∈ lw_all := lw_g (lw_at lw_m2 68 rfl) rfl
theorem q434 : (Jvm.Cond.soleField "GallRegister" "wasBy") ∈ lw_all := lw_g (lw_at lw_m2 69 rfl) rfl
theorem q435 : (Jvm.Cond.lays "GallRegister" "GallRegister" "fitMany" "I") ∈ lw_all := lw_g (lw_at lw_m2 70 rfl) rfl
theorem q436 : (Jvm.Cond.soleField "GallRegister" "fitMany") ∈ lw_all := lw_g (lw_at lw_m2 71 rfl) rfl
theorem q437 : (Jvm.Cond.lays "GallRegister" "GallRegister" "askWorst" "I") ∈ lw_all := lw_g (lw_at lw_m2 72 rfl) rfl
theorem q438 : (Jvm.Cond.soleField "GallRegister" "askWorst") ∈ lw_all := lw_g (lw_at lw_m2 73 rfl) rfl
theorem q439 : (Jvm.Cond.lays "GallRegister" "GallRegister" "oftenAll" "J") ∈ lw_all := lw_g (lw_at lw_m2 74 rfl) rfl
theorem q440 : (Jvm.Cond.soleField "GallRegister" "oftenAll") ∈ lw_all := lw_g (lw_at lw_m2 75 rfl) rfl
theorem q441 : (Jvm.Cond.lays "GallRegister" "GallRegister" "oftenDark" "J") ∈ lw_all := lw_g (lw_at lw_m2 76 rfl) rfl
theorem q442 : (Jvm.Cond.soleField "GallRegister" "oftenDark") ∈ lw_all := lw_g (lw_at lw_m2 77 rfl) rfl
theorem q443 : (Jvm.Cond.lays "GallRegister" "GallRegister" "oftenSum" "J") ∈ lw_all := lw_g (lw_at lw_m2 78 rfl) rfl
theorem q444 : (Jvm.Cond.soleField "GallRegister" "oftenSum") ∈ lw_all := lw_g (lw_at lw_m2 79 rfl) rfl
theorem q445 : (Jvm.Cond.laysFinal "GallRegister" "GallRegister" "slots" "[LGallRegister$Slot;") ∈ lw_all := lw_g (lw_at lw_m2 80 rfl) rfl
theorem q446 : (Jvm.Cond.soleField "GallRegister" "slots") ∈ lw_all := lw_g (lw_at lw_m2 81 rfl) rfl
theorem q447 : (Jvm.Cond.laysFinal "GallRegister" "GallRegister" "images" "Ljava/util/ArrayList;") ∈ lw_all := lw_g (lw_at lw_m2 82 rfl) rfl
theorem q448 : (Jvm.Cond.soleField "GallRegister" "images") ∈ lw_all := lw_g (lw_at lw_m2 83 rfl) rfl
theorem q449 : (Jvm.Cond.superclass "GallRegister" "java/lang/Object") ∈ lw_all := lw_g (lw_at lw_m2 84 rfl) rfl
theorem q451 : (Jvm.Cond.instanceMethod ({ cls := "GallRegister", name := "feed", desc := "(IIIII)I" } : Jvm.MethodName)) ∈ lw_all := lw_g (lw_at lw_m2 86 rfl) rfl
theorem q452 : (Jvm.Cond.selects "GallRegister" ({ cls := "GallRegister", name := "feed", desc := "(IIIII)I" } : Jvm.MethodName) ({ cls := "GallRegister", name := "feed", desc := "(IIIII)I" } : Jvm.MethodName)) ∈ lw_all := lw_g (lw_at lw_m2 87 rfl) rfl
theorem q453 : (Jvm.Cond.code ({ cls := "GallRegister", name := "feed", desc := "(IIIII)I" } : Jvm.MethodName) prog_1_method_5_code (6 : Nat) (Option.some Jvm.ClassFile.FieldType.int)) ∈ lw_all := lw_g (lw_at lw_m2 88 rfl) rfl
theorem q454 : (Jvm.Cond.methodLink "GallRegister" (91 : Nat) ({ cls := "GallRegister", name := "puts", desc := "(I)V" } : Jvm.MethodName)) ∈ lw_all := lw_g (lw_at lw_m2 89 rfl) rfl
theorem q455 : (Jvm.Cond.privateMethod ({ cls := "GallRegister", name := "puts", desc := "(I)V" } : Jvm.MethodName)) ∈ lw_tbl := lw_at lw_m2 90 rfl
theorem q456 : (Jvm.Cond.instanceMethod ({ cls := "GallRegister", name := "puts", desc := "(I)V" } : Jvm.MethodName)) ∈ lw_all := lw_g (lw_at lw_m2 91 rfl) rfl
theorem q457 : (Jvm.Cond.code ({ cls := "GallRegister", name := "puts", desc := "(I)V" } : Jvm.MethodName) prog_1_method_4_code (3 : Nat) (Option.none : Option Jvm.ClassFile.FieldType)) ∈ lw_all := lw_g (lw_at lw_m2 92 rfl) rfl
theorem q459 : (Jvm.Cond.instanceMethod ({ cls := "GallRegister", name := "end", desc := "(I)I" } : Jvm.MethodName)) ∈ lw_all := lw_g (lw_at lw_m2 94 rfl) rfl
theorem q460 : (Jvm.Cond.selects "GallRegister" ({ cls := "GallRegister", name := "end", desc := "(I)I" } : Jvm.MethodName) ({ cls := "GallRegister", name := "end", desc := "(I)I" } : Jvm.MethodName)) ∈ lw_all := lw_g (lw_at lw_m2 95 rfl) rfl
theorem q461 : (Jvm.Cond.code ({ cls := "GallRegister", name := "end", desc := "(I)I" } : Jvm.MethodName) prog_1_method_6_code (2 : Nat) (Option.some Jvm.ClassFile.FieldType.int)) ∈ lw_all := lw_g (lw_at lw_m2 96 rfl) rfl
theorem q462 : (Jvm.Cond.methodLink "GallRegister" (95 : Nat) ({ cls := "GallRegister", name := "isIn", desc := "(JJJ)Z" } : Jvm.MethodName)) ∈ lw_all := lw_g (lw_at lw_m2 97 rfl) rfl
theorem q463 : (Jvm.Cond.static ({ cls := "GallRegister", name := "isIn", desc := "(JJJ)Z" } : Jvm.MethodName)) ∈ lw_all := lw_g (lw_at lw_m2 98 rfl) rfl
theorem q464 : (Jvm.Cond.code ({ cls := "GallRegister", name := "isIn", desc := "(JJJ)Z" } : Jvm.MethodName) prog_1_method_1_code (6 : Nat) (Option.some Jvm.ClassFile.FieldType.boolean)) ∈ lw_all := lw_g (lw_at lw_m2 99 rfl) rfl
theorem q466 : (Jvm.Cond.instanceMethod ({ cls := "GallRegister", name := "book", desc := "()I" } : Jvm.MethodName)) ∈ lw_all := lw_g (lw_at lw_m2 101 rfl) rfl
theorem q467 : (Jvm.Cond.selects "GallRegister" ({ cls := "GallRegister", name := "book", desc := "()I" } : Jvm.MethodName) ({ cls := "GallRegister", name := "book", desc := "()I" } : Jvm.MethodName)) ∈ lw_all := lw_g (lw_at lw_m2 102 rfl) rfl
theorem q468 : (Jvm.Cond.codeWith ({ cls := "GallRegister", name := "book", desc := "()I" } : Jvm.MethodName) prog_1_method_7_code (4 : Nat) (Option.some Jvm.ClassFile.FieldType.int) [((0 : Nat), (33 : Nat), (40 : Nat), (112 : Nat)), ((0 : Nat), (33 : Nat), (67 : Nat), (0 : Nat)), ((40 : Nat), (60 : Nat), (67 : Nat), (0 : Nat))]) ∈ lw_all := lw_g (lw_at lw_m2 103 rfl) rfl
theorem q469 : (Jvm.Cond.classLink "GallRegister" (112 : Nat) "GallRegister$Fault") ∈ lw_all := lw_g (lw_at lw_m2 104 rfl) rfl
theorem q470 : (Jvm.Cond.classLink "GallRegister" (99 : Nat) "GallRegister$Reader") ∈ lw_all := lw_g (lw_at lw_m2 105 rfl) rfl
theorem q472 : (Jvm.Cond.methodLink "GallRegister" (101 : Nat) ({ cls := "GallRegister$Reader", name := "<init>", desc := "(LGallRegister;)V" } : Jvm.MethodName)) ∈ lw_all := lw_g (lw_at lw_m2 107 rfl) rfl
theorem q523 : (Jvm.Cond.methodLink "GallRegister" (102 : Nat) ({ cls := "GallRegister$Reader", name := "whole", desc := "()LGallRegister$Book;" } : Jvm.MethodName)) ∈ lw_all := lw_g (lw_at lw_m2 158 rfl) rfl
theorem q660 : (Jvm.Cond.fieldLinkNest "GallRegister" (114 : Nat) "GallRegister$Fault" "kind" "I" "GallRegister") ∈ lw_tbl := lw_at lw_m3 55 rfl
theorem q662 : (Jvm.Cond.fieldLinkNest "GallRegister" (117 : Nat) "GallRegister$Fault" "place" "I" "GallRegister") ∈ lw_tbl := lw_at lw_m3 57 rfl
theorem q723 : (Jvm.Cond.instanceMethod ({ cls := "GallRegister", name := "fault", desc := "(I)I" } : Jvm.MethodName)) ∈ lw_all := lw_g (lw_at lw_m3 118 rfl) rfl
theorem q724 : (Jvm.Cond.selects "GallRegister" ({ cls := "GallRegister", name := "fault", desc := "(I)I" } : Jvm.MethodName) ({ cls := "GallRegister", name := "fault", desc := "(I)I" } : Jvm.MethodName)) ∈ lw_all := lw_g (lw_at lw_m3 119 rfl) rfl
theorem q725 : (Jvm.Cond.code ({ cls := "GallRegister", name := "fault", desc := "(I)I" } : Jvm.MethodName) prog_1_method_8_code (2 : Nat) (Option.some Jvm.ClassFile.FieldType.int)) ∈ lw_all := lw_g (lw_at lw_m3 120 rfl) rfl
theorem q727 : (Jvm.Cond.instanceMethod ({ cls := "GallRegister", name := "ink", desc := "(II)I" } : Jvm.MethodName)) ∈ lw_all := lw_g (lw_at lw_m3 122 rfl) rfl
theorem q728 : (Jvm.Cond.selects "GallRegister" ({ cls := "GallRegister", name := "ink", desc := "(II)I" } : Jvm.MethodName) ({ cls := "GallRegister", name := "ink", desc := "(II)I" } : Jvm.MethodName)) ∈ lw_all := lw_g (lw_at lw_m3 123 rfl) rfl
theorem q729 : (Jvm.Cond.code ({ cls := "GallRegister", name := "ink", desc := "(II)I" } : Jvm.MethodName) prog_1_method_18_code (3 : Nat) (Option.some Jvm.ClassFile.FieldType.int)) ∈ lw_all := lw_g (lw_at lw_m3 124 rfl) rfl
theorem q730 : (Jvm.Cond.methodLink "GallRegister" (140 : Nat) ({ cls := "GallRegister", name := "isInk", desc := "(I)Z" } : Jvm.MethodName)) ∈ lw_all := lw_g (lw_at lw_m3 125 rfl) rfl
theorem q731 : (Jvm.Cond.privateMethod ({ cls := "GallRegister", name := "isInk", desc := "(I)Z" } : Jvm.MethodName)) ∈ lw_tbl := lw_at lw_m3 126 rfl
theorem q732 : (Jvm.Cond.instanceMethod ({ cls := "GallRegister", name := "isInk", desc := "(I)Z" } : Jvm.MethodName)) ∈ lw_all := lw_g (lw_at lw_m3 127 rfl) rfl
theorem q733 : (Jvm.Cond.code ({ cls := "GallRegister", name := "isInk", desc := "(I)Z" } : Jvm.MethodName) prog_1_method_10_code (2 : Nat) (Option.some Jvm.ClassFile.FieldType.boolean)) ∈ lw_all := lw_g (lw_at lw_m3 128 rfl) rfl
theorem q734 : (Jvm.Cond.methodLink "GallRegister" (144 : Nat) ({ cls := "GallRegister", name := "isOneOf", desc := "(II)Z" } : Jvm.MethodName)) ∈ lw_all := lw_g (lw_at lw_m3 129 rfl) rfl
theorem q735 : (Jvm.Cond.static ({ cls := "GallRegister", name := "isOneOf", desc := "(II)Z" } : Jvm.MethodName)) ∈ lw_all := lw_g (lw_at lw_m3 130 rfl) rfl
theorem q736 : (Jvm.Cond.code ({ cls := "GallRegister", name := "isOneOf", desc := "(II)Z" } : Jvm.MethodName) prog_1_method_15_code (2 : Nat) (Option.some Jvm.ClassFile.FieldType.boolean)) ∈ lw_all := lw_g (lw_at lw_m3 131 rfl) rfl
theorem q738 : (Jvm.Cond.instanceMethod ({ cls := "GallRegister", name := "page", desc := "(I)I" } : Jvm.MethodName)) ∈ lw_all := lw_g (lw_at lw_m3 133 rfl) rfl
theorem q739 : (Jvm.Cond.selects "GallRegister" ({ cls := "GallRegister", name := "page", desc := "(I)I" } : Jvm.MethodName) ({ cls := "GallRegister", name := "page", desc := "(I)I" } : Jvm.MethodName)) ∈ lw_all := lw_g (lw_at lw_m3 134 rfl) rfl
theorem q740 : (Jvm.Cond.code ({ cls := "GallRegister", name := "page", desc := "(I)I" } : Jvm.MethodName) prog_1_method_19_code (2 : Nat) (Option.some Jvm.ClassFile.FieldType.int)) ∈ lw_all := lw_g (lw_at lw_m3 135 rfl) rfl
theorem q741 : (Jvm.Cond.methodLink "GallRegister" (157 : Nat) ({ cls := "GallRegister", name := "isPage", desc := "(I)Z" } : Jvm.MethodName)) ∈ lw_all := lw_g (lw_at lw_m3 136 rfl) rfl
theorem q742 : (Jvm.Cond.privateMethod ({ cls := "GallRegister", name := "isPage", desc := "(I)Z" } : Jvm.MethodName)) ∈ lw_tbl := lw_at lw_m3 137 rfl
theorem q743 : (Jvm.Cond.instanceMethod ({ cls := "GallRegister", name := "isPage", desc := "(I)Z" } : Jvm.MethodName)) ∈ lw_all := lw_g (lw_at lw_m3 138 rfl) rfl
theorem q744 : (Jvm.Cond.code ({ cls := "GallRegister", name := "isPage", desc := "(I)Z" } : Jvm.MethodName) prog_1_method_11_code (2 : Nat) (Option.some Jvm.ClassFile.FieldType.boolean)) ∈ lw_all := lw_g (lw_at lw_m3 139 rfl) rfl
theorem q746 : (Jvm.Cond.instanceMethod ({ cls := "GallRegister", name := "entry", desc := "(II)I" } : Jvm.MethodName)) ∈ lw_all := lw_g (lw_at lw_m3 141 rfl) rfl
theorem q747 : (Jvm.Cond.selects "GallRegister" ({ cls := "GallRegister", name := "entry", desc := "(II)I" } : Jvm.MethodName) ({ cls := "GallRegister", name := "entry", desc := "(II)I" } : Jvm.MethodName)) ∈ lw_all := lw_g (lw_at lw_m3 142 rfl) rfl
theorem q748 : (Jvm.Cond.code ({ cls := "GallRegister", name := "entry", desc := "(II)I" } : Jvm.MethodName) prog_1_method_20_code (3 : Nat) (Option.some Jvm.ClassFile.FieldType.int)) ∈ lw_all := lw_g (lw_at lw_m3 143 rfl) rfl
theorem q749 : (Jvm.Cond.methodLink "GallRegister" (163 : Nat) ({ cls := "GallRegister", name := "isEntry", desc := "(J)Z" } : Jvm.MethodName)) ∈ lw_all := lw_g (lw_at lw_m3 144 rfl) rfl
theorem q750 : (Jvm.Cond.privateMethod ({ cls := "GallRegister", name := "isEntry", desc := "(J)Z" } : Jvm.MethodName)) ∈ lw_tbl := lw_at lw_m3 145 rfl
theorem q751 : (Jvm.Cond.instanceMethod ({ cls := "GallRegister", name := "isEntry", desc := "(J)Z" } : Jvm.MethodName)) ∈ lw_all := lw_g (lw_at lw_m3 146 rfl) rfl
theorem q752 : (Jvm.Cond.code ({ cls := "GallRegister", name := "isEntry", desc := "(J)Z" } : Jvm.MethodName) prog_1_method_12_code (3 : Nat) (Option.some Jvm.ClassFile.FieldType.boolean)) ∈ lw_all := lw_g (lw_at lw_m3 147 rfl) rfl
theorem q753 : (Jvm.Cond.methodLink "GallRegister" (179 : Nat) ({ cls := "GallRegister$Book", name := "place", desc := "(I)I" } : Jvm.MethodName)) ∈ lw_all := lw_g (lw_at lw_m3 148 rfl) rfl
theorem q758 : (Jvm.Cond.instanceMethod ({ cls := "GallRegister", name := "on", desc := "(I)I" } : Jvm.MethodName)) ∈ lw_all := lw_g (lw_at lw_m3 153 rfl) rfl
theorem q759 : (Jvm.Cond.selects "GallRegister" ({ cls := "GallRegister", name := "on", desc := "(I)I" } : Jvm.MethodName) ({ cls := "GallRegister", name := "on", desc := "(I)I" } : Jvm.MethodName)) ∈ lw_all := lw_g (lw_at lw_m3 154 rfl) rfl
theorem q760 : (Jvm.Cond.code ({ cls := "GallRegister", name := "on", desc := "(I)I" } : Jvm.MethodName) prog_1_method_22_code (2 : Nat) (Option.some Jvm.ClassFile.FieldType.int)) ∈ lw_all := lw_g (lw_at lw_m3 155 rfl) rfl
theorem q761 : (Jvm.Cond.methodLink "GallRegister" (182 : Nat) ({ cls := "GallRegister", name := "onPage", desc := "(I)I" } : Jvm.MethodName)) ∈ lw_all := lw_g (lw_at lw_m3 156 rfl) rfl
theorem q762 : (Jvm.Cond.privateMethod ({ cls := "GallRegister", name := "onPage", desc := "(I)I" } : Jvm.MethodName)) ∈ lw_tbl := lw_at lw_m3 157 rfl
theorem q763 : (Jvm.Cond.instanceMethod ({ cls := "GallRegister", name := "onPage", desc := "(I)I" } : Jvm.MethodName)) ∈ lw_all := lw_g (lw_at lw_m3 158 rfl) rfl
theorem q764 : (Jvm.Cond.code ({ cls := "GallRegister", name := "onPage", desc := "(I)I" } : Jvm.MethodName) prog_1_method_21_code (4 : Nat) (Option.some Jvm.ClassFile.FieldType.int)) ∈ lw_all := lw_g (lw_at lw_m3 159 rfl) rfl
theorem q766 : (Jvm.Cond.instanceMethod ({ cls := "GallRegister", name := "faces", desc := "(I)I" } : Jvm.MethodName)) ∈ lw_all := lw_g (lw_at lw_m3 161 rfl) rfl
theorem q767 : (Jvm.Cond.selects "GallRegister" ({ cls := "GallRegister", name := "faces", desc := "(I)I" } : Jvm.MethodName) ({ cls := "GallRegister", name := "faces", desc := "(I)I" } : Jvm.MethodName)) ∈ lw_all := lw_g (lw_at lw_m3 162 rfl) rfl
theorem q768 : (Jvm.Cond.code ({ cls := "GallRegister", name := "faces", desc := "(I)I" } : Jvm.MethodName) prog_1_method_24_code (2 : Nat) (Option.some Jvm.ClassFile.FieldType.int)) ∈ lw_all := lw_g (lw_at lw_m3 163 rfl) rfl
theorem q769 : (Jvm.Cond.methodLink "GallRegister" (185 : Nat) ({ cls := "GallRegister", name := "facing", desc := "(I)I" } : Jvm.MethodName)) ∈ lw_all := lw_g (lw_at lw_m3 164 rfl) rfl
theorem q770 : (Jvm.Cond.privateMethod ({ cls := "GallRegister", name := "facing", desc := "(I)I" } : Jvm.MethodName)) ∈ lw_tbl := lw_at lw_m3 165 rfl
theorem q771 : (Jvm.Cond.instanceMethod ({ cls := "GallRegister", name := "facing", desc := "(I)I" } : Jvm.MethodName)) ∈ lw_all := lw_g (lw_at lw_m3 166 rfl) rfl
theorem q772 : (Jvm.Cond.code ({ cls := "GallRegister", name := "facing", desc := "(I)I" } : Jvm.MethodName) prog_1_method_23_code (3 : Nat) (Option.some Jvm.ClassFile.FieldType.int)) ∈ lw_all := lw_g (lw_at lw_m3 167 rfl) rfl
theorem q774 : (Jvm.Cond.instanceMethod ({ cls := "GallRegister", name := "there", desc := "(I)I" } : Jvm.MethodName)) ∈ lw_all := lw_g (lw_at lw_m3 169 rfl) rfl
theorem q775 : (Jvm.Cond.selects "GallRegister" ({ cls := "GallRegister", name := "there", desc := "(I)I" } : Jvm.MethodName) ({ cls := "GallRegister", name := "there", desc := "(I)I" } : Jvm.MethodName)) ∈ lw_all := lw_g (lw_at lw_m3 170 rfl) rfl
theorem q776 : (Jvm.Cond.code ({ cls := "GallRegister", name := "there", desc := "(I)I" } : Jvm.MethodName) prog_1_method_39_code (2 : Nat) (Option.some Jvm.ClassFile.FieldType.int)) ∈ lw_all := lw_g (lw_at lw_m3 171 rfl) rfl
theorem q777 : (Jvm.Cond.methodLink "GallRegister" (283 : Nat) ({ cls := "GallRegister", name := "asksYear", desc := "(I)Z" } : Jvm.MethodName)) ∈ lw_all := lw_g (lw_at lw_m3 172 rfl) rfl
theorem q778 : (Jvm.Cond.privateMethod ({ cls := "GallRegister", name := "asksYear", desc := "(I)Z" } : Jvm.MethodName)) ∈ lw_tbl := lw_at lw_m3 173 rfl
theorem q779 : (Jvm.Cond.instanceMethod ({ cls := "GallRegister", name := "asksYear", desc := "(I)Z" } : Jvm.MethodName)) ∈ lw_all := lw_g (lw_at lw_m3 174 rfl) rfl
theorem q780 : (Jvm.Cond.code ({ cls := "GallRegister", name := "asksYear", desc := "(I)Z" } : Jvm.MethodName) prog_1_method_34_code (2 : Nat) (Option.some Jvm.ClassFile.FieldType.boolean)) ∈ lw_all := lw_g (lw_at lw_m3 175 rfl) rfl
theorem q781 : (Jvm.Cond.methodLink "GallRegister" (274 : Nat) ({ cls := "GallRegister", name := "asksBook", desc := "()Z" } : Jvm.MethodName)) ∈ lw_all := lw_g (lw_at lw_m3 176 rfl) rfl
theorem q782 : (Jvm.Cond.privateMethod ({ cls := "GallRegister", name := "asksBook", desc := "()Z" } : Jvm.MethodName)) ∈ lw_tbl := lw_at lw_m3 177 rfl
theorem q783 : (Jvm.Cond.instanceMethod ({ cls := "GallRegister", name := "asksBook", desc := "()Z" } : Jvm.MethodName)) ∈ lw_all := lw_g (lw_at lw_m3 178 rfl) rfl
theorem q784 : (Jvm.Cond.code ({ cls := "GallRegister", name := "asksBook", desc := "()Z" } : Jvm.MethodName) prog_1_method_33_code (1 : Nat) (Option.some Jvm.ClassFile.FieldType.boolean)) ∈ lw_all := lw_g (lw_at lw_m3 179 rfl) rfl
theorem q785 : (Jvm.Cond.methodLink "GallRegister" (268 : Nat) ({ cls := "GallRegister", name := "asItIs", desc := "()V" } : Jvm.MethodName)) ∈ lw_all := lw_g (lw_at lw_m3 180 rfl) rfl
theorem q786 : (Jvm.Cond.privateMethod ({ cls := "GallRegister", name := "asItIs", desc := "()V" } : Jvm.MethodName)) ∈ lw_tbl := lw_at lw_m3 181 rfl
theorem q787 : (Jvm.Cond.instanceMethod ({ cls := "GallRegister", name := "asItIs", desc := "()V" } : Jvm.MethodName)) ∈ lw_all := lw_g (lw_at lw_m3 182 rfl) rfl
theorem q788 : (Jvm.Cond.code ({ cls := "GallRegister", name := "asItIs", desc := "()V" } : Jvm.MethodName) prog_1_method_25_code (1 : Nat) (Option.none : Option Jvm.ClassFile.FieldType)) ∈ lw_all := lw_g (lw_at lw_m3 183 rfl) rfl
theorem q789 : (Jvm.Cond.methodLink "GallRegister" (193 : Nat) ({ cls := "java/lang/System", name := "arraycopy", desc := "(Ljava/lang/Object;ILjava/lang/Object;II)V" } : Jvm.MethodName)) ∈ lw_all := lw_g (lw_at lw_m3 184 rfl) rfl
theorem q792 : (Jvm.Cond.methodLink "GallRegister" (271 : Nat) ({ cls := "GallRegister", name := "lays", desc := "()V" } : Jvm.MethodName)) ∈ lw_all := lw_g (lw_at lw_m3 187 rfl) rfl
theorem q793 : (Jvm.Cond.privateMethod ({ cls := "GallRegister", name := "lays", desc := "()V" } : Jvm.MethodName)) ∈ lw_tbl := lw_at lw_m3 188 rfl
theorem q794 : (Jvm.Cond.instanceMethod ({ cls := "GallRegister", name := "lays", desc := "()V" } : Jvm.MethodName)) ∈ lw_all := lw_g (lw_at lw_m3 189 rfl) rfl
theorem q795 : (Jvm.Cond.code ({ cls := "GallRegister", name := "lays", desc := "()V" } : Jvm.MethodName) prog_1_method_32_code (3 : Nat) (Option.none : Option Jvm.ClassFile.FieldType)) ∈ lw_all := lw_g (lw_at lw_m3 190 rfl) rfl
theorem q796 : (Jvm.Cond.methodLink "GallRegister" (263 : Nat) ({ cls := "GallRegister", name := "goesOn", desc := "(II)V" } : Jvm.MethodName)) ∈ lw_all := lw_g (lw_at lw_m3 191 rfl) rfl
theorem q797 : (Jvm.Cond.privateMethod ({ cls := "GallRegister", name := "goesOn", desc := "(II)V" } : Jvm.MethodName)) ∈ lw_tbl := lw_at lw_m3 192 rfl
theorem q798 : (Jvm.Cond.instanceMethod ({ cls := "GallRegister", name := "goesOn", desc := "(II)V" } : Jvm.MethodName)) ∈ lw_all := lw_g (lw_at lw_m3 193 rfl) rfl
theorem q799 : (Jvm.Cond.code ({ cls := "GallRegister", name := "goesOn", desc := "(II)V" } : Jvm.MethodName) prog_1_method_31_code (4 : Nat) (Option.none : Option Jvm.ClassFile.FieldType)) ∈ lw_all := lw_g (lw_at lw_m3 194 rfl) rfl
theorem q800 : (Jvm.Cond.methodLink "GallRegister" (243 : Nat) ({ cls := "GallRegister", name := "isThere", desc := "(II)Z" } : Jvm.MethodName)) ∈ lw_all := lw_g (lw_at lw_m3 195 rfl) rfl
theorem q801 : (Jvm.Cond.privateMethod ({ cls := "GallRegister", name := "isThere", desc := "(II)Z" } : Jvm.MethodName)) ∈ lw_tbl := lw_at lw_m3 196 rfl
theorem q802 : (Jvm.Cond.instanceMethod ({ cls := "GallRegister", name := "isThere", desc := "(II)Z" } : Jvm.MethodName)) ∈ lw_all := lw_g (lw_at lw_m3 197 rfl) rfl
theorem q803 : (Jvm.Cond.code ({ cls := "GallRegister", name := "isThere", desc := "(II)Z" } : Jvm.MethodName) prog_1_method_26_code (3 : Nat) (Option.some Jvm.ClassFile.FieldType.boolean)) ∈ lw_all := lw_g (lw_at lw_m3 198 rfl) rfl
theorem q804 : (Jvm.Cond.methodLink "GallRegister" (254 : Nat) ({ cls := "GallRegister", name := "isOf", desc := "(II)Z" } : Jvm.MethodName)) ∈ lw_all := lw_g (lw_at lw_m3 199 rfl) rfl
theorem q805 : (Jvm.Cond.static ({ cls := "GallRegister", name := "isOf", desc := "(II)Z" } : Jvm.MethodName)) ∈ lw_all := lw_g (lw_at lw_m3 200 rfl) rfl
theorem q806 : (Jvm.Cond.code ({ cls := "GallRegister", name := "isOf", desc := "(II)Z" } : Jvm.MethodName) prog_1_method_2_code (2 : Nat) (Option.some Jvm.ClassFile.FieldType.boolean)) ∈ lw_all := lw_g (lw_at lw_m3 201 rfl) rfl
theorem q807 : (Jvm.Cond.methodLink "GallRegister" (221 : Nat) ({ cls := "java/lang/Math", name := "min", desc := "(II)I" } : Jvm.MethodName)) ∈ lw_all := lw_g (lw_at lw_m3 202 rfl) rfl
theorem q808 : (Jvm.Cond.methodLink "GallRegister" (227 : Nat) ({ cls := "GallRegister", name := "setsRising", desc := "(IZ)V" } : Jvm.MethodName)) ∈ lw_all := lw_g (lw_at lw_m3 203 rfl) rfl
theorem q809 : (Jvm.Cond.privateMethod ({ cls := "GallRegister", name := "setsRising", desc := "(IZ)V" } : Jvm.MethodName)) ∈ lw_tbl := lw_at lw_m3 204 rfl
theorem q810 : (Jvm.Cond.instanceMethod ({ cls := "GallRegister", name := "setsRising", desc := "(IZ)V" } : Jvm.MethodName)) ∈ lw_all := lw_g (lw_at lw_m3 205 rfl) rfl
theorem q811 : (Jvm.Cond.code ({ cls := "GallRegister", name := "setsRising", desc := "(IZ)V" } : Jvm.MethodName) prog_1_method_28_code (3 : Nat) (Option.none : Option Jvm.ClassFile.FieldType)) ∈ lw_all := lw_g (lw_at lw_m3 206 rfl) rfl
theorem q812 : (Jvm.Cond.methodLink "GallRegister" (257 : Nat) ({ cls := "GallRegister$Fading", name := "less", desc := "(II)I" } : Jvm.MethodName)) ∈ lw_all := lw_g (lw_at lw_m3 207 rfl) rfl
theorem q828 : (Jvm.Cond.methodLink "GallRegister" (234 : Nat) ({ cls := "java/lang/Math", name := "max", desc := "(II)I" } : Jvm.MethodName)) ∈ lw_all := lw_g (lw_at lw_m3 223 rfl) rfl
theorem q831 : (Jvm.Cond.methodLink "GallRegister" (260 : Nat) ({ cls := "GallRegister$Fading", name := "more", desc := "(II)I" } : Jvm.MethodName)) ∈ lw_all := lw_g (lw_at lw_m3 226 rfl) rfl
theorem q844 : (Jvm.Cond.methodLink "GallRegister" (247 : Nat) ({ cls := "GallRegister", name := "begins", desc := "(II)V" } : Jvm.MethodName)) ∈ lw_all := lw_g (lw_at lw_m3 239 rfl) rfl
theorem q845 : (Jvm.Cond.privateMethod ({ cls := "GallRegister", name := "begins", desc := "(II)V" } : Jvm.MethodName)) ∈ lw_tbl := lw_at lw_m4 0 rfl
theorem q846 : (Jvm.Cond.instanceMethod ({ cls := "GallRegister", name := "begins", desc := "(II)V" } : Jvm.MethodName)) ∈ lw_all := lw_g (lw_at lw_m4 1 rfl) rfl
theorem q847 : (Jvm.Cond.code ({ cls := "GallRegister", name := "begins", desc := "(II)V" } : Jvm.MethodName) prog_1_method_27_code (3 : Nat) (Option.none : Option Jvm.ClassFile.FieldType)) ∈ lw_all := lw_g (lw_at lw_m4 2 rfl) rfl
theorem q848 : (Jvm.Cond.methodLink "GallRegister" (266 : Nat) ({ cls := "GallRegister", name := "acts", desc := "(I)V" } : Jvm.MethodName)) ∈ lw_all := lw_g (lw_at lw_m4 3 rfl) rfl
theorem q849 : (Jvm.Cond.privateMethod ({ cls := "GallRegister", name := "acts", desc := "(I)V" } : Jvm.MethodName)) ∈ lw_tbl := lw_at lw_m4 4 rfl
theorem q850 : (Jvm.Cond.instanceMethod ({ cls := "GallRegister", name := "acts", desc := "(I)V" } : Jvm.MethodName)) ∈ lw_all := lw_g (lw_at lw_m4 5 rfl) rfl
theorem q851 : (Jvm.Cond.code ({ cls := "GallRegister", name := "acts", desc := "(I)V" } : Jvm.MethodName) prog_1_method_30_code (5 : Nat) (Option.none : Option Jvm.ClassFile.FieldType)) ∈ lw_all := lw_g (lw_at lw_m4 6 rfl) rfl
theorem q852 : (Jvm.Cond.constant "GallRegister" (246 : Nat) (100000 : Int32)) ∈ lw_all := lw_g (lw_at lw_m4 7 rfl) rfl
theorem q853 : (Jvm.Cond.methodLink "GallRegister" (251 : Nat) ({ cls := "GallRegister", name := "bleach", desc := "(I)V" } : Jvm.MethodName)) ∈ lw_all := lw_g (lw_at lw_m4 8 rfl) rfl
theorem q854 : (Jvm.Cond.privateMethod ({ cls := "GallRegister", name := "bleach", desc := "(I)V" } : Jvm.MethodName)) ∈ lw_tbl := lw_at lw_m4 9 rfl
theorem q855 : (Jvm.Cond.instanceMethod ({ cls := "GallRegister", name := "bleach", desc := "(I)V" } : Jvm.MethodName)) ∈ lw_all := lw_g (lw_at lw_m4 10 rfl) rfl
theorem q856 : (Jvm.Cond.code ({ cls := "GallRegister", name := "bleach", desc := "(I)V" } : Jvm.MethodName) prog_1_method_29_code (2 : Nat) (Option.none : Option Jvm.ClassFile.FieldType)) ∈ lw_all := lw_g (lw_at lw_m4 11 rfl) rfl
theorem q857 : (Jvm.Cond.methodLink "GallRegister" (129 : Nat) ({ cls := "GallRegister", name := "isBook", desc := "()Z" } : Jvm.MethodName)) ∈ lw_all := lw_g (lw_at lw_m4 12 rfl) rfl
theorem q858 : (Jvm.Cond.privateMethod ({ cls := "GallRegister", name := "isBook", desc := "()Z" } : Jvm.MethodName)) ∈ lw_tbl := lw_at lw_m4 13 rfl
theorem q859 : (Jvm.Cond.instanceMethod ({ cls := "GallRegister", name := "isBook", desc := "()Z" } : Jvm.MethodName)) ∈ lw_all := lw_g (lw_at lw_m4 14 rfl) rfl
theorem q860 : (Jvm.Cond.code ({ cls := "GallRegister", name := "isBook", desc := "()Z" } : Jvm.MethodName) prog_1_method_9_code (1 : Nat) (Option.some Jvm.ClassFile.FieldType.boolean)) ∈ lw_all := lw_g (lw_at lw_m4 15 rfl) rfl
theorem q861 : (Jvm.Cond.methodLink "GallRegister" (277 : Nat) ({ cls := "GallRegister", name := "isYear", desc := "(J)Z" } : Jvm.MethodName)) ∈ lw_all := lw_g (lw_at lw_m4 16 rfl) rfl
theorem q862 : (Jvm.Cond.privateMethod ({ cls := "GallRegister", name := "isYear", desc := "(J)Z" } : Jvm.MethodName)) ∈ lw_tbl := lw_at lw_m4 17 rfl
theorem q863 : (Jvm.Cond.instanceMethod ({ cls := "GallRegister", name := "isYear", desc := "(J)Z" } : Jvm.MethodName)) ∈ lw_all := lw_g (lw_at lw_m4 18 rfl) rfl
theorem q864 : (Jvm.Cond.code ({ cls := "GallRegister", name := "isYear", desc := "(J)Z" } : Jvm.MethodName) prog_1_method_13_code (3 : Nat) (Option.some Jvm.ClassFile.FieldType.boolean)) ∈ lw_all := lw_g (lw_at lw_m4 19 rfl) rfl
theorem q865 : (Jvm.Cond.methodLink "GallRegister" (286 : Nat) ({ cls := "GallRegister", name := "thereIn", desc := "(I)I" } : Jvm.MethodName)) ∈ lw_all := lw_g (lw_at lw_m4 20 rfl) rfl
theorem q866 : (Jvm.Cond.privateMethod ({ cls := "GallRegister", name := "thereIn", desc := "(I)I" } : Jvm.MethodName)) ∈ lw_tbl := lw_at lw_m4 21 rfl
theorem q867 : (Jvm.Cond.instanceMethod ({ cls := "GallRegister", name := "thereIn", desc := "(I)I" } : Jvm.MethodName)) ∈ lw_all := lw_g (lw_at lw_m4 22 rfl) rfl
theorem q868 : (Jvm.Cond.code ({ cls := "GallRegister", name := "thereIn", desc := "(I)I" } : Jvm.MethodName) prog_1_method_38_code (4 : Nat) (Option.some Jvm.ClassFile.FieldType.int)) ∈ lw_all := lw_g (lw_at lw_m4 23 rfl) rfl
theorem q870 : (Jvm.Cond.instanceMethod ({ cls := "GallRegister", name := "shade", desc := "(II)I" } : Jvm.MethodName)) ∈ lw_all := lw_g (lw_at lw_m4 25 rfl) rfl
theorem q871 : (Jvm.Cond.selects "GallRegister" ({ cls := "GallRegister", name := "shade", desc := "(II)I" } : Jvm.MethodName) ({ cls := "GallRegister", name := "shade", desc := "(II)I" } : Jvm.MethodName)) ∈ lw_all := lw_g (lw_at lw_m4 26 rfl) rfl
theorem q872 : (Jvm.Cond.code ({ cls := "GallRegister", name := "shade", desc := "(II)I" } : Jvm.MethodName) prog_1_method_40_code (3 : Nat) (Option.some Jvm.ClassFile.FieldType.int)) ∈ lw_all := lw_g (lw_at lw_m4 27 rfl) rfl
theorem q873 : (Jvm.Cond.methodLink "GallRegister" (280 : Nat) ({ cls := "GallRegister", name := "shadeOf", desc := "(II)I" } : Jvm.MethodName)) ∈ lw_all := lw_g (lw_at lw_m4 28 rfl) rfl
theorem q874 : (Jvm.Cond.privateMethod ({ cls := "GallRegister", name := "shadeOf", desc := "(II)I" } : Jvm.MethodName)) ∈ lw_tbl := lw_at lw_m4 29 rfl
theorem q875 : (Jvm.Cond.instanceMethod ({ cls := "GallRegister", name := "shadeOf", desc := "(II)I" } : Jvm.MethodName)) ∈ lw_all := lw_g (lw_at lw_m4 30 rfl) rfl
theorem q876 : (Jvm.Cond.code ({ cls := "GallRegister", name := "shadeOf", desc := "(II)I" } : Jvm.MethodName) prog_1_method_36_code (3 : Nat) (Option.some Jvm.ClassFile.FieldType.int)) ∈ lw_all := lw_g (lw_at lw_m4 31 rfl) rfl
theorem q878 : (Jvm.Cond.instanceMethod ({ cls := "GallRegister", name := "peak", desc := "(I)I" } : Jvm.MethodName)) ∈ lw_all := lw_g (lw_at lw_m4 33 rfl) rfl
theorem q879 : (Jvm.Cond.selects "GallRegister" ({ cls := "GallRegister", name := "peak", desc := "(I)I" } : Jvm.MethodName) ({ cls := "GallRegister", name := "peak", desc := "(I)I" } : Jvm.MethodName)) ∈ lw_all := lw_g (lw_at lw_m4 34 rfl) rfl
theorem q880 : (Jvm.Cond.code ({ cls := "GallRegister", name := "peak", desc := "(I)I" } : Jvm.MethodName) prog_1_method_42_code (2 : Nat) (Option.some Jvm.ClassFile.FieldType.int)) ∈ lw_all := lw_g (lw_at lw_m4 35 rfl) rfl
theorem q881 : (Jvm.Cond.methodLink "GallRegister" (289 : Nat) ({ cls := "GallRegister", name := "asksEntry", desc := "(I)Z" } : Jvm.MethodName)) ∈ lw_all := lw_g (lw_at lw_m4 36 rfl) rfl
theorem q882 : (Jvm.Cond.privateMethod ({ cls := "GallRegister", name := "asksEntry", desc := "(I)Z" } : Jvm.MethodName)) ∈ lw_tbl := lw_at lw_m4 37 rfl
theorem q883 : (Jvm.Cond.instanceMethod ({ cls := "GallRegister", name := "asksEntry", desc := "(I)Z" } : Jvm.MethodName)) ∈ lw_all := lw_g (lw_at lw_m4 38 rfl) rfl
theorem q884 : (Jvm.Cond.code ({ cls := "GallRegister", name := "asksEntry", desc := "(I)Z" } : Jvm.MethodName) prog_1_method_35_code (2 : Nat) (Option.some Jvm.ClassFile.FieldType.boolean)) ∈ lw_all := lw_g (lw_at lw_m4 39 rfl) rfl
theorem q885 : (Jvm.Cond.methodLink "GallRegister" (292 : Nat) ({ cls := "GallRegister", name := "ripeOf", desc := "(I)I" } : Jvm.MethodName)) ∈ lw_all := lw_g (lw_at lw_m4 40 rfl) rfl
theorem q886 : (Jvm.Cond.privateMethod ({ cls := "GallRegister", name := "ripeOf", desc := "(I)I" } : Jvm.MethodName)) ∈ lw_tbl := lw_at lw_m4 41 rfl
theorem q887 : (Jvm.Cond.instanceMethod ({ cls := "GallRegister", name := "ripeOf", desc := "(I)I" } : Jvm.MethodName)) ∈ lw_all := lw_g (lw_at lw_m4 42 rfl) rfl
theorem q888 : (Jvm.Cond.code ({ cls := "GallRegister", name := "ripeOf", desc := "(I)I" } : Jvm.MethodName) prog_1_method_41_code (4 : Nat) (Option.some Jvm.ClassFile.FieldType.int)) ∈ lw_all := lw_g (lw_at lw_m4 43 rfl) rfl
theorem q890 : (Jvm.Cond.instanceMethod ({ cls := "GallRegister", name := "ripe", desc := "(I)I" } : Jvm.MethodName)) ∈ lw_all := lw_g (lw_at lw_m4 45 rfl) rfl
theorem q891 : (Jvm.Cond.selects "GallRegister" ({ cls := "GallRegister", name := "ripe", desc := "(I)I" } : Jvm.MethodName) ({ cls := "GallRegister", name := "ripe", desc := "(I)I" } : Jvm.MethodName)) ∈ lw_all := lw_g (lw_at lw_m4 46 rfl) rfl
theorem q892 : (Jvm.Cond.code ({ cls := "GallRegister", name := "ripe", desc := "(I)I" } : Jvm.MethodName) prog_1_method_43_code (2 : Nat) (Option.some Jvm.ClassFile.FieldType.int)) ∈ lw_all := lw_g (lw_at lw_m4 47 rfl) rfl
theorem q894 : (Jvm.Cond.instanceMethod ({ cls := "GallRegister", name := "blank", desc := "(I)I" } : Jvm.MethodName)) ∈ lw_all := lw_g (lw_at lw_m4 49 rfl) rfl
theorem q895 : (Jvm.Cond.selects "GallRegister" ({ cls := "GallRegister", name := "blank", desc := "(I)I" } : Jvm.MethodName) ({ cls := "GallRegister", name := "blank", desc := "(I)I" } : Jvm.MethodName)) ∈ lw_all := lw_g (lw_at lw_m4 50 rfl) rfl
theorem q896 : (Jvm.Cond.code ({ cls := "GallRegister", name := "blank", desc := "(I)I" } : Jvm.MethodName) prog_1_method_44_code (3 : Nat) (Option.some Jvm.ClassFile.FieldType.int)) ∈ lw_all := lw_g (lw_at lw_m4 51 rfl) rfl
theorem q898 : (Jvm.Cond.instanceMethod ({ cls := "GallRegister", name := "clear", desc := "(I)I" } : Jvm.MethodName)) ∈ lw_all := lw_g (lw_at lw_m4 53 rfl) rfl
theorem q899 : (Jvm.Cond.selects "GallRegister" ({ cls := "GallRegister", name := "clear", desc := "(I)I" } : Jvm.MethodName) ({ cls := "GallRegister", name := "clear", desc := "(I)I" } : Jvm.MethodName)) ∈ lw_all := lw_g (lw_at lw_m4 54 rfl) rfl
theorem q900 : (Jvm.Cond.code ({ cls := "GallRegister", name := "clear", desc := "(I)I" } : Jvm.MethodName) prog_1_method_46_code (2 : Nat) (Option.some Jvm.ClassFile.FieldType.int)) ∈ lw_all := lw_g (lw_at lw_m4 55 rfl) rfl
theorem q901 : (Jvm.Cond.methodLink "GallRegister" (295 : Nat) ({ cls := "GallRegister", name := "clearIn", desc := "(I)I" } : Jvm.MethodName)) ∈ lw_all := lw_g (lw_at lw_m4 56 rfl) rfl
theorem q902 : (Jvm.Cond.privateMethod ({ cls := "GallRegister", name := "clearIn", desc := "(I)I" } : Jvm.MethodName)) ∈ lw_tbl := lw_at lw_m4 57 rfl
theorem q903 : (Jvm.Cond.instanceMethod ({ cls := "GallRegister", name := "clearIn", desc := "(I)I" } : Jvm.MethodName)) ∈ lw_all := lw_g (lw_at lw_m4 58 rfl) rfl
theorem q904 : (Jvm.Cond.code ({ cls := "GallRegister", name := "clearIn", desc := "(I)I" } : Jvm.MethodName) prog_1_method_45_code (4 : Nat) (Option.some Jvm.ClassFile.FieldType.int)) ∈ lw_all := lw_g (lw_at lw_m4 59 rfl) rfl
theorem q906 : (Jvm.Cond.instanceMethod ({ cls := "GallRegister", name := "all", desc := "(I)I" } : Jvm.MethodName)) ∈ lw_all := lw_g (lw_at lw_m4 61 rfl) rfl
theorem q907 : (Jvm.Cond.selects "GallRegister" ({ cls := "GallRegister", name := "all", desc := "(I)I" } : Jvm.MethodName) ({ cls := "GallRegister", name := "all", desc := "(I)I" } : Jvm.MethodName)) ∈ lw_all := lw_g (lw_at lw_m4 62 rfl) rfl
theorem q908 : (Jvm.Cond.code ({ cls := "GallRegister", name := "all", desc := "(I)I" } : Jvm.MethodName) prog_1_method_49_code (2 : Nat) (Option.some Jvm.ClassFile.FieldType.int)) ∈ lw_all := lw_g (lw_at lw_m4 63 rfl) rfl
theorem q909 : (Jvm.Cond.methodLink "GallRegister" (298 : Nat) ({ cls := "GallRegister", name := "allIn", desc := "(I)I" } : Jvm.MethodName)) ∈ lw_all := lw_g (lw_at lw_m4 64 rfl) rfl
theorem q910 : (Jvm.Cond.privateMethod ({ cls := "GallRegister", name := "allIn", desc := "(I)I" } : Jvm.MethodName)) ∈ lw_tbl := lw_at lw_m4 65 rfl
theorem q911 : (Jvm.Cond.instanceMethod ({ cls := "GallRegister", name := "allIn", desc := "(I)I" } : Jvm.MethodName)) ∈ lw_all := lw_g (lw_at lw_m4 66 rfl) rfl
theorem q912 : (Jvm.Cond.code ({ cls := "GallRegister", name := "allIn", desc := "(I)I" } : Jvm.MethodName) prog_1_method_47_code (4 : Nat) (Option.some Jvm.ClassFile.FieldType.int)) ∈ lw_all := lw_g (lw_at lw_m4 67 rfl) rfl
theorem q914 : (Jvm.Cond.instanceMethod ({ cls := "GallRegister", name := "darkest", desc := "(I)I" } : Jvm.MethodName)) ∈ lw_all := lw_g (lw_at lw_m4 69 rfl) rfl
theorem q915 : (Jvm.Cond.selects "GallRegister" ({ cls := "GallRegister", name := "darkest", desc := "(I)I" } : Jvm.MethodName) ({ cls := "GallRegister", name := "darkest", desc := "(I)I" } : Jvm.MethodName)) ∈ lw_all := lw_g (lw_at lw_m4 70 rfl) rfl
theorem q916 : (Jvm.Cond.code ({ cls := "GallRegister", name := "darkest", desc := "(I)I" } : Jvm.MethodName) prog_1_method_50_code (4 : Nat) (Option.some Jvm.ClassFile.FieldType.int)) ∈ lw_all := lw_g (lw_at lw_m4 71 rfl) rfl
theorem q918 : (Jvm.Cond.instanceMethod ({ cls := "GallRegister", name := "palest", desc := "(I)I" } : Jvm.MethodName)) ∈ lw_all := lw_g (lw_at lw_m4 73 rfl) rfl
theorem q919 : (Jvm.Cond.selects "GallRegister" ({ cls := "GallRegister", name := "palest", desc := "(I)I" } : Jvm.MethodName) ({ cls := "GallRegister", name := "palest", desc := "(I)I" } : Jvm.MethodName)) ∈ lw_all := lw_g (lw_at lw_m4 74 rfl) rfl
theorem q920 : (Jvm.Cond.code ({ cls := "GallRegister", name := "palest", desc := "(I)I" } : Jvm.MethodName) prog_1_method_51_code (4 : Nat) (Option.some Jvm.ClassFile.FieldType.int)) ∈ lw_all := lw_g (lw_at lw_m4 75 rfl) rfl
theorem q922 : (Jvm.Cond.instanceMethod ({ cls := "GallRegister", name := "sorts", desc := "(I)I" } : Jvm.MethodName)) ∈ lw_all := lw_g (lw_at lw_m4 77 rfl) rfl
theorem q923 : (Jvm.Cond.selects "GallRegister" ({ cls := "GallRegister", name := "sorts", desc := "(I)I" } : Jvm.MethodName) ({ cls := "GallRegister", name := "sorts", desc := "(I)I" } : Jvm.MethodName)) ∈ lw_all := lw_g (lw_at lw_m4 78 rfl) rfl
theorem q924 : (Jvm.Cond.code ({ cls := "GallRegister", name := "sorts", desc := "(I)I" } : Jvm.MethodName) prog_1_method_53_code (2 : Nat) (Option.some Jvm.ClassFile.FieldType.int)) ∈ lw_all := lw_g (lw_at lw_m4 79 rfl) rfl
theorem q925 : (Jvm.Cond.methodLink "GallRegister" (301 : Nat) ({ cls := "GallRegister", name := "everyEntry", desc := "()I" } : Jvm.MethodName)) ∈ lw_all := lw_g (lw_at lw_m4 80 rfl) rfl
theorem q926 : (Jvm.Cond.privateMethod ({ cls := "GallRegister", name := "everyEntry", desc := "()I" } : Jvm.MethodName)) ∈ lw_tbl := lw_at lw_m4 81 rfl
theorem q927 : (Jvm.Cond.instanceMethod ({ cls := "GallRegister", name := "everyEntry", desc := "()I" } : Jvm.MethodName)) ∈ lw_all := lw_g (lw_at lw_m4 82 rfl) rfl
theorem q928 : (Jvm.Cond.code ({ cls := "GallRegister", name := "everyEntry", desc := "()I" } : Jvm.MethodName) prog_1_method_17_code (1 : Nat) (Option.some Jvm.ClassFile.FieldType.int)) ∈ lw_all := lw_g (lw_at lw_m4 83 rfl) rfl
theorem q929 : (Jvm.Cond.methodLink "GallRegister" (305 : Nat) ({ cls := "GallRegister", name := "sortsOf", desc := "(II)I" } : Jvm.MethodName)) ∈ lw_all := lw_g (lw_at lw_m4 84 rfl) rfl
theorem q930 : (Jvm.Cond.privateMethod ({ cls := "GallRegister", name := "sortsOf", desc := "(II)I" } : Jvm.MethodName)) ∈ lw_tbl := lw_at lw_m4 85 rfl
theorem q931 : (Jvm.Cond.instanceMethod ({ cls := "GallRegister", name := "sortsOf", desc := "(II)I" } : Jvm.MethodName)) ∈ lw_all := lw_g (lw_at lw_m4 86 rfl) rfl
theorem q932 : (Jvm.Cond.code ({ cls := "GallRegister", name := "sortsOf", desc := "(II)I" } : Jvm.MethodName) prog_1_method_52_code (7 : Nat) (Option.some Jvm.ClassFile.FieldType.int)) ∈ lw_all := lw_g (lw_at lw_m4 87 rfl) rfl
theorem q934 : (Jvm.Cond.instanceMethod ({ cls := "GallRegister", name := "alike", desc := "(I)I" } : Jvm.MethodName)) ∈ lw_all := lw_g (lw_at lw_m4 89 rfl) rfl
theorem q935 : (Jvm.Cond.selects "GallRegister" ({ cls := "GallRegister", name := "alike", desc := "(I)I" } : Jvm.MethodName) ({ cls := "GallRegister", name := "alike", desc := "(I)I" } : Jvm.MethodName)) ∈ lw_all := lw_g (lw_at lw_m4 90 rfl) rfl
theorem q936 : (Jvm.Cond.code ({ cls := "GallRegister", name := "alike", desc := "(I)I" } : Jvm.MethodName) prog_1_method_54_code (5 : Nat) (Option.some Jvm.ClassFile.FieldType.int)) ∈ lw_all := lw_g (lw_at lw_m4 91 rfl) rfl
theorem q938 : (Jvm.Cond.instanceMethod ({ cls := "GallRegister", name := "rising", desc := "(I)I" } : Jvm.MethodName)) ∈ lw_all := lw_g (lw_at lw_m4 93 rfl) rfl
theorem q939 : (Jvm.Cond.selects "GallRegister" ({ cls := "GallRegister", name := "rising", desc := "(I)I" } : Jvm.MethodName) ({ cls := "GallRegister", name := "rising", desc := "(I)I" } : Jvm.MethodName)) ∈ lw_all := lw_g (lw_at lw_m4 94 rfl) rfl
theorem q940 : (Jvm.Cond.code ({ cls := "GallRegister", name := "rising", desc := "(I)I" } : Jvm.MethodName) prog_1_method_55_code (2 : Nat) (Option.some Jvm.ClassFile.FieldType.int)) ∈ lw_all := lw_g (lw_at lw_m4 95 rfl) rfl
theorem q942 : (Jvm.Cond.instanceMethod ({ cls := "GallRegister", name := "paling", desc := "(I)I" } : Jvm.MethodName)) ∈ lw_all := lw_g (lw_at lw_m4 97 rfl) rfl
theorem q943 : (Jvm.Cond.selects "GallRegister" ({ cls := "GallRegister", name := "paling", desc := "(I)I" } : Jvm.MethodName) ({ cls := "GallRegister", name := "paling", desc := "(I)I" } : Jvm.MethodName)) ∈ lw_all := lw_g (lw_at lw_m4 98 rfl) rfl
theorem q944 : (Jvm.Cond.code ({ cls := "GallRegister", name := "paling", desc := "(I)I" } : Jvm.MethodName) prog_1_method_56_code (4 : Nat) (Option.some Jvm.ClassFile.FieldType.int)) ∈ lw_all := lw_g (lw_at lw_m4 99 rfl) rfl
theorem q946 : (Jvm.Cond.instanceMethod ({ cls := "GallRegister", name := "cross", desc := "(II)I" } : Jvm.MethodName)) ∈ lw_all := lw_g (lw_at lw_m4 101 rfl) rfl
theorem q947 : (Jvm.Cond.selects "GallRegister" ({ cls := "GallRegister", name := "cross", desc := "(II)I" } : Jvm.MethodName) ({ cls := "GallRegister", name := "cross", desc := "(II)I" } : Jvm.MethodName)) ∈ lw_all := lw_g (lw_at lw_m4 102 rfl) rfl
theorem q948 : (Jvm.Cond.code ({ cls := "GallRegister", name := "cross", desc := "(II)I" } : Jvm.MethodName) prog_1_method_57_code (4 : Nat) (Option.some Jvm.ClassFile.FieldType.int)) ∈ lw_all := lw_g (lw_at lw_m4 103 rfl) rfl
theorem q950 : (Jvm.Cond.instanceMethod ({ cls := "GallRegister", name := "swaps", desc := "(II)I" } : Jvm.MethodName)) ∈ lw_all := lw_g (lw_at lw_m4 105 rfl) rfl
theorem q951 : (Jvm.Cond.selects "GallRegister" ({ cls := "GallRegister", name := "swaps", desc := "(II)I" } : Jvm.MethodName) ({ cls := "GallRegister", name := "swaps", desc := "(II)I" } : Jvm.MethodName)) ∈ lw_all := lw_g (lw_at lw_m4 106 rfl) rfl
theorem q952 : (Jvm.Cond.code ({ cls := "GallRegister", name := "swaps", desc := "(II)I" } : Jvm.MethodName) prog_1_method_59_code (5 : Nat) (Option.some Jvm.ClassFile.FieldType.int)) ∈ lw_all := lw_g (lw_at lw_m4 107 rfl) rfl
theorem q953 : (Jvm.Cond.methodLink "GallRegister" (313 : Nat) ({ cls := "GallRegister", name := "sign", desc := "(III)I" } : Jvm.MethodName)) ∈ lw_all := lw_g (lw_at lw_m4 108 rfl) rfl
theorem q954 : (Jvm.Cond.privateMethod ({ cls := "GallRegister", name := "sign", desc := "(III)I" } : Jvm.MethodName)) ∈ lw_tbl := lw_at lw_m4 109 rfl
theorem q955 : (Jvm.Cond.instanceMethod ({ cls := "GallRegister", name := "sign", desc := "(III)I" } : Jvm.MethodName)) ∈ lw_all := lw_g (lw_at lw_m4 110 rfl) rfl
theorem q956 : (Jvm.Cond.code ({ cls := "GallRegister", name := "sign", desc := "(III)I" } : Jvm.MethodName) prog_1_method_58_code (4 : Nat) (Option.some Jvm.ClassFile.FieldType.int)) ∈ lw_all := lw_g (lw_at lw_m4 111 rfl) rfl
theorem q957 : (Jvm.Cond.methodLink "GallRegister" (308 : Nat) ({ cls := "java/lang/Integer", name := "signum", desc := "(I)I" } : Jvm.MethodName)) ∈ lw_all := lw_g (lw_at lw_m4 112 rfl) rfl
theorem q961 : (Jvm.Cond.instanceMethod ({ cls := "GallRegister", name := "put", desc := "()I" } : Jvm.MethodName)) ∈ lw_all := lw_g (lw_at lw_m4 116 rfl) rfl
theorem q962 : (Jvm.Cond.selects "GallRegister" ({ cls := "GallRegister", name := "put", desc := "()I" } : Jvm.MethodName) ({ cls := "GallRegister", name := "put", desc := "()I" } : Jvm.MethodName)) ∈ lw_all := lw_g (lw_at lw_m4 117 rfl) rfl
theorem q963 : (Jvm.Cond.code ({ cls := "GallRegister", name := "put", desc := "()I" } : Jvm.MethodName) prog_1_method_60_code (4 : Nat) (Option.some Jvm.ClassFile.FieldType.int)) ∈ lw_all := lw_g (lw_at lw_m4 118 rfl) rfl
theorem q965 : (Jvm.Cond.instanceMethod ({ cls := "GallRegister", name := "bold", desc := "(II)I" } : Jvm.MethodName)) ∈ lw_all := lw_g (lw_at lw_m4 120 rfl) rfl
theorem q966 : (Jvm.Cond.selects "GallRegister" ({ cls := "GallRegister", name := "bold", desc := "(II)I" } : Jvm.MethodName) ({ cls := "GallRegister", name := "bold", desc := "(II)I" } : Jvm.MethodName)) ∈ lw_all := lw_g (lw_at lw_m4 121 rfl) rfl
theorem q967 : (Jvm.Cond.code ({ cls := "GallRegister", name := "bold", desc := "(II)I" } : Jvm.MethodName) prog_1_method_61_code (5 : Nat) (Option.some Jvm.ClassFile.FieldType.int)) ∈ lw_all := lw_g (lw_at lw_m4 122 rfl) rfl
theorem q969 : (Jvm.Cond.instanceMethod ({ cls := "GallRegister", name := "sum", desc := "(II)I" } : Jvm.MethodName)) ∈ lw_all := lw_g (lw_at lw_m4 124 rfl) rfl
theorem q970 : (Jvm.Cond.selects "GallRegister" ({ cls := "GallRegister", name := "sum", desc := "(II)I" } : Jvm.MethodName) ({ cls := "GallRegister", name := "sum", desc := "(II)I" } : Jvm.MethodName)) ∈ lw_all := lw_g (lw_at lw_m4 125 rfl) rfl
theorem q971 : (Jvm.Cond.code ({ cls := "GallRegister", name := "sum", desc := "(II)I" } : Jvm.MethodName) prog_1_method_62_code (5 : Nat) (Option.some Jvm.ClassFile.FieldType.int)) ∈ lw_all := lw_g (lw_at lw_m4 126 rfl) rfl
theorem q973 : (Jvm.Cond.instanceMethod ({ cls := "GallRegister", name := "spread", desc := "(I)I" } : Jvm.MethodName)) ∈ lw_all := lw_g (lw_at lw_m4 128 rfl) rfl
theorem q974 : (Jvm.Cond.selects "GallRegister" ({ cls := "GallRegister", name := "spread", desc := "(I)I" } : Jvm.MethodName) ({ cls := "GallRegister", name := "spread", desc := "(I)I" } : Jvm.MethodName)) ∈ lw_all := lw_g (lw_at lw_m4 129 rfl) rfl
theorem q975 : (Jvm.Cond.code ({ cls := "GallRegister", name := "spread", desc := "(I)I" } : Jvm.MethodName) prog_1_method_63_code (5 : Nat) (Option.some Jvm.ClassFile.FieldType.int)) ∈ lw_all := lw_g (lw_at lw_m4 130 rfl) rfl
theorem q977 : (Jvm.Cond.instanceMethod ({ cls := "GallRegister", name := "uses", desc := "(I)I" } : Jvm.MethodName)) ∈ lw_all := lw_g (lw_at lw_m4 132 rfl) rfl
theorem q978 : (Jvm.Cond.selects "GallRegister" ({ cls := "GallRegister", name := "uses", desc := "(I)I" } : Jvm.MethodName) ({ cls := "GallRegister", name := "uses", desc := "(I)I" } : Jvm.MethodName)) ∈ lw_all := lw_g (lw_at lw_m4 133 rfl) rfl
theorem q979 : (Jvm.Cond.code ({ cls := "GallRegister", name := "uses", desc := "(I)I" } : Jvm.MethodName) prog_1_method_64_code (4 : Nat) (Option.some Jvm.ClassFile.FieldType.int)) ∈ lw_all := lw_g (lw_at lw_m4 134 rfl) rfl
theorem q981 : (Jvm.Cond.instanceMethod ({ cls := "GallRegister", name := "newest", desc := "(I)I" } : Jvm.MethodName)) ∈ lw_all := lw_g (lw_at lw_m4 136 rfl) rfl
theorem q982 : (Jvm.Cond.selects "GallRegister" ({ cls := "GallRegister", name := "newest", desc := "(I)I" } : Jvm.MethodName) ({ cls := "GallRegister", name := "newest", desc := "(I)I" } : Jvm.MethodName)) ∈ lw_all := lw_g (lw_at lw_m4 137 rfl) rfl
theorem q983 : (Jvm.Cond.code ({ cls := "GallRegister", name := "newest", desc := "(I)I" } : Jvm.MethodName) prog_1_method_65_code (4 : Nat) (Option.some Jvm.ClassFile.FieldType.int)) ∈ lw_all := lw_g (lw_at lw_m4 138 rfl) rfl
theorem q985 : (Jvm.Cond.instanceMethod ({ cls := "GallRegister", name := "oldest", desc := "(I)I" } : Jvm.MethodName)) ∈ lw_all := lw_g (lw_at lw_m4 140 rfl) rfl
theorem q986 : (Jvm.Cond.selects "GallRegister" ({ cls := "GallRegister", name := "oldest", desc := "(I)I" } : Jvm.MethodName) ({ cls := "GallRegister", name := "oldest", desc := "(I)I" } : Jvm.MethodName)) ∈ lw_all := lw_g (lw_at lw_m4 141 rfl) rfl
theorem q987 : (Jvm.Cond.code ({ cls := "GallRegister", name := "oldest", desc := "(I)I" } : Jvm.MethodName) prog_1_method_66_code (4 : Nat) (Option.some Jvm.ClassFile.FieldType.int)) ∈ lw_all := lw_g (lw_at lw_m4 142 rfl) rfl
theorem q989 : (Jvm.Cond.instanceMethod ({ cls := "GallRegister", name := "steady", desc := "(I)I" } : Jvm.MethodName)) ∈ lw_all := lw_g (lw_at lw_m4 144 rfl) rfl
theorem q990 : (Jvm.Cond.selects "GallRegister" ({ cls := "GallRegister", name := "steady", desc := "(I)I" } : Jvm.MethodName) ({ cls := "GallRegister", name := "steady", desc := "(I)I" } : Jvm.MethodName)) ∈ lw_all := lw_g (lw_at lw_m4 145 rfl) rfl
theorem q991 : (Jvm.Cond.code ({ cls := "GallRegister", name := "steady", desc := "(I)I" } : Jvm.MethodName) prog_1_method_67_code (6 : Nat) (Option.some Jvm.ClassFile.FieldType.int)) ∈ lw_all := lw_g (lw_at lw_m4 146 rfl) rfl
theorem q993 : (Jvm.Cond.instanceMethod ({ cls := "GallRegister", name := "falls", desc := "(I)I" } : Jvm.MethodName)) ∈ lw_all := lw_g (lw_at lw_m4 148 rfl) rfl
theorem q994 : (Jvm.Cond.selects "GallRegister" ({ cls := "GallRegister", name := "falls", desc := "(I)I" } : Jvm.MethodName) ({ cls := "GallRegister", name := "falls", desc := "(I)I" } : Jvm.MethodName)) ∈ lw_all := lw_g (lw_at lw_m4 149 rfl) rfl
theorem q995 : (Jvm.Cond.code ({ cls := "GallRegister", name := "falls", desc := "(I)I" } : Jvm.MethodName) prog_1_method_68_code (4 : Nat) (Option.some Jvm.ClassFile.FieldType.int)) ∈ lw_all := lw_g (lw_at lw_m4 150 rfl) rfl
theorem q997 : (Jvm.Cond.instanceMethod ({ cls := "GallRegister", name := "age", desc := "(II)I" } : Jvm.MethodName)) ∈ lw_all := lw_g (lw_at lw_m4 152 rfl) rfl
theorem q998 : (Jvm.Cond.selects "GallRegister" ({ cls := "GallRegister", name := "age", desc := "(II)I" } : Jvm.MethodName) ({ cls := "GallRegister", name := "age", desc := "(II)I" } : Jvm.MethodName)) ∈ lw_all := lw_g (lw_at lw_m4 153 rfl) rfl
theorem q999 : (Jvm.Cond.code ({ cls := "GallRegister", name := "age", desc := "(II)I" } : Jvm.MethodName) prog_1_method_69_code (3 : Nat) (Option.some Jvm.ClassFile.FieldType.int)) ∈ lw_all := lw_g (lw_at lw_m4 154 rfl) rfl
theorem q1001 : (Jvm.Cond.instanceMethod ({ cls := "GallRegister", name := "honest", desc := "(I)I" } : Jvm.MethodName)) ∈ lw_all := lw_g (lw_at lw_m4 156 rfl) rfl
theorem q1002 : (Jvm.Cond.selects "GallRegister" ({ cls := "GallRegister", name := "honest", desc := "(I)I" } : Jvm.MethodName) ({ cls := "GallRegister", name := "honest", desc := "(I)I" } : Jvm.MethodName)) ∈ lw_all := lw_g (lw_at lw_m4 157 rfl) rfl
theorem q1003 : (Jvm.Cond.code ({ cls := "GallRegister", name := "honest", desc := "(I)I" } : Jvm.MethodName) prog_1_method_70_code (4 : Nat) (Option.some Jvm.ClassFile.FieldType.int)) ∈ lw_all := lw_g (lw_at lw_m4 158 rfl) rfl
theorem q1004 : (Jvm.Cond.methodLink "GallRegister" (317 : Nat) ({ cls := "GallRegister", name := "passesBy", desc := "(II)I" } : Jvm.MethodName)) ∈ lw_all := lw_g (lw_at lw_m4 159 rfl) rfl
theorem q1005 : (Jvm.Cond.privateMethod ({ cls := "GallRegister", name := "passesBy", desc := "(II)I" } : Jvm.MethodName)) ∈ lw_tbl := lw_at lw_m4 160 rfl
theorem q1006 : (Jvm.Cond.instanceMethod ({ cls := "GallRegister", name := "passesBy", desc := "(II)I" } : Jvm.MethodName)) ∈ lw_all := lw_g (lw_at lw_m4 161 rfl) rfl
theorem q1007 : (Jvm.Cond.code ({ cls := "GallRegister", name := "passesBy", desc := "(II)I" } : Jvm.MethodName) prog_1_method_78_code (5 : Nat) (Option.some Jvm.ClassFile.FieldType.int)) ∈ lw_all := lw_g (lw_at lw_m4 162 rfl) rfl
theorem q1008 : (Jvm.Cond.methodLink "GallRegister" (325 : Nat) ({ cls := "GallRegister", name := "pure", desc := "(IIII)I" } : Jvm.MethodName)) ∈ lw_all := lw_g (lw_at lw_m4 163 rfl) rfl
theorem q1009 : (Jvm.Cond.privateMethod ({ cls := "GallRegister", name := "pure", desc := "(IIII)I" } : Jvm.MethodName)) ∈ lw_tbl := lw_at lw_m4 164 rfl
theorem q1010 : (Jvm.Cond.instanceMethod ({ cls := "GallRegister", name := "pure", desc := "(IIII)I" } : Jvm.MethodName)) ∈ lw_all := lw_g (lw_at lw_m4 165 rfl) rfl
theorem q1011 : (Jvm.Cond.code ({ cls := "GallRegister", name := "pure", desc := "(IIII)I" } : Jvm.MethodName) prog_1_method_77_code (10 : Nat) (Option.some Jvm.ClassFile.FieldType.int)) ∈ lw_all := lw_g (lw_at lw_m4 166 rfl) rfl
theorem q1013 : (Jvm.Cond.instanceMethod ({ cls := "GallRegister", name := "peaks", desc := "()I" } : Jvm.MethodName)) ∈ lw_all := lw_g (lw_at lw_m4 168 rfl) rfl
theorem q1014 : (Jvm.Cond.selects "GallRegister" ({ cls := "GallRegister", name := "peaks", desc := "()I" } : Jvm.MethodName) ({ cls := "GallRegister", name := "peaks", desc := "()I" } : Jvm.MethodName)) ∈ lw_all := lw_g (lw_at lw_m4 169 rfl) rfl
theorem q1015 : (Jvm.Cond.code ({ cls := "GallRegister", name := "peaks", desc := "()I" } : Jvm.MethodName) prog_1_method_71_code (3 : Nat) (Option.some Jvm.ClassFile.FieldType.int)) ∈ lw_all := lw_g (lw_at lw_m4 170 rfl) rfl
theorem q1017 : (Jvm.Cond.instanceMethod ({ cls := "GallRegister", name := "lasts", desc := "(I)I" } : Jvm.MethodName)) ∈ lw_all := lw_g (lw_at lw_m4 172 rfl) rfl
theorem q1018 : (Jvm.Cond.selects "GallRegister" ({ cls := "GallRegister", name := "lasts", desc := "(I)I" } : Jvm.MethodName) ({ cls := "GallRegister", name := "lasts", desc := "(I)I" } : Jvm.MethodName)) ∈ lw_all := lw_g (lw_at lw_m4 173 rfl) rfl
theorem q1019 : (Jvm.Cond.code ({ cls := "GallRegister", name := "lasts", desc := "(I)I" } : Jvm.MethodName) prog_1_method_72_code (4 : Nat) (Option.some Jvm.ClassFile.FieldType.int)) ∈ lw_all := lw_g (lw_at lw_m4 174 rfl) rfl
theorem q1021 : (Jvm.Cond.instanceMethod ({ cls := "GallRegister", name := "order", desc := "(I)I" } : Jvm.MethodName)) ∈ lw_all := lw_g (lw_at lw_m4 176 rfl) rfl
theorem q1022 : (Jvm.Cond.selects "GallRegister" ({ cls := "GallRegister", name := "order", desc := "(I)I" } : Jvm.MethodName) ({ cls := "GallRegister", name := "order", desc := "(I)I" } : Jvm.MethodName)) ∈ lw_all := lw_g (lw_at lw_m4 177 rfl) rfl
theorem q1023 : (Jvm.Cond.code ({ cls := "GallRegister", name := "order", desc := "(I)I" } : Jvm.MethodName) prog_1_method_73_code (4 : Nat) (Option.some Jvm.ClassFile.FieldType.int)) ∈ lw_all := lw_g (lw_at lw_m4 178 rfl) rfl
theorem q1025 : (Jvm.Cond.instanceMethod ({ cls := "GallRegister", name := "match", desc := "(II)I" } : Jvm.MethodName)) ∈ lw_all := lw_g (lw_at lw_m4 180 rfl) rfl
theorem q1026 : (Jvm.Cond.selects "GallRegister" ({ cls := "GallRegister", name := "match", desc := "(II)I" } : Jvm.MethodName) ({ cls := "GallRegister", name := "match", desc := "(II)I" } : Jvm.MethodName)) ∈ lw_all := lw_g (lw_at lw_m4 181 rfl) rfl
theorem q1027 : (Jvm.Cond.code ({ cls := "GallRegister", name := "match", desc := "(II)I" } : Jvm.MethodName) prog_1_method_74_code (5 : Nat) (Option.some Jvm.ClassFile.FieldType.int)) ∈ lw_all := lw_g (lw_at lw_m4 182 rfl) rfl
theorem q1029 : (Jvm.Cond.instanceMethod ({ cls := "GallRegister", name := "later", desc := "(II)I" } : Jvm.MethodName)) ∈ lw_all := lw_g (lw_at lw_m4 184 rfl) rfl
theorem q1030 : (Jvm.Cond.selects "GallRegister" ({ cls := "GallRegister", name := "later", desc := "(II)I" } : Jvm.MethodName) ({ cls := "GallRegister", name := "later", desc := "(II)I" } : Jvm.MethodName)) ∈ lw_all := lw_g (lw_at lw_m4 185 rfl) rfl
theorem q1031 : (Jvm.Cond.code ({ cls := "GallRegister", name := "later", desc := "(II)I" } : Jvm.MethodName) prog_1_method_75_code (3 : Nat) (Option.some Jvm.ClassFile.FieldType.int)) ∈ lw_all := lw_g (lw_at lw_m4 186 rfl) rfl
theorem q1032 : (Jvm.Cond.constantLong "GallRegister" (320 : Nat) (20 : Int64)) ∈ lw_all := lw_g (lw_at lw_m4 187 rfl) rfl
theorem q1033 : (Jvm.Cond.methodLink "GallRegister" (322 : Nat) ({ cls := "GallRegister", name := "lastOf", desc := "(I)I" } : Jvm.MethodName)) ∈ lw_all := lw_g (lw_at lw_m4 188 rfl) rfl
theorem q1034 : (Jvm.Cond.privateMethod ({ cls := "GallRegister", name := "lastOf", desc := "(I)I" } : Jvm.MethodName)) ∈ lw_tbl := lw_at lw_m4 189 rfl
theorem q1035 : (Jvm.Cond.instanceMethod ({ cls := "GallRegister", name := "lastOf", desc := "(I)I" } : Jvm.MethodName)) ∈ lw_all := lw_g (lw_at lw_m4 190 rfl) rfl
theorem q1036 : (Jvm.Cond.code ({ cls := "GallRegister", name := "lastOf", desc := "(I)I" } : Jvm.MethodName) prog_1_method_37_code (2 : Nat) (Option.some Jvm.ClassFile.FieldType.int)) ∈ lw_all := lw_g (lw_at lw_m4 191 rfl) rfl
theorem q1038 : (Jvm.Cond.instanceMethod ({ cls := "GallRegister", name := "other", desc := "(II)I" } : Jvm.MethodName)) ∈ lw_all := lw_g (lw_at lw_m4 193 rfl) rfl
theorem q1039 : (Jvm.Cond.selects "GallRegister" ({ cls := "GallRegister", name := "other", desc := "(II)I" } : Jvm.MethodName) ({ cls := "GallRegister", name := "other", desc := "(II)I" } : Jvm.MethodName)) ∈ lw_all := lw_g (lw_at lw_m4 194 rfl) rfl
theorem q1040 : (Jvm.Cond.code ({ cls := "GallRegister", name := "other", desc := "(II)I" } : Jvm.MethodName) prog_1_method_76_code (3 : Nat) (Option.some Jvm.ClassFile.FieldType.int)) ∈ lw_all := lw_g (lw_at lw_m4 195 rfl) rfl
theorem q1042 : (Jvm.Cond.instanceMethod ({ cls := "GallRegister", name := "lies", desc := "()I" } : Jvm.MethodName)) ∈ lw_all := lw_g (lw_at lw_m4 197 rfl) rfl
theorem q1043 : (Jvm.Cond.selects "GallRegister" ({ cls := "GallRegister", name := "lies", desc := "()I" } : Jvm.MethodName) ({ cls := "GallRegister", name := "lies", desc := "()I" } : Jvm.MethodName)) ∈ lw_all := lw_g (lw_at lw_m4 198 rfl) rfl
theorem q1044 : (Jvm.Cond.code ({ cls := "GallRegister", name := "lies", desc := "()I" } : Jvm.MethodName) prog_1_method_79_code (3 : Nat) (Option.some Jvm.ClassFile.FieldType.int)) ∈ lw_all := lw_g (lw_at lw_m4 199 rfl) rfl
theorem q1046 : (Jvm.Cond.instanceMethod ({ cls := "GallRegister", name := "passes", desc := "(II)I" } : Jvm.MethodName)) ∈ lw_all := lw_g (lw_at lw_m4 201 rfl) rfl
theorem q1047 : (Jvm.Cond.selects "GallRegister" ({ cls := "GallRegister", name := "passes", desc := "(II)I" } : Jvm.MethodName) ({ cls := "GallRegister", name := "passes", desc := "(II)I" } : Jvm.MethodName)) ∈ lw_all := lw_g (lw_at lw_m4 202 rfl) rfl
theorem q1048 : (Jvm.Cond.code ({ cls := "GallRegister", name := "passes", desc := "(II)I" } : Jvm.MethodName) prog_1_method_80_code (3 : Nat) (Option.some Jvm.ClassFile.FieldType.int)) ∈ lw_all := lw_g (lw_at lw_m4 203 rfl) rfl
theorem q1050 : (Jvm.Cond.instanceMethod ({ cls := "GallRegister", name := "suspects", desc := "(I)I" } : Jvm.MethodName)) ∈ lw_all := lw_g (lw_at lw_m4 205 rfl) rfl
theorem q1051 : (Jvm.Cond.selects "GallRegister" ({ cls := "GallRegister", name := "suspects", desc := "(I)I" } : Jvm.MethodName) ({ cls := "GallRegister", name := "suspects", desc := "(I)I" } : Jvm.MethodName)) ∈ lw_all := lw_g (lw_at lw_m4 206 rfl) rfl
theorem q1052 : (Jvm.Cond.code ({ cls := "GallRegister", name := "suspects", desc := "(I)I" } : Jvm.MethodName) prog_1_method_81_code (4 : Nat) (Option.some Jvm.ClassFile.FieldType.int)) ∈ lw_all := lw_g (lw_at lw_m4 207 rfl) rfl
theorem q1054 : (Jvm.Cond.instanceMethod ({ cls := "GallRegister", name := "betrayed", desc := "(I)I" } : Jvm.MethodName)) ∈ lw_all := lw_g (lw_at lw_m4 209 rfl) rfl
theorem q1055 : (Jvm.Cond.selects "GallRegister" ({ cls := "GallRegister", name := "betrayed", desc := "(I)I" } : Jvm.MethodName) ({ cls := "GallRegister", name := "betrayed", desc := "(I)I" } : Jvm.MethodName)) ∈ lw_all := lw_g (lw_at lw_m4 210 rfl) rfl
theorem q1056 : (Jvm.Cond.code ({ cls := "GallRegister", name := "betrayed", desc := "(I)I" } : Jvm.MethodName) prog_1_method_82_code (3 : Nat) (Option.some Jvm.ClassFile.FieldType.int)) ∈ lw_all := lw_g (lw_at lw_m4 211 rfl) rfl
theorem q1058 : (Jvm.Cond.instanceMethod ({ cls := "GallRegister", name := "ages", desc := "(IIII)I" } : Jvm.MethodName)) ∈ lw_all := lw_g (lw_at lw_m4 213 rfl) rfl
theorem q1059 : (Jvm.Cond.selects "GallRegister" ({ cls := "GallRegister", name := "ages", desc := "(IIII)I" } : Jvm.MethodName) ({ cls := "GallRegister", name := "ages", desc := "(IIII)I" } : Jvm.MethodName)) ∈ lw_all := lw_g (lw_at lw_m4 214 rfl) rfl
theorem q1060 : (Jvm.Cond.code ({ cls := "GallRegister", name := "ages", desc := "(IIII)I" } : Jvm.MethodName) prog_1_method_83_code (7 : Nat) (Option.some Jvm.ClassFile.FieldType.int)) ∈ lw_all := lw_g (lw_at lw_m4 215 rfl) rfl
theorem q1061 : (Jvm.Cond.constantLong "GallRegister" (329 : Nat) (60 : Int64)) ∈ lw_all := lw_g (lw_at lw_m4 216 rfl) rfl
theorem q1063 : (Jvm.Cond.instanceMethod ({ cls := "GallRegister", name := "dates", desc := "(II)I" } : Jvm.MethodName)) ∈ lw_all := lw_g (lw_at lw_m4 218 rfl) rfl
theorem q1064 : (Jvm.Cond.selects "GallRegister" ({ cls := "GallRegister", name := "dates", desc := "(II)I" } : Jvm.MethodName) ({ cls := "GallRegister", name := "dates", desc := "(II)I" } : Jvm.MethodName)) ∈ lw_all := lw_g (lw_at lw_m4 219 rfl) rfl
theorem q1065 : (Jvm.Cond.code ({ cls := "GallRegister", name := "dates", desc := "(II)I" } : Jvm.MethodName) prog_1_method_88_code (4 : Nat) (Option.some Jvm.ClassFile.FieldType.int)) ∈ lw_all := lw_g (lw_at lw_m4 220 rfl) rfl
theorem q1066 : (Jvm.Cond.methodLink "GallRegister" (355 : Nat) ({ cls := "GallRegister", name := "laysFits", desc := "(II)I" } : Jvm.MethodName)) ∈ lw_all := lw_g (lw_at lw_m4 221 rfl) rfl
theorem q1067 : (Jvm.Cond.privateMethod ({ cls := "GallRegister", name := "laysFits", desc := "(II)I" } : Jvm.MethodName)) ∈ lw_tbl := lw_at lw_m4 222 rfl
theorem q1068 : (Jvm.Cond.instanceMethod ({ cls := "GallRegister", name := "laysFits", desc := "(II)I" } : Jvm.MethodName)) ∈ lw_all := lw_g (lw_at lw_m4 223 rfl) rfl
theorem q1069 : (Jvm.Cond.code ({ cls := "GallRegister", name := "laysFits", desc := "(II)I" } : Jvm.MethodName) prog_1_method_87_code (6 : Nat) (Option.some Jvm.ClassFile.FieldType.int)) ∈ lw_all := lw_g (lw_at lw_m4 224 rfl) rfl
theorem q1070 : (Jvm.Cond.methodLink "GallRegister" (346 : Nat) ({ cls := "GallRegister", name := "asksSeen", desc := "(I)I" } : Jvm.MethodName)) ∈ lw_all := lw_g (lw_at lw_m4 225 rfl) rfl
theorem q1071 : (Jvm.Cond.privateMethod ({ cls := "GallRegister", name := "asksSeen", desc := "(I)I" } : Jvm.MethodName)) ∈ lw_tbl := lw_at lw_m4 226 rfl
theorem q1072 : (Jvm.Cond.instanceMethod ({ cls := "GallRegister", name := "asksSeen", desc := "(I)I" } : Jvm.MethodName)) ∈ lw_all := lw_g (lw_at lw_m4 227 rfl) rfl
theorem q1073 : (Jvm.Cond.codeWith ({ cls := "GallRegister", name := "asksSeen", desc := "(I)I" } : Jvm.MethodName) prog_1_method_85_code (4 : Nat) (Option.some Jvm.ClassFile.FieldType.int) [((17 : Nat), (35 : Nat), (104 : Nat), (341 : Nat)), ((36 : Nat), (91 : Nat), (104 : Nat), (341 : Nat)), ((92 : Nat), (103 : Nat), (104 : Nat), (341 : Nat))]) ∈ lw_all := lw_g (lw_at lw_m4 228 rfl) rfl
theorem q1074 : (Jvm.Cond.classLink "GallRegister" (341 : Nat) "java/lang/NullPointerException") ∈ lw_all := lw_g (lw_at lw_m4 229 rfl) rfl
theorem q1101 : (Jvm.Cond.methodLink "GallRegister" (335 : Nat) ({ cls := "GallRegister", name := "isSlot", desc := "(I)Z" } : Jvm.MethodName)) ∈ lw_all := lw_g (lw_at lw_m5 16 rfl) rfl
theorem q1102 : (Jvm.Cond.static ({ cls := "GallRegister", name := "isSlot", desc := "(I)Z" } : Jvm.MethodName)) ∈ lw_all := lw_g (lw_at lw_m5 17 rfl) rfl
theorem q1103 : (Jvm.Cond.code ({ cls := "GallRegister", name := "isSlot", desc := "(I)Z" } : Jvm.MethodName) prog_1_method_125_code (1 : Nat) (Option.some Jvm.ClassFile.FieldType.boolean)) ∈ lw_all := lw_g (lw_at lw_m5 18 rfl) rfl
theorem q1104 : (Jvm.Cond.constantLong "GallRegister" (136 : Nat) (3 : Int64)) ∈ lw_all := lw_g (lw_at lw_m5 19 rfl) rfl
theorem q1105 : (Jvm.Cond.methodLink "GallRegister" (338 : Nat) ({ cls := "GallRegister$Slot", name := "size", desc := "()I" } : Jvm.MethodName)) ∈ lw_all := lw_g (lw_at lw_m5 20 rfl) rfl
theorem q1113 : (Jvm.Cond.methodLink "GallRegister" (331 : Nat) ({ cls := "GallRegister$Slot", name := "at", desc := "(I)J" } : Jvm.MethodName)) ∈ lw_all := lw_g (lw_at lw_m5 28 rfl) rfl
theorem q1117 : (Jvm.Cond.methodLink "GallRegister" (352 : Nat) ({ cls := "GallRegister", name := "isSo", desc := "(I)Z" } : Jvm.MethodName)) ∈ lw_all := lw_g (lw_at lw_m5 32 rfl) rfl
theorem q1118 : (Jvm.Cond.privateMethod ({ cls := "GallRegister", name := "isSo", desc := "(I)Z" } : Jvm.MethodName)) ∈ lw_tbl := lw_at lw_m5 33 rfl
theorem q1119 : (Jvm.Cond.instanceMethod ({ cls := "GallRegister", name := "isSo", desc := "(I)Z" } : Jvm.MethodName)) ∈ lw_all := lw_g (lw_at lw_m5 34 rfl) rfl
theorem q1120 : (Jvm.Cond.code ({ cls := "GallRegister", name := "isSo", desc := "(I)Z" } : Jvm.MethodName) prog_1_method_86_code (3 : Nat) (Option.some Jvm.ClassFile.FieldType.boolean)) ∈ lw_all := lw_g (lw_at lw_m5 35 rfl) rfl
theorem q1121 : (Jvm.Cond.methodLink "GallRegister" (343 : Nat) ({ cls := "GallRegister", name := "number", desc := "(II)I" } : Jvm.MethodName)) ∈ lw_all := lw_g (lw_at lw_m5 36 rfl) rfl
theorem q1122 : (Jvm.Cond.privateMethod ({ cls := "GallRegister", name := "number", desc := "(II)I" } : Jvm.MethodName)) ∈ lw_tbl := lw_at lw_m5 37 rfl
theorem q1123 : (Jvm.Cond.instanceMethod ({ cls := "GallRegister", name := "number", desc := "(II)I" } : Jvm.MethodName)) ∈ lw_all := lw_g (lw_at lw_m5 38 rfl) rfl
theorem q1124 : (Jvm.Cond.code ({ cls := "GallRegister", name := "number", desc := "(II)I" } : Jvm.MethodName) prog_1_method_84_code (3 : Nat) (Option.some Jvm.ClassFile.FieldType.int)) ∈ lw_all := lw_g (lw_at lw_m5 39 rfl) rfl
theorem q1126 : (Jvm.Cond.instanceMethod ({ cls := "GallRegister", name := "first", desc := "(II)I" } : Jvm.MethodName)) ∈ lw_all := lw_g (lw_at lw_m5 41 rfl) rfl
theorem q1127 : (Jvm.Cond.selects "GallRegister" ({ cls := "GallRegister", name := "first", desc := "(II)I" } : Jvm.MethodName) ({ cls := "GallRegister", name := "first", desc := "(II)I" } : Jvm.MethodName)) ∈ lw_all := lw_g (lw_at lw_m5 42 rfl) rfl
theorem q1128 : (Jvm.Cond.code ({ cls := "GallRegister", name := "first", desc := "(II)I" } : Jvm.MethodName) prog_1_method_89_code (4 : Nat) (Option.some Jvm.ClassFile.FieldType.int)) ∈ lw_all := lw_g (lw_at lw_m5 43 rfl) rfl
theorem q1130 : (Jvm.Cond.instanceMethod ({ cls := "GallRegister", name := "last", desc := "(II)I" } : Jvm.MethodName)) ∈ lw_all := lw_g (lw_at lw_m5 45 rfl) rfl
theorem q1131 : (Jvm.Cond.selects "GallRegister" ({ cls := "GallRegister", name := "last", desc := "(II)I" } : Jvm.MethodName) ({ cls := "GallRegister", name := "last", desc := "(II)I" } : Jvm.MethodName)) ∈ lw_all := lw_g (lw_at lw_m5 46 rfl) rfl
theorem q1132 : (Jvm.Cond.code ({ cls := "GallRegister", name := "last", desc := "(II)I" } : Jvm.MethodName) prog_1_method_90_code (4 : Nat) (Option.some Jvm.ClassFile.FieldType.int)) ∈ lw_all := lw_g (lw_at lw_m5 47 rfl) rfl
theorem q1134 : (Jvm.Cond.instanceMethod ({ cls := "GallRegister", name := "ask", desc := "(II)I" } : Jvm.MethodName)) ∈ lw_all := lw_g (lw_at lw_m5 49 rfl) rfl
theorem q1135 : (Jvm.Cond.selects "GallRegister" ({ cls := "GallRegister", name := "ask", desc := "(II)I" } : Jvm.MethodName) ({ cls := "GallRegister", name := "ask", desc := "(II)I" } : Jvm.MethodName)) ∈ lw_all := lw_g (lw_at lw_m5 50 rfl) rfl
theorem q1136 : (Jvm.Cond.code ({ cls := "GallRegister", name := "ask", desc := "(II)I" } : Jvm.MethodName) prog_1_method_93_code (4 : Nat) (Option.some Jvm.ClassFile.FieldType.int)) ∈ lw_all := lw_g (lw_at lw_m5 51 rfl) rfl
theorem q1137 : (Jvm.Cond.methodLink "GallRegister" (364 : Nat) ({ cls := "GallRegister", name := "askOf", desc := "()I" } : Jvm.MethodName)) ∈ lw_all := lw_g (lw_at lw_m5 52 rfl) rfl
theorem q1138 : (Jvm.Cond.privateMethod ({ cls := "GallRegister", name := "askOf", desc := "()I" } : Jvm.MethodName)) ∈ lw_tbl := lw_at lw_m5 53 rfl
theorem q1139 : (Jvm.Cond.instanceMethod ({ cls := "GallRegister", name := "askOf", desc := "()I" } : Jvm.MethodName)) ∈ lw_all := lw_g (lw_at lw_m5 54 rfl) rfl
theorem q1140 : (Jvm.Cond.code ({ cls := "GallRegister", name := "askOf", desc := "()I" } : Jvm.MethodName) prog_1_method_92_code (4 : Nat) (Option.some Jvm.ClassFile.FieldType.int)) ∈ lw_all := lw_g (lw_at lw_m5 55 rfl) rfl
theorem q1141 : (Jvm.Cond.methodLink "GallRegister" (361 : Nat) ({ cls := "GallRegister", name := "worstIn", desc := "(I)I" } : Jvm.MethodName)) ∈ lw_all := lw_g (lw_at lw_m5 56 rfl) rfl
theorem q1142 : (Jvm.Cond.privateMethod ({ cls := "GallRegister", name := "worstIn", desc := "(I)I" } : Jvm.MethodName)) ∈ lw_tbl := lw_at lw_m5 57 rfl
theorem q1143 : (Jvm.Cond.instanceMethod ({ cls := "GallRegister", name := "worstIn", desc := "(I)I" } : Jvm.MethodName)) ∈ lw_all := lw_g (lw_at lw_m5 58 rfl) rfl
theorem q1144 : (Jvm.Cond.code ({ cls := "GallRegister", name := "worstIn", desc := "(I)I" } : Jvm.MethodName) prog_1_method_91_code (6 : Nat) (Option.some Jvm.ClassFile.FieldType.int)) ∈ lw_all := lw_g (lw_at lw_m5 59 rfl) rfl
theorem q1146 : (Jvm.Cond.instanceMethod ({ cls := "GallRegister", name := "leaves", desc := "(II)I" } : Jvm.MethodName)) ∈ lw_all := lw_g (lw_at lw_m5 61 rfl) rfl
theorem q1147 : (Jvm.Cond.selects "GallRegister" ({ cls := "GallRegister", name := "leaves", desc := "(II)I" } : Jvm.MethodName) ({ cls := "GallRegister", name := "leaves", desc := "(II)I" } : Jvm.MethodName)) ∈ lw_all := lw_g (lw_at lw_m5 62 rfl) rfl
theorem q1148 : (Jvm.Cond.code ({ cls := "GallRegister", name := "leaves", desc := "(II)I" } : Jvm.MethodName) prog_1_method_94_code (4 : Nat) (Option.some Jvm.ClassFile.FieldType.int)) ∈ lw_all := lw_g (lw_at lw_m5 63 rfl) rfl
theorem q1150 : (Jvm.Cond.instanceMethod ({ cls := "GallRegister", name := "kinds", desc := "(II)I" } : Jvm.MethodName)) ∈ lw_all := lw_g (lw_at lw_m5 65 rfl) rfl
theorem q1151 : (Jvm.Cond.selects "GallRegister" ({ cls := "GallRegister", name := "kinds", desc := "(II)I" } : Jvm.MethodName) ({ cls := "GallRegister", name := "kinds", desc := "(II)I" } : Jvm.MethodName)) ∈ lw_all := lw_g (lw_at lw_m5 66 rfl) rfl
theorem q1152 : (Jvm.Cond.code ({ cls := "GallRegister", name := "kinds", desc := "(II)I" } : Jvm.MethodName) prog_1_method_95_code (6 : Nat) (Option.some Jvm.ClassFile.FieldType.int)) ∈ lw_all := lw_g (lw_at lw_m5 67 rfl) rfl
theorem q1154 : (Jvm.Cond.instanceMethod ({ cls := "GallRegister", name := "laws", desc := "(I)I" } : Jvm.MethodName)) ∈ lw_all := lw_g (lw_at lw_m5 69 rfl) rfl
theorem q1155 : (Jvm.Cond.selects "GallRegister" ({ cls := "GallRegister", name := "laws", desc := "(I)I" } : Jvm.MethodName) ({ cls := "GallRegister", name := "laws", desc := "(I)I" } : Jvm.MethodName)) ∈ lw_all := lw_g (lw_at lw_m5 70 rfl) rfl
theorem q1156 : (Jvm.Cond.code ({ cls := "GallRegister", name := "laws", desc := "(I)I" } : Jvm.MethodName) prog_1_method_96_code (5 : Nat) (Option.some Jvm.ClassFile.FieldType.int)) ∈ lw_all := lw_g (lw_at lw_m5 71 rfl) rfl
theorem q1158 : (Jvm.Cond.instanceMethod ({ cls := "GallRegister", name := "by", desc := "(I)I" } : Jvm.MethodName)) ∈ lw_all := lw_g (lw_at lw_m5 73 rfl) rfl
theorem q1159 : (Jvm.Cond.selects "GallRegister" ({ cls := "GallRegister", name := "by", desc := "(I)I" } : Jvm.MethodName) ({ cls := "GallRegister", name := "by", desc := "(I)I" } : Jvm.MethodName)) ∈ lw_all := lw_g (lw_at lw_m5 74 rfl) rfl
theorem q1160 : (Jvm.Cond.code ({ cls := "GallRegister", name := "by", desc := "(I)I" } : Jvm.MethodName) prog_1_method_98_code (2 : Nat) (Option.some Jvm.ClassFile.FieldType.int)) ∈ lw_all := lw_g (lw_at lw_m5 75 rfl) rfl
theorem q1161 : (Jvm.Cond.methodLink "GallRegister" (370 : Nat) ({ cls := "GallRegister", name := "isLaw", desc := "(I)Z" } : Jvm.MethodName)) ∈ lw_all := lw_g (lw_at lw_m5 76 rfl) rfl
theorem q1162 : (Jvm.Cond.static ({ cls := "GallRegister", name := "isLaw", desc := "(I)Z" } : Jvm.MethodName)) ∈ lw_all := lw_g (lw_at lw_m5 77 rfl) rfl
theorem q1163 : (Jvm.Cond.code ({ cls := "GallRegister", name := "isLaw", desc := "(I)Z" } : Jvm.MethodName) prog_1_method_14_code (1 : Nat) (Option.some Jvm.ClassFile.FieldType.boolean)) ∈ lw_all := lw_g (lw_at lw_m5 78 rfl) rfl
theorem q1164 : (Jvm.Cond.methodLink "GallRegister" (373 : Nat) ({ cls := "GallRegister", name := "allByLaw", desc := "(I)I" } : Jvm.MethodName)) ∈ lw_all := lw_g (lw_at lw_m5 79 rfl) rfl
theorem q1165 : (Jvm.Cond.privateMethod ({ cls := "GallRegister", name := "allByLaw", desc := "(I)I" } : Jvm.MethodName)) ∈ lw_tbl := lw_at lw_m5 80 rfl
theorem q1166 : (Jvm.Cond.instanceMethod ({ cls := "GallRegister", name := "allByLaw", desc := "(I)I" } : Jvm.MethodName)) ∈ lw_all := lw_g (lw_at lw_m5 81 rfl) rfl
theorem q1167 : (Jvm.Cond.code ({ cls := "GallRegister", name := "allByLaw", desc := "(I)I" } : Jvm.MethodName) prog_1_method_97_code (2 : Nat) (Option.some Jvm.ClassFile.FieldType.int)) ∈ lw_all := lw_g (lw_at lw_m5 82 rfl) rfl
theorem q1168 : (Jvm.Cond.methodLink "GallRegister" (367 : Nat) ({ cls := "GallRegister", name := "allLast", desc := "()I" } : Jvm.MethodName)) ∈ lw_all := lw_g (lw_at lw_m5 83 rfl) rfl
theorem q1169 : (Jvm.Cond.privateMethod ({ cls := "GallRegister", name := "allLast", desc := "()I" } : Jvm.MethodName)) ∈ lw_tbl := lw_at lw_m5 84 rfl
theorem q1170 : (Jvm.Cond.instanceMethod ({ cls := "GallRegister", name := "allLast", desc := "()I" } : Jvm.MethodName)) ∈ lw_all := lw_g (lw_at lw_m5 85 rfl) rfl
theorem q1171 : (Jvm.Cond.code ({ cls := "GallRegister", name := "allLast", desc := "()I" } : Jvm.MethodName) prog_1_method_48_code (1 : Nat) (Option.some Jvm.ClassFile.FieldType.int)) ∈ lw_all := lw_g (lw_at lw_m5 86 rfl) rfl
theorem q1173 : (Jvm.Cond.instanceMethod ({ cls := "GallRegister", name := "law", desc := "()I" } : Jvm.MethodName)) ∈ lw_all := lw_g (lw_at lw_m5 88 rfl) rfl
theorem q1174 : (Jvm.Cond.selects "GallRegister" ({ cls := "GallRegister", name := "law", desc := "()I" } : Jvm.MethodName) ({ cls := "GallRegister", name := "law", desc := "()I" } : Jvm.MethodName)) ∈ lw_all := lw_g (lw_at lw_m5 89 rfl) rfl
theorem q1175 : (Jvm.Cond.code ({ cls := "GallRegister", name := "law", desc := "()I" } : Jvm.MethodName) prog_1_method_99_code (3 : Nat) (Option.some Jvm.ClassFile.FieldType.int)) ∈ lw_all := lw_g (lw_at lw_m5 90 rfl) rfl
theorem q1177 : (Jvm.Cond.instanceMethod ({ cls := "GallRegister", name := "hide", desc := "(II)I" } : Jvm.MethodName)) ∈ lw_all := lw_g (lw_at lw_m5 92 rfl) rfl
theorem q1178 : (Jvm.Cond.selects "GallRegister" ({ cls := "GallRegister", name := "hide", desc := "(II)I" } : Jvm.MethodName) ({ cls := "GallRegister", name := "hide", desc := "(II)I" } : Jvm.MethodName)) ∈ lw_all := lw_g (lw_at lw_m5 93 rfl) rfl
theorem q1179 : (Jvm.Cond.code ({ cls := "GallRegister", name := "hide", desc := "(II)I" } : Jvm.MethodName) prog_1_method_100_code (3 : Nat) (Option.some Jvm.ClassFile.FieldType.int)) ∈ lw_all := lw_g (lw_at lw_m5 94 rfl) rfl
theorem q1181 : (Jvm.Cond.instanceMethod ({ cls := "GallRegister", name := "save", desc := "(I)I" } : Jvm.MethodName)) ∈ lw_all := lw_g (lw_at lw_m5 96 rfl) rfl
theorem q1182 : (Jvm.Cond.selects "GallRegister" ({ cls := "GallRegister", name := "save", desc := "(I)I" } : Jvm.MethodName) ({ cls := "GallRegister", name := "save", desc := "(I)I" } : Jvm.MethodName)) ∈ lw_all := lw_g (lw_at lw_m5 97 rfl) rfl
theorem q1183 : (Jvm.Cond.code ({ cls := "GallRegister", name := "save", desc := "(I)I" } : Jvm.MethodName) prog_1_method_101_code (2 : Nat) (Option.some Jvm.ClassFile.FieldType.int)) ∈ lw_all := lw_g (lw_at lw_m5 98 rfl) rfl
theorem q1185 : (Jvm.Cond.instanceMethod ({ cls := "GallRegister", name := "heavy", desc := "()I" } : Jvm.MethodName)) ∈ lw_all := lw_g (lw_at lw_m5 100 rfl) rfl
theorem q1186 : (Jvm.Cond.selects "GallRegister" ({ cls := "GallRegister", name := "heavy", desc := "()I" } : Jvm.MethodName) ({ cls := "GallRegister", name := "heavy", desc := "()I" } : Jvm.MethodName)) ∈ lw_all := lw_g (lw_at lw_m5 101 rfl) rfl
theorem q1187 : (Jvm.Cond.code ({ cls := "GallRegister", name := "heavy", desc := "()I" } : Jvm.MethodName) prog_1_method_102_code (3 : Nat) (Option.some Jvm.ClassFile.FieldType.int)) ∈ lw_all := lw_g (lw_at lw_m5 102 rfl) rfl
theorem q1189 : (Jvm.Cond.instanceMethod ({ cls := "GallRegister", name := "worth", desc := "(I)I" } : Jvm.MethodName)) ∈ lw_all := lw_g (lw_at lw_m5 104 rfl) rfl
theorem q1190 : (Jvm.Cond.selects "GallRegister" ({ cls := "GallRegister", name := "worth", desc := "(I)I" } : Jvm.MethodName) ({ cls := "GallRegister", name := "worth", desc := "(I)I" } : Jvm.MethodName)) ∈ lw_all := lw_g (lw_at lw_m5 105 rfl) rfl
theorem q1191 : (Jvm.Cond.code ({ cls := "GallRegister", name := "worth", desc := "(I)I" } : Jvm.MethodName) prog_1_method_106_code (2 : Nat) (Option.some Jvm.ClassFile.FieldType.int)) ∈ lw_all := lw_g (lw_at lw_m5 106 rfl) rfl
theorem q1193 : (Jvm.Cond.instanceMethod ({ cls := "GallRegister", name := "share", desc := "(II)I" } : Jvm.MethodName)) ∈ lw_all := lw_g (lw_at lw_m5 108 rfl) rfl
theorem q1194 : (Jvm.Cond.selects "GallRegister" ({ cls := "GallRegister", name := "share", desc := "(II)I" } : Jvm.MethodName) ({ cls := "GallRegister", name := "share", desc := "(II)I" } : Jvm.MethodName)) ∈ lw_all := lw_g (lw_at lw_m5 109 rfl) rfl
theorem q1195 : (Jvm.Cond.code ({ cls := "GallRegister", name := "share", desc := "(II)I" } : Jvm.MethodName) prog_1_method_107_code (7 : Nat) (Option.some Jvm.ClassFile.FieldType.int)) ∈ lw_all := lw_g (lw_at lw_m5 110 rfl) rfl
theorem q1196 : (Jvm.Cond.methodLink "GallRegister" (384 : Nat) ({ cls := "java/lang/Integer", name := "bitCount", desc := "(I)I" } : Jvm.MethodName)) ∈ lw_all := lw_g (lw_at lw_m5 111 rfl) rfl
theorem q1202 : (Jvm.Cond.methodLink "GallRegister" (387 : Nat) ({ cls := "GallRegister", name := "factorial", desc := "(I)J" } : Jvm.MethodName)) ∈ lw_all := lw_g (lw_at lw_m5 117 rfl) rfl
theorem q1203 : (Jvm.Cond.static ({ cls := "GallRegister", name := "factorial", desc := "(I)J" } : Jvm.MethodName)) ∈ lw_all := lw_g (lw_at lw_m5 118 rfl) rfl
theorem q1204 : (Jvm.Cond.code ({ cls := "GallRegister", name := "factorial", desc := "(I)J" } : Jvm.MethodName) prog_1_method_103_code (4 : Nat) (Option.some Jvm.ClassFile.FieldType.long)) ∈ lw_all := lw_g (lw_at lw_m5 119 rfl) rfl
theorem q1205 : (Jvm.Cond.methodLink "GallRegister" (390 : Nat) ({ cls := "GallRegister", name := "part", desc := "(JJI)J" } : Jvm.MethodName)) ∈ lw_all := lw_g (lw_at lw_m5 120 rfl) rfl
theorem q1206 : (Jvm.Cond.static ({ cls := "GallRegister", name := "part", desc := "(JJI)J" } : Jvm.MethodName)) ∈ lw_all := lw_g (lw_at lw_m5 121 rfl) rfl
theorem q1207 : (Jvm.Cond.code ({ cls := "GallRegister", name := "part", desc := "(JJI)J" } : Jvm.MethodName) prog_1_method_105_code (5 : Nat) (Option.some Jvm.ClassFile.FieldType.long)) ∈ lw_all := lw_g (lw_at lw_m5 122 rfl) rfl
theorem q1208 : (Jvm.Cond.methodLink "GallRegister" (380 : Nat) ({ cls := "GallRegister", name := "divisor", desc := "(JJ)J" } : Jvm.MethodName)) ∈ lw_all := lw_g (lw_at lw_m5 123 rfl) rfl
theorem q1209 : (Jvm.Cond.static ({ cls := "GallRegister", name := "divisor", desc := "(JJ)J" } : Jvm.MethodName)) ∈ lw_all := lw_g (lw_at lw_m5 124 rfl) rfl
theorem q1210 : (Jvm.Cond.code ({ cls := "GallRegister", name := "divisor", desc := "(JJ)J" } : Jvm.MethodName) prog_1_method_104_code (10 : Nat) (Option.some Jvm.ClassFile.FieldType.long)) ∈ lw_all := lw_g (lw_at lw_m5 125 rfl) rfl
theorem q1211 : (Jvm.Cond.methodLink "GallRegister" (376 : Nat) ({ cls := "java/lang/Math", name := "abs", desc := "(J)J" } : Jvm.MethodName)) ∈ lw_all := lw_g (lw_at lw_m5 126 rfl) rfl
theorem q1215 : (Jvm.Cond.instanceMethod ({ cls := "GallRegister", name := "rests", desc := "(II)I" } : Jvm.MethodName)) ∈ lw_all := lw_g (lw_at lw_m5 130 rfl) rfl
theorem q1216 : (Jvm.Cond.selects "GallRegister" ({ cls := "GallRegister", name := "rests", desc := "(II)I" } : Jvm.MethodName) ({ cls := "GallRegister", name := "rests", desc := "(II)I" } : Jvm.MethodName)) ∈ lw_all := lw_g (lw_at lw_m5 131 rfl) rfl
theorem q1217 : (Jvm.Cond.code ({ cls := "GallRegister", name := "rests", desc := "(II)I" } : Jvm.MethodName) prog_1_method_110_code (6 : Nat) (Option.some Jvm.ClassFile.FieldType.int)) ∈ lw_all := lw_g (lw_at lw_m5 132 rfl) rfl
theorem q1218 : (Jvm.Cond.methodLink "GallRegister" (394 : Nat) ({ cls := "GallRegister", name := "areTwo", desc := "(II)Z" } : Jvm.MethodName)) ∈ lw_all := lw_g (lw_at lw_m5 133 rfl) rfl
theorem q1219 : (Jvm.Cond.privateMethod ({ cls := "GallRegister", name := "areTwo", desc := "(II)Z" } : Jvm.MethodName)) ∈ lw_tbl := lw_at lw_m5 134 rfl
theorem q1220 : (Jvm.Cond.instanceMethod ({ cls := "GallRegister", name := "areTwo", desc := "(II)Z" } : Jvm.MethodName)) ∈ lw_all := lw_g (lw_at lw_m5 135 rfl) rfl
theorem q1221 : (Jvm.Cond.code ({ cls := "GallRegister", name := "areTwo", desc := "(II)Z" } : Jvm.MethodName) prog_1_method_109_code (3 : Nat) (Option.some Jvm.ClassFile.FieldType.boolean)) ∈ lw_all := lw_g (lw_at lw_m5 136 rfl) rfl
theorem q1222 : (Jvm.Cond.methodLink "GallRegister" (397 : Nat) ({ cls := "GallRegister", name := "getsOf", desc := "(IIII)I" } : Jvm.MethodName)) ∈ lw_all := lw_g (lw_at lw_m5 137 rfl) rfl
theorem q1223 : (Jvm.Cond.privateMethod ({ cls := "GallRegister", name := "getsOf", desc := "(IIII)I" } : Jvm.MethodName)) ∈ lw_tbl := lw_at lw_m5 138 rfl
theorem q1224 : (Jvm.Cond.instanceMethod ({ cls := "GallRegister", name := "getsOf", desc := "(IIII)I" } : Jvm.MethodName)) ∈ lw_all := lw_g (lw_at lw_m5 139 rfl) rfl
theorem q1225 : (Jvm.Cond.code ({ cls := "GallRegister", name := "getsOf", desc := "(IIII)I" } : Jvm.MethodName) prog_1_method_108_code (5 : Nat) (Option.some Jvm.ClassFile.FieldType.int)) ∈ lw_all := lw_g (lw_at lw_m5 140 rfl) rfl
theorem q1227 : (Jvm.Cond.instanceMethod ({ cls := "GallRegister", name := "gets", desc := "(IIII)I" } : Jvm.MethodName)) ∈ lw_all := lw_g (lw_at lw_m5 142 rfl) rfl
theorem q1228 : (Jvm.Cond.selects "GallRegister" ({ cls := "GallRegister", name := "gets", desc := "(IIII)I" } : Jvm.MethodName) ({ cls := "GallRegister", name := "gets", desc := "(IIII)I" } : Jvm.MethodName)) ∈ lw_all := lw_g (lw_at lw_m5 143 rfl) rfl
theorem q1229 : (Jvm.Cond.code ({ cls := "GallRegister", name := "gets", desc := "(IIII)I" } : Jvm.MethodName) prog_1_method_111_code (5 : Nat) (Option.some Jvm.ClassFile.FieldType.int)) ∈ lw_all := lw_g (lw_at lw_m5 144 rfl) rfl
theorem q1231 : (Jvm.Cond.instanceMethod ({ cls := "GallRegister", name := "chance", desc := "(IIII)I" } : Jvm.MethodName)) ∈ lw_all := lw_g (lw_at lw_m5 146 rfl) rfl
theorem q1232 : (Jvm.Cond.selects "GallRegister" ({ cls := "GallRegister", name := "chance", desc := "(IIII)I" } : Jvm.MethodName) ({ cls := "GallRegister", name := "chance", desc := "(IIII)I" } : Jvm.MethodName)) ∈ lw_all := lw_g (lw_at lw_m5 147 rfl) rfl
theorem q1233 : (Jvm.Cond.code ({ cls := "GallRegister", name := "chance", desc := "(IIII)I" } : Jvm.MethodName) prog_1_method_114_code (5 : Nat) (Option.some Jvm.ClassFile.FieldType.int)) ∈ lw_all := lw_g (lw_at lw_m5 148 rfl) rfl
theorem q1234 : (Jvm.Cond.methodLink "GallRegister" (415 : Nat) ({ cls := "GallRegister", name := "isChance", desc := "(I)Z" } : Jvm.MethodName)) ∈ lw_all := lw_g (lw_at lw_m5 149 rfl) rfl
theorem q1235 : (Jvm.Cond.privateMethod ({ cls := "GallRegister", name := "isChance", desc := "(I)Z" } : Jvm.MethodName)) ∈ lw_tbl := lw_at lw_m5 150 rfl
theorem q1236 : (Jvm.Cond.instanceMethod ({ cls := "GallRegister", name := "isChance", desc := "(I)Z" } : Jvm.MethodName)) ∈ lw_all := lw_g (lw_at lw_m5 151 rfl) rfl
theorem q1237 : (Jvm.Cond.code ({ cls := "GallRegister", name := "isChance", desc := "(I)Z" } : Jvm.MethodName) prog_1_method_113_code (2 : Nat) (Option.some Jvm.ClassFile.FieldType.boolean)) ∈ lw_all := lw_g (lw_at lw_m5 152 rfl) rfl
theorem q1238 : (Jvm.Cond.constantLong "GallRegister" (413 : Nat) (8 : Int64)) ∈ lw_all := lw_g (lw_at lw_m5 153 rfl) rfl
theorem q1239 : (Jvm.Cond.methodLink "GallRegister" (418 : Nat) ({ cls := "GallRegister", name := "laysChance", desc := "(III)V" } : Jvm.MethodName)) ∈ lw_all := lw_g (lw_at lw_m5 154 rfl) rfl
theorem q1240 : (Jvm.Cond.privateMethod ({ cls := "GallRegister", name := "laysChance", desc := "(III)V" } : Jvm.MethodName)) ∈ lw_tbl := lw_at lw_m5 155 rfl
theorem q1241 : (Jvm.Cond.instanceMethod ({ cls := "GallRegister", name := "laysChance", desc := "(III)V" } : Jvm.MethodName)) ∈ lw_all := lw_g (lw_at lw_m5 156 rfl) rfl
theorem q1242 : (Jvm.Cond.code ({ cls := "GallRegister", name := "laysChance", desc := "(III)V" } : Jvm.MethodName) prog_1_method_112_code (7 : Nat) (Option.none : Option Jvm.ClassFile.FieldType)) ∈ lw_all := lw_g (lw_at lw_m5 157 rfl) rfl
theorem q1244 : (Jvm.Cond.instanceMethod ({ cls := "GallRegister", name := "mean", desc := "(II)J" } : Jvm.MethodName)) ∈ lw_all := lw_g (lw_at lw_m5 159 rfl) rfl
theorem q1245 : (Jvm.Cond.selects "GallRegister" ({ cls := "GallRegister", name := "mean", desc := "(II)J" } : Jvm.MethodName) ({ cls := "GallRegister", name := "mean", desc := "(II)J" } : Jvm.MethodName)) ∈ lw_all := lw_g (lw_at lw_m5 160 rfl) rfl
theorem q1246 : (Jvm.Cond.code ({ cls := "GallRegister", name := "mean", desc := "(II)J" } : Jvm.MethodName) prog_1_method_115_code (3 : Nat) (Option.some Jvm.ClassFile.FieldType.long)) ∈ lw_all := lw_g (lw_at lw_m5 161 rfl) rfl
theorem q1247 : (Jvm.Cond.constantLong "GallRegister" (422 : Nat) (-2 : Int64)) ∈ lw_all := lw_g (lw_at lw_m5 162 rfl) rfl
theorem q1249 : (Jvm.Cond.instanceMethod ({ cls := "GallRegister", name := "drawn", desc := "(II)I" } : Jvm.MethodName)) ∈ lw_all := lw_g (lw_at lw_m5 164 rfl) rfl
theorem q1250 : (Jvm.Cond.selects "GallRegister" ({ cls := "GallRegister", name := "drawn", desc := "(II)I" } : Jvm.MethodName) ({ cls := "GallRegister", name := "drawn", desc := "(II)I" } : Jvm.MethodName)) ∈ lw_all := lw_g (lw_at lw_m5 165 rfl) rfl
theorem q1251 : (Jvm.Cond.code ({ cls := "GallRegister", name := "drawn", desc := "(II)I" } : Jvm.MethodName) prog_1_method_117_code (3 : Nat) (Option.some Jvm.ClassFile.FieldType.int)) ∈ lw_all := lw_g (lw_at lw_m5 166 rfl) rfl
theorem q1252 : (Jvm.Cond.methodLink "GallRegister" (434 : Nat) ({ cls := "GallRegister", name := "isSeed", desc := "(I)Z" } : Jvm.MethodName)) ∈ lw_all := lw_g (lw_at lw_m5 167 rfl) rfl
theorem q1253 : (Jvm.Cond.static ({ cls := "GallRegister", name := "isSeed", desc := "(I)Z" } : Jvm.MethodName)) ∈ lw_all := lw_g (lw_at lw_m5 168 rfl) rfl
theorem q1254 : (Jvm.Cond.code ({ cls := "GallRegister", name := "isSeed", desc := "(I)Z" } : Jvm.MethodName) prog_1_method_16_code (1 : Nat) (Option.some Jvm.ClassFile.FieldType.boolean)) ∈ lw_all := lw_g (lw_at lw_m5 169 rfl) rfl
theorem q1255 : (Jvm.Cond.constantLong "GallRegister" (138 : Nat) (2000000000 : Int64)) ∈ lw_all := lw_g (lw_at lw_m5 170 rfl) rfl
theorem q1256 : (Jvm.Cond.methodLink "GallRegister" (437 : Nat) ({ cls := "GallRegister", name := "draws", desc := "(J)V" } : Jvm.MethodName)) ∈ lw_all := lw_g (lw_at lw_m5 171 rfl) rfl
theorem q1257 : (Jvm.Cond.privateMethod ({ cls := "GallRegister", name := "draws", desc := "(J)V" } : Jvm.MethodName)) ∈ lw_tbl := lw_at lw_m5 172 rfl
theorem q1258 : (Jvm.Cond.instanceMethod ({ cls := "GallRegister", name := "draws", desc := "(J)V" } : Jvm.MethodName)) ∈ lw_all := lw_g (lw_at lw_m5 173 rfl) rfl
theorem q1259 : (Jvm.Cond.code ({ cls := "GallRegister", name := "draws", desc := "(J)V" } : Jvm.MethodName) prog_1_method_116_code (6 : Nat) (Option.none : Option Jvm.ClassFile.FieldType)) ∈ lw_all := lw_g (lw_at lw_m5 174 rfl) rfl
theorem q1260 : (Jvm.Cond.constantLong "GallRegister" (424 : Nat) (1103515245 : Int64)) ∈ lw_all := lw_g (lw_at lw_m5 175 rfl) rfl
theorem q1261 : (Jvm.Cond.constantLong "GallRegister" (426 : Nat) (12345 : Int64)) ∈ lw_all := lw_g (lw_at lw_m5 176 rfl) rfl
theorem q1262 : (Jvm.Cond.constantLong "GallRegister" (428 : Nat) (2147483648 : Int64)) ∈ lw_all := lw_g (lw_at lw_m5 177 rfl) rfl
theorem q1263 : (Jvm.Cond.constantLong "GallRegister" (430 : Nat) (65536 : Int64)) ∈ lw_all := lw_g (lw_at lw_m5 178 rfl) rfl
theorem q1264 : (Jvm.Cond.constantLong "GallRegister" (432 : Nat) (10 : Int64)) ∈ lw_all := lw_g (lw_at lw_m5 179 rfl) rfl
theorem q1266 : (Jvm.Cond.instanceMethod ({ cls := "GallRegister", name := "luck", desc := "(III)I" } : Jvm.MethodName)) ∈ lw_all := lw_g (lw_at lw_m5 181 rfl) rfl
theorem q1267 : (Jvm.Cond.selects "GallRegister" ({ cls := "GallRegister", name := "luck", desc := "(III)I" } : Jvm.MethodName) ({ cls := "GallRegister", name := "luck", desc := "(III)I" } : Jvm.MethodName)) ∈ lw_all := lw_g (lw_at lw_m5 182 rfl) rfl
theorem q1268 : (Jvm.Cond.code ({ cls := "GallRegister", name := "luck", desc := "(III)I" } : Jvm.MethodName) prog_1_method_118_code (6 : Nat) (Option.some Jvm.ClassFile.FieldType.int)) ∈ lw_all := lw_g (lw_at lw_m5 183 rfl) rfl
theorem q1270 : (Jvm.Cond.instanceMethod ({ cls := "GallRegister", name := "retraces", desc := "(III)I" } : Jvm.MethodName)) ∈ lw_all := lw_g (lw_at lw_m5 185 rfl) rfl
theorem q1271 : (Jvm.Cond.selects "GallRegister" ({ cls := "GallRegister", name := "retraces", desc := "(III)I" } : Jvm.MethodName) ({ cls := "GallRegister", name := "retraces", desc := "(III)I" } : Jvm.MethodName)) ∈ lw_all := lw_g (lw_at lw_m5 186 rfl) rfl
theorem q1272 : (Jvm.Cond.code ({ cls := "GallRegister", name := "retraces", desc := "(III)I" } : Jvm.MethodName) prog_1_method_120_code (4 : Nat) (Option.some Jvm.ClassFile.FieldType.int)) ∈ lw_all := lw_g (lw_at lw_m5 187 rfl) rfl
theorem q1273 : (Jvm.Cond.methodLink "GallRegister" (441 : Nat) ({ cls := "GallRegister", name := "isKept", desc := "(I)Z" } : Jvm.MethodName)) ∈ lw_all := lw_g (lw_at lw_m5 188 rfl) rfl
theorem q1274 : (Jvm.Cond.privateMethod ({ cls := "GallRegister", name := "isKept", desc := "(I)Z" } : Jvm.MethodName)) ∈ lw_tbl := lw_at lw_m5 189 rfl
theorem q1275 : (Jvm.Cond.instanceMethod ({ cls := "GallRegister", name := "isKept", desc := "(I)Z" } : Jvm.MethodName)) ∈ lw_all := lw_g (lw_at lw_m5 190 rfl) rfl
theorem q1276 : (Jvm.Cond.code ({ cls := "GallRegister", name := "isKept", desc := "(I)Z" } : Jvm.MethodName) prog_1_method_119_code (2 : Nat) (Option.some Jvm.ClassFile.FieldType.boolean)) ∈ lw_all := lw_g (lw_at lw_m5 191 rfl) rfl
theorem q1278 : (Jvm.Cond.instanceMethod ({ cls := "GallRegister", name := "bleaches", desc := "(II)I" } : Jvm.MethodName)) ∈ lw_all := lw_g (lw_at lw_m5 193 rfl) rfl
theorem q1279 : (Jvm.Cond.selects "GallRegister" ({ cls := "GallRegister", name := "bleaches", desc := "(II)I" } : Jvm.MethodName) ({ cls := "GallRegister", name := "bleaches", desc := "(II)I" } : Jvm.MethodName)) ∈ lw_all := lw_g (lw_at lw_m5 194 rfl) rfl
theorem q1280 : (Jvm.Cond.code ({ cls := "GallRegister", name := "bleaches", desc := "(II)I" } : Jvm.MethodName) prog_1_method_121_code (3 : Nat) (Option.some Jvm.ClassFile.FieldType.int)) ∈ lw_all := lw_g (lw_at lw_m5 195 rfl) rfl
theorem q1282 : (Jvm.Cond.instanceMethod ({ cls := "GallRegister", name := "undo", desc := "()I" } : Jvm.MethodName)) ∈ lw_all := lw_g (lw_at lw_m5 197 rfl) rfl
theorem q1283 : (Jvm.Cond.selects "GallRegister" ({ cls := "GallRegister", name := "undo", desc := "()I" } : Jvm.MethodName) ({ cls := "GallRegister", name := "undo", desc := "()I" } : Jvm.MethodName)) ∈ lw_all := lw_g (lw_at lw_m5 198 rfl) rfl
theorem q1284 : (Jvm.Cond.code ({ cls := "GallRegister", name := "undo", desc := "()I" } : Jvm.MethodName) prog_1_method_122_code (1 : Nat) (Option.some Jvm.ClassFile.FieldType.int)) ∈ lw_all := lw_g (lw_at lw_m5 199 rfl) rfl
theorem q1286 : (Jvm.Cond.instanceMethod ({ cls := "GallRegister", name := "anew", desc := "()I" } : Jvm.MethodName)) ∈ lw_all := lw_g (lw_at lw_m5 201 rfl) rfl
theorem q1287 : (Jvm.Cond.selects "GallRegister" ({ cls := "GallRegister", name := "anew", desc := "()I" } : Jvm.MethodName) ({ cls := "GallRegister", name := "anew", desc := "()I" } : Jvm.MethodName)) ∈ lw_all := lw_g (lw_at lw_m5 202 rfl) rfl
theorem q1288 : (Jvm.Cond.code ({ cls := "GallRegister", name := "anew", desc := "()I" } : Jvm.MethodName) prog_1_method_123_code (2 : Nat) (Option.some Jvm.ClassFile.FieldType.int)) ∈ lw_all := lw_g (lw_at lw_m5 203 rfl) rfl
theorem q1290 : (Jvm.Cond.instanceMethod ({ cls := "GallRegister", name := "rate", desc := "(II)I" } : Jvm.MethodName)) ∈ lw_all := lw_g (lw_at lw_m5 205 rfl) rfl
theorem q1291 : (Jvm.Cond.selects "GallRegister" ({ cls := "GallRegister", name := "rate", desc := "(II)I" } : Jvm.MethodName) ({ cls := "GallRegister", name := "rate", desc := "(II)I" } : Jvm.MethodName)) ∈ lw_all := lw_g (lw_at lw_m5 206 rfl) rfl
theorem q1292 : (Jvm.Cond.code ({ cls := "GallRegister", name := "rate", desc := "(II)I" } : Jvm.MethodName) prog_1_method_124_code (4 : Nat) (Option.some Jvm.ClassFile.FieldType.int)) ∈ lw_all := lw_g (lw_at lw_m5 207 rfl) rfl
theorem q1294 : (Jvm.Cond.instanceMethod ({ cls := "GallRegister", name := "count", desc := "(I)I" } : Jvm.MethodName)) ∈ lw_all := lw_g (lw_at lw_m5 209 rfl) rfl
theorem q1295 : (Jvm.Cond.selects "GallRegister" ({ cls := "GallRegister", name := "count", desc := "(I)I" } : Jvm.MethodName) ({ cls := "GallRegister", name := "count", desc := "(I)I" } : Jvm.MethodName)) ∈ lw_all := lw_g (lw_at lw_m5 210 rfl) rfl
theorem q1296 : (Jvm.Cond.code ({ cls := "GallRegister", name := "count", desc := "(I)I" } : Jvm.MethodName) prog_1_method_126_code (4 : Nat) (Option.some Jvm.ClassFile.FieldType.int)) ∈ lw_all := lw_g (lw_at lw_m5 211 rfl) rfl
theorem q1298 : (Jvm.Cond.instanceMethod ({ cls := "GallRegister", name := "image", desc := "(I)I" } : Jvm.MethodName)) ∈ lw_all := lw_g (lw_at lw_m5 213 rfl) rfl
theorem q1299 : (Jvm.Cond.selects "GallRegister" ({ cls := "GallRegister", name := "image", desc := "(I)I" } : Jvm.MethodName) ({ cls := "GallRegister", name := "image", desc := "(I)I" } : Jvm.MethodName)) ∈ lw_all := lw_g (lw_at lw_m5 214 rfl) rfl
theorem q1300 : (Jvm.Cond.code ({ cls := "GallRegister", name := "image", desc := "(I)I" } : Jvm.MethodName) prog_1_method_127_code (2 : Nat) (Option.some Jvm.ClassFile.FieldType.int)) ∈ lw_all := lw_g (lw_at lw_m5 215 rfl) rfl
theorem q1301 : (Jvm.Cond.constantLong "GallRegister" (448 : Nat) (2 : Int64)) ∈ lw_all := lw_g (lw_at lw_m5 216 rfl) rfl
theorem q1302 : (Jvm.Cond.methodLink "GallRegister" (450 : Nat) ({ cls := "java/util/ArrayList", name := "size", desc := "()I" } : Jvm.MethodName)) ∈ lw_all := lw_g (lw_at lw_m5 217 rfl) rfl
theorem q1306 : (Jvm.Cond.methodLink "GallRegister" (451 : Nat) ({ cls := "java/util/ArrayList", name := "add", desc := "(Ljava/lang/Object;)Z" } : Jvm.MethodName)) ∈ lw_all := lw_g (lw_at lw_m5 221 rfl) rfl
theorem q1336 : (Jvm.Cond.selects "GallRegister" ({ cls := "java/lang/Object", name := "getClass", desc := "()Ljava/lang/Class;" } : Jvm.MethodName) ({ cls := "java/lang/Object", name := "getClass", desc := "()Ljava/lang/Class;" } : Jvm.MethodName)) ∈ lw_all := lw_g (lw_at lw_m6 11 rfl) rfl
theorem q1363 : (Jvm.Cond.methodLink "GallRegister" (455 : Nat) ({ cls := "GallRegister$Book", name := "copy", desc := "()LGallRegister$Book;" } : Jvm.MethodName)) ∈ lw_all := lw_g (lw_at lw_m6 38 rfl) rfl
theorem q1370 : (Jvm.Cond.methodLink "GallRegister" (458 : Nat) ({ cls := "java/util/ArrayList", name := "set", desc := "(ILjava/lang/Object;)Ljava/lang/Object;" } : Jvm.MethodName)) ∈ lw_all := lw_g (lw_at lw_m6 45 rfl) rfl
theorem q1383 : (Jvm.Cond.instanceMethod ({ cls := "GallRegister", name := "back", desc := "(I)I" } : Jvm.MethodName)) ∈ lw_all := lw_g (lw_at lw_m6 58 rfl) rfl
theorem q1384 : (Jvm.Cond.selects "GallRegister" ({ cls := "GallRegister", name := "back", desc := "(I)I" } : Jvm.MethodName) ({ cls := "GallRegister", name := "back", desc := "(I)I" } : Jvm.MethodName)) ∈ lw_all := lw_g (lw_at lw_m6 59 rfl) rfl
theorem q1385 : (Jvm.Cond.code ({ cls := "GallRegister", name := "back", desc := "(I)I" } : Jvm.MethodName) prog_1_method_128_code (2 : Nat) (Option.some Jvm.ClassFile.FieldType.int)) ∈ lw_all := lw_g (lw_at lw_m6 60 rfl) rfl
theorem q1386 : (Jvm.Cond.methodLink "GallRegister" (462 : Nat) ({ cls := "java/util/ArrayList", name := "isEmpty", desc := "()Z" } : Jvm.MethodName)) ∈ lw_all := lw_g (lw_at lw_m6 61 rfl) rfl
theorem q1390 : (Jvm.Cond.methodLink "GallRegister" (465 : Nat) ({ cls := "java/util/ArrayList", name := "get", desc := "(I)Ljava/lang/Object;" } : Jvm.MethodName)) ∈ lw_all := lw_g (lw_at lw_m6 65 rfl) rfl
theorem q1395 : (Jvm.Cond.instanceMethod ({ cls := "GallRegister", name := "row", desc := "(III)I" } : Jvm.MethodName)) ∈ lw_all := lw_g (lw_at lw_m6 70 rfl) rfl
theorem q1396 : (Jvm.Cond.selects "GallRegister" ({ cls := "GallRegister", name := "row", desc := "(III)I" } : Jvm.MethodName) ({ cls := "GallRegister", name := "row", desc := "(III)I" } : Jvm.MethodName)) ∈ lw_all := lw_g (lw_at lw_m6 71 rfl) rfl
theorem q1397 : (Jvm.Cond.codeWith ({ cls := "GallRegister", name := "row", desc := "(III)I" } : Jvm.MethodName) prog_1_method_129_code (5 : Nat) (Option.some Jvm.ClassFile.FieldType.int) [((28 : Nat), (40 : Nat), (41 : Nat), (472 : Nat))]) ∈ lw_all := lw_g (lw_at lw_m6 72 rfl) rfl
theorem q1398 : (Jvm.Cond.classLink "GallRegister" (472 : Nat) "java/lang/NegativeArraySizeException") ∈ lw_all := lw_g (lw_at lw_m6 73 rfl) rfl
theorem q1425 : (Jvm.Cond.methodLink "GallRegister" (469 : Nat) ({ cls := "GallRegister$Slot", name := "make", desc := "(II)V" } : Jvm.MethodName)) ∈ lw_all := lw_g (lw_at lw_m6 100 rfl) rfl
theorem q1432 : (Jvm.Cond.instanceMethod ({ cls := "GallRegister", name := "write", desc := "(IIJ)I" } : Jvm.MethodName)) ∈ lw_all := lw_g (lw_at lw_m6 107 rfl) rfl
theorem q1433 : (Jvm.Cond.selects "GallRegister" ({ cls := "GallRegister", name := "write", desc := "(IIJ)I" } : Jvm.MethodName) ({ cls := "GallRegister", name := "write", desc := "(IIJ)I" } : Jvm.MethodName)) ∈ lw_all := lw_g (lw_at lw_m6 108 rfl) rfl
theorem q1434 : (Jvm.Cond.codeWith ({ cls := "GallRegister", name := "write", desc := "(IIJ)I" } : Jvm.MethodName) prog_1_method_130_code (6 : Nat) (Option.some Jvm.ClassFile.FieldType.int) [((10 : Nat), (22 : Nat), (23 : Nat), (341 : Nat)), ((10 : Nat), (22 : Nat), (28 : Nat), (478 : Nat))]) ∈ lw_all := lw_g (lw_at lw_m6 109 rfl) rfl
theorem q1435 : (Jvm.Cond.classLink "GallRegister" (478 : Nat) "java/lang/ArrayIndexOutOfBoundsException") ∈ lw_all := lw_g (lw_at lw_m6 110 rfl) rfl
theorem q1454 : (Jvm.Cond.methodLink "GallRegister" (474 : Nat) ({ cls := "GallRegister$Slot", name := "put", desc := "(IJ)V" } : Jvm.MethodName)) ∈ lw_all := lw_g (lw_at lw_m6 129 rfl) rfl
theorem q1459 : (Jvm.Cond.instanceMethod ({ cls := "GallRegister", name := "paste", desc := "(IIIII)I" } : Jvm.MethodName)) ∈ lw_all := lw_g (lw_at lw_m6 134 rfl) rfl
theorem q1460 : (Jvm.Cond.selects "GallRegister" ({ cls := "GallRegister", name := "paste", desc := "(IIIII)I" } : Jvm.MethodName) ({ cls := "GallRegister", name := "paste", desc := "(IIIII)I" } : Jvm.MethodName)) ∈ lw_all := lw_g (lw_at lw_m6 135 rfl) rfl
theorem q1461 : (Jvm.Cond.codeWith ({ cls := "GallRegister", name := "paste", desc := "(IIIII)I" } : Jvm.MethodName) prog_1_method_131_code (7 : Nat) (Option.some Jvm.ClassFile.FieldType.int) [((17 : Nat), (44 : Nat), (45 : Nat), (341 : Nat)), ((17 : Nat), (44 : Nat), (50 : Nat), (480 : Nat)), ((17 : Nat), (44 : Nat), (55 : Nat), (482 : Nat))]) ∈ lw_all := lw_g (lw_at lw_m6 136 rfl) rfl
theorem q1462 : (Jvm.Cond.classLink "GallRegister" (480 : Nat) "java/lang/ArrayStoreException") ∈ lw_all := lw_g (lw_at lw_m6 137 rfl) rfl
theorem q1476 : (Jvm.Cond.classLink "GallRegister" (482 : Nat) "java/lang/IndexOutOfBoundsException") ∈ lw_all := lw_g (lw_at lw_m6 151 rfl) rfl
theorem q2248 : (Jvm.Cond.castable "GallRegister" "java/lang/Object") ∈ lw_tbl := lw_at lw_m9 203 rfl
theorem in_X0 : ∀ w ∈ wsX00, w ∈ lw_all := lw_in wsX00 [385, 387, 389, 391, 393, 395, 397, 399, 401, 403, 405, 407, 409, 411, 413, 415, 417, 419, 421, 423, 425, 427, 429, 431, 433, 435, 437, 439, 441, 443, 445, 447] (by decide +kernel) (by decide +kernel)
