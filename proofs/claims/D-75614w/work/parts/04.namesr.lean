/-! GallRegister$Book -/
set_option maxRecDepth 100000
def RX1 : String := "GallRegister$Book"
def TX1 : u_T := fun k => match k with
  | 0 => ("GallRegister$Book", "years", "I", false)
  | 1 => ("GallRegister$Book", "law", "I", false)
  | 2 => ("GallRegister$Book", "odds", "I", false)
  | 3 => ("GallRegister$Book", "lines", "I", false)
  | 4 => ("GallRegister$Book", "inks", "I", false)
  | 5 => ("GallRegister$Book", "pages", "I", false)
  | 6 => ("GallRegister$Book", "entries", "I", false)
  | 7 => ("GallRegister$Book", "acts", "I", false)
  | 8 => ("GallRegister$Book", "damp", "I", false)
  | 9 => ("GallRegister$Book", "rise", "[I", true)
  | 10 => ("GallRegister$Book", "top", "[I", true)
  | 11 => ("GallRegister$Book", "fade", "[I", true)
  | 12 => ("GallRegister$Book", "page", "[I", true)
  | 13 => ("GallRegister$Book", "ink", "[I", true)
  | 14 => ("GallRegister$Book", "wrote", "[I", true)
  | 15 => ("GallRegister$Book", "says", "[I", true)
  | _ => ("GallRegister$Book", "act", "[I", true)
def tyX1 : Nat → FieldType := fun k => match k with
  | 0 => .int
  | 1 => .int
  | 2 => .int
  | 3 => .int
  | 4 => .int
  | 5 => .int
  | 6 => .int
  | 7 => .int
  | 8 => .int
  | 9 => .array .int
  | 10 => .array .int
  | 11 => .array .int
  | 12 => .array .int
  | 13 => .array .int
  | 14 => .array .int
  | 15 => .array .int
  | _ => .array .int
abbrev wsX10 : List Cond := u_ws RX1 TX1 17
set_option maxRecDepth 100000 in
theorem nmX1 : ∀ a, a < 17 → ∀ b, b < 17 → a ≠ b → (TX1 a).2.1 ≠ (TX1 b).2.1 := by decide +kernel
set_option maxRecDepth 100000 in
theorem tyX1_ok : ∀ k, k < 17 → parseFieldDescriptor (TX1 k).2.2.1 = some (tyX1 k) := by decide +kernel
abbrev cX1_init : ByteArray := prog_2_method_1_code
def yX1_init : MethodName := ⟨RX1, "<init>", "()V"⟩
def dkwX1_init_2 : List UInt8 := [181, 0, 27, 42, 16, 7, 188, 10, 181, 0, 30, 42, 16, 30, 188, 10, 181, 0, 33, 177]
abbrev dktX1_init_2 : List UInt8 := dkwX1_init_2 ++ []
def dkwX1_init_1 : List UInt8 := [181, 0, 18, 42, 16, 7, 188, 10, 181, 0, 21, 42, 16, 7, 188, 10, 181, 0, 24, 42, 16, 7, 188, 10]
abbrev dktX1_init_1 : List UInt8 := dkwX1_init_1 ++ dktX1_init_2
def dkwX1_init_0 : List UInt8 := [42, 183, 0, 3, 42, 7, 188, 10, 181, 0, 9, 42, 7, 188, 10, 181, 0, 15, 42, 7, 188, 10]
abbrev dktX1_init_0 : List UInt8 := dkwX1_init_0 ++ dktX1_init_1
theorem dksX1_init_0 : cX1_init.data.toList.drop 0 = dktX1_init_0 := by decide +kernel
theorem dksX1_init_1 : cX1_init.data.toList.drop 22 = dktX1_init_1 := dk_seg dksX1_init_0 22 rfl rfl
theorem dksX1_init_2 : cX1_init.data.toList.drop 46 = dktX1_init_2 := dk_seg dksX1_init_1 24 rfl rfl
theorem dX1_init_0 : decode cX1_init 0 = .ok (.aload_n 0, 1) := dk_42 (dk_at dksX1_init_0 0 rfl rfl)
theorem dX1_init_1 : decode cX1_init 1 = .ok (.invokespecial 3, 3) := dk_183 0 3 (dk_at dksX1_init_0 1 rfl rfl)
theorem dX1_init_4 : decode cX1_init 4 = .ok (.aload_n 0, 1) := dk_42 (dk_at dksX1_init_0 4 rfl rfl)
theorem dX1_init_5 : decode cX1_init 5 = .ok (.iconst 4, 1) := dk_7 (dk_at dksX1_init_0 5 rfl rfl)
theorem dX1_init_6 : decode cX1_init 6 = .ok (.newarray .int, 2) := dk_188_10 (dk_at dksX1_init_0 6 rfl rfl)
theorem dX1_init_8 : decode cX1_init 8 = .ok (.putfield 9, 3) := dk_181 0 9 (dk_at dksX1_init_0 8 rfl rfl)
theorem dX1_init_11 : decode cX1_init 11 = .ok (.aload_n 0, 1) := dk_42 (dk_at dksX1_init_0 11 rfl rfl)
theorem dX1_init_12 : decode cX1_init 12 = .ok (.iconst 4, 1) := dk_7 (dk_at dksX1_init_0 12 rfl rfl)
theorem dX1_init_13 : decode cX1_init 13 = .ok (.newarray .int, 2) := dk_188_10 (dk_at dksX1_init_0 13 rfl rfl)
theorem dX1_init_15 : decode cX1_init 15 = .ok (.putfield 15, 3) := dk_181 0 15 (dk_at dksX1_init_0 15 rfl rfl)
theorem dX1_init_18 : decode cX1_init 18 = .ok (.aload_n 0, 1) := dk_42 (dk_at dksX1_init_0 18 rfl rfl)
theorem dX1_init_19 : decode cX1_init 19 = .ok (.iconst 4, 1) := dk_7 (dk_at dksX1_init_0 19 rfl rfl)
theorem dX1_init_20 : decode cX1_init 20 = .ok (.newarray .int, 2) := dk_188_10 (dk_at dksX1_init_0 20 rfl rfl)
theorem dX1_init_22 : decode cX1_init 22 = .ok (.putfield 18, 3) := dk_181 0 18 (dk_at dksX1_init_1 0 rfl rfl)
theorem dX1_init_25 : decode cX1_init 25 = .ok (.aload_n 0, 1) := dk_42 (dk_at dksX1_init_1 3 rfl rfl)
theorem dX1_init_26 : decode cX1_init 26 = .ok (.bipush 7, 2) := dk_16 7 (dk_at dksX1_init_1 4 rfl rfl)
theorem dX1_init_28 : decode cX1_init 28 = .ok (.newarray .int, 2) := dk_188_10 (dk_at dksX1_init_1 6 rfl rfl)
theorem dX1_init_30 : decode cX1_init 30 = .ok (.putfield 21, 3) := dk_181 0 21 (dk_at dksX1_init_1 8 rfl rfl)
theorem dX1_init_33 : decode cX1_init 33 = .ok (.aload_n 0, 1) := dk_42 (dk_at dksX1_init_1 11 rfl rfl)
theorem dX1_init_34 : decode cX1_init 34 = .ok (.bipush 7, 2) := dk_16 7 (dk_at dksX1_init_1 12 rfl rfl)
theorem dX1_init_36 : decode cX1_init 36 = .ok (.newarray .int, 2) := dk_188_10 (dk_at dksX1_init_1 14 rfl rfl)
theorem dX1_init_38 : decode cX1_init 38 = .ok (.putfield 24, 3) := dk_181 0 24 (dk_at dksX1_init_1 16 rfl rfl)
theorem dX1_init_41 : decode cX1_init 41 = .ok (.aload_n 0, 1) := dk_42 (dk_at dksX1_init_1 19 rfl rfl)
theorem dX1_init_42 : decode cX1_init 42 = .ok (.bipush 7, 2) := dk_16 7 (dk_at dksX1_init_1 20 rfl rfl)
theorem dX1_init_44 : decode cX1_init 44 = .ok (.newarray .int, 2) := dk_188_10 (dk_at dksX1_init_1 22 rfl rfl)
theorem dX1_init_46 : decode cX1_init 46 = .ok (.putfield 27, 3) := dk_181 0 27 (dk_at dksX1_init_2 0 rfl rfl)
theorem dX1_init_49 : decode cX1_init 49 = .ok (.aload_n 0, 1) := dk_42 (dk_at dksX1_init_2 3 rfl rfl)
theorem dX1_init_50 : decode cX1_init 50 = .ok (.bipush 7, 2) := dk_16 7 (dk_at dksX1_init_2 4 rfl rfl)
theorem dX1_init_52 : decode cX1_init 52 = .ok (.newarray .int, 2) := dk_188_10 (dk_at dksX1_init_2 6 rfl rfl)
theorem dX1_init_54 : decode cX1_init 54 = .ok (.putfield 30, 3) := dk_181 0 30 (dk_at dksX1_init_2 8 rfl rfl)
theorem dX1_init_57 : decode cX1_init 57 = .ok (.aload_n 0, 1) := dk_42 (dk_at dksX1_init_2 11 rfl rfl)
theorem dX1_init_58 : decode cX1_init 58 = .ok (.bipush 30, 2) := dk_16 30 (dk_at dksX1_init_2 12 rfl rfl)
theorem dX1_init_60 : decode cX1_init 60 = .ok (.newarray .int, 2) := dk_188_10 (dk_at dksX1_init_2 14 rfl rfl)
theorem dX1_init_62 : decode cX1_init 62 = .ok (.putfield 33, 3) := dk_181 0 33 (dk_at dksX1_init_2 16 rfl rfl)
theorem dX1_init_65 : decode cX1_init 65 = .ok (.return_, 1) := dk_177 (dk_at dksX1_init_2 19 rfl rfl)
abbrev cX1_place : ByteArray := prog_2_method_3_code
def yX1_place : MethodName := ⟨RX1, "place", "(I)I"⟩
def dkwX1_place_1 : List UInt8 := [160, 0, 7, 4, 167, 0, 4, 3, 96, 61, 132, 3, 1, 167, 255, 225, 28, 172]
abbrev dktX1_place_1 : List UInt8 := dkwX1_place_1 ++ []
def dkwX1_place_0 : List UInt8 := [3, 61, 3, 62, 29, 27, 162, 0, 32, 28, 42, 180, 0, 21, 29, 46, 42, 180, 0, 21, 27, 46]
abbrev dktX1_place_0 : List UInt8 := dkwX1_place_0 ++ dktX1_place_1
theorem dksX1_place_0 : cX1_place.data.toList.drop 0 = dktX1_place_0 := by decide +kernel
theorem dksX1_place_1 : cX1_place.data.toList.drop 22 = dktX1_place_1 := dk_seg dksX1_place_0 22 rfl rfl
theorem dX1_place_0 : decode cX1_place 0 = .ok (.iconst 0, 1) := dk_3 (dk_at dksX1_place_0 0 rfl rfl)
theorem dX1_place_1 : decode cX1_place 1 = .ok (.istore_n 2, 1) := dk_61 (dk_at dksX1_place_0 1 rfl rfl)
theorem dX1_place_2 : decode cX1_place 2 = .ok (.iconst 0, 1) := dk_3 (dk_at dksX1_place_0 2 rfl rfl)
theorem dX1_place_3 : decode cX1_place 3 = .ok (.istore_n 3, 1) := dk_62 (dk_at dksX1_place_0 3 rfl rfl)
theorem dX1_place_4 : decode cX1_place 4 = .ok (.iload_n 3, 1) := dk_29 (dk_at dksX1_place_0 4 rfl rfl)
theorem dX1_place_5 : decode cX1_place 5 = .ok (.iload_n 1, 1) := dk_27 (dk_at dksX1_place_0 5 rfl rfl)
theorem dX1_place_6 : decode cX1_place 6 = .ok (.if_icmp .ge 32, 3) := dk_162 0 32 (dk_at dksX1_place_0 6 rfl rfl)
theorem dX1_place_9 : decode cX1_place 9 = .ok (.iload_n 2, 1) := dk_28 (dk_at dksX1_place_0 9 rfl rfl)
theorem dX1_place_10 : decode cX1_place 10 = .ok (.aload_n 0, 1) := dk_42 (dk_at dksX1_place_0 10 rfl rfl)
theorem dX1_place_11 : decode cX1_place 11 = .ok (.getfield 21, 3) := dk_180 0 21 (dk_at dksX1_place_0 11 rfl rfl)
theorem dX1_place_14 : decode cX1_place 14 = .ok (.iload_n 3, 1) := dk_29 (dk_at dksX1_place_0 14 rfl rfl)
theorem dX1_place_15 : decode cX1_place 15 = .ok (.iaload, 1) := dk_46 (dk_at dksX1_place_0 15 rfl rfl)
theorem dX1_place_16 : decode cX1_place 16 = .ok (.aload_n 0, 1) := dk_42 (dk_at dksX1_place_0 16 rfl rfl)
theorem dX1_place_17 : decode cX1_place 17 = .ok (.getfield 21, 3) := dk_180 0 21 (dk_at dksX1_place_0 17 rfl rfl)
theorem dX1_place_20 : decode cX1_place 20 = .ok (.iload_n 1, 1) := dk_27 (dk_at dksX1_place_0 20 rfl rfl)
theorem dX1_place_21 : decode cX1_place 21 = .ok (.iaload, 1) := dk_46 (dk_at dksX1_place_0 21 rfl rfl)
theorem dX1_place_22 : decode cX1_place 22 = .ok (.if_icmp .ne 7, 3) := dk_160 0 7 (dk_at dksX1_place_1 0 rfl rfl)
theorem dX1_place_25 : decode cX1_place 25 = .ok (.iconst 1, 1) := dk_4 (dk_at dksX1_place_1 3 rfl rfl)
theorem dX1_place_26 : decode cX1_place 26 = .ok (.goto 4, 3) := dk_167 0 4 (dk_at dksX1_place_1 4 rfl rfl)
theorem dX1_place_29 : decode cX1_place 29 = .ok (.iconst 0, 1) := dk_3 (dk_at dksX1_place_1 7 rfl rfl)
theorem dX1_place_30 : decode cX1_place 30 = .ok (.iadd, 1) := dk_96 (dk_at dksX1_place_1 8 rfl rfl)
theorem dX1_place_31 : decode cX1_place 31 = .ok (.istore_n 2, 1) := dk_61 (dk_at dksX1_place_1 9 rfl rfl)
theorem dX1_place_32 : decode cX1_place 32 = .ok (.iinc 3 1, 3) := dk_132 3 1 (dk_at dksX1_place_1 10 rfl rfl)
theorem dX1_place_35 : decode cX1_place 35 = .ok (.goto (-31), 3) := dk_167 255 225 (dk_at dksX1_place_1 13 rfl rfl)
theorem dX1_place_38 : decode cX1_place 38 = .ok (.iload_n 2, 1) := dk_28 (dk_at dksX1_place_1 16 rfl rfl)
theorem dX1_place_39 : decode cX1_place 39 = .ok (.ireturn, 1) := dk_172 (dk_at dksX1_place_1 17 rfl rfl)
abbrev cX1_copy : ByteArray := prog_2_method_2_code
def yX1_copy : MethodName := ⟨RX1, "copy", "()LGallRegister$Book;"⟩
def dkwX1_copy_8 : List UInt8 := [3, 16, 30, 184, 0, 65, 43, 176]
abbrev dktX1_copy_8 : List UInt8 := dkwX1_copy_8 ++ []
def dkwX1_copy_7 : List UInt8 := [42, 180, 0, 30, 3, 43, 180, 0, 30, 3, 16, 7, 184, 0, 65, 42, 180, 0, 33, 3, 43, 180, 0, 33]
abbrev dktX1_copy_7 : List UInt8 := dkwX1_copy_7 ++ dktX1_copy_8
def dkwX1_copy_6 : List UInt8 := [180, 0, 24, 3, 16, 7, 184, 0, 65, 42, 180, 0, 27, 3, 43, 180, 0, 27, 3, 16, 7, 184, 0, 65]
abbrev dktX1_copy_6 : List UInt8 := dkwX1_copy_6 ++ dktX1_copy_7
def dkwX1_copy_5 : List UInt8 := [184, 0, 65, 42, 180, 0, 21, 3, 43, 180, 0, 21, 3, 16, 7, 184, 0, 65, 42, 180, 0, 24, 3, 43]
abbrev dktX1_copy_5 : List UInt8 := dkwX1_copy_5 ++ dktX1_copy_6
def dkwX1_copy_4 : List UInt8 := [180, 0, 15, 3, 43, 180, 0, 15, 3, 7, 184, 0, 65, 42, 180, 0, 18, 3, 43, 180, 0, 18, 3, 7]
abbrev dktX1_copy_4 : List UInt8 := dkwX1_copy_4 ++ dktX1_copy_5
def dkwX1_copy_3 : List UInt8 := [43, 42, 180, 0, 62, 181, 0, 62, 42, 180, 0, 9, 3, 43, 180, 0, 9, 3, 7, 184, 0, 65, 42]
abbrev dktX1_copy_3 : List UInt8 := dkwX1_copy_3 ++ dktX1_copy_4
def dkwX1_copy_2 : List UInt8 := [43, 42, 180, 0, 53, 181, 0, 53, 43, 42, 180, 0, 56, 181, 0, 56, 43, 42, 180, 0, 59, 181, 0, 59]
abbrev dktX1_copy_2 : List UInt8 := dkwX1_copy_2 ++ dktX1_copy_3
def dkwX1_copy_1 : List UInt8 := [43, 42, 180, 0, 44, 181, 0, 44, 43, 42, 180, 0, 47, 181, 0, 47, 43, 42, 180, 0, 50, 181, 0, 50]
abbrev dktX1_copy_1 : List UInt8 := dkwX1_copy_1 ++ dktX1_copy_2
def dkwX1_copy_0 : List UInt8 := [187, 0, 10, 89, 183, 0, 36, 76, 43, 42, 180, 0, 37, 181, 0, 37, 43, 42, 180, 0, 41, 181, 0, 41]
abbrev dktX1_copy_0 : List UInt8 := dkwX1_copy_0 ++ dktX1_copy_1
theorem dksX1_copy_0 : cX1_copy.data.toList.drop 0 = dktX1_copy_0 := by decide +kernel
theorem dksX1_copy_1 : cX1_copy.data.toList.drop 24 = dktX1_copy_1 := dk_seg dksX1_copy_0 24 rfl rfl
theorem dksX1_copy_2 : cX1_copy.data.toList.drop 48 = dktX1_copy_2 := dk_seg dksX1_copy_1 24 rfl rfl
theorem dksX1_copy_3 : cX1_copy.data.toList.drop 72 = dktX1_copy_3 := dk_seg dksX1_copy_2 24 rfl rfl
theorem dksX1_copy_4 : cX1_copy.data.toList.drop 95 = dktX1_copy_4 := dk_seg dksX1_copy_3 23 rfl rfl
theorem dksX1_copy_5 : cX1_copy.data.toList.drop 119 = dktX1_copy_5 := dk_seg dksX1_copy_4 24 rfl rfl
theorem dksX1_copy_6 : cX1_copy.data.toList.drop 143 = dktX1_copy_6 := dk_seg dksX1_copy_5 24 rfl rfl
theorem dksX1_copy_7 : cX1_copy.data.toList.drop 167 = dktX1_copy_7 := dk_seg dksX1_copy_6 24 rfl rfl
theorem dksX1_copy_8 : cX1_copy.data.toList.drop 191 = dktX1_copy_8 := dk_seg dksX1_copy_7 24 rfl rfl
theorem dX1_copy_0 : decode cX1_copy 0 = .ok (.new 10, 3) := dk_187 0 10 (dk_at dksX1_copy_0 0 rfl rfl)
theorem dX1_copy_3 : decode cX1_copy 3 = .ok (.dup, 1) := dk_89 (dk_at dksX1_copy_0 3 rfl rfl)
theorem dX1_copy_4 : decode cX1_copy 4 = .ok (.invokespecial 36, 3) := dk_183 0 36 (dk_at dksX1_copy_0 4 rfl rfl)
theorem dX1_copy_7 : decode cX1_copy 7 = .ok (.astore_n 1, 1) := dk_76 (dk_at dksX1_copy_0 7 rfl rfl)
theorem dX1_copy_8 : decode cX1_copy 8 = .ok (.aload_n 1, 1) := dk_43 (dk_at dksX1_copy_0 8 rfl rfl)
theorem dX1_copy_9 : decode cX1_copy 9 = .ok (.aload_n 0, 1) := dk_42 (dk_at dksX1_copy_0 9 rfl rfl)
theorem dX1_copy_10 : decode cX1_copy 10 = .ok (.getfield 37, 3) := dk_180 0 37 (dk_at dksX1_copy_0 10 rfl rfl)
theorem dX1_copy_13 : decode cX1_copy 13 = .ok (.putfield 37, 3) := dk_181 0 37 (dk_at dksX1_copy_0 13 rfl rfl)
theorem dX1_copy_16 : decode cX1_copy 16 = .ok (.aload_n 1, 1) := dk_43 (dk_at dksX1_copy_0 16 rfl rfl)
theorem dX1_copy_17 : decode cX1_copy 17 = .ok (.aload_n 0, 1) := dk_42 (dk_at dksX1_copy_0 17 rfl rfl)
theorem dX1_copy_18 : decode cX1_copy 18 = .ok (.getfield 41, 3) := dk_180 0 41 (dk_at dksX1_copy_0 18 rfl rfl)
theorem dX1_copy_21 : decode cX1_copy 21 = .ok (.putfield 41, 3) := dk_181 0 41 (dk_at dksX1_copy_0 21 rfl rfl)
theorem dX1_copy_24 : decode cX1_copy 24 = .ok (.aload_n 1, 1) := dk_43 (dk_at dksX1_copy_1 0 rfl rfl)
theorem dX1_copy_25 : decode cX1_copy 25 = .ok (.aload_n 0, 1) := dk_42 (dk_at dksX1_copy_1 1 rfl rfl)
theorem dX1_copy_26 : decode cX1_copy 26 = .ok (.getfield 44, 3) := dk_180 0 44 (dk_at dksX1_copy_1 2 rfl rfl)
theorem dX1_copy_29 : decode cX1_copy 29 = .ok (.putfield 44, 3) := dk_181 0 44 (dk_at dksX1_copy_1 5 rfl rfl)
theorem dX1_copy_32 : decode cX1_copy 32 = .ok (.aload_n 1, 1) := dk_43 (dk_at dksX1_copy_1 8 rfl rfl)
theorem dX1_copy_33 : decode cX1_copy 33 = .ok (.aload_n 0, 1) := dk_42 (dk_at dksX1_copy_1 9 rfl rfl)
theorem dX1_copy_34 : decode cX1_copy 34 = .ok (.getfield 47, 3) := dk_180 0 47 (dk_at dksX1_copy_1 10 rfl rfl)
theorem dX1_copy_37 : decode cX1_copy 37 = .ok (.putfield 47, 3) := dk_181 0 47 (dk_at dksX1_copy_1 13 rfl rfl)
theorem dX1_copy_40 : decode cX1_copy 40 = .ok (.aload_n 1, 1) := dk_43 (dk_at dksX1_copy_1 16 rfl rfl)
theorem dX1_copy_41 : decode cX1_copy 41 = .ok (.aload_n 0, 1) := dk_42 (dk_at dksX1_copy_1 17 rfl rfl)
theorem dX1_copy_42 : decode cX1_copy 42 = .ok (.getfield 50, 3) := dk_180 0 50 (dk_at dksX1_copy_1 18 rfl rfl)
theorem dX1_copy_45 : decode cX1_copy 45 = .ok (.putfield 50, 3) := dk_181 0 50 (dk_at dksX1_copy_1 21 rfl rfl)
theorem dX1_copy_48 : decode cX1_copy 48 = .ok (.aload_n 1, 1) := dk_43 (dk_at dksX1_copy_2 0 rfl rfl)
theorem dX1_copy_49 : decode cX1_copy 49 = .ok (.aload_n 0, 1) := dk_42 (dk_at dksX1_copy_2 1 rfl rfl)
theorem dX1_copy_50 : decode cX1_copy 50 = .ok (.getfield 53, 3) := dk_180 0 53 (dk_at dksX1_copy_2 2 rfl rfl)
theorem dX1_copy_53 : decode cX1_copy 53 = .ok (.putfield 53, 3) := dk_181 0 53 (dk_at dksX1_copy_2 5 rfl rfl)
theorem dX1_copy_56 : decode cX1_copy 56 = .ok (.aload_n 1, 1) := dk_43 (dk_at dksX1_copy_2 8 rfl rfl)
theorem dX1_copy_57 : decode cX1_copy 57 = .ok (.aload_n 0, 1) := dk_42 (dk_at dksX1_copy_2 9 rfl rfl)
theorem dX1_copy_58 : decode cX1_copy 58 = .ok (.getfield 56, 3) := dk_180 0 56 (dk_at dksX1_copy_2 10 rfl rfl)
theorem dX1_copy_61 : decode cX1_copy 61 = .ok (.putfield 56, 3) := dk_181 0 56 (dk_at dksX1_copy_2 13 rfl rfl)
theorem dX1_copy_64 : decode cX1_copy 64 = .ok (.aload_n 1, 1) := dk_43 (dk_at dksX1_copy_2 16 rfl rfl)
theorem dX1_copy_65 : decode cX1_copy 65 = .ok (.aload_n 0, 1) := dk_42 (dk_at dksX1_copy_2 17 rfl rfl)
theorem dX1_copy_66 : decode cX1_copy 66 = .ok (.getfield 59, 3) := dk_180 0 59 (dk_at dksX1_copy_2 18 rfl rfl)
theorem dX1_copy_69 : decode cX1_copy 69 = .ok (.putfield 59, 3) := dk_181 0 59 (dk_at dksX1_copy_2 21 rfl rfl)
theorem dX1_copy_72 : decode cX1_copy 72 = .ok (.aload_n 1, 1) := dk_43 (dk_at dksX1_copy_3 0 rfl rfl)
theorem dX1_copy_73 : decode cX1_copy 73 = .ok (.aload_n 0, 1) := dk_42 (dk_at dksX1_copy_3 1 rfl rfl)
theorem dX1_copy_74 : decode cX1_copy 74 = .ok (.getfield 62, 3) := dk_180 0 62 (dk_at dksX1_copy_3 2 rfl rfl)
theorem dX1_copy_77 : decode cX1_copy 77 = .ok (.putfield 62, 3) := dk_181 0 62 (dk_at dksX1_copy_3 5 rfl rfl)
theorem dX1_copy_80 : decode cX1_copy 80 = .ok (.aload_n 0, 1) := dk_42 (dk_at dksX1_copy_3 8 rfl rfl)
theorem dX1_copy_81 : decode cX1_copy 81 = .ok (.getfield 9, 3) := dk_180 0 9 (dk_at dksX1_copy_3 9 rfl rfl)
theorem dX1_copy_84 : decode cX1_copy 84 = .ok (.iconst 0, 1) := dk_3 (dk_at dksX1_copy_3 12 rfl rfl)
theorem dX1_copy_85 : decode cX1_copy 85 = .ok (.aload_n 1, 1) := dk_43 (dk_at dksX1_copy_3 13 rfl rfl)
theorem dX1_copy_86 : decode cX1_copy 86 = .ok (.getfield 9, 3) := dk_180 0 9 (dk_at dksX1_copy_3 14 rfl rfl)
theorem dX1_copy_89 : decode cX1_copy 89 = .ok (.iconst 0, 1) := dk_3 (dk_at dksX1_copy_3 17 rfl rfl)
theorem dX1_copy_90 : decode cX1_copy 90 = .ok (.iconst 4, 1) := dk_7 (dk_at dksX1_copy_3 18 rfl rfl)
theorem dX1_copy_91 : decode cX1_copy 91 = .ok (.invokestatic 65, 3) := dk_184 0 65 (dk_at dksX1_copy_3 19 rfl rfl)
theorem dX1_copy_94 : decode cX1_copy 94 = .ok (.aload_n 0, 1) := dk_42 (dk_at dksX1_copy_3 22 rfl rfl)
theorem dX1_copy_95 : decode cX1_copy 95 = .ok (.getfield 15, 3) := dk_180 0 15 (dk_at dksX1_copy_4 0 rfl rfl)
theorem dX1_copy_98 : decode cX1_copy 98 = .ok (.iconst 0, 1) := dk_3 (dk_at dksX1_copy_4 3 rfl rfl)
theorem dX1_copy_99 : decode cX1_copy 99 = .ok (.aload_n 1, 1) := dk_43 (dk_at dksX1_copy_4 4 rfl rfl)
theorem dX1_copy_100 : decode cX1_copy 100 = .ok (.getfield 15, 3) := dk_180 0 15 (dk_at dksX1_copy_4 5 rfl rfl)
theorem dX1_copy_103 : decode cX1_copy 103 = .ok (.iconst 0, 1) := dk_3 (dk_at dksX1_copy_4 8 rfl rfl)
theorem dX1_copy_104 : decode cX1_copy 104 = .ok (.iconst 4, 1) := dk_7 (dk_at dksX1_copy_4 9 rfl rfl)
theorem dX1_copy_105 : decode cX1_copy 105 = .ok (.invokestatic 65, 3) := dk_184 0 65 (dk_at dksX1_copy_4 10 rfl rfl)
theorem dX1_copy_108 : decode cX1_copy 108 = .ok (.aload_n 0, 1) := dk_42 (dk_at dksX1_copy_4 13 rfl rfl)
theorem dX1_copy_109 : decode cX1_copy 109 = .ok (.getfield 18, 3) := dk_180 0 18 (dk_at dksX1_copy_4 14 rfl rfl)
theorem dX1_copy_112 : decode cX1_copy 112 = .ok (.iconst 0, 1) := dk_3 (dk_at dksX1_copy_4 17 rfl rfl)
theorem dX1_copy_113 : decode cX1_copy 113 = .ok (.aload_n 1, 1) := dk_43 (dk_at dksX1_copy_4 18 rfl rfl)
theorem dX1_copy_114 : decode cX1_copy 114 = .ok (.getfield 18, 3) := dk_180 0 18 (dk_at dksX1_copy_4 19 rfl rfl)
theorem dX1_copy_117 : decode cX1_copy 117 = .ok (.iconst 0, 1) := dk_3 (dk_at dksX1_copy_4 22 rfl rfl)
theorem dX1_copy_118 : decode cX1_copy 118 = .ok (.iconst 4, 1) := dk_7 (dk_at dksX1_copy_4 23 rfl rfl)
theorem dX1_copy_119 : decode cX1_copy 119 = .ok (.invokestatic 65, 3) := dk_184 0 65 (dk_at dksX1_copy_5 0 rfl rfl)
theorem dX1_copy_122 : decode cX1_copy 122 = .ok (.aload_n 0, 1) := dk_42 (dk_at dksX1_copy_5 3 rfl rfl)
theorem dX1_copy_123 : decode cX1_copy 123 = .ok (.getfield 21, 3) := dk_180 0 21 (dk_at dksX1_copy_5 4 rfl rfl)
theorem dX1_copy_126 : decode cX1_copy 126 = .ok (.iconst 0, 1) := dk_3 (dk_at dksX1_copy_5 7 rfl rfl)
theorem dX1_copy_127 : decode cX1_copy 127 = .ok (.aload_n 1, 1) := dk_43 (dk_at dksX1_copy_5 8 rfl rfl)
theorem dX1_copy_128 : decode cX1_copy 128 = .ok (.getfield 21, 3) := dk_180 0 21 (dk_at dksX1_copy_5 9 rfl rfl)
theorem dX1_copy_131 : decode cX1_copy 131 = .ok (.iconst 0, 1) := dk_3 (dk_at dksX1_copy_5 12 rfl rfl)
theorem dX1_copy_132 : decode cX1_copy 132 = .ok (.bipush 7, 2) := dk_16 7 (dk_at dksX1_copy_5 13 rfl rfl)
theorem dX1_copy_134 : decode cX1_copy 134 = .ok (.invokestatic 65, 3) := dk_184 0 65 (dk_at dksX1_copy_5 15 rfl rfl)
theorem dX1_copy_137 : decode cX1_copy 137 = .ok (.aload_n 0, 1) := dk_42 (dk_at dksX1_copy_5 18 rfl rfl)
theorem dX1_copy_138 : decode cX1_copy 138 = .ok (.getfield 24, 3) := dk_180 0 24 (dk_at dksX1_copy_5 19 rfl rfl)
theorem dX1_copy_141 : decode cX1_copy 141 = .ok (.iconst 0, 1) := dk_3 (dk_at dksX1_copy_5 22 rfl rfl)
theorem dX1_copy_142 : decode cX1_copy 142 = .ok (.aload_n 1, 1) := dk_43 (dk_at dksX1_copy_5 23 rfl rfl)
theorem dX1_copy_143 : decode cX1_copy 143 = .ok (.getfield 24, 3) := dk_180 0 24 (dk_at dksX1_copy_6 0 rfl rfl)
theorem dX1_copy_146 : decode cX1_copy 146 = .ok (.iconst 0, 1) := dk_3 (dk_at dksX1_copy_6 3 rfl rfl)
theorem dX1_copy_147 : decode cX1_copy 147 = .ok (.bipush 7, 2) := dk_16 7 (dk_at dksX1_copy_6 4 rfl rfl)
theorem dX1_copy_149 : decode cX1_copy 149 = .ok (.invokestatic 65, 3) := dk_184 0 65 (dk_at dksX1_copy_6 6 rfl rfl)
theorem dX1_copy_152 : decode cX1_copy 152 = .ok (.aload_n 0, 1) := dk_42 (dk_at dksX1_copy_6 9 rfl rfl)
theorem dX1_copy_153 : decode cX1_copy 153 = .ok (.getfield 27, 3) := dk_180 0 27 (dk_at dksX1_copy_6 10 rfl rfl)
theorem dX1_copy_156 : decode cX1_copy 156 = .ok (.iconst 0, 1) := dk_3 (dk_at dksX1_copy_6 13 rfl rfl)
theorem dX1_copy_157 : decode cX1_copy 157 = .ok (.aload_n 1, 1) := dk_43 (dk_at dksX1_copy_6 14 rfl rfl)
theorem dX1_copy_158 : decode cX1_copy 158 = .ok (.getfield 27, 3) := dk_180 0 27 (dk_at dksX1_copy_6 15 rfl rfl)
theorem dX1_copy_161 : decode cX1_copy 161 = .ok (.iconst 0, 1) := dk_3 (dk_at dksX1_copy_6 18 rfl rfl)
theorem dX1_copy_162 : decode cX1_copy 162 = .ok (.bipush 7, 2) := dk_16 7 (dk_at dksX1_copy_6 19 rfl rfl)
theorem dX1_copy_164 : decode cX1_copy 164 = .ok (.invokestatic 65, 3) := dk_184 0 65 (dk_at dksX1_copy_6 21 rfl rfl)
theorem dX1_copy_167 : decode cX1_copy 167 = .ok (.aload_n 0, 1) := dk_42 (dk_at dksX1_copy_7 0 rfl rfl)
theorem dX1_copy_168 : decode cX1_copy 168 = .ok (.getfield 30, 3) := dk_180 0 30 (dk_at dksX1_copy_7 1 rfl rfl)
theorem dX1_copy_171 : decode cX1_copy 171 = .ok (.iconst 0, 1) := dk_3 (dk_at dksX1_copy_7 4 rfl rfl)
theorem dX1_copy_172 : decode cX1_copy 172 = .ok (.aload_n 1, 1) := dk_43 (dk_at dksX1_copy_7 5 rfl rfl)
theorem dX1_copy_173 : decode cX1_copy 173 = .ok (.getfield 30, 3) := dk_180 0 30 (dk_at dksX1_copy_7 6 rfl rfl)
theorem dX1_copy_176 : decode cX1_copy 176 = .ok (.iconst 0, 1) := dk_3 (dk_at dksX1_copy_7 9 rfl rfl)
theorem dX1_copy_177 : decode cX1_copy 177 = .ok (.bipush 7, 2) := dk_16 7 (dk_at dksX1_copy_7 10 rfl rfl)
theorem dX1_copy_179 : decode cX1_copy 179 = .ok (.invokestatic 65, 3) := dk_184 0 65 (dk_at dksX1_copy_7 12 rfl rfl)
theorem dX1_copy_182 : decode cX1_copy 182 = .ok (.aload_n 0, 1) := dk_42 (dk_at dksX1_copy_7 15 rfl rfl)
theorem dX1_copy_183 : decode cX1_copy 183 = .ok (.getfield 33, 3) := dk_180 0 33 (dk_at dksX1_copy_7 16 rfl rfl)
theorem dX1_copy_186 : decode cX1_copy 186 = .ok (.iconst 0, 1) := dk_3 (dk_at dksX1_copy_7 19 rfl rfl)
theorem dX1_copy_187 : decode cX1_copy 187 = .ok (.aload_n 1, 1) := dk_43 (dk_at dksX1_copy_7 20 rfl rfl)
theorem dX1_copy_188 : decode cX1_copy 188 = .ok (.getfield 33, 3) := dk_180 0 33 (dk_at dksX1_copy_7 21 rfl rfl)
theorem dX1_copy_191 : decode cX1_copy 191 = .ok (.iconst 0, 1) := dk_3 (dk_at dksX1_copy_8 0 rfl rfl)
theorem dX1_copy_192 : decode cX1_copy 192 = .ok (.bipush 30, 2) := dk_16 30 (dk_at dksX1_copy_8 1 rfl rfl)
theorem dX1_copy_194 : decode cX1_copy 194 = .ok (.invokestatic 65, 3) := dk_184 0 65 (dk_at dksX1_copy_8 3 rfl rfl)
theorem dX1_copy_197 : decode cX1_copy 197 = .ok (.aload_n 1, 1) := dk_43 (dk_at dksX1_copy_8 6 rfl rfl)
theorem dX1_copy_198 : decode cX1_copy 198 = .ok (.areturn, 1) := dk_176 (dk_at dksX1_copy_8 7 rfl rfl)
theorem q127 : (Jvm.Cond.initialized "GallRegister$Book") ∈ lw_all := lw_g (lw_at lw_m1 2 rfl) rfl
theorem q168 : (Jvm.Cond.instantiable "GallRegister$Book" (17 : Nat)) ∈ lw_all := lw_g (lw_at lw_m1 43 rfl) rfl
theorem q170 : (Jvm.Cond.instanceMethod ({ cls := "GallRegister$Book", name := "<init>", desc := "()V" } : Jvm.MethodName)) ∈ lw_all := lw_g (lw_at lw_m1 45 rfl) rfl
theorem q171 : (Jvm.Cond.code ({ cls := "GallRegister$Book", name := "<init>", desc := "()V" } : Jvm.MethodName) prog_2_method_1_code (1 : Nat) (Option.none : Option Jvm.ClassFile.FieldType)) ∈ lw_all := lw_g (lw_at lw_m1 46 rfl) rfl
theorem q172 : (Jvm.Cond.methodLink "GallRegister$Book" (3 : Nat) ({ cls := "java/lang/Object", name := "<init>", desc := "()V" } : Jvm.MethodName)) ∈ lw_all := lw_g (lw_at lw_m1 47 rfl) rfl
theorem q173 : (Jvm.Cond.fieldLink "GallRegister$Book" (37 : Nat) "GallRegister$Book" "years" "I") ∈ lw_all := lw_g (lw_at lw_m1 48 rfl) rfl
theorem q176 : (Jvm.Cond.fieldLink "GallRegister$Book" (41 : Nat) "GallRegister$Book" "law" "I") ∈ lw_all := lw_g (lw_at lw_m1 51 rfl) rfl
theorem q179 : (Jvm.Cond.fieldLink "GallRegister$Book" (44 : Nat) "GallRegister$Book" "odds" "I") ∈ lw_all := lw_g (lw_at lw_m1 54 rfl) rfl
theorem q182 : (Jvm.Cond.fieldLink "GallRegister$Book" (47 : Nat) "GallRegister$Book" "lines" "I") ∈ lw_all := lw_g (lw_at lw_m1 57 rfl) rfl
theorem q185 : (Jvm.Cond.fieldLink "GallRegister$Book" (50 : Nat) "GallRegister$Book" "inks" "I") ∈ lw_all := lw_g (lw_at lw_m1 60 rfl) rfl
theorem q188 : (Jvm.Cond.fieldLink "GallRegister$Book" (53 : Nat) "GallRegister$Book" "pages" "I") ∈ lw_all := lw_g (lw_at lw_m1 63 rfl) rfl
theorem q191 : (Jvm.Cond.fieldLink "GallRegister$Book" (56 : Nat) "GallRegister$Book" "entries" "I") ∈ lw_all := lw_g (lw_at lw_m1 66 rfl) rfl
theorem q194 : (Jvm.Cond.fieldLink "GallRegister$Book" (59 : Nat) "GallRegister$Book" "acts" "I") ∈ lw_all := lw_g (lw_at lw_m1 69 rfl) rfl
theorem q196 : (Jvm.Cond.fieldLink "GallRegister$Book" (62 : Nat) "GallRegister$Book" "damp" "I") ∈ lw_all := lw_g (lw_at lw_m1 71 rfl) rfl
theorem q199 : (Jvm.Cond.fieldLink "GallRegister$Book" (9 : Nat) "GallRegister$Book" "rise" "[I") ∈ lw_all := lw_g (lw_at lw_m1 74 rfl) rfl
theorem q202 : (Jvm.Cond.fieldLink "GallRegister$Book" (15 : Nat) "GallRegister$Book" "top" "[I") ∈ lw_all := lw_g (lw_at lw_m1 77 rfl) rfl
theorem q205 : (Jvm.Cond.fieldLink "GallRegister$Book" (18 : Nat) "GallRegister$Book" "fade" "[I") ∈ lw_all := lw_g (lw_at lw_m1 80 rfl) rfl
theorem q210 : (Jvm.Cond.fieldLink "GallRegister$Book" (21 : Nat) "GallRegister$Book" "page" "[I") ∈ lw_all := lw_g (lw_at lw_m1 85 rfl) rfl
theorem q214 : (Jvm.Cond.fieldLink "GallRegister$Book" (24 : Nat) "GallRegister$Book" "ink" "[I") ∈ lw_all := lw_g (lw_at lw_m1 89 rfl) rfl
theorem q217 : (Jvm.Cond.fieldLink "GallRegister$Book" (27 : Nat) "GallRegister$Book" "wrote" "[I") ∈ lw_all := lw_g (lw_at lw_m1 92 rfl) rfl
theorem q220 : (Jvm.Cond.fieldLink "GallRegister$Book" (30 : Nat) "GallRegister$Book" "says" "[I") ∈ lw_all := lw_g (lw_at lw_m1 95 rfl) rfl
theorem q223 : (Jvm.Cond.fieldLink "GallRegister$Book" (33 : Nat) "GallRegister$Book" "act" "[I") ∈ lw_all := lw_g (lw_at lw_m1 98 rfl) rfl
theorem q225 : (Jvm.Cond.lays "GallRegister$Book" "GallRegister$Book" "years" "I") ∈ lw_all := lw_g (lw_at lw_m1 100 rfl) rfl
theorem q226 : (Jvm.Cond.soleField "GallRegister$Book" "years") ∈ lw_all := lw_g (lw_at lw_m1 101 rfl) rfl
theorem q227 : (Jvm.Cond.lays "GallRegister$Book" "GallRegister$Book" "law" "I") ∈ lw_all := lw_g (lw_at lw_m1 102 rfl) rfl
theorem q228 : (Jvm.Cond.soleField "GallRegister$Book" "law") ∈ lw_all := lw_g (lw_at lw_m1 103 rfl) rfl
theorem q229 : (Jvm.Cond.lays "GallRegister$Book" "GallRegister$Book" "odds" "I") ∈ lw_all := lw_g (lw_at lw_m1 104 rfl) rfl
theorem q230 : (Jvm.Cond.soleField "GallRegister$Book" "odds") ∈ lw_all := lw_g (lw_at lw_m1 105 rfl) rfl
theorem q231 : (Jvm.Cond.lays "GallRegister$Book" "GallRegister$Book" "lines" "I") ∈ lw_all := lw_g (lw_at lw_m1 106 rfl) rfl
theorem q232 : (Jvm.Cond.soleField "GallRegister$Book" "lines") ∈ lw_all := lw_g (lw_at lw_m1 107 rfl) rfl
theorem q233 : (Jvm.Cond.lays "GallRegister$Book" "GallRegister$Book" "inks" "I") ∈ lw_all := lw_g (lw_at lw_m1 108 rfl) rfl
theorem q234 : (Jvm.Cond.soleField "GallRegister$Book" "inks") ∈ lw_all := lw_g (lw_at lw_m1 109 rfl) rfl
theorem q235 : (Jvm.Cond.lays "GallRegister$Book" "GallRegister$Book" "pages" "I") ∈ lw_all := lw_g (lw_at lw_m1 110 rfl) rfl
theorem q236 : (Jvm.Cond.soleField "GallRegister$Book" "pages") ∈ lw_all := lw_g (lw_at lw_m1 111 rfl) rfl
theorem q237 : (Jvm.Cond.lays "GallRegister$Book" "GallRegister$Book" "entries" "I") ∈ lw_all := lw_g (lw_at lw_m1 112 rfl) rfl
theorem q238 : (Jvm.Cond.soleField "GallRegister$Book" "entries") ∈ lw_all := lw_g (lw_at lw_m1 113 rfl) rfl
theorem q239 : (Jvm.Cond.lays "GallRegister$Book" "GallRegister$Book" "acts" "I") ∈ lw_all := lw_g (lw_at lw_m1 114 rfl) rfl
theorem q240 : (Jvm.Cond.soleField "GallRegister$Book" "acts") ∈ lw_all := lw_g (lw_at lw_m1 115 rfl) rfl
theorem q241 : (Jvm.Cond.lays "GallRegister$Book" "GallRegister$Book" "damp" "I") ∈ lw_all := lw_g (lw_at lw_m1 116 rfl) rfl
theorem q242 : (Jvm.Cond.soleField "GallRegister$Book" "damp") ∈ lw_all := lw_g (lw_at lw_m1 117 rfl) rfl
theorem q243 : (Jvm.Cond.laysFinal "GallRegister$Book" "GallRegister$Book" "rise" "[I") ∈ lw_all := lw_g (lw_at lw_m1 118 rfl) rfl
theorem q244 : (Jvm.Cond.soleField "GallRegister$Book" "rise") ∈ lw_all := lw_g (lw_at lw_m1 119 rfl) rfl
theorem q245 : (Jvm.Cond.laysFinal "GallRegister$Book" "GallRegister$Book" "top" "[I") ∈ lw_all := lw_g (lw_at lw_m1 120 rfl) rfl
theorem q246 : (Jvm.Cond.soleField "GallRegister$Book" "top") ∈ lw_all := lw_g (lw_at lw_m1 121 rfl) rfl
theorem q247 : (Jvm.Cond.laysFinal "GallRegister$Book" "GallRegister$Book" "fade" "[I") ∈ lw_all := lw_g (lw_at lw_m1 122 rfl) rfl
theorem q248 : (Jvm.Cond.soleField "GallRegister$Book" "fade") ∈ lw_all := lw_g (lw_at lw_m1 123 rfl) rfl
theorem q249 : (Jvm.Cond.laysFinal "GallRegister$Book" "GallRegister$Book" "page" "[I") ∈ lw_all := lw_g (lw_at lw_m1 124 rfl) rfl
theorem q250 : (Jvm.Cond.soleField "GallRegister$Book" "page") ∈ lw_all := lw_g (lw_at lw_m1 125 rfl) rfl
theorem q251 : (Jvm.Cond.laysFinal "GallRegister$Book" "GallRegister$Book" "ink" "[I") ∈ lw_all := lw_g (lw_at lw_m1 126 rfl) rfl
theorem q252 : (Jvm.Cond.soleField "GallRegister$Book" "ink") ∈ lw_all := lw_g (lw_at lw_m1 127 rfl) rfl
theorem q253 : (Jvm.Cond.laysFinal "GallRegister$Book" "GallRegister$Book" "wrote" "[I") ∈ lw_all := lw_g (lw_at lw_m1 128 rfl) rfl
theorem q254 : (Jvm.Cond.soleField "GallRegister$Book" "wrote") ∈ lw_all := lw_g (lw_at lw_m1 129 rfl) rfl
theorem q255 : (Jvm.Cond.laysFinal "GallRegister$Book" "GallRegister$Book" "says" "[I") ∈ lw_all := lw_g (lw_at lw_m1 130 rfl) rfl
theorem q256 : (Jvm.Cond.soleField "GallRegister$Book" "says") ∈ lw_all := lw_g (lw_at lw_m1 131 rfl) rfl
theorem q257 : (Jvm.Cond.laysFinal "GallRegister$Book" "GallRegister$Book" "act" "[I") ∈ lw_all := lw_g (lw_at lw_m1 132 rfl) rfl
theorem q258 : (Jvm.Cond.soleField "GallRegister$Book" "act") ∈ lw_all := lw_g (lw_at lw_m1 133 rfl) rfl
theorem q259 : (Jvm.Cond.superclass "GallRegister$Book" "java/lang/Object") ∈ lw_all := lw_g (lw_at lw_m1 134 rfl) rfl
theorem q754 : (Jvm.Cond.instanceMethod ({ cls := "GallRegister$Book", name := "place", desc := "(I)I" } : Jvm.MethodName)) ∈ lw_all := lw_g (lw_at lw_m3 149 rfl) rfl
theorem q755 : (Jvm.Cond.selects "GallRegister$Book" ({ cls := "GallRegister$Book", name := "place", desc := "(I)I" } : Jvm.MethodName) ({ cls := "GallRegister$Book", name := "place", desc := "(I)I" } : Jvm.MethodName)) ∈ lw_all := lw_g (lw_at lw_m3 150 rfl) rfl
theorem q756 : (Jvm.Cond.code ({ cls := "GallRegister$Book", name := "place", desc := "(I)I" } : Jvm.MethodName) prog_2_method_3_code (4 : Nat) (Option.some Jvm.ClassFile.FieldType.int)) ∈ lw_all := lw_g (lw_at lw_m3 151 rfl) rfl
theorem q1337 : (Jvm.Cond.selects "GallRegister$Book" ({ cls := "java/lang/Object", name := "getClass", desc := "()Ljava/lang/Class;" } : Jvm.MethodName) ({ cls := "java/lang/Object", name := "getClass", desc := "()Ljava/lang/Class;" } : Jvm.MethodName)) ∈ lw_all := lw_g (lw_at lw_m6 12 rfl) rfl
theorem q1364 : (Jvm.Cond.instanceMethod ({ cls := "GallRegister$Book", name := "copy", desc := "()LGallRegister$Book;" } : Jvm.MethodName)) ∈ lw_all := lw_g (lw_at lw_m6 39 rfl) rfl
theorem q1365 : (Jvm.Cond.selects "GallRegister$Book" ({ cls := "GallRegister$Book", name := "copy", desc := "()LGallRegister$Book;" } : Jvm.MethodName) ({ cls := "GallRegister$Book", name := "copy", desc := "()LGallRegister$Book;" } : Jvm.MethodName)) ∈ lw_all := lw_g (lw_at lw_m6 40 rfl) rfl
theorem q1366 : (Jvm.Cond.code ({ cls := "GallRegister$Book", name := "copy", desc := "()LGallRegister$Book;" } : Jvm.MethodName) prog_2_method_2_code (2 : Nat) (Option.some (Jvm.ClassFile.FieldType.object "GallRegister$Book"))) ∈ lw_all := lw_g (lw_at lw_m6 41 rfl) rfl
theorem q1367 : (Jvm.Cond.classLink "GallRegister$Book" (10 : Nat) "GallRegister$Book") ∈ lw_all := lw_g (lw_at lw_m6 42 rfl) rfl
theorem q1368 : (Jvm.Cond.methodLink "GallRegister$Book" (36 : Nat) ({ cls := "GallRegister$Book", name := "<init>", desc := "()V" } : Jvm.MethodName)) ∈ lw_all := lw_g (lw_at lw_m6 43 rfl) rfl
theorem q1369 : (Jvm.Cond.methodLink "GallRegister$Book" (65 : Nat) ({ cls := "java/lang/System", name := "arraycopy", desc := "(Ljava/lang/Object;ILjava/lang/Object;II)V" } : Jvm.MethodName)) ∈ lw_all := lw_g (lw_at lw_m6 44 rfl) rfl
theorem q2249 : (Jvm.Cond.castable "GallRegister$Book" "java/lang/Object") ∈ lw_tbl := lw_at lw_m9 204 rfl
theorem in_X1 : ∀ w ∈ wsX10, w ∈ lw_all := lw_in wsX10 [225, 227, 229, 231, 233, 235, 237, 239, 241, 243, 245, 247, 249, 251, 253, 255, 257] (by decide +kernel) (by decide +kernel)
/-! GallRegister$Fading -/
set_option maxRecDepth 100000
def RX2 : String := "GallRegister$Fading"
def TX2 : u_T := fun k => match k with
  | _ => ("GallRegister$Fading", "this$0", "LGallRegister;", true)
def tyX2 : Nat → FieldType := fun k => match k with
  | _ => .object "GallRegister"
abbrev wsX20 : List Cond := u_ws RX2 TX2 1
theorem nmX2 : ∀ a, a < 1 → ∀ b, b < 1 → a ≠ b → (TX2 a).2.1 ≠ (TX2 b).2.1 := by decide +kernel
theorem tyX2_ok : ∀ k, k < 1 → parseFieldDescriptor (TX2 k).2.2.1 = some (tyX2 k) := by decide +kernel
abbrev cX2_init : ByteArray := prog_5_method_1_code
def yX2_init : MethodName := ⟨RX2, "<init>", "(LGallRegister;)V"⟩
def dkwX2_init_0 : List UInt8 := [42, 43, 181, 0, 3, 42, 183, 0, 9, 177]
abbrev dktX2_init_0 : List UInt8 := dkwX2_init_0 ++ []
theorem dksX2_init_0 : cX2_init.data.toList.drop 0 = dktX2_init_0 := by decide +kernel
theorem dX2_init_0 : decode cX2_init 0 = .ok (.aload_n 0, 1) := dk_42 (dk_at dksX2_init_0 0 rfl rfl)
theorem dX2_init_1 : decode cX2_init 1 = .ok (.aload_n 1, 1) := dk_43 (dk_at dksX2_init_0 1 rfl rfl)
theorem dX2_init_2 : decode cX2_init 2 = .ok (.putfield 3, 3) := dk_181 0 3 (dk_at dksX2_init_0 2 rfl rfl)
theorem dX2_init_5 : decode cX2_init 5 = .ok (.aload_n 0, 1) := dk_42 (dk_at dksX2_init_0 5 rfl rfl)
theorem dX2_init_6 : decode cX2_init 6 = .ok (.invokespecial 9, 3) := dk_183 0 9 (dk_at dksX2_init_0 6 rfl rfl)
theorem dX2_init_9 : decode cX2_init 9 = .ok (.return_, 1) := dk_177 (dk_at dksX2_init_0 9 rfl rfl)
abbrev cX2_less : ByteArray := prog_5_method_2_code
def yX2_less : MethodName := ⟨RX2, "less", "(II)I"⟩
def dkwX2_less_1 : List UInt8 := [180, 0, 28, 28, 4, 100, 184, 0, 32, 153, 0, 7, 5, 167, 0, 4, 3, 96, 172]
abbrev dktX2_less_1 : List UInt8 := dkwX2_less_1 ++ []
def dkwX2_less_0 : List UInt8 := [42, 180, 0, 3, 180, 0, 15, 180, 0, 19, 42, 180, 0, 3, 180, 0, 25, 27, 46, 46, 42, 180, 0, 3]
abbrev dktX2_less_0 : List UInt8 := dkwX2_less_0 ++ dktX2_less_1
theorem dksX2_less_0 : cX2_less.data.toList.drop 0 = dktX2_less_0 := by decide +kernel
theorem dksX2_less_1 : cX2_less.data.toList.drop 24 = dktX2_less_1 := dk_seg dksX2_less_0 24 rfl rfl
theorem dX2_less_0 : decode cX2_less 0 = .ok (.aload_n 0, 1) := dk_42 (dk_at dksX2_less_0 0 rfl rfl)
theorem dX2_less_1 : decode cX2_less 1 = .ok (.getfield 3, 3) := dk_180 0 3 (dk_at dksX2_less_0 1 rfl rfl)
theorem dX2_less_4 : decode cX2_less 4 = .ok (.getfield 15, 3) := dk_180 0 15 (dk_at dksX2_less_0 4 rfl rfl)
theorem dX2_less_7 : decode cX2_less 7 = .ok (.getfield 19, 3) := dk_180 0 19 (dk_at dksX2_less_0 7 rfl rfl)
theorem dX2_less_10 : decode cX2_less 10 = .ok (.aload_n 0, 1) := dk_42 (dk_at dksX2_less_0 10 rfl rfl)
theorem dX2_less_11 : decode cX2_less 11 = .ok (.getfield 3, 3) := dk_180 0 3 (dk_at dksX2_less_0 11 rfl rfl)
theorem dX2_less_14 : decode cX2_less 14 = .ok (.getfield 25, 3) := dk_180 0 25 (dk_at dksX2_less_0 14 rfl rfl)
theorem dX2_less_17 : decode cX2_less 17 = .ok (.iload_n 1, 1) := dk_27 (dk_at dksX2_less_0 17 rfl rfl)
theorem dX2_less_18 : decode cX2_less 18 = .ok (.iaload, 1) := dk_46 (dk_at dksX2_less_0 18 rfl rfl)
theorem dX2_less_19 : decode cX2_less 19 = .ok (.iaload, 1) := dk_46 (dk_at dksX2_less_0 19 rfl rfl)
theorem dX2_less_20 : decode cX2_less 20 = .ok (.aload_n 0, 1) := dk_42 (dk_at dksX2_less_0 20 rfl rfl)
theorem dX2_less_21 : decode cX2_less 21 = .ok (.getfield 3, 3) := dk_180 0 3 (dk_at dksX2_less_0 21 rfl rfl)
theorem dX2_less_24 : decode cX2_less 24 = .ok (.getfield 28, 3) := dk_180 0 28 (dk_at dksX2_less_1 0 rfl rfl)
theorem dX2_less_27 : decode cX2_less 27 = .ok (.iload_n 2, 1) := dk_28 (dk_at dksX2_less_1 3 rfl rfl)
theorem dX2_less_28 : decode cX2_less 28 = .ok (.iconst 1, 1) := dk_4 (dk_at dksX2_less_1 4 rfl rfl)
theorem dX2_less_29 : decode cX2_less 29 = .ok (.isub, 1) := dk_100 (dk_at dksX2_less_1 5 rfl rfl)
theorem dX2_less_30 : decode cX2_less 30 = .ok (.invokestatic 32, 3) := dk_184 0 32 (dk_at dksX2_less_1 6 rfl rfl)
theorem dX2_less_33 : decode cX2_less 33 = .ok (.ifCond .eq 7, 3) := dk_153 0 7 (dk_at dksX2_less_1 9 rfl rfl)
theorem dX2_less_36 : decode cX2_less 36 = .ok (.iconst 2, 1) := dk_5 (dk_at dksX2_less_1 12 rfl rfl)
theorem dX2_less_37 : decode cX2_less 37 = .ok (.goto 4, 3) := dk_167 0 4 (dk_at dksX2_less_1 13 rfl rfl)
theorem dX2_less_40 : decode cX2_less 40 = .ok (.iconst 0, 1) := dk_3 (dk_at dksX2_less_1 16 rfl rfl)
theorem dX2_less_41 : decode cX2_less 41 = .ok (.iadd, 1) := dk_96 (dk_at dksX2_less_1 17 rfl rfl)
theorem dX2_less_42 : decode cX2_less 42 = .ok (.ireturn, 1) := dk_172 (dk_at dksX2_less_1 18 rfl rfl)
abbrev cX2_more : ByteArray := prog_5_method_3_code
def yX2_more : MethodName := ⟨RX2, "more", "(II)I"⟩
theorem dX2_more_0 : decode cX2_more 0 = .ok (.iconst 0, 1) := by decide +kernel
theorem dX2_more_1 : decode cX2_more 1 = .ok (.ireturn, 1) := by decide +kernel
theorem q128 : (Jvm.Cond.initialized "GallRegister$Fading") ∈ lw_all := lw_g (lw_at lw_m1 3 rfl) rfl
theorem q206 : (Jvm.Cond.fieldLinkNest "GallRegister$Fading" (19 : Nat) "GallRegister$Book" "fade" "[I" "GallRegister") ∈ lw_tbl := lw_at lw_m1 81 rfl
theorem q262 : (Jvm.Cond.instantiable "GallRegister$Fading" (1 : Nat)) ∈ lw_all := lw_g (lw_at lw_m1 137 rfl) rfl
theorem q264 : (Jvm.Cond.instanceMethod ({ cls := "GallRegister$Fading", name := "<init>", desc := "(LGallRegister;)V" } : Jvm.MethodName)) ∈ lw_all := lw_g (lw_at lw_m1 139 rfl) rfl
theorem q265 : (Jvm.Cond.code ({ cls := "GallRegister$Fading", name := "<init>", desc := "(LGallRegister;)V" } : Jvm.MethodName) prog_5_method_1_code (2 : Nat) (Option.none : Option Jvm.ClassFile.FieldType)) ∈ lw_all := lw_g (lw_at lw_m1 140 rfl) rfl
theorem q266 : (Jvm.Cond.methodLink "GallRegister$Fading" (9 : Nat) ({ cls := "java/lang/Object", name := "<init>", desc := "()V" } : Jvm.MethodName)) ∈ lw_all := lw_g (lw_at lw_m1 141 rfl) rfl
theorem q267 : (Jvm.Cond.fieldLink "GallRegister$Fading" (3 : Nat) "GallRegister$Fading" "this$0" "LGallRegister;") ∈ lw_all := lw_g (lw_at lw_m1 142 rfl) rfl
theorem q268 : (Jvm.Cond.laysFinal "GallRegister$Fading" "GallRegister$Fading" "this$0" "LGallRegister;") ∈ lw_all := lw_g (lw_at lw_m1 143 rfl) rfl
theorem q269 : (Jvm.Cond.soleField "GallRegister$Fading" "this$0") ∈ lw_all := lw_g (lw_at lw_m1 144 rfl) rfl
theorem q270 : (Jvm.Cond.superclass "GallRegister$Fading" "java/lang/Object") ∈ lw_all := lw_g (lw_at lw_m1 145 rfl) rfl
theorem q344 : (Jvm.Cond.fieldLinkNest "GallRegister$Fading" (15 : Nat) "GallRegister" "book" "LGallRegister$Book;" "GallRegister") ∈ lw_tbl := lw_at lw_m1 219 rfl
theorem q357 : (Jvm.Cond.fieldLinkNest "GallRegister$Fading" (28 : Nat) "GallRegister" "wet" "I" "GallRegister") ∈ lw_tbl := lw_at lw_m1 232 rfl
theorem q368 : (Jvm.Cond.fieldLinkNest "GallRegister$Fading" (25 : Nat) "GallRegister" "inkNow" "[I" "GallRegister") ∈ lw_tbl := lw_at lw_m2 3 rfl
theorem q813 : (Jvm.Cond.instanceMethod ({ cls := "GallRegister$Fading", name := "less", desc := "(II)I" } : Jvm.MethodName)) ∈ lw_all := lw_g (lw_at lw_m3 208 rfl) rfl
theorem q814 : (Jvm.Cond.selects "GallRegister$Fading" ({ cls := "GallRegister$Fading", name := "less", desc := "(II)I" } : Jvm.MethodName) ({ cls := "GallRegister$Fading", name := "less", desc := "(II)I" } : Jvm.MethodName)) ∈ lw_all := lw_g (lw_at lw_m3 209 rfl) rfl
theorem q815 : (Jvm.Cond.sameMethod "GallRegister$Fading" "GallRegister$Fading" "less" "(II)I") ∈ lw_all := lw_g (lw_at lw_m3 210 rfl) rfl
theorem q820 : (Jvm.Cond.code ({ cls := "GallRegister$Fading", name := "less", desc := "(II)I" } : Jvm.MethodName) prog_5_method_2_code (3 : Nat) (Option.some Jvm.ClassFile.FieldType.int)) ∈ lw_all := lw_g (lw_at lw_m3 215 rfl) rfl
theorem q821 : (Jvm.Cond.methodLinkNest "GallRegister$Fading" (32 : Nat) ({ cls := "GallRegister", name := "isOf", desc := "(II)Z" } : Jvm.MethodName) "GallRegister") ∈ lw_tbl := lw_at lw_m3 216 rfl
theorem q832 : (Jvm.Cond.instanceMethod ({ cls := "GallRegister$Fading", name := "more", desc := "(II)I" } : Jvm.MethodName)) ∈ lw_all := lw_g (lw_at lw_m3 227 rfl) rfl
theorem q833 : (Jvm.Cond.selects "GallRegister$Fading" ({ cls := "GallRegister$Fading", name := "more", desc := "(II)I" } : Jvm.MethodName) ({ cls := "GallRegister$Fading", name := "more", desc := "(II)I" } : Jvm.MethodName)) ∈ lw_all := lw_g (lw_at lw_m3 228 rfl) rfl
theorem q834 : (Jvm.Cond.sameMethod "GallRegister$Fading" "GallRegister$Fading" "more" "(II)I") ∈ lw_all := lw_g (lw_at lw_m3 229 rfl) rfl
theorem q843 : (Jvm.Cond.code ({ cls := "GallRegister$Fading", name := "more", desc := "(II)I" } : Jvm.MethodName) prog_5_method_3_code (3 : Nat) (Option.some Jvm.ClassFile.FieldType.int)) ∈ lw_all := lw_g (lw_at lw_m3 238 rfl) rfl
theorem q1340 : (Jvm.Cond.selects "GallRegister$Fading" ({ cls := "java/lang/Object", name := "getClass", desc := "()Ljava/lang/Class;" } : Jvm.MethodName) ({ cls := "java/lang/Object", name := "getClass", desc := "()Ljava/lang/Class;" } : Jvm.MethodName)) ∈ lw_all := lw_g (lw_at lw_m6 15 rfl) rfl
theorem q2246 : (Jvm.Cond.castable "GallRegister$Fading" "java/lang/Object") ∈ lw_tbl := lw_at lw_m9 201 rfl
theorem in_X2 : ∀ w ∈ wsX20, w ∈ lw_all := lw_in wsX20 [268] (by decide +kernel) (by decide +kernel)
/-! GallRegister$Damp -/
set_option maxRecDepth 100000
def RX3 : String := "GallRegister$Damp"
def TX3 : u_T := fun k => match k with
  | 0 => ("GallRegister$Fading", "this$0", "LGallRegister;", true)
  | _ => ("GallRegister$Damp", "this$0", "LGallRegister;", true)
def tyX3 : Nat → FieldType := fun k => match k with
  | 0 => .object "GallRegister"
  | _ => .object "GallRegister"
abbrev wsX30 : List Cond := u_ws RX3 TX3 2
-- two fields of one name: no nmX3
theorem tyX3_ok : ∀ k, k < 2 → parseFieldDescriptor (TX3 k).2.2.1 = some (tyX3 k) := by decide +kernel
abbrev cX3_init : ByteArray := prog_3_method_1_code
def yX3_init : MethodName := ⟨RX3, "<init>", "(LGallRegister;)V"⟩
def dkwX3_init_0 : List UInt8 := [42, 43, 181, 0, 1, 42, 43, 183, 0, 7, 177]
abbrev dktX3_init_0 : List UInt8 := dkwX3_init_0 ++ []
theorem dksX3_init_0 : cX3_init.data.toList.drop 0 = dktX3_init_0 := by decide +kernel
theorem dX3_init_0 : decode cX3_init 0 = .ok (.aload_n 0, 1) := dk_42 (dk_at dksX3_init_0 0 rfl rfl)
theorem dX3_init_1 : decode cX3_init 1 = .ok (.aload_n 1, 1) := dk_43 (dk_at dksX3_init_0 1 rfl rfl)
theorem dX3_init_2 : decode cX3_init 2 = .ok (.putfield 1, 3) := dk_181 0 1 (dk_at dksX3_init_0 2 rfl rfl)
theorem dX3_init_5 : decode cX3_init 5 = .ok (.aload_n 0, 1) := dk_42 (dk_at dksX3_init_0 5 rfl rfl)
theorem dX3_init_6 : decode cX3_init 6 = .ok (.aload_n 1, 1) := dk_43 (dk_at dksX3_init_0 6 rfl rfl)
theorem dX3_init_7 : decode cX3_init 7 = .ok (.invokespecial 7, 3) := dk_183 0 7 (dk_at dksX3_init_0 7 rfl rfl)
theorem dX3_init_10 : decode cX3_init 10 = .ok (.return_, 1) := dk_177 (dk_at dksX3_init_0 10 rfl rfl)
abbrev cX3_less : ByteArray := prog_3_method_2_code
def yX3_less : MethodName := ⟨RX3, "less", "(II)I"⟩
def dkwX3_less_2 : List UInt8 := [27, 46, 46, 167, 0, 4, 3, 96, 172]
abbrev dktX3_less_2 : List UInt8 := dkwX3_less_2 ++ []
def dkwX3_less_1 : List UInt8 := [46, 184, 0, 33, 153, 0, 26, 42, 180, 0, 1, 180, 0, 23, 180, 0, 37, 42, 180, 0, 1, 180, 0, 40]
abbrev dktX3_less_1 : List UInt8 := dkwX3_less_1 ++ dktX3_less_2
def dkwX3_less_0 : List UInt8 := [42, 27, 28, 183, 0, 13, 42, 180, 0, 1, 180, 0, 17, 42, 180, 0, 1, 180, 0, 23, 180, 0, 27, 27]
abbrev dktX3_less_0 : List UInt8 := dkwX3_less_0 ++ dktX3_less_1
theorem dksX3_less_0 : cX3_less.data.toList.drop 0 = dktX3_less_0 := by decide +kernel
theorem dksX3_less_1 : cX3_less.data.toList.drop 24 = dktX3_less_1 := dk_seg dksX3_less_0 24 rfl rfl
theorem dksX3_less_2 : cX3_less.data.toList.drop 48 = dktX3_less_2 := dk_seg dksX3_less_1 24 rfl rfl
theorem dX3_less_0 : decode cX3_less 0 = .ok (.aload_n 0, 1) := dk_42 (dk_at dksX3_less_0 0 rfl rfl)
theorem dX3_less_1 : decode cX3_less 1 = .ok (.iload_n 1, 1) := dk_27 (dk_at dksX3_less_0 1 rfl rfl)
theorem dX3_less_2 : decode cX3_less 2 = .ok (.iload_n 2, 1) := dk_28 (dk_at dksX3_less_0 2 rfl rfl)
theorem dX3_less_3 : decode cX3_less 3 = .ok (.invokespecial 13, 3) := dk_183 0 13 (dk_at dksX3_less_0 3 rfl rfl)
theorem dX3_less_6 : decode cX3_less 6 = .ok (.aload_n 0, 1) := dk_42 (dk_at dksX3_less_0 6 rfl rfl)
theorem dX3_less_7 : decode cX3_less 7 = .ok (.getfield 1, 3) := dk_180 0 1 (dk_at dksX3_less_0 7 rfl rfl)
theorem dX3_less_10 : decode cX3_less 10 = .ok (.getfield 17, 3) := dk_180 0 17 (dk_at dksX3_less_0 10 rfl rfl)
theorem dX3_less_13 : decode cX3_less 13 = .ok (.aload_n 0, 1) := dk_42 (dk_at dksX3_less_0 13 rfl rfl)
theorem dX3_less_14 : decode cX3_less 14 = .ok (.getfield 1, 3) := dk_180 0 1 (dk_at dksX3_less_0 14 rfl rfl)
theorem dX3_less_17 : decode cX3_less 17 = .ok (.getfield 23, 3) := dk_180 0 23 (dk_at dksX3_less_0 17 rfl rfl)
theorem dX3_less_20 : decode cX3_less 20 = .ok (.getfield 27, 3) := dk_180 0 27 (dk_at dksX3_less_0 20 rfl rfl)
theorem dX3_less_23 : decode cX3_less 23 = .ok (.iload_n 1, 1) := dk_27 (dk_at dksX3_less_0 23 rfl rfl)
theorem dX3_less_24 : decode cX3_less 24 = .ok (.iaload, 1) := dk_46 (dk_at dksX3_less_1 0 rfl rfl)
theorem dX3_less_25 : decode cX3_less 25 = .ok (.invokestatic 33, 3) := dk_184 0 33 (dk_at dksX3_less_1 1 rfl rfl)
theorem dX3_less_28 : decode cX3_less 28 = .ok (.ifCond .eq 26, 3) := dk_153 0 26 (dk_at dksX3_less_1 4 rfl rfl)
theorem dX3_less_31 : decode cX3_less 31 = .ok (.aload_n 0, 1) := dk_42 (dk_at dksX3_less_1 7 rfl rfl)
theorem dX3_less_32 : decode cX3_less 32 = .ok (.getfield 1, 3) := dk_180 0 1 (dk_at dksX3_less_1 8 rfl rfl)
theorem dX3_less_35 : decode cX3_less 35 = .ok (.getfield 23, 3) := dk_180 0 23 (dk_at dksX3_less_1 11 rfl rfl)
theorem dX3_less_38 : decode cX3_less 38 = .ok (.getfield 37, 3) := dk_180 0 37 (dk_at dksX3_less_1 14 rfl rfl)
theorem dX3_less_41 : decode cX3_less 41 = .ok (.aload_n 0, 1) := dk_42 (dk_at dksX3_less_1 17 rfl rfl)
theorem dX3_less_42 : decode cX3_less 42 = .ok (.getfield 1, 3) := dk_180 0 1 (dk_at dksX3_less_1 18 rfl rfl)
theorem dX3_less_45 : decode cX3_less 45 = .ok (.getfield 40, 3) := dk_180 0 40 (dk_at dksX3_less_1 21 rfl rfl)
theorem dX3_less_48 : decode cX3_less 48 = .ok (.iload_n 1, 1) := dk_27 (dk_at dksX3_less_2 0 rfl rfl)
theorem dX3_less_49 : decode cX3_less 49 = .ok (.iaload, 1) := dk_46 (dk_at dksX3_less_2 1 rfl rfl)
theorem dX3_less_50 : decode cX3_less 50 = .ok (.iaload, 1) := dk_46 (dk_at dksX3_less_2 2 rfl rfl)
theorem dX3_less_51 : decode cX3_less 51 = .ok (.goto 4, 3) := dk_167 0 4 (dk_at dksX3_less_2 3 rfl rfl)
theorem dX3_less_54 : decode cX3_less 54 = .ok (.iconst 0, 1) := dk_3 (dk_at dksX3_less_2 6 rfl rfl)
theorem dX3_less_55 : decode cX3_less 55 = .ok (.iadd, 1) := dk_96 (dk_at dksX3_less_2 7 rfl rfl)
theorem dX3_less_56 : decode cX3_less 56 = .ok (.ireturn, 1) := dk_172 (dk_at dksX3_less_2 8 rfl rfl)
theorem q129 : (Jvm.Cond.initialized "GallRegister$Damp") ∈ lw_all := lw_g (lw_at lw_m1 4 rfl) rfl
theorem q207 : (Jvm.Cond.fieldLinkNest "GallRegister$Damp" (37 : Nat) "GallRegister$Book" "fade" "[I" "GallRegister") ∈ lw_tbl := lw_at lw_m1 82 rfl
theorem q211 : (Jvm.Cond.fieldLinkNest "GallRegister$Damp" (27 : Nat) "GallRegister$Book" "page" "[I" "GallRegister") ∈ lw_tbl := lw_at lw_m1 86 rfl
theorem q274 : (Jvm.Cond.instantiable "GallRegister$Damp" (2 : Nat)) ∈ lw_all := lw_g (lw_at lw_m1 149 rfl) rfl
theorem q276 : (Jvm.Cond.instanceMethod ({ cls := "GallRegister$Damp", name := "<init>", desc := "(LGallRegister;)V" } : Jvm.MethodName)) ∈ lw_all := lw_g (lw_at lw_m1 151 rfl) rfl
theorem q277 : (Jvm.Cond.code ({ cls := "GallRegister$Damp", name := "<init>", desc := "(LGallRegister;)V" } : Jvm.MethodName) prog_3_method_1_code (2 : Nat) (Option.none : Option Jvm.ClassFile.FieldType)) ∈ lw_all := lw_g (lw_at lw_m1 152 rfl) rfl
theorem q278 : (Jvm.Cond.methodLinkNest "GallRegister$Damp" (7 : Nat) ({ cls := "GallRegister$Fading", name := "<init>", desc := "(LGallRegister;)V" } : Jvm.MethodName) "GallRegister") ∈ lw_tbl := lw_at lw_m1 153 rfl
theorem q279 : (Jvm.Cond.fieldLink "GallRegister$Damp" (1 : Nat) "GallRegister$Damp" "this$0" "LGallRegister;") ∈ lw_all := lw_g (lw_at lw_m1 154 rfl) rfl
theorem q280 : (Jvm.Cond.laysFinal "GallRegister$Damp" "GallRegister$Damp" "this$0" "LGallRegister;") ∈ lw_all := lw_g (lw_at lw_m1 155 rfl) rfl
theorem q281 : (Jvm.Cond.soleField "GallRegister$Damp" "this$0") ∈ lw_all := lw_g (lw_at lw_m1 156 rfl) rfl
theorem q282 : (Jvm.Cond.laysFinal "GallRegister$Damp" "GallRegister$Fading" "this$0" "LGallRegister;") ∈ lw_all := lw_g (lw_at lw_m1 157 rfl) rfl
theorem q283 : (Jvm.Cond.superclass "GallRegister$Damp" "GallRegister$Fading") ∈ lw_all := lw_g (lw_at lw_m1 158 rfl) rfl
theorem q345 : (Jvm.Cond.fieldLinkNest "GallRegister$Damp" (23 : Nat) "GallRegister" "book" "LGallRegister$Book;" "GallRegister") ∈ lw_tbl := lw_at lw_m1 220 rfl
theorem q355 : (Jvm.Cond.fieldLinkNest "GallRegister$Damp" (17 : Nat) "GallRegister" "dampNow" "I" "GallRegister") ∈ lw_tbl := lw_at lw_m1 230 rfl
theorem q369 : (Jvm.Cond.fieldLinkNest "GallRegister$Damp" (40 : Nat) "GallRegister" "inkNow" "[I" "GallRegister") ∈ lw_tbl := lw_at lw_m2 4 rfl
theorem q816 : (Jvm.Cond.selects "GallRegister$Damp" ({ cls := "GallRegister$Fading", name := "less", desc := "(II)I" } : Jvm.MethodName) ({ cls := "GallRegister$Damp", name := "less", desc := "(II)I" } : Jvm.MethodName)) ∈ lw_all := lw_g (lw_at lw_m3 211 rfl) rfl
theorem q817 : (Jvm.Cond.instanceMethod ({ cls := "GallRegister$Damp", name := "less", desc := "(II)I" } : Jvm.MethodName)) ∈ lw_all := lw_g (lw_at lw_m3 212 rfl) rfl
theorem q818 : (Jvm.Cond.code ({ cls := "GallRegister$Damp", name := "less", desc := "(II)I" } : Jvm.MethodName) prog_3_method_2_code (3 : Nat) (Option.some Jvm.ClassFile.FieldType.int)) ∈ lw_all := lw_g (lw_at lw_m3 213 rfl) rfl
theorem q819 : (Jvm.Cond.methodLink "GallRegister$Damp" (13 : Nat) ({ cls := "GallRegister$Fading", name := "less", desc := "(II)I" } : Jvm.MethodName)) ∈ lw_all := lw_g (lw_at lw_m3 214 rfl) rfl
theorem q822 : (Jvm.Cond.methodLinkNest "GallRegister$Damp" (33 : Nat) ({ cls := "GallRegister", name := "isOf", desc := "(II)Z" } : Jvm.MethodName) "GallRegister") ∈ lw_tbl := lw_at lw_m3 217 rfl
theorem q835 : (Jvm.Cond.selects "GallRegister$Damp" ({ cls := "GallRegister$Fading", name := "more", desc := "(II)I" } : Jvm.MethodName) ({ cls := "GallRegister$Fading", name := "more", desc := "(II)I" } : Jvm.MethodName)) ∈ lw_all := lw_g (lw_at lw_m3 230 rfl) rfl
theorem q1338 : (Jvm.Cond.selects "GallRegister$Damp" ({ cls := "java/lang/Object", name := "getClass", desc := "()Ljava/lang/Class;" } : Jvm.MethodName) ({ cls := "java/lang/Object", name := "getClass", desc := "()Ljava/lang/Class;" } : Jvm.MethodName)) ∈ lw_all := lw_g (lw_at lw_m6 13 rfl) rfl
theorem q2250 : (Jvm.Cond.castable "GallRegister$Damp" "java/lang/Object") ∈ lw_tbl := lw_at lw_m9 205 rfl
theorem q2264 : (Jvm.Cond.castable "GallRegister$Damp" "GallRegister$Fading") ∈ lw_tbl := lw_at lw_m9 219 rfl
theorem in_X3 : ∀ w ∈ wsX30, w ∈ lw_all := lw_in wsX30 [282, 280] (by decide +kernel) (by decide +kernel)
/-! GallRegister$Printed -/
set_option maxRecDepth 100000
def RX4 : String := "GallRegister$Printed"
def TX4 : u_T := fun k => match k with
  | 0 => ("GallRegister$Fading", "this$0", "LGallRegister;", true)
  | _ => ("GallRegister$Printed", "this$0", "LGallRegister;", true)
def tyX4 : Nat → FieldType := fun k => match k with
  | 0 => .object "GallRegister"
  | _ => .object "GallRegister"
abbrev wsX40 : List Cond := u_ws RX4 TX4 2
-- two fields of one name: no nmX4
theorem tyX4_ok : ∀ k, k < 2 → parseFieldDescriptor (TX4 k).2.2.1 = some (tyX4 k) := by decide +kernel
abbrev cX4_init : ByteArray := prog_7_method_1_code
def yX4_init : MethodName := ⟨RX4, "<init>", "(LGallRegister;)V"⟩
def dkwX4_init_0 : List UInt8 := [42, 43, 181, 0, 3, 42, 43, 183, 0, 9, 177]
abbrev dktX4_init_0 : List UInt8 := dkwX4_init_0 ++ []
theorem dksX4_init_0 : cX4_init.data.toList.drop 0 = dktX4_init_0 := by decide +kernel
theorem dX4_init_0 : decode cX4_init 0 = .ok (.aload_n 0, 1) := dk_42 (dk_at dksX4_init_0 0 rfl rfl)
theorem dX4_init_1 : decode cX4_init 1 = .ok (.aload_n 1, 1) := dk_43 (dk_at dksX4_init_0 1 rfl rfl)
theorem dX4_init_2 : decode cX4_init 2 = .ok (.putfield 3, 3) := dk_181 0 3 (dk_at dksX4_init_0 2 rfl rfl)
theorem dX4_init_5 : decode cX4_init 5 = .ok (.aload_n 0, 1) := dk_42 (dk_at dksX4_init_0 5 rfl rfl)
theorem dX4_init_6 : decode cX4_init 6 = .ok (.aload_n 1, 1) := dk_43 (dk_at dksX4_init_0 6 rfl rfl)
theorem dX4_init_7 : decode cX4_init 7 = .ok (.invokespecial 9, 3) := dk_183 0 9 (dk_at dksX4_init_0 7 rfl rfl)
theorem dX4_init_10 : decode cX4_init 10 = .ok (.return_, 1) := dk_177 (dk_at dksX4_init_0 10 rfl rfl)
abbrev cX4_more : ByteArray := prog_7_method_2_code
def yX4_more : MethodName := ⟨RX4, "more", "(II)I"⟩
def dkwX4_more_3 : List UInt8 := [4, 167, 0, 4, 3, 96, 172]
abbrev dktX4_more_3 : List UInt8 := dkwX4_more_3 ++ []
def dkwX4_more_2 : List UInt8 := [100, 16, 10, 161, 0, 7, 4, 167, 0, 4, 3, 54, 4, 42, 27, 28, 183, 0, 27, 21, 4, 153, 0, 7]
abbrev dktX4_more_2 : List UInt8 := dkwX4_more_2 ++ dktX4_more_3
def dkwX4_more_1 : List UInt8 := [182, 0, 19, 153, 0, 31, 42, 180, 0, 3, 180, 0, 23, 29, 46, 42, 180, 0, 3, 180, 0, 23, 27, 46]
abbrev dktX4_more_1 : List UInt8 := dkwX4_more_1 ++ dktX4_more_2
def dkwX4_more_0 : List UInt8 := [42, 180, 0, 3, 27, 182, 0, 15, 62, 29, 2, 159, 0, 45, 42, 180, 0, 3, 29, 28, 4, 100]
abbrev dktX4_more_0 : List UInt8 := dkwX4_more_0 ++ dktX4_more_1
theorem dksX4_more_0 : cX4_more.data.toList.drop 0 = dktX4_more_0 := by decide +kernel
theorem dksX4_more_1 : cX4_more.data.toList.drop 22 = dktX4_more_1 := dk_seg dksX4_more_0 22 rfl rfl
theorem dksX4_more_2 : cX4_more.data.toList.drop 46 = dktX4_more_2 := dk_seg dksX4_more_1 24 rfl rfl
theorem dksX4_more_3 : cX4_more.data.toList.drop 70 = dktX4_more_3 := dk_seg dksX4_more_2 24 rfl rfl
theorem dX4_more_0 : decode cX4_more 0 = .ok (.aload_n 0, 1) := dk_42 (dk_at dksX4_more_0 0 rfl rfl)
theorem dX4_more_1 : decode cX4_more 1 = .ok (.getfield 3, 3) := dk_180 0 3 (dk_at dksX4_more_0 1 rfl rfl)
theorem dX4_more_4 : decode cX4_more 4 = .ok (.iload_n 1, 1) := dk_27 (dk_at dksX4_more_0 4 rfl rfl)
theorem dX4_more_5 : decode cX4_more 5 = .ok (.invokevirtual 15, 3) := dk_182 0 15 (dk_at dksX4_more_0 5 rfl rfl)
theorem dX4_more_8 : decode cX4_more 8 = .ok (.istore_n 3, 1) := dk_62 (dk_at dksX4_more_0 8 rfl rfl)
theorem dX4_more_9 : decode cX4_more 9 = .ok (.iload_n 3, 1) := dk_29 (dk_at dksX4_more_0 9 rfl rfl)
theorem dX4_more_10 : decode cX4_more 10 = .ok (.iconst (-1), 1) := dk_2 (dk_at dksX4_more_0 10 rfl rfl)
theorem dX4_more_11 : decode cX4_more 11 = .ok (.if_icmp .eq 45, 3) := dk_159 0 45 (dk_at dksX4_more_0 11 rfl rfl)
theorem dX4_more_14 : decode cX4_more 14 = .ok (.aload_n 0, 1) := dk_42 (dk_at dksX4_more_0 14 rfl rfl)
theorem dX4_more_15 : decode cX4_more 15 = .ok (.getfield 3, 3) := dk_180 0 3 (dk_at dksX4_more_0 15 rfl rfl)
theorem dX4_more_18 : decode cX4_more 18 = .ok (.iload_n 3, 1) := dk_29 (dk_at dksX4_more_0 18 rfl rfl)
theorem dX4_more_19 : decode cX4_more 19 = .ok (.iload_n 2, 1) := dk_28 (dk_at dksX4_more_0 19 rfl rfl)
theorem dX4_more_20 : decode cX4_more 20 = .ok (.iconst 1, 1) := dk_4 (dk_at dksX4_more_0 20 rfl rfl)
theorem dX4_more_21 : decode cX4_more 21 = .ok (.isub, 1) := dk_100 (dk_at dksX4_more_0 21 rfl rfl)
theorem dX4_more_22 : decode cX4_more 22 = .ok (.invokevirtual 19, 3) := dk_182 0 19 (dk_at dksX4_more_1 0 rfl rfl)
theorem dX4_more_25 : decode cX4_more 25 = .ok (.ifCond .eq 31, 3) := dk_153 0 31 (dk_at dksX4_more_1 3 rfl rfl)
theorem dX4_more_28 : decode cX4_more 28 = .ok (.aload_n 0, 1) := dk_42 (dk_at dksX4_more_1 6 rfl rfl)
theorem dX4_more_29 : decode cX4_more 29 = .ok (.getfield 3, 3) := dk_180 0 3 (dk_at dksX4_more_1 7 rfl rfl)
theorem dX4_more_32 : decode cX4_more 32 = .ok (.getfield 23, 3) := dk_180 0 23 (dk_at dksX4_more_1 10 rfl rfl)
theorem dX4_more_35 : decode cX4_more 35 = .ok (.iload_n 3, 1) := dk_29 (dk_at dksX4_more_1 13 rfl rfl)
theorem dX4_more_36 : decode cX4_more 36 = .ok (.iaload, 1) := dk_46 (dk_at dksX4_more_1 14 rfl rfl)
theorem dX4_more_37 : decode cX4_more 37 = .ok (.aload_n 0, 1) := dk_42 (dk_at dksX4_more_1 15 rfl rfl)
theorem dX4_more_38 : decode cX4_more 38 = .ok (.getfield 3, 3) := dk_180 0 3 (dk_at dksX4_more_1 16 rfl rfl)
theorem dX4_more_41 : decode cX4_more 41 = .ok (.getfield 23, 3) := dk_180 0 23 (dk_at dksX4_more_1 19 rfl rfl)
theorem dX4_more_44 : decode cX4_more 44 = .ok (.iload_n 1, 1) := dk_27 (dk_at dksX4_more_1 22 rfl rfl)
theorem dX4_more_45 : decode cX4_more 45 = .ok (.iaload, 1) := dk_46 (dk_at dksX4_more_1 23 rfl rfl)
theorem dX4_more_46 : decode cX4_more 46 = .ok (.isub, 1) := dk_100 (dk_at dksX4_more_2 0 rfl rfl)
theorem dX4_more_47 : decode cX4_more 47 = .ok (.bipush 10, 2) := dk_16 10 (dk_at dksX4_more_2 1 rfl rfl)
theorem dX4_more_49 : decode cX4_more 49 = .ok (.if_icmp .lt 7, 3) := dk_161 0 7 (dk_at dksX4_more_2 3 rfl rfl)
theorem dX4_more_52 : decode cX4_more 52 = .ok (.iconst 1, 1) := dk_4 (dk_at dksX4_more_2 6 rfl rfl)
theorem dX4_more_53 : decode cX4_more 53 = .ok (.goto 4, 3) := dk_167 0 4 (dk_at dksX4_more_2 7 rfl rfl)
theorem dX4_more_56 : decode cX4_more 56 = .ok (.iconst 0, 1) := dk_3 (dk_at dksX4_more_2 10 rfl rfl)
theorem dX4_more_57 : decode cX4_more 57 = .ok (.istore 4, 2) := dk_54 4 (dk_at dksX4_more_2 11 rfl rfl)
theorem dX4_more_59 : decode cX4_more 59 = .ok (.aload_n 0, 1) := dk_42 (dk_at dksX4_more_2 13 rfl rfl)
theorem dX4_more_60 : decode cX4_more 60 = .ok (.iload_n 1, 1) := dk_27 (dk_at dksX4_more_2 14 rfl rfl)
theorem dX4_more_61 : decode cX4_more 61 = .ok (.iload_n 2, 1) := dk_28 (dk_at dksX4_more_2 15 rfl rfl)
theorem dX4_more_62 : decode cX4_more 62 = .ok (.invokespecial 27, 3) := dk_183 0 27 (dk_at dksX4_more_2 16 rfl rfl)
theorem dX4_more_65 : decode cX4_more 65 = .ok (.iload 4, 2) := dk_21 4 (dk_at dksX4_more_2 19 rfl rfl)
theorem dX4_more_67 : decode cX4_more 67 = .ok (.ifCond .eq 7, 3) := dk_153 0 7 (dk_at dksX4_more_2 21 rfl rfl)
theorem dX4_more_70 : decode cX4_more 70 = .ok (.iconst 1, 1) := dk_4 (dk_at dksX4_more_3 0 rfl rfl)
theorem dX4_more_71 : decode cX4_more 71 = .ok (.goto 4, 3) := dk_167 0 4 (dk_at dksX4_more_3 1 rfl rfl)
theorem dX4_more_74 : decode cX4_more 74 = .ok (.iconst 0, 1) := dk_3 (dk_at dksX4_more_3 4 rfl rfl)
theorem dX4_more_75 : decode cX4_more 75 = .ok (.iadd, 1) := dk_96 (dk_at dksX4_more_3 5 rfl rfl)
theorem dX4_more_76 : decode cX4_more 76 = .ok (.ireturn, 1) := dk_172 (dk_at dksX4_more_3 6 rfl rfl)
theorem q130 : (Jvm.Cond.initialized "GallRegister$Printed") ∈ lw_all := lw_g (lw_at lw_m1 5 rfl) rfl
theorem q285 : (Jvm.Cond.instantiable "GallRegister$Printed" (2 : Nat)) ∈ lw_all := lw_g (lw_at lw_m1 160 rfl) rfl
theorem q287 : (Jvm.Cond.instanceMethod ({ cls := "GallRegister$Printed", name := "<init>", desc := "(LGallRegister;)V" } : Jvm.MethodName)) ∈ lw_all := lw_g (lw_at lw_m1 162 rfl) rfl
theorem q288 : (Jvm.Cond.code ({ cls := "GallRegister$Printed", name := "<init>", desc := "(LGallRegister;)V" } : Jvm.MethodName) prog_7_method_1_code (2 : Nat) (Option.none : Option Jvm.ClassFile.FieldType)) ∈ lw_all := lw_g (lw_at lw_m1 163 rfl) rfl
theorem q289 : (Jvm.Cond.methodLinkNest "GallRegister$Printed" (9 : Nat) ({ cls := "GallRegister$Fading", name := "<init>", desc := "(LGallRegister;)V" } : Jvm.MethodName) "GallRegister") ∈ lw_tbl := lw_at lw_m1 164 rfl
theorem q290 : (Jvm.Cond.fieldLink "GallRegister$Printed" (3 : Nat) "GallRegister$Printed" "this$0" "LGallRegister;") ∈ lw_all := lw_g (lw_at lw_m1 165 rfl) rfl
theorem q291 : (Jvm.Cond.laysFinal "GallRegister$Printed" "GallRegister$Printed" "this$0" "LGallRegister;") ∈ lw_all := lw_g (lw_at lw_m1 166 rfl) rfl
theorem q292 : (Jvm.Cond.soleField "GallRegister$Printed" "this$0") ∈ lw_all := lw_g (lw_at lw_m1 167 rfl) rfl
theorem q293 : (Jvm.Cond.laysFinal "GallRegister$Printed" "GallRegister$Fading" "this$0" "LGallRegister;") ∈ lw_all := lw_g (lw_at lw_m1 168 rfl) rfl
theorem q294 : (Jvm.Cond.superclass "GallRegister$Printed" "GallRegister$Fading") ∈ lw_all := lw_g (lw_at lw_m1 169 rfl) rfl
theorem q366 : (Jvm.Cond.fieldLinkNest "GallRegister$Printed" (23 : Nat) "GallRegister" "ahead" "[I" "GallRegister") ∈ lw_tbl := lw_at lw_m2 1 rfl
theorem q827 : (Jvm.Cond.selects "GallRegister$Printed" ({ cls := "GallRegister$Fading", name := "less", desc := "(II)I" } : Jvm.MethodName) ({ cls := "GallRegister$Fading", name := "less", desc := "(II)I" } : Jvm.MethodName)) ∈ lw_all := lw_g (lw_at lw_m3 222 rfl) rfl
theorem q837 : (Jvm.Cond.selects "GallRegister$Printed" ({ cls := "GallRegister$Fading", name := "more", desc := "(II)I" } : Jvm.MethodName) ({ cls := "GallRegister$Printed", name := "more", desc := "(II)I" } : Jvm.MethodName)) ∈ lw_all := lw_g (lw_at lw_m3 232 rfl) rfl
theorem q838 : (Jvm.Cond.instanceMethod ({ cls := "GallRegister$Printed", name := "more", desc := "(II)I" } : Jvm.MethodName)) ∈ lw_all := lw_g (lw_at lw_m3 233 rfl) rfl
theorem q839 : (Jvm.Cond.code ({ cls := "GallRegister$Printed", name := "more", desc := "(II)I" } : Jvm.MethodName) prog_7_method_2_code (5 : Nat) (Option.some Jvm.ClassFile.FieldType.int)) ∈ lw_all := lw_g (lw_at lw_m3 234 rfl) rfl
theorem q840 : (Jvm.Cond.methodLinkNest "GallRegister$Printed" (15 : Nat) ({ cls := "GallRegister", name := "facing", desc := "(I)I" } : Jvm.MethodName) "GallRegister") ∈ lw_tbl := lw_at lw_m3 235 rfl
theorem q841 : (Jvm.Cond.methodLinkNest "GallRegister$Printed" (19 : Nat) ({ cls := "GallRegister", name := "isThere", desc := "(II)Z" } : Jvm.MethodName) "GallRegister") ∈ lw_tbl := lw_at lw_m3 236 rfl
theorem q842 : (Jvm.Cond.methodLink "GallRegister$Printed" (27 : Nat) ({ cls := "GallRegister$Fading", name := "more", desc := "(II)I" } : Jvm.MethodName)) ∈ lw_all := lw_g (lw_at lw_m3 237 rfl) rfl
theorem q1342 : (Jvm.Cond.selects "GallRegister$Printed" ({ cls := "java/lang/Object", name := "getClass", desc := "()Ljava/lang/Class;" } : Jvm.MethodName) ({ cls := "java/lang/Object", name := "getClass", desc := "()Ljava/lang/Class;" } : Jvm.MethodName)) ∈ lw_all := lw_g (lw_at lw_m6 17 rfl) rfl
theorem q2251 : (Jvm.Cond.castable "GallRegister$Printed" "java/lang/Object") ∈ lw_tbl := lw_at lw_m9 206 rfl
theorem q2265 : (Jvm.Cond.castable "GallRegister$Printed" "GallRegister$Fading") ∈ lw_tbl := lw_at lw_m9 220 rfl
theorem in_X4 : ∀ w ∈ wsX40, w ∈ lw_all := lw_in wsX40 [293, 291] (by decide +kernel) (by decide +kernel)
/-! GallRegister$EvenYears -/
set_option maxRecDepth 100000
def RX5 : String := "GallRegister$EvenYears"
def TX5 : u_T := fun k => match k with
  | 0 => ("GallRegister$Fading", "this$0", "LGallRegister;", true)
  | _ => ("GallRegister$EvenYears", "this$0", "LGallRegister;", true)
def tyX5 : Nat → FieldType := fun k => match k with
  | 0 => .object "GallRegister"
  | _ => .object "GallRegister"
abbrev wsX50 : List Cond := u_ws RX5 TX5 2
-- two fields of one name: no nmX5
theorem tyX5_ok : ∀ k, k < 2 → parseFieldDescriptor (TX5 k).2.2.1 = some (tyX5 k) := by decide +kernel
abbrev cX5_init : ByteArray := prog_4_method_1_code
def yX5_init : MethodName := ⟨RX5, "<init>", "(LGallRegister;)V"⟩
def dkwX5_init_0 : List UInt8 := [42, 43, 181, 0, 1, 42, 43, 183, 0, 7, 177]
abbrev dktX5_init_0 : List UInt8 := dkwX5_init_0 ++ []
theorem dksX5_init_0 : cX5_init.data.toList.drop 0 = dktX5_init_0 := by decide +kernel
theorem dX5_init_0 : decode cX5_init 0 = .ok (.aload_n 0, 1) := dk_42 (dk_at dksX5_init_0 0 rfl rfl)
theorem dX5_init_1 : decode cX5_init 1 = .ok (.aload_n 1, 1) := dk_43 (dk_at dksX5_init_0 1 rfl rfl)
theorem dX5_init_2 : decode cX5_init 2 = .ok (.putfield 1, 3) := dk_181 0 1 (dk_at dksX5_init_0 2 rfl rfl)
theorem dX5_init_5 : decode cX5_init 5 = .ok (.aload_n 0, 1) := dk_42 (dk_at dksX5_init_0 5 rfl rfl)
theorem dX5_init_6 : decode cX5_init 6 = .ok (.aload_n 1, 1) := dk_43 (dk_at dksX5_init_0 6 rfl rfl)
theorem dX5_init_7 : decode cX5_init 7 = .ok (.invokespecial 7, 3) := dk_183 0 7 (dk_at dksX5_init_0 7 rfl rfl)
theorem dX5_init_10 : decode cX5_init 10 = .ok (.return_, 1) := dk_177 (dk_at dksX5_init_0 10 rfl rfl)
abbrev cX5_less : ByteArray := prog_4_method_2_code
def yX5_less : MethodName := ⟨RX5, "less", "(II)I"⟩
def dkwX5_less_0 : List UInt8 := [28, 5, 112, 4, 160, 0, 7, 3, 167, 0, 9, 42, 27, 28, 183, 0, 13, 172]
abbrev dktX5_less_0 : List UInt8 := dkwX5_less_0 ++ []
theorem dksX5_less_0 : cX5_less.data.toList.drop 0 = dktX5_less_0 := by decide +kernel
theorem dX5_less_0 : decode cX5_less 0 = .ok (.iload_n 2, 1) := dk_28 (dk_at dksX5_less_0 0 rfl rfl)
theorem dX5_less_1 : decode cX5_less 1 = .ok (.iconst 2, 1) := dk_5 (dk_at dksX5_less_0 1 rfl rfl)
theorem dX5_less_2 : decode cX5_less 2 = .ok (.irem, 1) := dk_112 (dk_at dksX5_less_0 2 rfl rfl)
theorem dX5_less_3 : decode cX5_less 3 = .ok (.iconst 1, 1) := dk_4 (dk_at dksX5_less_0 3 rfl rfl)
theorem dX5_less_4 : decode cX5_less 4 = .ok (.if_icmp .ne 7, 3) := dk_160 0 7 (dk_at dksX5_less_0 4 rfl rfl)
theorem dX5_less_7 : decode cX5_less 7 = .ok (.iconst 0, 1) := dk_3 (dk_at dksX5_less_0 7 rfl rfl)
theorem dX5_less_8 : decode cX5_less 8 = .ok (.goto 9, 3) := dk_167 0 9 (dk_at dksX5_less_0 8 rfl rfl)
theorem dX5_less_11 : decode cX5_less 11 = .ok (.aload_n 0, 1) := dk_42 (dk_at dksX5_less_0 11 rfl rfl)
theorem dX5_less_12 : decode cX5_less 12 = .ok (.iload_n 1, 1) := dk_27 (dk_at dksX5_less_0 12 rfl rfl)
theorem dX5_less_13 : decode cX5_less 13 = .ok (.iload_n 2, 1) := dk_28 (dk_at dksX5_less_0 13 rfl rfl)
theorem dX5_less_14 : decode cX5_less 14 = .ok (.invokespecial 13, 3) := dk_183 0 13 (dk_at dksX5_less_0 14 rfl rfl)
theorem dX5_less_17 : decode cX5_less 17 = .ok (.ireturn, 1) := dk_172 (dk_at dksX5_less_0 17 rfl rfl)
theorem q131 : (Jvm.Cond.initialized "GallRegister$EvenYears") ∈ lw_all := lw_g (lw_at lw_m1 6 rfl) rfl
theorem q296 : (Jvm.Cond.instantiable "GallRegister$EvenYears" (2 : Nat)) ∈ lw_all := lw_g (lw_at lw_m1 171 rfl) rfl
theorem q298 : (Jvm.Cond.instanceMethod ({ cls := "GallRegister$EvenYears", name := "<init>", desc := "(LGallRegister;)V" } : Jvm.MethodName)) ∈ lw_all := lw_g (lw_at lw_m1 173 rfl) rfl
theorem q299 : (Jvm.Cond.code ({ cls := "GallRegister$EvenYears", name := "<init>", desc := "(LGallRegister;)V" } : Jvm.MethodName) prog_4_method_1_code (2 : Nat) (Option.none : Option Jvm.ClassFile.FieldType)) ∈ lw_all := lw_g (lw_at lw_m1 174 rfl) rfl
theorem q300 : (Jvm.Cond.methodLinkNest "GallRegister$EvenYears" (7 : Nat) ({ cls := "GallRegister$Fading", name := "<init>", desc := "(LGallRegister;)V" } : Jvm.MethodName) "GallRegister") ∈ lw_tbl := lw_at lw_m1 175 rfl
theorem q301 : (Jvm.Cond.fieldLink "GallRegister$EvenYears" (1 : Nat) "GallRegister$EvenYears" "this$0" "LGallRegister;") ∈ lw_all := lw_g (lw_at lw_m1 176 rfl) rfl
theorem q302 : (Jvm.Cond.laysFinal "GallRegister$EvenYears" "GallRegister$EvenYears" "this$0" "LGallRegister;") ∈ lw_all := lw_g (lw_at lw_m1 177 rfl) rfl
theorem q303 : (Jvm.Cond.soleField "GallRegister$EvenYears" "this$0") ∈ lw_all := lw_g (lw_at lw_m1 178 rfl) rfl
theorem q304 : (Jvm.Cond.laysFinal "GallRegister$EvenYears" "GallRegister$Fading" "this$0" "LGallRegister;") ∈ lw_all := lw_g (lw_at lw_m1 179 rfl) rfl
theorem q305 : (Jvm.Cond.superclass "GallRegister$EvenYears" "GallRegister$Fading") ∈ lw_all := lw_g (lw_at lw_m1 180 rfl) rfl
theorem q823 : (Jvm.Cond.selects "GallRegister$EvenYears" ({ cls := "GallRegister$Fading", name := "less", desc := "(II)I" } : Jvm.MethodName) ({ cls := "GallRegister$EvenYears", name := "less", desc := "(II)I" } : Jvm.MethodName)) ∈ lw_all := lw_g (lw_at lw_m3 218 rfl) rfl
theorem q824 : (Jvm.Cond.instanceMethod ({ cls := "GallRegister$EvenYears", name := "less", desc := "(II)I" } : Jvm.MethodName)) ∈ lw_all := lw_g (lw_at lw_m3 219 rfl) rfl
theorem q825 : (Jvm.Cond.code ({ cls := "GallRegister$EvenYears", name := "less", desc := "(II)I" } : Jvm.MethodName) prog_4_method_2_code (3 : Nat) (Option.some Jvm.ClassFile.FieldType.int)) ∈ lw_all := lw_g (lw_at lw_m3 220 rfl) rfl
theorem q826 : (Jvm.Cond.methodLink "GallRegister$EvenYears" (13 : Nat) ({ cls := "GallRegister$Fading", name := "less", desc := "(II)I" } : Jvm.MethodName)) ∈ lw_all := lw_g (lw_at lw_m3 221 rfl) rfl
theorem q836 : (Jvm.Cond.selects "GallRegister$EvenYears" ({ cls := "GallRegister$Fading", name := "more", desc := "(II)I" } : Jvm.MethodName) ({ cls := "GallRegister$Fading", name := "more", desc := "(II)I" } : Jvm.MethodName)) ∈ lw_all := lw_g (lw_at lw_m3 231 rfl) rfl
theorem q1339 : (Jvm.Cond.selects "GallRegister$EvenYears" ({ cls := "java/lang/Object", name := "getClass", desc := "()Ljava/lang/Class;" } : Jvm.MethodName) ({ cls := "java/lang/Object", name := "getClass", desc := "()Ljava/lang/Class;" } : Jvm.MethodName)) ∈ lw_all := lw_g (lw_at lw_m6 14 rfl) rfl
theorem q2252 : (Jvm.Cond.castable "GallRegister$EvenYears" "java/lang/Object") ∈ lw_tbl := lw_at lw_m9 207 rfl
theorem q2266 : (Jvm.Cond.castable "GallRegister$EvenYears" "GallRegister$Fading") ∈ lw_tbl := lw_at lw_m9 221 rfl
theorem in_X5 : ∀ w ∈ wsX50, w ∈ lw_all := lw_in wsX50 [304, 302] (by decide +kernel) (by decide +kernel)
/-! GallRegister$Slot -/
set_option maxRecDepth 100000
def RX6 : String := "GallRegister$Slot"
def TX6 : u_T := fun k => match k with
  | _ => ("GallRegister$Slot", "row", "Ljava/lang/Object;", false)
def tyX6 : Nat → FieldType := fun k => match k with
  | _ => .object "java/lang/Object"
abbrev wsX60 : List Cond := u_ws RX6 TX6 1
theorem nmX6 : ∀ a, a < 1 → ∀ b, b < 1 → a ≠ b → (TX6 a).2.1 ≠ (TX6 b).2.1 := by decide +kernel
theorem tyX6_ok : ∀ k, k < 1 → parseFieldDescriptor (TX6 k).2.2.1 = some (tyX6 k) := by decide +kernel
abbrev cX6_init : ByteArray := prog_9_method_1_code
def yX6_init : MethodName := ⟨RX6, "<init>", "()V"⟩
theorem dX6_init_0 : decode cX6_init 0 = .ok (.aload_n 0, 1) := by decide +kernel
theorem dX6_init_1 : decode cX6_init 1 = .ok (.invokespecial 1, 3) := by decide +kernel
theorem dX6_init_4 : decode cX6_init 4 = .ok (.return_, 1) := by decide +kernel
abbrev cX6_size : ByteArray := prog_9_method_3_code
def yX6_size : MethodName := ⟨RX6, "size", "()I"⟩
def dkwX6_size_3 : List UInt8 := [190, 172]
abbrev dktX6_size_3 : List UInt8 := dkwX6_size_3 ++ []
def dkwX6_size_2 : List UInt8 := [193, 0, 17, 153, 0, 14, 42, 180, 0, 7, 192, 0, 17, 190, 167, 0, 11, 42, 180, 0, 7, 192, 0, 19]
abbrev dktX6_size_2 : List UInt8 := dkwX6_size_2 ++ dktX6_size_3
def dkwX6_size_1 : List UInt8 := [180, 0, 7, 193, 0, 15, 153, 0, 14, 42, 180, 0, 7, 192, 0, 15, 190, 167, 0, 32, 42, 180, 0, 7]
abbrev dktX6_size_1 : List UInt8 := dkwX6_size_1 ++ dktX6_size_2
def dkwX6_size_0 : List UInt8 := [42, 180, 0, 7, 193, 0, 13, 153, 0, 14, 42, 180, 0, 7, 192, 0, 13, 190, 167, 0, 53, 42]
abbrev dktX6_size_0 : List UInt8 := dkwX6_size_0 ++ dktX6_size_1
theorem dksX6_size_0 : cX6_size.data.toList.drop 0 = dktX6_size_0 := by decide +kernel
theorem dksX6_size_1 : cX6_size.data.toList.drop 22 = dktX6_size_1 := dk_seg dksX6_size_0 22 rfl rfl
theorem dksX6_size_2 : cX6_size.data.toList.drop 46 = dktX6_size_2 := dk_seg dksX6_size_1 24 rfl rfl
theorem dksX6_size_3 : cX6_size.data.toList.drop 70 = dktX6_size_3 := dk_seg dksX6_size_2 24 rfl rfl
theorem dX6_size_0 : decode cX6_size 0 = .ok (.aload_n 0, 1) := dk_42 (dk_at dksX6_size_0 0 rfl rfl)
theorem dX6_size_1 : decode cX6_size 1 = .ok (.getfield 7, 3) := dk_180 0 7 (dk_at dksX6_size_0 1 rfl rfl)
theorem dX6_size_4 : decode cX6_size 4 = .ok (.instanceof 13, 3) := dk_193 0 13 (dk_at dksX6_size_0 4 rfl rfl)
theorem dX6_size_7 : decode cX6_size 7 = .ok (.ifCond .eq 14, 3) := dk_153 0 14 (dk_at dksX6_size_0 7 rfl rfl)
theorem dX6_size_10 : decode cX6_size 10 = .ok (.aload_n 0, 1) := dk_42 (dk_at dksX6_size_0 10 rfl rfl)
theorem dX6_size_11 : decode cX6_size 11 = .ok (.getfield 7, 3) := dk_180 0 7 (dk_at dksX6_size_0 11 rfl rfl)
theorem dX6_size_14 : decode cX6_size 14 = .ok (.checkcast 13, 3) := dk_192 0 13 (dk_at dksX6_size_0 14 rfl rfl)
theorem dX6_size_17 : decode cX6_size 17 = .ok (.arraylength, 1) := dk_190 (dk_at dksX6_size_0 17 rfl rfl)
theorem dX6_size_18 : decode cX6_size 18 = .ok (.goto 53, 3) := dk_167 0 53 (dk_at dksX6_size_0 18 rfl rfl)
theorem dX6_size_21 : decode cX6_size 21 = .ok (.aload_n 0, 1) := dk_42 (dk_at dksX6_size_0 21 rfl rfl)
theorem dX6_size_22 : decode cX6_size 22 = .ok (.getfield 7, 3) := dk_180 0 7 (dk_at dksX6_size_1 0 rfl rfl)
theorem dX6_size_25 : decode cX6_size 25 = .ok (.instanceof 15, 3) := dk_193 0 15 (dk_at dksX6_size_1 3 rfl rfl)
theorem dX6_size_28 : decode cX6_size 28 = .ok (.ifCond .eq 14, 3) := dk_153 0 14 (dk_at dksX6_size_1 6 rfl rfl)
theorem dX6_size_31 : decode cX6_size 31 = .ok (.aload_n 0, 1) := dk_42 (dk_at dksX6_size_1 9 rfl rfl)
theorem dX6_size_32 : decode cX6_size 32 = .ok (.getfield 7, 3) := dk_180 0 7 (dk_at dksX6_size_1 10 rfl rfl)
theorem dX6_size_35 : decode cX6_size 35 = .ok (.checkcast 15, 3) := dk_192 0 15 (dk_at dksX6_size_1 13 rfl rfl)
theorem dX6_size_38 : decode cX6_size 38 = .ok (.arraylength, 1) := dk_190 (dk_at dksX6_size_1 16 rfl rfl)
theorem dX6_size_39 : decode cX6_size 39 = .ok (.goto 32, 3) := dk_167 0 32 (dk_at dksX6_size_1 17 rfl rfl)
theorem dX6_size_42 : decode cX6_size 42 = .ok (.aload_n 0, 1) := dk_42 (dk_at dksX6_size_1 20 rfl rfl)
theorem dX6_size_43 : decode cX6_size 43 = .ok (.getfield 7, 3) := dk_180 0 7 (dk_at dksX6_size_1 21 rfl rfl)
theorem dX6_size_46 : decode cX6_size 46 = .ok (.instanceof 17, 3) := dk_193 0 17 (dk_at dksX6_size_2 0 rfl rfl)
theorem dX6_size_49 : decode cX6_size 49 = .ok (.ifCond .eq 14, 3) := dk_153 0 14 (dk_at dksX6_size_2 3 rfl rfl)
theorem dX6_size_52 : decode cX6_size 52 = .ok (.aload_n 0, 1) := dk_42 (dk_at dksX6_size_2 6 rfl rfl)
theorem dX6_size_53 : decode cX6_size 53 = .ok (.getfield 7, 3) := dk_180 0 7 (dk_at dksX6_size_2 7 rfl rfl)
theorem dX6_size_56 : decode cX6_size 56 = .ok (.checkcast 17, 3) := dk_192 0 17 (dk_at dksX6_size_2 10 rfl rfl)
theorem dX6_size_59 : decode cX6_size 59 = .ok (.arraylength, 1) := dk_190 (dk_at dksX6_size_2 13 rfl rfl)
theorem dX6_size_60 : decode cX6_size 60 = .ok (.goto 11, 3) := dk_167 0 11 (dk_at dksX6_size_2 14 rfl rfl)
theorem dX6_size_63 : decode cX6_size 63 = .ok (.aload_n 0, 1) := dk_42 (dk_at dksX6_size_2 17 rfl rfl)
theorem dX6_size_64 : decode cX6_size 64 = .ok (.getfield 7, 3) := dk_180 0 7 (dk_at dksX6_size_2 18 rfl rfl)
theorem dX6_size_67 : decode cX6_size 67 = .ok (.checkcast 19, 3) := dk_192 0 19 (dk_at dksX6_size_2 21 rfl rfl)
theorem dX6_size_70 : decode cX6_size 70 = .ok (.arraylength, 1) := dk_190 (dk_at dksX6_size_3 0 rfl rfl)
theorem dX6_size_71 : decode cX6_size 71 = .ok (.ireturn, 1) := dk_172 (dk_at dksX6_size_3 1 rfl rfl)
abbrev cX6_at : ByteArray := prog_9_method_4_code
def yX6_at : MethodName := ⟨RX6, "at", "(I)J"⟩
def dkwX6_at_3 : List UInt8 := [180, 0, 7, 192, 0, 19, 27, 47, 173]
abbrev dktX6_at_3 : List UInt8 := dkwX6_at_3 ++ []
def dkwX6_at_2 : List UInt8 := [180, 0, 7, 193, 0, 17, 153, 0, 16, 42, 180, 0, 7, 192, 0, 17, 27, 46, 133, 167, 0, 12, 42]
abbrev dktX6_at_2 : List UInt8 := dkwX6_at_2 ++ dktX6_at_3
def dkwX6_at_1 : List UInt8 := [180, 0, 7, 193, 0, 15, 153, 0, 16, 42, 180, 0, 7, 192, 0, 15, 27, 53, 133, 167, 0, 35, 42]
abbrev dktX6_at_1 : List UInt8 := dkwX6_at_1 ++ dktX6_at_2
def dkwX6_at_0 : List UInt8 := [42, 180, 0, 7, 193, 0, 13, 153, 0, 16, 42, 180, 0, 7, 192, 0, 13, 27, 51, 133, 167, 0, 58, 42]
abbrev dktX6_at_0 : List UInt8 := dkwX6_at_0 ++ dktX6_at_1
theorem dksX6_at_0 : cX6_at.data.toList.drop 0 = dktX6_at_0 := by decide +kernel
theorem dksX6_at_1 : cX6_at.data.toList.drop 24 = dktX6_at_1 := dk_seg dksX6_at_0 24 rfl rfl
theorem dksX6_at_2 : cX6_at.data.toList.drop 47 = dktX6_at_2 := dk_seg dksX6_at_1 23 rfl rfl
theorem dksX6_at_3 : cX6_at.data.toList.drop 70 = dktX6_at_3 := dk_seg dksX6_at_2 23 rfl rfl
theorem dX6_at_0 : decode cX6_at 0 = .ok (.aload_n 0, 1) := dk_42 (dk_at dksX6_at_0 0 rfl rfl)
theorem dX6_at_1 : decode cX6_at 1 = .ok (.getfield 7, 3) := dk_180 0 7 (dk_at dksX6_at_0 1 rfl rfl)
theorem dX6_at_4 : decode cX6_at 4 = .ok (.instanceof 13, 3) := dk_193 0 13 (dk_at dksX6_at_0 4 rfl rfl)
theorem dX6_at_7 : decode cX6_at 7 = .ok (.ifCond .eq 16, 3) := dk_153 0 16 (dk_at dksX6_at_0 7 rfl rfl)
theorem dX6_at_10 : decode cX6_at 10 = .ok (.aload_n 0, 1) := dk_42 (dk_at dksX6_at_0 10 rfl rfl)
theorem dX6_at_11 : decode cX6_at 11 = .ok (.getfield 7, 3) := dk_180 0 7 (dk_at dksX6_at_0 11 rfl rfl)
theorem dX6_at_14 : decode cX6_at 14 = .ok (.checkcast 13, 3) := dk_192 0 13 (dk_at dksX6_at_0 14 rfl rfl)
theorem dX6_at_17 : decode cX6_at 17 = .ok (.iload_n 1, 1) := dk_27 (dk_at dksX6_at_0 17 rfl rfl)
theorem dX6_at_18 : decode cX6_at 18 = .ok (.baload, 1) := dk_51 (dk_at dksX6_at_0 18 rfl rfl)
theorem dX6_at_19 : decode cX6_at 19 = .ok (.i2l, 1) := dk_133 (dk_at dksX6_at_0 19 rfl rfl)
theorem dX6_at_20 : decode cX6_at 20 = .ok (.goto 58, 3) := dk_167 0 58 (dk_at dksX6_at_0 20 rfl rfl)
theorem dX6_at_23 : decode cX6_at 23 = .ok (.aload_n 0, 1) := dk_42 (dk_at dksX6_at_0 23 rfl rfl)
theorem dX6_at_24 : decode cX6_at 24 = .ok (.getfield 7, 3) := dk_180 0 7 (dk_at dksX6_at_1 0 rfl rfl)
theorem dX6_at_27 : decode cX6_at 27 = .ok (.instanceof 15, 3) := dk_193 0 15 (dk_at dksX6_at_1 3 rfl rfl)
theorem dX6_at_30 : decode cX6_at 30 = .ok (.ifCond .eq 16, 3) := dk_153 0 16 (dk_at dksX6_at_1 6 rfl rfl)
theorem dX6_at_33 : decode cX6_at 33 = .ok (.aload_n 0, 1) := dk_42 (dk_at dksX6_at_1 9 rfl rfl)
theorem dX6_at_34 : decode cX6_at 34 = .ok (.getfield 7, 3) := dk_180 0 7 (dk_at dksX6_at_1 10 rfl rfl)
theorem dX6_at_37 : decode cX6_at 37 = .ok (.checkcast 15, 3) := dk_192 0 15 (dk_at dksX6_at_1 13 rfl rfl)
theorem dX6_at_40 : decode cX6_at 40 = .ok (.iload_n 1, 1) := dk_27 (dk_at dksX6_at_1 16 rfl rfl)
theorem dX6_at_41 : decode cX6_at 41 = .ok (.saload, 1) := dk_53 (dk_at dksX6_at_1 17 rfl rfl)
theorem dX6_at_42 : decode cX6_at 42 = .ok (.i2l, 1) := dk_133 (dk_at dksX6_at_1 18 rfl rfl)
theorem dX6_at_43 : decode cX6_at 43 = .ok (.goto 35, 3) := dk_167 0 35 (dk_at dksX6_at_1 19 rfl rfl)
theorem dX6_at_46 : decode cX6_at 46 = .ok (.aload_n 0, 1) := dk_42 (dk_at dksX6_at_1 22 rfl rfl)
theorem dX6_at_47 : decode cX6_at 47 = .ok (.getfield 7, 3) := dk_180 0 7 (dk_at dksX6_at_2 0 rfl rfl)
theorem dX6_at_50 : decode cX6_at 50 = .ok (.instanceof 17, 3) := dk_193 0 17 (dk_at dksX6_at_2 3 rfl rfl)
theorem dX6_at_53 : decode cX6_at 53 = .ok (.ifCond .eq 16, 3) := dk_153 0 16 (dk_at dksX6_at_2 6 rfl rfl)
theorem dX6_at_56 : decode cX6_at 56 = .ok (.aload_n 0, 1) := dk_42 (dk_at dksX6_at_2 9 rfl rfl)
theorem dX6_at_57 : decode cX6_at 57 = .ok (.getfield 7, 3) := dk_180 0 7 (dk_at dksX6_at_2 10 rfl rfl)
theorem dX6_at_60 : decode cX6_at 60 = .ok (.checkcast 17, 3) := dk_192 0 17 (dk_at dksX6_at_2 13 rfl rfl)
theorem dX6_at_63 : decode cX6_at 63 = .ok (.iload_n 1, 1) := dk_27 (dk_at dksX6_at_2 16 rfl rfl)
theorem dX6_at_64 : decode cX6_at 64 = .ok (.iaload, 1) := dk_46 (dk_at dksX6_at_2 17 rfl rfl)
theorem dX6_at_65 : decode cX6_at 65 = .ok (.i2l, 1) := dk_133 (dk_at dksX6_at_2 18 rfl rfl)
theorem dX6_at_66 : decode cX6_at 66 = .ok (.goto 12, 3) := dk_167 0 12 (dk_at dksX6_at_2 19 rfl rfl)
theorem dX6_at_69 : decode cX6_at 69 = .ok (.aload_n 0, 1) := dk_42 (dk_at dksX6_at_2 22 rfl rfl)
theorem dX6_at_70 : decode cX6_at 70 = .ok (.getfield 7, 3) := dk_180 0 7 (dk_at dksX6_at_3 0 rfl rfl)
theorem dX6_at_73 : decode cX6_at 73 = .ok (.checkcast 19, 3) := dk_192 0 19 (dk_at dksX6_at_3 3 rfl rfl)
theorem dX6_at_76 : decode cX6_at 76 = .ok (.iload_n 1, 1) := dk_27 (dk_at dksX6_at_3 6 rfl rfl)
theorem dX6_at_77 : decode cX6_at 77 = .ok (.laload, 1) := dk_47 (dk_at dksX6_at_3 7 rfl rfl)
theorem dX6_at_78 : decode cX6_at 78 = .ok (.lreturn, 1) := dk_173 (dk_at dksX6_at_3 8 rfl rfl)
abbrev cX6_make : ByteArray := prog_9_method_2_code
def yX6_make : MethodName := ⟨RX6, "make", "(II)V"⟩
def dkwX6_make_1 : List UInt8 := [160, 0, 9, 28, 188, 10, 167, 0, 6, 28, 188, 11, 181, 0, 7, 177]
abbrev dktX6_make_1 : List UInt8 := dkwX6_make_1 ++ []
def dkwX6_make_0 : List UInt8 := [42, 27, 154, 0, 9, 28, 188, 8, 167, 0, 28, 27, 4, 160, 0, 9, 28, 188, 9, 167, 0, 17, 27, 5]
abbrev dktX6_make_0 : List UInt8 := dkwX6_make_0 ++ dktX6_make_1
theorem dksX6_make_0 : cX6_make.data.toList.drop 0 = dktX6_make_0 := by decide +kernel
theorem dksX6_make_1 : cX6_make.data.toList.drop 24 = dktX6_make_1 := dk_seg dksX6_make_0 24 rfl rfl
theorem dX6_make_0 : decode cX6_make 0 = .ok (.aload_n 0, 1) := dk_42 (dk_at dksX6_make_0 0 rfl rfl)
theorem dX6_make_1 : decode cX6_make 1 = .ok (.iload_n 1, 1) := dk_27 (dk_at dksX6_make_0 1 rfl rfl)
theorem dX6_make_2 : decode cX6_make 2 = .ok (.ifCond .ne 9, 3) := dk_154 0 9 (dk_at dksX6_make_0 2 rfl rfl)
theorem dX6_make_5 : decode cX6_make 5 = .ok (.iload_n 2, 1) := dk_28 (dk_at dksX6_make_0 5 rfl rfl)
theorem dX6_make_6 : decode cX6_make 6 = .ok (.newarray .byte, 2) := dk_188_8 (dk_at dksX6_make_0 6 rfl rfl)
theorem dX6_make_8 : decode cX6_make 8 = .ok (.goto 28, 3) := dk_167 0 28 (dk_at dksX6_make_0 8 rfl rfl)
theorem dX6_make_11 : decode cX6_make 11 = .ok (.iload_n 1, 1) := dk_27 (dk_at dksX6_make_0 11 rfl rfl)
theorem dX6_make_12 : decode cX6_make 12 = .ok (.iconst 1, 1) := dk_4 (dk_at dksX6_make_0 12 rfl rfl)
theorem dX6_make_13 : decode cX6_make 13 = .ok (.if_icmp .ne 9, 3) := dk_160 0 9 (dk_at dksX6_make_0 13 rfl rfl)
theorem dX6_make_16 : decode cX6_make 16 = .ok (.iload_n 2, 1) := dk_28 (dk_at dksX6_make_0 16 rfl rfl)
theorem dX6_make_17 : decode cX6_make 17 = .ok (.newarray .short, 2) := dk_188_9 (dk_at dksX6_make_0 17 rfl rfl)
theorem dX6_make_19 : decode cX6_make 19 = .ok (.goto 17, 3) := dk_167 0 17 (dk_at dksX6_make_0 19 rfl rfl)
theorem dX6_make_22 : decode cX6_make 22 = .ok (.iload_n 1, 1) := dk_27 (dk_at dksX6_make_0 22 rfl rfl)
theorem dX6_make_23 : decode cX6_make 23 = .ok (.iconst 2, 1) := dk_5 (dk_at dksX6_make_0 23 rfl rfl)
theorem dX6_make_24 : decode cX6_make 24 = .ok (.if_icmp .ne 9, 3) := dk_160 0 9 (dk_at dksX6_make_1 0 rfl rfl)
theorem dX6_make_27 : decode cX6_make 27 = .ok (.iload_n 2, 1) := dk_28 (dk_at dksX6_make_1 3 rfl rfl)
theorem dX6_make_28 : decode cX6_make 28 = .ok (.newarray .int, 2) := dk_188_10 (dk_at dksX6_make_1 4 rfl rfl)
theorem dX6_make_30 : decode cX6_make 30 = .ok (.goto 6, 3) := dk_167 0 6 (dk_at dksX6_make_1 6 rfl rfl)
theorem dX6_make_33 : decode cX6_make 33 = .ok (.iload_n 2, 1) := dk_28 (dk_at dksX6_make_1 9 rfl rfl)
theorem dX6_make_34 : decode cX6_make 34 = .ok (.newarray .long, 2) := dk_188_11 (dk_at dksX6_make_1 10 rfl rfl)
theorem dX6_make_36 : decode cX6_make 36 = .ok (.putfield 7, 3) := dk_181 0 7 (dk_at dksX6_make_1 12 rfl rfl)
theorem dX6_make_39 : decode cX6_make 39 = .ok (.return_, 1) := dk_177 (dk_at dksX6_make_1 15 rfl rfl)
abbrev cX6_put : ByteArray := prog_9_method_5_code
def yX6_put : MethodName := ⟨RX6, "put", "(IJ)V"⟩
def dkwX6_put_3 : List UInt8 := [79, 167, 0, 13, 42, 180, 0, 7, 192, 0, 19, 27, 32, 80, 177]
abbrev dktX6_put_3 : List UInt8 := dkwX6_put_3 ++ []
def dkwX6_put_2 : List UInt8 := [86, 167, 0, 37, 42, 180, 0, 7, 193, 0, 17, 153, 0, 17, 42, 180, 0, 7, 192, 0, 17, 27, 32, 136]
abbrev dktX6_put_2 : List UInt8 := dkwX6_put_2 ++ dktX6_put_3
def dkwX6_put_1 : List UInt8 := [167, 0, 62, 42, 180, 0, 7, 193, 0, 15, 153, 0, 18, 42, 180, 0, 7, 192, 0, 15, 27, 32, 136, 147]
abbrev dktX6_put_1 : List UInt8 := dkwX6_put_1 ++ dktX6_put_2
def dkwX6_put_0 : List UInt8 := [42, 180, 0, 7, 193, 0, 13, 153, 0, 18, 42, 180, 0, 7, 192, 0, 13, 27, 32, 136, 145, 84]
abbrev dktX6_put_0 : List UInt8 := dkwX6_put_0 ++ dktX6_put_1
theorem dksX6_put_0 : cX6_put.data.toList.drop 0 = dktX6_put_0 := by decide +kernel
theorem dksX6_put_1 : cX6_put.data.toList.drop 22 = dktX6_put_1 := dk_seg dksX6_put_0 22 rfl rfl
theorem dksX6_put_2 : cX6_put.data.toList.drop 46 = dktX6_put_2 := dk_seg dksX6_put_1 24 rfl rfl
theorem dksX6_put_3 : cX6_put.data.toList.drop 70 = dktX6_put_3 := dk_seg dksX6_put_2 24 rfl rfl
theorem dX6_put_0 : decode cX6_put 0 = .ok (.aload_n 0, 1) := dk_42 (dk_at dksX6_put_0 0 rfl rfl)
theorem dX6_put_1 : decode cX6_put 1 = .ok (.getfield 7, 3) := dk_180 0 7 (dk_at dksX6_put_0 1 rfl rfl)
theorem dX6_put_4 : decode cX6_put 4 = .ok (.instanceof 13, 3) := dk_193 0 13 (dk_at dksX6_put_0 4 rfl rfl)
theorem dX6_put_7 : decode cX6_put 7 = .ok (.ifCond .eq 18, 3) := dk_153 0 18 (dk_at dksX6_put_0 7 rfl rfl)
theorem dX6_put_10 : decode cX6_put 10 = .ok (.aload_n 0, 1) := dk_42 (dk_at dksX6_put_0 10 rfl rfl)
theorem dX6_put_11 : decode cX6_put 11 = .ok (.getfield 7, 3) := dk_180 0 7 (dk_at dksX6_put_0 11 rfl rfl)
theorem dX6_put_14 : decode cX6_put 14 = .ok (.checkcast 13, 3) := dk_192 0 13 (dk_at dksX6_put_0 14 rfl rfl)
theorem dX6_put_17 : decode cX6_put 17 = .ok (.iload_n 1, 1) := dk_27 (dk_at dksX6_put_0 17 rfl rfl)
theorem dX6_put_18 : decode cX6_put 18 = .ok (.lload_n 2, 1) := dk_32 (dk_at dksX6_put_0 18 rfl rfl)
theorem dX6_put_19 : decode cX6_put 19 = .ok (.l2i, 1) := dk_136 (dk_at dksX6_put_0 19 rfl rfl)
theorem dX6_put_20 : decode cX6_put 20 = .ok (.i2b, 1) := dk_145 (dk_at dksX6_put_0 20 rfl rfl)
theorem dX6_put_21 : decode cX6_put 21 = .ok (.bastore, 1) := dk_84 (dk_at dksX6_put_0 21 rfl rfl)
theorem dX6_put_22 : decode cX6_put 22 = .ok (.goto 62, 3) := dk_167 0 62 (dk_at dksX6_put_1 0 rfl rfl)
theorem dX6_put_25 : decode cX6_put 25 = .ok (.aload_n 0, 1) := dk_42 (dk_at dksX6_put_1 3 rfl rfl)
theorem dX6_put_26 : decode cX6_put 26 = .ok (.getfield 7, 3) := dk_180 0 7 (dk_at dksX6_put_1 4 rfl rfl)
theorem dX6_put_29 : decode cX6_put 29 = .ok (.instanceof 15, 3) := dk_193 0 15 (dk_at dksX6_put_1 7 rfl rfl)
theorem dX6_put_32 : decode cX6_put 32 = .ok (.ifCond .eq 18, 3) := dk_153 0 18 (dk_at dksX6_put_1 10 rfl rfl)
theorem dX6_put_35 : decode cX6_put 35 = .ok (.aload_n 0, 1) := dk_42 (dk_at dksX6_put_1 13 rfl rfl)
theorem dX6_put_36 : decode cX6_put 36 = .ok (.getfield 7, 3) := dk_180 0 7 (dk_at dksX6_put_1 14 rfl rfl)
theorem dX6_put_39 : decode cX6_put 39 = .ok (.checkcast 15, 3) := dk_192 0 15 (dk_at dksX6_put_1 17 rfl rfl)
theorem dX6_put_42 : decode cX6_put 42 = .ok (.iload_n 1, 1) := dk_27 (dk_at dksX6_put_1 20 rfl rfl)
theorem dX6_put_43 : decode cX6_put 43 = .ok (.lload_n 2, 1) := dk_32 (dk_at dksX6_put_1 21 rfl rfl)
theorem dX6_put_44 : decode cX6_put 44 = .ok (.l2i, 1) := dk_136 (dk_at dksX6_put_1 22 rfl rfl)
theorem dX6_put_45 : decode cX6_put 45 = .ok (.i2s, 1) := dk_147 (dk_at dksX6_put_1 23 rfl rfl)
theorem dX6_put_46 : decode cX6_put 46 = .ok (.sastore, 1) := dk_86 (dk_at dksX6_put_2 0 rfl rfl)
theorem dX6_put_47 : decode cX6_put 47 = .ok (.goto 37, 3) := dk_167 0 37 (dk_at dksX6_put_2 1 rfl rfl)
theorem dX6_put_50 : decode cX6_put 50 = .ok (.aload_n 0, 1) := dk_42 (dk_at dksX6_put_2 4 rfl rfl)
theorem dX6_put_51 : decode cX6_put 51 = .ok (.getfield 7, 3) := dk_180 0 7 (dk_at dksX6_put_2 5 rfl rfl)
theorem dX6_put_54 : decode cX6_put 54 = .ok (.instanceof 17, 3) := dk_193 0 17 (dk_at dksX6_put_2 8 rfl rfl)
theorem dX6_put_57 : decode cX6_put 57 = .ok (.ifCond .eq 17, 3) := dk_153 0 17 (dk_at dksX6_put_2 11 rfl rfl)
theorem dX6_put_60 : decode cX6_put 60 = .ok (.aload_n 0, 1) := dk_42 (dk_at dksX6_put_2 14 rfl rfl)
theorem dX6_put_61 : decode cX6_put 61 = .ok (.getfield 7, 3) := dk_180 0 7 (dk_at dksX6_put_2 15 rfl rfl)
theorem dX6_put_64 : decode cX6_put 64 = .ok (.checkcast 17, 3) := dk_192 0 17 (dk_at dksX6_put_2 18 rfl rfl)
theorem dX6_put_67 : decode cX6_put 67 = .ok (.iload_n 1, 1) := dk_27 (dk_at dksX6_put_2 21 rfl rfl)
theorem dX6_put_68 : decode cX6_put 68 = .ok (.lload_n 2, 1) := dk_32 (dk_at dksX6_put_2 22 rfl rfl)
theorem dX6_put_69 : decode cX6_put 69 = .ok (.l2i, 1) := dk_136 (dk_at dksX6_put_2 23 rfl rfl)
theorem dX6_put_70 : decode cX6_put 70 = .ok (.iastore, 1) := dk_79 (dk_at dksX6_put_3 0 rfl rfl)
theorem dX6_put_71 : decode cX6_put 71 = .ok (.goto 13, 3) := dk_167 0 13 (dk_at dksX6_put_3 1 rfl rfl)
theorem dX6_put_74 : decode cX6_put 74 = .ok (.aload_n 0, 1) := dk_42 (dk_at dksX6_put_3 4 rfl rfl)
theorem dX6_put_75 : decode cX6_put 75 = .ok (.getfield 7, 3) := dk_180 0 7 (dk_at dksX6_put_3 5 rfl rfl)
theorem dX6_put_78 : decode cX6_put 78 = .ok (.checkcast 19, 3) := dk_192 0 19 (dk_at dksX6_put_3 8 rfl rfl)
theorem dX6_put_81 : decode cX6_put 81 = .ok (.iload_n 1, 1) := dk_27 (dk_at dksX6_put_3 11 rfl rfl)
theorem dX6_put_82 : decode cX6_put 82 = .ok (.lload_n 2, 1) := dk_32 (dk_at dksX6_put_3 12 rfl rfl)
theorem dX6_put_83 : decode cX6_put 83 = .ok (.lastore, 1) := dk_80 (dk_at dksX6_put_3 13 rfl rfl)
theorem dX6_put_84 : decode cX6_put 84 = .ok (.return_, 1) := dk_177 (dk_at dksX6_put_3 14 rfl rfl)
theorem q132 : (Jvm.Cond.initialized "GallRegister$Slot") ∈ lw_all := lw_g (lw_at lw_m1 7 rfl) rfl
theorem q308 : (Jvm.Cond.instantiable "GallRegister$Slot" (1 : Nat)) ∈ lw_all := lw_g (lw_at lw_m1 183 rfl) rfl
theorem q310 : (Jvm.Cond.instanceMethod ({ cls := "GallRegister$Slot", name := "<init>", desc := "()V" } : Jvm.MethodName)) ∈ lw_all := lw_g (lw_at lw_m1 185 rfl) rfl
theorem q311 : (Jvm.Cond.code ({ cls := "GallRegister$Slot", name := "<init>", desc := "()V" } : Jvm.MethodName) prog_9_method_1_code (1 : Nat) (Option.none : Option Jvm.ClassFile.FieldType)) ∈ lw_all := lw_g (lw_at lw_m1 186 rfl) rfl
theorem q312 : (Jvm.Cond.methodLink "GallRegister$Slot" (1 : Nat) ({ cls := "java/lang/Object", name := "<init>", desc := "()V" } : Jvm.MethodName)) ∈ lw_all := lw_g (lw_at lw_m1 187 rfl) rfl
theorem q313 : (Jvm.Cond.fieldLink "GallRegister$Slot" (7 : Nat) "GallRegister$Slot" "row" "Ljava/lang/Object;") ∈ lw_all := lw_g (lw_at lw_m1 188 rfl) rfl
theorem q315 : (Jvm.Cond.lays "GallRegister$Slot" "GallRegister$Slot" "row" "Ljava/lang/Object;") ∈ lw_all := lw_g (lw_at lw_m1 190 rfl) rfl
theorem q316 : (Jvm.Cond.soleField "GallRegister$Slot" "row") ∈ lw_all := lw_g (lw_at lw_m1 191 rfl) rfl
theorem q317 : (Jvm.Cond.superclass "GallRegister$Slot" "java/lang/Object") ∈ lw_all := lw_g (lw_at lw_m1 192 rfl) rfl
theorem q1106 : (Jvm.Cond.instanceMethod ({ cls := "GallRegister$Slot", name := "size", desc := "()I" } : Jvm.MethodName)) ∈ lw_all := lw_g (lw_at lw_m5 21 rfl) rfl
theorem q1107 : (Jvm.Cond.selects "GallRegister$Slot" ({ cls := "GallRegister$Slot", name := "size", desc := "()I" } : Jvm.MethodName) ({ cls := "GallRegister$Slot", name := "size", desc := "()I" } : Jvm.MethodName)) ∈ lw_all := lw_g (lw_at lw_m5 22 rfl) rfl
theorem q1108 : (Jvm.Cond.code ({ cls := "GallRegister$Slot", name := "size", desc := "()I" } : Jvm.MethodName) prog_9_method_3_code (1 : Nat) (Option.some Jvm.ClassFile.FieldType.int)) ∈ lw_all := lw_g (lw_at lw_m5 23 rfl) rfl
theorem q1109 : (Jvm.Cond.classLink "GallRegister$Slot" (13 : Nat) "[B") ∈ lw_all := lw_g (lw_at lw_m5 24 rfl) rfl
theorem q1110 : (Jvm.Cond.classLink "GallRegister$Slot" (15 : Nat) "[S") ∈ lw_all := lw_g (lw_at lw_m5 25 rfl) rfl
theorem q1111 : (Jvm.Cond.classLink "GallRegister$Slot" (17 : Nat) "[I") ∈ lw_all := lw_g (lw_at lw_m5 26 rfl) rfl
theorem q1112 : (Jvm.Cond.classLink "GallRegister$Slot" (19 : Nat) "[J") ∈ lw_all := lw_g (lw_at lw_m5 27 rfl) rfl
theorem q1114 : (Jvm.Cond.instanceMethod ({ cls := "GallRegister$Slot", name := "at", desc := "(I)J" } : Jvm.MethodName)) ∈ lw_all := lw_g (lw_at lw_m5 29 rfl) rfl
theorem q1115 : (Jvm.Cond.selects "GallRegister$Slot" ({ cls := "GallRegister$Slot", name := "at", desc := "(I)J" } : Jvm.MethodName) ({ cls := "GallRegister$Slot", name := "at", desc := "(I)J" } : Jvm.MethodName)) ∈ lw_all := lw_g (lw_at lw_m5 30 rfl) rfl
theorem q1116 : (Jvm.Cond.code ({ cls := "GallRegister$Slot", name := "at", desc := "(I)J" } : Jvm.MethodName) prog_9_method_4_code (2 : Nat) (Option.some Jvm.ClassFile.FieldType.long)) ∈ lw_all := lw_g (lw_at lw_m5 31 rfl) rfl
theorem q1344 : (Jvm.Cond.selects "GallRegister$Slot" ({ cls := "java/lang/Object", name := "getClass", desc := "()Ljava/lang/Class;" } : Jvm.MethodName) ({ cls := "java/lang/Object", name := "getClass", desc := "()Ljava/lang/Class;" } : Jvm.MethodName)) ∈ lw_all := lw_g (lw_at lw_m6 19 rfl) rfl
theorem q1426 : (Jvm.Cond.instanceMethod ({ cls := "GallRegister$Slot", name := "make", desc := "(II)V" } : Jvm.MethodName)) ∈ lw_all := lw_g (lw_at lw_m6 101 rfl) rfl
theorem q1427 : (Jvm.Cond.selects "GallRegister$Slot" ({ cls := "GallRegister$Slot", name := "make", desc := "(II)V" } : Jvm.MethodName) ({ cls := "GallRegister$Slot", name := "make", desc := "(II)V" } : Jvm.MethodName)) ∈ lw_all := lw_g (lw_at lw_m6 102 rfl) rfl
theorem q1428 : (Jvm.Cond.code ({ cls := "GallRegister$Slot", name := "make", desc := "(II)V" } : Jvm.MethodName) prog_9_method_2_code (3 : Nat) (Option.none : Option Jvm.ClassFile.FieldType)) ∈ lw_all := lw_g (lw_at lw_m6 103 rfl) rfl
theorem q1455 : (Jvm.Cond.instanceMethod ({ cls := "GallRegister$Slot", name := "put", desc := "(IJ)V" } : Jvm.MethodName)) ∈ lw_all := lw_g (lw_at lw_m6 130 rfl) rfl
theorem q1456 : (Jvm.Cond.selects "GallRegister$Slot" ({ cls := "GallRegister$Slot", name := "put", desc := "(IJ)V" } : Jvm.MethodName) ({ cls := "GallRegister$Slot", name := "put", desc := "(IJ)V" } : Jvm.MethodName)) ∈ lw_all := lw_g (lw_at lw_m6 131 rfl) rfl
theorem q1457 : (Jvm.Cond.code ({ cls := "GallRegister$Slot", name := "put", desc := "(IJ)V" } : Jvm.MethodName) prog_9_method_5_code (4 : Nat) (Option.none : Option Jvm.ClassFile.FieldType)) ∈ lw_all := lw_g (lw_at lw_m6 132 rfl) rfl
theorem q2247 : (Jvm.Cond.castable "GallRegister$Slot" "java/lang/Object") ∈ lw_tbl := lw_at lw_m9 202 rfl
theorem in_X6 : ∀ w ∈ wsX60, w ∈ lw_all := lw_in wsX60 [315] (by decide +kernel) (by decide +kernel)
/-! GallRegister$Reader -/
set_option maxRecDepth 100000
def RX8 : String := "GallRegister$Reader"
def TX8 : u_T := fun k => match k with
  | 0 => ("GallRegister$Reader", "size", "I", true)
  | 1 => ("GallRegister$Reader", "book", "LGallRegister$Book;", true)
  | 2 => ("GallRegister$Reader", "at", "I", false)
  | 3 => ("GallRegister$Reader", "from", "I", false)
  | 4 => ("GallRegister$Reader", "value", "I", false)
  | 5 => ("GallRegister$Reader", "token", "LGallRegister$Token;", false)
  | _ => ("GallRegister$Reader", "this$0", "LGallRegister;", true)
def tyX8 : Nat → FieldType := fun k => match k with
  | 0 => .int
  | 1 => .object "GallRegister$Book"
  | 2 => .int
  | 3 => .int
  | 4 => .int
  | 5 => .object "GallRegister$Token"
  | _ => .object "GallRegister"
abbrev wsX80 : List Cond := u_ws RX8 TX8 7
theorem nmX8 : ∀ a, a < 7 → ∀ b, b < 7 → a ≠ b → (TX8 a).2.1 ≠ (TX8 b).2.1 := by decide +kernel
theorem tyX8_ok : ∀ k, k < 7 → parseFieldDescriptor (TX8 k).2.2.1 = some (tyX8 k) := by decide +kernel
abbrev cX8_init : ByteArray := prog_8_method_1_code
def yX8_init : MethodName := ⟨RX8, "<init>", "(LGallRegister;)V"⟩
def dkwX8_init_1 : List UInt8 := [89, 183, 0, 24, 181, 0, 25, 42, 178, 0, 29, 181, 0, 35, 42, 182, 0, 38, 177]
abbrev dktX8_init_1 : List UInt8 := dkwX8_init_1 ++ []
def dkwX8_init_0 : List UInt8 := [42, 43, 181, 0, 3, 42, 183, 0, 9, 42, 42, 180, 0, 3, 180, 0, 15, 181, 0, 19, 42, 187, 0, 22]
abbrev dktX8_init_0 : List UInt8 := dkwX8_init_0 ++ dktX8_init_1
theorem dksX8_init_0 : cX8_init.data.toList.drop 0 = dktX8_init_0 := by decide +kernel
theorem dksX8_init_1 : cX8_init.data.toList.drop 24 = dktX8_init_1 := dk_seg dksX8_init_0 24 rfl rfl
theorem dX8_init_0 : decode cX8_init 0 = .ok (.aload_n 0, 1) := dk_42 (dk_at dksX8_init_0 0 rfl rfl)
theorem dX8_init_1 : decode cX8_init 1 = .ok (.aload_n 1, 1) := dk_43 (dk_at dksX8_init_0 1 rfl rfl)
theorem dX8_init_2 : decode cX8_init 2 = .ok (.putfield 3, 3) := dk_181 0 3 (dk_at dksX8_init_0 2 rfl rfl)
theorem dX8_init_5 : decode cX8_init 5 = .ok (.aload_n 0, 1) := dk_42 (dk_at dksX8_init_0 5 rfl rfl)
theorem dX8_init_6 : decode cX8_init 6 = .ok (.invokespecial 9, 3) := dk_183 0 9 (dk_at dksX8_init_0 6 rfl rfl)
theorem dX8_init_9 : decode cX8_init 9 = .ok (.aload_n 0, 1) := dk_42 (dk_at dksX8_init_0 9 rfl rfl)
theorem dX8_init_10 : decode cX8_init 10 = .ok (.aload_n 0, 1) := dk_42 (dk_at dksX8_init_0 10 rfl rfl)
theorem dX8_init_11 : decode cX8_init 11 = .ok (.getfield 3, 3) := dk_180 0 3 (dk_at dksX8_init_0 11 rfl rfl)
theorem dX8_init_14 : decode cX8_init 14 = .ok (.getfield 15, 3) := dk_180 0 15 (dk_at dksX8_init_0 14 rfl rfl)
theorem dX8_init_17 : decode cX8_init 17 = .ok (.putfield 19, 3) := dk_181 0 19 (dk_at dksX8_init_0 17 rfl rfl)
theorem dX8_init_20 : decode cX8_init 20 = .ok (.aload_n 0, 1) := dk_42 (dk_at dksX8_init_0 20 rfl rfl)
theorem dX8_init_21 : decode cX8_init 21 = .ok (.new 22, 3) := dk_187 0 22 (dk_at dksX8_init_0 21 rfl rfl)
theorem dX8_init_24 : decode cX8_init 24 = .ok (.dup, 1) := dk_89 (dk_at dksX8_init_1 0 rfl rfl)
theorem dX8_init_25 : decode cX8_init 25 = .ok (.invokespecial 24, 3) := dk_183 0 24 (dk_at dksX8_init_1 1 rfl rfl)
theorem dX8_init_28 : decode cX8_init 28 = .ok (.putfield 25, 3) := dk_181 0 25 (dk_at dksX8_init_1 4 rfl rfl)
theorem dX8_init_31 : decode cX8_init 31 = .ok (.aload_n 0, 1) := dk_42 (dk_at dksX8_init_1 7 rfl rfl)
theorem dX8_init_32 : decode cX8_init 32 = .ok (.getstatic 29, 3) := dk_178 0 29 (dk_at dksX8_init_1 8 rfl rfl)
theorem dX8_init_35 : decode cX8_init 35 = .ok (.putfield 35, 3) := dk_181 0 35 (dk_at dksX8_init_1 11 rfl rfl)
theorem dX8_init_38 : decode cX8_init 38 = .ok (.aload_n 0, 1) := dk_42 (dk_at dksX8_init_1 14 rfl rfl)
theorem dX8_init_39 : decode cX8_init 39 = .ok (.invokevirtual 38, 3) := dk_182 0 38 (dk_at dksX8_init_1 15 rfl rfl)
theorem dX8_init_42 : decode cX8_init 42 = .ok (.return_, 1) := dk_177 (dk_at dksX8_init_1 18 rfl rfl)
abbrev cX8_next : ByteArray := prog_8_method_3_code
def yX8_next : MethodName := ⟨RX8, "next", "()V"⟩
def dkwX8_next_10 : List UInt8 := [167, 0, 6, 178, 0, 78, 181, 0, 35, 42, 89, 180, 0, 41, 4, 96, 181, 0, 41, 177]
abbrev dktX8_next_10 : List UInt8 := dkwX8_next_10 ++ []
def dkwX8_next_9 : List UInt8 := [167, 0, 43, 42, 42, 180, 0, 3, 180, 0, 44, 42, 180, 0, 41, 51, 16, 59, 160, 0, 9, 178, 0, 75]
abbrev dktX8_next_9 : List UInt8 := dkwX8_next_9 ++ dktX8_next_10
def dkwX8_next_8 : List UInt8 := [181, 0, 62, 42, 89, 180, 0, 41, 4, 96, 181, 0, 41, 167, 255, 203, 42, 178, 0, 72, 181, 0, 35]
abbrev dktX8_next_8 : List UInt8 := dkwX8_next_8 ++ dktX8_next_9
def dkwX8_next_7 : List UInt8 := [180, 0, 62, 104, 42, 180, 0, 3, 180, 0, 44, 42, 180, 0, 41, 51, 96, 16, 48, 100, 184, 0, 66]
abbrev dktX8_next_7 : List UInt8 := dkwX8_next_7 ++ dktX8_next_8
def dkwX8_next_6 : List UInt8 := [42, 3, 181, 0, 62, 42, 16, 48, 16, 57, 182, 0, 55, 153, 0, 48, 42, 18, 65, 16, 10, 42]
abbrev dktX8_next_6 : List UInt8 := dkwX8_next_6 ++ dktX8_next_7
def dkwX8_next_5 : List UInt8 := [167, 255, 235, 42, 178, 0, 59, 181, 0, 35, 167, 0, 125, 42, 16, 48, 16, 57, 182, 0, 55, 153, 0, 74]
abbrev dktX8_next_5 : List UInt8 := dkwX8_next_5 ++ dktX8_next_6
def dkwX8_next_4 : List UInt8 := [153, 0, 37, 42, 16, 97, 16, 122, 182, 0, 55, 153, 0, 16, 42, 89, 180, 0, 41, 4, 96, 181, 0, 41]
abbrev dktX8_next_4 : List UInt8 := dkwX8_next_4 ++ dktX8_next_5
def dkwX8_next_3 : List UInt8 := [180, 0, 19, 160, 0, 13, 42, 178, 0, 29, 181, 0, 35, 167, 0, 170, 42, 16, 97, 16, 122, 182, 0, 55]
abbrev dktX8_next_3 : List UInt8 := dkwX8_next_3 ++ dktX8_next_4
def dkwX8_next_2 : List UInt8 := [180, 0, 41, 4, 96, 181, 0, 41, 167, 255, 201, 42, 42, 180, 0, 41, 181, 0, 52, 42, 180, 0, 41, 42]
abbrev dktX8_next_2 : List UInt8 := dkwX8_next_2 ++ dktX8_next_3
def dkwX8_next_1 : List UInt8 := [16, 32, 159, 0, 20, 42, 180, 0, 3, 180, 0, 44, 42, 180, 0, 41, 51, 16, 10, 160, 0, 16, 42, 89]
abbrev dktX8_next_1 : List UInt8 := dkwX8_next_1 ++ dktX8_next_2
def dkwX8_next_0 : List UInt8 := [42, 180, 0, 41, 42, 180, 0, 19, 162, 0, 50, 42, 180, 0, 3, 180, 0, 44, 42, 180, 0, 41, 51]
abbrev dktX8_next_0 : List UInt8 := dkwX8_next_0 ++ dktX8_next_1
theorem dksX8_next_0 : cX8_next.data.toList.drop 0 = dktX8_next_0 := by decide +kernel
theorem dksX8_next_1 : cX8_next.data.toList.drop 23 = dktX8_next_1 := dk_seg dksX8_next_0 23 rfl rfl
theorem dksX8_next_2 : cX8_next.data.toList.drop 47 = dktX8_next_2 := dk_seg dksX8_next_1 24 rfl rfl
theorem dksX8_next_3 : cX8_next.data.toList.drop 71 = dktX8_next_3 := dk_seg dksX8_next_2 24 rfl rfl
theorem dksX8_next_4 : cX8_next.data.toList.drop 95 = dktX8_next_4 := dk_seg dksX8_next_3 24 rfl rfl
theorem dksX8_next_5 : cX8_next.data.toList.drop 119 = dktX8_next_5 := dk_seg dksX8_next_4 24 rfl rfl
theorem dksX8_next_6 : cX8_next.data.toList.drop 143 = dktX8_next_6 := dk_seg dksX8_next_5 24 rfl rfl
theorem dksX8_next_7 : cX8_next.data.toList.drop 165 = dktX8_next_7 := dk_seg dksX8_next_6 22 rfl rfl
theorem dksX8_next_8 : cX8_next.data.toList.drop 188 = dktX8_next_8 := dk_seg dksX8_next_7 23 rfl rfl
theorem dksX8_next_9 : cX8_next.data.toList.drop 211 = dktX8_next_9 := dk_seg dksX8_next_8 23 rfl rfl
theorem dksX8_next_10 : cX8_next.data.toList.drop 235 = dktX8_next_10 := dk_seg dksX8_next_9 24 rfl rfl
theorem dX8_next_0 : decode cX8_next 0 = .ok (.aload_n 0, 1) := dk_42 (dk_at dksX8_next_0 0 rfl rfl)
theorem dX8_next_1 : decode cX8_next 1 = .ok (.getfield 41, 3) := dk_180 0 41 (dk_at dksX8_next_0 1 rfl rfl)
theorem dX8_next_4 : decode cX8_next 4 = .ok (.aload_n 0, 1) := dk_42 (dk_at dksX8_next_0 4 rfl rfl)
theorem dX8_next_5 : decode cX8_next 5 = .ok (.getfield 19, 3) := dk_180 0 19 (dk_at dksX8_next_0 5 rfl rfl)
theorem dX8_next_8 : decode cX8_next 8 = .ok (.if_icmp .ge 50, 3) := dk_162 0 50 (dk_at dksX8_next_0 8 rfl rfl)
theorem dX8_next_11 : decode cX8_next 11 = .ok (.aload_n 0, 1) := dk_42 (dk_at dksX8_next_0 11 rfl rfl)
theorem dX8_next_12 : decode cX8_next 12 = .ok (.getfield 3, 3) := dk_180 0 3 (dk_at dksX8_next_0 12 rfl rfl)
theorem dX8_next_15 : decode cX8_next 15 = .ok (.getfield 44, 3) := dk_180 0 44 (dk_at dksX8_next_0 15 rfl rfl)
theorem dX8_next_18 : decode cX8_next 18 = .ok (.aload_n 0, 1) := dk_42 (dk_at dksX8_next_0 18 rfl rfl)
theorem dX8_next_19 : decode cX8_next 19 = .ok (.getfield 41, 3) := dk_180 0 41 (dk_at dksX8_next_0 19 rfl rfl)
theorem dX8_next_22 : decode cX8_next 22 = .ok (.baload, 1) := dk_51 (dk_at dksX8_next_0 22 rfl rfl)
theorem dX8_next_23 : decode cX8_next 23 = .ok (.bipush 32, 2) := dk_16 32 (dk_at dksX8_next_1 0 rfl rfl)
theorem dX8_next_25 : decode cX8_next 25 = .ok (.if_icmp .eq 20, 3) := dk_159 0 20 (dk_at dksX8_next_1 2 rfl rfl)
theorem dX8_next_28 : decode cX8_next 28 = .ok (.aload_n 0, 1) := dk_42 (dk_at dksX8_next_1 5 rfl rfl)
theorem dX8_next_29 : decode cX8_next 29 = .ok (.getfield 3, 3) := dk_180 0 3 (dk_at dksX8_next_1 6 rfl rfl)
theorem dX8_next_32 : decode cX8_next 32 = .ok (.getfield 44, 3) := dk_180 0 44 (dk_at dksX8_next_1 9 rfl rfl)
theorem dX8_next_35 : decode cX8_next 35 = .ok (.aload_n 0, 1) := dk_42 (dk_at dksX8_next_1 12 rfl rfl)
theorem dX8_next_36 : decode cX8_next 36 = .ok (.getfield 41, 3) := dk_180 0 41 (dk_at dksX8_next_1 13 rfl rfl)
theorem dX8_next_39 : decode cX8_next 39 = .ok (.baload, 1) := dk_51 (dk_at dksX8_next_1 16 rfl rfl)
theorem dX8_next_40 : decode cX8_next 40 = .ok (.bipush 10, 2) := dk_16 10 (dk_at dksX8_next_1 17 rfl rfl)
theorem dX8_next_42 : decode cX8_next 42 = .ok (.if_icmp .ne 16, 3) := dk_160 0 16 (dk_at dksX8_next_1 19 rfl rfl)
theorem dX8_next_45 : decode cX8_next 45 = .ok (.aload_n 0, 1) := dk_42 (dk_at dksX8_next_1 22 rfl rfl)
theorem dX8_next_46 : decode cX8_next 46 = .ok (.dup, 1) := dk_89 (dk_at dksX8_next_1 23 rfl rfl)
theorem dX8_next_47 : decode cX8_next 47 = .ok (.getfield 41, 3) := dk_180 0 41 (dk_at dksX8_next_2 0 rfl rfl)
theorem dX8_next_50 : decode cX8_next 50 = .ok (.iconst 1, 1) := dk_4 (dk_at dksX8_next_2 3 rfl rfl)
theorem dX8_next_51 : decode cX8_next 51 = .ok (.iadd, 1) := dk_96 (dk_at dksX8_next_2 4 rfl rfl)
theorem dX8_next_52 : decode cX8_next 52 = .ok (.putfield 41, 3) := dk_181 0 41 (dk_at dksX8_next_2 5 rfl rfl)
theorem dX8_next_55 : decode cX8_next 55 = .ok (.goto (-55), 3) := dk_167 255 201 (dk_at dksX8_next_2 8 rfl rfl)
theorem dX8_next_58 : decode cX8_next 58 = .ok (.aload_n 0, 1) := dk_42 (dk_at dksX8_next_2 11 rfl rfl)
theorem dX8_next_59 : decode cX8_next 59 = .ok (.aload_n 0, 1) := dk_42 (dk_at dksX8_next_2 12 rfl rfl)
theorem dX8_next_60 : decode cX8_next 60 = .ok (.getfield 41, 3) := dk_180 0 41 (dk_at dksX8_next_2 13 rfl rfl)
theorem dX8_next_63 : decode cX8_next 63 = .ok (.putfield 52, 3) := dk_181 0 52 (dk_at dksX8_next_2 16 rfl rfl)
theorem dX8_next_66 : decode cX8_next 66 = .ok (.aload_n 0, 1) := dk_42 (dk_at dksX8_next_2 19 rfl rfl)
theorem dX8_next_67 : decode cX8_next 67 = .ok (.getfield 41, 3) := dk_180 0 41 (dk_at dksX8_next_2 20 rfl rfl)
theorem dX8_next_70 : decode cX8_next 70 = .ok (.aload_n 0, 1) := dk_42 (dk_at dksX8_next_2 23 rfl rfl)
theorem dX8_next_71 : decode cX8_next 71 = .ok (.getfield 19, 3) := dk_180 0 19 (dk_at dksX8_next_3 0 rfl rfl)
theorem dX8_next_74 : decode cX8_next 74 = .ok (.if_icmp .ne 13, 3) := dk_160 0 13 (dk_at dksX8_next_3 3 rfl rfl)
theorem dX8_next_77 : decode cX8_next 77 = .ok (.aload_n 0, 1) := dk_42 (dk_at dksX8_next_3 6 rfl rfl)
theorem dX8_next_78 : decode cX8_next 78 = .ok (.getstatic 29, 3) := dk_178 0 29 (dk_at dksX8_next_3 7 rfl rfl)
theorem dX8_next_81 : decode cX8_next 81 = .ok (.putfield 35, 3) := dk_181 0 35 (dk_at dksX8_next_3 10 rfl rfl)
theorem dX8_next_84 : decode cX8_next 84 = .ok (.goto 170, 3) := dk_167 0 170 (dk_at dksX8_next_3 13 rfl rfl)
theorem dX8_next_87 : decode cX8_next 87 = .ok (.aload_n 0, 1) := dk_42 (dk_at dksX8_next_3 16 rfl rfl)
theorem dX8_next_88 : decode cX8_next 88 = .ok (.bipush 97, 2) := dk_16 97 (dk_at dksX8_next_3 17 rfl rfl)
theorem dX8_next_90 : decode cX8_next 90 = .ok (.bipush 122, 2) := dk_16 122 (dk_at dksX8_next_3 19 rfl rfl)
theorem dX8_next_92 : decode cX8_next 92 = .ok (.invokevirtual 55, 3) := dk_182 0 55 (dk_at dksX8_next_3 21 rfl rfl)
theorem dX8_next_95 : decode cX8_next 95 = .ok (.ifCond .eq 37, 3) := dk_153 0 37 (dk_at dksX8_next_4 0 rfl rfl)
theorem dX8_next_98 : decode cX8_next 98 = .ok (.aload_n 0, 1) := dk_42 (dk_at dksX8_next_4 3 rfl rfl)
theorem dX8_next_99 : decode cX8_next 99 = .ok (.bipush 97, 2) := dk_16 97 (dk_at dksX8_next_4 4 rfl rfl)
theorem dX8_next_101 : decode cX8_next 101 = .ok (.bipush 122, 2) := dk_16 122 (dk_at dksX8_next_4 6 rfl rfl)
theorem dX8_next_103 : decode cX8_next 103 = .ok (.invokevirtual 55, 3) := dk_182 0 55 (dk_at dksX8_next_4 8 rfl rfl)
theorem dX8_next_106 : decode cX8_next 106 = .ok (.ifCond .eq 16, 3) := dk_153 0 16 (dk_at dksX8_next_4 11 rfl rfl)
theorem dX8_next_109 : decode cX8_next 109 = .ok (.aload_n 0, 1) := dk_42 (dk_at dksX8_next_4 14 rfl rfl)
theorem dX8_next_110 : decode cX8_next 110 = .ok (.dup, 1) := dk_89 (dk_at dksX8_next_4 15 rfl rfl)
theorem dX8_next_111 : decode cX8_next 111 = .ok (.getfield 41, 3) := dk_180 0 41 (dk_at dksX8_next_4 16 rfl rfl)
theorem dX8_next_114 : decode cX8_next 114 = .ok (.iconst 1, 1) := dk_4 (dk_at dksX8_next_4 19 rfl rfl)
theorem dX8_next_115 : decode cX8_next 115 = .ok (.iadd, 1) := dk_96 (dk_at dksX8_next_4 20 rfl rfl)
theorem dX8_next_116 : decode cX8_next 116 = .ok (.putfield 41, 3) := dk_181 0 41 (dk_at dksX8_next_4 21 rfl rfl)
theorem dX8_next_119 : decode cX8_next 119 = .ok (.goto (-21), 3) := dk_167 255 235 (dk_at dksX8_next_5 0 rfl rfl)
theorem dX8_next_122 : decode cX8_next 122 = .ok (.aload_n 0, 1) := dk_42 (dk_at dksX8_next_5 3 rfl rfl)
theorem dX8_next_123 : decode cX8_next 123 = .ok (.getstatic 59, 3) := dk_178 0 59 (dk_at dksX8_next_5 4 rfl rfl)
theorem dX8_next_126 : decode cX8_next 126 = .ok (.putfield 35, 3) := dk_181 0 35 (dk_at dksX8_next_5 7 rfl rfl)
theorem dX8_next_129 : decode cX8_next 129 = .ok (.goto 125, 3) := dk_167 0 125 (dk_at dksX8_next_5 10 rfl rfl)
theorem dX8_next_132 : decode cX8_next 132 = .ok (.aload_n 0, 1) := dk_42 (dk_at dksX8_next_5 13 rfl rfl)
theorem dX8_next_133 : decode cX8_next 133 = .ok (.bipush 48, 2) := dk_16 48 (dk_at dksX8_next_5 14 rfl rfl)
theorem dX8_next_135 : decode cX8_next 135 = .ok (.bipush 57, 2) := dk_16 57 (dk_at dksX8_next_5 16 rfl rfl)
theorem dX8_next_137 : decode cX8_next 137 = .ok (.invokevirtual 55, 3) := dk_182 0 55 (dk_at dksX8_next_5 18 rfl rfl)
theorem dX8_next_140 : decode cX8_next 140 = .ok (.ifCond .eq 74, 3) := dk_153 0 74 (dk_at dksX8_next_5 21 rfl rfl)
theorem dX8_next_143 : decode cX8_next 143 = .ok (.aload_n 0, 1) := dk_42 (dk_at dksX8_next_6 0 rfl rfl)
theorem dX8_next_144 : decode cX8_next 144 = .ok (.iconst 0, 1) := dk_3 (dk_at dksX8_next_6 1 rfl rfl)
theorem dX8_next_145 : decode cX8_next 145 = .ok (.putfield 62, 3) := dk_181 0 62 (dk_at dksX8_next_6 2 rfl rfl)
theorem dX8_next_148 : decode cX8_next 148 = .ok (.aload_n 0, 1) := dk_42 (dk_at dksX8_next_6 5 rfl rfl)
theorem dX8_next_149 : decode cX8_next 149 = .ok (.bipush 48, 2) := dk_16 48 (dk_at dksX8_next_6 6 rfl rfl)
theorem dX8_next_151 : decode cX8_next 151 = .ok (.bipush 57, 2) := dk_16 57 (dk_at dksX8_next_6 8 rfl rfl)
theorem dX8_next_153 : decode cX8_next 153 = .ok (.invokevirtual 55, 3) := dk_182 0 55 (dk_at dksX8_next_6 10 rfl rfl)
theorem dX8_next_156 : decode cX8_next 156 = .ok (.ifCond .eq 48, 3) := dk_153 0 48 (dk_at dksX8_next_6 13 rfl rfl)
theorem dX8_next_159 : decode cX8_next 159 = .ok (.aload_n 0, 1) := dk_42 (dk_at dksX8_next_6 16 rfl rfl)
theorem dX8_next_160 : decode cX8_next 160 = .ok (.ldc 65, 2) := dk_18 65 (dk_at dksX8_next_6 17 rfl rfl)
theorem dX8_next_162 : decode cX8_next 162 = .ok (.bipush 10, 2) := dk_16 10 (dk_at dksX8_next_6 19 rfl rfl)
theorem dX8_next_164 : decode cX8_next 164 = .ok (.aload_n 0, 1) := dk_42 (dk_at dksX8_next_6 21 rfl rfl)
theorem dX8_next_165 : decode cX8_next 165 = .ok (.getfield 62, 3) := dk_180 0 62 (dk_at dksX8_next_7 0 rfl rfl)
theorem dX8_next_168 : decode cX8_next 168 = .ok (.imul, 1) := dk_104 (dk_at dksX8_next_7 3 rfl rfl)
theorem dX8_next_169 : decode cX8_next 169 = .ok (.aload_n 0, 1) := dk_42 (dk_at dksX8_next_7 4 rfl rfl)
theorem dX8_next_170 : decode cX8_next 170 = .ok (.getfield 3, 3) := dk_180 0 3 (dk_at dksX8_next_7 5 rfl rfl)
theorem dX8_next_173 : decode cX8_next 173 = .ok (.getfield 44, 3) := dk_180 0 44 (dk_at dksX8_next_7 8 rfl rfl)
theorem dX8_next_176 : decode cX8_next 176 = .ok (.aload_n 0, 1) := dk_42 (dk_at dksX8_next_7 11 rfl rfl)
theorem dX8_next_177 : decode cX8_next 177 = .ok (.getfield 41, 3) := dk_180 0 41 (dk_at dksX8_next_7 12 rfl rfl)
theorem dX8_next_180 : decode cX8_next 180 = .ok (.baload, 1) := dk_51 (dk_at dksX8_next_7 15 rfl rfl)
theorem dX8_next_181 : decode cX8_next 181 = .ok (.iadd, 1) := dk_96 (dk_at dksX8_next_7 16 rfl rfl)
theorem dX8_next_182 : decode cX8_next 182 = .ok (.bipush 48, 2) := dk_16 48 (dk_at dksX8_next_7 17 rfl rfl)
theorem dX8_next_184 : decode cX8_next 184 = .ok (.isub, 1) := dk_100 (dk_at dksX8_next_7 19 rfl rfl)
theorem dX8_next_185 : decode cX8_next 185 = .ok (.invokestatic 66, 3) := dk_184 0 66 (dk_at dksX8_next_7 20 rfl rfl)
theorem dX8_next_188 : decode cX8_next 188 = .ok (.putfield 62, 3) := dk_181 0 62 (dk_at dksX8_next_8 0 rfl rfl)
theorem dX8_next_191 : decode cX8_next 191 = .ok (.aload_n 0, 1) := dk_42 (dk_at dksX8_next_8 3 rfl rfl)
theorem dX8_next_192 : decode cX8_next 192 = .ok (.dup, 1) := dk_89 (dk_at dksX8_next_8 4 rfl rfl)
theorem dX8_next_193 : decode cX8_next 193 = .ok (.getfield 41, 3) := dk_180 0 41 (dk_at dksX8_next_8 5 rfl rfl)
theorem dX8_next_196 : decode cX8_next 196 = .ok (.iconst 1, 1) := dk_4 (dk_at dksX8_next_8 8 rfl rfl)
theorem dX8_next_197 : decode cX8_next 197 = .ok (.iadd, 1) := dk_96 (dk_at dksX8_next_8 9 rfl rfl)
theorem dX8_next_198 : decode cX8_next 198 = .ok (.putfield 41, 3) := dk_181 0 41 (dk_at dksX8_next_8 10 rfl rfl)
theorem dX8_next_201 : decode cX8_next 201 = .ok (.goto (-53), 3) := dk_167 255 203 (dk_at dksX8_next_8 13 rfl rfl)
theorem dX8_next_204 : decode cX8_next 204 = .ok (.aload_n 0, 1) := dk_42 (dk_at dksX8_next_8 16 rfl rfl)
theorem dX8_next_205 : decode cX8_next 205 = .ok (.getstatic 72, 3) := dk_178 0 72 (dk_at dksX8_next_8 17 rfl rfl)
theorem dX8_next_208 : decode cX8_next 208 = .ok (.putfield 35, 3) := dk_181 0 35 (dk_at dksX8_next_8 20 rfl rfl)
theorem dX8_next_211 : decode cX8_next 211 = .ok (.goto 43, 3) := dk_167 0 43 (dk_at dksX8_next_9 0 rfl rfl)
theorem dX8_next_214 : decode cX8_next 214 = .ok (.aload_n 0, 1) := dk_42 (dk_at dksX8_next_9 3 rfl rfl)
theorem dX8_next_215 : decode cX8_next 215 = .ok (.aload_n 0, 1) := dk_42 (dk_at dksX8_next_9 4 rfl rfl)
theorem dX8_next_216 : decode cX8_next 216 = .ok (.getfield 3, 3) := dk_180 0 3 (dk_at dksX8_next_9 5 rfl rfl)
theorem dX8_next_219 : decode cX8_next 219 = .ok (.getfield 44, 3) := dk_180 0 44 (dk_at dksX8_next_9 8 rfl rfl)
theorem dX8_next_222 : decode cX8_next 222 = .ok (.aload_n 0, 1) := dk_42 (dk_at dksX8_next_9 11 rfl rfl)
theorem dX8_next_223 : decode cX8_next 223 = .ok (.getfield 41, 3) := dk_180 0 41 (dk_at dksX8_next_9 12 rfl rfl)
theorem dX8_next_226 : decode cX8_next 226 = .ok (.baload, 1) := dk_51 (dk_at dksX8_next_9 15 rfl rfl)
theorem dX8_next_227 : decode cX8_next 227 = .ok (.bipush 59, 2) := dk_16 59 (dk_at dksX8_next_9 16 rfl rfl)
theorem dX8_next_229 : decode cX8_next 229 = .ok (.if_icmp .ne 9, 3) := dk_160 0 9 (dk_at dksX8_next_9 18 rfl rfl)
theorem dX8_next_232 : decode cX8_next 232 = .ok (.getstatic 75, 3) := dk_178 0 75 (dk_at dksX8_next_9 21 rfl rfl)
theorem dX8_next_235 : decode cX8_next 235 = .ok (.goto 6, 3) := dk_167 0 6 (dk_at dksX8_next_10 0 rfl rfl)
theorem dX8_next_238 : decode cX8_next 238 = .ok (.getstatic 78, 3) := dk_178 0 78 (dk_at dksX8_next_10 3 rfl rfl)
theorem dX8_next_241 : decode cX8_next 241 = .ok (.putfield 35, 3) := dk_181 0 35 (dk_at dksX8_next_10 6 rfl rfl)
theorem dX8_next_244 : decode cX8_next 244 = .ok (.aload_n 0, 1) := dk_42 (dk_at dksX8_next_10 9 rfl rfl)
theorem dX8_next_245 : decode cX8_next 245 = .ok (.dup, 1) := dk_89 (dk_at dksX8_next_10 10 rfl rfl)
theorem dX8_next_246 : decode cX8_next 246 = .ok (.getfield 41, 3) := dk_180 0 41 (dk_at dksX8_next_10 11 rfl rfl)
theorem dX8_next_249 : decode cX8_next 249 = .ok (.iconst 1, 1) := dk_4 (dk_at dksX8_next_10 14 rfl rfl)
theorem dX8_next_250 : decode cX8_next 250 = .ok (.iadd, 1) := dk_96 (dk_at dksX8_next_10 15 rfl rfl)
theorem dX8_next_251 : decode cX8_next 251 = .ok (.putfield 41, 3) := dk_181 0 41 (dk_at dksX8_next_10 16 rfl rfl)
theorem dX8_next_254 : decode cX8_next 254 = .ok (.return_, 1) := dk_177 (dk_at dksX8_next_10 19 rfl rfl)
abbrev cX8_isNext : ByteArray := prog_8_method_2_code
def yX8_isNext : MethodName := ⟨RX8, "isNext", "(II)Z"⟩
def dkwX8_isNext_1 : List UInt8 := [27, 133, 28, 133, 184, 0, 48, 153, 0, 7, 4, 167, 0, 4, 3, 172]
abbrev dktX8_isNext_1 : List UInt8 := dkwX8_isNext_1 ++ []
def dkwX8_isNext_0 : List UInt8 := [42, 180, 0, 41, 42, 180, 0, 19, 162, 0, 30, 42, 180, 0, 3, 180, 0, 44, 42, 180, 0, 41, 51, 133]
abbrev dktX8_isNext_0 : List UInt8 := dkwX8_isNext_0 ++ dktX8_isNext_1
theorem dksX8_isNext_0 : cX8_isNext.data.toList.drop 0 = dktX8_isNext_0 := by decide +kernel
theorem dksX8_isNext_1 : cX8_isNext.data.toList.drop 24 = dktX8_isNext_1 := dk_seg dksX8_isNext_0 24 rfl rfl
theorem dX8_isNext_0 : decode cX8_isNext 0 = .ok (.aload_n 0, 1) := dk_42 (dk_at dksX8_isNext_0 0 rfl rfl)
theorem dX8_isNext_1 : decode cX8_isNext 1 = .ok (.getfield 41, 3) := dk_180 0 41 (dk_at dksX8_isNext_0 1 rfl rfl)
theorem dX8_isNext_4 : decode cX8_isNext 4 = .ok (.aload_n 0, 1) := dk_42 (dk_at dksX8_isNext_0 4 rfl rfl)
theorem dX8_isNext_5 : decode cX8_isNext 5 = .ok (.getfield 19, 3) := dk_180 0 19 (dk_at dksX8_isNext_0 5 rfl rfl)
theorem dX8_isNext_8 : decode cX8_isNext 8 = .ok (.if_icmp .ge 30, 3) := dk_162 0 30 (dk_at dksX8_isNext_0 8 rfl rfl)
theorem dX8_isNext_11 : decode cX8_isNext 11 = .ok (.aload_n 0, 1) := dk_42 (dk_at dksX8_isNext_0 11 rfl rfl)
theorem dX8_isNext_12 : decode cX8_isNext 12 = .ok (.getfield 3, 3) := dk_180 0 3 (dk_at dksX8_isNext_0 12 rfl rfl)
theorem dX8_isNext_15 : decode cX8_isNext 15 = .ok (.getfield 44, 3) := dk_180 0 44 (dk_at dksX8_isNext_0 15 rfl rfl)
theorem dX8_isNext_18 : decode cX8_isNext 18 = .ok (.aload_n 0, 1) := dk_42 (dk_at dksX8_isNext_0 18 rfl rfl)
theorem dX8_isNext_19 : decode cX8_isNext 19 = .ok (.getfield 41, 3) := dk_180 0 41 (dk_at dksX8_isNext_0 19 rfl rfl)
theorem dX8_isNext_22 : decode cX8_isNext 22 = .ok (.baload, 1) := dk_51 (dk_at dksX8_isNext_0 22 rfl rfl)
theorem dX8_isNext_23 : decode cX8_isNext 23 = .ok (.i2l, 1) := dk_133 (dk_at dksX8_isNext_0 23 rfl rfl)
theorem dX8_isNext_24 : decode cX8_isNext 24 = .ok (.iload_n 1, 1) := dk_27 (dk_at dksX8_isNext_1 0 rfl rfl)
theorem dX8_isNext_25 : decode cX8_isNext 25 = .ok (.i2l, 1) := dk_133 (dk_at dksX8_isNext_1 1 rfl rfl)
theorem dX8_isNext_26 : decode cX8_isNext 26 = .ok (.iload_n 2, 1) := dk_28 (dk_at dksX8_isNext_1 2 rfl rfl)
theorem dX8_isNext_27 : decode cX8_isNext 27 = .ok (.i2l, 1) := dk_133 (dk_at dksX8_isNext_1 3 rfl rfl)
theorem dX8_isNext_28 : decode cX8_isNext 28 = .ok (.invokestatic 48, 3) := dk_184 0 48 (dk_at dksX8_isNext_1 4 rfl rfl)
theorem dX8_isNext_31 : decode cX8_isNext 31 = .ok (.ifCond .eq 7, 3) := dk_153 0 7 (dk_at dksX8_isNext_1 7 rfl rfl)
theorem dX8_isNext_34 : decode cX8_isNext 34 = .ok (.iconst 1, 1) := dk_4 (dk_at dksX8_isNext_1 10 rfl rfl)
theorem dX8_isNext_35 : decode cX8_isNext 35 = .ok (.goto 4, 3) := dk_167 0 4 (dk_at dksX8_isNext_1 11 rfl rfl)
theorem dX8_isNext_38 : decode cX8_isNext 38 = .ok (.iconst 0, 1) := dk_3 (dk_at dksX8_isNext_1 14 rfl rfl)
theorem dX8_isNext_39 : decode cX8_isNext 39 = .ok (.ireturn, 1) := dk_172 (dk_at dksX8_isNext_1 15 rfl rfl)
abbrev cX8_whole : ByteArray := prog_8_method_16_code
def yX8_whole : MethodName := ⟨RX8, "whole", "()LGallRegister$Book;"⟩
def dkwX8_whole_2 : List UInt8 := [182, 0, 38, 42, 180, 0, 25, 89, 180, 0, 192, 4, 96, 181, 0, 192, 167, 255, 192, 42, 180, 0, 25, 176]
abbrev dktX8_whole_2 : List UInt8 := dkwX8_whole_2 ++ []
def dkwX8_whole_1 : List UInt8 := [167, 0, 7, 42, 182, 0, 198, 42, 180, 0, 35, 178, 0, 75, 165, 0, 9, 42, 4, 182, 0, 103, 191, 42]
abbrev dktX8_whole_1 : List UInt8 := dkwX8_whole_1 ++ dktX8_whole_2
def dkwX8_whole_0 : List UInt8 := [42, 180, 0, 35, 178, 0, 29, 165, 0, 60, 42, 180, 0, 25, 180, 0, 192, 154, 0, 10, 42, 182, 0, 195]
abbrev dktX8_whole_0 : List UInt8 := dkwX8_whole_0 ++ dktX8_whole_1
theorem dksX8_whole_0 : cX8_whole.data.toList.drop 0 = dktX8_whole_0 := by decide +kernel
theorem dksX8_whole_1 : cX8_whole.data.toList.drop 24 = dktX8_whole_1 := dk_seg dksX8_whole_0 24 rfl rfl
theorem dksX8_whole_2 : cX8_whole.data.toList.drop 48 = dktX8_whole_2 := dk_seg dksX8_whole_1 24 rfl rfl
theorem dX8_whole_0 : decode cX8_whole 0 = .ok (.aload_n 0, 1) := dk_42 (dk_at dksX8_whole_0 0 rfl rfl)
theorem dX8_whole_1 : decode cX8_whole 1 = .ok (.getfield 35, 3) := dk_180 0 35 (dk_at dksX8_whole_0 1 rfl rfl)
theorem dX8_whole_4 : decode cX8_whole 4 = .ok (.getstatic 29, 3) := dk_178 0 29 (dk_at dksX8_whole_0 4 rfl rfl)
theorem dX8_whole_7 : decode cX8_whole 7 = .ok (.if_acmp .eq 60, 3) := dk_165 0 60 (dk_at dksX8_whole_0 7 rfl rfl)
theorem dX8_whole_10 : decode cX8_whole 10 = .ok (.aload_n 0, 1) := dk_42 (dk_at dksX8_whole_0 10 rfl rfl)
theorem dX8_whole_11 : decode cX8_whole 11 = .ok (.getfield 25, 3) := dk_180 0 25 (dk_at dksX8_whole_0 11 rfl rfl)
theorem dX8_whole_14 : decode cX8_whole 14 = .ok (.getfield 192, 3) := dk_180 0 192 (dk_at dksX8_whole_0 14 rfl rfl)
theorem dX8_whole_17 : decode cX8_whole 17 = .ok (.ifCond .ne 10, 3) := dk_154 0 10 (dk_at dksX8_whole_0 17 rfl rfl)
theorem dX8_whole_20 : decode cX8_whole 20 = .ok (.aload_n 0, 1) := dk_42 (dk_at dksX8_whole_0 20 rfl rfl)
theorem dX8_whole_21 : decode cX8_whole 21 = .ok (.invokevirtual 195, 3) := dk_182 0 195 (dk_at dksX8_whole_0 21 rfl rfl)
theorem dX8_whole_24 : decode cX8_whole 24 = .ok (.goto 7, 3) := dk_167 0 7 (dk_at dksX8_whole_1 0 rfl rfl)
theorem dX8_whole_27 : decode cX8_whole 27 = .ok (.aload_n 0, 1) := dk_42 (dk_at dksX8_whole_1 3 rfl rfl)
theorem dX8_whole_28 : decode cX8_whole 28 = .ok (.invokevirtual 198, 3) := dk_182 0 198 (dk_at dksX8_whole_1 4 rfl rfl)
theorem dX8_whole_31 : decode cX8_whole 31 = .ok (.aload_n 0, 1) := dk_42 (dk_at dksX8_whole_1 7 rfl rfl)
theorem dX8_whole_32 : decode cX8_whole 32 = .ok (.getfield 35, 3) := dk_180 0 35 (dk_at dksX8_whole_1 8 rfl rfl)
theorem dX8_whole_35 : decode cX8_whole 35 = .ok (.getstatic 75, 3) := dk_178 0 75 (dk_at dksX8_whole_1 11 rfl rfl)
theorem dX8_whole_38 : decode cX8_whole 38 = .ok (.if_acmp .eq 9, 3) := dk_165 0 9 (dk_at dksX8_whole_1 14 rfl rfl)
theorem dX8_whole_41 : decode cX8_whole 41 = .ok (.aload_n 0, 1) := dk_42 (dk_at dksX8_whole_1 17 rfl rfl)
theorem dX8_whole_42 : decode cX8_whole 42 = .ok (.iconst 1, 1) := dk_4 (dk_at dksX8_whole_1 18 rfl rfl)
theorem dX8_whole_43 : decode cX8_whole 43 = .ok (.invokevirtual 103, 3) := dk_182 0 103 (dk_at dksX8_whole_1 19 rfl rfl)
theorem dX8_whole_46 : decode cX8_whole 46 = .ok (.athrow, 1) := dk_191 (dk_at dksX8_whole_1 22 rfl rfl)
theorem dX8_whole_47 : decode cX8_whole 47 = .ok (.aload_n 0, 1) := dk_42 (dk_at dksX8_whole_1 23 rfl rfl)
theorem dX8_whole_48 : decode cX8_whole 48 = .ok (.invokevirtual 38, 3) := dk_182 0 38 (dk_at dksX8_whole_2 0 rfl rfl)
theorem dX8_whole_51 : decode cX8_whole 51 = .ok (.aload_n 0, 1) := dk_42 (dk_at dksX8_whole_2 3 rfl rfl)
theorem dX8_whole_52 : decode cX8_whole 52 = .ok (.getfield 25, 3) := dk_180 0 25 (dk_at dksX8_whole_2 4 rfl rfl)
theorem dX8_whole_55 : decode cX8_whole 55 = .ok (.dup, 1) := dk_89 (dk_at dksX8_whole_2 7 rfl rfl)
theorem dX8_whole_56 : decode cX8_whole 56 = .ok (.getfield 192, 3) := dk_180 0 192 (dk_at dksX8_whole_2 8 rfl rfl)
theorem dX8_whole_59 : decode cX8_whole 59 = .ok (.iconst 1, 1) := dk_4 (dk_at dksX8_whole_2 11 rfl rfl)
theorem dX8_whole_60 : decode cX8_whole 60 = .ok (.iadd, 1) := dk_96 (dk_at dksX8_whole_2 12 rfl rfl)
theorem dX8_whole_61 : decode cX8_whole 61 = .ok (.putfield 192, 3) := dk_181 0 192 (dk_at dksX8_whole_2 13 rfl rfl)
theorem dX8_whole_64 : decode cX8_whole 64 = .ok (.goto (-64), 3) := dk_167 255 192 (dk_at dksX8_whole_2 16 rfl rfl)
theorem dX8_whole_67 : decode cX8_whole 67 = .ok (.aload_n 0, 1) := dk_42 (dk_at dksX8_whole_2 19 rfl rfl)
theorem dX8_whole_68 : decode cX8_whole 68 = .ok (.getfield 25, 3) := dk_180 0 25 (dk_at dksX8_whole_2 20 rfl rfl)
theorem dX8_whole_71 : decode cX8_whole 71 = .ok (.areturn, 1) := dk_176 (dk_at dksX8_whole_2 23 rfl rfl)
abbrev cX8_head : ByteArray := prog_8_method_10_code
def yX8_head : MethodName := ⟨RX8, "head", "()V"⟩
def dkwX8_head_2 : List UInt8 := [182, 0, 117, 181, 0, 129, 177]
abbrev dktX8_head_2 : List UInt8 := dkwX8_head_2 ++ []
def dkwX8_head_1 : List UInt8 := [180, 0, 25, 42, 18, 123, 3, 6, 182, 0, 117, 181, 0, 125, 42, 180, 0, 25, 42, 18, 127, 3, 16, 10]
abbrev dktX8_head_1 : List UInt8 := dkwX8_head_1 ++ dktX8_head_2
def dkwX8_head_0 : List UInt8 := [42, 18, 114, 182, 0, 107, 42, 180, 0, 25, 42, 18, 115, 4, 16, 20, 182, 0, 117, 181, 0, 121, 42]
abbrev dktX8_head_0 : List UInt8 := dkwX8_head_0 ++ dktX8_head_1
theorem dksX8_head_0 : cX8_head.data.toList.drop 0 = dktX8_head_0 := by decide +kernel
theorem dksX8_head_1 : cX8_head.data.toList.drop 23 = dktX8_head_1 := dk_seg dksX8_head_0 23 rfl rfl
theorem dksX8_head_2 : cX8_head.data.toList.drop 47 = dktX8_head_2 := dk_seg dksX8_head_1 24 rfl rfl
theorem dX8_head_0 : decode cX8_head 0 = .ok (.aload_n 0, 1) := dk_42 (dk_at dksX8_head_0 0 rfl rfl)
theorem dX8_head_1 : decode cX8_head 1 = .ok (.ldc 114, 2) := dk_18 114 (dk_at dksX8_head_0 1 rfl rfl)
theorem dX8_head_3 : decode cX8_head 3 = .ok (.invokevirtual 107, 3) := dk_182 0 107 (dk_at dksX8_head_0 3 rfl rfl)
theorem dX8_head_6 : decode cX8_head 6 = .ok (.aload_n 0, 1) := dk_42 (dk_at dksX8_head_0 6 rfl rfl)
theorem dX8_head_7 : decode cX8_head 7 = .ok (.getfield 25, 3) := dk_180 0 25 (dk_at dksX8_head_0 7 rfl rfl)
theorem dX8_head_10 : decode cX8_head 10 = .ok (.aload_n 0, 1) := dk_42 (dk_at dksX8_head_0 10 rfl rfl)
theorem dX8_head_11 : decode cX8_head 11 = .ok (.ldc 115, 2) := dk_18 115 (dk_at dksX8_head_0 11 rfl rfl)
theorem dX8_head_13 : decode cX8_head 13 = .ok (.iconst 1, 1) := dk_4 (dk_at dksX8_head_0 13 rfl rfl)
theorem dX8_head_14 : decode cX8_head 14 = .ok (.bipush 20, 2) := dk_16 20 (dk_at dksX8_head_0 14 rfl rfl)
theorem dX8_head_16 : decode cX8_head 16 = .ok (.invokevirtual 117, 3) := dk_182 0 117 (dk_at dksX8_head_0 16 rfl rfl)
theorem dX8_head_19 : decode cX8_head 19 = .ok (.putfield 121, 3) := dk_181 0 121 (dk_at dksX8_head_0 19 rfl rfl)
theorem dX8_head_22 : decode cX8_head 22 = .ok (.aload_n 0, 1) := dk_42 (dk_at dksX8_head_0 22 rfl rfl)
theorem dX8_head_23 : decode cX8_head 23 = .ok (.getfield 25, 3) := dk_180 0 25 (dk_at dksX8_head_1 0 rfl rfl)
theorem dX8_head_26 : decode cX8_head 26 = .ok (.aload_n 0, 1) := dk_42 (dk_at dksX8_head_1 3 rfl rfl)
theorem dX8_head_27 : decode cX8_head 27 = .ok (.ldc 123, 2) := dk_18 123 (dk_at dksX8_head_1 4 rfl rfl)
theorem dX8_head_29 : decode cX8_head 29 = .ok (.iconst 0, 1) := dk_3 (dk_at dksX8_head_1 6 rfl rfl)
theorem dX8_head_30 : decode cX8_head 30 = .ok (.iconst 3, 1) := dk_6 (dk_at dksX8_head_1 7 rfl rfl)
theorem dX8_head_31 : decode cX8_head 31 = .ok (.invokevirtual 117, 3) := dk_182 0 117 (dk_at dksX8_head_1 8 rfl rfl)
theorem dX8_head_34 : decode cX8_head 34 = .ok (.putfield 125, 3) := dk_181 0 125 (dk_at dksX8_head_1 11 rfl rfl)
theorem dX8_head_37 : decode cX8_head 37 = .ok (.aload_n 0, 1) := dk_42 (dk_at dksX8_head_1 14 rfl rfl)
theorem dX8_head_38 : decode cX8_head 38 = .ok (.getfield 25, 3) := dk_180 0 25 (dk_at dksX8_head_1 15 rfl rfl)
theorem dX8_head_41 : decode cX8_head 41 = .ok (.aload_n 0, 1) := dk_42 (dk_at dksX8_head_1 18 rfl rfl)
theorem dX8_head_42 : decode cX8_head 42 = .ok (.ldc 127, 2) := dk_18 127 (dk_at dksX8_head_1 19 rfl rfl)
theorem dX8_head_44 : decode cX8_head 44 = .ok (.iconst 0, 1) := dk_3 (dk_at dksX8_head_1 21 rfl rfl)
theorem dX8_head_45 : decode cX8_head 45 = .ok (.bipush 10, 2) := dk_16 10 (dk_at dksX8_head_1 22 rfl rfl)
theorem dX8_head_47 : decode cX8_head 47 = .ok (.invokevirtual 117, 3) := dk_182 0 117 (dk_at dksX8_head_2 0 rfl rfl)
theorem dX8_head_50 : decode cX8_head 50 = .ok (.putfield 129, 3) := dk_181 0 129 (dk_at dksX8_head_2 3 rfl rfl)
theorem dX8_head_53 : decode cX8_head 53 = .ok (.return_, 1) := dk_177 (dk_at dksX8_head_2 6 rfl rfl)
abbrev cX8_expects : ByteArray := prog_8_method_7_code
def yX8_expects : MethodName := ⟨RX8, "expects", "(Ljava/lang/String;)V"⟩
def dkwX8_expects_0 : List UInt8 := [42, 43, 182, 0, 100, 154, 0, 9, 42, 4, 182, 0, 103, 191, 177]
abbrev dktX8_expects_0 : List UInt8 := dkwX8_expects_0 ++ []
theorem dksX8_expects_0 : cX8_expects.data.toList.drop 0 = dktX8_expects_0 := by decide +kernel
theorem dX8_expects_0 : decode cX8_expects 0 = .ok (.aload_n 0, 1) := dk_42 (dk_at dksX8_expects_0 0 rfl rfl)
theorem dX8_expects_1 : decode cX8_expects 1 = .ok (.aload_n 1, 1) := dk_43 (dk_at dksX8_expects_0 1 rfl rfl)
theorem dX8_expects_2 : decode cX8_expects 2 = .ok (.invokevirtual 100, 3) := dk_182 0 100 (dk_at dksX8_expects_0 2 rfl rfl)
theorem dX8_expects_5 : decode cX8_expects 5 = .ok (.ifCond .ne 9, 3) := dk_154 0 9 (dk_at dksX8_expects_0 5 rfl rfl)
theorem dX8_expects_8 : decode cX8_expects 8 = .ok (.aload_n 0, 1) := dk_42 (dk_at dksX8_expects_0 8 rfl rfl)
theorem dX8_expects_9 : decode cX8_expects 9 = .ok (.iconst 1, 1) := dk_4 (dk_at dksX8_expects_0 9 rfl rfl)
theorem dX8_expects_10 : decode cX8_expects 10 = .ok (.invokevirtual 103, 3) := dk_182 0 103 (dk_at dksX8_expects_0 10 rfl rfl)
theorem dX8_expects_13 : decode cX8_expects 13 = .ok (.athrow, 1) := dk_191 (dk_at dksX8_expects_0 13 rfl rfl)
theorem dX8_expects_14 : decode cX8_expects 14 = .ok (.return_, 1) := dk_177 (dk_at dksX8_expects_0 14 rfl rfl)
abbrev cX8_takes : ByteArray := prog_8_method_6_code
def yX8_takes : MethodName := ⟨RX8, "takes", "(Ljava/lang/String;)Z"⟩
def dkwX8_takes_0 : List UInt8 := [42, 43, 182, 0, 96, 61, 28, 153, 0, 7, 42, 182, 0, 38, 28, 172]
abbrev dktX8_takes_0 : List UInt8 := dkwX8_takes_0 ++ []
theorem dksX8_takes_0 : cX8_takes.data.toList.drop 0 = dktX8_takes_0 := by decide +kernel
theorem dX8_takes_0 : decode cX8_takes 0 = .ok (.aload_n 0, 1) := dk_42 (dk_at dksX8_takes_0 0 rfl rfl)
theorem dX8_takes_1 : decode cX8_takes 1 = .ok (.aload_n 1, 1) := dk_43 (dk_at dksX8_takes_0 1 rfl rfl)
theorem dX8_takes_2 : decode cX8_takes 2 = .ok (.invokevirtual 96, 3) := dk_182 0 96 (dk_at dksX8_takes_0 2 rfl rfl)
theorem dX8_takes_5 : decode cX8_takes 5 = .ok (.istore_n 2, 1) := dk_61 (dk_at dksX8_takes_0 5 rfl rfl)
theorem dX8_takes_6 : decode cX8_takes 6 = .ok (.iload_n 2, 1) := dk_28 (dk_at dksX8_takes_0 6 rfl rfl)
theorem dX8_takes_7 : decode cX8_takes 7 = .ok (.ifCond .eq 7, 3) := dk_153 0 7 (dk_at dksX8_takes_0 7 rfl rfl)
theorem dX8_takes_10 : decode cX8_takes 10 = .ok (.aload_n 0, 1) := dk_42 (dk_at dksX8_takes_0 10 rfl rfl)
theorem dX8_takes_11 : decode cX8_takes 11 = .ok (.invokevirtual 38, 3) := dk_182 0 38 (dk_at dksX8_takes_0 11 rfl rfl)
theorem dX8_takes_14 : decode cX8_takes 14 = .ok (.iload_n 2, 1) := dk_28 (dk_at dksX8_takes_0 14 rfl rfl)
theorem dX8_takes_15 : decode cX8_takes 15 = .ok (.ireturn, 1) := dk_172 (dk_at dksX8_takes_0 15 rfl rfl)
abbrev cX8_is : ByteArray := prog_8_method_5_code
def yX8_is : MethodName := ⟨RX8, "is", "(Ljava/lang/String;)Z"⟩
def dkwX8_is_2 : List UInt8 := [180, 0, 52, 28, 96, 51, 43, 28, 182, 0, 92, 159, 0, 5, 3, 172, 132, 2, 1, 167, 255, 221, 4, 172]
abbrev dktX8_is_2 : List UInt8 := dkwX8_is_2 ++ []
def dkwX8_is_1 : List UInt8 := [159, 0, 5, 3, 172, 3, 61, 28, 43, 182, 0, 86, 162, 0, 33, 42, 180, 0, 3, 180, 0, 44, 42]
abbrev dktX8_is_1 : List UInt8 := dkwX8_is_1 ++ dktX8_is_2
def dkwX8_is_0 : List UInt8 := [42, 180, 0, 35, 178, 0, 59, 166, 0, 19, 42, 180, 0, 41, 42, 180, 0, 52, 100, 43, 182, 0, 86]
abbrev dktX8_is_0 : List UInt8 := dkwX8_is_0 ++ dktX8_is_1
theorem dksX8_is_0 : cX8_is.data.toList.drop 0 = dktX8_is_0 := by decide +kernel
theorem dksX8_is_1 : cX8_is.data.toList.drop 23 = dktX8_is_1 := dk_seg dksX8_is_0 23 rfl rfl
theorem dksX8_is_2 : cX8_is.data.toList.drop 46 = dktX8_is_2 := dk_seg dksX8_is_1 23 rfl rfl
theorem dX8_is_0 : decode cX8_is 0 = .ok (.aload_n 0, 1) := dk_42 (dk_at dksX8_is_0 0 rfl rfl)
theorem dX8_is_1 : decode cX8_is 1 = .ok (.getfield 35, 3) := dk_180 0 35 (dk_at dksX8_is_0 1 rfl rfl)
theorem dX8_is_4 : decode cX8_is 4 = .ok (.getstatic 59, 3) := dk_178 0 59 (dk_at dksX8_is_0 4 rfl rfl)
theorem dX8_is_7 : decode cX8_is 7 = .ok (.if_acmp .ne 19, 3) := dk_166 0 19 (dk_at dksX8_is_0 7 rfl rfl)
theorem dX8_is_10 : decode cX8_is 10 = .ok (.aload_n 0, 1) := dk_42 (dk_at dksX8_is_0 10 rfl rfl)
theorem dX8_is_11 : decode cX8_is 11 = .ok (.getfield 41, 3) := dk_180 0 41 (dk_at dksX8_is_0 11 rfl rfl)
theorem dX8_is_14 : decode cX8_is 14 = .ok (.aload_n 0, 1) := dk_42 (dk_at dksX8_is_0 14 rfl rfl)
theorem dX8_is_15 : decode cX8_is 15 = .ok (.getfield 52, 3) := dk_180 0 52 (dk_at dksX8_is_0 15 rfl rfl)
theorem dX8_is_18 : decode cX8_is 18 = .ok (.isub, 1) := dk_100 (dk_at dksX8_is_0 18 rfl rfl)
theorem dX8_is_19 : decode cX8_is 19 = .ok (.aload_n 1, 1) := dk_43 (dk_at dksX8_is_0 19 rfl rfl)
theorem dX8_is_20 : decode cX8_is 20 = .ok (.invokevirtual 86, 3) := dk_182 0 86 (dk_at dksX8_is_0 20 rfl rfl)
theorem dX8_is_23 : decode cX8_is 23 = .ok (.if_icmp .eq 5, 3) := dk_159 0 5 (dk_at dksX8_is_1 0 rfl rfl)
theorem dX8_is_26 : decode cX8_is 26 = .ok (.iconst 0, 1) := dk_3 (dk_at dksX8_is_1 3 rfl rfl)
theorem dX8_is_27 : decode cX8_is 27 = .ok (.ireturn, 1) := dk_172 (dk_at dksX8_is_1 4 rfl rfl)
theorem dX8_is_28 : decode cX8_is 28 = .ok (.iconst 0, 1) := dk_3 (dk_at dksX8_is_1 5 rfl rfl)
theorem dX8_is_29 : decode cX8_is 29 = .ok (.istore_n 2, 1) := dk_61 (dk_at dksX8_is_1 6 rfl rfl)
theorem dX8_is_30 : decode cX8_is 30 = .ok (.iload_n 2, 1) := dk_28 (dk_at dksX8_is_1 7 rfl rfl)
theorem dX8_is_31 : decode cX8_is 31 = .ok (.aload_n 1, 1) := dk_43 (dk_at dksX8_is_1 8 rfl rfl)
theorem dX8_is_32 : decode cX8_is 32 = .ok (.invokevirtual 86, 3) := dk_182 0 86 (dk_at dksX8_is_1 9 rfl rfl)
theorem dX8_is_35 : decode cX8_is 35 = .ok (.if_icmp .ge 33, 3) := dk_162 0 33 (dk_at dksX8_is_1 12 rfl rfl)
theorem dX8_is_38 : decode cX8_is 38 = .ok (.aload_n 0, 1) := dk_42 (dk_at dksX8_is_1 15 rfl rfl)
theorem dX8_is_39 : decode cX8_is 39 = .ok (.getfield 3, 3) := dk_180 0 3 (dk_at dksX8_is_1 16 rfl rfl)
theorem dX8_is_42 : decode cX8_is 42 = .ok (.getfield 44, 3) := dk_180 0 44 (dk_at dksX8_is_1 19 rfl rfl)
theorem dX8_is_45 : decode cX8_is 45 = .ok (.aload_n 0, 1) := dk_42 (dk_at dksX8_is_1 22 rfl rfl)
theorem dX8_is_46 : decode cX8_is 46 = .ok (.getfield 52, 3) := dk_180 0 52 (dk_at dksX8_is_2 0 rfl rfl)
theorem dX8_is_49 : decode cX8_is 49 = .ok (.iload_n 2, 1) := dk_28 (dk_at dksX8_is_2 3 rfl rfl)
theorem dX8_is_50 : decode cX8_is 50 = .ok (.iadd, 1) := dk_96 (dk_at dksX8_is_2 4 rfl rfl)
theorem dX8_is_51 : decode cX8_is 51 = .ok (.baload, 1) := dk_51 (dk_at dksX8_is_2 5 rfl rfl)
theorem dX8_is_52 : decode cX8_is 52 = .ok (.aload_n 1, 1) := dk_43 (dk_at dksX8_is_2 6 rfl rfl)
theorem dX8_is_53 : decode cX8_is 53 = .ok (.iload_n 2, 1) := dk_28 (dk_at dksX8_is_2 7 rfl rfl)
theorem dX8_is_54 : decode cX8_is 54 = .ok (.invokevirtual 92, 3) := dk_182 0 92 (dk_at dksX8_is_2 8 rfl rfl)
theorem dX8_is_57 : decode cX8_is 57 = .ok (.if_icmp .eq 5, 3) := dk_159 0 5 (dk_at dksX8_is_2 11 rfl rfl)
theorem dX8_is_60 : decode cX8_is 60 = .ok (.iconst 0, 1) := dk_3 (dk_at dksX8_is_2 14 rfl rfl)
theorem dX8_is_61 : decode cX8_is 61 = .ok (.ireturn, 1) := dk_172 (dk_at dksX8_is_2 15 rfl rfl)
theorem dX8_is_62 : decode cX8_is 62 = .ok (.iinc 2 1, 3) := dk_132 2 1 (dk_at dksX8_is_2 16 rfl rfl)
theorem dX8_is_65 : decode cX8_is 65 = .ok (.goto (-35), 3) := dk_167 255 221 (dk_at dksX8_is_2 19 rfl rfl)
theorem dX8_is_68 : decode cX8_is 68 = .ok (.iconst 1, 1) := dk_4 (dk_at dksX8_is_2 22 rfl rfl)
theorem dX8_is_69 : decode cX8_is 69 = .ok (.ireturn, 1) := dk_172 (dk_at dksX8_is_2 23 rfl rfl)
abbrev cX8_wrong : ByteArray := prog_8_method_4_code
def yX8_wrong : MethodName := ⟨RX8, "wrong", "(I)LGallRegister$Fault;"⟩
def dkwX8_wrong_0 : List UInt8 := [187, 0, 81, 89, 27, 42, 180, 0, 52, 183, 0, 83, 176]
abbrev dktX8_wrong_0 : List UInt8 := dkwX8_wrong_0 ++ []
theorem dksX8_wrong_0 : cX8_wrong.data.toList.drop 0 = dktX8_wrong_0 := by decide +kernel
theorem dX8_wrong_0 : decode cX8_wrong 0 = .ok (.new 81, 3) := dk_187 0 81 (dk_at dksX8_wrong_0 0 rfl rfl)
theorem dX8_wrong_3 : decode cX8_wrong 3 = .ok (.dup, 1) := dk_89 (dk_at dksX8_wrong_0 3 rfl rfl)
theorem dX8_wrong_4 : decode cX8_wrong 4 = .ok (.iload_n 1, 1) := dk_27 (dk_at dksX8_wrong_0 4 rfl rfl)
theorem dX8_wrong_5 : decode cX8_wrong 5 = .ok (.aload_n 0, 1) := dk_42 (dk_at dksX8_wrong_0 5 rfl rfl)
theorem dX8_wrong_6 : decode cX8_wrong 6 = .ok (.getfield 52, 3) := dk_180 0 52 (dk_at dksX8_wrong_0 6 rfl rfl)
theorem dX8_wrong_9 : decode cX8_wrong 9 = .ok (.invokespecial 83, 3) := dk_183 0 83 (dk_at dksX8_wrong_0 9 rfl rfl)
theorem dX8_wrong_12 : decode cX8_wrong 12 = .ok (.areturn, 1) := dk_176 (dk_at dksX8_wrong_0 12 rfl rfl)
abbrev cX8_told : ByteArray := prog_8_method_9_code
def yX8_told : MethodName := ⟨RX8, "told", "(Ljava/lang/String;II)I"⟩
def dkwX8_told_0 : List UInt8 := [42, 43, 182, 0, 107, 42, 28, 29, 182, 0, 111, 172]
abbrev dktX8_told_0 : List UInt8 := dkwX8_told_0 ++ []
theorem dksX8_told_0 : cX8_told.data.toList.drop 0 = dktX8_told_0 := by decide +kernel
theorem dX8_told_0 : decode cX8_told 0 = .ok (.aload_n 0, 1) := dk_42 (dk_at dksX8_told_0 0 rfl rfl)
theorem dX8_told_1 : decode cX8_told 1 = .ok (.aload_n 1, 1) := dk_43 (dk_at dksX8_told_0 1 rfl rfl)
theorem dX8_told_2 : decode cX8_told 2 = .ok (.invokevirtual 107, 3) := dk_182 0 107 (dk_at dksX8_told_0 2 rfl rfl)
theorem dX8_told_5 : decode cX8_told 5 = .ok (.aload_n 0, 1) := dk_42 (dk_at dksX8_told_0 5 rfl rfl)
theorem dX8_told_6 : decode cX8_told 6 = .ok (.iload_n 2, 1) := dk_28 (dk_at dksX8_told_0 6 rfl rfl)
theorem dX8_told_7 : decode cX8_told 7 = .ok (.iload_n 3, 1) := dk_29 (dk_at dksX8_told_0 7 rfl rfl)
theorem dX8_told_8 : decode cX8_told 8 = .ok (.invokevirtual 111, 3) := dk_182 0 111 (dk_at dksX8_told_0 8 rfl rfl)
theorem dX8_told_11 : decode cX8_told 11 = .ok (.ireturn, 1) := dk_172 (dk_at dksX8_told_0 11 rfl rfl)
abbrev cX8_number : ByteArray := prog_8_method_8_code
def yX8_number : MethodName := ⟨RX8, "number", "(II)I"⟩
def dkwX8_number_1 : List UInt8 := [133, 184, 0, 48, 154, 0, 9, 42, 5, 182, 0, 103, 191, 42, 180, 0, 62, 62, 42, 182, 0, 38, 29, 172]
abbrev dktX8_number_1 : List UInt8 := dkwX8_number_1 ++ []
def dkwX8_number_0 : List UInt8 := [42, 180, 0, 35, 178, 0, 72, 165, 0, 9, 42, 4, 182, 0, 103, 191, 42, 180, 0, 62, 133, 27, 133, 28]
abbrev dktX8_number_0 : List UInt8 := dkwX8_number_0 ++ dktX8_number_1
theorem dksX8_number_0 : cX8_number.data.toList.drop 0 = dktX8_number_0 := by decide +kernel
theorem dksX8_number_1 : cX8_number.data.toList.drop 24 = dktX8_number_1 := dk_seg dksX8_number_0 24 rfl rfl
theorem dX8_number_0 : decode cX8_number 0 = .ok (.aload_n 0, 1) := dk_42 (dk_at dksX8_number_0 0 rfl rfl)
theorem dX8_number_1 : decode cX8_number 1 = .ok (.getfield 35, 3) := dk_180 0 35 (dk_at dksX8_number_0 1 rfl rfl)
theorem dX8_number_4 : decode cX8_number 4 = .ok (.getstatic 72, 3) := dk_178 0 72 (dk_at dksX8_number_0 4 rfl rfl)
theorem dX8_number_7 : decode cX8_number 7 = .ok (.if_acmp .eq 9, 3) := dk_165 0 9 (dk_at dksX8_number_0 7 rfl rfl)
theorem dX8_number_10 : decode cX8_number 10 = .ok (.aload_n 0, 1) := dk_42 (dk_at dksX8_number_0 10 rfl rfl)
theorem dX8_number_11 : decode cX8_number 11 = .ok (.iconst 1, 1) := dk_4 (dk_at dksX8_number_0 11 rfl rfl)
theorem dX8_number_12 : decode cX8_number 12 = .ok (.invokevirtual 103, 3) := dk_182 0 103 (dk_at dksX8_number_0 12 rfl rfl)
theorem dX8_number_15 : decode cX8_number 15 = .ok (.athrow, 1) := dk_191 (dk_at dksX8_number_0 15 rfl rfl)
theorem dX8_number_16 : decode cX8_number 16 = .ok (.aload_n 0, 1) := dk_42 (dk_at dksX8_number_0 16 rfl rfl)
theorem dX8_number_17 : decode cX8_number 17 = .ok (.getfield 62, 3) := dk_180 0 62 (dk_at dksX8_number_0 17 rfl rfl)
theorem dX8_number_20 : decode cX8_number 20 = .ok (.i2l, 1) := dk_133 (dk_at dksX8_number_0 20 rfl rfl)
theorem dX8_number_21 : decode cX8_number 21 = .ok (.iload_n 1, 1) := dk_27 (dk_at dksX8_number_0 21 rfl rfl)
theorem dX8_number_22 : decode cX8_number 22 = .ok (.i2l, 1) := dk_133 (dk_at dksX8_number_0 22 rfl rfl)
theorem dX8_number_23 : decode cX8_number 23 = .ok (.iload_n 2, 1) := dk_28 (dk_at dksX8_number_0 23 rfl rfl)
theorem dX8_number_24 : decode cX8_number 24 = .ok (.i2l, 1) := dk_133 (dk_at dksX8_number_1 0 rfl rfl)
theorem dX8_number_25 : decode cX8_number 25 = .ok (.invokestatic 48, 3) := dk_184 0 48 (dk_at dksX8_number_1 1 rfl rfl)
theorem dX8_number_28 : decode cX8_number 28 = .ok (.ifCond .ne 9, 3) := dk_154 0 9 (dk_at dksX8_number_1 4 rfl rfl)
theorem dX8_number_31 : decode cX8_number 31 = .ok (.aload_n 0, 1) := dk_42 (dk_at dksX8_number_1 7 rfl rfl)
theorem dX8_number_32 : decode cX8_number 32 = .ok (.iconst 2, 1) := dk_5 (dk_at dksX8_number_1 8 rfl rfl)
theorem dX8_number_33 : decode cX8_number 33 = .ok (.invokevirtual 103, 3) := dk_182 0 103 (dk_at dksX8_number_1 9 rfl rfl)
theorem dX8_number_36 : decode cX8_number 36 = .ok (.athrow, 1) := dk_191 (dk_at dksX8_number_1 12 rfl rfl)
theorem dX8_number_37 : decode cX8_number 37 = .ok (.aload_n 0, 1) := dk_42 (dk_at dksX8_number_1 13 rfl rfl)
theorem dX8_number_38 : decode cX8_number 38 = .ok (.getfield 62, 3) := dk_180 0 62 (dk_at dksX8_number_1 14 rfl rfl)
theorem dX8_number_41 : decode cX8_number 41 = .ok (.istore_n 3, 1) := dk_62 (dk_at dksX8_number_1 17 rfl rfl)
theorem dX8_number_42 : decode cX8_number 42 = .ok (.aload_n 0, 1) := dk_42 (dk_at dksX8_number_1 18 rfl rfl)
theorem dX8_number_43 : decode cX8_number 43 = .ok (.invokevirtual 38, 3) := dk_182 0 38 (dk_at dksX8_number_1 19 rfl rfl)
theorem dX8_number_46 : decode cX8_number 46 = .ok (.iload_n 3, 1) := dk_29 (dk_at dksX8_number_1 22 rfl rfl)
theorem dX8_number_47 : decode cX8_number 47 = .ok (.ireturn, 1) := dk_172 (dk_at dksX8_number_1 23 rfl rfl)
abbrev cX8_line : ByteArray := prog_8_method_15_code
def yX8_line : MethodName := ⟨RX8, "line", "()V"⟩
def dkwX8_line_4 : List UInt8 := [182, 0, 189, 167, 0, 9, 42, 4, 182, 0, 103, 191, 177]
abbrev dktX8_line_4 : List UInt8 := dkwX8_line_4 ++ []
def dkwX8_line_3 : List UInt8 := [180, 0, 25, 180, 0, 154, 16, 7, 160, 0, 7, 4, 167, 0, 4, 3, 182, 0, 176, 153, 0, 10, 42]
abbrev dktX8_line_3 : List UInt8 := dkwX8_line_3 ++ dktX8_line_4
def dkwX8_line_2 : List UInt8 := [4, 167, 0, 4, 3, 182, 0, 176, 153, 0, 10, 42, 182, 0, 184, 167, 0, 42, 42, 18, 187, 42]
abbrev dktX8_line_2 : List UInt8 := dkwX8_line_2 ++ dktX8_line_3
def dkwX8_line_1 : List UInt8 := [153, 0, 10, 42, 182, 0, 180, 167, 0, 74, 42, 18, 183, 42, 180, 0, 25, 180, 0, 151, 7, 160, 0, 7]
abbrev dktX8_line_1 : List UInt8 := dkwX8_line_1 ++ dktX8_line_2
def dkwX8_line_0 : List UInt8 := [42, 18, 175, 42, 180, 0, 25, 180, 0, 131, 7, 160, 0, 7, 4, 167, 0, 4, 3, 182, 0, 176]
abbrev dktX8_line_0 : List UInt8 := dkwX8_line_0 ++ dktX8_line_1
theorem dksX8_line_0 : cX8_line.data.toList.drop 0 = dktX8_line_0 := by decide +kernel
theorem dksX8_line_1 : cX8_line.data.toList.drop 22 = dktX8_line_1 := dk_seg dksX8_line_0 22 rfl rfl
theorem dksX8_line_2 : cX8_line.data.toList.drop 46 = dktX8_line_2 := dk_seg dksX8_line_1 24 rfl rfl
theorem dksX8_line_3 : cX8_line.data.toList.drop 68 = dktX8_line_3 := dk_seg dksX8_line_2 22 rfl rfl
theorem dksX8_line_4 : cX8_line.data.toList.drop 91 = dktX8_line_4 := dk_seg dksX8_line_3 23 rfl rfl
theorem dX8_line_0 : decode cX8_line 0 = .ok (.aload_n 0, 1) := dk_42 (dk_at dksX8_line_0 0 rfl rfl)
theorem dX8_line_1 : decode cX8_line 1 = .ok (.ldc 175, 2) := dk_18 175 (dk_at dksX8_line_0 1 rfl rfl)
theorem dX8_line_3 : decode cX8_line 3 = .ok (.aload_n 0, 1) := dk_42 (dk_at dksX8_line_0 3 rfl rfl)
theorem dX8_line_4 : decode cX8_line 4 = .ok (.getfield 25, 3) := dk_180 0 25 (dk_at dksX8_line_0 4 rfl rfl)
theorem dX8_line_7 : decode cX8_line 7 = .ok (.getfield 131, 3) := dk_180 0 131 (dk_at dksX8_line_0 7 rfl rfl)
theorem dX8_line_10 : decode cX8_line 10 = .ok (.iconst 4, 1) := dk_7 (dk_at dksX8_line_0 10 rfl rfl)
theorem dX8_line_11 : decode cX8_line 11 = .ok (.if_icmp .ne 7, 3) := dk_160 0 7 (dk_at dksX8_line_0 11 rfl rfl)
theorem dX8_line_14 : decode cX8_line 14 = .ok (.iconst 1, 1) := dk_4 (dk_at dksX8_line_0 14 rfl rfl)
theorem dX8_line_15 : decode cX8_line 15 = .ok (.goto 4, 3) := dk_167 0 4 (dk_at dksX8_line_0 15 rfl rfl)
theorem dX8_line_18 : decode cX8_line 18 = .ok (.iconst 0, 1) := dk_3 (dk_at dksX8_line_0 18 rfl rfl)
theorem dX8_line_19 : decode cX8_line 19 = .ok (.invokevirtual 176, 3) := dk_182 0 176 (dk_at dksX8_line_0 19 rfl rfl)
theorem dX8_line_22 : decode cX8_line 22 = .ok (.ifCond .eq 10, 3) := dk_153 0 10 (dk_at dksX8_line_1 0 rfl rfl)
theorem dX8_line_25 : decode cX8_line 25 = .ok (.aload_n 0, 1) := dk_42 (dk_at dksX8_line_1 3 rfl rfl)
theorem dX8_line_26 : decode cX8_line 26 = .ok (.invokevirtual 180, 3) := dk_182 0 180 (dk_at dksX8_line_1 4 rfl rfl)
theorem dX8_line_29 : decode cX8_line 29 = .ok (.goto 74, 3) := dk_167 0 74 (dk_at dksX8_line_1 7 rfl rfl)
theorem dX8_line_32 : decode cX8_line 32 = .ok (.aload_n 0, 1) := dk_42 (dk_at dksX8_line_1 10 rfl rfl)
theorem dX8_line_33 : decode cX8_line 33 = .ok (.ldc 183, 2) := dk_18 183 (dk_at dksX8_line_1 11 rfl rfl)
theorem dX8_line_35 : decode cX8_line 35 = .ok (.aload_n 0, 1) := dk_42 (dk_at dksX8_line_1 13 rfl rfl)
theorem dX8_line_36 : decode cX8_line 36 = .ok (.getfield 25, 3) := dk_180 0 25 (dk_at dksX8_line_1 14 rfl rfl)
theorem dX8_line_39 : decode cX8_line 39 = .ok (.getfield 151, 3) := dk_180 0 151 (dk_at dksX8_line_1 17 rfl rfl)
theorem dX8_line_42 : decode cX8_line 42 = .ok (.iconst 4, 1) := dk_7 (dk_at dksX8_line_1 20 rfl rfl)
theorem dX8_line_43 : decode cX8_line 43 = .ok (.if_icmp .ne 7, 3) := dk_160 0 7 (dk_at dksX8_line_1 21 rfl rfl)
theorem dX8_line_46 : decode cX8_line 46 = .ok (.iconst 1, 1) := dk_4 (dk_at dksX8_line_2 0 rfl rfl)
theorem dX8_line_47 : decode cX8_line 47 = .ok (.goto 4, 3) := dk_167 0 4 (dk_at dksX8_line_2 1 rfl rfl)
theorem dX8_line_50 : decode cX8_line 50 = .ok (.iconst 0, 1) := dk_3 (dk_at dksX8_line_2 4 rfl rfl)
theorem dX8_line_51 : decode cX8_line 51 = .ok (.invokevirtual 176, 3) := dk_182 0 176 (dk_at dksX8_line_2 5 rfl rfl)
theorem dX8_line_54 : decode cX8_line 54 = .ok (.ifCond .eq 10, 3) := dk_153 0 10 (dk_at dksX8_line_2 8 rfl rfl)
theorem dX8_line_57 : decode cX8_line 57 = .ok (.aload_n 0, 1) := dk_42 (dk_at dksX8_line_2 11 rfl rfl)
theorem dX8_line_58 : decode cX8_line 58 = .ok (.invokevirtual 184, 3) := dk_182 0 184 (dk_at dksX8_line_2 12 rfl rfl)
theorem dX8_line_61 : decode cX8_line 61 = .ok (.goto 42, 3) := dk_167 0 42 (dk_at dksX8_line_2 15 rfl rfl)
theorem dX8_line_64 : decode cX8_line 64 = .ok (.aload_n 0, 1) := dk_42 (dk_at dksX8_line_2 18 rfl rfl)
theorem dX8_line_65 : decode cX8_line 65 = .ok (.ldc 187, 2) := dk_18 187 (dk_at dksX8_line_2 19 rfl rfl)
theorem dX8_line_67 : decode cX8_line 67 = .ok (.aload_n 0, 1) := dk_42 (dk_at dksX8_line_2 21 rfl rfl)
theorem dX8_line_68 : decode cX8_line 68 = .ok (.getfield 25, 3) := dk_180 0 25 (dk_at dksX8_line_3 0 rfl rfl)
theorem dX8_line_71 : decode cX8_line 71 = .ok (.getfield 154, 3) := dk_180 0 154 (dk_at dksX8_line_3 3 rfl rfl)
theorem dX8_line_74 : decode cX8_line 74 = .ok (.bipush 7, 2) := dk_16 7 (dk_at dksX8_line_3 6 rfl rfl)
theorem dX8_line_76 : decode cX8_line 76 = .ok (.if_icmp .ne 7, 3) := dk_160 0 7 (dk_at dksX8_line_3 8 rfl rfl)
theorem dX8_line_79 : decode cX8_line 79 = .ok (.iconst 1, 1) := dk_4 (dk_at dksX8_line_3 11 rfl rfl)
theorem dX8_line_80 : decode cX8_line 80 = .ok (.goto 4, 3) := dk_167 0 4 (dk_at dksX8_line_3 12 rfl rfl)
theorem dX8_line_83 : decode cX8_line 83 = .ok (.iconst 0, 1) := dk_3 (dk_at dksX8_line_3 15 rfl rfl)
theorem dX8_line_84 : decode cX8_line 84 = .ok (.invokevirtual 176, 3) := dk_182 0 176 (dk_at dksX8_line_3 16 rfl rfl)
theorem dX8_line_87 : decode cX8_line 87 = .ok (.ifCond .eq 10, 3) := dk_153 0 10 (dk_at dksX8_line_3 19 rfl rfl)
theorem dX8_line_90 : decode cX8_line 90 = .ok (.aload_n 0, 1) := dk_42 (dk_at dksX8_line_3 22 rfl rfl)
theorem dX8_line_91 : decode cX8_line 91 = .ok (.invokevirtual 189, 3) := dk_182 0 189 (dk_at dksX8_line_4 0 rfl rfl)
theorem dX8_line_94 : decode cX8_line 94 = .ok (.goto 9, 3) := dk_167 0 9 (dk_at dksX8_line_4 3 rfl rfl)
theorem dX8_line_97 : decode cX8_line 97 = .ok (.aload_n 0, 1) := dk_42 (dk_at dksX8_line_4 6 rfl rfl)
theorem dX8_line_98 : decode cX8_line 98 = .ok (.iconst 1, 1) := dk_4 (dk_at dksX8_line_4 7 rfl rfl)
theorem dX8_line_99 : decode cX8_line 99 = .ok (.invokevirtual 103, 3) := dk_182 0 103 (dk_at dksX8_line_4 8 rfl rfl)
theorem dX8_line_102 : decode cX8_line 102 = .ok (.athrow, 1) := dk_191 (dk_at dksX8_line_4 11 rfl rfl)
theorem dX8_line_103 : decode cX8_line 103 = .ok (.return_, 1) := dk_177 (dk_at dksX8_line_4 12 rfl rfl)
abbrev cX8_begins : ByteArray := prog_8_method_14_code
def yX8_begins : MethodName := ⟨RX8, "begins", "(Ljava/lang/String;Z)Z"⟩
def dkwX8_begins_0 : List UInt8 := [42, 43, 182, 0, 96, 153, 0, 13, 28, 153, 0, 9, 42, 6, 182, 0, 103, 191, 42, 43, 182, 0, 100, 172]
abbrev dktX8_begins_0 : List UInt8 := dkwX8_begins_0 ++ []
theorem dksX8_begins_0 : cX8_begins.data.toList.drop 0 = dktX8_begins_0 := by decide +kernel
theorem dX8_begins_0 : decode cX8_begins 0 = .ok (.aload_n 0, 1) := dk_42 (dk_at dksX8_begins_0 0 rfl rfl)
theorem dX8_begins_1 : decode cX8_begins 1 = .ok (.aload_n 1, 1) := dk_43 (dk_at dksX8_begins_0 1 rfl rfl)
theorem dX8_begins_2 : decode cX8_begins 2 = .ok (.invokevirtual 96, 3) := dk_182 0 96 (dk_at dksX8_begins_0 2 rfl rfl)
theorem dX8_begins_5 : decode cX8_begins 5 = .ok (.ifCond .eq 13, 3) := dk_153 0 13 (dk_at dksX8_begins_0 5 rfl rfl)
theorem dX8_begins_8 : decode cX8_begins 8 = .ok (.iload_n 2, 1) := dk_28 (dk_at dksX8_begins_0 8 rfl rfl)
theorem dX8_begins_9 : decode cX8_begins 9 = .ok (.ifCond .eq 9, 3) := dk_153 0 9 (dk_at dksX8_begins_0 9 rfl rfl)
theorem dX8_begins_12 : decode cX8_begins 12 = .ok (.aload_n 0, 1) := dk_42 (dk_at dksX8_begins_0 12 rfl rfl)
theorem dX8_begins_13 : decode cX8_begins 13 = .ok (.iconst 3, 1) := dk_6 (dk_at dksX8_begins_0 13 rfl rfl)
theorem dX8_begins_14 : decode cX8_begins 14 = .ok (.invokevirtual 103, 3) := dk_182 0 103 (dk_at dksX8_begins_0 14 rfl rfl)
theorem dX8_begins_17 : decode cX8_begins 17 = .ok (.athrow, 1) := dk_191 (dk_at dksX8_begins_0 17 rfl rfl)
theorem dX8_begins_18 : decode cX8_begins 18 = .ok (.aload_n 0, 1) := dk_42 (dk_at dksX8_begins_0 18 rfl rfl)
theorem dX8_begins_19 : decode cX8_begins 19 = .ok (.aload_n 1, 1) := dk_43 (dk_at dksX8_begins_0 19 rfl rfl)
theorem dX8_begins_20 : decode cX8_begins 20 = .ok (.invokevirtual 100, 3) := dk_182 0 100 (dk_at dksX8_begins_0 20 rfl rfl)
theorem dX8_begins_23 : decode cX8_begins 23 = .ok (.ireturn, 1) := dk_172 (dk_at dksX8_begins_0 23 rfl rfl)
abbrev cX8_newInk : ByteArray := prog_8_method_11_code
def yX8_newInk : MethodName := ⟨RX8, "newInk", "()V"⟩
def dkwX8_newInk_3 : List UInt8 := [180, 0, 131, 4, 96, 181, 0, 131, 177]
abbrev dktX8_newInk_3 : List UInt8 := dkwX8_newInk_3 ++ []
def dkwX8_newInk_2 : List UInt8 := [180, 0, 25, 180, 0, 143, 27, 42, 18, 146, 3, 16, 9, 182, 0, 117, 79, 42, 180, 0, 25, 89]
abbrev dktX8_newInk_2 : List UInt8 := dkwX8_newInk_2 ++ dktX8_newInk_3
def dkwX8_newInk_1 : List UInt8 := [182, 0, 117, 79, 42, 180, 0, 25, 180, 0, 139, 27, 42, 18, 142, 4, 16, 60, 182, 0, 117, 79, 42]
abbrev dktX8_newInk_1 : List UInt8 := dkwX8_newInk_1 ++ dktX8_newInk_2
def dkwX8_newInk_0 : List UInt8 := [42, 180, 0, 25, 180, 0, 131, 60, 42, 180, 0, 25, 180, 0, 134, 27, 42, 18, 138, 4, 16, 20]
abbrev dktX8_newInk_0 : List UInt8 := dkwX8_newInk_0 ++ dktX8_newInk_1
theorem dksX8_newInk_0 : cX8_newInk.data.toList.drop 0 = dktX8_newInk_0 := by decide +kernel
theorem dksX8_newInk_1 : cX8_newInk.data.toList.drop 22 = dktX8_newInk_1 := dk_seg dksX8_newInk_0 22 rfl rfl
theorem dksX8_newInk_2 : cX8_newInk.data.toList.drop 45 = dktX8_newInk_2 := dk_seg dksX8_newInk_1 23 rfl rfl
theorem dksX8_newInk_3 : cX8_newInk.data.toList.drop 67 = dktX8_newInk_3 := dk_seg dksX8_newInk_2 22 rfl rfl
theorem dX8_newInk_0 : decode cX8_newInk 0 = .ok (.aload_n 0, 1) := dk_42 (dk_at dksX8_newInk_0 0 rfl rfl)
theorem dX8_newInk_1 : decode cX8_newInk 1 = .ok (.getfield 25, 3) := dk_180 0 25 (dk_at dksX8_newInk_0 1 rfl rfl)
theorem dX8_newInk_4 : decode cX8_newInk 4 = .ok (.getfield 131, 3) := dk_180 0 131 (dk_at dksX8_newInk_0 4 rfl rfl)
theorem dX8_newInk_7 : decode cX8_newInk 7 = .ok (.istore_n 1, 1) := dk_60 (dk_at dksX8_newInk_0 7 rfl rfl)
theorem dX8_newInk_8 : decode cX8_newInk 8 = .ok (.aload_n 0, 1) := dk_42 (dk_at dksX8_newInk_0 8 rfl rfl)
theorem dX8_newInk_9 : decode cX8_newInk 9 = .ok (.getfield 25, 3) := dk_180 0 25 (dk_at dksX8_newInk_0 9 rfl rfl)
theorem dX8_newInk_12 : decode cX8_newInk 12 = .ok (.getfield 134, 3) := dk_180 0 134 (dk_at dksX8_newInk_0 12 rfl rfl)
theorem dX8_newInk_15 : decode cX8_newInk 15 = .ok (.iload_n 1, 1) := dk_27 (dk_at dksX8_newInk_0 15 rfl rfl)
theorem dX8_newInk_16 : decode cX8_newInk 16 = .ok (.aload_n 0, 1) := dk_42 (dk_at dksX8_newInk_0 16 rfl rfl)
theorem dX8_newInk_17 : decode cX8_newInk 17 = .ok (.ldc 138, 2) := dk_18 138 (dk_at dksX8_newInk_0 17 rfl rfl)
theorem dX8_newInk_19 : decode cX8_newInk 19 = .ok (.iconst 1, 1) := dk_4 (dk_at dksX8_newInk_0 19 rfl rfl)
theorem dX8_newInk_20 : decode cX8_newInk 20 = .ok (.bipush 20, 2) := dk_16 20 (dk_at dksX8_newInk_0 20 rfl rfl)
theorem dX8_newInk_22 : decode cX8_newInk 22 = .ok (.invokevirtual 117, 3) := dk_182 0 117 (dk_at dksX8_newInk_1 0 rfl rfl)
theorem dX8_newInk_25 : decode cX8_newInk 25 = .ok (.iastore, 1) := dk_79 (dk_at dksX8_newInk_1 3 rfl rfl)
theorem dX8_newInk_26 : decode cX8_newInk 26 = .ok (.aload_n 0, 1) := dk_42 (dk_at dksX8_newInk_1 4 rfl rfl)
theorem dX8_newInk_27 : decode cX8_newInk 27 = .ok (.getfield 25, 3) := dk_180 0 25 (dk_at dksX8_newInk_1 5 rfl rfl)
theorem dX8_newInk_30 : decode cX8_newInk 30 = .ok (.getfield 139, 3) := dk_180 0 139 (dk_at dksX8_newInk_1 8 rfl rfl)
theorem dX8_newInk_33 : decode cX8_newInk 33 = .ok (.iload_n 1, 1) := dk_27 (dk_at dksX8_newInk_1 11 rfl rfl)
theorem dX8_newInk_34 : decode cX8_newInk 34 = .ok (.aload_n 0, 1) := dk_42 (dk_at dksX8_newInk_1 12 rfl rfl)
theorem dX8_newInk_35 : decode cX8_newInk 35 = .ok (.ldc 142, 2) := dk_18 142 (dk_at dksX8_newInk_1 13 rfl rfl)
theorem dX8_newInk_37 : decode cX8_newInk 37 = .ok (.iconst 1, 1) := dk_4 (dk_at dksX8_newInk_1 15 rfl rfl)
theorem dX8_newInk_38 : decode cX8_newInk 38 = .ok (.bipush 60, 2) := dk_16 60 (dk_at dksX8_newInk_1 16 rfl rfl)
theorem dX8_newInk_40 : decode cX8_newInk 40 = .ok (.invokevirtual 117, 3) := dk_182 0 117 (dk_at dksX8_newInk_1 18 rfl rfl)
theorem dX8_newInk_43 : decode cX8_newInk 43 = .ok (.iastore, 1) := dk_79 (dk_at dksX8_newInk_1 21 rfl rfl)
theorem dX8_newInk_44 : decode cX8_newInk 44 = .ok (.aload_n 0, 1) := dk_42 (dk_at dksX8_newInk_1 22 rfl rfl)
theorem dX8_newInk_45 : decode cX8_newInk 45 = .ok (.getfield 25, 3) := dk_180 0 25 (dk_at dksX8_newInk_2 0 rfl rfl)
theorem dX8_newInk_48 : decode cX8_newInk 48 = .ok (.getfield 143, 3) := dk_180 0 143 (dk_at dksX8_newInk_2 3 rfl rfl)
theorem dX8_newInk_51 : decode cX8_newInk 51 = .ok (.iload_n 1, 1) := dk_27 (dk_at dksX8_newInk_2 6 rfl rfl)
theorem dX8_newInk_52 : decode cX8_newInk 52 = .ok (.aload_n 0, 1) := dk_42 (dk_at dksX8_newInk_2 7 rfl rfl)
theorem dX8_newInk_53 : decode cX8_newInk 53 = .ok (.ldc 146, 2) := dk_18 146 (dk_at dksX8_newInk_2 8 rfl rfl)
theorem dX8_newInk_55 : decode cX8_newInk 55 = .ok (.iconst 0, 1) := dk_3 (dk_at dksX8_newInk_2 10 rfl rfl)
theorem dX8_newInk_56 : decode cX8_newInk 56 = .ok (.bipush 9, 2) := dk_16 9 (dk_at dksX8_newInk_2 11 rfl rfl)
theorem dX8_newInk_58 : decode cX8_newInk 58 = .ok (.invokevirtual 117, 3) := dk_182 0 117 (dk_at dksX8_newInk_2 13 rfl rfl)
theorem dX8_newInk_61 : decode cX8_newInk 61 = .ok (.iastore, 1) := dk_79 (dk_at dksX8_newInk_2 16 rfl rfl)
theorem dX8_newInk_62 : decode cX8_newInk 62 = .ok (.aload_n 0, 1) := dk_42 (dk_at dksX8_newInk_2 17 rfl rfl)
theorem dX8_newInk_63 : decode cX8_newInk 63 = .ok (.getfield 25, 3) := dk_180 0 25 (dk_at dksX8_newInk_2 18 rfl rfl)
theorem dX8_newInk_66 : decode cX8_newInk 66 = .ok (.dup, 1) := dk_89 (dk_at dksX8_newInk_2 21 rfl rfl)
theorem dX8_newInk_67 : decode cX8_newInk 67 = .ok (.getfield 131, 3) := dk_180 0 131 (dk_at dksX8_newInk_3 0 rfl rfl)
theorem dX8_newInk_70 : decode cX8_newInk 70 = .ok (.iconst 1, 1) := dk_4 (dk_at dksX8_newInk_3 3 rfl rfl)
theorem dX8_newInk_71 : decode cX8_newInk 71 = .ok (.iadd, 1) := dk_96 (dk_at dksX8_newInk_3 4 rfl rfl)
theorem dX8_newInk_72 : decode cX8_newInk 72 = .ok (.putfield 131, 3) := dk_181 0 131 (dk_at dksX8_newInk_3 5 rfl rfl)
theorem dX8_newInk_75 : decode cX8_newInk 75 = .ok (.return_, 1) := dk_177 (dk_at dksX8_newInk_3 8 rfl rfl)
abbrev cX8_newPage : ByteArray := prog_8_method_12_code
def yX8_newPage : MethodName := ⟨RX8, "newPage", "()V"⟩
def dkwX8_newPage_1 : List UInt8 := [180, 0, 151, 120, 128, 181, 0, 149, 42, 180, 0, 25, 89, 180, 0, 151, 4, 96, 181, 0, 151, 177]
abbrev dktX8_newPage_1 : List UInt8 := dkwX8_newPage_1 ++ []
def dkwX8_newPage_0 : List UInt8 := [42, 18, 147, 182, 0, 100, 153, 0, 24, 42, 180, 0, 25, 89, 180, 0, 149, 4, 42, 180, 0, 25]
abbrev dktX8_newPage_0 : List UInt8 := dkwX8_newPage_0 ++ dktX8_newPage_1
theorem dksX8_newPage_0 : cX8_newPage.data.toList.drop 0 = dktX8_newPage_0 := by decide +kernel
theorem dksX8_newPage_1 : cX8_newPage.data.toList.drop 22 = dktX8_newPage_1 := dk_seg dksX8_newPage_0 22 rfl rfl
theorem dX8_newPage_0 : decode cX8_newPage 0 = .ok (.aload_n 0, 1) := dk_42 (dk_at dksX8_newPage_0 0 rfl rfl)
theorem dX8_newPage_1 : decode cX8_newPage 1 = .ok (.ldc 147, 2) := dk_18 147 (dk_at dksX8_newPage_0 1 rfl rfl)
theorem dX8_newPage_3 : decode cX8_newPage 3 = .ok (.invokevirtual 100, 3) := dk_182 0 100 (dk_at dksX8_newPage_0 3 rfl rfl)
theorem dX8_newPage_6 : decode cX8_newPage 6 = .ok (.ifCond .eq 24, 3) := dk_153 0 24 (dk_at dksX8_newPage_0 6 rfl rfl)
theorem dX8_newPage_9 : decode cX8_newPage 9 = .ok (.aload_n 0, 1) := dk_42 (dk_at dksX8_newPage_0 9 rfl rfl)
theorem dX8_newPage_10 : decode cX8_newPage 10 = .ok (.getfield 25, 3) := dk_180 0 25 (dk_at dksX8_newPage_0 10 rfl rfl)
theorem dX8_newPage_13 : decode cX8_newPage 13 = .ok (.dup, 1) := dk_89 (dk_at dksX8_newPage_0 13 rfl rfl)
theorem dX8_newPage_14 : decode cX8_newPage 14 = .ok (.getfield 149, 3) := dk_180 0 149 (dk_at dksX8_newPage_0 14 rfl rfl)
theorem dX8_newPage_17 : decode cX8_newPage 17 = .ok (.iconst 1, 1) := dk_4 (dk_at dksX8_newPage_0 17 rfl rfl)
theorem dX8_newPage_18 : decode cX8_newPage 18 = .ok (.aload_n 0, 1) := dk_42 (dk_at dksX8_newPage_0 18 rfl rfl)
theorem dX8_newPage_19 : decode cX8_newPage 19 = .ok (.getfield 25, 3) := dk_180 0 25 (dk_at dksX8_newPage_0 19 rfl rfl)
theorem dX8_newPage_22 : decode cX8_newPage 22 = .ok (.getfield 151, 3) := dk_180 0 151 (dk_at dksX8_newPage_1 0 rfl rfl)
theorem dX8_newPage_25 : decode cX8_newPage 25 = .ok (.ishl, 1) := dk_120 (dk_at dksX8_newPage_1 3 rfl rfl)
theorem dX8_newPage_26 : decode cX8_newPage 26 = .ok (.ior, 1) := dk_128 (dk_at dksX8_newPage_1 4 rfl rfl)
theorem dX8_newPage_27 : decode cX8_newPage 27 = .ok (.putfield 149, 3) := dk_181 0 149 (dk_at dksX8_newPage_1 5 rfl rfl)
theorem dX8_newPage_30 : decode cX8_newPage 30 = .ok (.aload_n 0, 1) := dk_42 (dk_at dksX8_newPage_1 8 rfl rfl)
theorem dX8_newPage_31 : decode cX8_newPage 31 = .ok (.getfield 25, 3) := dk_180 0 25 (dk_at dksX8_newPage_1 9 rfl rfl)
theorem dX8_newPage_34 : decode cX8_newPage 34 = .ok (.dup, 1) := dk_89 (dk_at dksX8_newPage_1 12 rfl rfl)
theorem dX8_newPage_35 : decode cX8_newPage 35 = .ok (.getfield 151, 3) := dk_180 0 151 (dk_at dksX8_newPage_1 13 rfl rfl)
theorem dX8_newPage_38 : decode cX8_newPage 38 = .ok (.iconst 1, 1) := dk_4 (dk_at dksX8_newPage_1 16 rfl rfl)
theorem dX8_newPage_39 : decode cX8_newPage 39 = .ok (.iadd, 1) := dk_96 (dk_at dksX8_newPage_1 17 rfl rfl)
theorem dX8_newPage_40 : decode cX8_newPage 40 = .ok (.putfield 151, 3) := dk_181 0 151 (dk_at dksX8_newPage_1 18 rfl rfl)
theorem dX8_newPage_43 : decode cX8_newPage 43 = .ok (.return_, 1) := dk_177 (dk_at dksX8_newPage_1 21 rfl rfl)
abbrev cX8_newEntry : ByteArray := prog_8_method_13_code
def yX8_newEntry : MethodName := ⟨RX8, "newEntry", "()V"⟩
def dkwX8_newEntry_4 : List UInt8 := [42, 180, 0, 25, 89, 180, 0, 154, 4, 96, 181, 0, 154, 177]
abbrev dktX8_newEntry_4 : List UInt8 := dkwX8_newEntry_4 ++ []
def dkwX8_newEntry_3 : List UInt8 := [16, 20, 182, 0, 117, 79, 42, 180, 0, 25, 180, 0, 171, 27, 42, 18, 174, 3, 16, 20, 182, 0, 117, 79]
abbrev dktX8_newEntry_3 : List UInt8 := dkwX8_newEntry_3 ++ dktX8_newEntry_4
def dkwX8_newEntry_2 : List UInt8 := [180, 0, 25, 180, 0, 131, 4, 100, 182, 0, 117, 79, 42, 180, 0, 25, 180, 0, 167, 27, 42, 18, 170, 3]
abbrev dktX8_newEntry_2 : List UInt8 := dkwX8_newEntry_2 ++ dktX8_newEntry_3
def dkwX8_newEntry_1 : List UInt8 := [180, 0, 151, 4, 100, 182, 0, 117, 79, 42, 180, 0, 25, 180, 0, 162, 27, 42, 18, 165, 3, 42]
abbrev dktX8_newEntry_1 : List UInt8 := dkwX8_newEntry_1 ++ dktX8_newEntry_2
def dkwX8_newEntry_0 : List UInt8 := [42, 180, 0, 25, 180, 0, 154, 60, 42, 180, 0, 25, 180, 0, 157, 27, 42, 18, 160, 3, 42, 180, 0, 25]
abbrev dktX8_newEntry_0 : List UInt8 := dkwX8_newEntry_0 ++ dktX8_newEntry_1
theorem dksX8_newEntry_0 : cX8_newEntry.data.toList.drop 0 = dktX8_newEntry_0 := by decide +kernel
theorem dksX8_newEntry_1 : cX8_newEntry.data.toList.drop 24 = dktX8_newEntry_1 := dk_seg dksX8_newEntry_0 24 rfl rfl
theorem dksX8_newEntry_2 : cX8_newEntry.data.toList.drop 46 = dktX8_newEntry_2 := dk_seg dksX8_newEntry_1 22 rfl rfl
theorem dksX8_newEntry_3 : cX8_newEntry.data.toList.drop 70 = dktX8_newEntry_3 := dk_seg dksX8_newEntry_2 24 rfl rfl
theorem dksX8_newEntry_4 : cX8_newEntry.data.toList.drop 94 = dktX8_newEntry_4 := dk_seg dksX8_newEntry_3 24 rfl rfl
theorem dX8_newEntry_0 : decode cX8_newEntry 0 = .ok (.aload_n 0, 1) := dk_42 (dk_at dksX8_newEntry_0 0 rfl rfl)
theorem dX8_newEntry_1 : decode cX8_newEntry 1 = .ok (.getfield 25, 3) := dk_180 0 25 (dk_at dksX8_newEntry_0 1 rfl rfl)
theorem dX8_newEntry_4 : decode cX8_newEntry 4 = .ok (.getfield 154, 3) := dk_180 0 154 (dk_at dksX8_newEntry_0 4 rfl rfl)
theorem dX8_newEntry_7 : decode cX8_newEntry 7 = .ok (.istore_n 1, 1) := dk_60 (dk_at dksX8_newEntry_0 7 rfl rfl)
theorem dX8_newEntry_8 : decode cX8_newEntry 8 = .ok (.aload_n 0, 1) := dk_42 (dk_at dksX8_newEntry_0 8 rfl rfl)
theorem dX8_newEntry_9 : decode cX8_newEntry 9 = .ok (.getfield 25, 3) := dk_180 0 25 (dk_at dksX8_newEntry_0 9 rfl rfl)
theorem dX8_newEntry_12 : decode cX8_newEntry 12 = .ok (.getfield 157, 3) := dk_180 0 157 (dk_at dksX8_newEntry_0 12 rfl rfl)
theorem dX8_newEntry_15 : decode cX8_newEntry 15 = .ok (.iload_n 1, 1) := dk_27 (dk_at dksX8_newEntry_0 15 rfl rfl)
theorem dX8_newEntry_16 : decode cX8_newEntry 16 = .ok (.aload_n 0, 1) := dk_42 (dk_at dksX8_newEntry_0 16 rfl rfl)
theorem dX8_newEntry_17 : decode cX8_newEntry 17 = .ok (.ldc 160, 2) := dk_18 160 (dk_at dksX8_newEntry_0 17 rfl rfl)
theorem dX8_newEntry_19 : decode cX8_newEntry 19 = .ok (.iconst 0, 1) := dk_3 (dk_at dksX8_newEntry_0 19 rfl rfl)
theorem dX8_newEntry_20 : decode cX8_newEntry 20 = .ok (.aload_n 0, 1) := dk_42 (dk_at dksX8_newEntry_0 20 rfl rfl)
theorem dX8_newEntry_21 : decode cX8_newEntry 21 = .ok (.getfield 25, 3) := dk_180 0 25 (dk_at dksX8_newEntry_0 21 rfl rfl)
theorem dX8_newEntry_24 : decode cX8_newEntry 24 = .ok (.getfield 151, 3) := dk_180 0 151 (dk_at dksX8_newEntry_1 0 rfl rfl)
theorem dX8_newEntry_27 : decode cX8_newEntry 27 = .ok (.iconst 1, 1) := dk_4 (dk_at dksX8_newEntry_1 3 rfl rfl)
theorem dX8_newEntry_28 : decode cX8_newEntry 28 = .ok (.isub, 1) := dk_100 (dk_at dksX8_newEntry_1 4 rfl rfl)
theorem dX8_newEntry_29 : decode cX8_newEntry 29 = .ok (.invokevirtual 117, 3) := dk_182 0 117 (dk_at dksX8_newEntry_1 5 rfl rfl)
theorem dX8_newEntry_32 : decode cX8_newEntry 32 = .ok (.iastore, 1) := dk_79 (dk_at dksX8_newEntry_1 8 rfl rfl)
theorem dX8_newEntry_33 : decode cX8_newEntry 33 = .ok (.aload_n 0, 1) := dk_42 (dk_at dksX8_newEntry_1 9 rfl rfl)
theorem dX8_newEntry_34 : decode cX8_newEntry 34 = .ok (.getfield 25, 3) := dk_180 0 25 (dk_at dksX8_newEntry_1 10 rfl rfl)
theorem dX8_newEntry_37 : decode cX8_newEntry 37 = .ok (.getfield 162, 3) := dk_180 0 162 (dk_at dksX8_newEntry_1 13 rfl rfl)
theorem dX8_newEntry_40 : decode cX8_newEntry 40 = .ok (.iload_n 1, 1) := dk_27 (dk_at dksX8_newEntry_1 16 rfl rfl)
theorem dX8_newEntry_41 : decode cX8_newEntry 41 = .ok (.aload_n 0, 1) := dk_42 (dk_at dksX8_newEntry_1 17 rfl rfl)
theorem dX8_newEntry_42 : decode cX8_newEntry 42 = .ok (.ldc 165, 2) := dk_18 165 (dk_at dksX8_newEntry_1 18 rfl rfl)
theorem dX8_newEntry_44 : decode cX8_newEntry 44 = .ok (.iconst 0, 1) := dk_3 (dk_at dksX8_newEntry_1 20 rfl rfl)
theorem dX8_newEntry_45 : decode cX8_newEntry 45 = .ok (.aload_n 0, 1) := dk_42 (dk_at dksX8_newEntry_1 21 rfl rfl)
theorem dX8_newEntry_46 : decode cX8_newEntry 46 = .ok (.getfield 25, 3) := dk_180 0 25 (dk_at dksX8_newEntry_2 0 rfl rfl)
theorem dX8_newEntry_49 : decode cX8_newEntry 49 = .ok (.getfield 131, 3) := dk_180 0 131 (dk_at dksX8_newEntry_2 3 rfl rfl)
theorem dX8_newEntry_52 : decode cX8_newEntry 52 = .ok (.iconst 1, 1) := dk_4 (dk_at dksX8_newEntry_2 6 rfl rfl)
theorem dX8_newEntry_53 : decode cX8_newEntry 53 = .ok (.isub, 1) := dk_100 (dk_at dksX8_newEntry_2 7 rfl rfl)
theorem dX8_newEntry_54 : decode cX8_newEntry 54 = .ok (.invokevirtual 117, 3) := dk_182 0 117 (dk_at dksX8_newEntry_2 8 rfl rfl)
theorem dX8_newEntry_57 : decode cX8_newEntry 57 = .ok (.iastore, 1) := dk_79 (dk_at dksX8_newEntry_2 11 rfl rfl)
theorem dX8_newEntry_58 : decode cX8_newEntry 58 = .ok (.aload_n 0, 1) := dk_42 (dk_at dksX8_newEntry_2 12 rfl rfl)
theorem dX8_newEntry_59 : decode cX8_newEntry 59 = .ok (.getfield 25, 3) := dk_180 0 25 (dk_at dksX8_newEntry_2 13 rfl rfl)
theorem dX8_newEntry_62 : decode cX8_newEntry 62 = .ok (.getfield 167, 3) := dk_180 0 167 (dk_at dksX8_newEntry_2 16 rfl rfl)
theorem dX8_newEntry_65 : decode cX8_newEntry 65 = .ok (.iload_n 1, 1) := dk_27 (dk_at dksX8_newEntry_2 19 rfl rfl)
theorem dX8_newEntry_66 : decode cX8_newEntry 66 = .ok (.aload_n 0, 1) := dk_42 (dk_at dksX8_newEntry_2 20 rfl rfl)
theorem dX8_newEntry_67 : decode cX8_newEntry 67 = .ok (.ldc 170, 2) := dk_18 170 (dk_at dksX8_newEntry_2 21 rfl rfl)
theorem dX8_newEntry_69 : decode cX8_newEntry 69 = .ok (.iconst 0, 1) := dk_3 (dk_at dksX8_newEntry_2 23 rfl rfl)
theorem dX8_newEntry_70 : decode cX8_newEntry 70 = .ok (.bipush 20, 2) := dk_16 20 (dk_at dksX8_newEntry_3 0 rfl rfl)
theorem dX8_newEntry_72 : decode cX8_newEntry 72 = .ok (.invokevirtual 117, 3) := dk_182 0 117 (dk_at dksX8_newEntry_3 2 rfl rfl)
theorem dX8_newEntry_75 : decode cX8_newEntry 75 = .ok (.iastore, 1) := dk_79 (dk_at dksX8_newEntry_3 5 rfl rfl)
theorem dX8_newEntry_76 : decode cX8_newEntry 76 = .ok (.aload_n 0, 1) := dk_42 (dk_at dksX8_newEntry_3 6 rfl rfl)
theorem dX8_newEntry_77 : decode cX8_newEntry 77 = .ok (.getfield 25, 3) := dk_180 0 25 (dk_at dksX8_newEntry_3 7 rfl rfl)
theorem dX8_newEntry_80 : decode cX8_newEntry 80 = .ok (.getfield 171, 3) := dk_180 0 171 (dk_at dksX8_newEntry_3 10 rfl rfl)
theorem dX8_newEntry_83 : decode cX8_newEntry 83 = .ok (.iload_n 1, 1) := dk_27 (dk_at dksX8_newEntry_3 13 rfl rfl)
theorem dX8_newEntry_84 : decode cX8_newEntry 84 = .ok (.aload_n 0, 1) := dk_42 (dk_at dksX8_newEntry_3 14 rfl rfl)
theorem dX8_newEntry_85 : decode cX8_newEntry 85 = .ok (.ldc 174, 2) := dk_18 174 (dk_at dksX8_newEntry_3 15 rfl rfl)
theorem dX8_newEntry_87 : decode cX8_newEntry 87 = .ok (.iconst 0, 1) := dk_3 (dk_at dksX8_newEntry_3 17 rfl rfl)
theorem dX8_newEntry_88 : decode cX8_newEntry 88 = .ok (.bipush 20, 2) := dk_16 20 (dk_at dksX8_newEntry_3 18 rfl rfl)
theorem dX8_newEntry_90 : decode cX8_newEntry 90 = .ok (.invokevirtual 117, 3) := dk_182 0 117 (dk_at dksX8_newEntry_3 20 rfl rfl)
theorem dX8_newEntry_93 : decode cX8_newEntry 93 = .ok (.iastore, 1) := dk_79 (dk_at dksX8_newEntry_3 23 rfl rfl)
theorem dX8_newEntry_94 : decode cX8_newEntry 94 = .ok (.aload_n 0, 1) := dk_42 (dk_at dksX8_newEntry_4 0 rfl rfl)
theorem dX8_newEntry_95 : decode cX8_newEntry 95 = .ok (.getfield 25, 3) := dk_180 0 25 (dk_at dksX8_newEntry_4 1 rfl rfl)
theorem dX8_newEntry_98 : decode cX8_newEntry 98 = .ok (.dup, 1) := dk_89 (dk_at dksX8_newEntry_4 4 rfl rfl)
theorem dX8_newEntry_99 : decode cX8_newEntry 99 = .ok (.getfield 154, 3) := dk_180 0 154 (dk_at dksX8_newEntry_4 5 rfl rfl)
theorem dX8_newEntry_102 : decode cX8_newEntry 102 = .ok (.iconst 1, 1) := dk_4 (dk_at dksX8_newEntry_4 8 rfl rfl)
theorem dX8_newEntry_103 : decode cX8_newEntry 103 = .ok (.iadd, 1) := dk_96 (dk_at dksX8_newEntry_4 9 rfl rfl)
theorem dX8_newEntry_104 : decode cX8_newEntry 104 = .ok (.putfield 154, 3) := dk_181 0 154 (dk_at dksX8_newEntry_4 10 rfl rfl)
theorem dX8_newEntry_107 : decode cX8_newEntry 107 = .ok (.return_, 1) := dk_177 (dk_at dksX8_newEntry_4 13 rfl rfl)
theorem q137 : (Jvm.Cond.initialized "GallRegister$Reader") ∈ lw_all := lw_g (lw_at lw_m1 12 rfl) rfl
theorem q174 : (Jvm.Cond.fieldLinkNest "GallRegister$Reader" (121 : Nat) "GallRegister$Book" "years" "I" "GallRegister") ∈ lw_tbl := lw_at lw_m1 49 rfl
theorem q177 : (Jvm.Cond.fieldLinkNest "GallRegister$Reader" (125 : Nat) "GallRegister$Book" "law" "I" "GallRegister") ∈ lw_tbl := lw_at lw_m1 52 rfl
theorem q180 : (Jvm.Cond.fieldLinkNest "GallRegister$Reader" (129 : Nat) "GallRegister$Book" "odds" "I" "GallRegister") ∈ lw_tbl := lw_at lw_m1 55 rfl
theorem q184 : (Jvm.Cond.fieldLinkNest "GallRegister$Reader" (192 : Nat) "GallRegister$Book" "lines" "I" "GallRegister") ∈ lw_tbl := lw_at lw_m1 59 rfl
theorem q187 : (Jvm.Cond.fieldLinkNest "GallRegister$Reader" (131 : Nat) "GallRegister$Book" "inks" "I" "GallRegister") ∈ lw_tbl := lw_at lw_m1 62 rfl
theorem q190 : (Jvm.Cond.fieldLinkNest "GallRegister$Reader" (151 : Nat) "GallRegister$Book" "pages" "I" "GallRegister") ∈ lw_tbl := lw_at lw_m1 65 rfl
theorem q193 : (Jvm.Cond.fieldLinkNest "GallRegister$Reader" (154 : Nat) "GallRegister$Book" "entries" "I" "GallRegister") ∈ lw_tbl := lw_at lw_m1 68 rfl
theorem q197 : (Jvm.Cond.fieldLinkNest "GallRegister$Reader" (149 : Nat) "GallRegister$Book" "damp" "I" "GallRegister") ∈ lw_tbl := lw_at lw_m1 72 rfl
theorem q200 : (Jvm.Cond.fieldLinkNest "GallRegister$Reader" (134 : Nat) "GallRegister$Book" "rise" "[I" "GallRegister") ∈ lw_tbl := lw_at lw_m1 75 rfl
theorem q203 : (Jvm.Cond.fieldLinkNest "GallRegister$Reader" (139 : Nat) "GallRegister$Book" "top" "[I" "GallRegister") ∈ lw_tbl := lw_at lw_m1 78 rfl
theorem q208 : (Jvm.Cond.fieldLinkNest "GallRegister$Reader" (143 : Nat) "GallRegister$Book" "fade" "[I" "GallRegister") ∈ lw_tbl := lw_at lw_m1 83 rfl
theorem q212 : (Jvm.Cond.fieldLinkNest "GallRegister$Reader" (157 : Nat) "GallRegister$Book" "page" "[I" "GallRegister") ∈ lw_tbl := lw_at lw_m1 87 rfl
theorem q215 : (Jvm.Cond.fieldLinkNest "GallRegister$Reader" (162 : Nat) "GallRegister$Book" "ink" "[I" "GallRegister") ∈ lw_tbl := lw_at lw_m1 90 rfl
theorem q218 : (Jvm.Cond.fieldLinkNest "GallRegister$Reader" (167 : Nat) "GallRegister$Book" "wrote" "[I" "GallRegister") ∈ lw_tbl := lw_at lw_m1 93 rfl
theorem q221 : (Jvm.Cond.fieldLinkNest "GallRegister$Reader" (171 : Nat) "GallRegister$Book" "says" "[I" "GallRegister") ∈ lw_tbl := lw_at lw_m1 96 rfl
theorem q347 : (Jvm.Cond.fieldLinkNest "GallRegister$Reader" (44 : Nat) "GallRegister" "tape" "[B" "GallRegister") ∈ lw_tbl := lw_at lw_m1 222 rfl
theorem q349 : (Jvm.Cond.fieldLinkNest "GallRegister$Reader" (15 : Nat) "GallRegister" "taped" "I" "GallRegister") ∈ lw_tbl := lw_at lw_m1 224 rfl
theorem q471 : (Jvm.Cond.instantiable "GallRegister$Reader" (7 : Nat)) ∈ lw_all := lw_g (lw_at lw_m2 106 rfl) rfl
theorem q473 : (Jvm.Cond.instanceMethod ({ cls := "GallRegister$Reader", name := "<init>", desc := "(LGallRegister;)V" } : Jvm.MethodName)) ∈ lw_all := lw_g (lw_at lw_m2 108 rfl) rfl
theorem q474 : (Jvm.Cond.code ({ cls := "GallRegister$Reader", name := "<init>", desc := "(LGallRegister;)V" } : Jvm.MethodName) prog_8_method_1_code (2 : Nat) (Option.none : Option Jvm.ClassFile.FieldType)) ∈ lw_all := lw_g (lw_at lw_m2 109 rfl) rfl
theorem q475 : (Jvm.Cond.methodLink "GallRegister$Reader" (9 : Nat) ({ cls := "java/lang/Object", name := "<init>", desc := "()V" } : Jvm.MethodName)) ∈ lw_all := lw_g (lw_at lw_m2 110 rfl) rfl
theorem q476 : (Jvm.Cond.classLink "GallRegister$Reader" (22 : Nat) "GallRegister$Book") ∈ lw_all := lw_g (lw_at lw_m2 111 rfl) rfl
theorem q477 : (Jvm.Cond.methodLinkNest "GallRegister$Reader" (24 : Nat) ({ cls := "GallRegister$Book", name := "<init>", desc := "()V" } : Jvm.MethodName) "GallRegister") ∈ lw_tbl := lw_at lw_m2 112 rfl
theorem q478 : (Jvm.Cond.fieldLink "GallRegister$Reader" (29 : Nat) "GallRegister$Token" "END" "LGallRegister$Token;") ∈ lw_all := lw_g (lw_at lw_m2 113 rfl) rfl
theorem q480 : (Jvm.Cond.methodLink "GallRegister$Reader" (38 : Nat) ({ cls := "GallRegister$Reader", name := "next", desc := "()V" } : Jvm.MethodName)) ∈ lw_all := lw_g (lw_at lw_m2 115 rfl) rfl
theorem q481 : (Jvm.Cond.privateMethod ({ cls := "GallRegister$Reader", name := "next", desc := "()V" } : Jvm.MethodName)) ∈ lw_tbl := lw_at lw_m2 116 rfl
theorem q482 : (Jvm.Cond.instanceMethod ({ cls := "GallRegister$Reader", name := "next", desc := "()V" } : Jvm.MethodName)) ∈ lw_all := lw_g (lw_at lw_m2 117 rfl) rfl
theorem q483 : (Jvm.Cond.code ({ cls := "GallRegister$Reader", name := "next", desc := "()V" } : Jvm.MethodName) prog_8_method_3_code (1 : Nat) (Option.none : Option Jvm.ClassFile.FieldType)) ∈ lw_all := lw_g (lw_at lw_m2 118 rfl) rfl
theorem q484 : (Jvm.Cond.methodLink "GallRegister$Reader" (55 : Nat) ({ cls := "GallRegister$Reader", name := "isNext", desc := "(II)Z" } : Jvm.MethodName)) ∈ lw_all := lw_g (lw_at lw_m2 119 rfl) rfl
theorem q485 : (Jvm.Cond.privateMethod ({ cls := "GallRegister$Reader", name := "isNext", desc := "(II)Z" } : Jvm.MethodName)) ∈ lw_tbl := lw_at lw_m2 120 rfl
theorem q486 : (Jvm.Cond.instanceMethod ({ cls := "GallRegister$Reader", name := "isNext", desc := "(II)Z" } : Jvm.MethodName)) ∈ lw_all := lw_g (lw_at lw_m2 121 rfl) rfl
theorem q487 : (Jvm.Cond.code ({ cls := "GallRegister$Reader", name := "isNext", desc := "(II)Z" } : Jvm.MethodName) prog_8_method_2_code (3 : Nat) (Option.some Jvm.ClassFile.FieldType.boolean)) ∈ lw_all := lw_g (lw_at lw_m2 122 rfl) rfl
theorem q488 : (Jvm.Cond.methodLinkNest "GallRegister$Reader" (48 : Nat) ({ cls := "GallRegister", name := "isIn", desc := "(JJJ)Z" } : Jvm.MethodName) "GallRegister") ∈ lw_tbl := lw_at lw_m2 123 rfl
theorem q489 : (Jvm.Cond.fieldLink "GallRegister$Reader" (59 : Nat) "GallRegister$Token" "WORD" "LGallRegister$Token;") ∈ lw_all := lw_g (lw_at lw_m2 124 rfl) rfl
theorem q491 : (Jvm.Cond.constant "GallRegister$Reader" (65 : Nat) (99999 : Int32)) ∈ lw_all := lw_g (lw_at lw_m2 126 rfl) rfl
theorem q492 : (Jvm.Cond.methodLink "GallRegister$Reader" (66 : Nat) ({ cls := "java/lang/Math", name := "min", desc := "(II)I" } : Jvm.MethodName)) ∈ lw_all := lw_g (lw_at lw_m2 127 rfl) rfl
theorem q495 : (Jvm.Cond.fieldLink "GallRegister$Reader" (72 : Nat) "GallRegister$Token" "NUMBER" "LGallRegister$Token;") ∈ lw_all := lw_g (lw_at lw_m2 130 rfl) rfl
theorem q497 : (Jvm.Cond.fieldLink "GallRegister$Reader" (75 : Nat) "GallRegister$Token" "STOP" "LGallRegister$Token;") ∈ lw_all := lw_g (lw_at lw_m2 132 rfl) rfl
theorem q499 : (Jvm.Cond.fieldLink "GallRegister$Reader" (78 : Nat) "GallRegister$Token" "NONE" "LGallRegister$Token;") ∈ lw_all := lw_g (lw_at lw_m2 134 rfl) rfl
theorem q501 : (Jvm.Cond.fieldLink "GallRegister$Reader" (19 : Nat) "GallRegister$Reader" "size" "I") ∈ lw_all := lw_g (lw_at lw_m2 136 rfl) rfl
theorem q502 : (Jvm.Cond.fieldLink "GallRegister$Reader" (25 : Nat) "GallRegister$Reader" "book" "LGallRegister$Book;") ∈ lw_all := lw_g (lw_at lw_m2 137 rfl) rfl
theorem q503 : (Jvm.Cond.fieldLink "GallRegister$Reader" (41 : Nat) "GallRegister$Reader" "at" "I") ∈ lw_all := lw_g (lw_at lw_m2 138 rfl) rfl
theorem q504 : (Jvm.Cond.fieldLink "GallRegister$Reader" (52 : Nat) "GallRegister$Reader" "from" "I") ∈ lw_all := lw_g (lw_at lw_m2 139 rfl) rfl
theorem q505 : (Jvm.Cond.fieldLink "GallRegister$Reader" (62 : Nat) "GallRegister$Reader" "value" "I") ∈ lw_all := lw_g (lw_at lw_m2 140 rfl) rfl
theorem q506 : (Jvm.Cond.fieldLink "GallRegister$Reader" (35 : Nat) "GallRegister$Reader" "token" "LGallRegister$Token;") ∈ lw_all := lw_g (lw_at lw_m2 141 rfl) rfl
theorem q507 : (Jvm.Cond.fieldLink "GallRegister$Reader" (3 : Nat) "GallRegister$Reader" "this$0" "LGallRegister;") ∈ lw_all := lw_g (lw_at lw_m2 142 rfl) rfl
theorem q508 : (Jvm.Cond.laysFinal "GallRegister$Reader" "GallRegister$Reader" "size" "I") ∈ lw_all := lw_g (lw_at lw_m2 143 rfl) rfl
theorem q509 : (Jvm.Cond.soleField "GallRegister$Reader" "size") ∈ lw_all := lw_g (lw_at lw_m2 144 rfl) rfl
theorem q510 : (Jvm.Cond.laysFinal "GallRegister$Reader" "GallRegister$Reader" "book" "LGallRegister$Book;") ∈ lw_all := lw_g (lw_at lw_m2 145 rfl) rfl
theorem q511 : (Jvm.Cond.soleField "GallRegister$Reader" "book") ∈ lw_all := lw_g (lw_at lw_m2 146 rfl) rfl
theorem q512 : (Jvm.Cond.lays "GallRegister$Reader" "GallRegister$Reader" "at" "I") ∈ lw_all := lw_g (lw_at lw_m2 147 rfl) rfl
theorem q513 : (Jvm.Cond.soleField "GallRegister$Reader" "at") ∈ lw_all := lw_g (lw_at lw_m2 148 rfl) rfl
theorem q514 : (Jvm.Cond.lays "GallRegister$Reader" "GallRegister$Reader" "from" "I") ∈ lw_all := lw_g (lw_at lw_m2 149 rfl) rfl
theorem q515 : (Jvm.Cond.soleField "GallRegister$Reader" "from") ∈ lw_all := lw_g (lw_at lw_m2 150 rfl) rfl
theorem q516 : (Jvm.Cond.lays "GallRegister$Reader" "GallRegister$Reader" "value" "I") ∈ lw_all := lw_g (lw_at lw_m2 151 rfl) rfl
theorem q517 : (Jvm.Cond.soleField "GallRegister$Reader" "value") ∈ lw_all := lw_g (lw_at lw_m2 152 rfl) rfl
theorem q518 : (Jvm.Cond.lays "GallRegister$Reader" "GallRegister$Reader" "token" "LGallRegister$Token;") ∈ lw_all := lw_g (lw_at lw_m2 153 rfl) rfl
theorem q519 : (Jvm.Cond.soleField "GallRegister$Reader" "token") ∈ lw_all := lw_g (lw_at lw_m2 154 rfl) rfl
theorem q520 : (Jvm.Cond.laysFinal "GallRegister$Reader" "GallRegister$Reader" "this$0" "LGallRegister;") ∈ lw_all := lw_g (lw_at lw_m2 155 rfl) rfl
theorem q521 : (Jvm.Cond.soleField "GallRegister$Reader" "this$0") ∈ lw_all := lw_g (lw_at lw_m2 156 rfl) rfl
theorem q522 : (Jvm.Cond.superclass "GallRegister$Reader" "java/lang/Object") ∈ lw_all := lw_g (lw_at lw_m2 157 rfl) rfl
theorem q524 : (Jvm.Cond.instanceMethod ({ cls := "GallRegister$Reader", name := "whole", desc := "()LGallRegister$Book;" } : Jvm.MethodName)) ∈ lw_all := lw_g (lw_at lw_m2 159 rfl) rfl
theorem q525 : (Jvm.Cond.selects "GallRegister$Reader" ({ cls := "GallRegister$Reader", name := "whole", desc := "()LGallRegister$Book;" } : Jvm.MethodName) ({ cls := "GallRegister$Reader", name := "whole", desc := "()LGallRegister$Book;" } : Jvm.MethodName)) ∈ lw_all := lw_g (lw_at lw_m2 160 rfl) rfl
theorem q526 : (Jvm.Cond.code ({ cls := "GallRegister$Reader", name := "whole", desc := "()LGallRegister$Book;" } : Jvm.MethodName) prog_8_method_16_code (1 : Nat) (Option.some (Jvm.ClassFile.FieldType.object "GallRegister$Book"))) ∈ lw_all := lw_g (lw_at lw_m2 161 rfl) rfl
theorem q527 : (Jvm.Cond.methodLink "GallRegister$Reader" (195 : Nat) ({ cls := "GallRegister$Reader", name := "head", desc := "()V" } : Jvm.MethodName)) ∈ lw_all := lw_g (lw_at lw_m2 162 rfl) rfl
theorem q528 : (Jvm.Cond.privateMethod ({ cls := "GallRegister$Reader", name := "head", desc := "()V" } : Jvm.MethodName)) ∈ lw_tbl := lw_at lw_m2 163 rfl
theorem q529 : (Jvm.Cond.instanceMethod ({ cls := "GallRegister$Reader", name := "head", desc := "()V" } : Jvm.MethodName)) ∈ lw_all := lw_g (lw_at lw_m2 164 rfl) rfl
theorem q530 : (Jvm.Cond.code ({ cls := "GallRegister$Reader", name := "head", desc := "()V" } : Jvm.MethodName) prog_8_method_10_code (1 : Nat) (Option.none : Option Jvm.ClassFile.FieldType)) ∈ lw_all := lw_g (lw_at lw_m2 165 rfl) rfl
theorem q531 : (Jvm.Cond.stringRef "GallRegister$Reader" (114 : Nat) "book") ∈ lw_tbl := lw_at lw_m2 166 rfl
theorem q532 : (Jvm.Cond.methodLink "GallRegister$Reader" (107 : Nat) ({ cls := "GallRegister$Reader", name := "expects", desc := "(Ljava/lang/String;)V" } : Jvm.MethodName)) ∈ lw_all := lw_g (lw_at lw_m2 167 rfl) rfl
theorem q533 : (Jvm.Cond.privateMethod ({ cls := "GallRegister$Reader", name := "expects", desc := "(Ljava/lang/String;)V" } : Jvm.MethodName)) ∈ lw_tbl := lw_at lw_m2 168 rfl
theorem q534 : (Jvm.Cond.instanceMethod ({ cls := "GallRegister$Reader", name := "expects", desc := "(Ljava/lang/String;)V" } : Jvm.MethodName)) ∈ lw_all := lw_g (lw_at lw_m2 169 rfl) rfl
theorem q535 : (Jvm.Cond.code ({ cls := "GallRegister$Reader", name := "expects", desc := "(Ljava/lang/String;)V" } : Jvm.MethodName) prog_8_method_7_code (2 : Nat) (Option.none : Option Jvm.ClassFile.FieldType)) ∈ lw_all := lw_g (lw_at lw_m2 170 rfl) rfl
theorem q536 : (Jvm.Cond.methodLink "GallRegister$Reader" (100 : Nat) ({ cls := "GallRegister$Reader", name := "takes", desc := "(Ljava/lang/String;)Z" } : Jvm.MethodName)) ∈ lw_all := lw_g (lw_at lw_m2 171 rfl) rfl
theorem q537 : (Jvm.Cond.privateMethod ({ cls := "GallRegister$Reader", name := "takes", desc := "(Ljava/lang/String;)Z" } : Jvm.MethodName)) ∈ lw_tbl := lw_at lw_m2 172 rfl
theorem q538 : (Jvm.Cond.instanceMethod ({ cls := "GallRegister$Reader", name := "takes", desc := "(Ljava/lang/String;)Z" } : Jvm.MethodName)) ∈ lw_all := lw_g (lw_at lw_m2 173 rfl) rfl
theorem q539 : (Jvm.Cond.code ({ cls := "GallRegister$Reader", name := "takes", desc := "(Ljava/lang/String;)Z" } : Jvm.MethodName) prog_8_method_6_code (3 : Nat) (Option.some Jvm.ClassFile.FieldType.boolean)) ∈ lw_all := lw_g (lw_at lw_m2 174 rfl) rfl
theorem q540 : (Jvm.Cond.methodLink "GallRegister$Reader" (96 : Nat) ({ cls := "GallRegister$Reader", name := "is", desc := "(Ljava/lang/String;)Z" } : Jvm.MethodName)) ∈ lw_all := lw_g (lw_at lw_m2 175 rfl) rfl
theorem q541 : (Jvm.Cond.privateMethod ({ cls := "GallRegister$Reader", name := "is", desc := "(Ljava/lang/String;)Z" } : Jvm.MethodName)) ∈ lw_tbl := lw_at lw_m2 176 rfl
theorem q542 : (Jvm.Cond.instanceMethod ({ cls := "GallRegister$Reader", name := "is", desc := "(Ljava/lang/String;)Z" } : Jvm.MethodName)) ∈ lw_all := lw_g (lw_at lw_m2 177 rfl) rfl
theorem q543 : (Jvm.Cond.code ({ cls := "GallRegister$Reader", name := "is", desc := "(Ljava/lang/String;)Z" } : Jvm.MethodName) prog_8_method_5_code (3 : Nat) (Option.some Jvm.ClassFile.FieldType.boolean)) ∈ lw_all := lw_g (lw_at lw_m2 178 rfl) rfl
theorem q544 : (Jvm.Cond.methodLink "GallRegister$Reader" (86 : Nat) ({ cls := "java/lang/String", name := "length", desc := "()I" } : Jvm.MethodName)) ∈ lw_all := lw_g (lw_at lw_m2 179 rfl) rfl
theorem q554 : (Jvm.Cond.methodLink "GallRegister$Reader" (92 : Nat) ({ cls := "java/lang/String", name := "charAt", desc := "(I)C" } : Jvm.MethodName)) ∈ lw_all := lw_g (lw_at lw_m2 189 rfl) rfl
theorem q592 : (Jvm.Cond.methodLink "GallRegister$Reader" (103 : Nat) ({ cls := "GallRegister$Reader", name := "wrong", desc := "(I)LGallRegister$Fault;" } : Jvm.MethodName)) ∈ lw_all := lw_g (lw_at lw_m2 227 rfl) rfl
theorem q593 : (Jvm.Cond.privateMethod ({ cls := "GallRegister$Reader", name := "wrong", desc := "(I)LGallRegister$Fault;" } : Jvm.MethodName)) ∈ lw_tbl := lw_at lw_m2 228 rfl
theorem q594 : (Jvm.Cond.instanceMethod ({ cls := "GallRegister$Reader", name := "wrong", desc := "(I)LGallRegister$Fault;" } : Jvm.MethodName)) ∈ lw_all := lw_g (lw_at lw_m2 229 rfl) rfl
theorem q595 : (Jvm.Cond.code ({ cls := "GallRegister$Reader", name := "wrong", desc := "(I)LGallRegister$Fault;" } : Jvm.MethodName) prog_8_method_4_code (2 : Nat) (Option.some (Jvm.ClassFile.FieldType.object "GallRegister$Fault"))) ∈ lw_all := lw_g (lw_at lw_m2 230 rfl) rfl
theorem q596 : (Jvm.Cond.classLink "GallRegister$Reader" (81 : Nat) "GallRegister$Fault") ∈ lw_all := lw_g (lw_at lw_m2 231 rfl) rfl
theorem q650 : (Jvm.Cond.methodLink "GallRegister$Reader" (83 : Nat) ({ cls := "GallRegister$Fault", name := "<init>", desc := "(II)V" } : Jvm.MethodName)) ∈ lw_all := lw_g (lw_at lw_m3 45 rfl) rfl
theorem q680 : (Jvm.Cond.stringRef "GallRegister$Reader" (115 : Nat) "years") ∈ lw_tbl := lw_at lw_m3 75 rfl
theorem q681 : (Jvm.Cond.methodLink "GallRegister$Reader" (117 : Nat) ({ cls := "GallRegister$Reader", name := "told", desc := "(Ljava/lang/String;II)I" } : Jvm.MethodName)) ∈ lw_all := lw_g (lw_at lw_m3 76 rfl) rfl
theorem q682 : (Jvm.Cond.privateMethod ({ cls := "GallRegister$Reader", name := "told", desc := "(Ljava/lang/String;II)I" } : Jvm.MethodName)) ∈ lw_tbl := lw_at lw_m3 77 rfl
theorem q683 : (Jvm.Cond.instanceMethod ({ cls := "GallRegister$Reader", name := "told", desc := "(Ljava/lang/String;II)I" } : Jvm.MethodName)) ∈ lw_all := lw_g (lw_at lw_m3 78 rfl) rfl
theorem q684 : (Jvm.Cond.code ({ cls := "GallRegister$Reader", name := "told", desc := "(Ljava/lang/String;II)I" } : Jvm.MethodName) prog_8_method_9_code (4 : Nat) (Option.some Jvm.ClassFile.FieldType.int)) ∈ lw_all := lw_g (lw_at lw_m3 79 rfl) rfl
theorem q685 : (Jvm.Cond.methodLink "GallRegister$Reader" (111 : Nat) ({ cls := "GallRegister$Reader", name := "number", desc := "(II)I" } : Jvm.MethodName)) ∈ lw_all := lw_g (lw_at lw_m3 80 rfl) rfl
theorem q686 : (Jvm.Cond.privateMethod ({ cls := "GallRegister$Reader", name := "number", desc := "(II)I" } : Jvm.MethodName)) ∈ lw_tbl := lw_at lw_m3 81 rfl
theorem q687 : (Jvm.Cond.instanceMethod ({ cls := "GallRegister$Reader", name := "number", desc := "(II)I" } : Jvm.MethodName)) ∈ lw_all := lw_g (lw_at lw_m3 82 rfl) rfl
theorem q688 : (Jvm.Cond.code ({ cls := "GallRegister$Reader", name := "number", desc := "(II)I" } : Jvm.MethodName) prog_8_method_8_code (4 : Nat) (Option.some Jvm.ClassFile.FieldType.int)) ∈ lw_all := lw_g (lw_at lw_m3 83 rfl) rfl
theorem q689 : (Jvm.Cond.stringRef "GallRegister$Reader" (123 : Nat) "law") ∈ lw_tbl := lw_at lw_m3 84 rfl
theorem q690 : (Jvm.Cond.stringRef "GallRegister$Reader" (127 : Nat) "odds") ∈ lw_tbl := lw_at lw_m3 85 rfl
theorem q691 : (Jvm.Cond.methodLink "GallRegister$Reader" (198 : Nat) ({ cls := "GallRegister$Reader", name := "line", desc := "()V" } : Jvm.MethodName)) ∈ lw_all := lw_g (lw_at lw_m3 86 rfl) rfl
theorem q692 : (Jvm.Cond.privateMethod ({ cls := "GallRegister$Reader", name := "line", desc := "()V" } : Jvm.MethodName)) ∈ lw_tbl := lw_at lw_m3 87 rfl
theorem q693 : (Jvm.Cond.instanceMethod ({ cls := "GallRegister$Reader", name := "line", desc := "()V" } : Jvm.MethodName)) ∈ lw_all := lw_g (lw_at lw_m3 88 rfl) rfl
theorem q694 : (Jvm.Cond.code ({ cls := "GallRegister$Reader", name := "line", desc := "()V" } : Jvm.MethodName) prog_8_method_15_code (1 : Nat) (Option.none : Option Jvm.ClassFile.FieldType)) ∈ lw_all := lw_g (lw_at lw_m3 89 rfl) rfl
theorem q695 : (Jvm.Cond.stringRef "GallRegister$Reader" (175 : Nat) "ink") ∈ lw_tbl := lw_at lw_m3 90 rfl
theorem q696 : (Jvm.Cond.methodLink "GallRegister$Reader" (176 : Nat) ({ cls := "GallRegister$Reader", name := "begins", desc := "(Ljava/lang/String;Z)Z" } : Jvm.MethodName)) ∈ lw_all := lw_g (lw_at lw_m3 91 rfl) rfl
theorem q697 : (Jvm.Cond.privateMethod ({ cls := "GallRegister$Reader", name := "begins", desc := "(Ljava/lang/String;Z)Z" } : Jvm.MethodName)) ∈ lw_tbl := lw_at lw_m3 92 rfl
theorem q698 : (Jvm.Cond.instanceMethod ({ cls := "GallRegister$Reader", name := "begins", desc := "(Ljava/lang/String;Z)Z" } : Jvm.MethodName)) ∈ lw_all := lw_g (lw_at lw_m3 93 rfl) rfl
theorem q699 : (Jvm.Cond.code ({ cls := "GallRegister$Reader", name := "begins", desc := "(Ljava/lang/String;Z)Z" } : Jvm.MethodName) prog_8_method_14_code (3 : Nat) (Option.some Jvm.ClassFile.FieldType.boolean)) ∈ lw_all := lw_g (lw_at lw_m3 94 rfl) rfl
theorem q700 : (Jvm.Cond.methodLink "GallRegister$Reader" (180 : Nat) ({ cls := "GallRegister$Reader", name := "newInk", desc := "()V" } : Jvm.MethodName)) ∈ lw_all := lw_g (lw_at lw_m3 95 rfl) rfl
theorem q701 : (Jvm.Cond.privateMethod ({ cls := "GallRegister$Reader", name := "newInk", desc := "()V" } : Jvm.MethodName)) ∈ lw_tbl := lw_at lw_m3 96 rfl
theorem q702 : (Jvm.Cond.instanceMethod ({ cls := "GallRegister$Reader", name := "newInk", desc := "()V" } : Jvm.MethodName)) ∈ lw_all := lw_g (lw_at lw_m3 97 rfl) rfl
theorem q703 : (Jvm.Cond.code ({ cls := "GallRegister$Reader", name := "newInk", desc := "()V" } : Jvm.MethodName) prog_8_method_11_code (2 : Nat) (Option.none : Option Jvm.ClassFile.FieldType)) ∈ lw_all := lw_g (lw_at lw_m3 98 rfl) rfl
theorem q704 : (Jvm.Cond.stringRef "GallRegister$Reader" (138 : Nat) "rise") ∈ lw_tbl := lw_at lw_m3 99 rfl
theorem q705 : (Jvm.Cond.stringRef "GallRegister$Reader" (142 : Nat) "top") ∈ lw_tbl := lw_at lw_m3 100 rfl
theorem q706 : (Jvm.Cond.stringRef "GallRegister$Reader" (146 : Nat) "fade") ∈ lw_tbl := lw_at lw_m3 101 rfl
theorem q707 : (Jvm.Cond.stringRef "GallRegister$Reader" (183 : Nat) "page") ∈ lw_tbl := lw_at lw_m3 102 rfl
theorem q708 : (Jvm.Cond.methodLink "GallRegister$Reader" (184 : Nat) ({ cls := "GallRegister$Reader", name := "newPage", desc := "()V" } : Jvm.MethodName)) ∈ lw_all := lw_g (lw_at lw_m3 103 rfl) rfl
theorem q709 : (Jvm.Cond.privateMethod ({ cls := "GallRegister$Reader", name := "newPage", desc := "()V" } : Jvm.MethodName)) ∈ lw_tbl := lw_at lw_m3 104 rfl
theorem q710 : (Jvm.Cond.instanceMethod ({ cls := "GallRegister$Reader", name := "newPage", desc := "()V" } : Jvm.MethodName)) ∈ lw_all := lw_g (lw_at lw_m3 105 rfl) rfl
theorem q711 : (Jvm.Cond.code ({ cls := "GallRegister$Reader", name := "newPage", desc := "()V" } : Jvm.MethodName) prog_8_method_12_code (1 : Nat) (Option.none : Option Jvm.ClassFile.FieldType)) ∈ lw_all := lw_g (lw_at lw_m3 106 rfl) rfl
theorem q712 : (Jvm.Cond.stringRef "GallRegister$Reader" (147 : Nat) "damp") ∈ lw_tbl := lw_at lw_m3 107 rfl
theorem q713 : (Jvm.Cond.stringRef "GallRegister$Reader" (187 : Nat) "entry") ∈ lw_tbl := lw_at lw_m3 108 rfl
theorem q714 : (Jvm.Cond.methodLink "GallRegister$Reader" (189 : Nat) ({ cls := "GallRegister$Reader", name := "newEntry", desc := "()V" } : Jvm.MethodName)) ∈ lw_all := lw_g (lw_at lw_m3 109 rfl) rfl
theorem q715 : (Jvm.Cond.privateMethod ({ cls := "GallRegister$Reader", name := "newEntry", desc := "()V" } : Jvm.MethodName)) ∈ lw_tbl := lw_at lw_m3 110 rfl
theorem q716 : (Jvm.Cond.instanceMethod ({ cls := "GallRegister$Reader", name := "newEntry", desc := "()V" } : Jvm.MethodName)) ∈ lw_all := lw_g (lw_at lw_m3 111 rfl) rfl
theorem q717 : (Jvm.Cond.code ({ cls := "GallRegister$Reader", name := "newEntry", desc := "()V" } : Jvm.MethodName) prog_8_method_13_code (2 : Nat) (Option.none : Option Jvm.ClassFile.FieldType)) ∈ lw_all := lw_g (lw_at lw_m3 112 rfl) rfl
theorem q718 : (Jvm.Cond.stringRef "GallRegister$Reader" (160 : Nat) "on") ∈ lw_tbl := lw_at lw_m3 113 rfl
theorem q719 : (Jvm.Cond.stringRef "GallRegister$Reader" (165 : Nat) "in") ∈ lw_tbl := lw_at lw_m3 114 rfl
theorem q720 : (Jvm.Cond.stringRef "GallRegister$Reader" (170 : Nat) "wrote") ∈ lw_tbl := lw_at lw_m3 115 rfl
theorem q721 : (Jvm.Cond.stringRef "GallRegister$Reader" (174 : Nat) "says") ∈ lw_tbl := lw_at lw_m3 116 rfl
theorem q1343 : (Jvm.Cond.selects "GallRegister$Reader" ({ cls := "java/lang/Object", name := "getClass", desc := "()Ljava/lang/Class;" } : Jvm.MethodName) ({ cls := "java/lang/Object", name := "getClass", desc := "()Ljava/lang/Class;" } : Jvm.MethodName)) ∈ lw_all := lw_g (lw_at lw_m6 18 rfl) rfl
theorem q2255 : (Jvm.Cond.castable "GallRegister$Reader" "java/lang/Object") ∈ lw_tbl := lw_at lw_m9 210 rfl
theorem in_X8 : ∀ w ∈ wsX80, w ∈ lw_all := lw_in wsX80 [508, 510, 512, 514, 516, 518, 520] (by decide +kernel) (by decide +kernel)
/-! GallRegister$Fault -/
set_option maxRecDepth 100000
def RX9 : String := "GallRegister$Fault"
def TX9 : u_T := fun k => match k with
  | 0 => ("java/lang/Throwable", "cause", "Ljava/lang/Throwable;", false)
  | 1 => ("java/lang/Throwable", "stackTrace", "[Ljava/lang/StackTraceElement;", false)
  | 2 => ("java/lang/Throwable", "suppressedExceptions", "Ljava/util/List;", false)
  | 3 => ("java/lang/Throwable", "detailMessage", "Ljava/lang/String;", false)
  | 4 => ("java/lang/Throwable", "backtrace", "Ljava/lang/Object;", false)
  | 5 => ("java/lang/Throwable", "depth", "I", false)
  | 6 => ("GallRegister$Fault", "kind", "I", true)
  | _ => ("GallRegister$Fault", "place", "I", true)
def tyX9 : Nat → FieldType := fun k => match k with
  | 0 => .object "java/lang/Throwable"
  | 1 => .array (.object "java/lang/StackTraceElement")
  | 2 => .object "java/util/List"
  | 3 => .object "java/lang/String"
  | 4 => .object "java/lang/Object"
  | 5 => .int
  | 6 => .int
  | _ => .int
abbrev wsX90 : List Cond := u_ws RX9 TX9 8
theorem nmX9 : ∀ a, a < 8 → ∀ b, b < 8 → a ≠ b → (TX9 a).2.1 ≠ (TX9 b).2.1 := by decide +kernel
theorem tyX9_ok : ∀ k, k < 8 → parseFieldDescriptor (TX9 k).2.2.1 = some (tyX9 k) := by decide +kernel
abbrev cX9_init : ByteArray := prog_6_method_1_code
def yX9_init : MethodName := ⟨RX9, "<init>", "(II)V"⟩
def dkwX9_init_0 : List UInt8 := [42, 1, 1, 3, 3, 183, 0, 1, 42, 27, 181, 0, 7, 42, 28, 181, 0, 13, 177]
abbrev dktX9_init_0 : List UInt8 := dkwX9_init_0 ++ []
theorem dksX9_init_0 : cX9_init.data.toList.drop 0 = dktX9_init_0 := by decide +kernel
theorem dX9_init_0 : decode cX9_init 0 = .ok (.aload_n 0, 1) := dk_42 (dk_at dksX9_init_0 0 rfl rfl)
theorem dX9_init_1 : decode cX9_init 1 = .ok (.aconst_null, 1) := dk_1 (dk_at dksX9_init_0 1 rfl rfl)
theorem dX9_init_2 : decode cX9_init 2 = .ok (.aconst_null, 1) := dk_1 (dk_at dksX9_init_0 2 rfl rfl)
theorem dX9_init_3 : decode cX9_init 3 = .ok (.iconst 0, 1) := dk_3 (dk_at dksX9_init_0 3 rfl rfl)
theorem dX9_init_4 : decode cX9_init 4 = .ok (.iconst 0, 1) := dk_3 (dk_at dksX9_init_0 4 rfl rfl)
theorem dX9_init_5 : decode cX9_init 5 = .ok (.invokespecial 1, 3) := dk_183 0 1 (dk_at dksX9_init_0 5 rfl rfl)
theorem dX9_init_8 : decode cX9_init 8 = .ok (.aload_n 0, 1) := dk_42 (dk_at dksX9_init_0 8 rfl rfl)
theorem dX9_init_9 : decode cX9_init 9 = .ok (.iload_n 1, 1) := dk_27 (dk_at dksX9_init_0 9 rfl rfl)
theorem dX9_init_10 : decode cX9_init 10 = .ok (.putfield 7, 3) := dk_181 0 7 (dk_at dksX9_init_0 10 rfl rfl)
theorem dX9_init_13 : decode cX9_init 13 = .ok (.aload_n 0, 1) := dk_42 (dk_at dksX9_init_0 13 rfl rfl)
theorem dX9_init_14 : decode cX9_init 14 = .ok (.iload_n 2, 1) := dk_28 (dk_at dksX9_init_0 14 rfl rfl)
theorem dX9_init_15 : decode cX9_init 15 = .ok (.putfield 13, 3) := dk_181 0 13 (dk_at dksX9_init_0 15 rfl rfl)
theorem dX9_init_18 : decode cX9_init 18 = .ok (.return_, 1) := dk_177 (dk_at dksX9_init_0 18 rfl rfl)
theorem q147 : (Jvm.Cond.initialized "GallRegister$Fault") ∈ lw_all := lw_g (lw_at lw_m1 22 rfl) rfl
theorem q597 : (Jvm.Cond.instantiable "GallRegister$Fault" (8 : Nat)) ∈ lw_all := lw_g (lw_at lw_m2 232 rfl) rfl
theorem q598 : (Jvm.Cond.castable "GallRegister$Fault" "GallRegister$Fault") ∈ lw_tbl := lw_at lw_m2 233 rfl
theorem q603 : (Jvm.Cond.selects "GallRegister$Fault" ({ cls := "java/lang/Throwable", name := "fillInStackTrace", desc := "(I)Ljava/lang/Throwable;" } : Jvm.MethodName) ({ cls := "java/lang/Throwable", name := "fillInStackTrace", desc := "(I)Ljava/lang/Throwable;" } : Jvm.MethodName)) ∈ lw_all := lw_g (lw_at lw_m2 238 rfl) rfl
theorem q604 : (Jvm.Cond.selects "GallRegister$Fault" ({ cls := "java/lang/Throwable", name := "fillInStackTrace", desc := "()Ljava/lang/Throwable;" } : Jvm.MethodName) ({ cls := "java/lang/Throwable", name := "fillInStackTrace", desc := "()Ljava/lang/Throwable;" } : Jvm.MethodName)) ∈ lw_all := lw_g (lw_at lw_m2 239 rfl) rfl
theorem q605 : (Jvm.Cond.lays "GallRegister$Fault" "java/lang/Throwable" "cause" "Ljava/lang/Throwable;") ∈ lw_all := lw_g (lw_at lw_m3 0 rfl) rfl
theorem q607 : (Jvm.Cond.lays "GallRegister$Fault" "java/lang/Throwable" "stackTrace" "[Ljava/lang/StackTraceElement;") ∈ lw_all := lw_g (lw_at lw_m3 2 rfl) rfl
theorem q609 : (Jvm.Cond.lays "GallRegister$Fault" "java/lang/Throwable" "suppressedExceptions" "Ljava/util/List;") ∈ lw_all := lw_g (lw_at lw_m3 4 rfl) rfl
theorem q611 : (Jvm.Cond.lays "GallRegister$Fault" "java/lang/Throwable" "detailMessage" "Ljava/lang/String;") ∈ lw_all := lw_g (lw_at lw_m3 6 rfl) rfl
theorem q613 : (Jvm.Cond.lays "GallRegister$Fault" "java/lang/Throwable" "backtrace" "Ljava/lang/Object;") ∈ lw_all := lw_g (lw_at lw_m3 8 rfl) rfl
theorem q651 : (Jvm.Cond.instanceMethod ({ cls := "GallRegister$Fault", name := "<init>", desc := "(II)V" } : Jvm.MethodName)) ∈ lw_all := lw_g (lw_at lw_m3 46 rfl) rfl
theorem q652 : (Jvm.Cond.code ({ cls := "GallRegister$Fault", name := "<init>", desc := "(II)V" } : Jvm.MethodName) prog_6_method_1_code (3 : Nat) (Option.none : Option Jvm.ClassFile.FieldType)) ∈ lw_all := lw_g (lw_at lw_m3 47 rfl) rfl
theorem q653 : (Jvm.Cond.methodLink "GallRegister$Fault" (1 : Nat) ({ cls := "java/lang/Exception", name := "<init>", desc := "(Ljava/lang/String;Ljava/lang/Throwable;ZZ)V" } : Jvm.MethodName)) ∈ lw_all := lw_g (lw_at lw_m3 48 rfl) rfl
theorem q659 : (Jvm.Cond.fieldLink "GallRegister$Fault" (7 : Nat) "GallRegister$Fault" "kind" "I") ∈ lw_all := lw_g (lw_at lw_m3 54 rfl) rfl
theorem q661 : (Jvm.Cond.fieldLink "GallRegister$Fault" (13 : Nat) "GallRegister$Fault" "place" "I") ∈ lw_all := lw_g (lw_at lw_m3 56 rfl) rfl
theorem q668 : (Jvm.Cond.laysFinal "GallRegister$Fault" "GallRegister$Fault" "kind" "I") ∈ lw_all := lw_g (lw_at lw_m3 63 rfl) rfl
theorem q669 : (Jvm.Cond.soleField "GallRegister$Fault" "kind") ∈ lw_all := lw_g (lw_at lw_m3 64 rfl) rfl
theorem q670 : (Jvm.Cond.laysFinal "GallRegister$Fault" "GallRegister$Fault" "place" "I") ∈ lw_all := lw_g (lw_at lw_m3 65 rfl) rfl
theorem q671 : (Jvm.Cond.soleField "GallRegister$Fault" "place") ∈ lw_all := lw_g (lw_at lw_m3 66 rfl) rfl
theorem q676 : (Jvm.Cond.lays "GallRegister$Fault" "java/lang/Throwable" "depth" "I") ∈ lw_all := lw_g (lw_at lw_m3 71 rfl) rfl
theorem q679 : (Jvm.Cond.superclass "GallRegister$Fault" "java/lang/Exception") ∈ lw_all := lw_g (lw_at lw_m3 74 rfl) rfl
theorem q1341 : (Jvm.Cond.selects "GallRegister$Fault" ({ cls := "java/lang/Object", name := "getClass", desc := "()Ljava/lang/Class;" } : Jvm.MethodName) ({ cls := "java/lang/Object", name := "getClass", desc := "()Ljava/lang/Class;" } : Jvm.MethodName)) ∈ lw_all := lw_g (lw_at lw_m6 16 rfl) rfl
theorem q2257 : (Jvm.Cond.castable "GallRegister$Fault" "java/lang/Object") ∈ lw_tbl := lw_at lw_m9 212 rfl
theorem in_X9 : ∀ w ∈ wsX90, w ∈ lw_all := lw_in wsX90 [605, 607, 609, 611, 613, 676, 668, 670] (by decide +kernel) (by decide +kernel)
/-! java/util/AbstractCollection -/
set_option maxRecDepth 100000
def RJ0 : String := "java/util/AbstractCollection"
abbrev cJ0_init : ByteArray := prog_35_method_1_code
def yJ0_init : MethodName := ⟨RJ0, "<init>", "()V"⟩
theorem dJ0_init_0 : decode cJ0_init 0 = .ok (.aload_n 0, 1) := by decide +kernel
theorem dJ0_init_1 : decode cJ0_init 1 = .ok (.invokespecial 1, 3) := by decide +kernel
theorem dJ0_init_4 : decode cJ0_init 4 = .ok (.return_, 1) := by decide +kernel
theorem q133 : (Jvm.Cond.initialized "java/util/AbstractCollection") ∈ lw_all := lw_g (lw_at lw_m1 8 rfl) rfl
theorem q327 : (Jvm.Cond.instanceMethod ({ cls := "java/util/AbstractCollection", name := "<init>", desc := "()V" } : Jvm.MethodName)) ∈ lw_all := lw_g (lw_at lw_m1 202 rfl) rfl
theorem q328 : (Jvm.Cond.code ({ cls := "java/util/AbstractCollection", name := "<init>", desc := "()V" } : Jvm.MethodName) prog_35_method_1_code (1 : Nat) (Option.none : Option Jvm.ClassFile.FieldType)) ∈ lw_all := lw_g (lw_at lw_m1 203 rfl) rfl
theorem q329 : (Jvm.Cond.methodLink "java/util/AbstractCollection" (1 : Nat) ({ cls := "java/lang/Object", name := "<init>", desc := "()V" } : Jvm.MethodName)) ∈ lw_all := lw_g (lw_at lw_m1 204 rfl) rfl
/-! java/util/AbstractList -/
set_option maxRecDepth 100000
def RJ1 : String := "java/util/AbstractList"
abbrev cJ1_init : ByteArray := prog_36_method_1_code
def yJ1_init : MethodName := ⟨RJ1, "<init>", "()V"⟩
def dkwJ1_init_0 : List UInt8 := [42, 183, 0, 1, 42, 3, 181, 0, 7, 177]
abbrev dktJ1_init_0 : List UInt8 := dkwJ1_init_0 ++ []
theorem dksJ1_init_0 : cJ1_init.data.toList.drop 0 = dktJ1_init_0 := by decide +kernel
theorem dJ1_init_0 : decode cJ1_init 0 = .ok (.aload_n 0, 1) := dk_42 (dk_at dksJ1_init_0 0 rfl rfl)
theorem dJ1_init_1 : decode cJ1_init 1 = .ok (.invokespecial 1, 3) := dk_183 0 1 (dk_at dksJ1_init_0 1 rfl rfl)
theorem dJ1_init_4 : decode cJ1_init 4 = .ok (.aload_n 0, 1) := dk_42 (dk_at dksJ1_init_0 4 rfl rfl)
theorem dJ1_init_5 : decode cJ1_init 5 = .ok (.iconst 0, 1) := dk_3 (dk_at dksJ1_init_0 5 rfl rfl)
theorem dJ1_init_6 : decode cJ1_init 6 = .ok (.putfield 7, 3) := dk_181 0 7 (dk_at dksJ1_init_0 6 rfl rfl)
theorem dJ1_init_9 : decode cJ1_init 9 = .ok (.return_, 1) := dk_177 (dk_at dksJ1_init_0 9 rfl rfl)
theorem q134 : (Jvm.Cond.initialized "java/util/AbstractList") ∈ lw_all := lw_g (lw_at lw_m1 9 rfl) rfl
theorem q324 : (Jvm.Cond.instanceMethod ({ cls := "java/util/AbstractList", name := "<init>", desc := "()V" } : Jvm.MethodName)) ∈ lw_all := lw_g (lw_at lw_m1 199 rfl) rfl
theorem q325 : (Jvm.Cond.code ({ cls := "java/util/AbstractList", name := "<init>", desc := "()V" } : Jvm.MethodName) prog_36_method_1_code (1 : Nat) (Option.none : Option Jvm.ClassFile.FieldType)) ∈ lw_all := lw_g (lw_at lw_m1 200 rfl) rfl
theorem q326 : (Jvm.Cond.methodLink "java/util/AbstractList" (1 : Nat) ({ cls := "java/util/AbstractCollection", name := "<init>", desc := "()V" } : Jvm.MethodName)) ∈ lw_all := lw_g (lw_at lw_m1 201 rfl) rfl
theorem q334 : (Jvm.Cond.fieldLink "java/util/AbstractList" (7 : Nat) "java/util/AbstractList" "modCount" "I") ∈ lw_all := lw_g (lw_at lw_m1 209 rfl) rfl
theorem q342 : (Jvm.Cond.soleField "java/util/AbstractList" "modCount") ∈ lw_all := lw_g (lw_at lw_m1 217 rfl) rfl
/-! java/util/ArrayList -/
set_option maxRecDepth 100000
def RJ2 : String := "java/util/ArrayList"
def TJ2 : u_T := fun k => match k with
  | 0 => ("java/util/AbstractList", "modCount", "I", false)
  | 1 => ("java/util/ArrayList", "elementData", "[Ljava/lang/Object;", false)
  | _ => ("java/util/ArrayList", "size", "I", false)
def tyJ2 : Nat → FieldType := fun k => match k with
  | 0 => .int
  | 1 => .array (.object "java/lang/Object")
  | _ => .int
abbrev wsJ20 : List Cond := u_ws RJ2 TJ2 3
theorem nmJ2 : ∀ a, a < 3 → ∀ b, b < 3 → a ≠ b → (TJ2 a).2.1 ≠ (TJ2 b).2.1 := by decide +kernel
theorem tyJ2_ok : ∀ k, k < 3 → parseFieldDescriptor (TJ2 k).2.2.1 = some (tyJ2 k) := by decide +kernel
abbrev cJ2_init : ByteArray := prog_37_method_2_code
def yJ2_init : MethodName := ⟨RJ2, "<init>", "()V"⟩
def dkwJ2_init_0 : List UInt8 := [42, 183, 0, 1, 42, 178, 0, 39, 181, 0, 9, 177]
abbrev dktJ2_init_0 : List UInt8 := dkwJ2_init_0 ++ []
theorem dksJ2_init_0 : cJ2_init.data.toList.drop 0 = dktJ2_init_0 := by decide +kernel
theorem dJ2_init_0 : decode cJ2_init 0 = .ok (.aload_n 0, 1) := dk_42 (dk_at dksJ2_init_0 0 rfl rfl)
theorem dJ2_init_1 : decode cJ2_init 1 = .ok (.invokespecial 1, 3) := dk_183 0 1 (dk_at dksJ2_init_0 1 rfl rfl)
theorem dJ2_init_4 : decode cJ2_init 4 = .ok (.aload_n 0, 1) := dk_42 (dk_at dksJ2_init_0 4 rfl rfl)
theorem dJ2_init_5 : decode cJ2_init 5 = .ok (.getstatic 39, 3) := dk_178 0 39 (dk_at dksJ2_init_0 5 rfl rfl)
theorem dJ2_init_8 : decode cJ2_init 8 = .ok (.putfield 9, 3) := dk_181 0 9 (dk_at dksJ2_init_0 8 rfl rfl)
theorem dJ2_init_11 : decode cJ2_init 11 = .ok (.return_, 1) := dk_177 (dk_at dksJ2_init_0 11 rfl rfl)
abbrev cJ2_size : ByteArray := prog_37_method_8_code
def yJ2_size : MethodName := ⟨RJ2, "size", "()I"⟩
theorem dJ2_size_0 : decode cJ2_size 0 = .ok (.aload_n 0, 1) := by decide +kernel
theorem dJ2_size_1 : decode cJ2_size 1 = .ok (.getfield 48, 3) := by decide +kernel
theorem dJ2_size_4 : decode cJ2_size 4 = .ok (.ireturn, 1) := by decide +kernel
abbrev cJ2_add : ByteArray := prog_37_method_25_code
def yJ2_add : MethodName := ⟨RJ2, "add", "(Ljava/lang/Object;)Z"⟩
def dkwJ2_add_1 : List UInt8 := [172]
abbrev dktJ2_add_1 : List UInt8 := dkwJ2_add_1 ++ []
def dkwJ2_add_0 : List UInt8 := [42, 89, 180, 0, 63, 4, 96, 181, 0, 63, 42, 43, 42, 180, 0, 9, 42, 180, 0, 48, 182, 0, 131, 4]
abbrev dktJ2_add_0 : List UInt8 := dkwJ2_add_0 ++ dktJ2_add_1
theorem dksJ2_add_0 : cJ2_add.data.toList.drop 0 = dktJ2_add_0 := by decide +kernel
theorem dksJ2_add_1 : cJ2_add.data.toList.drop 24 = dktJ2_add_1 := dk_seg dksJ2_add_0 24 rfl rfl
theorem dJ2_add_0 : decode cJ2_add 0 = .ok (.aload_n 0, 1) := dk_42 (dk_at dksJ2_add_0 0 rfl rfl)
theorem dJ2_add_1 : decode cJ2_add 1 = .ok (.dup, 1) := dk_89 (dk_at dksJ2_add_0 1 rfl rfl)
theorem dJ2_add_2 : decode cJ2_add 2 = .ok (.getfield 63, 3) := dk_180 0 63 (dk_at dksJ2_add_0 2 rfl rfl)
theorem dJ2_add_5 : decode cJ2_add 5 = .ok (.iconst 1, 1) := dk_4 (dk_at dksJ2_add_0 5 rfl rfl)
theorem dJ2_add_6 : decode cJ2_add 6 = .ok (.iadd, 1) := dk_96 (dk_at dksJ2_add_0 6 rfl rfl)
theorem dJ2_add_7 : decode cJ2_add 7 = .ok (.putfield 63, 3) := dk_181 0 63 (dk_at dksJ2_add_0 7 rfl rfl)
theorem dJ2_add_10 : decode cJ2_add 10 = .ok (.aload_n 0, 1) := dk_42 (dk_at dksJ2_add_0 10 rfl rfl)
theorem dJ2_add_11 : decode cJ2_add 11 = .ok (.aload_n 1, 1) := dk_43 (dk_at dksJ2_add_0 11 rfl rfl)
theorem dJ2_add_12 : decode cJ2_add 12 = .ok (.aload_n 0, 1) := dk_42 (dk_at dksJ2_add_0 12 rfl rfl)
theorem dJ2_add_13 : decode cJ2_add 13 = .ok (.getfield 9, 3) := dk_180 0 9 (dk_at dksJ2_add_0 13 rfl rfl)
theorem dJ2_add_16 : decode cJ2_add 16 = .ok (.aload_n 0, 1) := dk_42 (dk_at dksJ2_add_0 16 rfl rfl)
theorem dJ2_add_17 : decode cJ2_add 17 = .ok (.getfield 48, 3) := dk_180 0 48 (dk_at dksJ2_add_0 17 rfl rfl)
theorem dJ2_add_20 : decode cJ2_add 20 = .ok (.invokevirtual 131, 3) := dk_182 0 131 (dk_at dksJ2_add_0 20 rfl rfl)
theorem dJ2_add_23 : decode cJ2_add 23 = .ok (.iconst 1, 1) := dk_4 (dk_at dksJ2_add_0 23 rfl rfl)
theorem dJ2_add_24 : decode cJ2_add 24 = .ok (.ireturn, 1) := dk_172 (dk_at dksJ2_add_1 0 rfl rfl)
abbrev cJ2_add_2 : ByteArray := prog_37_method_24_code
def yJ2_add_2 : MethodName := ⟨RJ2, "add", "(Ljava/lang/Object;[Ljava/lang/Object;I)V"⟩
def dkwJ2_add_2_0 : List UInt8 := [29, 44, 190, 160, 0, 8, 42, 182, 0, 129, 77, 44, 29, 43, 83, 42, 29, 4, 96, 181, 0, 48, 177]
abbrev dktJ2_add_2_0 : List UInt8 := dkwJ2_add_2_0 ++ []
theorem dksJ2_add_2_0 : cJ2_add_2.data.toList.drop 0 = dktJ2_add_2_0 := by decide +kernel
theorem dJ2_add_2_0 : decode cJ2_add_2 0 = .ok (.iload_n 3, 1) := dk_29 (dk_at dksJ2_add_2_0 0 rfl rfl)
theorem dJ2_add_2_1 : decode cJ2_add_2 1 = .ok (.aload_n 2, 1) := dk_44 (dk_at dksJ2_add_2_0 1 rfl rfl)
theorem dJ2_add_2_2 : decode cJ2_add_2 2 = .ok (.arraylength, 1) := dk_190 (dk_at dksJ2_add_2_0 2 rfl rfl)
theorem dJ2_add_2_3 : decode cJ2_add_2 3 = .ok (.if_icmp .ne 8, 3) := dk_160 0 8 (dk_at dksJ2_add_2_0 3 rfl rfl)
theorem dJ2_add_2_6 : decode cJ2_add_2 6 = .ok (.aload_n 0, 1) := dk_42 (dk_at dksJ2_add_2_0 6 rfl rfl)
theorem dJ2_add_2_7 : decode cJ2_add_2 7 = .ok (.invokevirtual 129, 3) := dk_182 0 129 (dk_at dksJ2_add_2_0 7 rfl rfl)
theorem dJ2_add_2_10 : decode cJ2_add_2 10 = .ok (.astore_n 2, 1) := dk_77 (dk_at dksJ2_add_2_0 10 rfl rfl)
theorem dJ2_add_2_11 : decode cJ2_add_2 11 = .ok (.aload_n 2, 1) := dk_44 (dk_at dksJ2_add_2_0 11 rfl rfl)
theorem dJ2_add_2_12 : decode cJ2_add_2 12 = .ok (.iload_n 3, 1) := dk_29 (dk_at dksJ2_add_2_0 12 rfl rfl)
theorem dJ2_add_2_13 : decode cJ2_add_2 13 = .ok (.aload_n 1, 1) := dk_43 (dk_at dksJ2_add_2_0 13 rfl rfl)
theorem dJ2_add_2_14 : decode cJ2_add_2 14 = .ok (.aastore, 1) := dk_83 (dk_at dksJ2_add_2_0 14 rfl rfl)
theorem dJ2_add_2_15 : decode cJ2_add_2 15 = .ok (.aload_n 0, 1) := dk_42 (dk_at dksJ2_add_2_0 15 rfl rfl)
theorem dJ2_add_2_16 : decode cJ2_add_2 16 = .ok (.iload_n 3, 1) := dk_29 (dk_at dksJ2_add_2_0 16 rfl rfl)
theorem dJ2_add_2_17 : decode cJ2_add_2 17 = .ok (.iconst 1, 1) := dk_4 (dk_at dksJ2_add_2_0 17 rfl rfl)
theorem dJ2_add_2_18 : decode cJ2_add_2 18 = .ok (.iadd, 1) := dk_96 (dk_at dksJ2_add_2_0 18 rfl rfl)
theorem dJ2_add_2_19 : decode cJ2_add_2 19 = .ok (.putfield 48, 3) := dk_181 0 48 (dk_at dksJ2_add_2_0 19 rfl rfl)
theorem dJ2_add_2_22 : decode cJ2_add_2 22 = .ok (.return_, 1) := dk_177 (dk_at dksJ2_add_2_0 22 rfl rfl)
abbrev cJ2_grow : ByteArray := prog_37_method_7_code
def yJ2_grow : MethodName := ⟨RJ2, "grow", "()[Ljava/lang/Object;"⟩
def dkwJ2_grow_0 : List UInt8 := [42, 42, 180, 0, 48, 4, 96, 182, 0, 69, 176]
abbrev dktJ2_grow_0 : List UInt8 := dkwJ2_grow_0 ++ []
theorem dksJ2_grow_0 : cJ2_grow.data.toList.drop 0 = dktJ2_grow_0 := by decide +kernel
theorem dJ2_grow_0 : decode cJ2_grow 0 = .ok (.aload_n 0, 1) := dk_42 (dk_at dksJ2_grow_0 0 rfl rfl)
theorem dJ2_grow_1 : decode cJ2_grow 1 = .ok (.aload_n 0, 1) := dk_42 (dk_at dksJ2_grow_0 1 rfl rfl)
theorem dJ2_grow_2 : decode cJ2_grow 2 = .ok (.getfield 48, 3) := dk_180 0 48 (dk_at dksJ2_grow_0 2 rfl rfl)
theorem dJ2_grow_5 : decode cJ2_grow 5 = .ok (.iconst 1, 1) := dk_4 (dk_at dksJ2_grow_0 5 rfl rfl)
theorem dJ2_grow_6 : decode cJ2_grow 6 = .ok (.iadd, 1) := dk_96 (dk_at dksJ2_grow_0 6 rfl rfl)
theorem dJ2_grow_7 : decode cJ2_grow 7 = .ok (.invokevirtual 69, 3) := dk_182 0 69 (dk_at dksJ2_grow_0 7 rfl rfl)
theorem dJ2_grow_10 : decode cJ2_grow 10 = .ok (.areturn, 1) := dk_176 (dk_at dksJ2_grow_0 10 rfl rfl)
abbrev cJ2_grow_2 : ByteArray := prog_37_method_6_code
def yJ2_grow_2 : MethodName := ⟨RJ2, "grow", "(I)[Ljava/lang/Object;"⟩
def dkwJ2_grow_2_2 : List UInt8 := [27, 184, 0, 79, 189, 0, 7, 90, 181, 0, 9, 176]
abbrev dktJ2_grow_2_2 : List UInt8 := dkwJ2_grow_2_2 ++ []
def dkwJ2_grow_2_1 : List UInt8 := [28, 4, 122, 184, 0, 73, 62, 42, 42, 180, 0, 9, 29, 184, 0, 66, 90, 181, 0, 9, 176, 42, 16, 10]
abbrev dktJ2_grow_2_1 : List UInt8 := dkwJ2_grow_2_1 ++ dktJ2_grow_2_2
def dkwJ2_grow_2_0 : List UInt8 := [42, 180, 0, 9, 190, 61, 28, 157, 0, 13, 42, 180, 0, 9, 178, 0, 39, 165, 0, 28, 28, 27, 28, 100]
abbrev dktJ2_grow_2_0 : List UInt8 := dkwJ2_grow_2_0 ++ dktJ2_grow_2_1
theorem dksJ2_grow_2_0 : cJ2_grow_2.data.toList.drop 0 = dktJ2_grow_2_0 := by decide +kernel
theorem dksJ2_grow_2_1 : cJ2_grow_2.data.toList.drop 24 = dktJ2_grow_2_1 := dk_seg dksJ2_grow_2_0 24 rfl rfl
theorem dksJ2_grow_2_2 : cJ2_grow_2.data.toList.drop 48 = dktJ2_grow_2_2 := dk_seg dksJ2_grow_2_1 24 rfl rfl
theorem dJ2_grow_2_0 : decode cJ2_grow_2 0 = .ok (.aload_n 0, 1) := dk_42 (dk_at dksJ2_grow_2_0 0 rfl rfl)
theorem dJ2_grow_2_1 : decode cJ2_grow_2 1 = .ok (.getfield 9, 3) := dk_180 0 9 (dk_at dksJ2_grow_2_0 1 rfl rfl)
theorem dJ2_grow_2_4 : decode cJ2_grow_2 4 = .ok (.arraylength, 1) := dk_190 (dk_at dksJ2_grow_2_0 4 rfl rfl)
theorem dJ2_grow_2_5 : decode cJ2_grow_2 5 = .ok (.istore_n 2, 1) := dk_61 (dk_at dksJ2_grow_2_0 5 rfl rfl)
theorem dJ2_grow_2_6 : decode cJ2_grow_2 6 = .ok (.iload_n 2, 1) := dk_28 (dk_at dksJ2_grow_2_0 6 rfl rfl)
theorem dJ2_grow_2_7 : decode cJ2_grow_2 7 = .ok (.ifCond .gt 13, 3) := dk_157 0 13 (dk_at dksJ2_grow_2_0 7 rfl rfl)
theorem dJ2_grow_2_10 : decode cJ2_grow_2 10 = .ok (.aload_n 0, 1) := dk_42 (dk_at dksJ2_grow_2_0 10 rfl rfl)
theorem dJ2_grow_2_11 : decode cJ2_grow_2 11 = .ok (.getfield 9, 3) := dk_180 0 9 (dk_at dksJ2_grow_2_0 11 rfl rfl)
theorem dJ2_grow_2_14 : decode cJ2_grow_2 14 = .ok (.getstatic 39, 3) := dk_178 0 39 (dk_at dksJ2_grow_2_0 14 rfl rfl)
theorem dJ2_grow_2_17 : decode cJ2_grow_2 17 = .ok (.if_acmp .eq 28, 3) := dk_165 0 28 (dk_at dksJ2_grow_2_0 17 rfl rfl)
theorem dJ2_grow_2_20 : decode cJ2_grow_2 20 = .ok (.iload_n 2, 1) := dk_28 (dk_at dksJ2_grow_2_0 20 rfl rfl)
theorem dJ2_grow_2_21 : decode cJ2_grow_2 21 = .ok (.iload_n 1, 1) := dk_27 (dk_at dksJ2_grow_2_0 21 rfl rfl)
theorem dJ2_grow_2_22 : decode cJ2_grow_2 22 = .ok (.iload_n 2, 1) := dk_28 (dk_at dksJ2_grow_2_0 22 rfl rfl)
theorem dJ2_grow_2_23 : decode cJ2_grow_2 23 = .ok (.isub, 1) := dk_100 (dk_at dksJ2_grow_2_0 23 rfl rfl)
theorem dJ2_grow_2_24 : decode cJ2_grow_2 24 = .ok (.iload_n 2, 1) := dk_28 (dk_at dksJ2_grow_2_1 0 rfl rfl)
theorem dJ2_grow_2_25 : decode cJ2_grow_2 25 = .ok (.iconst 1, 1) := dk_4 (dk_at dksJ2_grow_2_1 1 rfl rfl)
theorem dJ2_grow_2_26 : decode cJ2_grow_2 26 = .ok (.ishr, 1) := dk_122 (dk_at dksJ2_grow_2_1 2 rfl rfl)
theorem dJ2_grow_2_27 : decode cJ2_grow_2 27 = .ok (.invokestatic 73, 3) := dk_184 0 73 (dk_at dksJ2_grow_2_1 3 rfl rfl)
theorem dJ2_grow_2_30 : decode cJ2_grow_2 30 = .ok (.istore_n 3, 1) := dk_62 (dk_at dksJ2_grow_2_1 6 rfl rfl)
theorem dJ2_grow_2_31 : decode cJ2_grow_2 31 = .ok (.aload_n 0, 1) := dk_42 (dk_at dksJ2_grow_2_1 7 rfl rfl)
theorem dJ2_grow_2_32 : decode cJ2_grow_2 32 = .ok (.aload_n 0, 1) := dk_42 (dk_at dksJ2_grow_2_1 8 rfl rfl)
theorem dJ2_grow_2_33 : decode cJ2_grow_2 33 = .ok (.getfield 9, 3) := dk_180 0 9 (dk_at dksJ2_grow_2_1 9 rfl rfl)
theorem dJ2_grow_2_36 : decode cJ2_grow_2 36 = .ok (.iload_n 3, 1) := dk_29 (dk_at dksJ2_grow_2_1 12 rfl rfl)
theorem dJ2_grow_2_37 : decode cJ2_grow_2 37 = .ok (.invokestatic 66, 3) := dk_184 0 66 (dk_at dksJ2_grow_2_1 13 rfl rfl)
theorem dJ2_grow_2_40 : decode cJ2_grow_2 40 = .ok (.dup_x1, 1) := dk_90 (dk_at dksJ2_grow_2_1 16 rfl rfl)
theorem dJ2_grow_2_41 : decode cJ2_grow_2 41 = .ok (.putfield 9, 3) := dk_181 0 9 (dk_at dksJ2_grow_2_1 17 rfl rfl)
theorem dJ2_grow_2_44 : decode cJ2_grow_2 44 = .ok (.areturn, 1) := dk_176 (dk_at dksJ2_grow_2_1 20 rfl rfl)
theorem dJ2_grow_2_45 : decode cJ2_grow_2 45 = .ok (.aload_n 0, 1) := dk_42 (dk_at dksJ2_grow_2_1 21 rfl rfl)
theorem dJ2_grow_2_46 : decode cJ2_grow_2 46 = .ok (.bipush 10, 2) := dk_16 10 (dk_at dksJ2_grow_2_1 22 rfl rfl)
theorem dJ2_grow_2_48 : decode cJ2_grow_2 48 = .ok (.iload_n 1, 1) := dk_27 (dk_at dksJ2_grow_2_2 0 rfl rfl)
theorem dJ2_grow_2_49 : decode cJ2_grow_2 49 = .ok (.invokestatic 79, 3) := dk_184 0 79 (dk_at dksJ2_grow_2_2 1 rfl rfl)
theorem dJ2_grow_2_52 : decode cJ2_grow_2 52 = .ok (.anewarray 7, 3) := dk_189 0 7 (dk_at dksJ2_grow_2_2 4 rfl rfl)
theorem dJ2_grow_2_55 : decode cJ2_grow_2 55 = .ok (.dup_x1, 1) := dk_90 (dk_at dksJ2_grow_2_2 7 rfl rfl)
theorem dJ2_grow_2_56 : decode cJ2_grow_2 56 = .ok (.putfield 9, 3) := dk_181 0 9 (dk_at dksJ2_grow_2_2 8 rfl rfl)
theorem dJ2_grow_2_59 : decode cJ2_grow_2 59 = .ok (.areturn, 1) := dk_176 (dk_at dksJ2_grow_2_2 11 rfl rfl)
abbrev cJ2_set : ByteArray := prog_37_method_23_code
def yJ2_set : MethodName := ⟨RJ2, "set", "(ILjava/lang/Object;)Ljava/lang/Object;"⟩
def dkwJ2_set_0 : List UInt8 := [27, 42, 180, 0, 48, 184, 0, 118, 87, 42, 27, 182, 0, 123, 78, 42, 180, 0, 9, 27, 44, 83, 45, 176]
abbrev dktJ2_set_0 : List UInt8 := dkwJ2_set_0 ++ []
theorem dksJ2_set_0 : cJ2_set.data.toList.drop 0 = dktJ2_set_0 := by decide +kernel
theorem dJ2_set_0 : decode cJ2_set 0 = .ok (.iload_n 1, 1) := dk_27 (dk_at dksJ2_set_0 0 rfl rfl)
theorem dJ2_set_1 : decode cJ2_set 1 = .ok (.aload_n 0, 1) := dk_42 (dk_at dksJ2_set_0 1 rfl rfl)
theorem dJ2_set_2 : decode cJ2_set 2 = .ok (.getfield 48, 3) := dk_180 0 48 (dk_at dksJ2_set_0 2 rfl rfl)
theorem dJ2_set_5 : decode cJ2_set 5 = .ok (.invokestatic 118, 3) := dk_184 0 118 (dk_at dksJ2_set_0 5 rfl rfl)
theorem dJ2_set_8 : decode cJ2_set 8 = .ok (.pop, 1) := dk_87 (dk_at dksJ2_set_0 8 rfl rfl)
theorem dJ2_set_9 : decode cJ2_set 9 = .ok (.aload_n 0, 1) := dk_42 (dk_at dksJ2_set_0 9 rfl rfl)
theorem dJ2_set_10 : decode cJ2_set 10 = .ok (.iload_n 1, 1) := dk_27 (dk_at dksJ2_set_0 10 rfl rfl)
theorem dJ2_set_11 : decode cJ2_set 11 = .ok (.invokevirtual 123, 3) := dk_182 0 123 (dk_at dksJ2_set_0 11 rfl rfl)
theorem dJ2_set_14 : decode cJ2_set 14 = .ok (.astore_n 3, 1) := dk_78 (dk_at dksJ2_set_0 14 rfl rfl)
theorem dJ2_set_15 : decode cJ2_set 15 = .ok (.aload_n 0, 1) := dk_42 (dk_at dksJ2_set_0 15 rfl rfl)
theorem dJ2_set_16 : decode cJ2_set 16 = .ok (.getfield 9, 3) := dk_180 0 9 (dk_at dksJ2_set_0 16 rfl rfl)
theorem dJ2_set_19 : decode cJ2_set 19 = .ok (.iload_n 1, 1) := dk_27 (dk_at dksJ2_set_0 19 rfl rfl)
theorem dJ2_set_20 : decode cJ2_set 20 = .ok (.aload_n 2, 1) := dk_44 (dk_at dksJ2_set_0 20 rfl rfl)
theorem dJ2_set_21 : decode cJ2_set 21 = .ok (.aastore, 1) := dk_83 (dk_at dksJ2_set_0 21 rfl rfl)
theorem dJ2_set_22 : decode cJ2_set 22 = .ok (.aload_n 3, 1) := dk_45 (dk_at dksJ2_set_0 22 rfl rfl)
theorem dJ2_set_23 : decode cJ2_set 23 = .ok (.areturn, 1) := dk_176 (dk_at dksJ2_set_0 23 rfl rfl)
abbrev cJ2_elementData : ByteArray := prog_37_method_18_code
def yJ2_elementData : MethodName := ⟨RJ2, "elementData", "(I)Ljava/lang/Object;"⟩
def dkwJ2_elementData_0 : List UInt8 := [42, 180, 0, 9, 27, 50, 176]
abbrev dktJ2_elementData_0 : List UInt8 := dkwJ2_elementData_0 ++ []
theorem dksJ2_elementData_0 : cJ2_elementData.data.toList.drop 0 = dktJ2_elementData_0 := by decide +kernel
theorem dJ2_elementData_0 : decode cJ2_elementData 0 = .ok (.aload_n 0, 1) := dk_42 (dk_at dksJ2_elementData_0 0 rfl rfl)
theorem dJ2_elementData_1 : decode cJ2_elementData 1 = .ok (.getfield 9, 3) := dk_180 0 9 (dk_at dksJ2_elementData_0 1 rfl rfl)
theorem dJ2_elementData_4 : decode cJ2_elementData 4 = .ok (.iload_n 1, 1) := dk_27 (dk_at dksJ2_elementData_0 4 rfl rfl)
theorem dJ2_elementData_5 : decode cJ2_elementData 5 = .ok (.aaload, 1) := dk_50 (dk_at dksJ2_elementData_0 5 rfl rfl)
theorem dJ2_elementData_6 : decode cJ2_elementData 6 = .ok (.areturn, 1) := dk_176 (dk_at dksJ2_elementData_0 6 rfl rfl)
abbrev cJ2_isEmpty : ByteArray := prog_37_method_9_code
def yJ2_isEmpty : MethodName := ⟨RJ2, "isEmpty", "()Z"⟩
def dkwJ2_isEmpty_0 : List UInt8 := [42, 180, 0, 48, 154, 0, 7, 4, 167, 0, 4, 3, 172]
abbrev dktJ2_isEmpty_0 : List UInt8 := dkwJ2_isEmpty_0 ++ []
theorem dksJ2_isEmpty_0 : cJ2_isEmpty.data.toList.drop 0 = dktJ2_isEmpty_0 := by decide +kernel
theorem dJ2_isEmpty_0 : decode cJ2_isEmpty 0 = .ok (.aload_n 0, 1) := dk_42 (dk_at dksJ2_isEmpty_0 0 rfl rfl)
theorem dJ2_isEmpty_1 : decode cJ2_isEmpty 1 = .ok (.getfield 48, 3) := dk_180 0 48 (dk_at dksJ2_isEmpty_0 1 rfl rfl)
theorem dJ2_isEmpty_4 : decode cJ2_isEmpty 4 = .ok (.ifCond .ne 7, 3) := dk_154 0 7 (dk_at dksJ2_isEmpty_0 4 rfl rfl)
theorem dJ2_isEmpty_7 : decode cJ2_isEmpty 7 = .ok (.iconst 1, 1) := dk_4 (dk_at dksJ2_isEmpty_0 7 rfl rfl)
theorem dJ2_isEmpty_8 : decode cJ2_isEmpty 8 = .ok (.goto 4, 3) := dk_167 0 4 (dk_at dksJ2_isEmpty_0 8 rfl rfl)
theorem dJ2_isEmpty_11 : decode cJ2_isEmpty 11 = .ok (.iconst 0, 1) := dk_3 (dk_at dksJ2_isEmpty_0 11 rfl rfl)
theorem dJ2_isEmpty_12 : decode cJ2_isEmpty 12 = .ok (.ireturn, 1) := dk_172 (dk_at dksJ2_isEmpty_0 12 rfl rfl)
abbrev cJ2_get : ByteArray := prog_37_method_20_code
def yJ2_get : MethodName := ⟨RJ2, "get", "(I)Ljava/lang/Object;"⟩
def dkwJ2_get_0 : List UInt8 := [27, 42, 180, 0, 48, 184, 0, 118, 87, 42, 27, 182, 0, 123, 176]
abbrev dktJ2_get_0 : List UInt8 := dkwJ2_get_0 ++ []
theorem dksJ2_get_0 : cJ2_get.data.toList.drop 0 = dktJ2_get_0 := by decide +kernel
theorem dJ2_get_0 : decode cJ2_get 0 = .ok (.iload_n 1, 1) := dk_27 (dk_at dksJ2_get_0 0 rfl rfl)
theorem dJ2_get_1 : decode cJ2_get 1 = .ok (.aload_n 0, 1) := dk_42 (dk_at dksJ2_get_0 1 rfl rfl)
theorem dJ2_get_2 : decode cJ2_get 2 = .ok (.getfield 48, 3) := dk_180 0 48 (dk_at dksJ2_get_0 2 rfl rfl)
theorem dJ2_get_5 : decode cJ2_get 5 = .ok (.invokestatic 118, 3) := dk_184 0 118 (dk_at dksJ2_get_0 5 rfl rfl)
theorem dJ2_get_8 : decode cJ2_get 8 = .ok (.pop, 1) := dk_87 (dk_at dksJ2_get_0 8 rfl rfl)
theorem dJ2_get_9 : decode cJ2_get 9 = .ok (.aload_n 0, 1) := dk_42 (dk_at dksJ2_get_0 9 rfl rfl)
theorem dJ2_get_10 : decode cJ2_get 10 = .ok (.iload_n 1, 1) := dk_27 (dk_at dksJ2_get_0 10 rfl rfl)
theorem dJ2_get_11 : decode cJ2_get 11 = .ok (.invokevirtual 123, 3) := dk_182 0 123 (dk_at dksJ2_get_0 11 rfl rfl)
theorem dJ2_get_14 : decode cJ2_get 14 = .ok (.areturn, 1) := dk_176 (dk_at dksJ2_get_0 14 rfl rfl)
theorem q135 : (Jvm.Cond.initialized "java/util/ArrayList") ∈ lw_all := lw_g (lw_at lw_m1 10 rfl) rfl
theorem q319 : (Jvm.Cond.instantiable "java/util/ArrayList" (3 : Nat)) ∈ lw_all := lw_g (lw_at lw_m1 194 rfl) rfl
theorem q321 : (Jvm.Cond.instanceMethod ({ cls := "java/util/ArrayList", name := "<init>", desc := "()V" } : Jvm.MethodName)) ∈ lw_all := lw_g (lw_at lw_m1 196 rfl) rfl
theorem q322 : (Jvm.Cond.code ({ cls := "java/util/ArrayList", name := "<init>", desc := "()V" } : Jvm.MethodName) prog_37_method_2_code (1 : Nat) (Option.none : Option Jvm.ClassFile.FieldType)) ∈ lw_all := lw_g (lw_at lw_m1 197 rfl) rfl
theorem q323 : (Jvm.Cond.methodLink "java/util/ArrayList" (1 : Nat) ({ cls := "java/util/AbstractList", name := "<init>", desc := "()V" } : Jvm.MethodName)) ∈ lw_all := lw_g (lw_at lw_m1 198 rfl) rfl
theorem q330 : (Jvm.Cond.fieldLink "java/util/ArrayList" (39 : Nat) "java/util/ArrayList" "DEFAULTCAPACITY_EMPTY_ELEMENTDATA" "[Ljava/lang/Object;") ∈ lw_all := lw_g (lw_at lw_m1 205 rfl) rfl
theorem q331 : (Jvm.Cond.laysStatic "java/util/ArrayList" "DEFAULTCAPACITY_EMPTY_ELEMENTDATA" "[Ljava/lang/Object;") ∈ lw_tbl := lw_at lw_m1 206 rfl
theorem q332 : (Jvm.Cond.fieldLink "java/util/ArrayList" (9 : Nat) "java/util/ArrayList" "elementData" "[Ljava/lang/Object;") ∈ lw_all := lw_g (lw_at lw_m1 207 rfl) rfl
theorem q333 : (Jvm.Cond.fieldLink "java/util/ArrayList" (48 : Nat) "java/util/ArrayList" "size" "I") ∈ lw_all := lw_g (lw_at lw_m1 208 rfl) rfl
theorem q335 : (Jvm.Cond.fieldLink "java/util/ArrayList" (63 : Nat) "java/util/ArrayList" "modCount" "I") ∈ lw_all := lw_g (lw_at lw_m1 210 rfl) rfl
theorem q336 : (Jvm.Cond.sameField "java/util/ArrayList" "java/util/AbstractList" "modCount" "I") ∈ lw_all := lw_g (lw_at lw_m1 211 rfl) rfl
theorem q337 : (Jvm.Cond.lays "java/util/ArrayList" "java/util/ArrayList" "elementData" "[Ljava/lang/Object;") ∈ lw_all := lw_g (lw_at lw_m1 212 rfl) rfl
theorem q338 : (Jvm.Cond.soleField "java/util/ArrayList" "elementData") ∈ lw_all := lw_g (lw_at lw_m1 213 rfl) rfl
theorem q339 : (Jvm.Cond.lays "java/util/ArrayList" "java/util/ArrayList" "size" "I") ∈ lw_all := lw_g (lw_at lw_m1 214 rfl) rfl
theorem q340 : (Jvm.Cond.soleField "java/util/ArrayList" "size") ∈ lw_all := lw_g (lw_at lw_m1 215 rfl) rfl
theorem q341 : (Jvm.Cond.lays "java/util/ArrayList" "java/util/AbstractList" "modCount" "I") ∈ lw_all := lw_g (lw_at lw_m1 216 rfl) rfl
theorem q343 : (Jvm.Cond.superclass "java/util/ArrayList" "java/util/AbstractList") ∈ lw_all := lw_g (lw_at lw_m1 218 rfl) rfl
theorem q1303 : (Jvm.Cond.instanceMethod ({ cls := "java/util/ArrayList", name := "size", desc := "()I" } : Jvm.MethodName)) ∈ lw_all := lw_g (lw_at lw_m5 218 rfl) rfl
theorem q1304 : (Jvm.Cond.selects "java/util/ArrayList" ({ cls := "java/util/ArrayList", name := "size", desc := "()I" } : Jvm.MethodName) ({ cls := "java/util/ArrayList", name := "size", desc := "()I" } : Jvm.MethodName)) ∈ lw_all := lw_g (lw_at lw_m5 219 rfl) rfl
theorem q1305 : (Jvm.Cond.code ({ cls := "java/util/ArrayList", name := "size", desc := "()I" } : Jvm.MethodName) prog_37_method_8_code (1 : Nat) (Option.some Jvm.ClassFile.FieldType.int)) ∈ lw_all := lw_g (lw_at lw_m5 220 rfl) rfl
theorem q1307 : (Jvm.Cond.instanceMethod ({ cls := "java/util/ArrayList", name := "add", desc := "(Ljava/lang/Object;)Z" } : Jvm.MethodName)) ∈ lw_all := lw_g (lw_at lw_m5 222 rfl) rfl
theorem q1308 : (Jvm.Cond.selects "java/util/ArrayList" ({ cls := "java/util/ArrayList", name := "add", desc := "(Ljava/lang/Object;)Z" } : Jvm.MethodName) ({ cls := "java/util/ArrayList", name := "add", desc := "(Ljava/lang/Object;)Z" } : Jvm.MethodName)) ∈ lw_all := lw_g (lw_at lw_m5 223 rfl) rfl
theorem q1309 : (Jvm.Cond.code ({ cls := "java/util/ArrayList", name := "add", desc := "(Ljava/lang/Object;)Z" } : Jvm.MethodName) prog_37_method_25_code (2 : Nat) (Option.some Jvm.ClassFile.FieldType.boolean)) ∈ lw_all := lw_g (lw_at lw_m5 224 rfl) rfl
theorem q1310 : (Jvm.Cond.methodLink "java/util/ArrayList" (131 : Nat) ({ cls := "java/util/ArrayList", name := "add", desc := "(Ljava/lang/Object;[Ljava/lang/Object;I)V" } : Jvm.MethodName)) ∈ lw_all := lw_g (lw_at lw_m5 225 rfl) rfl
theorem q1311 : (Jvm.Cond.privateMethod ({ cls := "java/util/ArrayList", name := "add", desc := "(Ljava/lang/Object;[Ljava/lang/Object;I)V" } : Jvm.MethodName)) ∈ lw_tbl := lw_at lw_m5 226 rfl
theorem q1312 : (Jvm.Cond.instanceMethod ({ cls := "java/util/ArrayList", name := "add", desc := "(Ljava/lang/Object;[Ljava/lang/Object;I)V" } : Jvm.MethodName)) ∈ lw_all := lw_g (lw_at lw_m5 227 rfl) rfl
theorem q1313 : (Jvm.Cond.code ({ cls := "java/util/ArrayList", name := "add", desc := "(Ljava/lang/Object;[Ljava/lang/Object;I)V" } : Jvm.MethodName) prog_37_method_24_code (4 : Nat) (Option.none : Option Jvm.ClassFile.FieldType)) ∈ lw_all := lw_g (lw_at lw_m5 228 rfl) rfl
theorem q1314 : (Jvm.Cond.methodLink "java/util/ArrayList" (129 : Nat) ({ cls := "java/util/ArrayList", name := "grow", desc := "()[Ljava/lang/Object;" } : Jvm.MethodName)) ∈ lw_all := lw_g (lw_at lw_m5 229 rfl) rfl
theorem q1315 : (Jvm.Cond.privateMethod ({ cls := "java/util/ArrayList", name := "grow", desc := "()[Ljava/lang/Object;" } : Jvm.MethodName)) ∈ lw_tbl := lw_at lw_m5 230 rfl
theorem q1316 : (Jvm.Cond.instanceMethod ({ cls := "java/util/ArrayList", name := "grow", desc := "()[Ljava/lang/Object;" } : Jvm.MethodName)) ∈ lw_all := lw_g (lw_at lw_m5 231 rfl) rfl
theorem q1317 : (Jvm.Cond.code ({ cls := "java/util/ArrayList", name := "grow", desc := "()[Ljava/lang/Object;" } : Jvm.MethodName) prog_37_method_7_code (1 : Nat) (Option.some (Jvm.ClassFile.FieldType.array (Jvm.ClassFile.FieldType.object "java/lang/Object")))) ∈ lw_all := lw_g (lw_at lw_m5 232 rfl) rfl
theorem q1318 : (Jvm.Cond.methodLink "java/util/ArrayList" (69 : Nat) ({ cls := "java/util/ArrayList", name := "grow", desc := "(I)[Ljava/lang/Object;" } : Jvm.MethodName)) ∈ lw_all := lw_g (lw_at lw_m5 233 rfl) rfl
theorem q1319 : (Jvm.Cond.privateMethod ({ cls := "java/util/ArrayList", name := "grow", desc := "(I)[Ljava/lang/Object;" } : Jvm.MethodName)) ∈ lw_tbl := lw_at lw_m5 234 rfl
theorem q1320 : (Jvm.Cond.instanceMethod ({ cls := "java/util/ArrayList", name := "grow", desc := "(I)[Ljava/lang/Object;" } : Jvm.MethodName)) ∈ lw_all := lw_g (lw_at lw_m5 235 rfl) rfl
theorem q1321 : (Jvm.Cond.code ({ cls := "java/util/ArrayList", name := "grow", desc := "(I)[Ljava/lang/Object;" } : Jvm.MethodName) prog_37_method_6_code (4 : Nat) (Option.some (Jvm.ClassFile.FieldType.array (Jvm.ClassFile.FieldType.object "java/lang/Object")))) ∈ lw_all := lw_g (lw_at lw_m5 236 rfl) rfl
theorem q1322 : (Jvm.Cond.methodLink "java/util/ArrayList" (73 : Nat) ({ cls := "jdk/internal/util/ArraysSupport", name := "newLength", desc := "(III)I" } : Jvm.MethodName)) ∈ lw_all := lw_g (lw_at lw_m5 237 rfl) rfl
theorem q1330 : (Jvm.Cond.methodLink "java/util/ArrayList" (66 : Nat) ({ cls := "java/util/Arrays", name := "copyOf", desc := "([Ljava/lang/Object;I)[Ljava/lang/Object;" } : Jvm.MethodName)) ∈ lw_all := lw_g (lw_at lw_m6 5 rfl) rfl
theorem q1351 : (Jvm.Cond.selects "java/util/ArrayList" ({ cls := "java/lang/Object", name := "getClass", desc := "()Ljava/lang/Class;" } : Jvm.MethodName) ({ cls := "java/lang/Object", name := "getClass", desc := "()Ljava/lang/Class;" } : Jvm.MethodName)) ∈ lw_all := lw_g (lw_at lw_m6 26 rfl) rfl
theorem q1361 : (Jvm.Cond.methodLink "java/util/ArrayList" (79 : Nat) ({ cls := "java/lang/Math", name := "max", desc := "(II)I" } : Jvm.MethodName)) ∈ lw_all := lw_g (lw_at lw_m6 36 rfl) rfl
theorem q1362 : (Jvm.Cond.classLink "java/util/ArrayList" (7 : Nat) "java/lang/Object") ∈ lw_all := lw_g (lw_at lw_m6 37 rfl) rfl
theorem q1371 : (Jvm.Cond.instanceMethod ({ cls := "java/util/ArrayList", name := "set", desc := "(ILjava/lang/Object;)Ljava/lang/Object;" } : Jvm.MethodName)) ∈ lw_all := lw_g (lw_at lw_m6 46 rfl) rfl
theorem q1372 : (Jvm.Cond.selects "java/util/ArrayList" ({ cls := "java/util/ArrayList", name := "set", desc := "(ILjava/lang/Object;)Ljava/lang/Object;" } : Jvm.MethodName) ({ cls := "java/util/ArrayList", name := "set", desc := "(ILjava/lang/Object;)Ljava/lang/Object;" } : Jvm.MethodName)) ∈ lw_all := lw_g (lw_at lw_m6 47 rfl) rfl
theorem q1373 : (Jvm.Cond.code ({ cls := "java/util/ArrayList", name := "set", desc := "(ILjava/lang/Object;)Ljava/lang/Object;" } : Jvm.MethodName) prog_37_method_23_code (4 : Nat) (Option.some (Jvm.ClassFile.FieldType.object "java/lang/Object"))) ∈ lw_all := lw_g (lw_at lw_m6 48 rfl) rfl
theorem q1374 : (Jvm.Cond.methodLink "java/util/ArrayList" (118 : Nat) ({ cls := "java/util/Objects", name := "checkIndex", desc := "(II)I" } : Jvm.MethodName)) ∈ lw_all := lw_g (lw_at lw_m6 49 rfl) rfl
theorem q1378 : (Jvm.Cond.methodLink "java/util/ArrayList" (123 : Nat) ({ cls := "java/util/ArrayList", name := "elementData", desc := "(I)Ljava/lang/Object;" } : Jvm.MethodName)) ∈ lw_all := lw_g (lw_at lw_m6 53 rfl) rfl
theorem q1379 : (Jvm.Cond.instanceMethod ({ cls := "java/util/ArrayList", name := "elementData", desc := "(I)Ljava/lang/Object;" } : Jvm.MethodName)) ∈ lw_all := lw_g (lw_at lw_m6 54 rfl) rfl
theorem q1380 : (Jvm.Cond.selects "java/util/ArrayList" ({ cls := "java/util/ArrayList", name := "elementData", desc := "(I)Ljava/lang/Object;" } : Jvm.MethodName) ({ cls := "java/util/ArrayList", name := "elementData", desc := "(I)Ljava/lang/Object;" } : Jvm.MethodName)) ∈ lw_all := lw_g (lw_at lw_m6 55 rfl) rfl
theorem q1381 : (Jvm.Cond.code ({ cls := "java/util/ArrayList", name := "elementData", desc := "(I)Ljava/lang/Object;" } : Jvm.MethodName) prog_37_method_18_code (2 : Nat) (Option.some (Jvm.ClassFile.FieldType.object "java/lang/Object"))) ∈ lw_all := lw_g (lw_at lw_m6 56 rfl) rfl
theorem q1387 : (Jvm.Cond.instanceMethod ({ cls := "java/util/ArrayList", name := "isEmpty", desc := "()Z" } : Jvm.MethodName)) ∈ lw_all := lw_g (lw_at lw_m6 62 rfl) rfl
theorem q1388 : (Jvm.Cond.selects "java/util/ArrayList" ({ cls := "java/util/ArrayList", name := "isEmpty", desc := "()Z" } : Jvm.MethodName) ({ cls := "java/util/ArrayList", name := "isEmpty", desc := "()Z" } : Jvm.MethodName)) ∈ lw_all := lw_g (lw_at lw_m6 63 rfl) rfl
theorem q1389 : (Jvm.Cond.code ({ cls := "java/util/ArrayList", name := "isEmpty", desc := "()Z" } : Jvm.MethodName) prog_37_method_9_code (1 : Nat) (Option.some Jvm.ClassFile.FieldType.boolean)) ∈ lw_all := lw_g (lw_at lw_m6 64 rfl) rfl
theorem q1391 : (Jvm.Cond.instanceMethod ({ cls := "java/util/ArrayList", name := "get", desc := "(I)Ljava/lang/Object;" } : Jvm.MethodName)) ∈ lw_all := lw_g (lw_at lw_m6 66 rfl) rfl
theorem q1392 : (Jvm.Cond.selects "java/util/ArrayList" ({ cls := "java/util/ArrayList", name := "get", desc := "(I)Ljava/lang/Object;" } : Jvm.MethodName) ({ cls := "java/util/ArrayList", name := "get", desc := "(I)Ljava/lang/Object;" } : Jvm.MethodName)) ∈ lw_all := lw_g (lw_at lw_m6 67 rfl) rfl
theorem q1393 : (Jvm.Cond.code ({ cls := "java/util/ArrayList", name := "get", desc := "(I)Ljava/lang/Object;" } : Jvm.MethodName) prog_37_method_20_code (2 : Nat) (Option.some (Jvm.ClassFile.FieldType.object "java/lang/Object"))) ∈ lw_all := lw_g (lw_at lw_m6 68 rfl) rfl
theorem q2253 : (Jvm.Cond.castable "java/util/ArrayList" "java/lang/Object") ∈ lw_tbl := lw_at lw_m9 208 rfl
theorem in_J2 : ∀ w ∈ wsJ20, w ∈ lw_all := lw_in wsJ20 [341, 337, 339] (by decide +kernel) (by decide +kernel)
/-! java/lang/Math -/
set_option maxRecDepth 100000
def RJ3 : String := "java/lang/Math"
abbrev cJ3_min : ByteArray := prog_24_method_69_code
def yJ3_min : MethodName := ⟨RJ3, "min", "(II)I"⟩
def dkwJ3_min_0 : List UInt8 := [26, 27, 163, 0, 7, 26, 167, 0, 4, 27, 172]
abbrev dktJ3_min_0 : List UInt8 := dkwJ3_min_0 ++ []
theorem dksJ3_min_0 : cJ3_min.data.toList.drop 0 = dktJ3_min_0 := by decide +kernel
theorem dJ3_min_0 : decode cJ3_min 0 = .ok (.iload_n 0, 1) := dk_26 (dk_at dksJ3_min_0 0 rfl rfl)
theorem dJ3_min_1 : decode cJ3_min 1 = .ok (.iload_n 1, 1) := dk_27 (dk_at dksJ3_min_0 1 rfl rfl)
theorem dJ3_min_2 : decode cJ3_min 2 = .ok (.if_icmp .gt 7, 3) := dk_163 0 7 (dk_at dksJ3_min_0 2 rfl rfl)
theorem dJ3_min_5 : decode cJ3_min 5 = .ok (.iload_n 0, 1) := dk_26 (dk_at dksJ3_min_0 5 rfl rfl)
theorem dJ3_min_6 : decode cJ3_min 6 = .ok (.goto 4, 3) := dk_167 0 4 (dk_at dksJ3_min_0 6 rfl rfl)
theorem dJ3_min_9 : decode cJ3_min 9 = .ok (.iload_n 1, 1) := dk_27 (dk_at dksJ3_min_0 9 rfl rfl)
theorem dJ3_min_10 : decode cJ3_min 10 = .ok (.ireturn, 1) := dk_172 (dk_at dksJ3_min_0 10 rfl rfl)
abbrev cJ3_max : ByteArray := prog_24_method_65_code
def yJ3_max : MethodName := ⟨RJ3, "max", "(II)I"⟩
def dkwJ3_max_0 : List UInt8 := [26, 27, 161, 0, 7, 26, 167, 0, 4, 27, 172]
abbrev dktJ3_max_0 : List UInt8 := dkwJ3_max_0 ++ []
theorem dksJ3_max_0 : cJ3_max.data.toList.drop 0 = dktJ3_max_0 := by decide +kernel
theorem dJ3_max_0 : decode cJ3_max 0 = .ok (.iload_n 0, 1) := dk_26 (dk_at dksJ3_max_0 0 rfl rfl)
theorem dJ3_max_1 : decode cJ3_max 1 = .ok (.iload_n 1, 1) := dk_27 (dk_at dksJ3_max_0 1 rfl rfl)
theorem dJ3_max_2 : decode cJ3_max 2 = .ok (.if_icmp .lt 7, 3) := dk_161 0 7 (dk_at dksJ3_max_0 2 rfl rfl)
theorem dJ3_max_5 : decode cJ3_max 5 = .ok (.iload_n 0, 1) := dk_26 (dk_at dksJ3_max_0 5 rfl rfl)
theorem dJ3_max_6 : decode cJ3_max 6 = .ok (.goto 4, 3) := dk_167 0 4 (dk_at dksJ3_max_0 6 rfl rfl)
theorem dJ3_max_9 : decode cJ3_max 9 = .ok (.iload_n 1, 1) := dk_27 (dk_at dksJ3_max_0 9 rfl rfl)
theorem dJ3_max_10 : decode cJ3_max 10 = .ok (.ireturn, 1) := dk_172 (dk_at dksJ3_max_0 10 rfl rfl)
abbrev cJ3_abs : ByteArray := prog_24_method_61_code
def yJ3_abs : MethodName := ⟨RJ3, "abs", "(J)J"⟩
def dkwJ3_abs_0 : List UInt8 := [30, 9, 148, 156, 0, 8, 30, 117, 167, 0, 4, 30, 173]
abbrev dktJ3_abs_0 : List UInt8 := dkwJ3_abs_0 ++ []
theorem dksJ3_abs_0 : cJ3_abs.data.toList.drop 0 = dktJ3_abs_0 := by decide +kernel
theorem dJ3_abs_0 : decode cJ3_abs 0 = .ok (.lload_n 0, 1) := dk_30 (dk_at dksJ3_abs_0 0 rfl rfl)
theorem dJ3_abs_1 : decode cJ3_abs 1 = .ok (.lconst 0, 1) := dk_9 (dk_at dksJ3_abs_0 1 rfl rfl)
theorem dJ3_abs_2 : decode cJ3_abs 2 = .ok (.lcmp, 1) := dk_148 (dk_at dksJ3_abs_0 2 rfl rfl)
theorem dJ3_abs_3 : decode cJ3_abs 3 = .ok (.ifCond .ge 8, 3) := dk_156 0 8 (dk_at dksJ3_abs_0 3 rfl rfl)
theorem dJ3_abs_6 : decode cJ3_abs 6 = .ok (.lload_n 0, 1) := dk_30 (dk_at dksJ3_abs_0 6 rfl rfl)
theorem dJ3_abs_7 : decode cJ3_abs 7 = .ok (.lneg, 1) := dk_117 (dk_at dksJ3_abs_0 7 rfl rfl)
theorem dJ3_abs_8 : decode cJ3_abs 8 = .ok (.goto 4, 3) := dk_167 0 4 (dk_at dksJ3_abs_0 8 rfl rfl)
theorem dJ3_abs_11 : decode cJ3_abs 11 = .ok (.lload_n 0, 1) := dk_30 (dk_at dksJ3_abs_0 11 rfl rfl)
theorem dJ3_abs_12 : decode cJ3_abs 12 = .ok (.lreturn, 1) := dk_173 (dk_at dksJ3_abs_0 12 rfl rfl)
theorem q140 : (Jvm.Cond.initialized "java/lang/Math") ∈ lw_all := lw_g (lw_at lw_m1 15 rfl) rfl
theorem q493 : (Jvm.Cond.static ({ cls := "java/lang/Math", name := "min", desc := "(II)I" } : Jvm.MethodName)) ∈ lw_all := lw_g (lw_at lw_m2 128 rfl) rfl
theorem q494 : (Jvm.Cond.code ({ cls := "java/lang/Math", name := "min", desc := "(II)I" } : Jvm.MethodName) prog_24_method_69_code (2 : Nat) (Option.some Jvm.ClassFile.FieldType.int)) ∈ lw_all := lw_g (lw_at lw_m2 129 rfl) rfl
theorem q829 : (Jvm.Cond.static ({ cls := "java/lang/Math", name := "max", desc := "(II)I" } : Jvm.MethodName)) ∈ lw_all := lw_g (lw_at lw_m3 224 rfl) rfl
theorem q830 : (Jvm.Cond.code ({ cls := "java/lang/Math", name := "max", desc := "(II)I" } : Jvm.MethodName) prog_24_method_65_code (2 : Nat) (Option.some Jvm.ClassFile.FieldType.int)) ∈ lw_all := lw_g (lw_at lw_m3 225 rfl) rfl
theorem q1212 : (Jvm.Cond.static ({ cls := "java/lang/Math", name := "abs", desc := "(J)J" } : Jvm.MethodName)) ∈ lw_all := lw_g (lw_at lw_m5 127 rfl) rfl
theorem q1213 : (Jvm.Cond.code ({ cls := "java/lang/Math", name := "abs", desc := "(J)J" } : Jvm.MethodName) prog_24_method_61_code (2 : Nat) (Option.some Jvm.ClassFile.FieldType.long)) ∈ lw_all := lw_g (lw_at lw_m5 128 rfl) rfl
/-! java/lang/String -/
set_option maxRecDepth 100000
def RJ4 : String := "java/lang/String"
def TJ4 : u_T := fun k => match k with
  | 0 => ("java/lang/String", "value", "[B", true)
  | _ => ("java/lang/String", "coder", "B", true)
def tyJ4 : Nat → FieldType := fun k => match k with
  | 0 => .array .byte
  | _ => .byte
abbrev wsJ40 : List Cond := u_ws RJ4 TJ4 2
theorem nmJ4 : ∀ a, a < 2 → ∀ b, b < 2 → a ≠ b → (TJ4 a).2.1 ≠ (TJ4 b).2.1 := by decide +kernel
theorem tyJ4_ok : ∀ k, k < 2 → parseFieldDescriptor (TJ4 k).2.2.1 = some (tyJ4 k) := by decide +kernel
abbrev cJ4_length : ByteArray := prog_28_method_54_code
def yJ4_length : MethodName := ⟨RJ4, "length", "()I"⟩
def dkwJ4_length_0 : List UInt8 := [42, 180, 0, 9, 190, 42, 182, 1, 79, 122, 172]
abbrev dktJ4_length_0 : List UInt8 := dkwJ4_length_0 ++ []
theorem dksJ4_length_0 : cJ4_length.data.toList.drop 0 = dktJ4_length_0 := by decide +kernel
theorem dJ4_length_0 : decode cJ4_length 0 = .ok (.aload_n 0, 1) := dk_42 (dk_at dksJ4_length_0 0 rfl rfl)
theorem dJ4_length_1 : decode cJ4_length 1 = .ok (.getfield 9, 3) := dk_180 0 9 (dk_at dksJ4_length_0 1 rfl rfl)
theorem dJ4_length_4 : decode cJ4_length 4 = .ok (.arraylength, 1) := dk_190 (dk_at dksJ4_length_0 4 rfl rfl)
theorem dJ4_length_5 : decode cJ4_length 5 = .ok (.aload_n 0, 1) := dk_42 (dk_at dksJ4_length_0 5 rfl rfl)
theorem dJ4_length_6 : decode cJ4_length 6 = .ok (.invokevirtual 335, 3) := dk_182 1 79 (dk_at dksJ4_length_0 6 rfl rfl)
theorem dJ4_length_9 : decode cJ4_length 9 = .ok (.ishr, 1) := dk_122 (dk_at dksJ4_length_0 9 rfl rfl)
theorem dJ4_length_10 : decode cJ4_length 10 = .ok (.ireturn, 1) := dk_172 (dk_at dksJ4_length_0 10 rfl rfl)
abbrev cJ4_coder : ByteArray := prog_28_method_152_code
def yJ4_coder : MethodName := ⟨RJ4, "coder", "()B"⟩
def dkwJ4_coder_0 : List UInt8 := [178, 0, 38, 153, 0, 10, 42, 180, 0, 15, 167, 0, 4, 4, 172]
abbrev dktJ4_coder_0 : List UInt8 := dkwJ4_coder_0 ++ []
theorem dksJ4_coder_0 : cJ4_coder.data.toList.drop 0 = dktJ4_coder_0 := by decide +kernel
theorem dJ4_coder_0 : decode cJ4_coder 0 = .ok (.getstatic 38, 3) := dk_178 0 38 (dk_at dksJ4_coder_0 0 rfl rfl)
theorem dJ4_coder_3 : decode cJ4_coder 3 = .ok (.ifCond .eq 10, 3) := dk_153 0 10 (dk_at dksJ4_coder_0 3 rfl rfl)
theorem dJ4_coder_6 : decode cJ4_coder 6 = .ok (.aload_n 0, 1) := dk_42 (dk_at dksJ4_coder_0 6 rfl rfl)
theorem dJ4_coder_7 : decode cJ4_coder 7 = .ok (.getfield 15, 3) := dk_180 0 15 (dk_at dksJ4_coder_0 7 rfl rfl)
theorem dJ4_coder_10 : decode cJ4_coder 10 = .ok (.goto 4, 3) := dk_167 0 4 (dk_at dksJ4_coder_0 10 rfl rfl)
theorem dJ4_coder_13 : decode cJ4_coder 13 = .ok (.iconst 1, 1) := dk_4 (dk_at dksJ4_coder_0 13 rfl rfl)
theorem dJ4_coder_14 : decode cJ4_coder 14 = .ok (.ireturn, 1) := dk_172 (dk_at dksJ4_coder_0 14 rfl rfl)
abbrev cJ4_charAt : ByteArray := prog_28_method_56_code
def yJ4_charAt : MethodName := ⟨RJ4, "charAt", "(I)C"⟩
def dkwJ4_charAt_1 : List UInt8 := [172]
abbrev dktJ4_charAt_1 : List UInt8 := dkwJ4_charAt_1 ++ []
def dkwJ4_charAt_0 : List UInt8 := [42, 182, 1, 236, 153, 0, 12, 42, 180, 0, 9, 27, 184, 1, 239, 172, 42, 180, 0, 9, 27, 184, 1, 242]
abbrev dktJ4_charAt_0 : List UInt8 := dkwJ4_charAt_0 ++ dktJ4_charAt_1
theorem dksJ4_charAt_0 : cJ4_charAt.data.toList.drop 0 = dktJ4_charAt_0 := by decide +kernel
theorem dksJ4_charAt_1 : cJ4_charAt.data.toList.drop 24 = dktJ4_charAt_1 := dk_seg dksJ4_charAt_0 24 rfl rfl
theorem dJ4_charAt_0 : decode cJ4_charAt 0 = .ok (.aload_n 0, 1) := dk_42 (dk_at dksJ4_charAt_0 0 rfl rfl)
theorem dJ4_charAt_1 : decode cJ4_charAt 1 = .ok (.invokevirtual 492, 3) := dk_182 1 236 (dk_at dksJ4_charAt_0 1 rfl rfl)
theorem dJ4_charAt_4 : decode cJ4_charAt 4 = .ok (.ifCond .eq 12, 3) := dk_153 0 12 (dk_at dksJ4_charAt_0 4 rfl rfl)
theorem dJ4_charAt_7 : decode cJ4_charAt 7 = .ok (.aload_n 0, 1) := dk_42 (dk_at dksJ4_charAt_0 7 rfl rfl)
theorem dJ4_charAt_8 : decode cJ4_charAt 8 = .ok (.getfield 9, 3) := dk_180 0 9 (dk_at dksJ4_charAt_0 8 rfl rfl)
theorem dJ4_charAt_11 : decode cJ4_charAt 11 = .ok (.iload_n 1, 1) := dk_27 (dk_at dksJ4_charAt_0 11 rfl rfl)
theorem dJ4_charAt_12 : decode cJ4_charAt 12 = .ok (.invokestatic 495, 3) := dk_184 1 239 (dk_at dksJ4_charAt_0 12 rfl rfl)
theorem dJ4_charAt_15 : decode cJ4_charAt 15 = .ok (.ireturn, 1) := dk_172 (dk_at dksJ4_charAt_0 15 rfl rfl)
theorem dJ4_charAt_16 : decode cJ4_charAt 16 = .ok (.aload_n 0, 1) := dk_42 (dk_at dksJ4_charAt_0 16 rfl rfl)
theorem dJ4_charAt_17 : decode cJ4_charAt 17 = .ok (.getfield 9, 3) := dk_180 0 9 (dk_at dksJ4_charAt_0 17 rfl rfl)
theorem dJ4_charAt_20 : decode cJ4_charAt 20 = .ok (.iload_n 1, 1) := dk_27 (dk_at dksJ4_charAt_0 20 rfl rfl)
theorem dJ4_charAt_21 : decode cJ4_charAt 21 = .ok (.invokestatic 498, 3) := dk_184 1 242 (dk_at dksJ4_charAt_0 21 rfl rfl)
theorem dJ4_charAt_24 : decode cJ4_charAt 24 = .ok (.ireturn, 1) := dk_172 (dk_at dksJ4_charAt_1 0 rfl rfl)
abbrev cJ4_isLatin1 : ByteArray := prog_28_method_154_code
def yJ4_isLatin1 : MethodName := ⟨RJ4, "isLatin1", "()Z"⟩
def dkwJ4_isLatin1_0 : List UInt8 := [178, 0, 38, 153, 0, 14, 42, 180, 0, 15, 154, 0, 7, 4, 167, 0, 4, 3, 172]
abbrev dktJ4_isLatin1_0 : List UInt8 := dkwJ4_isLatin1_0 ++ []
theorem dksJ4_isLatin1_0 : cJ4_isLatin1.data.toList.drop 0 = dktJ4_isLatin1_0 := by decide +kernel
theorem dJ4_isLatin1_0 : decode cJ4_isLatin1 0 = .ok (.getstatic 38, 3) := dk_178 0 38 (dk_at dksJ4_isLatin1_0 0 rfl rfl)
theorem dJ4_isLatin1_3 : decode cJ4_isLatin1 3 = .ok (.ifCond .eq 14, 3) := dk_153 0 14 (dk_at dksJ4_isLatin1_0 3 rfl rfl)
theorem dJ4_isLatin1_6 : decode cJ4_isLatin1 6 = .ok (.aload_n 0, 1) := dk_42 (dk_at dksJ4_isLatin1_0 6 rfl rfl)
theorem dJ4_isLatin1_7 : decode cJ4_isLatin1 7 = .ok (.getfield 15, 3) := dk_180 0 15 (dk_at dksJ4_isLatin1_0 7 rfl rfl)
theorem dJ4_isLatin1_10 : decode cJ4_isLatin1 10 = .ok (.ifCond .ne 7, 3) := dk_154 0 7 (dk_at dksJ4_isLatin1_0 10 rfl rfl)
theorem dJ4_isLatin1_13 : decode cJ4_isLatin1 13 = .ok (.iconst 1, 1) := dk_4 (dk_at dksJ4_isLatin1_0 13 rfl rfl)
theorem dJ4_isLatin1_14 : decode cJ4_isLatin1 14 = .ok (.goto 4, 3) := dk_167 0 4 (dk_at dksJ4_isLatin1_0 14 rfl rfl)
theorem dJ4_isLatin1_17 : decode cJ4_isLatin1 17 = .ok (.iconst 0, 1) := dk_3 (dk_at dksJ4_isLatin1_0 17 rfl rfl)
theorem dJ4_isLatin1_18 : decode cJ4_isLatin1 18 = .ok (.ireturn, 1) := dk_172 (dk_at dksJ4_isLatin1_0 18 rfl rfl)
abbrev cJ4_checkIndex : ByteArray := prog_28_method_155_code
def yJ4_checkIndex : MethodName := ⟨RJ4, "checkIndex", "(II)V"⟩
def dkwJ4_checkIndex_0 : List UInt8 := [26, 27, 178, 4, 29, 184, 4, 35, 87, 177]
abbrev dktJ4_checkIndex_0 : List UInt8 := dkwJ4_checkIndex_0 ++ []
theorem dksJ4_checkIndex_0 : cJ4_checkIndex.data.toList.drop 0 = dktJ4_checkIndex_0 := by decide +kernel
theorem dJ4_checkIndex_0 : decode cJ4_checkIndex 0 = .ok (.iload_n 0, 1) := dk_26 (dk_at dksJ4_checkIndex_0 0 rfl rfl)
theorem dJ4_checkIndex_1 : decode cJ4_checkIndex 1 = .ok (.iload_n 1, 1) := dk_27 (dk_at dksJ4_checkIndex_0 1 rfl rfl)
theorem dJ4_checkIndex_2 : decode cJ4_checkIndex 2 = .ok (.getstatic 1053, 3) := dk_178 4 29 (dk_at dksJ4_checkIndex_0 2 rfl rfl)
theorem dJ4_checkIndex_5 : decode cJ4_checkIndex 5 = .ok (.invokestatic 1059, 3) := dk_184 4 35 (dk_at dksJ4_checkIndex_0 5 rfl rfl)
theorem dJ4_checkIndex_8 : decode cJ4_checkIndex 8 = .ok (.pop, 1) := dk_87 (dk_at dksJ4_checkIndex_0 8 rfl rfl)
theorem dJ4_checkIndex_9 : decode cJ4_checkIndex 9 = .ok (.return_, 1) := dk_177 (dk_at dksJ4_checkIndex_0 9 rfl rfl)
theorem q141 : (Jvm.Cond.initialized "java/lang/String") ∈ lw_all := lw_g (lw_at lw_m1 16 rfl) rfl
theorem q545 : (Jvm.Cond.instanceMethod ({ cls := "java/lang/String", name := "length", desc := "()I" } : Jvm.MethodName)) ∈ lw_all := lw_g (lw_at lw_m2 180 rfl) rfl
theorem q546 : (Jvm.Cond.selects "java/lang/String" ({ cls := "java/lang/String", name := "length", desc := "()I" } : Jvm.MethodName) ({ cls := "java/lang/String", name := "length", desc := "()I" } : Jvm.MethodName)) ∈ lw_all := lw_g (lw_at lw_m2 181 rfl) rfl
theorem q547 : (Jvm.Cond.code ({ cls := "java/lang/String", name := "length", desc := "()I" } : Jvm.MethodName) prog_28_method_54_code (1 : Nat) (Option.some Jvm.ClassFile.FieldType.int)) ∈ lw_all := lw_g (lw_at lw_m2 182 rfl) rfl
theorem q548 : (Jvm.Cond.methodLink "java/lang/String" (335 : Nat) ({ cls := "java/lang/String", name := "coder", desc := "()B" } : Jvm.MethodName)) ∈ lw_all := lw_g (lw_at lw_m2 183 rfl) rfl
theorem q549 : (Jvm.Cond.instanceMethod ({ cls := "java/lang/String", name := "coder", desc := "()B" } : Jvm.MethodName)) ∈ lw_all := lw_g (lw_at lw_m2 184 rfl) rfl
theorem q550 : (Jvm.Cond.selects "java/lang/String" ({ cls := "java/lang/String", name := "coder", desc := "()B" } : Jvm.MethodName) ({ cls := "java/lang/String", name := "coder", desc := "()B" } : Jvm.MethodName)) ∈ lw_all := lw_g (lw_at lw_m2 185 rfl) rfl
theorem q551 : (Jvm.Cond.code ({ cls := "java/lang/String", name := "coder", desc := "()B" } : Jvm.MethodName) prog_28_method_152_code (1 : Nat) (Option.some Jvm.ClassFile.FieldType.byte)) ∈ lw_all := lw_g (lw_at lw_m2 186 rfl) rfl
theorem q552 : (Jvm.Cond.fieldLink "java/lang/String" (38 : Nat) "java/lang/String" "COMPACT_STRINGS" "Z") ∈ lw_all := lw_g (lw_at lw_m2 187 rfl) rfl
theorem q553 : (Jvm.Cond.laysStatic "java/lang/String" "COMPACT_STRINGS" "Z") ∈ lw_tbl := lw_at lw_m2 188 rfl
theorem q555 : (Jvm.Cond.instanceMethod ({ cls := "java/lang/String", name := "charAt", desc := "(I)C" } : Jvm.MethodName)) ∈ lw_all := lw_g (lw_at lw_m2 190 rfl) rfl
theorem q556 : (Jvm.Cond.selects "java/lang/String" ({ cls := "java/lang/String", name := "charAt", desc := "(I)C" } : Jvm.MethodName) ({ cls := "java/lang/String", name := "charAt", desc := "(I)C" } : Jvm.MethodName)) ∈ lw_all := lw_g (lw_at lw_m2 191 rfl) rfl
theorem q557 : (Jvm.Cond.code ({ cls := "java/lang/String", name := "charAt", desc := "(I)C" } : Jvm.MethodName) prog_28_method_56_code (2 : Nat) (Option.some Jvm.ClassFile.FieldType.char)) ∈ lw_all := lw_g (lw_at lw_m2 192 rfl) rfl
theorem q558 : (Jvm.Cond.methodLink "java/lang/String" (492 : Nat) ({ cls := "java/lang/String", name := "isLatin1", desc := "()Z" } : Jvm.MethodName)) ∈ lw_all := lw_g (lw_at lw_m2 193 rfl) rfl
theorem q559 : (Jvm.Cond.instanceMethod ({ cls := "java/lang/String", name := "isLatin1", desc := "()Z" } : Jvm.MethodName)) ∈ lw_all := lw_g (lw_at lw_m2 194 rfl) rfl
theorem q560 : (Jvm.Cond.selects "java/lang/String" ({ cls := "java/lang/String", name := "isLatin1", desc := "()Z" } : Jvm.MethodName) ({ cls := "java/lang/String", name := "isLatin1", desc := "()Z" } : Jvm.MethodName)) ∈ lw_all := lw_g (lw_at lw_m2 195 rfl) rfl
theorem q561 : (Jvm.Cond.code ({ cls := "java/lang/String", name := "isLatin1", desc := "()Z" } : Jvm.MethodName) prog_28_method_154_code (1 : Nat) (Option.some Jvm.ClassFile.FieldType.boolean)) ∈ lw_all := lw_g (lw_at lw_m2 196 rfl) rfl
theorem q562 : (Jvm.Cond.methodLink "java/lang/String" (495 : Nat) ({ cls := "java/lang/StringLatin1", name := "charAt", desc := "([BI)C" } : Jvm.MethodName)) ∈ lw_all := lw_g (lw_at lw_m2 197 rfl) rfl
theorem q566 : (Jvm.Cond.static ({ cls := "java/lang/String", name := "checkIndex", desc := "(II)V" } : Jvm.MethodName)) ∈ lw_all := lw_g (lw_at lw_m2 201 rfl) rfl
theorem q567 : (Jvm.Cond.code ({ cls := "java/lang/String", name := "checkIndex", desc := "(II)V" } : Jvm.MethodName) prog_28_method_155_code (2 : Nat) (Option.none : Option Jvm.ClassFile.FieldType)) ∈ lw_all := lw_g (lw_at lw_m2 202 rfl) rfl
theorem q568 : (Jvm.Cond.fieldLink "java/lang/String" (1053 : Nat) "jdk/internal/util/Preconditions" "SIOOBE_FORMATTER" "Ljava/util/function/BiFunction;") ∈ lw_all := lw_g (lw_at lw_m2 203 rfl) rfl
theorem q570 : (Jvm.Cond.methodLink "java/lang/String" (1059 : Nat) ({ cls := "jdk/internal/util/Preconditions", name := "checkIndex", desc := "(IILjava/util/function/BiFunction;)I" } : Jvm.MethodName)) ∈ lw_all := lw_g (lw_at lw_m2 205 rfl) rfl
theorem q573 : (Jvm.Cond.methodLink "java/lang/String" (498 : Nat) ({ cls := "java/lang/StringUTF16", name := "charAt", desc := "([BI)C" } : Jvm.MethodName)) ∈ lw_all := lw_g (lw_at lw_m2 208 rfl) rfl
theorem q1420 : (Jvm.Cond.instantiable "java/lang/String" (4 : Nat)) ∈ lw_all := lw_g (lw_at lw_m6 95 rfl) rfl
theorem q1421 : (Jvm.Cond.laysFinal "java/lang/String" "java/lang/String" "value" "[B") ∈ lw_all := lw_g (lw_at lw_m6 96 rfl) rfl
theorem q1422 : (Jvm.Cond.soleField "java/lang/String" "value") ∈ lw_all := lw_g (lw_at lw_m6 97 rfl) rfl
theorem q1423 : (Jvm.Cond.laysFinal "java/lang/String" "java/lang/String" "coder" "B") ∈ lw_all := lw_g (lw_at lw_m6 98 rfl) rfl
theorem q1424 : (Jvm.Cond.soleField "java/lang/String" "coder") ∈ lw_all := lw_g (lw_at lw_m6 99 rfl) rfl
theorem q2263 : (Jvm.Cond.castable "java/lang/String" "java/lang/Object") ∈ lw_tbl := lw_at lw_m9 218 rfl
theorem q2278 : (Jvm.Cond.fieldLink "java/lang/String" (9 : Nat) "java/lang/String" "value" "[B") ∈ lw_all := lw_g (lw_at lw_m9 233 rfl) rfl
theorem q2279 : (Jvm.Cond.fieldLink "java/lang/String" (15 : Nat) "java/lang/String" "coder" "B") ∈ lw_all := lw_g (lw_at lw_m9 234 rfl) rfl
theorem in_J4 : ∀ w ∈ wsJ40, w ∈ lw_all := lw_in wsJ40 [1421, 1423] (by decide +kernel) (by decide +kernel)
/-! java/lang/StringLatin1 -/
set_option maxRecDepth 100000
def RJ5 : String := "java/lang/StringLatin1"
abbrev cJ5_charAt : ByteArray := prog_29_method_2_code
def yJ5_charAt : MethodName := ⟨RJ5, "charAt", "([BI)C"⟩
def dkwJ5_charAt_0 : List UInt8 := [27, 42, 190, 184, 0, 9, 42, 27, 51, 17, 0, 255, 126, 146, 172]
abbrev dktJ5_charAt_0 : List UInt8 := dkwJ5_charAt_0 ++ []
theorem dksJ5_charAt_0 : cJ5_charAt.data.toList.drop 0 = dktJ5_charAt_0 := by decide +kernel
theorem dJ5_charAt_0 : decode cJ5_charAt 0 = .ok (.iload_n 1, 1) := dk_27 (dk_at dksJ5_charAt_0 0 rfl rfl)
theorem dJ5_charAt_1 : decode cJ5_charAt 1 = .ok (.aload_n 0, 1) := dk_42 (dk_at dksJ5_charAt_0 1 rfl rfl)
theorem dJ5_charAt_2 : decode cJ5_charAt 2 = .ok (.arraylength, 1) := dk_190 (dk_at dksJ5_charAt_0 2 rfl rfl)
theorem dJ5_charAt_3 : decode cJ5_charAt 3 = .ok (.invokestatic 9, 3) := dk_184 0 9 (dk_at dksJ5_charAt_0 3 rfl rfl)
theorem dJ5_charAt_6 : decode cJ5_charAt 6 = .ok (.aload_n 0, 1) := dk_42 (dk_at dksJ5_charAt_0 6 rfl rfl)
theorem dJ5_charAt_7 : decode cJ5_charAt 7 = .ok (.iload_n 1, 1) := dk_27 (dk_at dksJ5_charAt_0 7 rfl rfl)
theorem dJ5_charAt_8 : decode cJ5_charAt 8 = .ok (.baload, 1) := dk_51 (dk_at dksJ5_charAt_0 8 rfl rfl)
theorem dJ5_charAt_9 : decode cJ5_charAt 9 = .ok (.sipush 255, 3) := dk_17 0 255 (dk_at dksJ5_charAt_0 9 rfl rfl)
theorem dJ5_charAt_12 : decode cJ5_charAt 12 = .ok (.iand, 1) := dk_126 (dk_at dksJ5_charAt_0 12 rfl rfl)
theorem dJ5_charAt_13 : decode cJ5_charAt 13 = .ok (.i2c, 1) := dk_146 (dk_at dksJ5_charAt_0 13 rfl rfl)
theorem dJ5_charAt_14 : decode cJ5_charAt 14 = .ok (.ireturn, 1) := dk_172 (dk_at dksJ5_charAt_0 14 rfl rfl)
theorem q142 : (Jvm.Cond.initialized "java/lang/StringLatin1") ∈ lw_all := lw_g (lw_at lw_m1 17 rfl) rfl
theorem q563 : (Jvm.Cond.static ({ cls := "java/lang/StringLatin1", name := "charAt", desc := "([BI)C" } : Jvm.MethodName)) ∈ lw_all := lw_g (lw_at lw_m2 198 rfl) rfl
theorem q564 : (Jvm.Cond.code ({ cls := "java/lang/StringLatin1", name := "charAt", desc := "([BI)C" } : Jvm.MethodName) prog_29_method_2_code (2 : Nat) (Option.some Jvm.ClassFile.FieldType.char)) ∈ lw_all := lw_g (lw_at lw_m2 199 rfl) rfl
theorem q565 : (Jvm.Cond.methodLink "java/lang/StringLatin1" (9 : Nat) ({ cls := "java/lang/String", name := "checkIndex", desc := "(II)V" } : Jvm.MethodName)) ∈ lw_all := lw_g (lw_at lw_m2 200 rfl) rfl
/-! jdk/internal/util/Preconditions -/
set_option maxRecDepth 100000
def RJ6 : String := "jdk/internal/util/Preconditions"
abbrev cJ6_checkIndex : ByteArray := prog_45_method_11_code
def yJ6_checkIndex : MethodName := ⟨RJ6, "checkIndex", "(IILjava/util/function/BiFunction;)I"⟩
def dkwJ6_checkIndex_0 : List UInt8 := [26, 155, 0, 8, 26, 27, 161, 0, 10, 44, 26, 27, 184, 0, 95, 191, 26, 172]
abbrev dktJ6_checkIndex_0 : List UInt8 := dkwJ6_checkIndex_0 ++ []
theorem dksJ6_checkIndex_0 : cJ6_checkIndex.data.toList.drop 0 = dktJ6_checkIndex_0 := by decide +kernel
theorem dJ6_checkIndex_0 : decode cJ6_checkIndex 0 = .ok (.iload_n 0, 1) := dk_26 (dk_at dksJ6_checkIndex_0 0 rfl rfl)
theorem dJ6_checkIndex_1 : decode cJ6_checkIndex 1 = .ok (.ifCond .lt 8, 3) := dk_155 0 8 (dk_at dksJ6_checkIndex_0 1 rfl rfl)
theorem dJ6_checkIndex_4 : decode cJ6_checkIndex 4 = .ok (.iload_n 0, 1) := dk_26 (dk_at dksJ6_checkIndex_0 4 rfl rfl)
theorem dJ6_checkIndex_5 : decode cJ6_checkIndex 5 = .ok (.iload_n 1, 1) := dk_27 (dk_at dksJ6_checkIndex_0 5 rfl rfl)
theorem dJ6_checkIndex_6 : decode cJ6_checkIndex 6 = .ok (.if_icmp .lt 10, 3) := dk_161 0 10 (dk_at dksJ6_checkIndex_0 6 rfl rfl)
theorem dJ6_checkIndex_9 : decode cJ6_checkIndex 9 = .ok (.aload_n 2, 1) := dk_44 (dk_at dksJ6_checkIndex_0 9 rfl rfl)
theorem dJ6_checkIndex_10 : decode cJ6_checkIndex 10 = .ok (.iload_n 0, 1) := dk_26 (dk_at dksJ6_checkIndex_0 10 rfl rfl)
theorem dJ6_checkIndex_11 : decode cJ6_checkIndex 11 = .ok (.iload_n 1, 1) := dk_27 (dk_at dksJ6_checkIndex_0 11 rfl rfl)
theorem dJ6_checkIndex_12 : decode cJ6_checkIndex 12 = .ok (.invokestatic 95, 3) := dk_184 0 95 (dk_at dksJ6_checkIndex_0 12 rfl rfl)
theorem dJ6_checkIndex_15 : decode cJ6_checkIndex 15 = .ok (.athrow, 1) := dk_191 (dk_at dksJ6_checkIndex_0 15 rfl rfl)
theorem dJ6_checkIndex_16 : decode cJ6_checkIndex 16 = .ok (.iload_n 0, 1) := dk_26 (dk_at dksJ6_checkIndex_0 16 rfl rfl)
theorem dJ6_checkIndex_17 : decode cJ6_checkIndex 17 = .ok (.ireturn, 1) := dk_172 (dk_at dksJ6_checkIndex_0 17 rfl rfl)
theorem q143 : (Jvm.Cond.initialized "jdk/internal/util/Preconditions") ∈ lw_all := lw_g (lw_at lw_m1 18 rfl) rfl
theorem q569 : (Jvm.Cond.laysStatic "jdk/internal/util/Preconditions" "SIOOBE_FORMATTER" "Ljava/util/function/BiFunction;") ∈ lw_tbl := lw_at lw_m2 204 rfl
theorem q571 : (Jvm.Cond.static ({ cls := "jdk/internal/util/Preconditions", name := "checkIndex", desc := "(IILjava/util/function/BiFunction;)I" } : Jvm.MethodName)) ∈ lw_all := lw_g (lw_at lw_m2 206 rfl) rfl
theorem q572 : (Jvm.Cond.code ({ cls := "jdk/internal/util/Preconditions", name := "checkIndex", desc := "(IILjava/util/function/BiFunction;)I" } : Jvm.MethodName) prog_45_method_11_code (3 : Nat) (Option.some Jvm.ClassFile.FieldType.int)) ∈ lw_all := lw_g (lw_at lw_m2 207 rfl) rfl
/-! java/lang/StringUTF16 -/
set_option maxRecDepth 100000
def RJ7 : String := "java/lang/StringUTF16"
abbrev cJ7_charAt : ByteArray := prog_30_method_83_code
def yJ7_charAt : MethodName := ⟨RJ7, "charAt", "([BI)C"⟩
def dkwJ7_charAt_0 : List UInt8 := [27, 42, 184, 0, 67, 42, 27, 184, 0, 71, 172]
abbrev dktJ7_charAt_0 : List UInt8 := dkwJ7_charAt_0 ++ []
theorem dksJ7_charAt_0 : cJ7_charAt.data.toList.drop 0 = dktJ7_charAt_0 := by decide +kernel
theorem dJ7_charAt_0 : decode cJ7_charAt 0 = .ok (.iload_n 1, 1) := dk_27 (dk_at dksJ7_charAt_0 0 rfl rfl)
theorem dJ7_charAt_1 : decode cJ7_charAt 1 = .ok (.aload_n 0, 1) := dk_42 (dk_at dksJ7_charAt_0 1 rfl rfl)
theorem dJ7_charAt_2 : decode cJ7_charAt 2 = .ok (.invokestatic 67, 3) := dk_184 0 67 (dk_at dksJ7_charAt_0 2 rfl rfl)
theorem dJ7_charAt_5 : decode cJ7_charAt 5 = .ok (.aload_n 0, 1) := dk_42 (dk_at dksJ7_charAt_0 5 rfl rfl)
theorem dJ7_charAt_6 : decode cJ7_charAt 6 = .ok (.iload_n 1, 1) := dk_27 (dk_at dksJ7_charAt_0 6 rfl rfl)
theorem dJ7_charAt_7 : decode cJ7_charAt 7 = .ok (.invokestatic 71, 3) := dk_184 0 71 (dk_at dksJ7_charAt_0 7 rfl rfl)
theorem dJ7_charAt_10 : decode cJ7_charAt 10 = .ok (.ireturn, 1) := dk_172 (dk_at dksJ7_charAt_0 10 rfl rfl)
abbrev cJ7_checkIndex : ByteArray := prog_30_method_91_code
def yJ7_checkIndex : MethodName := ⟨RJ7, "checkIndex", "(I[B)V"⟩
def dkwJ7_checkIndex_0 : List UInt8 := [26, 43, 184, 0, 48, 184, 1, 158, 177]
abbrev dktJ7_checkIndex_0 : List UInt8 := dkwJ7_checkIndex_0 ++ []
theorem dksJ7_checkIndex_0 : cJ7_checkIndex.data.toList.drop 0 = dktJ7_checkIndex_0 := by decide +kernel
theorem dJ7_checkIndex_0 : decode cJ7_checkIndex 0 = .ok (.iload_n 0, 1) := dk_26 (dk_at dksJ7_checkIndex_0 0 rfl rfl)
theorem dJ7_checkIndex_1 : decode cJ7_checkIndex 1 = .ok (.aload_n 1, 1) := dk_43 (dk_at dksJ7_checkIndex_0 1 rfl rfl)
theorem dJ7_checkIndex_2 : decode cJ7_checkIndex 2 = .ok (.invokestatic 48, 3) := dk_184 0 48 (dk_at dksJ7_checkIndex_0 2 rfl rfl)
theorem dJ7_checkIndex_5 : decode cJ7_checkIndex 5 = .ok (.invokestatic 414, 3) := dk_184 1 158 (dk_at dksJ7_checkIndex_0 5 rfl rfl)
theorem dJ7_checkIndex_8 : decode cJ7_checkIndex 8 = .ok (.return_, 1) := dk_177 (dk_at dksJ7_checkIndex_0 8 rfl rfl)
abbrev cJ7_length : ByteArray := prog_30_method_6_code
def yJ7_length : MethodName := ⟨RJ7, "length", "([B)I"⟩
def dkwJ7_length_0 : List UInt8 := [42, 190, 4, 122, 172]
abbrev dktJ7_length_0 : List UInt8 := dkwJ7_length_0 ++ []
theorem dksJ7_length_0 : cJ7_length.data.toList.drop 0 = dktJ7_length_0 := by decide +kernel
theorem dJ7_length_0 : decode cJ7_length 0 = .ok (.aload_n 0, 1) := dk_42 (dk_at dksJ7_length_0 0 rfl rfl)
theorem dJ7_length_1 : decode cJ7_length 1 = .ok (.arraylength, 1) := dk_190 (dk_at dksJ7_length_0 1 rfl rfl)
theorem dJ7_length_2 : decode cJ7_length 2 = .ok (.iconst 1, 1) := dk_4 (dk_at dksJ7_length_0 2 rfl rfl)
theorem dJ7_length_3 : decode cJ7_length 3 = .ok (.ishr, 1) := dk_122 (dk_at dksJ7_length_0 3 rfl rfl)
theorem dJ7_length_4 : decode cJ7_length 4 = .ok (.ireturn, 1) := dk_172 (dk_at dksJ7_length_0 4 rfl rfl)
abbrev cJ7_getChar : ByteArray := prog_30_method_5_code
def yJ7_getChar : MethodName := ⟨RJ7, "getChar", "([BI)C"⟩
def dkwJ7_getChar_2 : List UInt8 := [51, 17, 0, 255, 126, 178, 0, 63, 120, 128, 146, 172]
abbrev dktJ7_getChar_2 : List UInt8 := dkwJ7_getChar_2 ++ []
def dkwJ7_getChar_1 : List UInt8 := [183, 0, 56, 191, 27, 4, 120, 60, 42, 27, 132, 1, 1, 51, 17, 0, 255, 126, 178, 0, 59, 120, 42, 27]
abbrev dktJ7_getChar_1 : List UInt8 := dkwJ7_getChar_1 ++ dktJ7_getChar_2
def dkwJ7_getChar_0 : List UInt8 := [178, 0, 44, 154, 0, 25, 27, 155, 0, 11, 27, 42, 184, 0, 48, 161, 0, 13, 187, 0, 52, 89, 18, 54]
abbrev dktJ7_getChar_0 : List UInt8 := dkwJ7_getChar_0 ++ dktJ7_getChar_1
theorem dksJ7_getChar_0 : cJ7_getChar.data.toList.drop 0 = dktJ7_getChar_0 := by decide +kernel
theorem dksJ7_getChar_1 : cJ7_getChar.data.toList.drop 24 = dktJ7_getChar_1 := dk_seg dksJ7_getChar_0 24 rfl rfl
theorem dksJ7_getChar_2 : cJ7_getChar.data.toList.drop 48 = dktJ7_getChar_2 := dk_seg dksJ7_getChar_1 24 rfl rfl
theorem dJ7_getChar_0 : decode cJ7_getChar 0 = .ok (.getstatic 44, 3) := dk_178 0 44 (dk_at dksJ7_getChar_0 0 rfl rfl)
theorem dJ7_getChar_3 : decode cJ7_getChar 3 = .ok (.ifCond .ne 25, 3) := dk_154 0 25 (dk_at dksJ7_getChar_0 3 rfl rfl)
theorem dJ7_getChar_6 : decode cJ7_getChar 6 = .ok (.iload_n 1, 1) := dk_27 (dk_at dksJ7_getChar_0 6 rfl rfl)
theorem dJ7_getChar_7 : decode cJ7_getChar 7 = .ok (.ifCond .lt 11, 3) := dk_155 0 11 (dk_at dksJ7_getChar_0 7 rfl rfl)
theorem dJ7_getChar_10 : decode cJ7_getChar 10 = .ok (.iload_n 1, 1) := dk_27 (dk_at dksJ7_getChar_0 10 rfl rfl)
theorem dJ7_getChar_11 : decode cJ7_getChar 11 = .ok (.aload_n 0, 1) := dk_42 (dk_at dksJ7_getChar_0 11 rfl rfl)
theorem dJ7_getChar_12 : decode cJ7_getChar 12 = .ok (.invokestatic 48, 3) := dk_184 0 48 (dk_at dksJ7_getChar_0 12 rfl rfl)
theorem dJ7_getChar_15 : decode cJ7_getChar 15 = .ok (.if_icmp .lt 13, 3) := dk_161 0 13 (dk_at dksJ7_getChar_0 15 rfl rfl)
theorem dJ7_getChar_18 : decode cJ7_getChar 18 = .ok (.new 52, 3) := dk_187 0 52 (dk_at dksJ7_getChar_0 18 rfl rfl)
theorem dJ7_getChar_21 : decode cJ7_getChar 21 = .ok (.dup, 1) := dk_89 (dk_at dksJ7_getChar_0 21 rfl rfl)
theorem dJ7_getChar_22 : decode cJ7_getChar 22 = .ok (.ldc 54, 2) := dk_18 54 (dk_at dksJ7_getChar_0 22 rfl rfl)
theorem dJ7_getChar_24 : decode cJ7_getChar 24 = .ok (.invokespecial 56, 3) := dk_183 0 56 (dk_at dksJ7_getChar_1 0 rfl rfl)
theorem dJ7_getChar_27 : decode cJ7_getChar 27 = .ok (.athrow, 1) := dk_191 (dk_at dksJ7_getChar_1 3 rfl rfl)
theorem dJ7_getChar_28 : decode cJ7_getChar 28 = .ok (.iload_n 1, 1) := dk_27 (dk_at dksJ7_getChar_1 4 rfl rfl)
theorem dJ7_getChar_29 : decode cJ7_getChar 29 = .ok (.iconst 1, 1) := dk_4 (dk_at dksJ7_getChar_1 5 rfl rfl)
theorem dJ7_getChar_30 : decode cJ7_getChar 30 = .ok (.ishl, 1) := dk_120 (dk_at dksJ7_getChar_1 6 rfl rfl)
theorem dJ7_getChar_31 : decode cJ7_getChar 31 = .ok (.istore_n 1, 1) := dk_60 (dk_at dksJ7_getChar_1 7 rfl rfl)
theorem dJ7_getChar_32 : decode cJ7_getChar 32 = .ok (.aload_n 0, 1) := dk_42 (dk_at dksJ7_getChar_1 8 rfl rfl)
theorem dJ7_getChar_33 : decode cJ7_getChar 33 = .ok (.iload_n 1, 1) := dk_27 (dk_at dksJ7_getChar_1 9 rfl rfl)
theorem dJ7_getChar_34 : decode cJ7_getChar 34 = .ok (.iinc 1 1, 3) := dk_132 1 1 (dk_at dksJ7_getChar_1 10 rfl rfl)
theorem dJ7_getChar_37 : decode cJ7_getChar 37 = .ok (.baload, 1) := dk_51 (dk_at dksJ7_getChar_1 13 rfl rfl)
theorem dJ7_getChar_38 : decode cJ7_getChar 38 = .ok (.sipush 255, 3) := dk_17 0 255 (dk_at dksJ7_getChar_1 14 rfl rfl)
theorem dJ7_getChar_41 : decode cJ7_getChar 41 = .ok (.iand, 1) := dk_126 (dk_at dksJ7_getChar_1 17 rfl rfl)
theorem dJ7_getChar_42 : decode cJ7_getChar 42 = .ok (.getstatic 59, 3) := dk_178 0 59 (dk_at dksJ7_getChar_1 18 rfl rfl)
theorem dJ7_getChar_45 : decode cJ7_getChar 45 = .ok (.ishl, 1) := dk_120 (dk_at dksJ7_getChar_1 21 rfl rfl)
theorem dJ7_getChar_46 : decode cJ7_getChar 46 = .ok (.aload_n 0, 1) := dk_42 (dk_at dksJ7_getChar_1 22 rfl rfl)
theorem dJ7_getChar_47 : decode cJ7_getChar 47 = .ok (.iload_n 1, 1) := dk_27 (dk_at dksJ7_getChar_1 23 rfl rfl)
theorem dJ7_getChar_48 : decode cJ7_getChar 48 = .ok (.baload, 1) := dk_51 (dk_at dksJ7_getChar_2 0 rfl rfl)
theorem dJ7_getChar_49 : decode cJ7_getChar 49 = .ok (.sipush 255, 3) := dk_17 0 255 (dk_at dksJ7_getChar_2 1 rfl rfl)
theorem dJ7_getChar_52 : decode cJ7_getChar 52 = .ok (.iand, 1) := dk_126 (dk_at dksJ7_getChar_2 4 rfl rfl)
theorem dJ7_getChar_53 : decode cJ7_getChar 53 = .ok (.getstatic 63, 3) := dk_178 0 63 (dk_at dksJ7_getChar_2 5 rfl rfl)
theorem dJ7_getChar_56 : decode cJ7_getChar 56 = .ok (.ishl, 1) := dk_120 (dk_at dksJ7_getChar_2 8 rfl rfl)
theorem dJ7_getChar_57 : decode cJ7_getChar 57 = .ok (.ior, 1) := dk_128 (dk_at dksJ7_getChar_2 9 rfl rfl)
theorem dJ7_getChar_58 : decode cJ7_getChar 58 = .ok (.i2c, 1) := dk_146 (dk_at dksJ7_getChar_2 10 rfl rfl)
theorem dJ7_getChar_59 : decode cJ7_getChar 59 = .ok (.ireturn, 1) := dk_172 (dk_at dksJ7_getChar_2 11 rfl rfl)
theorem q144 : (Jvm.Cond.initialized "java/lang/StringUTF16") ∈ lw_all := lw_g (lw_at lw_m1 19 rfl) rfl
theorem q574 : (Jvm.Cond.static ({ cls := "java/lang/StringUTF16", name := "charAt", desc := "([BI)C" } : Jvm.MethodName)) ∈ lw_all := lw_g (lw_at lw_m2 209 rfl) rfl
theorem q575 : (Jvm.Cond.code ({ cls := "java/lang/StringUTF16", name := "charAt", desc := "([BI)C" } : Jvm.MethodName) prog_30_method_83_code (2 : Nat) (Option.some Jvm.ClassFile.FieldType.char)) ∈ lw_all := lw_g (lw_at lw_m2 210 rfl) rfl
theorem q576 : (Jvm.Cond.methodLink "java/lang/StringUTF16" (67 : Nat) ({ cls := "java/lang/StringUTF16", name := "checkIndex", desc := "(I[B)V" } : Jvm.MethodName)) ∈ lw_all := lw_g (lw_at lw_m2 211 rfl) rfl
theorem q577 : (Jvm.Cond.static ({ cls := "java/lang/StringUTF16", name := "checkIndex", desc := "(I[B)V" } : Jvm.MethodName)) ∈ lw_all := lw_g (lw_at lw_m2 212 rfl) rfl
theorem q578 : (Jvm.Cond.code ({ cls := "java/lang/StringUTF16", name := "checkIndex", desc := "(I[B)V" } : Jvm.MethodName) prog_30_method_91_code (2 : Nat) (Option.none : Option Jvm.ClassFile.FieldType)) ∈ lw_all := lw_g (lw_at lw_m2 213 rfl) rfl
theorem q579 : (Jvm.Cond.methodLink "java/lang/StringUTF16" (48 : Nat) ({ cls := "java/lang/StringUTF16", name := "length", desc := "([B)I" } : Jvm.MethodName)) ∈ lw_all := lw_g (lw_at lw_m2 214 rfl) rfl
theorem q580 : (Jvm.Cond.static ({ cls := "java/lang/StringUTF16", name := "length", desc := "([B)I" } : Jvm.MethodName)) ∈ lw_all := lw_g (lw_at lw_m2 215 rfl) rfl
theorem q581 : (Jvm.Cond.code ({ cls := "java/lang/StringUTF16", name := "length", desc := "([B)I" } : Jvm.MethodName) prog_30_method_6_code (1 : Nat) (Option.some Jvm.ClassFile.FieldType.int)) ∈ lw_all := lw_g (lw_at lw_m2 216 rfl) rfl
theorem q582 : (Jvm.Cond.methodLink "java/lang/StringUTF16" (414 : Nat) ({ cls := "java/lang/String", name := "checkIndex", desc := "(II)V" } : Jvm.MethodName)) ∈ lw_all := lw_g (lw_at lw_m2 217 rfl) rfl
theorem q583 : (Jvm.Cond.methodLink "java/lang/StringUTF16" (71 : Nat) ({ cls := "java/lang/StringUTF16", name := "getChar", desc := "([BI)C" } : Jvm.MethodName)) ∈ lw_all := lw_g (lw_at lw_m2 218 rfl) rfl
theorem q584 : (Jvm.Cond.static ({ cls := "java/lang/StringUTF16", name := "getChar", desc := "([BI)C" } : Jvm.MethodName)) ∈ lw_all := lw_g (lw_at lw_m2 219 rfl) rfl
theorem q585 : (Jvm.Cond.code ({ cls := "java/lang/StringUTF16", name := "getChar", desc := "([BI)C" } : Jvm.MethodName) prog_30_method_5_code (2 : Nat) (Option.some Jvm.ClassFile.FieldType.char)) ∈ lw_all := lw_g (lw_at lw_m2 220 rfl) rfl
theorem q586 : (Jvm.Cond.fieldLink "java/lang/StringUTF16" (44 : Nat) "java/lang/StringUTF16" "$assertionsDisabled" "Z") ∈ lw_all := lw_g (lw_at lw_m2 221 rfl) rfl
theorem q587 : (Jvm.Cond.laysStatic "java/lang/StringUTF16" "$assertionsDisabled" "Z") ∈ lw_tbl := lw_at lw_m2 222 rfl
theorem q588 : (Jvm.Cond.fieldLink "java/lang/StringUTF16" (59 : Nat) "java/lang/StringUTF16" "HI_BYTE_SHIFT" "I") ∈ lw_all := lw_g (lw_at lw_m2 223 rfl) rfl
theorem q589 : (Jvm.Cond.laysStatic "java/lang/StringUTF16" "HI_BYTE_SHIFT" "I") ∈ lw_tbl := lw_at lw_m2 224 rfl
theorem q590 : (Jvm.Cond.fieldLink "java/lang/StringUTF16" (63 : Nat) "java/lang/StringUTF16" "LO_BYTE_SHIFT" "I") ∈ lw_all := lw_g (lw_at lw_m2 225 rfl) rfl
theorem q591 : (Jvm.Cond.laysStatic "java/lang/StringUTF16" "LO_BYTE_SHIFT" "I") ∈ lw_tbl := lw_at lw_m2 226 rfl
/-! java/lang/Throwable -/
set_option maxRecDepth 100000
def RJ8 : String := "java/lang/Throwable"
def TJ8 : u_T := fun k => match k with
  | 0 => ("java/lang/Throwable", "cause", "Ljava/lang/Throwable;", false)
  | 1 => ("java/lang/Throwable", "stackTrace", "[Ljava/lang/StackTraceElement;", false)
  | 2 => ("java/lang/Throwable", "suppressedExceptions", "Ljava/util/List;", false)
  | 3 => ("java/lang/Throwable", "detailMessage", "Ljava/lang/String;", false)
  | _ => ("java/lang/Throwable", "backtrace", "Ljava/lang/Object;", false)
def tyJ8 : Nat → FieldType := fun k => match k with
  | 0 => .object "java/lang/Throwable"
  | 1 => .array (.object "java/lang/StackTraceElement")
  | 2 => .object "java/util/List"
  | 3 => .object "java/lang/String"
  | _ => .object "java/lang/Object"
abbrev wsJ80 : List Cond := u_ws RJ8 TJ8 5
theorem nmJ8 : ∀ a, a < 5 → ∀ b, b < 5 → a ≠ b → (TJ8 a).2.1 ≠ (TJ8 b).2.1 := by decide +kernel
theorem tyJ8_ok : ∀ k, k < 5 → parseFieldDescriptor (TJ8 k).2.2.1 = some (tyJ8 k) := by decide +kernel
abbrev cJ8_init : ByteArray := prog_32_method_1_code
def yJ8_init : MethodName := ⟨RJ8, "<init>", "()V"⟩
def dkwJ8_init_1 : List UInt8 := [182, 0, 27, 87, 177]
abbrev dktJ8_init_1 : List UInt8 := dkwJ8_init_1 ++ []
def dkwJ8_init_0 : List UInt8 := [42, 183, 0, 1, 42, 42, 181, 0, 7, 42, 178, 0, 13, 181, 0, 17, 42, 178, 0, 20, 181, 0, 24, 42]
abbrev dktJ8_init_0 : List UInt8 := dkwJ8_init_0 ++ dktJ8_init_1
theorem dksJ8_init_0 : cJ8_init.data.toList.drop 0 = dktJ8_init_0 := by decide +kernel
theorem dksJ8_init_1 : cJ8_init.data.toList.drop 24 = dktJ8_init_1 := dk_seg dksJ8_init_0 24 rfl rfl
theorem dJ8_init_0 : decode cJ8_init 0 = .ok (.aload_n 0, 1) := dk_42 (dk_at dksJ8_init_0 0 rfl rfl)
theorem dJ8_init_1 : decode cJ8_init 1 = .ok (.invokespecial 1, 3) := dk_183 0 1 (dk_at dksJ8_init_0 1 rfl rfl)
theorem dJ8_init_4 : decode cJ8_init 4 = .ok (.aload_n 0, 1) := dk_42 (dk_at dksJ8_init_0 4 rfl rfl)
theorem dJ8_init_5 : decode cJ8_init 5 = .ok (.aload_n 0, 1) := dk_42 (dk_at dksJ8_init_0 5 rfl rfl)
theorem dJ8_init_6 : decode cJ8_init 6 = .ok (.putfield 7, 3) := dk_181 0 7 (dk_at dksJ8_init_0 6 rfl rfl)
theorem dJ8_init_9 : decode cJ8_init 9 = .ok (.aload_n 0, 1) := dk_42 (dk_at dksJ8_init_0 9 rfl rfl)
theorem dJ8_init_10 : decode cJ8_init 10 = .ok (.getstatic 13, 3) := dk_178 0 13 (dk_at dksJ8_init_0 10 rfl rfl)
theorem dJ8_init_13 : decode cJ8_init 13 = .ok (.putfield 17, 3) := dk_181 0 17 (dk_at dksJ8_init_0 13 rfl rfl)
theorem dJ8_init_16 : decode cJ8_init 16 = .ok (.aload_n 0, 1) := dk_42 (dk_at dksJ8_init_0 16 rfl rfl)
theorem dJ8_init_17 : decode cJ8_init 17 = .ok (.getstatic 20, 3) := dk_178 0 20 (dk_at dksJ8_init_0 17 rfl rfl)
theorem dJ8_init_20 : decode cJ8_init 20 = .ok (.putfield 24, 3) := dk_181 0 24 (dk_at dksJ8_init_0 20 rfl rfl)
theorem dJ8_init_23 : decode cJ8_init 23 = .ok (.aload_n 0, 1) := dk_42 (dk_at dksJ8_init_0 23 rfl rfl)
theorem dJ8_init_24 : decode cJ8_init 24 = .ok (.invokevirtual 27, 3) := dk_182 0 27 (dk_at dksJ8_init_1 0 rfl rfl)
theorem dJ8_init_27 : decode cJ8_init 27 = .ok (.pop, 1) := dk_87 (dk_at dksJ8_init_1 3 rfl rfl)
theorem dJ8_init_28 : decode cJ8_init 28 = .ok (.return_, 1) := dk_177 (dk_at dksJ8_init_1 4 rfl rfl)
abbrev cJ8_init_2 : ByteArray := prog_32_method_5_code
def yJ8_init_2 : MethodName := ⟨RJ8, "<init>", "(Ljava/lang/String;Ljava/lang/Throwable;ZZ)V"⟩
def dkwJ8_init_2_2 : List UInt8 := [44, 181, 0, 7, 29, 154, 0, 8, 42, 1, 181, 0, 24, 177]
abbrev dktJ8_init_2_2 : List UInt8 := dkwJ8_init_2_2 ++ []
def dkwJ8_init_2_1 : List UInt8 := [21, 4, 153, 0, 11, 42, 182, 0, 27, 87, 167, 0, 8, 42, 1, 181, 0, 17, 42, 43, 181, 0, 31, 42]
abbrev dktJ8_init_2_1 : List UInt8 := dkwJ8_init_2_1 ++ dktJ8_init_2_2
def dkwJ8_init_2_0 : List UInt8 := [42, 183, 0, 1, 42, 42, 181, 0, 7, 42, 178, 0, 13, 181, 0, 17, 42, 178, 0, 20, 181, 0, 24]
abbrev dktJ8_init_2_0 : List UInt8 := dkwJ8_init_2_0 ++ dktJ8_init_2_1
theorem dksJ8_init_2_0 : cJ8_init_2.data.toList.drop 0 = dktJ8_init_2_0 := by decide +kernel
theorem dksJ8_init_2_1 : cJ8_init_2.data.toList.drop 23 = dktJ8_init_2_1 := dk_seg dksJ8_init_2_0 23 rfl rfl
theorem dksJ8_init_2_2 : cJ8_init_2.data.toList.drop 47 = dktJ8_init_2_2 := dk_seg dksJ8_init_2_1 24 rfl rfl
theorem dJ8_init_2_0 : decode cJ8_init_2 0 = .ok (.aload_n 0, 1) := dk_42 (dk_at dksJ8_init_2_0 0 rfl rfl)
theorem dJ8_init_2_1 : decode cJ8_init_2 1 = .ok (.invokespecial 1, 3) := dk_183 0 1 (dk_at dksJ8_init_2_0 1 rfl rfl)
theorem dJ8_init_2_4 : decode cJ8_init_2 4 = .ok (.aload_n 0, 1) := dk_42 (dk_at dksJ8_init_2_0 4 rfl rfl)
theorem dJ8_init_2_5 : decode cJ8_init_2 5 = .ok (.aload_n 0, 1) := dk_42 (dk_at dksJ8_init_2_0 5 rfl rfl)
theorem dJ8_init_2_6 : decode cJ8_init_2 6 = .ok (.putfield 7, 3) := dk_181 0 7 (dk_at dksJ8_init_2_0 6 rfl rfl)
theorem dJ8_init_2_9 : decode cJ8_init_2 9 = .ok (.aload_n 0, 1) := dk_42 (dk_at dksJ8_init_2_0 9 rfl rfl)
theorem dJ8_init_2_10 : decode cJ8_init_2 10 = .ok (.getstatic 13, 3) := dk_178 0 13 (dk_at dksJ8_init_2_0 10 rfl rfl)
theorem dJ8_init_2_13 : decode cJ8_init_2 13 = .ok (.putfield 17, 3) := dk_181 0 17 (dk_at dksJ8_init_2_0 13 rfl rfl)
theorem dJ8_init_2_16 : decode cJ8_init_2 16 = .ok (.aload_n 0, 1) := dk_42 (dk_at dksJ8_init_2_0 16 rfl rfl)
theorem dJ8_init_2_17 : decode cJ8_init_2 17 = .ok (.getstatic 20, 3) := dk_178 0 20 (dk_at dksJ8_init_2_0 17 rfl rfl)
theorem dJ8_init_2_20 : decode cJ8_init_2 20 = .ok (.putfield 24, 3) := dk_181 0 24 (dk_at dksJ8_init_2_0 20 rfl rfl)
theorem dJ8_init_2_23 : decode cJ8_init_2 23 = .ok (.iload 4, 2) := dk_21 4 (dk_at dksJ8_init_2_1 0 rfl rfl)
theorem dJ8_init_2_25 : decode cJ8_init_2 25 = .ok (.ifCond .eq 11, 3) := dk_153 0 11 (dk_at dksJ8_init_2_1 2 rfl rfl)
theorem dJ8_init_2_28 : decode cJ8_init_2 28 = .ok (.aload_n 0, 1) := dk_42 (dk_at dksJ8_init_2_1 5 rfl rfl)
theorem dJ8_init_2_29 : decode cJ8_init_2 29 = .ok (.invokevirtual 27, 3) := dk_182 0 27 (dk_at dksJ8_init_2_1 6 rfl rfl)
theorem dJ8_init_2_32 : decode cJ8_init_2 32 = .ok (.pop, 1) := dk_87 (dk_at dksJ8_init_2_1 9 rfl rfl)
theorem dJ8_init_2_33 : decode cJ8_init_2 33 = .ok (.goto 8, 3) := dk_167 0 8 (dk_at dksJ8_init_2_1 10 rfl rfl)
theorem dJ8_init_2_36 : decode cJ8_init_2 36 = .ok (.aload_n 0, 1) := dk_42 (dk_at dksJ8_init_2_1 13 rfl rfl)
theorem dJ8_init_2_37 : decode cJ8_init_2 37 = .ok (.aconst_null, 1) := dk_1 (dk_at dksJ8_init_2_1 14 rfl rfl)
theorem dJ8_init_2_38 : decode cJ8_init_2 38 = .ok (.putfield 17, 3) := dk_181 0 17 (dk_at dksJ8_init_2_1 15 rfl rfl)
theorem dJ8_init_2_41 : decode cJ8_init_2 41 = .ok (.aload_n 0, 1) := dk_42 (dk_at dksJ8_init_2_1 18 rfl rfl)
theorem dJ8_init_2_42 : decode cJ8_init_2 42 = .ok (.aload_n 1, 1) := dk_43 (dk_at dksJ8_init_2_1 19 rfl rfl)
theorem dJ8_init_2_43 : decode cJ8_init_2 43 = .ok (.putfield 31, 3) := dk_181 0 31 (dk_at dksJ8_init_2_1 20 rfl rfl)
theorem dJ8_init_2_46 : decode cJ8_init_2 46 = .ok (.aload_n 0, 1) := dk_42 (dk_at dksJ8_init_2_1 23 rfl rfl)
theorem dJ8_init_2_47 : decode cJ8_init_2 47 = .ok (.aload_n 2, 1) := dk_44 (dk_at dksJ8_init_2_2 0 rfl rfl)
theorem dJ8_init_2_48 : decode cJ8_init_2 48 = .ok (.putfield 7, 3) := dk_181 0 7 (dk_at dksJ8_init_2_2 1 rfl rfl)
theorem dJ8_init_2_51 : decode cJ8_init_2 51 = .ok (.iload_n 3, 1) := dk_29 (dk_at dksJ8_init_2_2 4 rfl rfl)
theorem dJ8_init_2_52 : decode cJ8_init_2 52 = .ok (.ifCond .ne 8, 3) := dk_154 0 8 (dk_at dksJ8_init_2_2 5 rfl rfl)
theorem dJ8_init_2_55 : decode cJ8_init_2 55 = .ok (.aload_n 0, 1) := dk_42 (dk_at dksJ8_init_2_2 8 rfl rfl)
theorem dJ8_init_2_56 : decode cJ8_init_2 56 = .ok (.aconst_null, 1) := dk_1 (dk_at dksJ8_init_2_2 9 rfl rfl)
theorem dJ8_init_2_57 : decode cJ8_init_2 57 = .ok (.putfield 24, 3) := dk_181 0 24 (dk_at dksJ8_init_2_2 10 rfl rfl)
theorem dJ8_init_2_60 : decode cJ8_init_2 60 = .ok (.return_, 1) := dk_177 (dk_at dksJ8_init_2_2 13 rfl rfl)
abbrev cJ8_init_3 : ByteArray := prog_32_method_2_code
def yJ8_init_3 : MethodName := ⟨RJ8, "<init>", "(Ljava/lang/String;)V"⟩
def dkwJ8_init_3_1 : List UInt8 := [182, 0, 27, 87, 42, 43, 181, 0, 31, 177]
abbrev dktJ8_init_3_1 : List UInt8 := dkwJ8_init_3_1 ++ []
def dkwJ8_init_3_0 : List UInt8 := [42, 183, 0, 1, 42, 42, 181, 0, 7, 42, 178, 0, 13, 181, 0, 17, 42, 178, 0, 20, 181, 0, 24, 42]
abbrev dktJ8_init_3_0 : List UInt8 := dkwJ8_init_3_0 ++ dktJ8_init_3_1
theorem dksJ8_init_3_0 : cJ8_init_3.data.toList.drop 0 = dktJ8_init_3_0 := by decide +kernel
theorem dksJ8_init_3_1 : cJ8_init_3.data.toList.drop 24 = dktJ8_init_3_1 := dk_seg dksJ8_init_3_0 24 rfl rfl
theorem dJ8_init_3_0 : decode cJ8_init_3 0 = .ok (.aload_n 0, 1) := dk_42 (dk_at dksJ8_init_3_0 0 rfl rfl)
theorem dJ8_init_3_1 : decode cJ8_init_3 1 = .ok (.invokespecial 1, 3) := dk_183 0 1 (dk_at dksJ8_init_3_0 1 rfl rfl)
theorem dJ8_init_3_4 : decode cJ8_init_3 4 = .ok (.aload_n 0, 1) := dk_42 (dk_at dksJ8_init_3_0 4 rfl rfl)
theorem dJ8_init_3_5 : decode cJ8_init_3 5 = .ok (.aload_n 0, 1) := dk_42 (dk_at dksJ8_init_3_0 5 rfl rfl)
theorem dJ8_init_3_6 : decode cJ8_init_3 6 = .ok (.putfield 7, 3) := dk_181 0 7 (dk_at dksJ8_init_3_0 6 rfl rfl)
theorem dJ8_init_3_9 : decode cJ8_init_3 9 = .ok (.aload_n 0, 1) := dk_42 (dk_at dksJ8_init_3_0 9 rfl rfl)
theorem dJ8_init_3_10 : decode cJ8_init_3 10 = .ok (.getstatic 13, 3) := dk_178 0 13 (dk_at dksJ8_init_3_0 10 rfl rfl)
theorem dJ8_init_3_13 : decode cJ8_init_3 13 = .ok (.putfield 17, 3) := dk_181 0 17 (dk_at dksJ8_init_3_0 13 rfl rfl)
theorem dJ8_init_3_16 : decode cJ8_init_3 16 = .ok (.aload_n 0, 1) := dk_42 (dk_at dksJ8_init_3_0 16 rfl rfl)
theorem dJ8_init_3_17 : decode cJ8_init_3 17 = .ok (.getstatic 20, 3) := dk_178 0 20 (dk_at dksJ8_init_3_0 17 rfl rfl)
theorem dJ8_init_3_20 : decode cJ8_init_3 20 = .ok (.putfield 24, 3) := dk_181 0 24 (dk_at dksJ8_init_3_0 20 rfl rfl)
theorem dJ8_init_3_23 : decode cJ8_init_3 23 = .ok (.aload_n 0, 1) := dk_42 (dk_at dksJ8_init_3_0 23 rfl rfl)
theorem dJ8_init_3_24 : decode cJ8_init_3 24 = .ok (.invokevirtual 27, 3) := dk_182 0 27 (dk_at dksJ8_init_3_1 0 rfl rfl)
theorem dJ8_init_3_27 : decode cJ8_init_3 27 = .ok (.pop, 1) := dk_87 (dk_at dksJ8_init_3_1 3 rfl rfl)
theorem dJ8_init_3_28 : decode cJ8_init_3 28 = .ok (.aload_n 0, 1) := dk_42 (dk_at dksJ8_init_3_1 4 rfl rfl)
theorem dJ8_init_3_29 : decode cJ8_init_3 29 = .ok (.aload_n 1, 1) := dk_43 (dk_at dksJ8_init_3_1 5 rfl rfl)
theorem dJ8_init_3_30 : decode cJ8_init_3 30 = .ok (.putfield 31, 3) := dk_181 0 31 (dk_at dksJ8_init_3_1 6 rfl rfl)
theorem dJ8_init_3_33 : decode cJ8_init_3 33 = .ok (.return_, 1) := dk_177 (dk_at dksJ8_init_3_1 9 rfl rfl)
theorem q145 : (Jvm.Cond.initialized "java/lang/Throwable") ∈ lw_all := lw_g (lw_at lw_m1 20 rfl) rfl
theorem q601 : (Jvm.Cond.declares ({ cls := "java/lang/Throwable", name := "<init>", desc := "()V" } : Jvm.MethodName)) ∈ lw_tbl := lw_at lw_m2 236 rfl
theorem q602 : (Jvm.Cond.declares ({ cls := "java/lang/Throwable", name := "<init>", desc := "(Ljava/lang/String;)V" } : Jvm.MethodName)) ∈ lw_tbl := lw_at lw_m2 237 rfl
theorem q606 : (Jvm.Cond.lays "java/lang/Throwable" "java/lang/Throwable" "cause" "Ljava/lang/Throwable;") ∈ lw_all := lw_g (lw_at lw_m3 1 rfl) rfl
theorem q608 : (Jvm.Cond.lays "java/lang/Throwable" "java/lang/Throwable" "stackTrace" "[Ljava/lang/StackTraceElement;") ∈ lw_all := lw_g (lw_at lw_m3 3 rfl) rfl
theorem q610 : (Jvm.Cond.lays "java/lang/Throwable" "java/lang/Throwable" "suppressedExceptions" "Ljava/util/List;") ∈ lw_all := lw_g (lw_at lw_m3 5 rfl) rfl
theorem q612 : (Jvm.Cond.lays "java/lang/Throwable" "java/lang/Throwable" "detailMessage" "Ljava/lang/String;") ∈ lw_all := lw_g (lw_at lw_m3 7 rfl) rfl
theorem q614 : (Jvm.Cond.lays "java/lang/Throwable" "java/lang/Throwable" "backtrace" "Ljava/lang/Object;") ∈ lw_all := lw_g (lw_at lw_m3 9 rfl) rfl
theorem q615 : (Jvm.Cond.fieldLink "java/lang/Throwable" (198 : Nat) "java/lang/Throwable" "backtrace" "Ljava/lang/Object;") ∈ lw_all := lw_g (lw_at lw_m3 10 rfl) rfl
theorem q616 : (Jvm.Cond.superclass "java/lang/Throwable" "java/lang/Object") ∈ lw_all := lw_g (lw_at lw_m3 11 rfl) rfl
theorem q617 : (Jvm.Cond.instanceMethod ({ cls := "java/lang/Throwable", name := "<init>", desc := "()V" } : Jvm.MethodName)) ∈ lw_all := lw_g (lw_at lw_m3 12 rfl) rfl
theorem q618 : (Jvm.Cond.code ({ cls := "java/lang/Throwable", name := "<init>", desc := "()V" } : Jvm.MethodName) prog_32_method_1_code (1 : Nat) (Option.none : Option Jvm.ClassFile.FieldType)) ∈ lw_all := lw_g (lw_at lw_m3 13 rfl) rfl
theorem q619 : (Jvm.Cond.methodLink "java/lang/Throwable" (1 : Nat) ({ cls := "java/lang/Object", name := "<init>", desc := "()V" } : Jvm.MethodName)) ∈ lw_all := lw_g (lw_at lw_m3 14 rfl) rfl
theorem q620 : (Jvm.Cond.fieldLink "java/lang/Throwable" (13 : Nat) "java/lang/Throwable" "UNASSIGNED_STACK" "[Ljava/lang/StackTraceElement;") ∈ lw_all := lw_g (lw_at lw_m3 15 rfl) rfl
theorem q621 : (Jvm.Cond.laysStatic "java/lang/Throwable" "UNASSIGNED_STACK" "[Ljava/lang/StackTraceElement;") ∈ lw_tbl := lw_at lw_m3 16 rfl
theorem q622 : (Jvm.Cond.fieldLink "java/lang/Throwable" (20 : Nat) "java/lang/Throwable" "SUPPRESSED_SENTINEL" "Ljava/util/List;") ∈ lw_all := lw_g (lw_at lw_m3 17 rfl) rfl
theorem q623 : (Jvm.Cond.laysStatic "java/lang/Throwable" "SUPPRESSED_SENTINEL" "Ljava/util/List;") ∈ lw_tbl := lw_at lw_m3 18 rfl
theorem q624 : (Jvm.Cond.methodLink "java/lang/Throwable" (27 : Nat) ({ cls := "java/lang/Throwable", name := "fillInStackTrace", desc := "()Ljava/lang/Throwable;" } : Jvm.MethodName)) ∈ lw_all := lw_g (lw_at lw_m3 19 rfl) rfl
theorem q625 : (Jvm.Cond.instanceMethod ({ cls := "java/lang/Throwable", name := "fillInStackTrace", desc := "()Ljava/lang/Throwable;" } : Jvm.MethodName)) ∈ lw_all := lw_g (lw_at lw_m3 20 rfl) rfl
theorem q626 : (Jvm.Cond.sameMethod "java/lang/Throwable" "java/lang/Throwable" "fillInStackTrace" "()Ljava/lang/Throwable;") ∈ lw_all := lw_g (lw_at lw_m3 21 rfl) rfl
theorem q640 : (Jvm.Cond.declares ({ cls := "java/lang/Throwable", name := "fillInStackTrace", desc := "()Ljava/lang/Throwable;" } : Jvm.MethodName)) ∈ lw_tbl := lw_at lw_m3 35 rfl
theorem q644 : (Jvm.Cond.codeSync ({ cls := "java/lang/Throwable", name := "fillInStackTrace", desc := "()Ljava/lang/Throwable;" } : Jvm.MethodName) prog_32_method_18_code (1 : Nat) (Option.some (Jvm.ClassFile.FieldType.object "java/lang/Throwable"))) ∈ lw_all := lw_g (lw_at lw_m3 39 rfl) rfl
theorem q645 : (Jvm.Cond.methodLink "java/lang/Throwable" (202 : Nat) ({ cls := "java/lang/Throwable", name := "fillInStackTrace", desc := "(I)Ljava/lang/Throwable;" } : Jvm.MethodName)) ∈ lw_all := lw_g (lw_at lw_m3 40 rfl) rfl
theorem q646 : (Jvm.Cond.privateMethod ({ cls := "java/lang/Throwable", name := "fillInStackTrace", desc := "(I)Ljava/lang/Throwable;" } : Jvm.MethodName)) ∈ lw_tbl := lw_at lw_m3 41 rfl
theorem q647 : (Jvm.Cond.instanceMethod ({ cls := "java/lang/Throwable", name := "fillInStackTrace", desc := "(I)Ljava/lang/Throwable;" } : Jvm.MethodName)) ∈ lw_all := lw_g (lw_at lw_m3 42 rfl) rfl
theorem q648 : (Jvm.Cond.instantiable "java/lang/Throwable" (6 : Nat)) ∈ lw_all := lw_g (lw_at lw_m3 43 rfl) rfl
theorem q649 : (Jvm.Cond.native ({ cls := "java/lang/Throwable", name := "fillInStackTrace", desc := "(I)Ljava/lang/Throwable;" } : Jvm.MethodName)) ∈ lw_all := lw_g (lw_at lw_m3 44 rfl) rfl
theorem q657 : (Jvm.Cond.instanceMethod ({ cls := "java/lang/Throwable", name := "<init>", desc := "(Ljava/lang/String;Ljava/lang/Throwable;ZZ)V" } : Jvm.MethodName)) ∈ lw_all := lw_g (lw_at lw_m3 52 rfl) rfl
theorem q658 : (Jvm.Cond.code ({ cls := "java/lang/Throwable", name := "<init>", desc := "(Ljava/lang/String;Ljava/lang/Throwable;ZZ)V" } : Jvm.MethodName) prog_32_method_5_code (5 : Nat) (Option.none : Option Jvm.ClassFile.FieldType)) ∈ lw_all := lw_g (lw_at lw_m3 53 rfl) rfl
theorem q663 : (Jvm.Cond.fieldLink "java/lang/Throwable" (198 : Nat) "java/lang/Throwable" "backtrace" "Ljava/lang/Object;") ∈ lw_all := lw_g (lw_at lw_m3 58 rfl) rfl
theorem q664 : (Jvm.Cond.fieldLink "java/lang/Throwable" (31 : Nat) "java/lang/Throwable" "detailMessage" "Ljava/lang/String;") ∈ lw_all := lw_g (lw_at lw_m3 59 rfl) rfl
theorem q665 : (Jvm.Cond.fieldLink "java/lang/Throwable" (7 : Nat) "java/lang/Throwable" "cause" "Ljava/lang/Throwable;") ∈ lw_all := lw_g (lw_at lw_m3 60 rfl) rfl
theorem q666 : (Jvm.Cond.fieldLink "java/lang/Throwable" (17 : Nat) "java/lang/Throwable" "stackTrace" "[Ljava/lang/StackTraceElement;") ∈ lw_all := lw_g (lw_at lw_m3 61 rfl) rfl
theorem q667 : (Jvm.Cond.fieldLink "java/lang/Throwable" (24 : Nat) "java/lang/Throwable" "suppressedExceptions" "Ljava/util/List;") ∈ lw_all := lw_g (lw_at lw_m3 62 rfl) rfl
theorem q672 : (Jvm.Cond.soleField "java/lang/Throwable" "backtrace") ∈ lw_all := lw_g (lw_at lw_m3 67 rfl) rfl
theorem q673 : (Jvm.Cond.soleField "java/lang/Throwable" "detailMessage") ∈ lw_all := lw_g (lw_at lw_m3 68 rfl) rfl
theorem q674 : (Jvm.Cond.soleField "java/lang/Throwable" "cause") ∈ lw_all := lw_g (lw_at lw_m3 69 rfl) rfl
theorem q675 : (Jvm.Cond.soleField "java/lang/Throwable" "stackTrace") ∈ lw_all := lw_g (lw_at lw_m3 70 rfl) rfl
theorem q677 : (Jvm.Cond.soleField "java/lang/Throwable" "depth") ∈ lw_all := lw_g (lw_at lw_m3 72 rfl) rfl
theorem q678 : (Jvm.Cond.soleField "java/lang/Throwable" "suppressedExceptions") ∈ lw_all := lw_g (lw_at lw_m3 73 rfl) rfl
theorem q1409 : (Jvm.Cond.instanceMethod ({ cls := "java/lang/Throwable", name := "<init>", desc := "(Ljava/lang/String;)V" } : Jvm.MethodName)) ∈ lw_all := lw_g (lw_at lw_m6 84 rfl) rfl
theorem q1410 : (Jvm.Cond.code ({ cls := "java/lang/Throwable", name := "<init>", desc := "(Ljava/lang/String;)V" } : Jvm.MethodName) prog_32_method_2_code (2 : Nat) (Option.none : Option Jvm.ClassFile.FieldType)) ∈ lw_all := lw_g (lw_at lw_m6 85 rfl) rfl
theorem q2243 : (Jvm.Cond.sameMethod "java/lang/Throwable" "java/lang/Throwable" "fillInStackTrace" "(I)Ljava/lang/Throwable;") ∈ lw_all := lw_g (lw_at lw_m9 198 rfl) rfl
theorem q2262 : (Jvm.Cond.castable "java/lang/Throwable" "java/lang/Object") ∈ lw_tbl := lw_at lw_m9 217 rfl
theorem in_J8 : ∀ w ∈ wsJ80, w ∈ lw_all := lw_in wsJ80 [606, 608, 610, 612, 614] (by decide +kernel) (by decide +kernel)
/-! java/lang/Exception -/
set_option maxRecDepth 100000
def RJ9 : String := "java/lang/Exception"
abbrev cJ9_init : ByteArray := prog_20_method_5_code
def yJ9_init : MethodName := ⟨RJ9, "<init>", "(Ljava/lang/String;Ljava/lang/Throwable;ZZ)V"⟩
def dkwJ9_init_0 : List UInt8 := [42, 43, 44, 29, 21, 4, 183, 0, 16, 177]
abbrev dktJ9_init_0 : List UInt8 := dkwJ9_init_0 ++ []
theorem dksJ9_init_0 : cJ9_init.data.toList.drop 0 = dktJ9_init_0 := by decide +kernel
theorem dJ9_init_0 : decode cJ9_init 0 = .ok (.aload_n 0, 1) := dk_42 (dk_at dksJ9_init_0 0 rfl rfl)
theorem dJ9_init_1 : decode cJ9_init 1 = .ok (.aload_n 1, 1) := dk_43 (dk_at dksJ9_init_0 1 rfl rfl)
theorem dJ9_init_2 : decode cJ9_init 2 = .ok (.aload_n 2, 1) := dk_44 (dk_at dksJ9_init_0 2 rfl rfl)
theorem dJ9_init_3 : decode cJ9_init 3 = .ok (.iload_n 3, 1) := dk_29 (dk_at dksJ9_init_0 3 rfl rfl)
theorem dJ9_init_4 : decode cJ9_init 4 = .ok (.iload 4, 2) := dk_21 4 (dk_at dksJ9_init_0 4 rfl rfl)
theorem dJ9_init_6 : decode cJ9_init 6 = .ok (.invokespecial 16, 3) := dk_183 0 16 (dk_at dksJ9_init_0 6 rfl rfl)
theorem dJ9_init_9 : decode cJ9_init 9 = .ok (.return_, 1) := dk_177 (dk_at dksJ9_init_0 9 rfl rfl)
abbrev cJ9_init_2 : ByteArray := prog_20_method_1_code
def yJ9_init_2 : MethodName := ⟨RJ9, "<init>", "()V"⟩
theorem dJ9_init_2_0 : decode cJ9_init_2 0 = .ok (.aload_n 0, 1) := by decide +kernel
theorem dJ9_init_2_1 : decode cJ9_init_2 1 = .ok (.invokespecial 1, 3) := by decide +kernel
theorem dJ9_init_2_4 : decode cJ9_init_2 4 = .ok (.return_, 1) := by decide +kernel
abbrev cJ9_init_3 : ByteArray := prog_20_method_2_code
def yJ9_init_3 : MethodName := ⟨RJ9, "<init>", "(Ljava/lang/String;)V"⟩
def dkwJ9_init_3_0 : List UInt8 := [42, 43, 183, 0, 7, 177]
abbrev dktJ9_init_3_0 : List UInt8 := dkwJ9_init_3_0 ++ []
theorem dksJ9_init_3_0 : cJ9_init_3.data.toList.drop 0 = dktJ9_init_3_0 := by decide +kernel
theorem dJ9_init_3_0 : decode cJ9_init_3 0 = .ok (.aload_n 0, 1) := dk_42 (dk_at dksJ9_init_3_0 0 rfl rfl)
theorem dJ9_init_3_1 : decode cJ9_init_3 1 = .ok (.aload_n 1, 1) := dk_43 (dk_at dksJ9_init_3_0 1 rfl rfl)
theorem dJ9_init_3_2 : decode cJ9_init_3 2 = .ok (.invokespecial 7, 3) := dk_183 0 7 (dk_at dksJ9_init_3_0 2 rfl rfl)
theorem dJ9_init_3_5 : decode cJ9_init_3 5 = .ok (.return_, 1) := dk_177 (dk_at dksJ9_init_3_0 5 rfl rfl)
theorem q146 : (Jvm.Cond.initialized "java/lang/Exception") ∈ lw_all := lw_g (lw_at lw_m1 21 rfl) rfl
theorem q599 : (Jvm.Cond.declares ({ cls := "java/lang/Exception", name := "<init>", desc := "()V" } : Jvm.MethodName)) ∈ lw_tbl := lw_at lw_m2 234 rfl
theorem q600 : (Jvm.Cond.declares ({ cls := "java/lang/Exception", name := "<init>", desc := "(Ljava/lang/String;)V" } : Jvm.MethodName)) ∈ lw_tbl := lw_at lw_m2 235 rfl
theorem q643 : (Jvm.Cond.superclass "java/lang/Exception" "java/lang/Throwable") ∈ lw_all := lw_g (lw_at lw_m3 38 rfl) rfl
theorem q654 : (Jvm.Cond.instanceMethod ({ cls := "java/lang/Exception", name := "<init>", desc := "(Ljava/lang/String;Ljava/lang/Throwable;ZZ)V" } : Jvm.MethodName)) ∈ lw_all := lw_g (lw_at lw_m3 49 rfl) rfl
theorem q655 : (Jvm.Cond.code ({ cls := "java/lang/Exception", name := "<init>", desc := "(Ljava/lang/String;Ljava/lang/Throwable;ZZ)V" } : Jvm.MethodName) prog_20_method_5_code (5 : Nat) (Option.none : Option Jvm.ClassFile.FieldType)) ∈ lw_all := lw_g (lw_at lw_m3 50 rfl) rfl
theorem q656 : (Jvm.Cond.methodLink "java/lang/Exception" (16 : Nat) ({ cls := "java/lang/Throwable", name := "<init>", desc := "(Ljava/lang/String;Ljava/lang/Throwable;ZZ)V" } : Jvm.MethodName)) ∈ lw_all := lw_g (lw_at lw_m3 51 rfl) rfl
theorem q1081 : (Jvm.Cond.instanceMethod ({ cls := "java/lang/Exception", name := "<init>", desc := "()V" } : Jvm.MethodName)) ∈ lw_all := lw_g (lw_at lw_m4 236 rfl) rfl
theorem q1082 : (Jvm.Cond.code ({ cls := "java/lang/Exception", name := "<init>", desc := "()V" } : Jvm.MethodName) prog_20_method_1_code (1 : Nat) (Option.none : Option Jvm.ClassFile.FieldType)) ∈ lw_all := lw_g (lw_at lw_m4 237 rfl) rfl
theorem q1083 : (Jvm.Cond.methodLink "java/lang/Exception" (1 : Nat) ({ cls := "java/lang/Throwable", name := "<init>", desc := "()V" } : Jvm.MethodName)) ∈ lw_all := lw_g (lw_at lw_m4 238 rfl) rfl
theorem q1406 : (Jvm.Cond.instanceMethod ({ cls := "java/lang/Exception", name := "<init>", desc := "(Ljava/lang/String;)V" } : Jvm.MethodName)) ∈ lw_all := lw_g (lw_at lw_m6 81 rfl) rfl
theorem q1407 : (Jvm.Cond.code ({ cls := "java/lang/Exception", name := "<init>", desc := "(Ljava/lang/String;)V" } : Jvm.MethodName) prog_20_method_2_code (2 : Nat) (Option.none : Option Jvm.ClassFile.FieldType)) ∈ lw_all := lw_g (lw_at lw_m6 82 rfl) rfl
theorem q1408 : (Jvm.Cond.methodLink "java/lang/Exception" (7 : Nat) ({ cls := "java/lang/Throwable", name := "<init>", desc := "(Ljava/lang/String;)V" } : Jvm.MethodName)) ∈ lw_all := lw_g (lw_at lw_m6 83 rfl) rfl
/-! java/lang/Integer -/
set_option maxRecDepth 100000
def RJ10 : String := "java/lang/Integer"
abbrev cJ10_signum : ByteArray := prog_22_method_56_code
def yJ10_signum : MethodName := ⟨RJ10, "signum", "(I)I"⟩
def dkwJ10_signum_0 : List UInt8 := [26, 16, 31, 122, 26, 116, 16, 31, 124, 128, 172]
abbrev dktJ10_signum_0 : List UInt8 := dkwJ10_signum_0 ++ []
theorem dksJ10_signum_0 : cJ10_signum.data.toList.drop 0 = dktJ10_signum_0 := by decide +kernel
theorem dJ10_signum_0 : decode cJ10_signum 0 = .ok (.iload_n 0, 1) := dk_26 (dk_at dksJ10_signum_0 0 rfl rfl)
theorem dJ10_signum_1 : decode cJ10_signum 1 = .ok (.bipush 31, 2) := dk_16 31 (dk_at dksJ10_signum_0 1 rfl rfl)
theorem dJ10_signum_3 : decode cJ10_signum 3 = .ok (.ishr, 1) := dk_122 (dk_at dksJ10_signum_0 3 rfl rfl)
theorem dJ10_signum_4 : decode cJ10_signum 4 = .ok (.iload_n 0, 1) := dk_26 (dk_at dksJ10_signum_0 4 rfl rfl)
theorem dJ10_signum_5 : decode cJ10_signum 5 = .ok (.ineg, 1) := dk_116 (dk_at dksJ10_signum_0 5 rfl rfl)
theorem dJ10_signum_6 : decode cJ10_signum 6 = .ok (.bipush 31, 2) := dk_16 31 (dk_at dksJ10_signum_0 6 rfl rfl)
theorem dJ10_signum_8 : decode cJ10_signum 8 = .ok (.iushr, 1) := dk_124 (dk_at dksJ10_signum_0 8 rfl rfl)
theorem dJ10_signum_9 : decode cJ10_signum 9 = .ok (.ior, 1) := dk_128 (dk_at dksJ10_signum_0 9 rfl rfl)
theorem dJ10_signum_10 : decode cJ10_signum 10 = .ok (.ireturn, 1) := dk_172 (dk_at dksJ10_signum_0 10 rfl rfl)
abbrev cJ10_bitCount : ByteArray := prog_22_method_49_code
def yJ10_bitCount : MethodName := ⟨RJ10, "bitCount", "(I)I"⟩
def dkwJ10_bitCount_2 : List UInt8 := [26, 16, 63, 126, 172]
abbrev dktJ10_bitCount_2 : List UInt8 := dkwJ10_bitCount_2 ++ []
def dkwJ10_bitCount_1 : List UInt8 := [26, 26, 7, 124, 96, 19, 1, 11, 126, 59, 26, 26, 16, 8, 124, 96, 59, 26, 26, 16, 16, 124, 96, 59]
abbrev dktJ10_bitCount_1 : List UInt8 := dkwJ10_bitCount_1 ++ dktJ10_bitCount_2
def dkwJ10_bitCount_0 : List UInt8 := [26, 26, 4, 124, 19, 1, 9, 126, 100, 59, 26, 19, 1, 10, 126, 26, 5, 124, 19, 1, 10, 126, 96, 59]
abbrev dktJ10_bitCount_0 : List UInt8 := dkwJ10_bitCount_0 ++ dktJ10_bitCount_1
theorem dksJ10_bitCount_0 : cJ10_bitCount.data.toList.drop 0 = dktJ10_bitCount_0 := by decide +kernel
theorem dksJ10_bitCount_1 : cJ10_bitCount.data.toList.drop 24 = dktJ10_bitCount_1 := dk_seg dksJ10_bitCount_0 24 rfl rfl
theorem dksJ10_bitCount_2 : cJ10_bitCount.data.toList.drop 48 = dktJ10_bitCount_2 := dk_seg dksJ10_bitCount_1 24 rfl rfl
theorem dJ10_bitCount_0 : decode cJ10_bitCount 0 = .ok (.iload_n 0, 1) := dk_26 (dk_at dksJ10_bitCount_0 0 rfl rfl)
theorem dJ10_bitCount_1 : decode cJ10_bitCount 1 = .ok (.iload_n 0, 1) := dk_26 (dk_at dksJ10_bitCount_0 1 rfl rfl)
theorem dJ10_bitCount_2 : decode cJ10_bitCount 2 = .ok (.iconst 1, 1) := dk_4 (dk_at dksJ10_bitCount_0 2 rfl rfl)
theorem dJ10_bitCount_3 : decode cJ10_bitCount 3 = .ok (.iushr, 1) := dk_124 (dk_at dksJ10_bitCount_0 3 rfl rfl)
theorem dJ10_bitCount_4 : decode cJ10_bitCount 4 = .ok (.ldc_w 265, 3) := dk_19 1 9 (dk_at dksJ10_bitCount_0 4 rfl rfl)
theorem dJ10_bitCount_7 : decode cJ10_bitCount 7 = .ok (.iand, 1) := dk_126 (dk_at dksJ10_bitCount_0 7 rfl rfl)
theorem dJ10_bitCount_8 : decode cJ10_bitCount 8 = .ok (.isub, 1) := dk_100 (dk_at dksJ10_bitCount_0 8 rfl rfl)
theorem dJ10_bitCount_9 : decode cJ10_bitCount 9 = .ok (.istore_n 0, 1) := dk_59 (dk_at dksJ10_bitCount_0 9 rfl rfl)
theorem dJ10_bitCount_10 : decode cJ10_bitCount 10 = .ok (.iload_n 0, 1) := dk_26 (dk_at dksJ10_bitCount_0 10 rfl rfl)
theorem dJ10_bitCount_11 : decode cJ10_bitCount 11 = .ok (.ldc_w 266, 3) := dk_19 1 10 (dk_at dksJ10_bitCount_0 11 rfl rfl)
theorem dJ10_bitCount_14 : decode cJ10_bitCount 14 = .ok (.iand, 1) := dk_126 (dk_at dksJ10_bitCount_0 14 rfl rfl)
theorem dJ10_bitCount_15 : decode cJ10_bitCount 15 = .ok (.iload_n 0, 1) := dk_26 (dk_at dksJ10_bitCount_0 15 rfl rfl)
theorem dJ10_bitCount_16 : decode cJ10_bitCount 16 = .ok (.iconst 2, 1) := dk_5 (dk_at dksJ10_bitCount_0 16 rfl rfl)
theorem dJ10_bitCount_17 : decode cJ10_bitCount 17 = .ok (.iushr, 1) := dk_124 (dk_at dksJ10_bitCount_0 17 rfl rfl)
theorem dJ10_bitCount_18 : decode cJ10_bitCount 18 = .ok (.ldc_w 266, 3) := dk_19 1 10 (dk_at dksJ10_bitCount_0 18 rfl rfl)
theorem dJ10_bitCount_21 : decode cJ10_bitCount 21 = .ok (.iand, 1) := dk_126 (dk_at dksJ10_bitCount_0 21 rfl rfl)
theorem dJ10_bitCount_22 : decode cJ10_bitCount 22 = .ok (.iadd, 1) := dk_96 (dk_at dksJ10_bitCount_0 22 rfl rfl)
theorem dJ10_bitCount_23 : decode cJ10_bitCount 23 = .ok (.istore_n 0, 1) := dk_59 (dk_at dksJ10_bitCount_0 23 rfl rfl)
theorem dJ10_bitCount_24 : decode cJ10_bitCount 24 = .ok (.iload_n 0, 1) := dk_26 (dk_at dksJ10_bitCount_1 0 rfl rfl)
theorem dJ10_bitCount_25 : decode cJ10_bitCount 25 = .ok (.iload_n 0, 1) := dk_26 (dk_at dksJ10_bitCount_1 1 rfl rfl)
theorem dJ10_bitCount_26 : decode cJ10_bitCount 26 = .ok (.iconst 4, 1) := dk_7 (dk_at dksJ10_bitCount_1 2 rfl rfl)
theorem dJ10_bitCount_27 : decode cJ10_bitCount 27 = .ok (.iushr, 1) := dk_124 (dk_at dksJ10_bitCount_1 3 rfl rfl)
theorem dJ10_bitCount_28 : decode cJ10_bitCount 28 = .ok (.iadd, 1) := dk_96 (dk_at dksJ10_bitCount_1 4 rfl rfl)
theorem dJ10_bitCount_29 : decode cJ10_bitCount 29 = .ok (.ldc_w 267, 3) := dk_19 1 11 (dk_at dksJ10_bitCount_1 5 rfl rfl)
theorem dJ10_bitCount_32 : decode cJ10_bitCount 32 = .ok (.iand, 1) := dk_126 (dk_at dksJ10_bitCount_1 8 rfl rfl)
theorem dJ10_bitCount_33 : decode cJ10_bitCount 33 = .ok (.istore_n 0, 1) := dk_59 (dk_at dksJ10_bitCount_1 9 rfl rfl)
theorem dJ10_bitCount_34 : decode cJ10_bitCount 34 = .ok (.iload_n 0, 1) := dk_26 (dk_at dksJ10_bitCount_1 10 rfl rfl)
theorem dJ10_bitCount_35 : decode cJ10_bitCount 35 = .ok (.iload_n 0, 1) := dk_26 (dk_at dksJ10_bitCount_1 11 rfl rfl)
theorem dJ10_bitCount_36 : decode cJ10_bitCount 36 = .ok (.bipush 8, 2) := dk_16 8 (dk_at dksJ10_bitCount_1 12 rfl rfl)
theorem dJ10_bitCount_38 : decode cJ10_bitCount 38 = .ok (.iushr, 1) := dk_124 (dk_at dksJ10_bitCount_1 14 rfl rfl)
theorem dJ10_bitCount_39 : decode cJ10_bitCount 39 = .ok (.iadd, 1) := dk_96 (dk_at dksJ10_bitCount_1 15 rfl rfl)
theorem dJ10_bitCount_40 : decode cJ10_bitCount 40 = .ok (.istore_n 0, 1) := dk_59 (dk_at dksJ10_bitCount_1 16 rfl rfl)
theorem dJ10_bitCount_41 : decode cJ10_bitCount 41 = .ok (.iload_n 0, 1) := dk_26 (dk_at dksJ10_bitCount_1 17 rfl rfl)
theorem dJ10_bitCount_42 : decode cJ10_bitCount 42 = .ok (.iload_n 0, 1) := dk_26 (dk_at dksJ10_bitCount_1 18 rfl rfl)
theorem dJ10_bitCount_43 : decode cJ10_bitCount 43 = .ok (.bipush 16, 2) := dk_16 16 (dk_at dksJ10_bitCount_1 19 rfl rfl)
theorem dJ10_bitCount_45 : decode cJ10_bitCount 45 = .ok (.iushr, 1) := dk_124 (dk_at dksJ10_bitCount_1 21 rfl rfl)
theorem dJ10_bitCount_46 : decode cJ10_bitCount 46 = .ok (.iadd, 1) := dk_96 (dk_at dksJ10_bitCount_1 22 rfl rfl)
theorem dJ10_bitCount_47 : decode cJ10_bitCount 47 = .ok (.istore_n 0, 1) := dk_59 (dk_at dksJ10_bitCount_1 23 rfl rfl)
theorem dJ10_bitCount_48 : decode cJ10_bitCount 48 = .ok (.iload_n 0, 1) := dk_26 (dk_at dksJ10_bitCount_2 0 rfl rfl)
theorem dJ10_bitCount_49 : decode cJ10_bitCount 49 = .ok (.bipush 63, 2) := dk_16 63 (dk_at dksJ10_bitCount_2 1 rfl rfl)
theorem dJ10_bitCount_51 : decode cJ10_bitCount 51 = .ok (.iand, 1) := dk_126 (dk_at dksJ10_bitCount_2 3 rfl rfl)
theorem dJ10_bitCount_52 : decode cJ10_bitCount 52 = .ok (.ireturn, 1) := dk_172 (dk_at dksJ10_bitCount_2 4 rfl rfl)
theorem q149 : (Jvm.Cond.initialized "java/lang/Integer") ∈ lw_all := lw_g (lw_at lw_m1 24 rfl) rfl
theorem q958 : (Jvm.Cond.static ({ cls := "java/lang/Integer", name := "signum", desc := "(I)I" } : Jvm.MethodName)) ∈ lw_all := lw_g (lw_at lw_m4 113 rfl) rfl
theorem q959 : (Jvm.Cond.code ({ cls := "java/lang/Integer", name := "signum", desc := "(I)I" } : Jvm.MethodName) prog_22_method_56_code (1 : Nat) (Option.some Jvm.ClassFile.FieldType.int)) ∈ lw_all := lw_g (lw_at lw_m4 114 rfl) rfl
theorem q1197 : (Jvm.Cond.static ({ cls := "java/lang/Integer", name := "bitCount", desc := "(I)I" } : Jvm.MethodName)) ∈ lw_all := lw_g (lw_at lw_m5 112 rfl) rfl
theorem q1198 : (Jvm.Cond.code ({ cls := "java/lang/Integer", name := "bitCount", desc := "(I)I" } : Jvm.MethodName) prog_22_method_49_code (1 : Nat) (Option.some Jvm.ClassFile.FieldType.int)) ∈ lw_all := lw_g (lw_at lw_m5 113 rfl) rfl
theorem q1199 : (Jvm.Cond.constant "java/lang/Integer" (265 : Nat) (1431655765 : Int32)) ∈ lw_all := lw_g (lw_at lw_m5 114 rfl) rfl
theorem q1200 : (Jvm.Cond.constant "java/lang/Integer" (266 : Nat) (858993459 : Int32)) ∈ lw_all := lw_g (lw_at lw_m5 115 rfl) rfl
theorem q1201 : (Jvm.Cond.constant "java/lang/Integer" (267 : Nat) (252645135 : Int32)) ∈ lw_all := lw_g (lw_at lw_m5 116 rfl) rfl
/-! java/lang/RuntimeException -/
set_option maxRecDepth 100000
def RJ11 : String := "java/lang/RuntimeException"
abbrev cJ11_init : ByteArray := prog_27_method_1_code
def yJ11_init : MethodName := ⟨RJ11, "<init>", "()V"⟩
theorem dJ11_init_0 : decode cJ11_init 0 = .ok (.aload_n 0, 1) := by decide +kernel
theorem dJ11_init_1 : decode cJ11_init 1 = .ok (.invokespecial 1, 3) := by decide +kernel
theorem dJ11_init_4 : decode cJ11_init 4 = .ok (.return_, 1) := by decide +kernel
abbrev cJ11_init_2 : ByteArray := prog_27_method_2_code
def yJ11_init_2 : MethodName := ⟨RJ11, "<init>", "(Ljava/lang/String;)V"⟩
def dkwJ11_init_2_0 : List UInt8 := [42, 43, 183, 0, 7, 177]
abbrev dktJ11_init_2_0 : List UInt8 := dkwJ11_init_2_0 ++ []
theorem dksJ11_init_2_0 : cJ11_init_2.data.toList.drop 0 = dktJ11_init_2_0 := by decide +kernel
theorem dJ11_init_2_0 : decode cJ11_init_2 0 = .ok (.aload_n 0, 1) := dk_42 (dk_at dksJ11_init_2_0 0 rfl rfl)
theorem dJ11_init_2_1 : decode cJ11_init_2 1 = .ok (.aload_n 1, 1) := dk_43 (dk_at dksJ11_init_2_0 1 rfl rfl)
theorem dJ11_init_2_2 : decode cJ11_init_2 2 = .ok (.invokespecial 7, 3) := dk_183 0 7 (dk_at dksJ11_init_2_0 2 rfl rfl)
theorem dJ11_init_2_5 : decode cJ11_init_2 5 = .ok (.return_, 1) := dk_177 (dk_at dksJ11_init_2_0 5 rfl rfl)
theorem q150 : (Jvm.Cond.initialized "java/lang/RuntimeException") ∈ lw_all := lw_g (lw_at lw_m1 25 rfl) rfl
theorem q639 : (Jvm.Cond.sameMethod "java/lang/RuntimeException" "java/lang/Throwable" "fillInStackTrace" "()Ljava/lang/Throwable;") ∈ lw_all := lw_g (lw_at lw_m3 34 rfl) rfl
theorem q642 : (Jvm.Cond.superclass "java/lang/RuntimeException" "java/lang/Exception") ∈ lw_all := lw_g (lw_at lw_m3 37 rfl) rfl
theorem q1078 : (Jvm.Cond.instanceMethod ({ cls := "java/lang/RuntimeException", name := "<init>", desc := "()V" } : Jvm.MethodName)) ∈ lw_all := lw_g (lw_at lw_m4 233 rfl) rfl
theorem q1079 : (Jvm.Cond.code ({ cls := "java/lang/RuntimeException", name := "<init>", desc := "()V" } : Jvm.MethodName) prog_27_method_1_code (1 : Nat) (Option.none : Option Jvm.ClassFile.FieldType)) ∈ lw_all := lw_g (lw_at lw_m4 234 rfl) rfl
theorem q1080 : (Jvm.Cond.methodLink "java/lang/RuntimeException" (1 : Nat) ({ cls := "java/lang/Exception", name := "<init>", desc := "()V" } : Jvm.MethodName)) ∈ lw_all := lw_g (lw_at lw_m4 235 rfl) rfl
theorem q1097 : (Jvm.Cond.declares ({ cls := "java/lang/RuntimeException", name := "<init>", desc := "()V" } : Jvm.MethodName)) ∈ lw_tbl := lw_at lw_m5 12 rfl
theorem q1098 : (Jvm.Cond.declares ({ cls := "java/lang/RuntimeException", name := "<init>", desc := "(Ljava/lang/String;)V" } : Jvm.MethodName)) ∈ lw_tbl := lw_at lw_m5 13 rfl
theorem q1100 : (Jvm.Cond.castable "java/lang/RuntimeException" "java/lang/Throwable") ∈ lw_tbl := lw_at lw_m5 15 rfl
theorem q1403 : (Jvm.Cond.instanceMethod ({ cls := "java/lang/RuntimeException", name := "<init>", desc := "(Ljava/lang/String;)V" } : Jvm.MethodName)) ∈ lw_all := lw_g (lw_at lw_m6 78 rfl) rfl
theorem q1404 : (Jvm.Cond.code ({ cls := "java/lang/RuntimeException", name := "<init>", desc := "(Ljava/lang/String;)V" } : Jvm.MethodName) prog_27_method_2_code (2 : Nat) (Option.none : Option Jvm.ClassFile.FieldType)) ∈ lw_all := lw_g (lw_at lw_m6 79 rfl) rfl
theorem q1405 : (Jvm.Cond.methodLink "java/lang/RuntimeException" (7 : Nat) ({ cls := "java/lang/Exception", name := "<init>", desc := "(Ljava/lang/String;)V" } : Jvm.MethodName)) ∈ lw_all := lw_g (lw_at lw_m6 80 rfl) rfl
/-! java/lang/NullPointerException -/
set_option maxRecDepth 100000
def RJ12 : String := "java/lang/NullPointerException"
def TJ12 : u_T := fun k => match k with
  | 0 => ("java/lang/Throwable", "backtrace", "Ljava/lang/Object;", false)
  | 1 => ("java/lang/Throwable", "detailMessage", "Ljava/lang/String;", false)
  | 2 => ("java/lang/Throwable", "cause", "Ljava/lang/Throwable;", false)
  | 3 => ("java/lang/Throwable", "stackTrace", "[Ljava/lang/StackTraceElement;", false)
  | 4 => ("java/lang/Throwable", "depth", "I", false)
  | 5 => ("java/lang/Throwable", "suppressedExceptions", "Ljava/util/List;", false)
  | 6 => ("java/lang/NullPointerException", "extendedMessageState", "I", false)
  | _ => ("java/lang/NullPointerException", "extendedMessage", "Ljava/lang/String;", false)
def tyJ12 : Nat → FieldType := fun k => match k with
  | 0 => .object "java/lang/Object"
  | 1 => .object "java/lang/String"
  | 2 => .object "java/lang/Throwable"
  | 3 => .array (.object "java/lang/StackTraceElement")
  | 4 => .int
  | 5 => .object "java/util/List"
  | 6 => .int
  | _ => .object "java/lang/String"
abbrev wsJ120 : List Cond := u_ws RJ12 TJ12 8
theorem nmJ12 : ∀ a, a < 8 → ∀ b, b < 8 → a ≠ b → (TJ12 a).2.1 ≠ (TJ12 b).2.1 := by decide +kernel
theorem tyJ12_ok : ∀ k, k < 8 → parseFieldDescriptor (TJ12 k).2.2.1 = some (tyJ12 k) := by decide +kernel
abbrev cJ12_init : ByteArray := prog_26_method_1_code
def yJ12_init : MethodName := ⟨RJ12, "<init>", "()V"⟩
theorem dJ12_init_0 : decode cJ12_init 0 = .ok (.aload_n 0, 1) := by decide +kernel
theorem dJ12_init_1 : decode cJ12_init 1 = .ok (.invokespecial 1, 3) := by decide +kernel
theorem dJ12_init_4 : decode cJ12_init 4 = .ok (.return_, 1) := by decide +kernel
theorem q151 : (Jvm.Cond.initialized "java/lang/NullPointerException") ∈ lw_all := lw_g (lw_at lw_m1 26 rfl) rfl
theorem q630 : (Jvm.Cond.selects "java/lang/NullPointerException" ({ cls := "java/lang/Throwable", name := "fillInStackTrace", desc := "()Ljava/lang/Throwable;" } : Jvm.MethodName) ({ cls := "java/lang/NullPointerException", name := "fillInStackTrace", desc := "()Ljava/lang/Throwable;" } : Jvm.MethodName)) ∈ lw_all := lw_g (lw_at lw_m3 25 rfl) rfl
theorem q631 : (Jvm.Cond.instanceMethod ({ cls := "java/lang/NullPointerException", name := "fillInStackTrace", desc := "()Ljava/lang/Throwable;" } : Jvm.MethodName)) ∈ lw_all := lw_g (lw_at lw_m3 26 rfl) rfl
theorem q632 : (Jvm.Cond.codeSync ({ cls := "java/lang/NullPointerException", name := "fillInStackTrace", desc := "()Ljava/lang/Throwable;" } : Jvm.MethodName) prog_26_method_3_code (1 : Nat) (Option.some (Jvm.ClassFile.FieldType.object "java/lang/Throwable"))) ∈ lw_all := lw_g (lw_at lw_m3 27 rfl) rfl
theorem q633 : (Jvm.Cond.methodLink "java/lang/NullPointerException" (16 : Nat) ({ cls := "java/lang/NullPointerException", name := "getExtendedNPEMessage", desc := "()Ljava/lang/String;" } : Jvm.MethodName)) ∈ lw_all := lw_g (lw_at lw_m3 28 rfl) rfl
theorem q634 : (Jvm.Cond.privateMethod ({ cls := "java/lang/NullPointerException", name := "getExtendedNPEMessage", desc := "()Ljava/lang/String;" } : Jvm.MethodName)) ∈ lw_tbl := lw_at lw_m3 29 rfl
theorem q635 : (Jvm.Cond.instanceMethod ({ cls := "java/lang/NullPointerException", name := "getExtendedNPEMessage", desc := "()Ljava/lang/String;" } : Jvm.MethodName)) ∈ lw_all := lw_g (lw_at lw_m3 30 rfl) rfl
theorem q636 : (Jvm.Cond.instantiable "java/lang/NullPointerException" (8 : Nat)) ∈ lw_all := lw_g (lw_at lw_m3 31 rfl) rfl
theorem q637 : (Jvm.Cond.native ({ cls := "java/lang/NullPointerException", name := "getExtendedNPEMessage", desc := "()Ljava/lang/String;" } : Jvm.MethodName)) ∈ lw_all := lw_g (lw_at lw_m3 32 rfl) rfl
theorem q638 : (Jvm.Cond.methodLink "java/lang/NullPointerException" (24 : Nat) ({ cls := "java/lang/RuntimeException", name := "fillInStackTrace", desc := "()Ljava/lang/Throwable;" } : Jvm.MethodName)) ∈ lw_all := lw_g (lw_at lw_m3 33 rfl) rfl
theorem q641 : (Jvm.Cond.superclass "java/lang/NullPointerException" "java/lang/RuntimeException") ∈ lw_all := lw_g (lw_at lw_m3 36 rfl) rfl
theorem q1075 : (Jvm.Cond.instanceMethod ({ cls := "java/lang/NullPointerException", name := "<init>", desc := "()V" } : Jvm.MethodName)) ∈ lw_all := lw_g (lw_at lw_m4 230 rfl) rfl
theorem q1076 : (Jvm.Cond.code ({ cls := "java/lang/NullPointerException", name := "<init>", desc := "()V" } : Jvm.MethodName) prog_26_method_1_code (1 : Nat) (Option.none : Option Jvm.ClassFile.FieldType)) ∈ lw_all := lw_g (lw_at lw_m4 231 rfl) rfl
theorem q1077 : (Jvm.Cond.methodLink "java/lang/NullPointerException" (1 : Nat) ({ cls := "java/lang/RuntimeException", name := "<init>", desc := "()V" } : Jvm.MethodName)) ∈ lw_all := lw_g (lw_at lw_m4 232 rfl) rfl
theorem q1084 : (Jvm.Cond.fieldLink "java/lang/NullPointerException" (10 : Nat) "java/lang/NullPointerException" "extendedMessageState" "I") ∈ lw_all := lw_g (lw_at lw_m4 239 rfl) rfl
theorem q1085 : (Jvm.Cond.fieldLink "java/lang/NullPointerException" (20 : Nat) "java/lang/NullPointerException" "extendedMessage" "Ljava/lang/String;") ∈ lw_all := lw_g (lw_at lw_m5 0 rfl) rfl
theorem q1086 : (Jvm.Cond.lays "java/lang/NullPointerException" "java/lang/NullPointerException" "extendedMessageState" "I") ∈ lw_all := lw_g (lw_at lw_m5 1 rfl) rfl
theorem q1087 : (Jvm.Cond.soleField "java/lang/NullPointerException" "extendedMessageState") ∈ lw_all := lw_g (lw_at lw_m5 2 rfl) rfl
theorem q1088 : (Jvm.Cond.lays "java/lang/NullPointerException" "java/lang/NullPointerException" "extendedMessage" "Ljava/lang/String;") ∈ lw_all := lw_g (lw_at lw_m5 3 rfl) rfl
theorem q1089 : (Jvm.Cond.soleField "java/lang/NullPointerException" "extendedMessage") ∈ lw_all := lw_g (lw_at lw_m5 4 rfl) rfl
theorem q1090 : (Jvm.Cond.lays "java/lang/NullPointerException" "java/lang/Throwable" "backtrace" "Ljava/lang/Object;") ∈ lw_all := lw_g (lw_at lw_m5 5 rfl) rfl
theorem q1091 : (Jvm.Cond.lays "java/lang/NullPointerException" "java/lang/Throwable" "detailMessage" "Ljava/lang/String;") ∈ lw_all := lw_g (lw_at lw_m5 6 rfl) rfl
theorem q1092 : (Jvm.Cond.lays "java/lang/NullPointerException" "java/lang/Throwable" "cause" "Ljava/lang/Throwable;") ∈ lw_all := lw_g (lw_at lw_m5 7 rfl) rfl
theorem q1093 : (Jvm.Cond.lays "java/lang/NullPointerException" "java/lang/Throwable" "stackTrace" "[Ljava/lang/StackTraceElement;") ∈ lw_all := lw_g (lw_at lw_m5 8 rfl) rfl
theorem q1094 : (Jvm.Cond.lays "java/lang/NullPointerException" "java/lang/Throwable" "depth" "I") ∈ lw_all := lw_g (lw_at lw_m5 9 rfl) rfl
theorem q1095 : (Jvm.Cond.lays "java/lang/NullPointerException" "java/lang/Throwable" "suppressedExceptions" "Ljava/util/List;") ∈ lw_all := lw_g (lw_at lw_m5 10 rfl) rfl
theorem q1096 : (Jvm.Cond.castable "java/lang/NullPointerException" "java/lang/NullPointerException") ∈ lw_tbl := lw_at lw_m5 11 rfl
theorem q1099 : (Jvm.Cond.selects "java/lang/NullPointerException" ({ cls := "java/lang/Throwable", name := "fillInStackTrace", desc := "(I)Ljava/lang/Throwable;" } : Jvm.MethodName) ({ cls := "java/lang/Throwable", name := "fillInStackTrace", desc := "(I)Ljava/lang/Throwable;" } : Jvm.MethodName)) ∈ lw_all := lw_g (lw_at lw_m5 14 rfl) rfl
theorem q1350 : (Jvm.Cond.selects "java/lang/NullPointerException" ({ cls := "java/lang/Object", name := "getClass", desc := "()Ljava/lang/Class;" } : Jvm.MethodName) ({ cls := "java/lang/Object", name := "getClass", desc := "()Ljava/lang/Class;" } : Jvm.MethodName)) ∈ lw_all := lw_g (lw_at lw_m6 25 rfl) rfl
theorem q2258 : (Jvm.Cond.castable "java/lang/NullPointerException" "java/lang/Object") ∈ lw_tbl := lw_at lw_m9 213 rfl
theorem in_J12 : ∀ w ∈ wsJ120, w ∈ lw_all := lw_in wsJ120 [1090, 1091, 1092, 1093, 1094, 1095, 1086, 1088] (by decide +kernel) (by decide +kernel)
/-! jdk/internal/util/ArraysSupport -/
set_option maxRecDepth 100000
def RJ13 : String := "jdk/internal/util/ArraysSupport"
abbrev cJ13_newLength : ByteArray := prog_44_method_27_code
def yJ13_newLength : MethodName := ⟨RJ13, "newLength", "(III)I"⟩
def dkwJ13_newLength_1 : List UInt8 := [184, 0, 201, 172]
abbrev dktJ13_newLength_1 : List UInt8 := dkwJ13_newLength_1 ++ []
def dkwJ13_newLength_0 : List UInt8 := [26, 27, 28, 184, 0, 194, 96, 62, 3, 29, 162, 0, 11, 29, 18, 200, 163, 0, 5, 29, 172, 26, 27]
abbrev dktJ13_newLength_0 : List UInt8 := dkwJ13_newLength_0 ++ dktJ13_newLength_1
theorem dksJ13_newLength_0 : cJ13_newLength.data.toList.drop 0 = dktJ13_newLength_0 := by decide +kernel
theorem dksJ13_newLength_1 : cJ13_newLength.data.toList.drop 23 = dktJ13_newLength_1 := dk_seg dksJ13_newLength_0 23 rfl rfl
theorem dJ13_newLength_0 : decode cJ13_newLength 0 = .ok (.iload_n 0, 1) := dk_26 (dk_at dksJ13_newLength_0 0 rfl rfl)
theorem dJ13_newLength_1 : decode cJ13_newLength 1 = .ok (.iload_n 1, 1) := dk_27 (dk_at dksJ13_newLength_0 1 rfl rfl)
theorem dJ13_newLength_2 : decode cJ13_newLength 2 = .ok (.iload_n 2, 1) := dk_28 (dk_at dksJ13_newLength_0 2 rfl rfl)
theorem dJ13_newLength_3 : decode cJ13_newLength 3 = .ok (.invokestatic 194, 3) := dk_184 0 194 (dk_at dksJ13_newLength_0 3 rfl rfl)
theorem dJ13_newLength_6 : decode cJ13_newLength 6 = .ok (.iadd, 1) := dk_96 (dk_at dksJ13_newLength_0 6 rfl rfl)
theorem dJ13_newLength_7 : decode cJ13_newLength 7 = .ok (.istore_n 3, 1) := dk_62 (dk_at dksJ13_newLength_0 7 rfl rfl)
theorem dJ13_newLength_8 : decode cJ13_newLength 8 = .ok (.iconst 0, 1) := dk_3 (dk_at dksJ13_newLength_0 8 rfl rfl)
theorem dJ13_newLength_9 : decode cJ13_newLength 9 = .ok (.iload_n 3, 1) := dk_29 (dk_at dksJ13_newLength_0 9 rfl rfl)
theorem dJ13_newLength_10 : decode cJ13_newLength 10 = .ok (.if_icmp .ge 11, 3) := dk_162 0 11 (dk_at dksJ13_newLength_0 10 rfl rfl)
theorem dJ13_newLength_13 : decode cJ13_newLength 13 = .ok (.iload_n 3, 1) := dk_29 (dk_at dksJ13_newLength_0 13 rfl rfl)
theorem dJ13_newLength_14 : decode cJ13_newLength 14 = .ok (.ldc 200, 2) := dk_18 200 (dk_at dksJ13_newLength_0 14 rfl rfl)
theorem dJ13_newLength_16 : decode cJ13_newLength 16 = .ok (.if_icmp .gt 5, 3) := dk_163 0 5 (dk_at dksJ13_newLength_0 16 rfl rfl)
theorem dJ13_newLength_19 : decode cJ13_newLength 19 = .ok (.iload_n 3, 1) := dk_29 (dk_at dksJ13_newLength_0 19 rfl rfl)
theorem dJ13_newLength_20 : decode cJ13_newLength 20 = .ok (.ireturn, 1) := dk_172 (dk_at dksJ13_newLength_0 20 rfl rfl)
theorem dJ13_newLength_21 : decode cJ13_newLength 21 = .ok (.iload_n 0, 1) := dk_26 (dk_at dksJ13_newLength_0 21 rfl rfl)
theorem dJ13_newLength_22 : decode cJ13_newLength 22 = .ok (.iload_n 1, 1) := dk_27 (dk_at dksJ13_newLength_0 22 rfl rfl)
theorem dJ13_newLength_23 : decode cJ13_newLength 23 = .ok (.invokestatic 201, 3) := dk_184 0 201 (dk_at dksJ13_newLength_1 0 rfl rfl)
theorem dJ13_newLength_26 : decode cJ13_newLength 26 = .ok (.ireturn, 1) := dk_172 (dk_at dksJ13_newLength_1 3 rfl rfl)
abbrev cJ13_hugeLength : ByteArray := prog_44_method_28_code
def yJ13_hugeLength : MethodName := ⟨RJ13, "hugeLength", "(II)I"⟩
def dkwJ13_hugeLength_2 : List UInt8 := [191, 28, 18, 200, 163, 0, 6, 18, 200, 172, 28, 172]
abbrev dktJ13_hugeLength_2 : List UInt8 := dkwJ13_hugeLength_2 ++ []
def dkwJ13_hugeLength_1 : List UInt8 := [26, 182, 0, 98, 18, 208, 182, 0, 94, 27, 182, 0, 98, 18, 210, 182, 0, 94, 182, 0, 101, 183, 0, 212]
abbrev dktJ13_hugeLength_1 : List UInt8 := dkwJ13_hugeLength_1 ++ dktJ13_hugeLength_2
def dkwJ13_hugeLength_0 : List UInt8 := [26, 27, 96, 61, 28, 156, 0, 44, 187, 0, 204, 89, 187, 0, 89, 89, 183, 0, 91, 18, 206, 182, 0, 94]
abbrev dktJ13_hugeLength_0 : List UInt8 := dkwJ13_hugeLength_0 ++ dktJ13_hugeLength_1
theorem dksJ13_hugeLength_0 : cJ13_hugeLength.data.toList.drop 0 = dktJ13_hugeLength_0 := by decide +kernel
theorem dksJ13_hugeLength_1 : cJ13_hugeLength.data.toList.drop 24 = dktJ13_hugeLength_1 := dk_seg dksJ13_hugeLength_0 24 rfl rfl
theorem dksJ13_hugeLength_2 : cJ13_hugeLength.data.toList.drop 48 = dktJ13_hugeLength_2 := dk_seg dksJ13_hugeLength_1 24 rfl rfl
theorem dJ13_hugeLength_0 : decode cJ13_hugeLength 0 = .ok (.iload_n 0, 1) := dk_26 (dk_at dksJ13_hugeLength_0 0 rfl rfl)
theorem dJ13_hugeLength_1 : decode cJ13_hugeLength 1 = .ok (.iload_n 1, 1) := dk_27 (dk_at dksJ13_hugeLength_0 1 rfl rfl)
theorem dJ13_hugeLength_2 : decode cJ13_hugeLength 2 = .ok (.iadd, 1) := dk_96 (dk_at dksJ13_hugeLength_0 2 rfl rfl)
theorem dJ13_hugeLength_3 : decode cJ13_hugeLength 3 = .ok (.istore_n 2, 1) := dk_61 (dk_at dksJ13_hugeLength_0 3 rfl rfl)
theorem dJ13_hugeLength_4 : decode cJ13_hugeLength 4 = .ok (.iload_n 2, 1) := dk_28 (dk_at dksJ13_hugeLength_0 4 rfl rfl)
theorem dJ13_hugeLength_5 : decode cJ13_hugeLength 5 = .ok (.ifCond .ge 44, 3) := dk_156 0 44 (dk_at dksJ13_hugeLength_0 5 rfl rfl)
theorem dJ13_hugeLength_8 : decode cJ13_hugeLength 8 = .ok (.new 204, 3) := dk_187 0 204 (dk_at dksJ13_hugeLength_0 8 rfl rfl)
theorem dJ13_hugeLength_11 : decode cJ13_hugeLength 11 = .ok (.dup, 1) := dk_89 (dk_at dksJ13_hugeLength_0 11 rfl rfl)
theorem dJ13_hugeLength_12 : decode cJ13_hugeLength 12 = .ok (.new 89, 3) := dk_187 0 89 (dk_at dksJ13_hugeLength_0 12 rfl rfl)
theorem dJ13_hugeLength_15 : decode cJ13_hugeLength 15 = .ok (.dup, 1) := dk_89 (dk_at dksJ13_hugeLength_0 15 rfl rfl)
theorem dJ13_hugeLength_16 : decode cJ13_hugeLength 16 = .ok (.invokespecial 91, 3) := dk_183 0 91 (dk_at dksJ13_hugeLength_0 16 rfl rfl)
theorem dJ13_hugeLength_19 : decode cJ13_hugeLength 19 = .ok (.ldc 206, 2) := dk_18 206 (dk_at dksJ13_hugeLength_0 19 rfl rfl)
theorem dJ13_hugeLength_21 : decode cJ13_hugeLength 21 = .ok (.invokevirtual 94, 3) := dk_182 0 94 (dk_at dksJ13_hugeLength_0 21 rfl rfl)
theorem dJ13_hugeLength_24 : decode cJ13_hugeLength 24 = .ok (.iload_n 0, 1) := dk_26 (dk_at dksJ13_hugeLength_1 0 rfl rfl)
theorem dJ13_hugeLength_25 : decode cJ13_hugeLength 25 = .ok (.invokevirtual 98, 3) := dk_182 0 98 (dk_at dksJ13_hugeLength_1 1 rfl rfl)
theorem dJ13_hugeLength_28 : decode cJ13_hugeLength 28 = .ok (.ldc 208, 2) := dk_18 208 (dk_at dksJ13_hugeLength_1 4 rfl rfl)
theorem dJ13_hugeLength_30 : decode cJ13_hugeLength 30 = .ok (.invokevirtual 94, 3) := dk_182 0 94 (dk_at dksJ13_hugeLength_1 6 rfl rfl)
theorem dJ13_hugeLength_33 : decode cJ13_hugeLength 33 = .ok (.iload_n 1, 1) := dk_27 (dk_at dksJ13_hugeLength_1 9 rfl rfl)
theorem dJ13_hugeLength_34 : decode cJ13_hugeLength 34 = .ok (.invokevirtual 98, 3) := dk_182 0 98 (dk_at dksJ13_hugeLength_1 10 rfl rfl)
theorem dJ13_hugeLength_37 : decode cJ13_hugeLength 37 = .ok (.ldc 210, 2) := dk_18 210 (dk_at dksJ13_hugeLength_1 13 rfl rfl)
theorem dJ13_hugeLength_39 : decode cJ13_hugeLength 39 = .ok (.invokevirtual 94, 3) := dk_182 0 94 (dk_at dksJ13_hugeLength_1 15 rfl rfl)
theorem dJ13_hugeLength_42 : decode cJ13_hugeLength 42 = .ok (.invokevirtual 101, 3) := dk_182 0 101 (dk_at dksJ13_hugeLength_1 18 rfl rfl)
theorem dJ13_hugeLength_45 : decode cJ13_hugeLength 45 = .ok (.invokespecial 212, 3) := dk_183 0 212 (dk_at dksJ13_hugeLength_1 21 rfl rfl)
theorem dJ13_hugeLength_48 : decode cJ13_hugeLength 48 = .ok (.athrow, 1) := dk_191 (dk_at dksJ13_hugeLength_2 0 rfl rfl)
theorem dJ13_hugeLength_49 : decode cJ13_hugeLength 49 = .ok (.iload_n 2, 1) := dk_28 (dk_at dksJ13_hugeLength_2 1 rfl rfl)
theorem dJ13_hugeLength_50 : decode cJ13_hugeLength 50 = .ok (.ldc 200, 2) := dk_18 200 (dk_at dksJ13_hugeLength_2 2 rfl rfl)
theorem dJ13_hugeLength_52 : decode cJ13_hugeLength 52 = .ok (.if_icmp .gt 6, 3) := dk_163 0 6 (dk_at dksJ13_hugeLength_2 4 rfl rfl)
theorem dJ13_hugeLength_55 : decode cJ13_hugeLength 55 = .ok (.ldc 200, 2) := dk_18 200 (dk_at dksJ13_hugeLength_2 7 rfl rfl)
theorem dJ13_hugeLength_57 : decode cJ13_hugeLength 57 = .ok (.ireturn, 1) := dk_172 (dk_at dksJ13_hugeLength_2 9 rfl rfl)
theorem dJ13_hugeLength_58 : decode cJ13_hugeLength 58 = .ok (.iload_n 2, 1) := dk_28 (dk_at dksJ13_hugeLength_2 10 rfl rfl)
theorem dJ13_hugeLength_59 : decode cJ13_hugeLength 59 = .ok (.ireturn, 1) := dk_172 (dk_at dksJ13_hugeLength_2 11 rfl rfl)
theorem q152 : (Jvm.Cond.initialized "jdk/internal/util/ArraysSupport") ∈ lw_all := lw_g (lw_at lw_m1 27 rfl) rfl
theorem q1323 : (Jvm.Cond.static ({ cls := "jdk/internal/util/ArraysSupport", name := "newLength", desc := "(III)I" } : Jvm.MethodName)) ∈ lw_all := lw_g (lw_at lw_m5 238 rfl) rfl
theorem q1324 : (Jvm.Cond.code ({ cls := "jdk/internal/util/ArraysSupport", name := "newLength", desc := "(III)I" } : Jvm.MethodName) prog_44_method_27_code (4 : Nat) (Option.some Jvm.ClassFile.FieldType.int)) ∈ lw_all := lw_g (lw_at lw_m5 239 rfl) rfl
theorem q1325 : (Jvm.Cond.methodLink "jdk/internal/util/ArraysSupport" (194 : Nat) ({ cls := "java/lang/Math", name := "max", desc := "(II)I" } : Jvm.MethodName)) ∈ lw_all := lw_g (lw_at lw_m6 0 rfl) rfl
theorem q1326 : (Jvm.Cond.constant "jdk/internal/util/ArraysSupport" (200 : Nat) (2147483639 : Int32)) ∈ lw_all := lw_g (lw_at lw_m6 1 rfl) rfl
theorem q1327 : (Jvm.Cond.methodLink "jdk/internal/util/ArraysSupport" (201 : Nat) ({ cls := "jdk/internal/util/ArraysSupport", name := "hugeLength", desc := "(II)I" } : Jvm.MethodName)) ∈ lw_all := lw_g (lw_at lw_m6 2 rfl) rfl
theorem q1328 : (Jvm.Cond.static ({ cls := "jdk/internal/util/ArraysSupport", name := "hugeLength", desc := "(II)I" } : Jvm.MethodName)) ∈ lw_all := lw_g (lw_at lw_m6 3 rfl) rfl
theorem q1329 : (Jvm.Cond.code ({ cls := "jdk/internal/util/ArraysSupport", name := "hugeLength", desc := "(II)I" } : Jvm.MethodName) prog_44_method_28_code (3 : Nat) (Option.some Jvm.ClassFile.FieldType.int)) ∈ lw_all := lw_g (lw_at lw_m6 4 rfl) rfl
/-! java/util/Arrays -/
set_option maxRecDepth 100000
def RJ14 : String := "java/util/Arrays"
abbrev cJ14_copyOf : ByteArray := prog_38_method_119_code
def yJ14_copyOf : MethodName := ⟨RJ14, "copyOf", "([Ljava/lang/Object;I)[Ljava/lang/Object;"⟩
def dkwJ14_copyOf_0 : List UInt8 := [42, 27, 42, 182, 0, 86, 184, 1, 44, 176]
abbrev dktJ14_copyOf_0 : List UInt8 := dkwJ14_copyOf_0 ++ []
theorem dksJ14_copyOf_0 : cJ14_copyOf.data.toList.drop 0 = dktJ14_copyOf_0 := by decide +kernel
theorem dJ14_copyOf_0 : decode cJ14_copyOf 0 = .ok (.aload_n 0, 1) := dk_42 (dk_at dksJ14_copyOf_0 0 rfl rfl)
theorem dJ14_copyOf_1 : decode cJ14_copyOf 1 = .ok (.iload_n 1, 1) := dk_27 (dk_at dksJ14_copyOf_0 1 rfl rfl)
theorem dJ14_copyOf_2 : decode cJ14_copyOf 2 = .ok (.aload_n 0, 1) := dk_42 (dk_at dksJ14_copyOf_0 2 rfl rfl)
theorem dJ14_copyOf_3 : decode cJ14_copyOf 3 = .ok (.invokevirtual 86, 3) := dk_182 0 86 (dk_at dksJ14_copyOf_0 3 rfl rfl)
theorem dJ14_copyOf_6 : decode cJ14_copyOf 6 = .ok (.invokestatic 300, 3) := dk_184 1 44 (dk_at dksJ14_copyOf_0 6 rfl rfl)
theorem dJ14_copyOf_9 : decode cJ14_copyOf 9 = .ok (.areturn, 1) := dk_176 (dk_at dksJ14_copyOf_0 9 rfl rfl)
abbrev cJ14_copyOf_2 : ByteArray := prog_38_method_120_code
def yJ14_copyOf_2 : MethodName := ⟨RJ14, "copyOf", "([Ljava/lang/Object;ILjava/lang/Class;)[Ljava/lang/Object;"⟩
def dkwJ14_copyOf_2_1 : List UInt8 := [78, 42, 3, 45, 3, 42, 190, 27, 184, 1, 48, 184, 0, 150, 45, 176]
abbrev dktJ14_copyOf_2_1 : List UInt8 := dkwJ14_copyOf_2_1 ++ []
def dkwJ14_copyOf_2_0 : List UInt8 := [44, 18, 110, 166, 0, 10, 27, 189, 0, 2, 167, 0, 14, 44, 182, 0, 90, 27, 184, 0, 95, 192, 0, 110]
abbrev dktJ14_copyOf_2_0 : List UInt8 := dkwJ14_copyOf_2_0 ++ dktJ14_copyOf_2_1
theorem dksJ14_copyOf_2_0 : cJ14_copyOf_2.data.toList.drop 0 = dktJ14_copyOf_2_0 := by decide +kernel
theorem dksJ14_copyOf_2_1 : cJ14_copyOf_2.data.toList.drop 24 = dktJ14_copyOf_2_1 := dk_seg dksJ14_copyOf_2_0 24 rfl rfl
theorem dJ14_copyOf_2_0 : decode cJ14_copyOf_2 0 = .ok (.aload_n 2, 1) := dk_44 (dk_at dksJ14_copyOf_2_0 0 rfl rfl)
theorem dJ14_copyOf_2_1 : decode cJ14_copyOf_2 1 = .ok (.ldc 110, 2) := dk_18 110 (dk_at dksJ14_copyOf_2_0 1 rfl rfl)
theorem dJ14_copyOf_2_3 : decode cJ14_copyOf_2 3 = .ok (.if_acmp .ne 10, 3) := dk_166 0 10 (dk_at dksJ14_copyOf_2_0 3 rfl rfl)
theorem dJ14_copyOf_2_6 : decode cJ14_copyOf_2 6 = .ok (.iload_n 1, 1) := dk_27 (dk_at dksJ14_copyOf_2_0 6 rfl rfl)
theorem dJ14_copyOf_2_7 : decode cJ14_copyOf_2 7 = .ok (.anewarray 2, 3) := dk_189 0 2 (dk_at dksJ14_copyOf_2_0 7 rfl rfl)
theorem dJ14_copyOf_2_10 : decode cJ14_copyOf_2 10 = .ok (.goto 14, 3) := dk_167 0 14 (dk_at dksJ14_copyOf_2_0 10 rfl rfl)
theorem dJ14_copyOf_2_13 : decode cJ14_copyOf_2 13 = .ok (.aload_n 2, 1) := dk_44 (dk_at dksJ14_copyOf_2_0 13 rfl rfl)
theorem dJ14_copyOf_2_14 : decode cJ14_copyOf_2 14 = .ok (.invokevirtual 90, 3) := dk_182 0 90 (dk_at dksJ14_copyOf_2_0 14 rfl rfl)
theorem dJ14_copyOf_2_17 : decode cJ14_copyOf_2 17 = .ok (.iload_n 1, 1) := dk_27 (dk_at dksJ14_copyOf_2_0 17 rfl rfl)
theorem dJ14_copyOf_2_18 : decode cJ14_copyOf_2 18 = .ok (.invokestatic 95, 3) := dk_184 0 95 (dk_at dksJ14_copyOf_2_0 18 rfl rfl)
theorem dJ14_copyOf_2_21 : decode cJ14_copyOf_2 21 = .ok (.checkcast 110, 3) := dk_192 0 110 (dk_at dksJ14_copyOf_2_0 21 rfl rfl)
theorem dJ14_copyOf_2_24 : decode cJ14_copyOf_2 24 = .ok (.astore_n 3, 1) := dk_78 (dk_at dksJ14_copyOf_2_1 0 rfl rfl)
theorem dJ14_copyOf_2_25 : decode cJ14_copyOf_2 25 = .ok (.aload_n 0, 1) := dk_42 (dk_at dksJ14_copyOf_2_1 1 rfl rfl)
theorem dJ14_copyOf_2_26 : decode cJ14_copyOf_2 26 = .ok (.iconst 0, 1) := dk_3 (dk_at dksJ14_copyOf_2_1 2 rfl rfl)
theorem dJ14_copyOf_2_27 : decode cJ14_copyOf_2 27 = .ok (.aload_n 3, 1) := dk_45 (dk_at dksJ14_copyOf_2_1 3 rfl rfl)
theorem dJ14_copyOf_2_28 : decode cJ14_copyOf_2 28 = .ok (.iconst 0, 1) := dk_3 (dk_at dksJ14_copyOf_2_1 4 rfl rfl)
theorem dJ14_copyOf_2_29 : decode cJ14_copyOf_2 29 = .ok (.aload_n 0, 1) := dk_42 (dk_at dksJ14_copyOf_2_1 5 rfl rfl)
theorem dJ14_copyOf_2_30 : decode cJ14_copyOf_2 30 = .ok (.arraylength, 1) := dk_190 (dk_at dksJ14_copyOf_2_1 6 rfl rfl)
theorem dJ14_copyOf_2_31 : decode cJ14_copyOf_2 31 = .ok (.iload_n 1, 1) := dk_27 (dk_at dksJ14_copyOf_2_1 7 rfl rfl)
theorem dJ14_copyOf_2_32 : decode cJ14_copyOf_2 32 = .ok (.invokestatic 304, 3) := dk_184 1 48 (dk_at dksJ14_copyOf_2_1 8 rfl rfl)
theorem dJ14_copyOf_2_35 : decode cJ14_copyOf_2 35 = .ok (.invokestatic 150, 3) := dk_184 0 150 (dk_at dksJ14_copyOf_2_1 11 rfl rfl)
theorem dJ14_copyOf_2_38 : decode cJ14_copyOf_2 38 = .ok (.aload_n 3, 1) := dk_45 (dk_at dksJ14_copyOf_2_1 14 rfl rfl)
theorem dJ14_copyOf_2_39 : decode cJ14_copyOf_2 39 = .ok (.areturn, 1) := dk_176 (dk_at dksJ14_copyOf_2_1 15 rfl rfl)
theorem q153 : (Jvm.Cond.initialized "java/util/Arrays") ∈ lw_all := lw_g (lw_at lw_m1 28 rfl) rfl
theorem q1331 : (Jvm.Cond.static ({ cls := "java/util/Arrays", name := "copyOf", desc := "([Ljava/lang/Object;I)[Ljava/lang/Object;" } : Jvm.MethodName)) ∈ lw_all := lw_g (lw_at lw_m6 6 rfl) rfl
theorem q1332 : (Jvm.Cond.code ({ cls := "java/util/Arrays", name := "copyOf", desc := "([Ljava/lang/Object;I)[Ljava/lang/Object;" } : Jvm.MethodName) prog_38_method_119_code (2 : Nat) (Option.some (Jvm.ClassFile.FieldType.array (Jvm.ClassFile.FieldType.object "java/lang/Object")))) ∈ lw_all := lw_g (lw_at lw_m6 7 rfl) rfl
theorem q1333 : (Jvm.Cond.methodLink "java/util/Arrays" (86 : Nat) ({ cls := "java/lang/Object", name := "getClass", desc := "()Ljava/lang/Class;" } : Jvm.MethodName)) ∈ lw_all := lw_g (lw_at lw_m6 8 rfl) rfl
theorem q1353 : (Jvm.Cond.methodLink "java/util/Arrays" (300 : Nat) ({ cls := "java/util/Arrays", name := "copyOf", desc := "([Ljava/lang/Object;ILjava/lang/Class;)[Ljava/lang/Object;" } : Jvm.MethodName)) ∈ lw_all := lw_g (lw_at lw_m6 28 rfl) rfl
theorem q1354 : (Jvm.Cond.static ({ cls := "java/util/Arrays", name := "copyOf", desc := "([Ljava/lang/Object;ILjava/lang/Class;)[Ljava/lang/Object;" } : Jvm.MethodName)) ∈ lw_all := lw_g (lw_at lw_m6 29 rfl) rfl
theorem q1355 : (Jvm.Cond.code ({ cls := "java/util/Arrays", name := "copyOf", desc := "([Ljava/lang/Object;ILjava/lang/Class;)[Ljava/lang/Object;" } : Jvm.MethodName) prog_38_method_120_code (4 : Nat) (Option.some (Jvm.ClassFile.FieldType.array (Jvm.ClassFile.FieldType.object "java/lang/Object")))) ∈ lw_all := lw_g (lw_at lw_m6 30 rfl) rfl
theorem q1356 : (Jvm.Cond.classLink "java/util/Arrays" (110 : Nat) "[Ljava/lang/Object;") ∈ lw_all := lw_g (lw_at lw_m6 31 rfl) rfl
theorem q1358 : (Jvm.Cond.classLink "java/util/Arrays" (2 : Nat) "java/lang/Object") ∈ lw_all := lw_g (lw_at lw_m6 33 rfl) rfl
theorem q1359 : (Jvm.Cond.methodLink "java/util/Arrays" (304 : Nat) ({ cls := "java/lang/Math", name := "min", desc := "(II)I" } : Jvm.MethodName)) ∈ lw_all := lw_g (lw_at lw_m6 34 rfl) rfl
theorem q1360 : (Jvm.Cond.methodLink "java/util/Arrays" (150 : Nat) ({ cls := "java/lang/System", name := "arraycopy", desc := "(Ljava/lang/Object;ILjava/lang/Object;II)V" } : Jvm.MethodName)) ∈ lw_all := lw_g (lw_at lw_m6 35 rfl) rfl
/-! java/util/Objects -/
set_option maxRecDepth 100000
def RJ15 : String := "java/util/Objects"
abbrev cJ15_checkIndex : ByteArray := prog_41_method_17_code
def yJ15_checkIndex : MethodName := ⟨RJ15, "checkIndex", "(II)I"⟩
def dkwJ15_checkIndex_0 : List UInt8 := [26, 27, 1, 184, 0, 105, 172]
abbrev dktJ15_checkIndex_0 : List UInt8 := dkwJ15_checkIndex_0 ++ []
theorem dksJ15_checkIndex_0 : cJ15_checkIndex.data.toList.drop 0 = dktJ15_checkIndex_0 := by decide +kernel
theorem dJ15_checkIndex_0 : decode cJ15_checkIndex 0 = .ok (.iload_n 0, 1) := dk_26 (dk_at dksJ15_checkIndex_0 0 rfl rfl)
theorem dJ15_checkIndex_1 : decode cJ15_checkIndex 1 = .ok (.iload_n 1, 1) := dk_27 (dk_at dksJ15_checkIndex_0 1 rfl rfl)
theorem dJ15_checkIndex_2 : decode cJ15_checkIndex 2 = .ok (.aconst_null, 1) := dk_1 (dk_at dksJ15_checkIndex_0 2 rfl rfl)
theorem dJ15_checkIndex_3 : decode cJ15_checkIndex 3 = .ok (.invokestatic 105, 3) := dk_184 0 105 (dk_at dksJ15_checkIndex_0 3 rfl rfl)
theorem dJ15_checkIndex_6 : decode cJ15_checkIndex 6 = .ok (.ireturn, 1) := dk_172 (dk_at dksJ15_checkIndex_0 6 rfl rfl)
theorem q154 : (Jvm.Cond.initialized "java/util/Objects") ∈ lw_all := lw_g (lw_at lw_m1 29 rfl) rfl
theorem q1375 : (Jvm.Cond.static ({ cls := "java/util/Objects", name := "checkIndex", desc := "(II)I" } : Jvm.MethodName)) ∈ lw_all := lw_g (lw_at lw_m6 50 rfl) rfl
theorem q1376 : (Jvm.Cond.code ({ cls := "java/util/Objects", name := "checkIndex", desc := "(II)I" } : Jvm.MethodName) prog_41_method_17_code (2 : Nat) (Option.some Jvm.ClassFile.FieldType.int)) ∈ lw_all := lw_g (lw_at lw_m6 51 rfl) rfl
theorem q1377 : (Jvm.Cond.methodLink "java/util/Objects" (105 : Nat) ({ cls := "jdk/internal/util/Preconditions", name := "checkIndex", desc := "(IILjava/util/function/BiFunction;)I" } : Jvm.MethodName)) ∈ lw_all := lw_g (lw_at lw_m6 52 rfl) rfl
/-! java/lang/NegativeArraySizeException -/
set_option maxRecDepth 100000
def RJ16 : String := "java/lang/NegativeArraySizeException"
def TJ16 : u_T := fun k => match k with
  | 0 => ("java/lang/Throwable", "backtrace", "Ljava/lang/Object;", false)
  | 1 => ("java/lang/Throwable", "detailMessage", "Ljava/lang/String;", false)
  | 2 => ("java/lang/Throwable", "cause", "Ljava/lang/Throwable;", false)
  | 3 => ("java/lang/Throwable", "stackTrace", "[Ljava/lang/StackTraceElement;", false)
  | 4 => ("java/lang/Throwable", "depth", "I", false)
  | _ => ("java/lang/Throwable", "suppressedExceptions", "Ljava/util/List;", false)
def tyJ16 : Nat → FieldType := fun k => match k with
  | 0 => .object "java/lang/Object"
  | 1 => .object "java/lang/String"
  | 2 => .object "java/lang/Throwable"
  | 3 => .array (.object "java/lang/StackTraceElement")
  | 4 => .int
  | _ => .object "java/util/List"
abbrev wsJ160 : List Cond := u_ws RJ16 TJ16 6
theorem nmJ16 : ∀ a, a < 6 → ∀ b, b < 6 → a ≠ b → (TJ16 a).2.1 ≠ (TJ16 b).2.1 := by decide +kernel
theorem tyJ16_ok : ∀ k, k < 6 → parseFieldDescriptor (TJ16 k).2.2.1 = some (tyJ16 k) := by decide +kernel
abbrev cJ16_init : ByteArray := prog_25_method_2_code
def yJ16_init : MethodName := ⟨RJ16, "<init>", "(Ljava/lang/String;)V"⟩
def dkwJ16_init_0 : List UInt8 := [42, 43, 183, 0, 7, 177]
abbrev dktJ16_init_0 : List UInt8 := dkwJ16_init_0 ++ []
theorem dksJ16_init_0 : cJ16_init.data.toList.drop 0 = dktJ16_init_0 := by decide +kernel
theorem dJ16_init_0 : decode cJ16_init 0 = .ok (.aload_n 0, 1) := dk_42 (dk_at dksJ16_init_0 0 rfl rfl)
theorem dJ16_init_1 : decode cJ16_init 1 = .ok (.aload_n 1, 1) := dk_43 (dk_at dksJ16_init_0 1 rfl rfl)
theorem dJ16_init_2 : decode cJ16_init 2 = .ok (.invokespecial 7, 3) := dk_183 0 7 (dk_at dksJ16_init_0 2 rfl rfl)
theorem dJ16_init_5 : decode cJ16_init 5 = .ok (.return_, 1) := dk_177 (dk_at dksJ16_init_0 5 rfl rfl)
theorem q155 : (Jvm.Cond.initialized "java/lang/NegativeArraySizeException") ∈ lw_all := lw_g (lw_at lw_m1 30 rfl) rfl
theorem q629 : (Jvm.Cond.selects "java/lang/NegativeArraySizeException" ({ cls := "java/lang/Throwable", name := "fillInStackTrace", desc := "()Ljava/lang/Throwable;" } : Jvm.MethodName) ({ cls := "java/lang/Throwable", name := "fillInStackTrace", desc := "()Ljava/lang/Throwable;" } : Jvm.MethodName)) ∈ lw_all := lw_g (lw_at lw_m3 24 rfl) rfl
theorem q1349 : (Jvm.Cond.selects "java/lang/NegativeArraySizeException" ({ cls := "java/lang/Object", name := "getClass", desc := "()Ljava/lang/Class;" } : Jvm.MethodName) ({ cls := "java/lang/Object", name := "getClass", desc := "()Ljava/lang/Class;" } : Jvm.MethodName)) ∈ lw_all := lw_g (lw_at lw_m6 24 rfl) rfl
theorem q1399 : (Jvm.Cond.instantiable "java/lang/NegativeArraySizeException" (6 : Nat)) ∈ lw_all := lw_g (lw_at lw_m6 74 rfl) rfl
theorem q1400 : (Jvm.Cond.instanceMethod ({ cls := "java/lang/NegativeArraySizeException", name := "<init>", desc := "(Ljava/lang/String;)V" } : Jvm.MethodName)) ∈ lw_all := lw_g (lw_at lw_m6 75 rfl) rfl
theorem q1401 : (Jvm.Cond.code ({ cls := "java/lang/NegativeArraySizeException", name := "<init>", desc := "(Ljava/lang/String;)V" } : Jvm.MethodName) prog_25_method_2_code (2 : Nat) (Option.none : Option Jvm.ClassFile.FieldType)) ∈ lw_all := lw_g (lw_at lw_m6 76 rfl) rfl
theorem q1402 : (Jvm.Cond.methodLink "java/lang/NegativeArraySizeException" (7 : Nat) ({ cls := "java/lang/RuntimeException", name := "<init>", desc := "(Ljava/lang/String;)V" } : Jvm.MethodName)) ∈ lw_all := lw_g (lw_at lw_m6 77 rfl) rfl
theorem q1411 : (Jvm.Cond.lays "java/lang/NegativeArraySizeException" "java/lang/Throwable" "backtrace" "Ljava/lang/Object;") ∈ lw_all := lw_g (lw_at lw_m6 86 rfl) rfl
theorem q1412 : (Jvm.Cond.lays "java/lang/NegativeArraySizeException" "java/lang/Throwable" "detailMessage" "Ljava/lang/String;") ∈ lw_all := lw_g (lw_at lw_m6 87 rfl) rfl
theorem q1413 : (Jvm.Cond.lays "java/lang/NegativeArraySizeException" "java/lang/Throwable" "cause" "Ljava/lang/Throwable;") ∈ lw_all := lw_g (lw_at lw_m6 88 rfl) rfl
theorem q1414 : (Jvm.Cond.lays "java/lang/NegativeArraySizeException" "java/lang/Throwable" "stackTrace" "[Ljava/lang/StackTraceElement;") ∈ lw_all := lw_g (lw_at lw_m6 89 rfl) rfl
theorem q1415 : (Jvm.Cond.lays "java/lang/NegativeArraySizeException" "java/lang/Throwable" "depth" "I") ∈ lw_all := lw_g (lw_at lw_m6 90 rfl) rfl
theorem q1416 : (Jvm.Cond.lays "java/lang/NegativeArraySizeException" "java/lang/Throwable" "suppressedExceptions" "Ljava/util/List;") ∈ lw_all := lw_g (lw_at lw_m6 91 rfl) rfl
theorem q1417 : (Jvm.Cond.superclass "java/lang/NegativeArraySizeException" "java/lang/RuntimeException") ∈ lw_all := lw_g (lw_at lw_m6 92 rfl) rfl
theorem q1418 : (Jvm.Cond.castable "java/lang/NegativeArraySizeException" "java/lang/NegativeArraySizeException") ∈ lw_tbl := lw_at lw_m6 93 rfl
theorem q1419 : (Jvm.Cond.selects "java/lang/NegativeArraySizeException" ({ cls := "java/lang/Throwable", name := "fillInStackTrace", desc := "(I)Ljava/lang/Throwable;" } : Jvm.MethodName) ({ cls := "java/lang/Throwable", name := "fillInStackTrace", desc := "(I)Ljava/lang/Throwable;" } : Jvm.MethodName)) ∈ lw_all := lw_g (lw_at lw_m6 94 rfl) rfl
theorem q2259 : (Jvm.Cond.castable "java/lang/NegativeArraySizeException" "java/lang/Object") ∈ lw_tbl := lw_at lw_m9 214 rfl
theorem in_J16 : ∀ w ∈ wsJ160, w ∈ lw_all := lw_in wsJ160 [1411, 1412, 1413, 1414, 1415, 1416] (by decide +kernel) (by decide +kernel)
/-! java/lang/IndexOutOfBoundsException -/
set_option maxRecDepth 100000
def RJ17 : String := "java/lang/IndexOutOfBoundsException"
abbrev cJ17_init : ByteArray := prog_21_method_2_code
def yJ17_init : MethodName := ⟨RJ17, "<init>", "(Ljava/lang/String;)V"⟩
def dkwJ17_init_0 : List UInt8 := [42, 43, 183, 0, 7, 177]
abbrev dktJ17_init_0 : List UInt8 := dkwJ17_init_0 ++ []
theorem dksJ17_init_0 : cJ17_init.data.toList.drop 0 = dktJ17_init_0 := by decide +kernel
theorem dJ17_init_0 : decode cJ17_init 0 = .ok (.aload_n 0, 1) := dk_42 (dk_at dksJ17_init_0 0 rfl rfl)
theorem dJ17_init_1 : decode cJ17_init 1 = .ok (.aload_n 1, 1) := dk_43 (dk_at dksJ17_init_0 1 rfl rfl)
theorem dJ17_init_2 : decode cJ17_init 2 = .ok (.invokespecial 7, 3) := dk_183 0 7 (dk_at dksJ17_init_0 2 rfl rfl)
theorem dJ17_init_5 : decode cJ17_init 5 = .ok (.return_, 1) := dk_177 (dk_at dksJ17_init_0 5 rfl rfl)
theorem q156 : (Jvm.Cond.initialized "java/lang/IndexOutOfBoundsException") ∈ lw_all := lw_g (lw_at lw_m1 31 rfl) rfl
theorem q1440 : (Jvm.Cond.instanceMethod ({ cls := "java/lang/IndexOutOfBoundsException", name := "<init>", desc := "(Ljava/lang/String;)V" } : Jvm.MethodName)) ∈ lw_all := lw_g (lw_at lw_m6 115 rfl) rfl
theorem q1441 : (Jvm.Cond.code ({ cls := "java/lang/IndexOutOfBoundsException", name := "<init>", desc := "(Ljava/lang/String;)V" } : Jvm.MethodName) prog_21_method_2_code (2 : Nat) (Option.none : Option Jvm.ClassFile.FieldType)) ∈ lw_all := lw_g (lw_at lw_m6 116 rfl) rfl
theorem q1442 : (Jvm.Cond.methodLink "java/lang/IndexOutOfBoundsException" (7 : Nat) ({ cls := "java/lang/RuntimeException", name := "<init>", desc := "(Ljava/lang/String;)V" } : Jvm.MethodName)) ∈ lw_all := lw_g (lw_at lw_m6 117 rfl) rfl
theorem q1451 : (Jvm.Cond.declares ({ cls := "java/lang/IndexOutOfBoundsException", name := "<init>", desc := "()V" } : Jvm.MethodName)) ∈ lw_tbl := lw_at lw_m6 126 rfl
theorem q1452 : (Jvm.Cond.declares ({ cls := "java/lang/IndexOutOfBoundsException", name := "<init>", desc := "(Ljava/lang/String;)V" } : Jvm.MethodName)) ∈ lw_tbl := lw_at lw_m6 127 rfl
/-! java/lang/ArrayIndexOutOfBoundsException -/
set_option maxRecDepth 100000
def RJ18 : String := "java/lang/ArrayIndexOutOfBoundsException"
def TJ18 : u_T := fun k => match k with
  | 0 => ("java/lang/Throwable", "backtrace", "Ljava/lang/Object;", false)
  | 1 => ("java/lang/Throwable", "detailMessage", "Ljava/lang/String;", false)
  | 2 => ("java/lang/Throwable", "cause", "Ljava/lang/Throwable;", false)
  | 3 => ("java/lang/Throwable", "stackTrace", "[Ljava/lang/StackTraceElement;", false)
  | 4 => ("java/lang/Throwable", "depth", "I", false)
  | _ => ("java/lang/Throwable", "suppressedExceptions", "Ljava/util/List;", false)
def tyJ18 : Nat → FieldType := fun k => match k with
  | 0 => .object "java/lang/Object"
  | 1 => .object "java/lang/String"
  | 2 => .object "java/lang/Throwable"
  | 3 => .array (.object "java/lang/StackTraceElement")
  | 4 => .int
  | _ => .object "java/util/List"
abbrev wsJ180 : List Cond := u_ws RJ18 TJ18 6
theorem nmJ18 : ∀ a, a < 6 → ∀ b, b < 6 → a ≠ b → (TJ18 a).2.1 ≠ (TJ18 b).2.1 := by decide +kernel
theorem tyJ18_ok : ∀ k, k < 6 → parseFieldDescriptor (TJ18 k).2.2.1 = some (tyJ18 k) := by decide +kernel
abbrev cJ18_init : ByteArray := prog_14_method_2_code
def yJ18_init : MethodName := ⟨RJ18, "<init>", "(Ljava/lang/String;)V"⟩
def dkwJ18_init_0 : List UInt8 := [42, 43, 183, 0, 7, 177]
abbrev dktJ18_init_0 : List UInt8 := dkwJ18_init_0 ++ []
theorem dksJ18_init_0 : cJ18_init.data.toList.drop 0 = dktJ18_init_0 := by decide +kernel
theorem dJ18_init_0 : decode cJ18_init 0 = .ok (.aload_n 0, 1) := dk_42 (dk_at dksJ18_init_0 0 rfl rfl)
theorem dJ18_init_1 : decode cJ18_init 1 = .ok (.aload_n 1, 1) := dk_43 (dk_at dksJ18_init_0 1 rfl rfl)
theorem dJ18_init_2 : decode cJ18_init 2 = .ok (.invokespecial 7, 3) := dk_183 0 7 (dk_at dksJ18_init_0 2 rfl rfl)
theorem dJ18_init_5 : decode cJ18_init 5 = .ok (.return_, 1) := dk_177 (dk_at dksJ18_init_0 5 rfl rfl)
theorem q157 : (Jvm.Cond.initialized "java/lang/ArrayIndexOutOfBoundsException") ∈ lw_all := lw_g (lw_at lw_m1 32 rfl) rfl
theorem q627 : (Jvm.Cond.selects "java/lang/ArrayIndexOutOfBoundsException" ({ cls := "java/lang/Throwable", name := "fillInStackTrace", desc := "()Ljava/lang/Throwable;" } : Jvm.MethodName) ({ cls := "java/lang/Throwable", name := "fillInStackTrace", desc := "()Ljava/lang/Throwable;" } : Jvm.MethodName)) ∈ lw_all := lw_g (lw_at lw_m3 22 rfl) rfl
theorem q1347 : (Jvm.Cond.selects "java/lang/ArrayIndexOutOfBoundsException" ({ cls := "java/lang/Object", name := "getClass", desc := "()Ljava/lang/Class;" } : Jvm.MethodName) ({ cls := "java/lang/Object", name := "getClass", desc := "()Ljava/lang/Class;" } : Jvm.MethodName)) ∈ lw_all := lw_g (lw_at lw_m6 22 rfl) rfl
theorem q1436 : (Jvm.Cond.instantiable "java/lang/ArrayIndexOutOfBoundsException" (6 : Nat)) ∈ lw_all := lw_g (lw_at lw_m6 111 rfl) rfl
theorem q1437 : (Jvm.Cond.instanceMethod ({ cls := "java/lang/ArrayIndexOutOfBoundsException", name := "<init>", desc := "(Ljava/lang/String;)V" } : Jvm.MethodName)) ∈ lw_all := lw_g (lw_at lw_m6 112 rfl) rfl
theorem q1438 : (Jvm.Cond.code ({ cls := "java/lang/ArrayIndexOutOfBoundsException", name := "<init>", desc := "(Ljava/lang/String;)V" } : Jvm.MethodName) prog_14_method_2_code (2 : Nat) (Option.none : Option Jvm.ClassFile.FieldType)) ∈ lw_all := lw_g (lw_at lw_m6 113 rfl) rfl
theorem q1439 : (Jvm.Cond.methodLink "java/lang/ArrayIndexOutOfBoundsException" (7 : Nat) ({ cls := "java/lang/IndexOutOfBoundsException", name := "<init>", desc := "(Ljava/lang/String;)V" } : Jvm.MethodName)) ∈ lw_all := lw_g (lw_at lw_m6 114 rfl) rfl
theorem q1443 : (Jvm.Cond.lays "java/lang/ArrayIndexOutOfBoundsException" "java/lang/Throwable" "backtrace" "Ljava/lang/Object;") ∈ lw_all := lw_g (lw_at lw_m6 118 rfl) rfl
theorem q1444 : (Jvm.Cond.lays "java/lang/ArrayIndexOutOfBoundsException" "java/lang/Throwable" "detailMessage" "Ljava/lang/String;") ∈ lw_all := lw_g (lw_at lw_m6 119 rfl) rfl
theorem q1445 : (Jvm.Cond.lays "java/lang/ArrayIndexOutOfBoundsException" "java/lang/Throwable" "cause" "Ljava/lang/Throwable;") ∈ lw_all := lw_g (lw_at lw_m6 120 rfl) rfl
theorem q1446 : (Jvm.Cond.lays "java/lang/ArrayIndexOutOfBoundsException" "java/lang/Throwable" "stackTrace" "[Ljava/lang/StackTraceElement;") ∈ lw_all := lw_g (lw_at lw_m6 121 rfl) rfl
theorem q1447 : (Jvm.Cond.lays "java/lang/ArrayIndexOutOfBoundsException" "java/lang/Throwable" "depth" "I") ∈ lw_all := lw_g (lw_at lw_m6 122 rfl) rfl
theorem q1448 : (Jvm.Cond.lays "java/lang/ArrayIndexOutOfBoundsException" "java/lang/Throwable" "suppressedExceptions" "Ljava/util/List;") ∈ lw_all := lw_g (lw_at lw_m6 123 rfl) rfl
theorem q1449 : (Jvm.Cond.superclass "java/lang/ArrayIndexOutOfBoundsException" "java/lang/IndexOutOfBoundsException") ∈ lw_all := lw_g (lw_at lw_m6 124 rfl) rfl
theorem q1450 : (Jvm.Cond.castable "java/lang/ArrayIndexOutOfBoundsException" "java/lang/ArrayIndexOutOfBoundsException") ∈ lw_tbl := lw_at lw_m6 125 rfl
theorem q1453 : (Jvm.Cond.selects "java/lang/ArrayIndexOutOfBoundsException" ({ cls := "java/lang/Throwable", name := "fillInStackTrace", desc := "(I)Ljava/lang/Throwable;" } : Jvm.MethodName) ({ cls := "java/lang/Throwable", name := "fillInStackTrace", desc := "(I)Ljava/lang/Throwable;" } : Jvm.MethodName)) ∈ lw_all := lw_g (lw_at lw_m6 128 rfl) rfl
theorem q2245 : (Jvm.Cond.castable "java/lang/ArrayIndexOutOfBoundsException" "java/lang/IndexOutOfBoundsException") ∈ lw_tbl := lw_at lw_m9 200 rfl
theorem q2260 : (Jvm.Cond.castable "java/lang/ArrayIndexOutOfBoundsException" "java/lang/Object") ∈ lw_tbl := lw_at lw_m9 215 rfl
theorem in_J18 : ∀ w ∈ wsJ180, w ∈ lw_all := lw_in wsJ180 [1443, 1444, 1445, 1446, 1447, 1448] (by decide +kernel) (by decide +kernel)
/-! java/lang/ArrayStoreException -/
set_option maxRecDepth 100000
def RJ19 : String := "java/lang/ArrayStoreException"
def TJ19 : u_T := fun k => match k with
  | 0 => ("java/lang/Throwable", "backtrace", "Ljava/lang/Object;", false)
  | 1 => ("java/lang/Throwable", "detailMessage", "Ljava/lang/String;", false)
  | 2 => ("java/lang/Throwable", "cause", "Ljava/lang/Throwable;", false)
  | 3 => ("java/lang/Throwable", "stackTrace", "[Ljava/lang/StackTraceElement;", false)
  | 4 => ("java/lang/Throwable", "depth", "I", false)
  | _ => ("java/lang/Throwable", "suppressedExceptions", "Ljava/util/List;", false)
def tyJ19 : Nat → FieldType := fun k => match k with
  | 0 => .object "java/lang/Object"
  | 1 => .object "java/lang/String"
  | 2 => .object "java/lang/Throwable"
  | 3 => .array (.object "java/lang/StackTraceElement")
  | 4 => .int
  | _ => .object "java/util/List"
abbrev wsJ190 : List Cond := u_ws RJ19 TJ19 6
theorem nmJ19 : ∀ a, a < 6 → ∀ b, b < 6 → a ≠ b → (TJ19 a).2.1 ≠ (TJ19 b).2.1 := by decide +kernel
theorem tyJ19_ok : ∀ k, k < 6 → parseFieldDescriptor (TJ19 k).2.2.1 = some (tyJ19 k) := by decide +kernel
abbrev cJ19_init : ByteArray := prog_15_method_2_code
def yJ19_init : MethodName := ⟨RJ19, "<init>", "(Ljava/lang/String;)V"⟩
def dkwJ19_init_0 : List UInt8 := [42, 43, 183, 0, 7, 177]
abbrev dktJ19_init_0 : List UInt8 := dkwJ19_init_0 ++ []
theorem dksJ19_init_0 : cJ19_init.data.toList.drop 0 = dktJ19_init_0 := by decide +kernel
theorem dJ19_init_0 : decode cJ19_init 0 = .ok (.aload_n 0, 1) := dk_42 (dk_at dksJ19_init_0 0 rfl rfl)
theorem dJ19_init_1 : decode cJ19_init 1 = .ok (.aload_n 1, 1) := dk_43 (dk_at dksJ19_init_0 1 rfl rfl)
theorem dJ19_init_2 : decode cJ19_init 2 = .ok (.invokespecial 7, 3) := dk_183 0 7 (dk_at dksJ19_init_0 2 rfl rfl)
theorem dJ19_init_5 : decode cJ19_init 5 = .ok (.return_, 1) := dk_177 (dk_at dksJ19_init_0 5 rfl rfl)
theorem q158 : (Jvm.Cond.initialized "java/lang/ArrayStoreException") ∈ lw_all := lw_g (lw_at lw_m1 33 rfl) rfl
theorem q628 : (Jvm.Cond.selects "java/lang/ArrayStoreException" ({ cls := "java/lang/Throwable", name := "fillInStackTrace", desc := "()Ljava/lang/Throwable;" } : Jvm.MethodName) ({ cls := "java/lang/Throwable", name := "fillInStackTrace", desc := "()Ljava/lang/Throwable;" } : Jvm.MethodName)) ∈ lw_all := lw_g (lw_at lw_m3 23 rfl) rfl
theorem q1348 : (Jvm.Cond.selects "java/lang/ArrayStoreException" ({ cls := "java/lang/Object", name := "getClass", desc := "()Ljava/lang/Class;" } : Jvm.MethodName) ({ cls := "java/lang/Object", name := "getClass", desc := "()Ljava/lang/Class;" } : Jvm.MethodName)) ∈ lw_all := lw_g (lw_at lw_m6 23 rfl) rfl
theorem q1463 : (Jvm.Cond.instantiable "java/lang/ArrayStoreException" (6 : Nat)) ∈ lw_all := lw_g (lw_at lw_m6 138 rfl) rfl
theorem q1464 : (Jvm.Cond.instanceMethod ({ cls := "java/lang/ArrayStoreException", name := "<init>", desc := "(Ljava/lang/String;)V" } : Jvm.MethodName)) ∈ lw_all := lw_g (lw_at lw_m6 139 rfl) rfl
theorem q1465 : (Jvm.Cond.code ({ cls := "java/lang/ArrayStoreException", name := "<init>", desc := "(Ljava/lang/String;)V" } : Jvm.MethodName) prog_15_method_2_code (2 : Nat) (Option.none : Option Jvm.ClassFile.FieldType)) ∈ lw_all := lw_g (lw_at lw_m6 140 rfl) rfl
theorem q1466 : (Jvm.Cond.methodLink "java/lang/ArrayStoreException" (7 : Nat) ({ cls := "java/lang/RuntimeException", name := "<init>", desc := "(Ljava/lang/String;)V" } : Jvm.MethodName)) ∈ lw_all := lw_g (lw_at lw_m6 141 rfl) rfl
theorem q1467 : (Jvm.Cond.lays "java/lang/ArrayStoreException" "java/lang/Throwable" "backtrace" "Ljava/lang/Object;") ∈ lw_all := lw_g (lw_at lw_m6 142 rfl) rfl
theorem q1468 : (Jvm.Cond.lays "java/lang/ArrayStoreException" "java/lang/Throwable" "detailMessage" "Ljava/lang/String;") ∈ lw_all := lw_g (lw_at lw_m6 143 rfl) rfl
theorem q1469 : (Jvm.Cond.lays "java/lang/ArrayStoreException" "java/lang/Throwable" "cause" "Ljava/lang/Throwable;") ∈ lw_all := lw_g (lw_at lw_m6 144 rfl) rfl
theorem q1470 : (Jvm.Cond.lays "java/lang/ArrayStoreException" "java/lang/Throwable" "stackTrace" "[Ljava/lang/StackTraceElement;") ∈ lw_all := lw_g (lw_at lw_m6 145 rfl) rfl
theorem q1471 : (Jvm.Cond.lays "java/lang/ArrayStoreException" "java/lang/Throwable" "depth" "I") ∈ lw_all := lw_g (lw_at lw_m6 146 rfl) rfl
theorem q1472 : (Jvm.Cond.lays "java/lang/ArrayStoreException" "java/lang/Throwable" "suppressedExceptions" "Ljava/util/List;") ∈ lw_all := lw_g (lw_at lw_m6 147 rfl) rfl
theorem q1473 : (Jvm.Cond.superclass "java/lang/ArrayStoreException" "java/lang/RuntimeException") ∈ lw_all := lw_g (lw_at lw_m6 148 rfl) rfl
theorem q1474 : (Jvm.Cond.castable "java/lang/ArrayStoreException" "java/lang/ArrayStoreException") ∈ lw_tbl := lw_at lw_m6 149 rfl
theorem q1475 : (Jvm.Cond.selects "java/lang/ArrayStoreException" ({ cls := "java/lang/Throwable", name := "fillInStackTrace", desc := "(I)Ljava/lang/Throwable;" } : Jvm.MethodName) ({ cls := "java/lang/Throwable", name := "fillInStackTrace", desc := "(I)Ljava/lang/Throwable;" } : Jvm.MethodName)) ∈ lw_all := lw_g (lw_at lw_m6 150 rfl) rfl
theorem q2261 : (Jvm.Cond.castable "java/lang/ArrayStoreException" "java/lang/Object") ∈ lw_tbl := lw_at lw_m9 216 rfl
theorem in_J19 : ∀ w ∈ wsJ190, w ∈ lw_all := lw_in wsJ190 [1467, 1468, 1469, 1470, 1471, 1472] (by decide +kernel) (by decide +kernel)
/-! java/lang/Object -/
set_option maxRecDepth 100000
def RJ20 : String := "java/lang/Object"
abbrev cJ20_init : ByteArray := object_method_1_code
def yJ20_init : MethodName := ⟨RJ20, "<init>", "()V"⟩
theorem dJ20_init_0 : decode cJ20_init 0 = .ok (.return_, 1) := by decide +kernel
theorem q165 : (Jvm.Cond.instanceMethod ({ cls := "java/lang/Object", name := "<init>", desc := "()V" } : Jvm.MethodName)) ∈ lw_all := lw_g (lw_at lw_m1 40 rfl) rfl
theorem q166 : (Jvm.Cond.code ({ cls := "java/lang/Object", name := "<init>", desc := "()V" } : Jvm.MethodName) object_method_1_code (1 : Nat) (Option.none : Option Jvm.ClassFile.FieldType)) ∈ lw_all := lw_g (lw_at lw_m1 41 rfl) rfl
theorem q1334 : (Jvm.Cond.instanceMethod ({ cls := "java/lang/Object", name := "getClass", desc := "()Ljava/lang/Class;" } : Jvm.MethodName)) ∈ lw_all := lw_g (lw_at lw_m6 9 rfl) rfl
theorem q1335 : (Jvm.Cond.sameMethod "java/lang/Object" "java/lang/Object" "getClass" "()Ljava/lang/Class;") ∈ lw_all := lw_g (lw_at lw_m6 10 rfl) rfl
theorem q1352 : (Jvm.Cond.native ({ cls := "java/lang/Object", name := "getClass", desc := "()Ljava/lang/Class;" } : Jvm.MethodName)) ∈ lw_all := lw_g (lw_at lw_m6 27 rfl) rfl
theorem q2244 : (Jvm.Cond.initialized "java/lang/Object") ∈ lw_all := lw_g (lw_at lw_m9 199 rfl) rfl
theorem q2269 : (Jvm.Cond.declares ({ cls := "java/lang/Object", name := "getClass", desc := "()Ljava/lang/Class;" } : Jvm.MethodName)) ∈ lw_tbl := lw_at lw_m9 224 rfl
theorem q125 : (Jvm.Cond.initialized "GallRegisterLaw") ∈ lw_all := lw_g (lw_at lw_m1 0 rfl) rfl
set_option maxRecDepth 100000
theorem q159 : (Jvm.Cond.classLink "GallRegisterLaw" (7 : Nat) "GallRegister") ∈ lw_all := lw_g (lw_at lw_m1 34 rfl) rfl
theorem q161 : (Jvm.Cond.methodLink "GallRegisterLaw" (9 : Nat) ({ cls := "GallRegister", name := "<init>", desc := "()V" } : Jvm.MethodName)) ∈ lw_all := lw_g (lw_at lw_m1 36 rfl) rfl
theorem q450 : (Jvm.Cond.methodLink "GallRegisterLaw" (13 : Nat) ({ cls := "GallRegister", name := "feed", desc := "(IIIII)I" } : Jvm.MethodName)) ∈ lw_all := lw_g (lw_at lw_m2 85 rfl) rfl
theorem q458 : (Jvm.Cond.methodLink "GallRegisterLaw" (18 : Nat) ({ cls := "GallRegister", name := "end", desc := "(I)I" } : Jvm.MethodName)) ∈ lw_all := lw_g (lw_at lw_m2 93 rfl) rfl
theorem q465 : (Jvm.Cond.methodLink "GallRegisterLaw" (23 : Nat) ({ cls := "GallRegister", name := "book", desc := "()I" } : Jvm.MethodName)) ∈ lw_all := lw_g (lw_at lw_m2 100 rfl) rfl
theorem q722 : (Jvm.Cond.methodLink "GallRegisterLaw" (28 : Nat) ({ cls := "GallRegister", name := "fault", desc := "(I)I" } : Jvm.MethodName)) ∈ lw_all := lw_g (lw_at lw_m3 117 rfl) rfl
theorem q726 : (Jvm.Cond.methodLink "GallRegisterLaw" (32 : Nat) ({ cls := "GallRegister", name := "ink", desc := "(II)I" } : Jvm.MethodName)) ∈ lw_all := lw_g (lw_at lw_m3 121 rfl) rfl
theorem q737 : (Jvm.Cond.methodLink "GallRegisterLaw" (37 : Nat) ({ cls := "GallRegister", name := "page", desc := "(I)I" } : Jvm.MethodName)) ∈ lw_all := lw_g (lw_at lw_m3 132 rfl) rfl
theorem q745 : (Jvm.Cond.methodLink "GallRegisterLaw" (41 : Nat) ({ cls := "GallRegister", name := "entry", desc := "(II)I" } : Jvm.MethodName)) ∈ lw_all := lw_g (lw_at lw_m3 140 rfl) rfl
theorem q757 : (Jvm.Cond.methodLink "GallRegisterLaw" (45 : Nat) ({ cls := "GallRegister", name := "on", desc := "(I)I" } : Jvm.MethodName)) ∈ lw_all := lw_g (lw_at lw_m3 152 rfl) rfl
theorem q765 : (Jvm.Cond.methodLink "GallRegisterLaw" (49 : Nat) ({ cls := "GallRegister", name := "faces", desc := "(I)I" } : Jvm.MethodName)) ∈ lw_all := lw_g (lw_at lw_m3 160 rfl) rfl
theorem q773 : (Jvm.Cond.methodLink "GallRegisterLaw" (53 : Nat) ({ cls := "GallRegister", name := "there", desc := "(I)I" } : Jvm.MethodName)) ∈ lw_all := lw_g (lw_at lw_m3 168 rfl) rfl
theorem q869 : (Jvm.Cond.methodLink "GallRegisterLaw" (57 : Nat) ({ cls := "GallRegister", name := "shade", desc := "(II)I" } : Jvm.MethodName)) ∈ lw_all := lw_g (lw_at lw_m4 24 rfl) rfl
theorem q877 : (Jvm.Cond.methodLink "GallRegisterLaw" (61 : Nat) ({ cls := "GallRegister", name := "peak", desc := "(I)I" } : Jvm.MethodName)) ∈ lw_all := lw_g (lw_at lw_m4 32 rfl) rfl
theorem q889 : (Jvm.Cond.methodLink "GallRegisterLaw" (65 : Nat) ({ cls := "GallRegister", name := "ripe", desc := "(I)I" } : Jvm.MethodName)) ∈ lw_all := lw_g (lw_at lw_m4 44 rfl) rfl
theorem q893 : (Jvm.Cond.methodLink "GallRegisterLaw" (69 : Nat) ({ cls := "GallRegister", name := "blank", desc := "(I)I" } : Jvm.MethodName)) ∈ lw_all := lw_g (lw_at lw_m4 48 rfl) rfl
theorem q897 : (Jvm.Cond.methodLink "GallRegisterLaw" (73 : Nat) ({ cls := "GallRegister", name := "clear", desc := "(I)I" } : Jvm.MethodName)) ∈ lw_all := lw_g (lw_at lw_m4 52 rfl) rfl
theorem q905 : (Jvm.Cond.methodLink "GallRegisterLaw" (77 : Nat) ({ cls := "GallRegister", name := "all", desc := "(I)I" } : Jvm.MethodName)) ∈ lw_all := lw_g (lw_at lw_m4 60 rfl) rfl
theorem q913 : (Jvm.Cond.methodLink "GallRegisterLaw" (81 : Nat) ({ cls := "GallRegister", name := "darkest", desc := "(I)I" } : Jvm.MethodName)) ∈ lw_all := lw_g (lw_at lw_m4 68 rfl) rfl
theorem q917 : (Jvm.Cond.methodLink "GallRegisterLaw" (85 : Nat) ({ cls := "GallRegister", name := "palest", desc := "(I)I" } : Jvm.MethodName)) ∈ lw_all := lw_g (lw_at lw_m4 72 rfl) rfl
theorem q921 : (Jvm.Cond.methodLink "GallRegisterLaw" (89 : Nat) ({ cls := "GallRegister", name := "sorts", desc := "(I)I" } : Jvm.MethodName)) ∈ lw_all := lw_g (lw_at lw_m4 76 rfl) rfl
theorem q933 : (Jvm.Cond.methodLink "GallRegisterLaw" (93 : Nat) ({ cls := "GallRegister", name := "alike", desc := "(I)I" } : Jvm.MethodName)) ∈ lw_all := lw_g (lw_at lw_m4 88 rfl) rfl
theorem q937 : (Jvm.Cond.methodLink "GallRegisterLaw" (97 : Nat) ({ cls := "GallRegister", name := "rising", desc := "(I)I" } : Jvm.MethodName)) ∈ lw_all := lw_g (lw_at lw_m4 92 rfl) rfl
theorem q941 : (Jvm.Cond.methodLink "GallRegisterLaw" (101 : Nat) ({ cls := "GallRegister", name := "paling", desc := "(I)I" } : Jvm.MethodName)) ∈ lw_all := lw_g (lw_at lw_m4 96 rfl) rfl
theorem q945 : (Jvm.Cond.methodLink "GallRegisterLaw" (105 : Nat) ({ cls := "GallRegister", name := "cross", desc := "(II)I" } : Jvm.MethodName)) ∈ lw_all := lw_g (lw_at lw_m4 100 rfl) rfl
theorem q949 : (Jvm.Cond.methodLink "GallRegisterLaw" (109 : Nat) ({ cls := "GallRegister", name := "swaps", desc := "(II)I" } : Jvm.MethodName)) ∈ lw_all := lw_g (lw_at lw_m4 104 rfl) rfl
theorem q960 : (Jvm.Cond.methodLink "GallRegisterLaw" (113 : Nat) ({ cls := "GallRegister", name := "put", desc := "()I" } : Jvm.MethodName)) ∈ lw_all := lw_g (lw_at lw_m4 115 rfl) rfl
theorem q964 : (Jvm.Cond.methodLink "GallRegisterLaw" (174 : Nat) ({ cls := "GallRegister", name := "bold", desc := "(II)I" } : Jvm.MethodName)) ∈ lw_all := lw_g (lw_at lw_m4 119 rfl) rfl
theorem q968 : (Jvm.Cond.methodLink "GallRegisterLaw" (178 : Nat) ({ cls := "GallRegister", name := "sum", desc := "(II)I" } : Jvm.MethodName)) ∈ lw_all := lw_g (lw_at lw_m4 123 rfl) rfl
theorem q972 : (Jvm.Cond.methodLink "GallRegisterLaw" (182 : Nat) ({ cls := "GallRegister", name := "spread", desc := "(I)I" } : Jvm.MethodName)) ∈ lw_all := lw_g (lw_at lw_m4 127 rfl) rfl
theorem q976 : (Jvm.Cond.methodLink "GallRegisterLaw" (186 : Nat) ({ cls := "GallRegister", name := "uses", desc := "(I)I" } : Jvm.MethodName)) ∈ lw_all := lw_g (lw_at lw_m4 131 rfl) rfl
theorem q980 : (Jvm.Cond.methodLink "GallRegisterLaw" (190 : Nat) ({ cls := "GallRegister", name := "newest", desc := "(I)I" } : Jvm.MethodName)) ∈ lw_all := lw_g (lw_at lw_m4 135 rfl) rfl
theorem q984 : (Jvm.Cond.methodLink "GallRegisterLaw" (194 : Nat) ({ cls := "GallRegister", name := "oldest", desc := "(I)I" } : Jvm.MethodName)) ∈ lw_all := lw_g (lw_at lw_m4 139 rfl) rfl
theorem q988 : (Jvm.Cond.methodLink "GallRegisterLaw" (198 : Nat) ({ cls := "GallRegister", name := "steady", desc := "(I)I" } : Jvm.MethodName)) ∈ lw_all := lw_g (lw_at lw_m4 143 rfl) rfl
theorem q992 : (Jvm.Cond.methodLink "GallRegisterLaw" (202 : Nat) ({ cls := "GallRegister", name := "falls", desc := "(I)I" } : Jvm.MethodName)) ∈ lw_all := lw_g (lw_at lw_m4 147 rfl) rfl
theorem q996 : (Jvm.Cond.methodLink "GallRegisterLaw" (206 : Nat) ({ cls := "GallRegister", name := "age", desc := "(II)I" } : Jvm.MethodName)) ∈ lw_all := lw_g (lw_at lw_m4 151 rfl) rfl
theorem q1000 : (Jvm.Cond.methodLink "GallRegisterLaw" (210 : Nat) ({ cls := "GallRegister", name := "honest", desc := "(I)I" } : Jvm.MethodName)) ∈ lw_all := lw_g (lw_at lw_m4 155 rfl) rfl
theorem q1012 : (Jvm.Cond.methodLink "GallRegisterLaw" (214 : Nat) ({ cls := "GallRegister", name := "peaks", desc := "()I" } : Jvm.MethodName)) ∈ lw_all := lw_g (lw_at lw_m4 167 rfl) rfl
theorem q1016 : (Jvm.Cond.methodLink "GallRegisterLaw" (218 : Nat) ({ cls := "GallRegister", name := "lasts", desc := "(I)I" } : Jvm.MethodName)) ∈ lw_all := lw_g (lw_at lw_m4 171 rfl) rfl
theorem q1020 : (Jvm.Cond.methodLink "GallRegisterLaw" (222 : Nat) ({ cls := "GallRegister", name := "order", desc := "(I)I" } : Jvm.MethodName)) ∈ lw_all := lw_g (lw_at lw_m4 175 rfl) rfl
theorem q1024 : (Jvm.Cond.methodLink "GallRegisterLaw" (226 : Nat) ({ cls := "GallRegister", name := "match", desc := "(II)I" } : Jvm.MethodName)) ∈ lw_all := lw_g (lw_at lw_m4 179 rfl) rfl
theorem q1028 : (Jvm.Cond.methodLink "GallRegisterLaw" (230 : Nat) ({ cls := "GallRegister", name := "later", desc := "(II)I" } : Jvm.MethodName)) ∈ lw_all := lw_g (lw_at lw_m4 183 rfl) rfl
theorem q1037 : (Jvm.Cond.methodLink "GallRegisterLaw" (234 : Nat) ({ cls := "GallRegister", name := "other", desc := "(II)I" } : Jvm.MethodName)) ∈ lw_all := lw_g (lw_at lw_m4 192 rfl) rfl
theorem q1041 : (Jvm.Cond.methodLink "GallRegisterLaw" (117 : Nat) ({ cls := "GallRegister", name := "lies", desc := "()I" } : Jvm.MethodName)) ∈ lw_all := lw_g (lw_at lw_m4 196 rfl) rfl
theorem q1045 : (Jvm.Cond.methodLink "GallRegisterLaw" (121 : Nat) ({ cls := "GallRegister", name := "passes", desc := "(II)I" } : Jvm.MethodName)) ∈ lw_all := lw_g (lw_at lw_m4 200 rfl) rfl
theorem q1049 : (Jvm.Cond.methodLink "GallRegisterLaw" (125 : Nat) ({ cls := "GallRegister", name := "suspects", desc := "(I)I" } : Jvm.MethodName)) ∈ lw_all := lw_g (lw_at lw_m4 204 rfl) rfl
theorem q1053 : (Jvm.Cond.methodLink "GallRegisterLaw" (129 : Nat) ({ cls := "GallRegister", name := "betrayed", desc := "(I)I" } : Jvm.MethodName)) ∈ lw_all := lw_g (lw_at lw_m4 208 rfl) rfl
theorem q1057 : (Jvm.Cond.methodLink "GallRegisterLaw" (133 : Nat) ({ cls := "GallRegister", name := "ages", desc := "(IIII)I" } : Jvm.MethodName)) ∈ lw_all := lw_g (lw_at lw_m4 212 rfl) rfl
theorem q1062 : (Jvm.Cond.methodLink "GallRegisterLaw" (138 : Nat) ({ cls := "GallRegister", name := "dates", desc := "(II)I" } : Jvm.MethodName)) ∈ lw_all := lw_g (lw_at lw_m4 217 rfl) rfl
theorem q1125 : (Jvm.Cond.methodLink "GallRegisterLaw" (142 : Nat) ({ cls := "GallRegister", name := "first", desc := "(II)I" } : Jvm.MethodName)) ∈ lw_all := lw_g (lw_at lw_m5 40 rfl) rfl
theorem q1129 : (Jvm.Cond.methodLink "GallRegisterLaw" (146 : Nat) ({ cls := "GallRegister", name := "last", desc := "(II)I" } : Jvm.MethodName)) ∈ lw_all := lw_g (lw_at lw_m5 44 rfl) rfl
theorem q1133 : (Jvm.Cond.methodLink "GallRegisterLaw" (150 : Nat) ({ cls := "GallRegister", name := "ask", desc := "(II)I" } : Jvm.MethodName)) ∈ lw_all := lw_g (lw_at lw_m5 48 rfl) rfl
theorem q1145 : (Jvm.Cond.methodLink "GallRegisterLaw" (154 : Nat) ({ cls := "GallRegister", name := "leaves", desc := "(II)I" } : Jvm.MethodName)) ∈ lw_all := lw_g (lw_at lw_m5 60 rfl) rfl
theorem q1149 : (Jvm.Cond.methodLink "GallRegisterLaw" (158 : Nat) ({ cls := "GallRegister", name := "kinds", desc := "(II)I" } : Jvm.MethodName)) ∈ lw_all := lw_g (lw_at lw_m5 64 rfl) rfl
theorem q1153 : (Jvm.Cond.methodLink "GallRegisterLaw" (162 : Nat) ({ cls := "GallRegister", name := "laws", desc := "(I)I" } : Jvm.MethodName)) ∈ lw_all := lw_g (lw_at lw_m5 68 rfl) rfl
theorem q1157 : (Jvm.Cond.methodLink "GallRegisterLaw" (166 : Nat) ({ cls := "GallRegister", name := "by", desc := "(I)I" } : Jvm.MethodName)) ∈ lw_all := lw_g (lw_at lw_m5 72 rfl) rfl
theorem q1172 : (Jvm.Cond.methodLink "GallRegisterLaw" (170 : Nat) ({ cls := "GallRegister", name := "law", desc := "()I" } : Jvm.MethodName)) ∈ lw_all := lw_g (lw_at lw_m5 87 rfl) rfl
theorem q1176 : (Jvm.Cond.methodLink "GallRegisterLaw" (238 : Nat) ({ cls := "GallRegister", name := "hide", desc := "(II)I" } : Jvm.MethodName)) ∈ lw_all := lw_g (lw_at lw_m5 91 rfl) rfl
theorem q1180 : (Jvm.Cond.methodLink "GallRegisterLaw" (242 : Nat) ({ cls := "GallRegister", name := "save", desc := "(I)I" } : Jvm.MethodName)) ∈ lw_all := lw_g (lw_at lw_m5 95 rfl) rfl
theorem q1184 : (Jvm.Cond.methodLink "GallRegisterLaw" (246 : Nat) ({ cls := "GallRegister", name := "heavy", desc := "()I" } : Jvm.MethodName)) ∈ lw_all := lw_g (lw_at lw_m5 99 rfl) rfl
theorem q1188 : (Jvm.Cond.methodLink "GallRegisterLaw" (250 : Nat) ({ cls := "GallRegister", name := "worth", desc := "(I)I" } : Jvm.MethodName)) ∈ lw_all := lw_g (lw_at lw_m5 103 rfl) rfl
theorem q1192 : (Jvm.Cond.methodLink "GallRegisterLaw" (254 : Nat) ({ cls := "GallRegister", name := "share", desc := "(II)I" } : Jvm.MethodName)) ∈ lw_all := lw_g (lw_at lw_m5 107 rfl) rfl
theorem q1214 : (Jvm.Cond.methodLink "GallRegisterLaw" (258 : Nat) ({ cls := "GallRegister", name := "rests", desc := "(II)I" } : Jvm.MethodName)) ∈ lw_all := lw_g (lw_at lw_m5 129 rfl) rfl
theorem q1226 : (Jvm.Cond.methodLink "GallRegisterLaw" (262 : Nat) ({ cls := "GallRegister", name := "gets", desc := "(IIII)I" } : Jvm.MethodName)) ∈ lw_all := lw_g (lw_at lw_m5 141 rfl) rfl
theorem q1230 : (Jvm.Cond.methodLink "GallRegisterLaw" (266 : Nat) ({ cls := "GallRegister", name := "chance", desc := "(IIII)I" } : Jvm.MethodName)) ∈ lw_all := lw_g (lw_at lw_m5 145 rfl) rfl
theorem q1243 : (Jvm.Cond.methodLink "GallRegisterLaw" (270 : Nat) ({ cls := "GallRegister", name := "mean", desc := "(II)J" } : Jvm.MethodName)) ∈ lw_all := lw_g (lw_at lw_m5 158 rfl) rfl
theorem q1248 : (Jvm.Cond.methodLink "GallRegisterLaw" (292 : Nat) ({ cls := "GallRegister", name := "drawn", desc := "(II)I" } : Jvm.MethodName)) ∈ lw_all := lw_g (lw_at lw_m5 163 rfl) rfl
theorem q1265 : (Jvm.Cond.methodLink "GallRegisterLaw" (296 : Nat) ({ cls := "GallRegister", name := "luck", desc := "(III)I" } : Jvm.MethodName)) ∈ lw_all := lw_g (lw_at lw_m5 180 rfl) rfl
theorem q1269 : (Jvm.Cond.methodLink "GallRegisterLaw" (275 : Nat) ({ cls := "GallRegister", name := "retraces", desc := "(III)I" } : Jvm.MethodName)) ∈ lw_all := lw_g (lw_at lw_m5 184 rfl) rfl
theorem q1277 : (Jvm.Cond.methodLink "GallRegisterLaw" (280 : Nat) ({ cls := "GallRegister", name := "bleaches", desc := "(II)I" } : Jvm.MethodName)) ∈ lw_all := lw_g (lw_at lw_m5 192 rfl) rfl
theorem q1281 : (Jvm.Cond.methodLink "GallRegisterLaw" (284 : Nat) ({ cls := "GallRegister", name := "undo", desc := "()I" } : Jvm.MethodName)) ∈ lw_all := lw_g (lw_at lw_m5 196 rfl) rfl
theorem q1285 : (Jvm.Cond.methodLink "GallRegisterLaw" (288 : Nat) ({ cls := "GallRegister", name := "anew", desc := "()I" } : Jvm.MethodName)) ∈ lw_all := lw_g (lw_at lw_m5 200 rfl) rfl
theorem q1289 : (Jvm.Cond.methodLink "GallRegisterLaw" (300 : Nat) ({ cls := "GallRegister", name := "rate", desc := "(II)I" } : Jvm.MethodName)) ∈ lw_all := lw_g (lw_at lw_m5 204 rfl) rfl
theorem q1293 : (Jvm.Cond.methodLink "GallRegisterLaw" (304 : Nat) ({ cls := "GallRegister", name := "count", desc := "(I)I" } : Jvm.MethodName)) ∈ lw_all := lw_g (lw_at lw_m5 208 rfl) rfl
theorem q1297 : (Jvm.Cond.methodLink "GallRegisterLaw" (308 : Nat) ({ cls := "GallRegister", name := "image", desc := "(I)I" } : Jvm.MethodName)) ∈ lw_all := lw_g (lw_at lw_m5 212 rfl) rfl
theorem q1382 : (Jvm.Cond.methodLink "GallRegisterLaw" (312 : Nat) ({ cls := "GallRegister", name := "back", desc := "(I)I" } : Jvm.MethodName)) ∈ lw_all := lw_g (lw_at lw_m6 57 rfl) rfl
theorem q1394 : (Jvm.Cond.methodLink "GallRegisterLaw" (316 : Nat) ({ cls := "GallRegister", name := "row", desc := "(III)I" } : Jvm.MethodName)) ∈ lw_all := lw_g (lw_at lw_m6 69 rfl) rfl
theorem q1431 : (Jvm.Cond.methodLink "GallRegisterLaw" (322 : Nat) ({ cls := "GallRegister", name := "write", desc := "(IIJ)I" } : Jvm.MethodName)) ∈ lw_all := lw_g (lw_at lw_m6 106 rfl) rfl
theorem q1458 : (Jvm.Cond.methodLink "GallRegisterLaw" (327 : Nat) ({ cls := "GallRegister", name := "paste", desc := "(IIIII)I" } : Jvm.MethodName)) ∈ lw_all := lw_g (lw_at lw_m6 133 rfl) rfl
theorem q1477 : (Jvm.Cond.classLink "GallRegisterLaw" (10 : Nat) "GallRegisterModel") ∈ lw_all := lw_g (lw_at lw_m6 152 rfl) rfl
theorem q1479 : (Jvm.Cond.methodLink "GallRegisterLaw" (12 : Nat) ({ cls := "GallRegisterModel", name := "<init>", desc := "()V" } : Jvm.MethodName)) ∈ lw_all := lw_g (lw_at lw_m6 154 rfl) rfl
theorem q1608 : (Jvm.Cond.methodLink "GallRegisterLaw" (319 : Nat) ({ cls := "GallRegisterModel", name := "row", desc := "(III)I" } : Jvm.MethodName)) ∈ lw_all := lw_g (lw_at lw_m7 43 rfl) rfl
theorem q1619 : (Jvm.Cond.methodLink "GallRegisterLaw" (326 : Nat) ({ cls := "GallRegisterModel", name := "write", desc := "(IIJ)I" } : Jvm.MethodName)) ∈ lw_all := lw_g (lw_at lw_m7 54 rfl) rfl
theorem q1626 : (Jvm.Cond.methodLink "GallRegisterLaw" (330 : Nat) ({ cls := "GallRegisterModel", name := "paste", desc := "(IIIII)I" } : Jvm.MethodName)) ∈ lw_all := lw_g (lw_at lw_m7 61 rfl) rfl
theorem q1630 : (Jvm.Cond.methodLink "GallRegisterLaw" (17 : Nat) ({ cls := "GallRegisterModel", name := "feed", desc := "(IIIII)I" } : Jvm.MethodName)) ∈ lw_all := lw_g (lw_at lw_m7 65 rfl) rfl
theorem q1638 : (Jvm.Cond.methodLink "GallRegisterLaw" (22 : Nat) ({ cls := "GallRegisterModel", name := "end", desc := "(I)I" } : Jvm.MethodName)) ∈ lw_all := lw_g (lw_at lw_m7 73 rfl) rfl
theorem q1642 : (Jvm.Cond.methodLink "GallRegisterLaw" (31 : Nat) ({ cls := "GallRegisterModel", name := "fault", desc := "(I)I" } : Jvm.MethodName)) ∈ lw_all := lw_g (lw_at lw_m7 77 rfl) rfl
theorem q1646 : (Jvm.Cond.methodLink "GallRegisterLaw" (27 : Nat) ({ cls := "GallRegisterModel", name := "book", desc := "()I" } : Jvm.MethodName)) ∈ lw_all := lw_g (lw_at lw_m7 81 rfl) rfl
theorem q1757 : (Jvm.Cond.methodLink "GallRegisterLaw" (36 : Nat) ({ cls := "GallRegisterModel", name := "ink", desc := "(II)I" } : Jvm.MethodName)) ∈ lw_all := lw_g (lw_at lw_m7 192 rfl) rfl
theorem q1766 : (Jvm.Cond.methodLink "GallRegisterLaw" (40 : Nat) ({ cls := "GallRegisterModel", name := "page", desc := "(I)I" } : Jvm.MethodName)) ∈ lw_all := lw_g (lw_at lw_m7 201 rfl) rfl
theorem q1774 : (Jvm.Cond.methodLink "GallRegisterLaw" (44 : Nat) ({ cls := "GallRegisterModel", name := "entry", desc := "(II)I" } : Jvm.MethodName)) ∈ lw_all := lw_g (lw_at lw_m7 209 rfl) rfl
theorem q1791 : (Jvm.Cond.methodLink "GallRegisterLaw" (48 : Nat) ({ cls := "GallRegisterModel", name := "on", desc := "(I)I" } : Jvm.MethodName)) ∈ lw_all := lw_g (lw_at lw_m7 226 rfl) rfl
theorem q1795 : (Jvm.Cond.methodLink "GallRegisterLaw" (52 : Nat) ({ cls := "GallRegisterModel", name := "faces", desc := "(I)I" } : Jvm.MethodName)) ∈ lw_all := lw_g (lw_at lw_m7 230 rfl) rfl
theorem q1803 : (Jvm.Cond.methodLink "GallRegisterLaw" (56 : Nat) ({ cls := "GallRegisterModel", name := "there", desc := "(I)I" } : Jvm.MethodName)) ∈ lw_all := lw_g (lw_at lw_m7 238 rfl) rfl
theorem q1834 : (Jvm.Cond.methodLink "GallRegisterLaw" (60 : Nat) ({ cls := "GallRegisterModel", name := "shade", desc := "(II)I" } : Jvm.MethodName)) ∈ lw_all := lw_g (lw_at lw_m8 29 rfl) rfl
theorem q1879 : (Jvm.Cond.methodLink "GallRegisterLaw" (64 : Nat) ({ cls := "GallRegisterModel", name := "peak", desc := "(I)I" } : Jvm.MethodName)) ∈ lw_all := lw_g (lw_at lw_m8 74 rfl) rfl
theorem q1887 : (Jvm.Cond.methodLink "GallRegisterLaw" (68 : Nat) ({ cls := "GallRegisterModel", name := "ripe", desc := "(I)I" } : Jvm.MethodName)) ∈ lw_all := lw_g (lw_at lw_m8 82 rfl) rfl
theorem q1891 : (Jvm.Cond.methodLink "GallRegisterLaw" (72 : Nat) ({ cls := "GallRegisterModel", name := "blank", desc := "(I)I" } : Jvm.MethodName)) ∈ lw_all := lw_g (lw_at lw_m8 86 rfl) rfl
theorem q1895 : (Jvm.Cond.methodLink "GallRegisterLaw" (76 : Nat) ({ cls := "GallRegisterModel", name := "clear", desc := "(I)I" } : Jvm.MethodName)) ∈ lw_all := lw_g (lw_at lw_m8 90 rfl) rfl
theorem q1903 : (Jvm.Cond.methodLink "GallRegisterLaw" (80 : Nat) ({ cls := "GallRegisterModel", name := "all", desc := "(I)I" } : Jvm.MethodName)) ∈ lw_all := lw_g (lw_at lw_m8 98 rfl) rfl
theorem q1911 : (Jvm.Cond.methodLink "GallRegisterLaw" (84 : Nat) ({ cls := "GallRegisterModel", name := "darkest", desc := "(I)I" } : Jvm.MethodName)) ∈ lw_all := lw_g (lw_at lw_m8 106 rfl) rfl
theorem q1919 : (Jvm.Cond.methodLink "GallRegisterLaw" (88 : Nat) ({ cls := "GallRegisterModel", name := "palest", desc := "(I)I" } : Jvm.MethodName)) ∈ lw_all := lw_g (lw_at lw_m8 114 rfl) rfl
theorem q1923 : (Jvm.Cond.methodLink "GallRegisterLaw" (92 : Nat) ({ cls := "GallRegisterModel", name := "sorts", desc := "(I)I" } : Jvm.MethodName)) ∈ lw_all := lw_g (lw_at lw_m8 118 rfl) rfl
theorem q1931 : (Jvm.Cond.methodLink "GallRegisterLaw" (96 : Nat) ({ cls := "GallRegisterModel", name := "alike", desc := "(I)I" } : Jvm.MethodName)) ∈ lw_all := lw_g (lw_at lw_m8 126 rfl) rfl
theorem q1935 : (Jvm.Cond.methodLink "GallRegisterLaw" (100 : Nat) ({ cls := "GallRegisterModel", name := "rising", desc := "(I)I" } : Jvm.MethodName)) ∈ lw_all := lw_g (lw_at lw_m8 130 rfl) rfl
theorem q1939 : (Jvm.Cond.methodLink "GallRegisterLaw" (104 : Nat) ({ cls := "GallRegisterModel", name := "paling", desc := "(I)I" } : Jvm.MethodName)) ∈ lw_all := lw_g (lw_at lw_m8 134 rfl) rfl
theorem q1943 : (Jvm.Cond.methodLink "GallRegisterLaw" (108 : Nat) ({ cls := "GallRegisterModel", name := "cross", desc := "(II)I" } : Jvm.MethodName)) ∈ lw_all := lw_g (lw_at lw_m8 138 rfl) rfl
theorem q1947 : (Jvm.Cond.methodLink "GallRegisterLaw" (112 : Nat) ({ cls := "GallRegisterModel", name := "swaps", desc := "(II)I" } : Jvm.MethodName)) ∈ lw_all := lw_g (lw_at lw_m8 142 rfl) rfl
theorem q1955 : (Jvm.Cond.methodLink "GallRegisterLaw" (116 : Nat) ({ cls := "GallRegisterModel", name := "put", desc := "()I" } : Jvm.MethodName)) ∈ lw_all := lw_g (lw_at lw_m8 150 rfl) rfl
theorem q1959 : (Jvm.Cond.methodLink "GallRegisterLaw" (120 : Nat) ({ cls := "GallRegisterModel", name := "lies", desc := "()I" } : Jvm.MethodName)) ∈ lw_all := lw_g (lw_at lw_m8 154 rfl) rfl
theorem q1963 : (Jvm.Cond.methodLink "GallRegisterLaw" (124 : Nat) ({ cls := "GallRegisterModel", name := "passes", desc := "(II)I" } : Jvm.MethodName)) ∈ lw_all := lw_g (lw_at lw_m8 158 rfl) rfl
theorem q1975 : (Jvm.Cond.methodLink "GallRegisterLaw" (128 : Nat) ({ cls := "GallRegisterModel", name := "suspects", desc := "(I)I" } : Jvm.MethodName)) ∈ lw_all := lw_g (lw_at lw_m8 170 rfl) rfl
theorem q1979 : (Jvm.Cond.methodLink "GallRegisterLaw" (132 : Nat) ({ cls := "GallRegisterModel", name := "betrayed", desc := "(I)I" } : Jvm.MethodName)) ∈ lw_all := lw_g (lw_at lw_m8 174 rfl) rfl
theorem q1983 : (Jvm.Cond.methodLink "GallRegisterLaw" (137 : Nat) ({ cls := "GallRegisterModel", name := "ages", desc := "(IIII)I" } : Jvm.MethodName)) ∈ lw_all := lw_g (lw_at lw_m8 178 rfl) rfl
theorem q1988 : (Jvm.Cond.methodLink "GallRegisterLaw" (141 : Nat) ({ cls := "GallRegisterModel", name := "dates", desc := "(II)I" } : Jvm.MethodName)) ∈ lw_all := lw_g (lw_at lw_m8 183 rfl) rfl
theorem q2007 : (Jvm.Cond.methodLink "GallRegisterLaw" (145 : Nat) ({ cls := "GallRegisterModel", name := "first", desc := "(II)I" } : Jvm.MethodName)) ∈ lw_all := lw_g (lw_at lw_m8 202 rfl) rfl
theorem q2011 : (Jvm.Cond.methodLink "GallRegisterLaw" (149 : Nat) ({ cls := "GallRegisterModel", name := "last", desc := "(II)I" } : Jvm.MethodName)) ∈ lw_all := lw_g (lw_at lw_m8 206 rfl) rfl
theorem q2015 : (Jvm.Cond.methodLink "GallRegisterLaw" (153 : Nat) ({ cls := "GallRegisterModel", name := "ask", desc := "(II)I" } : Jvm.MethodName)) ∈ lw_all := lw_g (lw_at lw_m8 210 rfl) rfl
theorem q2019 : (Jvm.Cond.methodLink "GallRegisterLaw" (157 : Nat) ({ cls := "GallRegisterModel", name := "leaves", desc := "(II)I" } : Jvm.MethodName)) ∈ lw_all := lw_g (lw_at lw_m8 214 rfl) rfl
theorem q2023 : (Jvm.Cond.methodLink "GallRegisterLaw" (161 : Nat) ({ cls := "GallRegisterModel", name := "kinds", desc := "(II)I" } : Jvm.MethodName)) ∈ lw_all := lw_g (lw_at lw_m8 218 rfl) rfl
theorem q2027 : (Jvm.Cond.methodLink "GallRegisterLaw" (165 : Nat) ({ cls := "GallRegisterModel", name := "laws", desc := "(I)I" } : Jvm.MethodName)) ∈ lw_all := lw_g (lw_at lw_m8 222 rfl) rfl
theorem q2035 : (Jvm.Cond.methodLink "GallRegisterLaw" (169 : Nat) ({ cls := "GallRegisterModel", name := "by", desc := "(I)I" } : Jvm.MethodName)) ∈ lw_all := lw_g (lw_at lw_m8 230 rfl) rfl
theorem q2039 : (Jvm.Cond.methodLink "GallRegisterLaw" (173 : Nat) ({ cls := "GallRegisterModel", name := "law", desc := "()I" } : Jvm.MethodName)) ∈ lw_all := lw_g (lw_at lw_m8 234 rfl) rfl
theorem q2043 : (Jvm.Cond.methodLink "GallRegisterLaw" (177 : Nat) ({ cls := "GallRegisterModel", name := "bold", desc := "(II)I" } : Jvm.MethodName)) ∈ lw_all := lw_g (lw_at lw_m8 238 rfl) rfl
theorem q2047 : (Jvm.Cond.methodLink "GallRegisterLaw" (181 : Nat) ({ cls := "GallRegisterModel", name := "sum", desc := "(II)I" } : Jvm.MethodName)) ∈ lw_all := lw_g (lw_at lw_m9 2 rfl) rfl
theorem q2051 : (Jvm.Cond.methodLink "GallRegisterLaw" (185 : Nat) ({ cls := "GallRegisterModel", name := "spread", desc := "(I)I" } : Jvm.MethodName)) ∈ lw_all := lw_g (lw_at lw_m9 6 rfl) rfl
theorem q2055 : (Jvm.Cond.methodLink "GallRegisterLaw" (189 : Nat) ({ cls := "GallRegisterModel", name := "uses", desc := "(I)I" } : Jvm.MethodName)) ∈ lw_all := lw_g (lw_at lw_m9 10 rfl) rfl
theorem q2059 : (Jvm.Cond.methodLink "GallRegisterLaw" (193 : Nat) ({ cls := "GallRegisterModel", name := "newest", desc := "(I)I" } : Jvm.MethodName)) ∈ lw_all := lw_g (lw_at lw_m9 14 rfl) rfl
theorem q2067 : (Jvm.Cond.methodLink "GallRegisterLaw" (197 : Nat) ({ cls := "GallRegisterModel", name := "oldest", desc := "(I)I" } : Jvm.MethodName)) ∈ lw_all := lw_g (lw_at lw_m9 22 rfl) rfl
theorem q2071 : (Jvm.Cond.methodLink "GallRegisterLaw" (201 : Nat) ({ cls := "GallRegisterModel", name := "steady", desc := "(I)I" } : Jvm.MethodName)) ∈ lw_all := lw_g (lw_at lw_m9 26 rfl) rfl
theorem q2075 : (Jvm.Cond.methodLink "GallRegisterLaw" (205 : Nat) ({ cls := "GallRegisterModel", name := "falls", desc := "(I)I" } : Jvm.MethodName)) ∈ lw_all := lw_g (lw_at lw_m9 30 rfl) rfl
theorem q2079 : (Jvm.Cond.methodLink "GallRegisterLaw" (209 : Nat) ({ cls := "GallRegisterModel", name := "age", desc := "(II)I" } : Jvm.MethodName)) ∈ lw_all := lw_g (lw_at lw_m9 34 rfl) rfl
theorem q2083 : (Jvm.Cond.methodLink "GallRegisterLaw" (213 : Nat) ({ cls := "GallRegisterModel", name := "honest", desc := "(I)I" } : Jvm.MethodName)) ∈ lw_all := lw_g (lw_at lw_m9 38 rfl) rfl
theorem q2087 : (Jvm.Cond.methodLink "GallRegisterLaw" (217 : Nat) ({ cls := "GallRegisterModel", name := "peaks", desc := "()I" } : Jvm.MethodName)) ∈ lw_all := lw_g (lw_at lw_m9 42 rfl) rfl
theorem q2091 : (Jvm.Cond.methodLink "GallRegisterLaw" (221 : Nat) ({ cls := "GallRegisterModel", name := "lasts", desc := "(I)I" } : Jvm.MethodName)) ∈ lw_all := lw_g (lw_at lw_m9 46 rfl) rfl
theorem q2095 : (Jvm.Cond.methodLink "GallRegisterLaw" (225 : Nat) ({ cls := "GallRegisterModel", name := "order", desc := "(I)I" } : Jvm.MethodName)) ∈ lw_all := lw_g (lw_at lw_m9 50 rfl) rfl
theorem q2099 : (Jvm.Cond.methodLink "GallRegisterLaw" (229 : Nat) ({ cls := "GallRegisterModel", name := "match", desc := "(II)I" } : Jvm.MethodName)) ∈ lw_all := lw_g (lw_at lw_m9 54 rfl) rfl
theorem q2103 : (Jvm.Cond.methodLink "GallRegisterLaw" (233 : Nat) ({ cls := "GallRegisterModel", name := "later", desc := "(II)I" } : Jvm.MethodName)) ∈ lw_all := lw_g (lw_at lw_m9 58 rfl) rfl
theorem q2112 : (Jvm.Cond.methodLink "GallRegisterLaw" (237 : Nat) ({ cls := "GallRegisterModel", name := "other", desc := "(II)I" } : Jvm.MethodName)) ∈ lw_all := lw_g (lw_at lw_m9 67 rfl) rfl
theorem q2116 : (Jvm.Cond.methodLink "GallRegisterLaw" (241 : Nat) ({ cls := "GallRegisterModel", name := "hide", desc := "(II)I" } : Jvm.MethodName)) ∈ lw_all := lw_g (lw_at lw_m9 71 rfl) rfl
theorem q2120 : (Jvm.Cond.methodLink "GallRegisterLaw" (245 : Nat) ({ cls := "GallRegisterModel", name := "save", desc := "(I)I" } : Jvm.MethodName)) ∈ lw_all := lw_g (lw_at lw_m9 75 rfl) rfl
theorem q2124 : (Jvm.Cond.methodLink "GallRegisterLaw" (249 : Nat) ({ cls := "GallRegisterModel", name := "heavy", desc := "()I" } : Jvm.MethodName)) ∈ lw_all := lw_g (lw_at lw_m9 79 rfl) rfl
theorem q2128 : (Jvm.Cond.methodLink "GallRegisterLaw" (253 : Nat) ({ cls := "GallRegisterModel", name := "worth", desc := "(I)I" } : Jvm.MethodName)) ∈ lw_all := lw_g (lw_at lw_m9 83 rfl) rfl
theorem q2132 : (Jvm.Cond.methodLink "GallRegisterLaw" (257 : Nat) ({ cls := "GallRegisterModel", name := "share", desc := "(II)I" } : Jvm.MethodName)) ∈ lw_all := lw_g (lw_at lw_m9 87 rfl) rfl
theorem q2148 : (Jvm.Cond.methodLink "GallRegisterLaw" (261 : Nat) ({ cls := "GallRegisterModel", name := "rests", desc := "(II)I" } : Jvm.MethodName)) ∈ lw_all := lw_g (lw_at lw_m9 103 rfl) rfl
theorem q2160 : (Jvm.Cond.methodLink "GallRegisterLaw" (265 : Nat) ({ cls := "GallRegisterModel", name := "gets", desc := "(IIII)I" } : Jvm.MethodName)) ∈ lw_all := lw_g (lw_at lw_m9 115 rfl) rfl
theorem q2164 : (Jvm.Cond.methodLink "GallRegisterLaw" (269 : Nat) ({ cls := "GallRegisterModel", name := "chance", desc := "(IIII)I" } : Jvm.MethodName)) ∈ lw_all := lw_g (lw_at lw_m9 119 rfl) rfl
theorem q2180 : (Jvm.Cond.methodLink "GallRegisterLaw" (274 : Nat) ({ cls := "GallRegisterModel", name := "mean", desc := "(II)J" } : Jvm.MethodName)) ∈ lw_all := lw_g (lw_at lw_m9 135 rfl) rfl
theorem q2185 : (Jvm.Cond.methodLink "GallRegisterLaw" (295 : Nat) ({ cls := "GallRegisterModel", name := "drawn", desc := "(II)I" } : Jvm.MethodName)) ∈ lw_all := lw_g (lw_at lw_m9 140 rfl) rfl
theorem q2201 : (Jvm.Cond.methodLink "GallRegisterLaw" (299 : Nat) ({ cls := "GallRegisterModel", name := "luck", desc := "(III)I" } : Jvm.MethodName)) ∈ lw_all := lw_g (lw_at lw_m9 156 rfl) rfl
theorem q2205 : (Jvm.Cond.methodLink "GallRegisterLaw" (279 : Nat) ({ cls := "GallRegisterModel", name := "retraces", desc := "(III)I" } : Jvm.MethodName)) ∈ lw_all := lw_g (lw_at lw_m9 160 rfl) rfl
theorem q2213 : (Jvm.Cond.methodLink "GallRegisterLaw" (283 : Nat) ({ cls := "GallRegisterModel", name := "bleaches", desc := "(II)I" } : Jvm.MethodName)) ∈ lw_all := lw_g (lw_at lw_m9 168 rfl) rfl
theorem q2217 : (Jvm.Cond.methodLink "GallRegisterLaw" (287 : Nat) ({ cls := "GallRegisterModel", name := "undo", desc := "()I" } : Jvm.MethodName)) ∈ lw_all := lw_g (lw_at lw_m9 172 rfl) rfl
theorem q2221 : (Jvm.Cond.methodLink "GallRegisterLaw" (291 : Nat) ({ cls := "GallRegisterModel", name := "anew", desc := "()I" } : Jvm.MethodName)) ∈ lw_all := lw_g (lw_at lw_m9 176 rfl) rfl
theorem q2225 : (Jvm.Cond.methodLink "GallRegisterLaw" (303 : Nat) ({ cls := "GallRegisterModel", name := "rate", desc := "(II)I" } : Jvm.MethodName)) ∈ lw_all := lw_g (lw_at lw_m9 180 rfl) rfl
theorem q2229 : (Jvm.Cond.methodLink "GallRegisterLaw" (307 : Nat) ({ cls := "GallRegisterModel", name := "count", desc := "(I)I" } : Jvm.MethodName)) ∈ lw_all := lw_g (lw_at lw_m9 184 rfl) rfl
theorem q2234 : (Jvm.Cond.methodLink "GallRegisterLaw" (311 : Nat) ({ cls := "GallRegisterModel", name := "image", desc := "(I)I" } : Jvm.MethodName)) ∈ lw_all := lw_g (lw_at lw_m9 189 rfl) rfl
theorem q2238 : (Jvm.Cond.methodLink "GallRegisterLaw" (315 : Nat) ({ cls := "GallRegisterModel", name := "back", desc := "(I)I" } : Jvm.MethodName)) ∈ lw_all := lw_g (lw_at lw_m9 193 rfl) rfl
theorem q2242 : (Jvm.Cond.constantLong "GallRegisterLaw" (320 : Nat) (4294967295 : Int64)) ∈ lw_all := lw_g (lw_at lw_m9 197 rfl) rfl
theorem q139 : (Jvm.Cond.initialized "GallRegister$Token") ∈ lw_all := lw_g (lw_at lw_m1 14 rfl) rfl
set_option maxRecDepth 100000
theorem q479 : (Jvm.Cond.laysStatic "GallRegister$Token" "END" "LGallRegister$Token;") ∈ lw_tbl := lw_at lw_m2 114 rfl
theorem q490 : (Jvm.Cond.laysStatic "GallRegister$Token" "WORD" "LGallRegister$Token;") ∈ lw_tbl := lw_at lw_m2 125 rfl
theorem q496 : (Jvm.Cond.laysStatic "GallRegister$Token" "NUMBER" "LGallRegister$Token;") ∈ lw_tbl := lw_at lw_m2 131 rfl
theorem q498 : (Jvm.Cond.laysStatic "GallRegister$Token" "STOP" "LGallRegister$Token;") ∈ lw_tbl := lw_at lw_m2 133 rfl
theorem q500 : (Jvm.Cond.laysStatic "GallRegister$Token" "NONE" "LGallRegister$Token;") ∈ lw_tbl := lw_at lw_m2 135 rfl
theorem q1345 : (Jvm.Cond.selects "GallRegister$Token" ({ cls := "java/lang/Object", name := "getClass", desc := "()Ljava/lang/Class;" } : Jvm.MethodName) ({ cls := "java/lang/Object", name := "getClass", desc := "()Ljava/lang/Class;" } : Jvm.MethodName)) ∈ lw_all := lw_g (lw_at lw_m6 20 rfl) rfl
theorem q2256 : (Jvm.Cond.castable "GallRegister$Token" "java/lang/Object") ∈ lw_tbl := lw_at lw_m9 211 rfl
theorem q2271 : (Jvm.Cond.castable "[B" "java/lang/Object") ∈ lw_tbl := lw_at lw_m9 226 rfl
set_option maxRecDepth 100000
theorem q2270 : (Jvm.Cond.castable "[I" "java/lang/Object") ∈ lw_tbl := lw_at lw_m9 225 rfl
set_option maxRecDepth 100000
theorem q2276 : (Jvm.Cond.castable "[J" "java/lang/Object") ∈ lw_tbl := lw_at lw_m9 231 rfl
set_option maxRecDepth 100000
theorem q2272 : (Jvm.Cond.castable "[LGallRegister$Fading;" "java/lang/Object") ∈ lw_tbl := lw_at lw_m9 227 rfl
set_option maxRecDepth 100000
theorem q2273 : (Jvm.Cond.castable "[LGallRegister$Slot;" "java/lang/Object") ∈ lw_tbl := lw_at lw_m9 228 rfl
set_option maxRecDepth 100000
theorem q2267 : (Jvm.Cond.sameMethod "[Ljava/lang/Object;" "java/lang/Object" "getClass" "()Ljava/lang/Class;") ∈ lw_all := lw_g (lw_at lw_m9 222 rfl) rfl
set_option maxRecDepth 100000
theorem q2268 : (Jvm.Cond.selects "[Ljava/lang/Object;" ({ cls := "java/lang/Object", name := "getClass", desc := "()Ljava/lang/Class;" } : Jvm.MethodName) ({ cls := "java/lang/Object", name := "getClass", desc := "()Ljava/lang/Class;" } : Jvm.MethodName)) ∈ lw_all := lw_g (lw_at lw_m9 223 rfl) rfl
theorem q2274 : (Jvm.Cond.castable "[Ljava/lang/Object;" "java/lang/Object") ∈ lw_tbl := lw_at lw_m9 229 rfl
theorem q2275 : (Jvm.Cond.castable "[S" "java/lang/Object") ∈ lw_tbl := lw_at lw_m9 230 rfl
set_option maxRecDepth 100000
theorem q2277 : (Jvm.Cond.castable "[Z" "java/lang/Object") ∈ lw_tbl := lw_at lw_m9 232 rfl
set_option maxRecDepth 100000
theorem q138 : (Jvm.Cond.initialized "java/lang/Enum") ∈ lw_all := lw_g (lw_at lw_m1 13 rfl) rfl
set_option maxRecDepth 100000
theorem q148 : (Jvm.Cond.initialized "java/lang/System") ∈ lw_all := lw_g (lw_at lw_m1 23 rfl) rfl
set_option maxRecDepth 100000
theorem q790 : (Jvm.Cond.static ({ cls := "java/lang/System", name := "arraycopy", desc := "(Ljava/lang/Object;ILjava/lang/Object;II)V" } : Jvm.MethodName)) ∈ lw_all := lw_g (lw_at lw_m3 185 rfl) rfl
theorem q791 : (Jvm.Cond.native ({ cls := "java/lang/System", name := "arraycopy", desc := "(Ljava/lang/Object;ILjava/lang/Object;II)V" } : Jvm.MethodName)) ∈ lw_all := lw_g (lw_at lw_m3 186 rfl) rfl
theorem q260 : (Jvm.Cond.arrayClass Jvm.ClassFile.FieldType.int) ∈ lw_all := lw_g (lw_at lw_m1 135 rfl) rfl
set_option maxRecDepth 100000
theorem q271 : (Jvm.Cond.arrayClass Jvm.ClassFile.FieldType.byte) ∈ lw_all := lw_g (lw_at lw_m1 146 rfl) rfl
theorem q272 : (Jvm.Cond.arrayOver (Jvm.ClassFile.FieldType.object "GallRegister$Fading")) ∈ lw_tbl := lw_at lw_m1 147 rfl
theorem q307 : (Jvm.Cond.arrayOver (Jvm.ClassFile.FieldType.object "GallRegister$Slot")) ∈ lw_tbl := lw_at lw_m1 182 rfl
theorem q1357 : (Jvm.Cond.arrayOver (Jvm.ClassFile.FieldType.object "java/lang/Object")) ∈ lw_tbl := lw_at lw_m6 32 rfl
theorem q1429 : (Jvm.Cond.arrayClass Jvm.ClassFile.FieldType.short) ∈ lw_all := lw_g (lw_at lw_m6 104 rfl) rfl
theorem q1430 : (Jvm.Cond.arrayClass Jvm.ClassFile.FieldType.long) ∈ lw_all := lw_g (lw_at lw_m6 105 rfl) rfl
theorem q1607 : (Jvm.Cond.arrayClass Jvm.ClassFile.FieldType.boolean) ∈ lw_all := lw_g (lw_at lw_m7 42 rfl) rfl
/-! the law's own entry -/
set_option maxRecDepth 100000
abbrev cL_law : ByteArray := code
def dkwL_law_97 : List UInt8 := [132, 3, 6, 167, 245, 253, 4, 172]
abbrev dktL_law_97 : List UInt8 := dkwL_law_97 ++ []
def dkwL_law_96 : List UInt8 := [46, 42, 29, 6, 96, 46, 42, 29, 7, 96, 46, 42, 29, 8, 96, 46, 182, 1, 74, 159, 0, 5, 3, 172]
abbrev dktL_law_96 : List UInt8 := dkwL_law_96 ++ dktL_law_97
def dkwL_law_95 : List UInt8 := [46, 42, 29, 7, 96, 46, 42, 29, 8, 96, 46, 182, 1, 71, 44, 42, 29, 4, 96, 46, 42, 29, 5, 96]
abbrev dktL_law_95 : List UInt8 := dkwL_law_95 ++ dktL_law_96
def dkwL_law_94 : List UInt8 := [129, 182, 1, 70, 159, 0, 68, 3, 172, 43, 42, 29, 4, 96, 46, 42, 29, 5, 96, 46, 42, 29, 6, 96]
abbrev dktL_law_94 : List UInt8 := dkwL_law_94 ++ dktL_law_95
def dkwL_law_93 : List UInt8 := [42, 29, 5, 96, 46, 42, 29, 6, 96, 46, 133, 16, 32, 121, 42, 29, 7, 96, 46, 133, 20, 1, 64, 127]
abbrev dktL_law_93 : List UInt8 := dkwL_law_93 ++ dktL_law_94
def dkwL_law_92 : List UInt8 := [133, 16, 32, 121, 42, 29, 7, 96, 46, 133, 20, 1, 64, 127, 129, 182, 1, 66, 44, 42, 29, 4, 96, 46]
abbrev dktL_law_92 : List UInt8 := dkwL_law_92 ++ dktL_law_93
def dkwL_law_91 : List UInt8 := [182, 1, 63, 159, 0, 141, 3, 172, 43, 42, 29, 4, 96, 46, 42, 29, 5, 96, 46, 42, 29, 6, 96, 46]
abbrev dktL_law_91 : List UInt8 := dkwL_law_91 ++ dktL_law_92
def dkwL_law_90 : List UInt8 := [6, 96, 46, 182, 1, 60, 44, 42, 29, 4, 96, 46, 42, 29, 5, 96, 46, 42, 29, 6, 96, 46]
abbrev dktL_law_90 : List UInt8 := dkwL_law_90 ++ dktL_law_91
def dkwL_law_89 : List UInt8 := [4, 96, 46, 182, 1, 59, 159, 0, 184, 3, 172, 43, 42, 29, 4, 96, 46, 42, 29, 5, 96, 46, 42, 29]
abbrev dktL_law_89 : List UInt8 := dkwL_law_89 ++ dktL_law_90
def dkwL_law_88 : List UInt8 := [29, 4, 96, 46, 182, 1, 55, 159, 0, 207, 3, 172, 43, 42, 29, 4, 96, 46, 182, 1, 56, 44, 42, 29]
abbrev dktL_law_88 : List UInt8 := dkwL_law_88 ++ dktL_law_89
def dkwL_law_87 : List UInt8 := [42, 29, 4, 96, 46, 182, 1, 51, 159, 0, 230, 3, 172, 43, 42, 29, 4, 96, 46, 182, 1, 52, 44, 42]
abbrev dktL_law_87 : List UInt8 := dkwL_law_87 ++ dktL_law_88
def dkwL_law_86 : List UInt8 := [46, 42, 29, 5, 96, 46, 182, 1, 47, 159, 0, 253, 3, 172, 43, 42, 29, 4, 96, 46, 182, 1, 48, 44]
abbrev dktL_law_86 : List UInt8 := dkwL_law_86 ++ dktL_law_87
def dkwL_law_85 : List UInt8 := [159, 1, 30, 3, 172, 43, 42, 29, 4, 96, 46, 42, 29, 5, 96, 46, 182, 1, 44, 44, 42, 29, 4, 96]
abbrev dktL_law_85 : List UInt8 := dkwL_law_85 ++ dktL_law_86
def dkwL_law_84 : List UInt8 := [182, 1, 40, 44, 42, 29, 4, 96, 46, 42, 29, 5, 96, 46, 42, 29, 6, 96, 46, 182, 1, 43]
abbrev dktL_law_84 : List UInt8 := dkwL_law_84 ++ dktL_law_85
def dkwL_law_83 : List UInt8 := [182, 1, 39, 159, 1, 73, 3, 172, 43, 42, 29, 4, 96, 46, 42, 29, 5, 96, 46, 42, 29, 6, 96, 46]
abbrev dktL_law_83 : List UInt8 := dkwL_law_83 ++ dktL_law_84
def dkwL_law_82 : List UInt8 := [4, 96, 46, 42, 29, 5, 96, 46, 182, 1, 36, 44, 42, 29, 4, 96, 46, 42, 29, 5, 96, 46]
abbrev dktL_law_82 : List UInt8 := dkwL_law_82 ++ dktL_law_83
def dkwL_law_81 : List UInt8 := [182, 1, 31, 159, 1, 119, 3, 172, 43, 182, 1, 32, 44, 182, 1, 35, 159, 1, 106, 3, 172, 43, 42, 29]
abbrev dktL_law_81 : List UInt8 := dkwL_law_81 ++ dktL_law_82
def dkwL_law_80 : List UInt8 := [44, 42, 29, 4, 96, 46, 42, 29, 5, 96, 46, 182, 1, 27, 159, 1, 132, 3, 172, 43, 182, 1, 28, 44]
abbrev dktL_law_80 : List UInt8 := dkwL_law_80 ++ dktL_law_81
def dkwL_law_79 : List UInt8 := [96, 46, 182, 1, 23, 159, 1, 165, 3, 172, 43, 42, 29, 4, 96, 46, 42, 29, 5, 96, 46, 182, 1, 24]
abbrev dktL_law_79 : List UInt8 := dkwL_law_79 ++ dktL_law_80
def dkwL_law_78 : List UInt8 := [96, 46, 42, 29, 6, 96, 46, 182, 1, 19, 44, 42, 29, 4, 96, 46, 42, 29, 5, 96, 46, 42, 29, 6]
abbrev dktL_law_78 : List UInt8 := dkwL_law_78 ++ dktL_law_79
def dkwL_law_77 : List UInt8 := [46, 42, 29, 5, 96, 46, 182, 1, 18, 148, 153, 1, 208, 3, 172, 43, 42, 29, 4, 96, 46, 42, 29, 5]
abbrev dktL_law_77 : List UInt8 := dkwL_law_77 ++ dktL_law_78
def dkwL_law_76 : List UInt8 := [159, 1, 242, 3, 172, 43, 42, 29, 4, 96, 46, 42, 29, 5, 96, 46, 182, 1, 14, 44, 42, 29, 4, 96]
abbrev dktL_law_76 : List UInt8 := dkwL_law_76 ++ dktL_law_77
def dkwL_law_75 : List UInt8 := [44, 42, 29, 4, 96, 46, 42, 29, 5, 96, 46, 42, 29, 6, 96, 46, 42, 29, 7, 96, 46, 182, 1, 13]
abbrev dktL_law_75 : List UInt8 := dkwL_law_75 ++ dktL_law_76
def dkwL_law_74 : List UInt8 := [43, 42, 29, 4, 96, 46, 42, 29, 5, 96, 46, 42, 29, 6, 96, 46, 42, 29, 7, 96, 46, 182, 1, 10]
abbrev dktL_law_74 : List UInt8 := dkwL_law_74 ++ dktL_law_75
def dkwL_law_73 : List UInt8 := [46, 42, 29, 5, 96, 46, 42, 29, 6, 96, 46, 42, 29, 7, 96, 46, 182, 1, 9, 159, 2, 39, 3, 172]
abbrev dktL_law_73 : List UInt8 := dkwL_law_73 ++ dktL_law_74
def dkwL_law_72 : List UInt8 := [46, 42, 29, 5, 96, 46, 42, 29, 6, 96, 46, 42, 29, 7, 96, 46, 182, 1, 6, 44, 42, 29, 4, 96]
abbrev dktL_law_72 : List UInt8 := dkwL_law_72 ++ dktL_law_73
def dkwL_law_71 : List UInt8 := [44, 42, 29, 4, 96, 46, 42, 29, 5, 96, 46, 182, 1, 5, 159, 2, 92, 3, 172, 43, 42, 29, 4, 96]
abbrev dktL_law_71 : List UInt8 := dkwL_law_71 ++ dktL_law_72
def dkwL_law_70 : List UInt8 := [96, 46, 182, 1, 1, 159, 2, 125, 3, 172, 43, 42, 29, 4, 96, 46, 42, 29, 5, 96, 46, 182, 1, 2]
abbrev dktL_law_70 : List UInt8 := dkwL_law_70 ++ dktL_law_71
def dkwL_law_69 : List UInt8 := [172, 43, 42, 29, 4, 96, 46, 42, 29, 5, 96, 46, 182, 0, 254, 44, 42, 29, 4, 96, 46, 42, 29, 5]
abbrev dktL_law_69 : List UInt8 := dkwL_law_69 ++ dktL_law_70
def dkwL_law_68 : List UInt8 := [3, 172, 43, 42, 29, 4, 96, 46, 182, 0, 250, 44, 42, 29, 4, 96, 46, 182, 0, 253, 159, 2, 158, 3]
abbrev dktL_law_68 : List UInt8 := dkwL_law_68 ++ dktL_law_69
def dkwL_law_67 : List UInt8 := [42, 29, 4, 96, 46, 182, 0, 245, 159, 2, 194, 3, 172, 43, 182, 0, 246, 44, 182, 0, 249, 159, 2, 181]
abbrev dktL_law_67 : List UInt8 := dkwL_law_67 ++ dktL_law_68
def dkwL_law_66 : List UInt8 := [46, 42, 29, 5, 96, 46, 182, 0, 241, 159, 2, 217, 3, 172, 43, 42, 29, 4, 96, 46, 182, 0, 242, 44]
abbrev dktL_law_66 : List UInt8 := dkwL_law_66 ++ dktL_law_67
def dkwL_law_65 : List UInt8 := [159, 2, 250, 3, 172, 43, 42, 29, 4, 96, 46, 42, 29, 5, 96, 46, 182, 0, 238, 44, 42, 29, 4, 96]
abbrev dktL_law_65 : List UInt8 := dkwL_law_65 ++ dktL_law_66
def dkwL_law_64 : List UInt8 := [42, 29, 5, 96, 46, 182, 0, 234, 44, 42, 29, 4, 96, 46, 42, 29, 5, 96, 46, 182, 0, 237]
abbrev dktL_law_64 : List UInt8 := dkwL_law_64 ++ dktL_law_65
def dkwL_law_63 : List UInt8 := [42, 29, 4, 96, 46, 42, 29, 5, 96, 46, 182, 0, 233, 159, 3, 27, 3, 172, 43, 42, 29, 4, 96, 46]
abbrev dktL_law_63 : List UInt8 := dkwL_law_63 ++ dktL_law_64
def dkwL_law_62 : List UInt8 := [46, 182, 0, 229, 159, 3, 60, 3, 172, 43, 42, 29, 4, 96, 46, 42, 29, 5, 96, 46, 182, 0, 230, 44]
abbrev dktL_law_62 : List UInt8 := dkwL_law_62 ++ dktL_law_63
def dkwL_law_61 : List UInt8 := [43, 42, 29, 4, 96, 46, 42, 29, 5, 96, 46, 182, 0, 226, 44, 42, 29, 4, 96, 46, 42, 29, 5, 96]
abbrev dktL_law_61 : List UInt8 := dkwL_law_61 ++ dktL_law_62
def dkwL_law_60 : List UInt8 := [172, 43, 42, 29, 4, 96, 46, 182, 0, 222, 44, 42, 29, 4, 96, 46, 182, 0, 225, 159, 3, 93, 3, 172]
abbrev dktL_law_60 : List UInt8 := dkwL_law_60 ++ dktL_law_61
def dkwL_law_59 : List UInt8 := [3, 172, 43, 42, 29, 4, 96, 46, 182, 0, 218, 44, 42, 29, 4, 96, 46, 182, 0, 221, 159, 3, 116, 3]
abbrev dktL_law_59 : List UInt8 := dkwL_law_59 ++ dktL_law_60
def dkwL_law_58 : List UInt8 := [42, 29, 4, 96, 46, 182, 0, 213, 159, 3, 152, 3, 172, 43, 182, 0, 214, 44, 182, 0, 217, 159, 3, 139]
abbrev dktL_law_58 : List UInt8 := dkwL_law_58 ++ dktL_law_59
def dkwL_law_57 : List UInt8 := [46, 42, 29, 5, 96, 46, 182, 0, 209, 159, 3, 175, 3, 172, 43, 42, 29, 4, 96, 46, 182, 0, 210, 44]
abbrev dktL_law_57 : List UInt8 := dkwL_law_57 ++ dktL_law_58
def dkwL_law_56 : List UInt8 := [159, 3, 208, 3, 172, 43, 42, 29, 4, 96, 46, 42, 29, 5, 96, 46, 182, 0, 206, 44, 42, 29, 4, 96]
abbrev dktL_law_56 : List UInt8 := dkwL_law_56 ++ dktL_law_57
def dkwL_law_55 : List UInt8 := [159, 3, 231, 3, 172, 43, 42, 29, 4, 96, 46, 182, 0, 202, 44, 42, 29, 4, 96, 46, 182, 0, 205]
abbrev dktL_law_55 : List UInt8 := dkwL_law_55 ++ dktL_law_56
def dkwL_law_54 : List UInt8 := [159, 3, 254, 3, 172, 43, 42, 29, 4, 96, 46, 182, 0, 198, 44, 42, 29, 4, 96, 46, 182, 0, 201]
abbrev dktL_law_54 : List UInt8 := dkwL_law_54 ++ dktL_law_55
def dkwL_law_53 : List UInt8 := [159, 4, 21, 3, 172, 43, 42, 29, 4, 96, 46, 182, 0, 194, 44, 42, 29, 4, 96, 46, 182, 0, 197]
abbrev dktL_law_53 : List UInt8 := dkwL_law_53 ++ dktL_law_54
def dkwL_law_52 : List UInt8 := [159, 4, 44, 3, 172, 43, 42, 29, 4, 96, 46, 182, 0, 190, 44, 42, 29, 4, 96, 46, 182, 0, 193]
abbrev dktL_law_52 : List UInt8 := dkwL_law_52 ++ dktL_law_53
def dkwL_law_51 : List UInt8 := [159, 4, 67, 3, 172, 43, 42, 29, 4, 96, 46, 182, 0, 186, 44, 42, 29, 4, 96, 46, 182, 0, 189]
abbrev dktL_law_51 : List UInt8 := dkwL_law_51 ++ dktL_law_52
def dkwL_law_50 : List UInt8 := [159, 4, 90, 3, 172, 43, 42, 29, 4, 96, 46, 182, 0, 182, 44, 42, 29, 4, 96, 46, 182, 0, 185]
abbrev dktL_law_50 : List UInt8 := dkwL_law_50 ++ dktL_law_51
def dkwL_law_49 : List UInt8 := [42, 29, 5, 96, 46, 182, 0, 178, 44, 42, 29, 4, 96, 46, 42, 29, 5, 96, 46, 182, 0, 181]
abbrev dktL_law_49 : List UInt8 := dkwL_law_49 ++ dktL_law_50
def dkwL_law_48 : List UInt8 := [42, 29, 4, 96, 46, 42, 29, 5, 96, 46, 182, 0, 177, 159, 4, 123, 3, 172, 43, 42, 29, 4, 96, 46]
abbrev dktL_law_48 : List UInt8 := dkwL_law_48 ++ dktL_law_49
def dkwL_law_47 : List UInt8 := [44, 182, 0, 173, 159, 4, 156, 3, 172, 43, 42, 29, 4, 96, 46, 42, 29, 5, 96, 46, 182, 0, 174, 44]
abbrev dktL_law_47 : List UInt8 := dkwL_law_47 ++ dktL_law_48
def dkwL_law_46 : List UInt8 := [4, 96, 46, 182, 0, 166, 44, 42, 29, 4, 96, 46, 182, 0, 169, 159, 4, 169, 3, 172, 43, 182, 0, 170]
abbrev dktL_law_46 : List UInt8 := dkwL_law_46 ++ dktL_law_47
def dkwL_law_45 : List UInt8 := [29, 4, 96, 46, 182, 0, 162, 44, 42, 29, 4, 96, 46, 182, 0, 165, 159, 4, 192, 3, 172, 43, 42, 29]
abbrev dktL_law_45 : List UInt8 := dkwL_law_45 ++ dktL_law_46
def dkwL_law_44 : List UInt8 := [182, 0, 158, 44, 42, 29, 4, 96, 46, 42, 29, 5, 96, 46, 182, 0, 161, 159, 4, 215, 3, 172, 43, 42]
abbrev dktL_law_44 : List UInt8 := dkwL_law_44 ++ dktL_law_45
def dkwL_law_43 : List UInt8 := [5, 96, 46, 182, 0, 157, 159, 4, 248, 3, 172, 43, 42, 29, 4, 96, 46, 42, 29, 5, 96, 46]
abbrev dktL_law_43 : List UInt8 := dkwL_law_43 ++ dktL_law_44
def dkwL_law_42 : List UInt8 := [3, 172, 43, 42, 29, 4, 96, 46, 42, 29, 5, 96, 46, 182, 0, 154, 44, 42, 29, 4, 96, 46, 42, 29]
abbrev dktL_law_42 : List UInt8 := dkwL_law_42 ++ dktL_law_43
def dkwL_law_41 : List UInt8 := [29, 5, 96, 46, 182, 0, 150, 44, 42, 29, 4, 96, 46, 42, 29, 5, 96, 46, 182, 0, 153, 159, 5, 25]
abbrev dktL_law_41 : List UInt8 := dkwL_law_41 ++ dktL_law_42
def dkwL_law_40 : List UInt8 := [29, 4, 96, 46, 42, 29, 5, 96, 46, 182, 0, 149, 159, 5, 58, 3, 172, 43, 42, 29, 4, 96, 46, 42]
abbrev dktL_law_40 : List UInt8 := dkwL_law_40 ++ dktL_law_41
def dkwL_law_39 : List UInt8 := [182, 0, 145, 159, 5, 91, 3, 172, 43, 42, 29, 4, 96, 46, 42, 29, 5, 96, 46, 182, 0, 146, 44, 42]
abbrev dktL_law_39 : List UInt8 := dkwL_law_39 ++ dktL_law_40
def dkwL_law_38 : List UInt8 := [29, 4, 96, 46, 42, 29, 5, 96, 46, 182, 0, 142, 44, 42, 29, 4, 96, 46, 42, 29, 5, 96, 46]
abbrev dktL_law_38 : List UInt8 := dkwL_law_38 ++ dktL_law_39
def dkwL_law_37 : List UInt8 := [182, 0, 138, 44, 42, 29, 4, 96, 46, 42, 29, 5, 96, 46, 182, 0, 141, 159, 5, 124, 3, 172, 43, 42]
abbrev dktL_law_37 : List UInt8 := dkwL_law_37 ++ dktL_law_38
def dkwL_law_36 : List UInt8 := [42, 29, 7, 96, 46, 182, 0, 137, 159, 5, 157, 3, 172, 43, 42, 29, 4, 96, 46, 42, 29, 5, 96, 46]
abbrev dktL_law_36 : List UInt8 := dkwL_law_36 ++ dktL_law_37
def dkwL_law_35 : List UInt8 := [42, 29, 7, 96, 46, 182, 0, 133, 44, 42, 29, 4, 96, 46, 42, 29, 5, 96, 46, 42, 29, 6, 96, 46]
abbrev dktL_law_35 : List UInt8 := dkwL_law_35 ++ dktL_law_36
def dkwL_law_34 : List UInt8 := [182, 0, 132, 159, 5, 210, 3, 172, 43, 42, 29, 4, 96, 46, 42, 29, 5, 96, 46, 42, 29, 6, 96, 46]
abbrev dktL_law_34 : List UInt8 := dkwL_law_34 ++ dktL_law_35
def dkwL_law_33 : List UInt8 := [46, 182, 0, 128, 159, 5, 233, 3, 172, 43, 42, 29, 4, 96, 46, 182, 0, 129, 44, 42, 29, 4, 96, 46]
abbrev dktL_law_33 : List UInt8 := dkwL_law_33 ++ dktL_law_34
def dkwL_law_32 : List UInt8 := [96, 46, 182, 0, 124, 159, 6, 0, 3, 172, 43, 42, 29, 4, 96, 46, 182, 0, 125, 44, 42, 29, 4, 96]
abbrev dktL_law_32 : List UInt8 := dkwL_law_32 ++ dktL_law_33
def dkwL_law_31 : List UInt8 := [172, 43, 42, 29, 4, 96, 46, 42, 29, 5, 96, 46, 182, 0, 121, 44, 42, 29, 4, 96, 46, 42, 29, 5]
abbrev dktL_law_31 : List UInt8 := dkwL_law_31 ++ dktL_law_32
def dkwL_law_30 : List UInt8 := [182, 0, 113, 44, 182, 0, 116, 159, 6, 46, 3, 172, 43, 182, 0, 117, 44, 182, 0, 120, 159, 6, 33, 3]
abbrev dktL_law_30 : List UInt8 := dkwL_law_30 ++ dktL_law_31
def dkwL_law_29 : List UInt8 := [46, 182, 0, 109, 44, 42, 29, 4, 96, 46, 42, 29, 5, 96, 46, 182, 0, 112, 159, 6, 59, 3, 172, 43]
abbrev dktL_law_29 : List UInt8 := dkwL_law_29 ++ dktL_law_30
def dkwL_law_28 : List UInt8 := [46, 42, 29, 5, 96, 46, 182, 0, 108, 159, 6, 92, 3, 172, 43, 42, 29, 4, 96, 46, 42, 29, 5, 96]
abbrev dktL_law_28 : List UInt8 := dkwL_law_28 ++ dktL_law_29
def dkwL_law_27 : List UInt8 := [159, 6, 125, 3, 172, 43, 42, 29, 4, 96, 46, 42, 29, 5, 96, 46, 182, 0, 105, 44, 42, 29, 4, 96]
abbrev dktL_law_27 : List UInt8 := dkwL_law_27 ++ dktL_law_28
def dkwL_law_26 : List UInt8 := [159, 6, 148, 3, 172, 43, 42, 29, 4, 96, 46, 182, 0, 101, 44, 42, 29, 4, 96, 46, 182, 0, 104]
abbrev dktL_law_26 : List UInt8 := dkwL_law_26 ++ dktL_law_27
def dkwL_law_25 : List UInt8 := [159, 6, 171, 3, 172, 43, 42, 29, 4, 96, 46, 182, 0, 97, 44, 42, 29, 4, 96, 46, 182, 0, 100]
abbrev dktL_law_25 : List UInt8 := dkwL_law_25 ++ dktL_law_26
def dkwL_law_24 : List UInt8 := [159, 6, 194, 3, 172, 43, 42, 29, 4, 96, 46, 182, 0, 93, 44, 42, 29, 4, 96, 46, 182, 0, 96]
abbrev dktL_law_24 : List UInt8 := dkwL_law_24 ++ dktL_law_25
def dkwL_law_23 : List UInt8 := [159, 6, 217, 3, 172, 43, 42, 29, 4, 96, 46, 182, 0, 89, 44, 42, 29, 4, 96, 46, 182, 0, 92]
abbrev dktL_law_23 : List UInt8 := dkwL_law_23 ++ dktL_law_24
def dkwL_law_22 : List UInt8 := [159, 6, 240, 3, 172, 43, 42, 29, 4, 96, 46, 182, 0, 85, 44, 42, 29, 4, 96, 46, 182, 0, 88]
abbrev dktL_law_22 : List UInt8 := dkwL_law_22 ++ dktL_law_23
def dkwL_law_21 : List UInt8 := [159, 7, 7, 3, 172, 43, 42, 29, 4, 96, 46, 182, 0, 81, 44, 42, 29, 4, 96, 46, 182, 0, 84]
abbrev dktL_law_21 : List UInt8 := dkwL_law_21 ++ dktL_law_22
def dkwL_law_20 : List UInt8 := [159, 7, 30, 3, 172, 43, 42, 29, 4, 96, 46, 182, 0, 77, 44, 42, 29, 4, 96, 46, 182, 0, 80]
abbrev dktL_law_20 : List UInt8 := dkwL_law_20 ++ dktL_law_21
def dkwL_law_19 : List UInt8 := [159, 7, 53, 3, 172, 43, 42, 29, 4, 96, 46, 182, 0, 73, 44, 42, 29, 4, 96, 46, 182, 0, 76]
abbrev dktL_law_19 : List UInt8 := dkwL_law_19 ++ dktL_law_20
def dkwL_law_18 : List UInt8 := [159, 7, 76, 3, 172, 43, 42, 29, 4, 96, 46, 182, 0, 69, 44, 42, 29, 4, 96, 46, 182, 0, 72]
abbrev dktL_law_18 : List UInt8 := dkwL_law_18 ++ dktL_law_19
def dkwL_law_17 : List UInt8 := [159, 7, 99, 3, 172, 43, 42, 29, 4, 96, 46, 182, 0, 65, 44, 42, 29, 4, 96, 46, 182, 0, 68]
abbrev dktL_law_17 : List UInt8 := dkwL_law_17 ++ dktL_law_18
def dkwL_law_16 : List UInt8 := [159, 7, 122, 3, 172, 43, 42, 29, 4, 96, 46, 182, 0, 61, 44, 42, 29, 4, 96, 46, 182, 0, 64]
abbrev dktL_law_16 : List UInt8 := dkwL_law_16 ++ dktL_law_17
def dkwL_law_15 : List UInt8 := [46, 42, 29, 5, 96, 46, 182, 0, 57, 44, 42, 29, 4, 96, 46, 42, 29, 5, 96, 46, 182, 0, 60]
abbrev dktL_law_15 : List UInt8 := dkwL_law_15 ++ dktL_law_16
def dkwL_law_14 : List UInt8 := [96, 46, 182, 0, 53, 44, 42, 29, 4, 96, 46, 182, 0, 56, 159, 7, 155, 3, 172, 43, 42, 29, 4, 96]
abbrev dktL_law_14 : List UInt8 := dkwL_law_14 ++ dktL_law_15
def dkwL_law_13 : List UInt8 := [4, 96, 46, 182, 0, 49, 44, 42, 29, 4, 96, 46, 182, 0, 52, 159, 7, 178, 3, 172, 43, 42, 29, 4]
abbrev dktL_law_13 : List UInt8 := dkwL_law_13 ++ dktL_law_14
def dkwL_law_12 : List UInt8 := [29, 4, 96, 46, 182, 0, 45, 44, 42, 29, 4, 96, 46, 182, 0, 48, 159, 7, 201, 3, 172, 43, 42, 29]
abbrev dktL_law_12 : List UInt8 := dkwL_law_12 ++ dktL_law_13
def dkwL_law_11 : List UInt8 := [182, 0, 41, 44, 42, 29, 4, 96, 46, 42, 29, 5, 96, 46, 182, 0, 44, 159, 7, 224, 3, 172, 43, 42]
abbrev dktL_law_11 : List UInt8 := dkwL_law_11 ++ dktL_law_12
def dkwL_law_10 : List UInt8 := [42, 29, 4, 96, 46, 182, 0, 40, 159, 8, 1, 3, 172, 43, 42, 29, 4, 96, 46, 42, 29, 5, 96, 46]
abbrev dktL_law_10 : List UInt8 := dkwL_law_10 ++ dktL_law_11
def dkwL_law_9 : List UInt8 := [46, 42, 29, 5, 96, 46, 182, 0, 36, 159, 8, 24, 3, 172, 43, 42, 29, 4, 96, 46, 182, 0, 37, 44]
abbrev dktL_law_9 : List UInt8 := dkwL_law_9 ++ dktL_law_10
def dkwL_law_8 : List UInt8 := [159, 8, 57, 3, 172, 43, 42, 29, 4, 96, 46, 42, 29, 5, 96, 46, 182, 0, 32, 44, 42, 29, 4, 96]
abbrev dktL_law_8 : List UInt8 := dkwL_law_8 ++ dktL_law_9
def dkwL_law_7 : List UInt8 := [159, 8, 80, 3, 172, 43, 42, 29, 4, 96, 46, 182, 0, 28, 44, 42, 29, 4, 96, 46, 182, 0, 31]
abbrev dktL_law_7 : List UInt8 := dkwL_law_7 ++ dktL_law_8
def dkwL_law_6 : List UInt8 := [44, 42, 29, 4, 96, 46, 182, 0, 22, 159, 8, 93, 3, 172, 43, 182, 0, 23, 44, 182, 0, 27]
abbrev dktL_law_6 : List UInt8 := dkwL_law_6 ++ dktL_law_7
def dkwL_law_5 : List UInt8 := [96, 46, 42, 29, 8, 96, 46, 182, 0, 17, 159, 8, 116, 3, 172, 43, 42, 29, 4, 96, 46, 182, 0, 18]
abbrev dktL_law_5 : List UInt8 := dkwL_law_5 ++ dktL_law_6
def dkwL_law_4 : List UInt8 := [96, 46, 182, 0, 13, 44, 42, 29, 4, 96, 46, 42, 29, 5, 96, 46, 42, 29, 6, 96, 46, 42, 29, 7]
abbrev dktL_law_4 : List UInt8 := dkwL_law_4 ++ dktL_law_5
def dkwL_law_3 : List UInt8 := [43, 42, 29, 4, 96, 46, 42, 29, 5, 96, 46, 42, 29, 6, 96, 46, 42, 29, 7, 96, 46, 42, 29, 8]
abbrev dktL_law_3 : List UInt8 := dkwL_law_3 ++ dktL_law_4
def dkwL_law_2 : List UInt8 := [170, 0, 0, 0, 0, 9, 241, 0, 0, 0, 0, 0, 0, 0, 76, 0, 0, 1, 67, 0, 0, 1, 130, 0, 0, 1, 153, 0, 0, 1, 166, 0, 0, 1, 189, 0, 0, 1, 222, 0, 0, 1, 245, 0, 0, 2, 22, 0, 0, 2, 45, 0, 0, 2, 68, 0, 0, 2, 91, 0, 0, 2, 124, 0, 0, 2, 147, 0, 0, 2, 170, 0, 0, 2, 193, 0, 0, 2, 216, 0, 0, 2, 239, 0, 0, 3, 6, 0, 0, 3, 29, 0, 0, 3, 52, 0, 0, 3, 75, 0, 0, 3, 98, 0, 0, 3, 121, 0, 0, 3, 154, 0, 0, 3, 187, 0, 0, 3, 200, 0, 0, 3, 213, 0, 0, 3, 246, 0, 0, 4, 13, 0, 0, 4, 36, 0, 0, 4, 89, 0, 0, 4, 122, 0, 0, 4, 155, 0, 0, 4, 188, 0, 0, 4, 221, 0, 0, 4, 254, 0, 0, 5, 31, 0, 0, 5, 54, 0, 0, 5, 77, 0, 0, 5, 90, 0, 0, 5, 123, 0, 0, 5, 156, 0, 0, 5, 179, 0, 0, 5, 202, 0, 0, 5, 225, 0, 0, 5, 248, 0, 0, 6, 15, 0, 0, 6, 38, 0, 0, 6, 71, 0, 0, 6, 94, 0, 0, 6, 107, 0, 0, 6, 130, 0, 0, 6, 153, 0, 0, 6, 186, 0, 0, 6, 219, 0, 0, 6, 252, 0, 0, 7, 29, 0, 0, 7, 52, 0, 0, 7, 65, 0, 0, 7, 88, 0, 0, 7, 121, 0, 0, 7, 154, 0, 0, 7, 207, 0, 0, 8, 4, 0, 0, 8, 38, 0, 0, 8, 81, 0, 0, 8, 114, 0, 0, 8, 127, 0, 0, 8, 140, 0, 0, 8, 173, 0, 0, 8, 216, 0, 0, 8, 249, 0, 0, 9, 16, 0, 0, 9, 39, 0, 0, 9, 62, 0, 0, 9, 105, 0, 0, 9, 178]
abbrev dktL_law_2 : List UInt8 := dkwL_law_2 ++ dktL_law_3
def dkwL_law_1 : List UInt8 := [163, 10, 0, 42, 29, 46, 16, 127, 126]
abbrev dktL_law_1 : List UInt8 := dkwL_law_1 ++ dktL_law_2
def dkwL_law_0 : List UInt8 := [187, 0, 7, 89, 183, 0, 9, 76, 187, 0, 10, 89, 183, 0, 12, 77, 3, 62, 29, 42, 190, 16, 6, 100]
abbrev dktL_law_0 : List UInt8 := dkwL_law_0 ++ dktL_law_1
theorem dksL_law_0 : cL_law.data.toList.drop 0 = dktL_law_0 := by decide +kernel
theorem dksL_law_1 : cL_law.data.toList.drop 24 = dktL_law_1 := dk_seg dksL_law_0 24 rfl rfl
theorem dksL_law_2 : cL_law.data.toList.drop 33 = dktL_law_2 := dk_seg dksL_law_1 9 rfl rfl
theorem dksL_law_3 : cL_law.data.toList.drop 356 = dktL_law_3 := dk_seg dksL_law_2 323 rfl rfl
theorem dksL_law_4 : cL_law.data.toList.drop 380 = dktL_law_4 := dk_seg dksL_law_3 24 rfl rfl
theorem dksL_law_5 : cL_law.data.toList.drop 404 = dktL_law_5 := dk_seg dksL_law_4 24 rfl rfl
theorem dksL_law_6 : cL_law.data.toList.drop 428 = dktL_law_6 := dk_seg dksL_law_5 24 rfl rfl
theorem dksL_law_7 : cL_law.data.toList.drop 450 = dktL_law_7 := dk_seg dksL_law_6 22 rfl rfl
theorem dksL_law_8 : cL_law.data.toList.drop 473 = dktL_law_8 := dk_seg dksL_law_7 23 rfl rfl
theorem dksL_law_9 : cL_law.data.toList.drop 497 = dktL_law_9 := dk_seg dksL_law_8 24 rfl rfl
theorem dksL_law_10 : cL_law.data.toList.drop 521 = dktL_law_10 := dk_seg dksL_law_9 24 rfl rfl
theorem dksL_law_11 : cL_law.data.toList.drop 545 = dktL_law_11 := dk_seg dksL_law_10 24 rfl rfl
theorem dksL_law_12 : cL_law.data.toList.drop 569 = dktL_law_12 := dk_seg dksL_law_11 24 rfl rfl
theorem dksL_law_13 : cL_law.data.toList.drop 593 = dktL_law_13 := dk_seg dksL_law_12 24 rfl rfl
theorem dksL_law_14 : cL_law.data.toList.drop 617 = dktL_law_14 := dk_seg dksL_law_13 24 rfl rfl
theorem dksL_law_15 : cL_law.data.toList.drop 641 = dktL_law_15 := dk_seg dksL_law_14 24 rfl rfl
theorem dksL_law_16 : cL_law.data.toList.drop 664 = dktL_law_16 := dk_seg dksL_law_15 23 rfl rfl
theorem dksL_law_17 : cL_law.data.toList.drop 687 = dktL_law_17 := dk_seg dksL_law_16 23 rfl rfl
theorem dksL_law_18 : cL_law.data.toList.drop 710 = dktL_law_18 := dk_seg dksL_law_17 23 rfl rfl
theorem dksL_law_19 : cL_law.data.toList.drop 733 = dktL_law_19 := dk_seg dksL_law_18 23 rfl rfl
theorem dksL_law_20 : cL_law.data.toList.drop 756 = dktL_law_20 := dk_seg dksL_law_19 23 rfl rfl
theorem dksL_law_21 : cL_law.data.toList.drop 779 = dktL_law_21 := dk_seg dksL_law_20 23 rfl rfl
theorem dksL_law_22 : cL_law.data.toList.drop 802 = dktL_law_22 := dk_seg dksL_law_21 23 rfl rfl
theorem dksL_law_23 : cL_law.data.toList.drop 825 = dktL_law_23 := dk_seg dksL_law_22 23 rfl rfl
theorem dksL_law_24 : cL_law.data.toList.drop 848 = dktL_law_24 := dk_seg dksL_law_23 23 rfl rfl
theorem dksL_law_25 : cL_law.data.toList.drop 871 = dktL_law_25 := dk_seg dksL_law_24 23 rfl rfl
theorem dksL_law_26 : cL_law.data.toList.drop 894 = dktL_law_26 := dk_seg dksL_law_25 23 rfl rfl
theorem dksL_law_27 : cL_law.data.toList.drop 917 = dktL_law_27 := dk_seg dksL_law_26 23 rfl rfl
theorem dksL_law_28 : cL_law.data.toList.drop 941 = dktL_law_28 := dk_seg dksL_law_27 24 rfl rfl
theorem dksL_law_29 : cL_law.data.toList.drop 965 = dktL_law_29 := dk_seg dksL_law_28 24 rfl rfl
theorem dksL_law_30 : cL_law.data.toList.drop 989 = dktL_law_30 := dk_seg dksL_law_29 24 rfl rfl
theorem dksL_law_31 : cL_law.data.toList.drop 1013 = dktL_law_31 := dk_seg dksL_law_30 24 rfl rfl
theorem dksL_law_32 : cL_law.data.toList.drop 1037 = dktL_law_32 := dk_seg dksL_law_31 24 rfl rfl
theorem dksL_law_33 : cL_law.data.toList.drop 1061 = dktL_law_33 := dk_seg dksL_law_32 24 rfl rfl
theorem dksL_law_34 : cL_law.data.toList.drop 1085 = dktL_law_34 := dk_seg dksL_law_33 24 rfl rfl
theorem dksL_law_35 : cL_law.data.toList.drop 1109 = dktL_law_35 := dk_seg dksL_law_34 24 rfl rfl
theorem dksL_law_36 : cL_law.data.toList.drop 1133 = dktL_law_36 := dk_seg dksL_law_35 24 rfl rfl
theorem dksL_law_37 : cL_law.data.toList.drop 1157 = dktL_law_37 := dk_seg dksL_law_36 24 rfl rfl
theorem dksL_law_38 : cL_law.data.toList.drop 1181 = dktL_law_38 := dk_seg dksL_law_37 24 rfl rfl
theorem dksL_law_39 : cL_law.data.toList.drop 1204 = dktL_law_39 := dk_seg dksL_law_38 23 rfl rfl
theorem dksL_law_40 : cL_law.data.toList.drop 1228 = dktL_law_40 := dk_seg dksL_law_39 24 rfl rfl
theorem dksL_law_41 : cL_law.data.toList.drop 1252 = dktL_law_41 := dk_seg dksL_law_40 24 rfl rfl
theorem dksL_law_42 : cL_law.data.toList.drop 1276 = dktL_law_42 := dk_seg dksL_law_41 24 rfl rfl
theorem dksL_law_43 : cL_law.data.toList.drop 1300 = dktL_law_43 := dk_seg dksL_law_42 24 rfl rfl
theorem dksL_law_44 : cL_law.data.toList.drop 1322 = dktL_law_44 := dk_seg dksL_law_43 22 rfl rfl
theorem dksL_law_45 : cL_law.data.toList.drop 1346 = dktL_law_45 := dk_seg dksL_law_44 24 rfl rfl
theorem dksL_law_46 : cL_law.data.toList.drop 1370 = dktL_law_46 := dk_seg dksL_law_45 24 rfl rfl
theorem dksL_law_47 : cL_law.data.toList.drop 1394 = dktL_law_47 := dk_seg dksL_law_46 24 rfl rfl
theorem dksL_law_48 : cL_law.data.toList.drop 1418 = dktL_law_48 := dk_seg dksL_law_47 24 rfl rfl
theorem dksL_law_49 : cL_law.data.toList.drop 1442 = dktL_law_49 := dk_seg dksL_law_48 24 rfl rfl
theorem dksL_law_50 : cL_law.data.toList.drop 1464 = dktL_law_50 := dk_seg dksL_law_49 22 rfl rfl
theorem dksL_law_51 : cL_law.data.toList.drop 1487 = dktL_law_51 := dk_seg dksL_law_50 23 rfl rfl
theorem dksL_law_52 : cL_law.data.toList.drop 1510 = dktL_law_52 := dk_seg dksL_law_51 23 rfl rfl
theorem dksL_law_53 : cL_law.data.toList.drop 1533 = dktL_law_53 := dk_seg dksL_law_52 23 rfl rfl
theorem dksL_law_54 : cL_law.data.toList.drop 1556 = dktL_law_54 := dk_seg dksL_law_53 23 rfl rfl
theorem dksL_law_55 : cL_law.data.toList.drop 1579 = dktL_law_55 := dk_seg dksL_law_54 23 rfl rfl
theorem dksL_law_56 : cL_law.data.toList.drop 1602 = dktL_law_56 := dk_seg dksL_law_55 23 rfl rfl
theorem dksL_law_57 : cL_law.data.toList.drop 1626 = dktL_law_57 := dk_seg dksL_law_56 24 rfl rfl
theorem dksL_law_58 : cL_law.data.toList.drop 1650 = dktL_law_58 := dk_seg dksL_law_57 24 rfl rfl
theorem dksL_law_59 : cL_law.data.toList.drop 1674 = dktL_law_59 := dk_seg dksL_law_58 24 rfl rfl
theorem dksL_law_60 : cL_law.data.toList.drop 1698 = dktL_law_60 := dk_seg dksL_law_59 24 rfl rfl
theorem dksL_law_61 : cL_law.data.toList.drop 1722 = dktL_law_61 := dk_seg dksL_law_60 24 rfl rfl
theorem dksL_law_62 : cL_law.data.toList.drop 1746 = dktL_law_62 := dk_seg dksL_law_61 24 rfl rfl
theorem dksL_law_63 : cL_law.data.toList.drop 1770 = dktL_law_63 := dk_seg dksL_law_62 24 rfl rfl
theorem dksL_law_64 : cL_law.data.toList.drop 1794 = dktL_law_64 := dk_seg dksL_law_63 24 rfl rfl
theorem dksL_law_65 : cL_law.data.toList.drop 1816 = dktL_law_65 := dk_seg dksL_law_64 22 rfl rfl
theorem dksL_law_66 : cL_law.data.toList.drop 1840 = dktL_law_66 := dk_seg dksL_law_65 24 rfl rfl
theorem dksL_law_67 : cL_law.data.toList.drop 1864 = dktL_law_67 := dk_seg dksL_law_66 24 rfl rfl
theorem dksL_law_68 : cL_law.data.toList.drop 1888 = dktL_law_68 := dk_seg dksL_law_67 24 rfl rfl
theorem dksL_law_69 : cL_law.data.toList.drop 1912 = dktL_law_69 := dk_seg dksL_law_68 24 rfl rfl
theorem dksL_law_70 : cL_law.data.toList.drop 1936 = dktL_law_70 := dk_seg dksL_law_69 24 rfl rfl
theorem dksL_law_71 : cL_law.data.toList.drop 1960 = dktL_law_71 := dk_seg dksL_law_70 24 rfl rfl
theorem dksL_law_72 : cL_law.data.toList.drop 1984 = dktL_law_72 := dk_seg dksL_law_71 24 rfl rfl
theorem dksL_law_73 : cL_law.data.toList.drop 2008 = dktL_law_73 := dk_seg dksL_law_72 24 rfl rfl
theorem dksL_law_74 : cL_law.data.toList.drop 2032 = dktL_law_74 := dk_seg dksL_law_73 24 rfl rfl
theorem dksL_law_75 : cL_law.data.toList.drop 2056 = dktL_law_75 := dk_seg dksL_law_74 24 rfl rfl
theorem dksL_law_76 : cL_law.data.toList.drop 2080 = dktL_law_76 := dk_seg dksL_law_75 24 rfl rfl
theorem dksL_law_77 : cL_law.data.toList.drop 2104 = dktL_law_77 := dk_seg dksL_law_76 24 rfl rfl
theorem dksL_law_78 : cL_law.data.toList.drop 2128 = dktL_law_78 := dk_seg dksL_law_77 24 rfl rfl
theorem dksL_law_79 : cL_law.data.toList.drop 2152 = dktL_law_79 := dk_seg dksL_law_78 24 rfl rfl
theorem dksL_law_80 : cL_law.data.toList.drop 2176 = dktL_law_80 := dk_seg dksL_law_79 24 rfl rfl
theorem dksL_law_81 : cL_law.data.toList.drop 2200 = dktL_law_81 := dk_seg dksL_law_80 24 rfl rfl
theorem dksL_law_82 : cL_law.data.toList.drop 2224 = dktL_law_82 := dk_seg dksL_law_81 24 rfl rfl
theorem dksL_law_83 : cL_law.data.toList.drop 2246 = dktL_law_83 := dk_seg dksL_law_82 22 rfl rfl
theorem dksL_law_84 : cL_law.data.toList.drop 2270 = dktL_law_84 := dk_seg dksL_law_83 24 rfl rfl
theorem dksL_law_85 : cL_law.data.toList.drop 2292 = dktL_law_85 := dk_seg dksL_law_84 22 rfl rfl
theorem dksL_law_86 : cL_law.data.toList.drop 2316 = dktL_law_86 := dk_seg dksL_law_85 24 rfl rfl
theorem dksL_law_87 : cL_law.data.toList.drop 2340 = dktL_law_87 := dk_seg dksL_law_86 24 rfl rfl
theorem dksL_law_88 : cL_law.data.toList.drop 2364 = dktL_law_88 := dk_seg dksL_law_87 24 rfl rfl
theorem dksL_law_89 : cL_law.data.toList.drop 2388 = dktL_law_89 := dk_seg dksL_law_88 24 rfl rfl
theorem dksL_law_90 : cL_law.data.toList.drop 2412 = dktL_law_90 := dk_seg dksL_law_89 24 rfl rfl
theorem dksL_law_91 : cL_law.data.toList.drop 2434 = dktL_law_91 := dk_seg dksL_law_90 22 rfl rfl
theorem dksL_law_92 : cL_law.data.toList.drop 2458 = dktL_law_92 := dk_seg dksL_law_91 24 rfl rfl
theorem dksL_law_93 : cL_law.data.toList.drop 2482 = dktL_law_93 := dk_seg dksL_law_92 24 rfl rfl
theorem dksL_law_94 : cL_law.data.toList.drop 2506 = dktL_law_94 := dk_seg dksL_law_93 24 rfl rfl
theorem dksL_law_95 : cL_law.data.toList.drop 2530 = dktL_law_95 := dk_seg dksL_law_94 24 rfl rfl
theorem dksL_law_96 : cL_law.data.toList.drop 2554 = dktL_law_96 := dk_seg dksL_law_95 24 rfl rfl
theorem dksL_law_97 : cL_law.data.toList.drop 2578 = dktL_law_97 := dk_seg dksL_law_96 24 rfl rfl
theorem dL_law_0 : decode cL_law 0 = .ok (.new 7, 3) := dk_187 0 7 (dk_at dksL_law_0 0 rfl rfl)
theorem dL_law_3 : decode cL_law 3 = .ok (.dup, 1) := dk_89 (dk_at dksL_law_0 3 rfl rfl)
theorem dL_law_4 : decode cL_law 4 = .ok (.invokespecial 9, 3) := dk_183 0 9 (dk_at dksL_law_0 4 rfl rfl)
theorem dL_law_7 : decode cL_law 7 = .ok (.astore_n 1, 1) := dk_76 (dk_at dksL_law_0 7 rfl rfl)
theorem dL_law_8 : decode cL_law 8 = .ok (.new 10, 3) := dk_187 0 10 (dk_at dksL_law_0 8 rfl rfl)
theorem dL_law_11 : decode cL_law 11 = .ok (.dup, 1) := dk_89 (dk_at dksL_law_0 11 rfl rfl)
theorem dL_law_12 : decode cL_law 12 = .ok (.invokespecial 12, 3) := dk_183 0 12 (dk_at dksL_law_0 12 rfl rfl)
theorem dL_law_15 : decode cL_law 15 = .ok (.astore_n 2, 1) := dk_77 (dk_at dksL_law_0 15 rfl rfl)
theorem dL_law_16 : decode cL_law 16 = .ok (.iconst 0, 1) := dk_3 (dk_at dksL_law_0 16 rfl rfl)
theorem dL_law_17 : decode cL_law 17 = .ok (.istore_n 3, 1) := dk_62 (dk_at dksL_law_0 17 rfl rfl)
theorem dL_law_18 : decode cL_law 18 = .ok (.iload_n 3, 1) := dk_29 (dk_at dksL_law_0 18 rfl rfl)
theorem dL_law_19 : decode cL_law 19 = .ok (.aload_n 0, 1) := dk_42 (dk_at dksL_law_0 19 rfl rfl)
theorem dL_law_20 : decode cL_law 20 = .ok (.arraylength, 1) := dk_190 (dk_at dksL_law_0 20 rfl rfl)
theorem dL_law_21 : decode cL_law 21 = .ok (.bipush 6, 2) := dk_16 6 (dk_at dksL_law_0 21 rfl rfl)
theorem dL_law_23 : decode cL_law 23 = .ok (.isub, 1) := dk_100 (dk_at dksL_law_0 23 rfl rfl)
theorem dL_law_24 : decode cL_law 24 = .ok (.if_icmp .gt 2560, 3) := dk_163 10 0 (dk_at dksL_law_1 0 rfl rfl)
theorem dL_law_27 : decode cL_law 27 = .ok (.aload_n 0, 1) := dk_42 (dk_at dksL_law_1 3 rfl rfl)
theorem dL_law_28 : decode cL_law 28 = .ok (.iload_n 3, 1) := dk_29 (dk_at dksL_law_1 4 rfl rfl)
theorem dL_law_29 : decode cL_law 29 = .ok (.iaload, 1) := dk_46 (dk_at dksL_law_1 5 rfl rfl)
theorem dL_law_30 : decode cL_law 30 = .ok (.bipush 127, 2) := dk_16 127 (dk_at dksL_law_1 6 rfl rfl)
theorem dL_law_32 : decode cL_law 32 = .ok (.iand, 1) := dk_126 (dk_at dksL_law_1 8 rfl rfl)
theorem dL_law_33 : decode cL_law 33 = .ok (.tableswitch 2545 0 76 #[323, 386, 409, 422, 445, 478, 501, 534, 557, 580, 603, 636, 659, 682, 705, 728, 751, 774, 797, 820, 843, 866, 889, 922, 955, 968, 981, 1014, 1037, 1060, 1113, 1146, 1179, 1212, 1245, 1278, 1311, 1334, 1357, 1370, 1403, 1436, 1459, 1482, 1505, 1528, 1551, 1574, 1607, 1630, 1643, 1666, 1689, 1722, 1755, 1788, 1821, 1844, 1857, 1880, 1913, 1946, 1999, 2052, 2086, 2129, 2162, 2175, 2188, 2221, 2264, 2297, 2320, 2343, 2366, 2409, 2482], 323) := by decide +kernel
theorem dL_law_356 : decode cL_law 356 = .ok (.aload_n 1, 1) := dk_43 (dk_at dksL_law_3 0 rfl rfl)
theorem dL_law_357 : decode cL_law 357 = .ok (.aload_n 0, 1) := dk_42 (dk_at dksL_law_3 1 rfl rfl)
theorem dL_law_358 : decode cL_law 358 = .ok (.iload_n 3, 1) := dk_29 (dk_at dksL_law_3 2 rfl rfl)
theorem dL_law_359 : decode cL_law 359 = .ok (.iconst 1, 1) := dk_4 (dk_at dksL_law_3 3 rfl rfl)
theorem dL_law_360 : decode cL_law 360 = .ok (.iadd, 1) := dk_96 (dk_at dksL_law_3 4 rfl rfl)
theorem dL_law_361 : decode cL_law 361 = .ok (.iaload, 1) := dk_46 (dk_at dksL_law_3 5 rfl rfl)
theorem dL_law_362 : decode cL_law 362 = .ok (.aload_n 0, 1) := dk_42 (dk_at dksL_law_3 6 rfl rfl)
theorem dL_law_363 : decode cL_law 363 = .ok (.iload_n 3, 1) := dk_29 (dk_at dksL_law_3 7 rfl rfl)
theorem dL_law_364 : decode cL_law 364 = .ok (.iconst 2, 1) := dk_5 (dk_at dksL_law_3 8 rfl rfl)
theorem dL_law_365 : decode cL_law 365 = .ok (.iadd, 1) := dk_96 (dk_at dksL_law_3 9 rfl rfl)
theorem dL_law_366 : decode cL_law 366 = .ok (.iaload, 1) := dk_46 (dk_at dksL_law_3 10 rfl rfl)
theorem dL_law_367 : decode cL_law 367 = .ok (.aload_n 0, 1) := dk_42 (dk_at dksL_law_3 11 rfl rfl)
theorem dL_law_368 : decode cL_law 368 = .ok (.iload_n 3, 1) := dk_29 (dk_at dksL_law_3 12 rfl rfl)
theorem dL_law_369 : decode cL_law 369 = .ok (.iconst 3, 1) := dk_6 (dk_at dksL_law_3 13 rfl rfl)
theorem dL_law_370 : decode cL_law 370 = .ok (.iadd, 1) := dk_96 (dk_at dksL_law_3 14 rfl rfl)
theorem dL_law_371 : decode cL_law 371 = .ok (.iaload, 1) := dk_46 (dk_at dksL_law_3 15 rfl rfl)
theorem dL_law_372 : decode cL_law 372 = .ok (.aload_n 0, 1) := dk_42 (dk_at dksL_law_3 16 rfl rfl)
theorem dL_law_373 : decode cL_law 373 = .ok (.iload_n 3, 1) := dk_29 (dk_at dksL_law_3 17 rfl rfl)
theorem dL_law_374 : decode cL_law 374 = .ok (.iconst 4, 1) := dk_7 (dk_at dksL_law_3 18 rfl rfl)
theorem dL_law_375 : decode cL_law 375 = .ok (.iadd, 1) := dk_96 (dk_at dksL_law_3 19 rfl rfl)
theorem dL_law_376 : decode cL_law 376 = .ok (.iaload, 1) := dk_46 (dk_at dksL_law_3 20 rfl rfl)
theorem dL_law_377 : decode cL_law 377 = .ok (.aload_n 0, 1) := dk_42 (dk_at dksL_law_3 21 rfl rfl)
theorem dL_law_378 : decode cL_law 378 = .ok (.iload_n 3, 1) := dk_29 (dk_at dksL_law_3 22 rfl rfl)
theorem dL_law_379 : decode cL_law 379 = .ok (.iconst 5, 1) := dk_8 (dk_at dksL_law_3 23 rfl rfl)
theorem dL_law_380 : decode cL_law 380 = .ok (.iadd, 1) := dk_96 (dk_at dksL_law_4 0 rfl rfl)
theorem dL_law_381 : decode cL_law 381 = .ok (.iaload, 1) := dk_46 (dk_at dksL_law_4 1 rfl rfl)
theorem dL_law_382 : decode cL_law 382 = .ok (.invokevirtual 13, 3) := dk_182 0 13 (dk_at dksL_law_4 2 rfl rfl)
theorem dL_law_385 : decode cL_law 385 = .ok (.aload_n 2, 1) := dk_44 (dk_at dksL_law_4 5 rfl rfl)
theorem dL_law_386 : decode cL_law 386 = .ok (.aload_n 0, 1) := dk_42 (dk_at dksL_law_4 6 rfl rfl)
theorem dL_law_387 : decode cL_law 387 = .ok (.iload_n 3, 1) := dk_29 (dk_at dksL_law_4 7 rfl rfl)
theorem dL_law_388 : decode cL_law 388 = .ok (.iconst 1, 1) := dk_4 (dk_at dksL_law_4 8 rfl rfl)
theorem dL_law_389 : decode cL_law 389 = .ok (.iadd, 1) := dk_96 (dk_at dksL_law_4 9 rfl rfl)
theorem dL_law_390 : decode cL_law 390 = .ok (.iaload, 1) := dk_46 (dk_at dksL_law_4 10 rfl rfl)
theorem dL_law_391 : decode cL_law 391 = .ok (.aload_n 0, 1) := dk_42 (dk_at dksL_law_4 11 rfl rfl)
theorem dL_law_392 : decode cL_law 392 = .ok (.iload_n 3, 1) := dk_29 (dk_at dksL_law_4 12 rfl rfl)
theorem dL_law_393 : decode cL_law 393 = .ok (.iconst 2, 1) := dk_5 (dk_at dksL_law_4 13 rfl rfl)
theorem dL_law_394 : decode cL_law 394 = .ok (.iadd, 1) := dk_96 (dk_at dksL_law_4 14 rfl rfl)
theorem dL_law_395 : decode cL_law 395 = .ok (.iaload, 1) := dk_46 (dk_at dksL_law_4 15 rfl rfl)
theorem dL_law_396 : decode cL_law 396 = .ok (.aload_n 0, 1) := dk_42 (dk_at dksL_law_4 16 rfl rfl)
theorem dL_law_397 : decode cL_law 397 = .ok (.iload_n 3, 1) := dk_29 (dk_at dksL_law_4 17 rfl rfl)
theorem dL_law_398 : decode cL_law 398 = .ok (.iconst 3, 1) := dk_6 (dk_at dksL_law_4 18 rfl rfl)
theorem dL_law_399 : decode cL_law 399 = .ok (.iadd, 1) := dk_96 (dk_at dksL_law_4 19 rfl rfl)
theorem dL_law_400 : decode cL_law 400 = .ok (.iaload, 1) := dk_46 (dk_at dksL_law_4 20 rfl rfl)
theorem dL_law_401 : decode cL_law 401 = .ok (.aload_n 0, 1) := dk_42 (dk_at dksL_law_4 21 rfl rfl)
theorem dL_law_402 : decode cL_law 402 = .ok (.iload_n 3, 1) := dk_29 (dk_at dksL_law_4 22 rfl rfl)
theorem dL_law_403 : decode cL_law 403 = .ok (.iconst 4, 1) := dk_7 (dk_at dksL_law_4 23 rfl rfl)
theorem dL_law_404 : decode cL_law 404 = .ok (.iadd, 1) := dk_96 (dk_at dksL_law_5 0 rfl rfl)
theorem dL_law_405 : decode cL_law 405 = .ok (.iaload, 1) := dk_46 (dk_at dksL_law_5 1 rfl rfl)
theorem dL_law_406 : decode cL_law 406 = .ok (.aload_n 0, 1) := dk_42 (dk_at dksL_law_5 2 rfl rfl)
theorem dL_law_407 : decode cL_law 407 = .ok (.iload_n 3, 1) := dk_29 (dk_at dksL_law_5 3 rfl rfl)
theorem dL_law_408 : decode cL_law 408 = .ok (.iconst 5, 1) := dk_8 (dk_at dksL_law_5 4 rfl rfl)
theorem dL_law_409 : decode cL_law 409 = .ok (.iadd, 1) := dk_96 (dk_at dksL_law_5 5 rfl rfl)
theorem dL_law_410 : decode cL_law 410 = .ok (.iaload, 1) := dk_46 (dk_at dksL_law_5 6 rfl rfl)
theorem dL_law_411 : decode cL_law 411 = .ok (.invokevirtual 17, 3) := dk_182 0 17 (dk_at dksL_law_5 7 rfl rfl)
theorem dL_law_414 : decode cL_law 414 = .ok (.if_icmp .eq 2164, 3) := dk_159 8 116 (dk_at dksL_law_5 10 rfl rfl)
theorem dL_law_417 : decode cL_law 417 = .ok (.iconst 0, 1) := dk_3 (dk_at dksL_law_5 13 rfl rfl)
theorem dL_law_418 : decode cL_law 418 = .ok (.ireturn, 1) := dk_172 (dk_at dksL_law_5 14 rfl rfl)
theorem dL_law_419 : decode cL_law 419 = .ok (.aload_n 1, 1) := dk_43 (dk_at dksL_law_5 15 rfl rfl)
theorem dL_law_420 : decode cL_law 420 = .ok (.aload_n 0, 1) := dk_42 (dk_at dksL_law_5 16 rfl rfl)
theorem dL_law_421 : decode cL_law 421 = .ok (.iload_n 3, 1) := dk_29 (dk_at dksL_law_5 17 rfl rfl)
theorem dL_law_422 : decode cL_law 422 = .ok (.iconst 1, 1) := dk_4 (dk_at dksL_law_5 18 rfl rfl)
theorem dL_law_423 : decode cL_law 423 = .ok (.iadd, 1) := dk_96 (dk_at dksL_law_5 19 rfl rfl)
theorem dL_law_424 : decode cL_law 424 = .ok (.iaload, 1) := dk_46 (dk_at dksL_law_5 20 rfl rfl)
theorem dL_law_425 : decode cL_law 425 = .ok (.invokevirtual 18, 3) := dk_182 0 18 (dk_at dksL_law_5 21 rfl rfl)
theorem dL_law_428 : decode cL_law 428 = .ok (.aload_n 2, 1) := dk_44 (dk_at dksL_law_6 0 rfl rfl)
theorem dL_law_429 : decode cL_law 429 = .ok (.aload_n 0, 1) := dk_42 (dk_at dksL_law_6 1 rfl rfl)
theorem dL_law_430 : decode cL_law 430 = .ok (.iload_n 3, 1) := dk_29 (dk_at dksL_law_6 2 rfl rfl)
theorem dL_law_431 : decode cL_law 431 = .ok (.iconst 1, 1) := dk_4 (dk_at dksL_law_6 3 rfl rfl)
theorem dL_law_432 : decode cL_law 432 = .ok (.iadd, 1) := dk_96 (dk_at dksL_law_6 4 rfl rfl)
theorem dL_law_433 : decode cL_law 433 = .ok (.iaload, 1) := dk_46 (dk_at dksL_law_6 5 rfl rfl)
theorem dL_law_434 : decode cL_law 434 = .ok (.invokevirtual 22, 3) := dk_182 0 22 (dk_at dksL_law_6 6 rfl rfl)
theorem dL_law_437 : decode cL_law 437 = .ok (.if_icmp .eq 2141, 3) := dk_159 8 93 (dk_at dksL_law_6 9 rfl rfl)
theorem dL_law_440 : decode cL_law 440 = .ok (.iconst 0, 1) := dk_3 (dk_at dksL_law_6 12 rfl rfl)
theorem dL_law_441 : decode cL_law 441 = .ok (.ireturn, 1) := dk_172 (dk_at dksL_law_6 13 rfl rfl)
theorem dL_law_442 : decode cL_law 442 = .ok (.aload_n 1, 1) := dk_43 (dk_at dksL_law_6 14 rfl rfl)
theorem dL_law_443 : decode cL_law 443 = .ok (.invokevirtual 23, 3) := dk_182 0 23 (dk_at dksL_law_6 15 rfl rfl)
theorem dL_law_446 : decode cL_law 446 = .ok (.aload_n 2, 1) := dk_44 (dk_at dksL_law_6 18 rfl rfl)
theorem dL_law_447 : decode cL_law 447 = .ok (.invokevirtual 27, 3) := dk_182 0 27 (dk_at dksL_law_6 19 rfl rfl)
theorem dL_law_450 : decode cL_law 450 = .ok (.if_icmp .eq 2128, 3) := dk_159 8 80 (dk_at dksL_law_7 0 rfl rfl)
theorem dL_law_453 : decode cL_law 453 = .ok (.iconst 0, 1) := dk_3 (dk_at dksL_law_7 3 rfl rfl)
theorem dL_law_454 : decode cL_law 454 = .ok (.ireturn, 1) := dk_172 (dk_at dksL_law_7 4 rfl rfl)
theorem dL_law_455 : decode cL_law 455 = .ok (.aload_n 1, 1) := dk_43 (dk_at dksL_law_7 5 rfl rfl)
theorem dL_law_456 : decode cL_law 456 = .ok (.aload_n 0, 1) := dk_42 (dk_at dksL_law_7 6 rfl rfl)
theorem dL_law_457 : decode cL_law 457 = .ok (.iload_n 3, 1) := dk_29 (dk_at dksL_law_7 7 rfl rfl)
theorem dL_law_458 : decode cL_law 458 = .ok (.iconst 1, 1) := dk_4 (dk_at dksL_law_7 8 rfl rfl)
theorem dL_law_459 : decode cL_law 459 = .ok (.iadd, 1) := dk_96 (dk_at dksL_law_7 9 rfl rfl)
theorem dL_law_460 : decode cL_law 460 = .ok (.iaload, 1) := dk_46 (dk_at dksL_law_7 10 rfl rfl)
theorem dL_law_461 : decode cL_law 461 = .ok (.invokevirtual 28, 3) := dk_182 0 28 (dk_at dksL_law_7 11 rfl rfl)
theorem dL_law_464 : decode cL_law 464 = .ok (.aload_n 2, 1) := dk_44 (dk_at dksL_law_7 14 rfl rfl)
theorem dL_law_465 : decode cL_law 465 = .ok (.aload_n 0, 1) := dk_42 (dk_at dksL_law_7 15 rfl rfl)
theorem dL_law_466 : decode cL_law 466 = .ok (.iload_n 3, 1) := dk_29 (dk_at dksL_law_7 16 rfl rfl)
theorem dL_law_467 : decode cL_law 467 = .ok (.iconst 1, 1) := dk_4 (dk_at dksL_law_7 17 rfl rfl)
theorem dL_law_468 : decode cL_law 468 = .ok (.iadd, 1) := dk_96 (dk_at dksL_law_7 18 rfl rfl)
theorem dL_law_469 : decode cL_law 469 = .ok (.iaload, 1) := dk_46 (dk_at dksL_law_7 19 rfl rfl)
theorem dL_law_470 : decode cL_law 470 = .ok (.invokevirtual 31, 3) := dk_182 0 31 (dk_at dksL_law_7 20 rfl rfl)
theorem dL_law_473 : decode cL_law 473 = .ok (.if_icmp .eq 2105, 3) := dk_159 8 57 (dk_at dksL_law_8 0 rfl rfl)
theorem dL_law_476 : decode cL_law 476 = .ok (.iconst 0, 1) := dk_3 (dk_at dksL_law_8 3 rfl rfl)
theorem dL_law_477 : decode cL_law 477 = .ok (.ireturn, 1) := dk_172 (dk_at dksL_law_8 4 rfl rfl)
theorem dL_law_478 : decode cL_law 478 = .ok (.aload_n 1, 1) := dk_43 (dk_at dksL_law_8 5 rfl rfl)
theorem dL_law_479 : decode cL_law 479 = .ok (.aload_n 0, 1) := dk_42 (dk_at dksL_law_8 6 rfl rfl)
theorem dL_law_480 : decode cL_law 480 = .ok (.iload_n 3, 1) := dk_29 (dk_at dksL_law_8 7 rfl rfl)
theorem dL_law_481 : decode cL_law 481 = .ok (.iconst 1, 1) := dk_4 (dk_at dksL_law_8 8 rfl rfl)
theorem dL_law_482 : decode cL_law 482 = .ok (.iadd, 1) := dk_96 (dk_at dksL_law_8 9 rfl rfl)
theorem dL_law_483 : decode cL_law 483 = .ok (.iaload, 1) := dk_46 (dk_at dksL_law_8 10 rfl rfl)
theorem dL_law_484 : decode cL_law 484 = .ok (.aload_n 0, 1) := dk_42 (dk_at dksL_law_8 11 rfl rfl)
theorem dL_law_485 : decode cL_law 485 = .ok (.iload_n 3, 1) := dk_29 (dk_at dksL_law_8 12 rfl rfl)
theorem dL_law_486 : decode cL_law 486 = .ok (.iconst 2, 1) := dk_5 (dk_at dksL_law_8 13 rfl rfl)
theorem dL_law_487 : decode cL_law 487 = .ok (.iadd, 1) := dk_96 (dk_at dksL_law_8 14 rfl rfl)
theorem dL_law_488 : decode cL_law 488 = .ok (.iaload, 1) := dk_46 (dk_at dksL_law_8 15 rfl rfl)
theorem dL_law_489 : decode cL_law 489 = .ok (.invokevirtual 32, 3) := dk_182 0 32 (dk_at dksL_law_8 16 rfl rfl)
theorem dL_law_492 : decode cL_law 492 = .ok (.aload_n 2, 1) := dk_44 (dk_at dksL_law_8 19 rfl rfl)
theorem dL_law_493 : decode cL_law 493 = .ok (.aload_n 0, 1) := dk_42 (dk_at dksL_law_8 20 rfl rfl)
theorem dL_law_494 : decode cL_law 494 = .ok (.iload_n 3, 1) := dk_29 (dk_at dksL_law_8 21 rfl rfl)
theorem dL_law_495 : decode cL_law 495 = .ok (.iconst 1, 1) := dk_4 (dk_at dksL_law_8 22 rfl rfl)
theorem dL_law_496 : decode cL_law 496 = .ok (.iadd, 1) := dk_96 (dk_at dksL_law_8 23 rfl rfl)
theorem dL_law_497 : decode cL_law 497 = .ok (.iaload, 1) := dk_46 (dk_at dksL_law_9 0 rfl rfl)
theorem dL_law_498 : decode cL_law 498 = .ok (.aload_n 0, 1) := dk_42 (dk_at dksL_law_9 1 rfl rfl)
theorem dL_law_499 : decode cL_law 499 = .ok (.iload_n 3, 1) := dk_29 (dk_at dksL_law_9 2 rfl rfl)
theorem dL_law_500 : decode cL_law 500 = .ok (.iconst 2, 1) := dk_5 (dk_at dksL_law_9 3 rfl rfl)
theorem dL_law_501 : decode cL_law 501 = .ok (.iadd, 1) := dk_96 (dk_at dksL_law_9 4 rfl rfl)
theorem dL_law_502 : decode cL_law 502 = .ok (.iaload, 1) := dk_46 (dk_at dksL_law_9 5 rfl rfl)
theorem dL_law_503 : decode cL_law 503 = .ok (.invokevirtual 36, 3) := dk_182 0 36 (dk_at dksL_law_9 6 rfl rfl)
theorem dL_law_506 : decode cL_law 506 = .ok (.if_icmp .eq 2072, 3) := dk_159 8 24 (dk_at dksL_law_9 9 rfl rfl)
theorem dL_law_509 : decode cL_law 509 = .ok (.iconst 0, 1) := dk_3 (dk_at dksL_law_9 12 rfl rfl)
theorem dL_law_510 : decode cL_law 510 = .ok (.ireturn, 1) := dk_172 (dk_at dksL_law_9 13 rfl rfl)
theorem dL_law_511 : decode cL_law 511 = .ok (.aload_n 1, 1) := dk_43 (dk_at dksL_law_9 14 rfl rfl)
theorem dL_law_512 : decode cL_law 512 = .ok (.aload_n 0, 1) := dk_42 (dk_at dksL_law_9 15 rfl rfl)
theorem dL_law_513 : decode cL_law 513 = .ok (.iload_n 3, 1) := dk_29 (dk_at dksL_law_9 16 rfl rfl)
theorem dL_law_514 : decode cL_law 514 = .ok (.iconst 1, 1) := dk_4 (dk_at dksL_law_9 17 rfl rfl)
theorem dL_law_515 : decode cL_law 515 = .ok (.iadd, 1) := dk_96 (dk_at dksL_law_9 18 rfl rfl)
theorem dL_law_516 : decode cL_law 516 = .ok (.iaload, 1) := dk_46 (dk_at dksL_law_9 19 rfl rfl)
theorem dL_law_517 : decode cL_law 517 = .ok (.invokevirtual 37, 3) := dk_182 0 37 (dk_at dksL_law_9 20 rfl rfl)
theorem dL_law_520 : decode cL_law 520 = .ok (.aload_n 2, 1) := dk_44 (dk_at dksL_law_9 23 rfl rfl)
theorem dL_law_521 : decode cL_law 521 = .ok (.aload_n 0, 1) := dk_42 (dk_at dksL_law_10 0 rfl rfl)
theorem dL_law_522 : decode cL_law 522 = .ok (.iload_n 3, 1) := dk_29 (dk_at dksL_law_10 1 rfl rfl)
theorem dL_law_523 : decode cL_law 523 = .ok (.iconst 1, 1) := dk_4 (dk_at dksL_law_10 2 rfl rfl)
theorem dL_law_524 : decode cL_law 524 = .ok (.iadd, 1) := dk_96 (dk_at dksL_law_10 3 rfl rfl)
theorem dL_law_525 : decode cL_law 525 = .ok (.iaload, 1) := dk_46 (dk_at dksL_law_10 4 rfl rfl)
theorem dL_law_526 : decode cL_law 526 = .ok (.invokevirtual 40, 3) := dk_182 0 40 (dk_at dksL_law_10 5 rfl rfl)
theorem dL_law_529 : decode cL_law 529 = .ok (.if_icmp .eq 2049, 3) := dk_159 8 1 (dk_at dksL_law_10 8 rfl rfl)
theorem dL_law_532 : decode cL_law 532 = .ok (.iconst 0, 1) := dk_3 (dk_at dksL_law_10 11 rfl rfl)
theorem dL_law_533 : decode cL_law 533 = .ok (.ireturn, 1) := dk_172 (dk_at dksL_law_10 12 rfl rfl)
theorem dL_law_534 : decode cL_law 534 = .ok (.aload_n 1, 1) := dk_43 (dk_at dksL_law_10 13 rfl rfl)
theorem dL_law_535 : decode cL_law 535 = .ok (.aload_n 0, 1) := dk_42 (dk_at dksL_law_10 14 rfl rfl)
theorem dL_law_536 : decode cL_law 536 = .ok (.iload_n 3, 1) := dk_29 (dk_at dksL_law_10 15 rfl rfl)
theorem dL_law_537 : decode cL_law 537 = .ok (.iconst 1, 1) := dk_4 (dk_at dksL_law_10 16 rfl rfl)
theorem dL_law_538 : decode cL_law 538 = .ok (.iadd, 1) := dk_96 (dk_at dksL_law_10 17 rfl rfl)
theorem dL_law_539 : decode cL_law 539 = .ok (.iaload, 1) := dk_46 (dk_at dksL_law_10 18 rfl rfl)
theorem dL_law_540 : decode cL_law 540 = .ok (.aload_n 0, 1) := dk_42 (dk_at dksL_law_10 19 rfl rfl)
theorem dL_law_541 : decode cL_law 541 = .ok (.iload_n 3, 1) := dk_29 (dk_at dksL_law_10 20 rfl rfl)
theorem dL_law_542 : decode cL_law 542 = .ok (.iconst 2, 1) := dk_5 (dk_at dksL_law_10 21 rfl rfl)
theorem dL_law_543 : decode cL_law 543 = .ok (.iadd, 1) := dk_96 (dk_at dksL_law_10 22 rfl rfl)
theorem dL_law_544 : decode cL_law 544 = .ok (.iaload, 1) := dk_46 (dk_at dksL_law_10 23 rfl rfl)
theorem dL_law_545 : decode cL_law 545 = .ok (.invokevirtual 41, 3) := dk_182 0 41 (dk_at dksL_law_11 0 rfl rfl)
theorem dL_law_548 : decode cL_law 548 = .ok (.aload_n 2, 1) := dk_44 (dk_at dksL_law_11 3 rfl rfl)
theorem dL_law_549 : decode cL_law 549 = .ok (.aload_n 0, 1) := dk_42 (dk_at dksL_law_11 4 rfl rfl)
theorem dL_law_550 : decode cL_law 550 = .ok (.iload_n 3, 1) := dk_29 (dk_at dksL_law_11 5 rfl rfl)
theorem dL_law_551 : decode cL_law 551 = .ok (.iconst 1, 1) := dk_4 (dk_at dksL_law_11 6 rfl rfl)
theorem dL_law_552 : decode cL_law 552 = .ok (.iadd, 1) := dk_96 (dk_at dksL_law_11 7 rfl rfl)
theorem dL_law_553 : decode cL_law 553 = .ok (.iaload, 1) := dk_46 (dk_at dksL_law_11 8 rfl rfl)
theorem dL_law_554 : decode cL_law 554 = .ok (.aload_n 0, 1) := dk_42 (dk_at dksL_law_11 9 rfl rfl)
theorem dL_law_555 : decode cL_law 555 = .ok (.iload_n 3, 1) := dk_29 (dk_at dksL_law_11 10 rfl rfl)
theorem dL_law_556 : decode cL_law 556 = .ok (.iconst 2, 1) := dk_5 (dk_at dksL_law_11 11 rfl rfl)
theorem dL_law_557 : decode cL_law 557 = .ok (.iadd, 1) := dk_96 (dk_at dksL_law_11 12 rfl rfl)
theorem dL_law_558 : decode cL_law 558 = .ok (.iaload, 1) := dk_46 (dk_at dksL_law_11 13 rfl rfl)
theorem dL_law_559 : decode cL_law 559 = .ok (.invokevirtual 44, 3) := dk_182 0 44 (dk_at dksL_law_11 14 rfl rfl)
theorem dL_law_562 : decode cL_law 562 = .ok (.if_icmp .eq 2016, 3) := dk_159 7 224 (dk_at dksL_law_11 17 rfl rfl)
theorem dL_law_565 : decode cL_law 565 = .ok (.iconst 0, 1) := dk_3 (dk_at dksL_law_11 20 rfl rfl)
theorem dL_law_566 : decode cL_law 566 = .ok (.ireturn, 1) := dk_172 (dk_at dksL_law_11 21 rfl rfl)
theorem dL_law_567 : decode cL_law 567 = .ok (.aload_n 1, 1) := dk_43 (dk_at dksL_law_11 22 rfl rfl)
theorem dL_law_568 : decode cL_law 568 = .ok (.aload_n 0, 1) := dk_42 (dk_at dksL_law_11 23 rfl rfl)
theorem dL_law_569 : decode cL_law 569 = .ok (.iload_n 3, 1) := dk_29 (dk_at dksL_law_12 0 rfl rfl)
theorem dL_law_570 : decode cL_law 570 = .ok (.iconst 1, 1) := dk_4 (dk_at dksL_law_12 1 rfl rfl)
theorem dL_law_571 : decode cL_law 571 = .ok (.iadd, 1) := dk_96 (dk_at dksL_law_12 2 rfl rfl)
theorem dL_law_572 : decode cL_law 572 = .ok (.iaload, 1) := dk_46 (dk_at dksL_law_12 3 rfl rfl)
theorem dL_law_573 : decode cL_law 573 = .ok (.invokevirtual 45, 3) := dk_182 0 45 (dk_at dksL_law_12 4 rfl rfl)
theorem dL_law_576 : decode cL_law 576 = .ok (.aload_n 2, 1) := dk_44 (dk_at dksL_law_12 7 rfl rfl)
theorem dL_law_577 : decode cL_law 577 = .ok (.aload_n 0, 1) := dk_42 (dk_at dksL_law_12 8 rfl rfl)
theorem dL_law_578 : decode cL_law 578 = .ok (.iload_n 3, 1) := dk_29 (dk_at dksL_law_12 9 rfl rfl)
theorem dL_law_579 : decode cL_law 579 = .ok (.iconst 1, 1) := dk_4 (dk_at dksL_law_12 10 rfl rfl)
theorem dL_law_580 : decode cL_law 580 = .ok (.iadd, 1) := dk_96 (dk_at dksL_law_12 11 rfl rfl)
theorem dL_law_581 : decode cL_law 581 = .ok (.iaload, 1) := dk_46 (dk_at dksL_law_12 12 rfl rfl)
theorem dL_law_582 : decode cL_law 582 = .ok (.invokevirtual 48, 3) := dk_182 0 48 (dk_at dksL_law_12 13 rfl rfl)
theorem dL_law_585 : decode cL_law 585 = .ok (.if_icmp .eq 1993, 3) := dk_159 7 201 (dk_at dksL_law_12 16 rfl rfl)
theorem dL_law_588 : decode cL_law 588 = .ok (.iconst 0, 1) := dk_3 (dk_at dksL_law_12 19 rfl rfl)
theorem dL_law_589 : decode cL_law 589 = .ok (.ireturn, 1) := dk_172 (dk_at dksL_law_12 20 rfl rfl)
theorem dL_law_590 : decode cL_law 590 = .ok (.aload_n 1, 1) := dk_43 (dk_at dksL_law_12 21 rfl rfl)
theorem dL_law_591 : decode cL_law 591 = .ok (.aload_n 0, 1) := dk_42 (dk_at dksL_law_12 22 rfl rfl)
theorem dL_law_592 : decode cL_law 592 = .ok (.iload_n 3, 1) := dk_29 (dk_at dksL_law_12 23 rfl rfl)
theorem dL_law_593 : decode cL_law 593 = .ok (.iconst 1, 1) := dk_4 (dk_at dksL_law_13 0 rfl rfl)
theorem dL_law_594 : decode cL_law 594 = .ok (.iadd, 1) := dk_96 (dk_at dksL_law_13 1 rfl rfl)
theorem dL_law_595 : decode cL_law 595 = .ok (.iaload, 1) := dk_46 (dk_at dksL_law_13 2 rfl rfl)
theorem dL_law_596 : decode cL_law 596 = .ok (.invokevirtual 49, 3) := dk_182 0 49 (dk_at dksL_law_13 3 rfl rfl)
theorem dL_law_599 : decode cL_law 599 = .ok (.aload_n 2, 1) := dk_44 (dk_at dksL_law_13 6 rfl rfl)
theorem dL_law_600 : decode cL_law 600 = .ok (.aload_n 0, 1) := dk_42 (dk_at dksL_law_13 7 rfl rfl)
theorem dL_law_601 : decode cL_law 601 = .ok (.iload_n 3, 1) := dk_29 (dk_at dksL_law_13 8 rfl rfl)
theorem dL_law_602 : decode cL_law 602 = .ok (.iconst 1, 1) := dk_4 (dk_at dksL_law_13 9 rfl rfl)
theorem dL_law_603 : decode cL_law 603 = .ok (.iadd, 1) := dk_96 (dk_at dksL_law_13 10 rfl rfl)
theorem dL_law_604 : decode cL_law 604 = .ok (.iaload, 1) := dk_46 (dk_at dksL_law_13 11 rfl rfl)
theorem dL_law_605 : decode cL_law 605 = .ok (.invokevirtual 52, 3) := dk_182 0 52 (dk_at dksL_law_13 12 rfl rfl)
theorem dL_law_608 : decode cL_law 608 = .ok (.if_icmp .eq 1970, 3) := dk_159 7 178 (dk_at dksL_law_13 15 rfl rfl)
theorem dL_law_611 : decode cL_law 611 = .ok (.iconst 0, 1) := dk_3 (dk_at dksL_law_13 18 rfl rfl)
theorem dL_law_612 : decode cL_law 612 = .ok (.ireturn, 1) := dk_172 (dk_at dksL_law_13 19 rfl rfl)
theorem dL_law_613 : decode cL_law 613 = .ok (.aload_n 1, 1) := dk_43 (dk_at dksL_law_13 20 rfl rfl)
theorem dL_law_614 : decode cL_law 614 = .ok (.aload_n 0, 1) := dk_42 (dk_at dksL_law_13 21 rfl rfl)
theorem dL_law_615 : decode cL_law 615 = .ok (.iload_n 3, 1) := dk_29 (dk_at dksL_law_13 22 rfl rfl)
theorem dL_law_616 : decode cL_law 616 = .ok (.iconst 1, 1) := dk_4 (dk_at dksL_law_13 23 rfl rfl)
theorem dL_law_617 : decode cL_law 617 = .ok (.iadd, 1) := dk_96 (dk_at dksL_law_14 0 rfl rfl)
theorem dL_law_618 : decode cL_law 618 = .ok (.iaload, 1) := dk_46 (dk_at dksL_law_14 1 rfl rfl)
theorem dL_law_619 : decode cL_law 619 = .ok (.invokevirtual 53, 3) := dk_182 0 53 (dk_at dksL_law_14 2 rfl rfl)
theorem dL_law_622 : decode cL_law 622 = .ok (.aload_n 2, 1) := dk_44 (dk_at dksL_law_14 5 rfl rfl)
theorem dL_law_623 : decode cL_law 623 = .ok (.aload_n 0, 1) := dk_42 (dk_at dksL_law_14 6 rfl rfl)
theorem dL_law_624 : decode cL_law 624 = .ok (.iload_n 3, 1) := dk_29 (dk_at dksL_law_14 7 rfl rfl)
theorem dL_law_625 : decode cL_law 625 = .ok (.iconst 1, 1) := dk_4 (dk_at dksL_law_14 8 rfl rfl)
theorem dL_law_626 : decode cL_law 626 = .ok (.iadd, 1) := dk_96 (dk_at dksL_law_14 9 rfl rfl)
theorem dL_law_627 : decode cL_law 627 = .ok (.iaload, 1) := dk_46 (dk_at dksL_law_14 10 rfl rfl)
theorem dL_law_628 : decode cL_law 628 = .ok (.invokevirtual 56, 3) := dk_182 0 56 (dk_at dksL_law_14 11 rfl rfl)
theorem dL_law_631 : decode cL_law 631 = .ok (.if_icmp .eq 1947, 3) := dk_159 7 155 (dk_at dksL_law_14 14 rfl rfl)
theorem dL_law_634 : decode cL_law 634 = .ok (.iconst 0, 1) := dk_3 (dk_at dksL_law_14 17 rfl rfl)
theorem dL_law_635 : decode cL_law 635 = .ok (.ireturn, 1) := dk_172 (dk_at dksL_law_14 18 rfl rfl)
theorem dL_law_636 : decode cL_law 636 = .ok (.aload_n 1, 1) := dk_43 (dk_at dksL_law_14 19 rfl rfl)
theorem dL_law_637 : decode cL_law 637 = .ok (.aload_n 0, 1) := dk_42 (dk_at dksL_law_14 20 rfl rfl)
theorem dL_law_638 : decode cL_law 638 = .ok (.iload_n 3, 1) := dk_29 (dk_at dksL_law_14 21 rfl rfl)
theorem dL_law_639 : decode cL_law 639 = .ok (.iconst 1, 1) := dk_4 (dk_at dksL_law_14 22 rfl rfl)
theorem dL_law_640 : decode cL_law 640 = .ok (.iadd, 1) := dk_96 (dk_at dksL_law_14 23 rfl rfl)
theorem dL_law_641 : decode cL_law 641 = .ok (.iaload, 1) := dk_46 (dk_at dksL_law_15 0 rfl rfl)
theorem dL_law_642 : decode cL_law 642 = .ok (.aload_n 0, 1) := dk_42 (dk_at dksL_law_15 1 rfl rfl)
theorem dL_law_643 : decode cL_law 643 = .ok (.iload_n 3, 1) := dk_29 (dk_at dksL_law_15 2 rfl rfl)
theorem dL_law_644 : decode cL_law 644 = .ok (.iconst 2, 1) := dk_5 (dk_at dksL_law_15 3 rfl rfl)
theorem dL_law_645 : decode cL_law 645 = .ok (.iadd, 1) := dk_96 (dk_at dksL_law_15 4 rfl rfl)
theorem dL_law_646 : decode cL_law 646 = .ok (.iaload, 1) := dk_46 (dk_at dksL_law_15 5 rfl rfl)
theorem dL_law_647 : decode cL_law 647 = .ok (.invokevirtual 57, 3) := dk_182 0 57 (dk_at dksL_law_15 6 rfl rfl)
theorem dL_law_650 : decode cL_law 650 = .ok (.aload_n 2, 1) := dk_44 (dk_at dksL_law_15 9 rfl rfl)
theorem dL_law_651 : decode cL_law 651 = .ok (.aload_n 0, 1) := dk_42 (dk_at dksL_law_15 10 rfl rfl)
theorem dL_law_652 : decode cL_law 652 = .ok (.iload_n 3, 1) := dk_29 (dk_at dksL_law_15 11 rfl rfl)
theorem dL_law_653 : decode cL_law 653 = .ok (.iconst 1, 1) := dk_4 (dk_at dksL_law_15 12 rfl rfl)
theorem dL_law_654 : decode cL_law 654 = .ok (.iadd, 1) := dk_96 (dk_at dksL_law_15 13 rfl rfl)
theorem dL_law_655 : decode cL_law 655 = .ok (.iaload, 1) := dk_46 (dk_at dksL_law_15 14 rfl rfl)
theorem dL_law_656 : decode cL_law 656 = .ok (.aload_n 0, 1) := dk_42 (dk_at dksL_law_15 15 rfl rfl)
theorem dL_law_657 : decode cL_law 657 = .ok (.iload_n 3, 1) := dk_29 (dk_at dksL_law_15 16 rfl rfl)
theorem dL_law_658 : decode cL_law 658 = .ok (.iconst 2, 1) := dk_5 (dk_at dksL_law_15 17 rfl rfl)
theorem dL_law_659 : decode cL_law 659 = .ok (.iadd, 1) := dk_96 (dk_at dksL_law_15 18 rfl rfl)
theorem dL_law_660 : decode cL_law 660 = .ok (.iaload, 1) := dk_46 (dk_at dksL_law_15 19 rfl rfl)
theorem dL_law_661 : decode cL_law 661 = .ok (.invokevirtual 60, 3) := dk_182 0 60 (dk_at dksL_law_15 20 rfl rfl)
theorem dL_law_664 : decode cL_law 664 = .ok (.if_icmp .eq 1914, 3) := dk_159 7 122 (dk_at dksL_law_16 0 rfl rfl)
theorem dL_law_667 : decode cL_law 667 = .ok (.iconst 0, 1) := dk_3 (dk_at dksL_law_16 3 rfl rfl)
theorem dL_law_668 : decode cL_law 668 = .ok (.ireturn, 1) := dk_172 (dk_at dksL_law_16 4 rfl rfl)
theorem dL_law_669 : decode cL_law 669 = .ok (.aload_n 1, 1) := dk_43 (dk_at dksL_law_16 5 rfl rfl)
theorem dL_law_670 : decode cL_law 670 = .ok (.aload_n 0, 1) := dk_42 (dk_at dksL_law_16 6 rfl rfl)
theorem dL_law_671 : decode cL_law 671 = .ok (.iload_n 3, 1) := dk_29 (dk_at dksL_law_16 7 rfl rfl)
theorem dL_law_672 : decode cL_law 672 = .ok (.iconst 1, 1) := dk_4 (dk_at dksL_law_16 8 rfl rfl)
theorem dL_law_673 : decode cL_law 673 = .ok (.iadd, 1) := dk_96 (dk_at dksL_law_16 9 rfl rfl)
theorem dL_law_674 : decode cL_law 674 = .ok (.iaload, 1) := dk_46 (dk_at dksL_law_16 10 rfl rfl)
theorem dL_law_675 : decode cL_law 675 = .ok (.invokevirtual 61, 3) := dk_182 0 61 (dk_at dksL_law_16 11 rfl rfl)
theorem dL_law_678 : decode cL_law 678 = .ok (.aload_n 2, 1) := dk_44 (dk_at dksL_law_16 14 rfl rfl)
theorem dL_law_679 : decode cL_law 679 = .ok (.aload_n 0, 1) := dk_42 (dk_at dksL_law_16 15 rfl rfl)
theorem dL_law_680 : decode cL_law 680 = .ok (.iload_n 3, 1) := dk_29 (dk_at dksL_law_16 16 rfl rfl)
theorem dL_law_681 : decode cL_law 681 = .ok (.iconst 1, 1) := dk_4 (dk_at dksL_law_16 17 rfl rfl)
theorem dL_law_682 : decode cL_law 682 = .ok (.iadd, 1) := dk_96 (dk_at dksL_law_16 18 rfl rfl)
theorem dL_law_683 : decode cL_law 683 = .ok (.iaload, 1) := dk_46 (dk_at dksL_law_16 19 rfl rfl)
theorem dL_law_684 : decode cL_law 684 = .ok (.invokevirtual 64, 3) := dk_182 0 64 (dk_at dksL_law_16 20 rfl rfl)
theorem dL_law_687 : decode cL_law 687 = .ok (.if_icmp .eq 1891, 3) := dk_159 7 99 (dk_at dksL_law_17 0 rfl rfl)
theorem dL_law_690 : decode cL_law 690 = .ok (.iconst 0, 1) := dk_3 (dk_at dksL_law_17 3 rfl rfl)
theorem dL_law_691 : decode cL_law 691 = .ok (.ireturn, 1) := dk_172 (dk_at dksL_law_17 4 rfl rfl)
theorem dL_law_692 : decode cL_law 692 = .ok (.aload_n 1, 1) := dk_43 (dk_at dksL_law_17 5 rfl rfl)
theorem dL_law_693 : decode cL_law 693 = .ok (.aload_n 0, 1) := dk_42 (dk_at dksL_law_17 6 rfl rfl)
theorem dL_law_694 : decode cL_law 694 = .ok (.iload_n 3, 1) := dk_29 (dk_at dksL_law_17 7 rfl rfl)
theorem dL_law_695 : decode cL_law 695 = .ok (.iconst 1, 1) := dk_4 (dk_at dksL_law_17 8 rfl rfl)
theorem dL_law_696 : decode cL_law 696 = .ok (.iadd, 1) := dk_96 (dk_at dksL_law_17 9 rfl rfl)
theorem dL_law_697 : decode cL_law 697 = .ok (.iaload, 1) := dk_46 (dk_at dksL_law_17 10 rfl rfl)
theorem dL_law_698 : decode cL_law 698 = .ok (.invokevirtual 65, 3) := dk_182 0 65 (dk_at dksL_law_17 11 rfl rfl)
theorem dL_law_701 : decode cL_law 701 = .ok (.aload_n 2, 1) := dk_44 (dk_at dksL_law_17 14 rfl rfl)
theorem dL_law_702 : decode cL_law 702 = .ok (.aload_n 0, 1) := dk_42 (dk_at dksL_law_17 15 rfl rfl)
theorem dL_law_703 : decode cL_law 703 = .ok (.iload_n 3, 1) := dk_29 (dk_at dksL_law_17 16 rfl rfl)
theorem dL_law_704 : decode cL_law 704 = .ok (.iconst 1, 1) := dk_4 (dk_at dksL_law_17 17 rfl rfl)
theorem dL_law_705 : decode cL_law 705 = .ok (.iadd, 1) := dk_96 (dk_at dksL_law_17 18 rfl rfl)
theorem dL_law_706 : decode cL_law 706 = .ok (.iaload, 1) := dk_46 (dk_at dksL_law_17 19 rfl rfl)
theorem dL_law_707 : decode cL_law 707 = .ok (.invokevirtual 68, 3) := dk_182 0 68 (dk_at dksL_law_17 20 rfl rfl)
theorem dL_law_710 : decode cL_law 710 = .ok (.if_icmp .eq 1868, 3) := dk_159 7 76 (dk_at dksL_law_18 0 rfl rfl)
theorem dL_law_713 : decode cL_law 713 = .ok (.iconst 0, 1) := dk_3 (dk_at dksL_law_18 3 rfl rfl)
theorem dL_law_714 : decode cL_law 714 = .ok (.ireturn, 1) := dk_172 (dk_at dksL_law_18 4 rfl rfl)
theorem dL_law_715 : decode cL_law 715 = .ok (.aload_n 1, 1) := dk_43 (dk_at dksL_law_18 5 rfl rfl)
theorem dL_law_716 : decode cL_law 716 = .ok (.aload_n 0, 1) := dk_42 (dk_at dksL_law_18 6 rfl rfl)
theorem dL_law_717 : decode cL_law 717 = .ok (.iload_n 3, 1) := dk_29 (dk_at dksL_law_18 7 rfl rfl)
theorem dL_law_718 : decode cL_law 718 = .ok (.iconst 1, 1) := dk_4 (dk_at dksL_law_18 8 rfl rfl)
theorem dL_law_719 : decode cL_law 719 = .ok (.iadd, 1) := dk_96 (dk_at dksL_law_18 9 rfl rfl)
theorem dL_law_720 : decode cL_law 720 = .ok (.iaload, 1) := dk_46 (dk_at dksL_law_18 10 rfl rfl)
theorem dL_law_721 : decode cL_law 721 = .ok (.invokevirtual 69, 3) := dk_182 0 69 (dk_at dksL_law_18 11 rfl rfl)
theorem dL_law_724 : decode cL_law 724 = .ok (.aload_n 2, 1) := dk_44 (dk_at dksL_law_18 14 rfl rfl)
theorem dL_law_725 : decode cL_law 725 = .ok (.aload_n 0, 1) := dk_42 (dk_at dksL_law_18 15 rfl rfl)
theorem dL_law_726 : decode cL_law 726 = .ok (.iload_n 3, 1) := dk_29 (dk_at dksL_law_18 16 rfl rfl)
theorem dL_law_727 : decode cL_law 727 = .ok (.iconst 1, 1) := dk_4 (dk_at dksL_law_18 17 rfl rfl)
theorem dL_law_728 : decode cL_law 728 = .ok (.iadd, 1) := dk_96 (dk_at dksL_law_18 18 rfl rfl)
theorem dL_law_729 : decode cL_law 729 = .ok (.iaload, 1) := dk_46 (dk_at dksL_law_18 19 rfl rfl)
theorem dL_law_730 : decode cL_law 730 = .ok (.invokevirtual 72, 3) := dk_182 0 72 (dk_at dksL_law_18 20 rfl rfl)
theorem dL_law_733 : decode cL_law 733 = .ok (.if_icmp .eq 1845, 3) := dk_159 7 53 (dk_at dksL_law_19 0 rfl rfl)
theorem dL_law_736 : decode cL_law 736 = .ok (.iconst 0, 1) := dk_3 (dk_at dksL_law_19 3 rfl rfl)
theorem dL_law_737 : decode cL_law 737 = .ok (.ireturn, 1) := dk_172 (dk_at dksL_law_19 4 rfl rfl)
theorem dL_law_738 : decode cL_law 738 = .ok (.aload_n 1, 1) := dk_43 (dk_at dksL_law_19 5 rfl rfl)
theorem dL_law_739 : decode cL_law 739 = .ok (.aload_n 0, 1) := dk_42 (dk_at dksL_law_19 6 rfl rfl)
theorem dL_law_740 : decode cL_law 740 = .ok (.iload_n 3, 1) := dk_29 (dk_at dksL_law_19 7 rfl rfl)
theorem dL_law_741 : decode cL_law 741 = .ok (.iconst 1, 1) := dk_4 (dk_at dksL_law_19 8 rfl rfl)
theorem dL_law_742 : decode cL_law 742 = .ok (.iadd, 1) := dk_96 (dk_at dksL_law_19 9 rfl rfl)
theorem dL_law_743 : decode cL_law 743 = .ok (.iaload, 1) := dk_46 (dk_at dksL_law_19 10 rfl rfl)
theorem dL_law_744 : decode cL_law 744 = .ok (.invokevirtual 73, 3) := dk_182 0 73 (dk_at dksL_law_19 11 rfl rfl)
theorem dL_law_747 : decode cL_law 747 = .ok (.aload_n 2, 1) := dk_44 (dk_at dksL_law_19 14 rfl rfl)
theorem dL_law_748 : decode cL_law 748 = .ok (.aload_n 0, 1) := dk_42 (dk_at dksL_law_19 15 rfl rfl)
theorem dL_law_749 : decode cL_law 749 = .ok (.iload_n 3, 1) := dk_29 (dk_at dksL_law_19 16 rfl rfl)
theorem dL_law_750 : decode cL_law 750 = .ok (.iconst 1, 1) := dk_4 (dk_at dksL_law_19 17 rfl rfl)
theorem dL_law_751 : decode cL_law 751 = .ok (.iadd, 1) := dk_96 (dk_at dksL_law_19 18 rfl rfl)
theorem dL_law_752 : decode cL_law 752 = .ok (.iaload, 1) := dk_46 (dk_at dksL_law_19 19 rfl rfl)
theorem dL_law_753 : decode cL_law 753 = .ok (.invokevirtual 76, 3) := dk_182 0 76 (dk_at dksL_law_19 20 rfl rfl)
theorem dL_law_756 : decode cL_law 756 = .ok (.if_icmp .eq 1822, 3) := dk_159 7 30 (dk_at dksL_law_20 0 rfl rfl)
theorem dL_law_759 : decode cL_law 759 = .ok (.iconst 0, 1) := dk_3 (dk_at dksL_law_20 3 rfl rfl)
theorem dL_law_760 : decode cL_law 760 = .ok (.ireturn, 1) := dk_172 (dk_at dksL_law_20 4 rfl rfl)
theorem dL_law_761 : decode cL_law 761 = .ok (.aload_n 1, 1) := dk_43 (dk_at dksL_law_20 5 rfl rfl)
theorem dL_law_762 : decode cL_law 762 = .ok (.aload_n 0, 1) := dk_42 (dk_at dksL_law_20 6 rfl rfl)
theorem dL_law_763 : decode cL_law 763 = .ok (.iload_n 3, 1) := dk_29 (dk_at dksL_law_20 7 rfl rfl)
theorem dL_law_764 : decode cL_law 764 = .ok (.iconst 1, 1) := dk_4 (dk_at dksL_law_20 8 rfl rfl)
theorem dL_law_765 : decode cL_law 765 = .ok (.iadd, 1) := dk_96 (dk_at dksL_law_20 9 rfl rfl)
theorem dL_law_766 : decode cL_law 766 = .ok (.iaload, 1) := dk_46 (dk_at dksL_law_20 10 rfl rfl)
theorem dL_law_767 : decode cL_law 767 = .ok (.invokevirtual 77, 3) := dk_182 0 77 (dk_at dksL_law_20 11 rfl rfl)
theorem dL_law_770 : decode cL_law 770 = .ok (.aload_n 2, 1) := dk_44 (dk_at dksL_law_20 14 rfl rfl)
theorem dL_law_771 : decode cL_law 771 = .ok (.aload_n 0, 1) := dk_42 (dk_at dksL_law_20 15 rfl rfl)
theorem dL_law_772 : decode cL_law 772 = .ok (.iload_n 3, 1) := dk_29 (dk_at dksL_law_20 16 rfl rfl)
theorem dL_law_773 : decode cL_law 773 = .ok (.iconst 1, 1) := dk_4 (dk_at dksL_law_20 17 rfl rfl)
theorem dL_law_774 : decode cL_law 774 = .ok (.iadd, 1) := dk_96 (dk_at dksL_law_20 18 rfl rfl)
theorem dL_law_775 : decode cL_law 775 = .ok (.iaload, 1) := dk_46 (dk_at dksL_law_20 19 rfl rfl)
theorem dL_law_776 : decode cL_law 776 = .ok (.invokevirtual 80, 3) := dk_182 0 80 (dk_at dksL_law_20 20 rfl rfl)
theorem dL_law_779 : decode cL_law 779 = .ok (.if_icmp .eq 1799, 3) := dk_159 7 7 (dk_at dksL_law_21 0 rfl rfl)
theorem dL_law_782 : decode cL_law 782 = .ok (.iconst 0, 1) := dk_3 (dk_at dksL_law_21 3 rfl rfl)
theorem dL_law_783 : decode cL_law 783 = .ok (.ireturn, 1) := dk_172 (dk_at dksL_law_21 4 rfl rfl)
theorem dL_law_784 : decode cL_law 784 = .ok (.aload_n 1, 1) := dk_43 (dk_at dksL_law_21 5 rfl rfl)
theorem dL_law_785 : decode cL_law 785 = .ok (.aload_n 0, 1) := dk_42 (dk_at dksL_law_21 6 rfl rfl)
theorem dL_law_786 : decode cL_law 786 = .ok (.iload_n 3, 1) := dk_29 (dk_at dksL_law_21 7 rfl rfl)
theorem dL_law_787 : decode cL_law 787 = .ok (.iconst 1, 1) := dk_4 (dk_at dksL_law_21 8 rfl rfl)
theorem dL_law_788 : decode cL_law 788 = .ok (.iadd, 1) := dk_96 (dk_at dksL_law_21 9 rfl rfl)
theorem dL_law_789 : decode cL_law 789 = .ok (.iaload, 1) := dk_46 (dk_at dksL_law_21 10 rfl rfl)
theorem dL_law_790 : decode cL_law 790 = .ok (.invokevirtual 81, 3) := dk_182 0 81 (dk_at dksL_law_21 11 rfl rfl)
theorem dL_law_793 : decode cL_law 793 = .ok (.aload_n 2, 1) := dk_44 (dk_at dksL_law_21 14 rfl rfl)
theorem dL_law_794 : decode cL_law 794 = .ok (.aload_n 0, 1) := dk_42 (dk_at dksL_law_21 15 rfl rfl)
theorem dL_law_795 : decode cL_law 795 = .ok (.iload_n 3, 1) := dk_29 (dk_at dksL_law_21 16 rfl rfl)
theorem dL_law_796 : decode cL_law 796 = .ok (.iconst 1, 1) := dk_4 (dk_at dksL_law_21 17 rfl rfl)
theorem dL_law_797 : decode cL_law 797 = .ok (.iadd, 1) := dk_96 (dk_at dksL_law_21 18 rfl rfl)
theorem dL_law_798 : decode cL_law 798 = .ok (.iaload, 1) := dk_46 (dk_at dksL_law_21 19 rfl rfl)
theorem dL_law_799 : decode cL_law 799 = .ok (.invokevirtual 84, 3) := dk_182 0 84 (dk_at dksL_law_21 20 rfl rfl)
theorem dL_law_802 : decode cL_law 802 = .ok (.if_icmp .eq 1776, 3) := dk_159 6 240 (dk_at dksL_law_22 0 rfl rfl)
theorem dL_law_805 : decode cL_law 805 = .ok (.iconst 0, 1) := dk_3 (dk_at dksL_law_22 3 rfl rfl)
theorem dL_law_806 : decode cL_law 806 = .ok (.ireturn, 1) := dk_172 (dk_at dksL_law_22 4 rfl rfl)
theorem dL_law_807 : decode cL_law 807 = .ok (.aload_n 1, 1) := dk_43 (dk_at dksL_law_22 5 rfl rfl)
theorem dL_law_808 : decode cL_law 808 = .ok (.aload_n 0, 1) := dk_42 (dk_at dksL_law_22 6 rfl rfl)
theorem dL_law_809 : decode cL_law 809 = .ok (.iload_n 3, 1) := dk_29 (dk_at dksL_law_22 7 rfl rfl)
theorem dL_law_810 : decode cL_law 810 = .ok (.iconst 1, 1) := dk_4 (dk_at dksL_law_22 8 rfl rfl)
theorem dL_law_811 : decode cL_law 811 = .ok (.iadd, 1) := dk_96 (dk_at dksL_law_22 9 rfl rfl)
theorem dL_law_812 : decode cL_law 812 = .ok (.iaload, 1) := dk_46 (dk_at dksL_law_22 10 rfl rfl)
theorem dL_law_813 : decode cL_law 813 = .ok (.invokevirtual 85, 3) := dk_182 0 85 (dk_at dksL_law_22 11 rfl rfl)
theorem dL_law_816 : decode cL_law 816 = .ok (.aload_n 2, 1) := dk_44 (dk_at dksL_law_22 14 rfl rfl)
theorem dL_law_817 : decode cL_law 817 = .ok (.aload_n 0, 1) := dk_42 (dk_at dksL_law_22 15 rfl rfl)
theorem dL_law_818 : decode cL_law 818 = .ok (.iload_n 3, 1) := dk_29 (dk_at dksL_law_22 16 rfl rfl)
theorem dL_law_819 : decode cL_law 819 = .ok (.iconst 1, 1) := dk_4 (dk_at dksL_law_22 17 rfl rfl)
theorem dL_law_820 : decode cL_law 820 = .ok (.iadd, 1) := dk_96 (dk_at dksL_law_22 18 rfl rfl)
theorem dL_law_821 : decode cL_law 821 = .ok (.iaload, 1) := dk_46 (dk_at dksL_law_22 19 rfl rfl)
theorem dL_law_822 : decode cL_law 822 = .ok (.invokevirtual 88, 3) := dk_182 0 88 (dk_at dksL_law_22 20 rfl rfl)
theorem dL_law_825 : decode cL_law 825 = .ok (.if_icmp .eq 1753, 3) := dk_159 6 217 (dk_at dksL_law_23 0 rfl rfl)
theorem dL_law_828 : decode cL_law 828 = .ok (.iconst 0, 1) := dk_3 (dk_at dksL_law_23 3 rfl rfl)
theorem dL_law_829 : decode cL_law 829 = .ok (.ireturn, 1) := dk_172 (dk_at dksL_law_23 4 rfl rfl)
theorem dL_law_830 : decode cL_law 830 = .ok (.aload_n 1, 1) := dk_43 (dk_at dksL_law_23 5 rfl rfl)
theorem dL_law_831 : decode cL_law 831 = .ok (.aload_n 0, 1) := dk_42 (dk_at dksL_law_23 6 rfl rfl)
theorem dL_law_832 : decode cL_law 832 = .ok (.iload_n 3, 1) := dk_29 (dk_at dksL_law_23 7 rfl rfl)
theorem dL_law_833 : decode cL_law 833 = .ok (.iconst 1, 1) := dk_4 (dk_at dksL_law_23 8 rfl rfl)
theorem dL_law_834 : decode cL_law 834 = .ok (.iadd, 1) := dk_96 (dk_at dksL_law_23 9 rfl rfl)
theorem dL_law_835 : decode cL_law 835 = .ok (.iaload, 1) := dk_46 (dk_at dksL_law_23 10 rfl rfl)
theorem dL_law_836 : decode cL_law 836 = .ok (.invokevirtual 89, 3) := dk_182 0 89 (dk_at dksL_law_23 11 rfl rfl)
theorem dL_law_839 : decode cL_law 839 = .ok (.aload_n 2, 1) := dk_44 (dk_at dksL_law_23 14 rfl rfl)
theorem dL_law_840 : decode cL_law 840 = .ok (.aload_n 0, 1) := dk_42 (dk_at dksL_law_23 15 rfl rfl)
theorem dL_law_841 : decode cL_law 841 = .ok (.iload_n 3, 1) := dk_29 (dk_at dksL_law_23 16 rfl rfl)
theorem dL_law_842 : decode cL_law 842 = .ok (.iconst 1, 1) := dk_4 (dk_at dksL_law_23 17 rfl rfl)
theorem dL_law_843 : decode cL_law 843 = .ok (.iadd, 1) := dk_96 (dk_at dksL_law_23 18 rfl rfl)
theorem dL_law_844 : decode cL_law 844 = .ok (.iaload, 1) := dk_46 (dk_at dksL_law_23 19 rfl rfl)
theorem dL_law_845 : decode cL_law 845 = .ok (.invokevirtual 92, 3) := dk_182 0 92 (dk_at dksL_law_23 20 rfl rfl)
theorem dL_law_848 : decode cL_law 848 = .ok (.if_icmp .eq 1730, 3) := dk_159 6 194 (dk_at dksL_law_24 0 rfl rfl)
theorem dL_law_851 : decode cL_law 851 = .ok (.iconst 0, 1) := dk_3 (dk_at dksL_law_24 3 rfl rfl)
theorem dL_law_852 : decode cL_law 852 = .ok (.ireturn, 1) := dk_172 (dk_at dksL_law_24 4 rfl rfl)
theorem dL_law_853 : decode cL_law 853 = .ok (.aload_n 1, 1) := dk_43 (dk_at dksL_law_24 5 rfl rfl)
theorem dL_law_854 : decode cL_law 854 = .ok (.aload_n 0, 1) := dk_42 (dk_at dksL_law_24 6 rfl rfl)
theorem dL_law_855 : decode cL_law 855 = .ok (.iload_n 3, 1) := dk_29 (dk_at dksL_law_24 7 rfl rfl)
theorem dL_law_856 : decode cL_law 856 = .ok (.iconst 1, 1) := dk_4 (dk_at dksL_law_24 8 rfl rfl)
theorem dL_law_857 : decode cL_law 857 = .ok (.iadd, 1) := dk_96 (dk_at dksL_law_24 9 rfl rfl)
theorem dL_law_858 : decode cL_law 858 = .ok (.iaload, 1) := dk_46 (dk_at dksL_law_24 10 rfl rfl)
theorem dL_law_859 : decode cL_law 859 = .ok (.invokevirtual 93, 3) := dk_182 0 93 (dk_at dksL_law_24 11 rfl rfl)
theorem dL_law_862 : decode cL_law 862 = .ok (.aload_n 2, 1) := dk_44 (dk_at dksL_law_24 14 rfl rfl)
theorem dL_law_863 : decode cL_law 863 = .ok (.aload_n 0, 1) := dk_42 (dk_at dksL_law_24 15 rfl rfl)
theorem dL_law_864 : decode cL_law 864 = .ok (.iload_n 3, 1) := dk_29 (dk_at dksL_law_24 16 rfl rfl)
theorem dL_law_865 : decode cL_law 865 = .ok (.iconst 1, 1) := dk_4 (dk_at dksL_law_24 17 rfl rfl)
theorem dL_law_866 : decode cL_law 866 = .ok (.iadd, 1) := dk_96 (dk_at dksL_law_24 18 rfl rfl)
theorem dL_law_867 : decode cL_law 867 = .ok (.iaload, 1) := dk_46 (dk_at dksL_law_24 19 rfl rfl)
theorem dL_law_868 : decode cL_law 868 = .ok (.invokevirtual 96, 3) := dk_182 0 96 (dk_at dksL_law_24 20 rfl rfl)
theorem dL_law_871 : decode cL_law 871 = .ok (.if_icmp .eq 1707, 3) := dk_159 6 171 (dk_at dksL_law_25 0 rfl rfl)
theorem dL_law_874 : decode cL_law 874 = .ok (.iconst 0, 1) := dk_3 (dk_at dksL_law_25 3 rfl rfl)
theorem dL_law_875 : decode cL_law 875 = .ok (.ireturn, 1) := dk_172 (dk_at dksL_law_25 4 rfl rfl)
theorem dL_law_876 : decode cL_law 876 = .ok (.aload_n 1, 1) := dk_43 (dk_at dksL_law_25 5 rfl rfl)
theorem dL_law_877 : decode cL_law 877 = .ok (.aload_n 0, 1) := dk_42 (dk_at dksL_law_25 6 rfl rfl)
theorem dL_law_878 : decode cL_law 878 = .ok (.iload_n 3, 1) := dk_29 (dk_at dksL_law_25 7 rfl rfl)
theorem dL_law_879 : decode cL_law 879 = .ok (.iconst 1, 1) := dk_4 (dk_at dksL_law_25 8 rfl rfl)
theorem dL_law_880 : decode cL_law 880 = .ok (.iadd, 1) := dk_96 (dk_at dksL_law_25 9 rfl rfl)
theorem dL_law_881 : decode cL_law 881 = .ok (.iaload, 1) := dk_46 (dk_at dksL_law_25 10 rfl rfl)
theorem dL_law_882 : decode cL_law 882 = .ok (.invokevirtual 97, 3) := dk_182 0 97 (dk_at dksL_law_25 11 rfl rfl)
theorem dL_law_885 : decode cL_law 885 = .ok (.aload_n 2, 1) := dk_44 (dk_at dksL_law_25 14 rfl rfl)
theorem dL_law_886 : decode cL_law 886 = .ok (.aload_n 0, 1) := dk_42 (dk_at dksL_law_25 15 rfl rfl)
theorem dL_law_887 : decode cL_law 887 = .ok (.iload_n 3, 1) := dk_29 (dk_at dksL_law_25 16 rfl rfl)
theorem dL_law_888 : decode cL_law 888 = .ok (.iconst 1, 1) := dk_4 (dk_at dksL_law_25 17 rfl rfl)
theorem dL_law_889 : decode cL_law 889 = .ok (.iadd, 1) := dk_96 (dk_at dksL_law_25 18 rfl rfl)
theorem dL_law_890 : decode cL_law 890 = .ok (.iaload, 1) := dk_46 (dk_at dksL_law_25 19 rfl rfl)
theorem dL_law_891 : decode cL_law 891 = .ok (.invokevirtual 100, 3) := dk_182 0 100 (dk_at dksL_law_25 20 rfl rfl)
theorem dL_law_894 : decode cL_law 894 = .ok (.if_icmp .eq 1684, 3) := dk_159 6 148 (dk_at dksL_law_26 0 rfl rfl)
theorem dL_law_897 : decode cL_law 897 = .ok (.iconst 0, 1) := dk_3 (dk_at dksL_law_26 3 rfl rfl)
theorem dL_law_898 : decode cL_law 898 = .ok (.ireturn, 1) := dk_172 (dk_at dksL_law_26 4 rfl rfl)
theorem dL_law_899 : decode cL_law 899 = .ok (.aload_n 1, 1) := dk_43 (dk_at dksL_law_26 5 rfl rfl)
theorem dL_law_900 : decode cL_law 900 = .ok (.aload_n 0, 1) := dk_42 (dk_at dksL_law_26 6 rfl rfl)
theorem dL_law_901 : decode cL_law 901 = .ok (.iload_n 3, 1) := dk_29 (dk_at dksL_law_26 7 rfl rfl)
theorem dL_law_902 : decode cL_law 902 = .ok (.iconst 1, 1) := dk_4 (dk_at dksL_law_26 8 rfl rfl)
theorem dL_law_903 : decode cL_law 903 = .ok (.iadd, 1) := dk_96 (dk_at dksL_law_26 9 rfl rfl)
theorem dL_law_904 : decode cL_law 904 = .ok (.iaload, 1) := dk_46 (dk_at dksL_law_26 10 rfl rfl)
theorem dL_law_905 : decode cL_law 905 = .ok (.invokevirtual 101, 3) := dk_182 0 101 (dk_at dksL_law_26 11 rfl rfl)
theorem dL_law_908 : decode cL_law 908 = .ok (.aload_n 2, 1) := dk_44 (dk_at dksL_law_26 14 rfl rfl)
theorem dL_law_909 : decode cL_law 909 = .ok (.aload_n 0, 1) := dk_42 (dk_at dksL_law_26 15 rfl rfl)
theorem dL_law_910 : decode cL_law 910 = .ok (.iload_n 3, 1) := dk_29 (dk_at dksL_law_26 16 rfl rfl)
theorem dL_law_911 : decode cL_law 911 = .ok (.iconst 1, 1) := dk_4 (dk_at dksL_law_26 17 rfl rfl)
theorem dL_law_912 : decode cL_law 912 = .ok (.iadd, 1) := dk_96 (dk_at dksL_law_26 18 rfl rfl)
theorem dL_law_913 : decode cL_law 913 = .ok (.iaload, 1) := dk_46 (dk_at dksL_law_26 19 rfl rfl)
theorem dL_law_914 : decode cL_law 914 = .ok (.invokevirtual 104, 3) := dk_182 0 104 (dk_at dksL_law_26 20 rfl rfl)
theorem dL_law_917 : decode cL_law 917 = .ok (.if_icmp .eq 1661, 3) := dk_159 6 125 (dk_at dksL_law_27 0 rfl rfl)
theorem dL_law_920 : decode cL_law 920 = .ok (.iconst 0, 1) := dk_3 (dk_at dksL_law_27 3 rfl rfl)
theorem dL_law_921 : decode cL_law 921 = .ok (.ireturn, 1) := dk_172 (dk_at dksL_law_27 4 rfl rfl)
theorem dL_law_922 : decode cL_law 922 = .ok (.aload_n 1, 1) := dk_43 (dk_at dksL_law_27 5 rfl rfl)
theorem dL_law_923 : decode cL_law 923 = .ok (.aload_n 0, 1) := dk_42 (dk_at dksL_law_27 6 rfl rfl)
theorem dL_law_924 : decode cL_law 924 = .ok (.iload_n 3, 1) := dk_29 (dk_at dksL_law_27 7 rfl rfl)
theorem dL_law_925 : decode cL_law 925 = .ok (.iconst 1, 1) := dk_4 (dk_at dksL_law_27 8 rfl rfl)
theorem dL_law_926 : decode cL_law 926 = .ok (.iadd, 1) := dk_96 (dk_at dksL_law_27 9 rfl rfl)
theorem dL_law_927 : decode cL_law 927 = .ok (.iaload, 1) := dk_46 (dk_at dksL_law_27 10 rfl rfl)
theorem dL_law_928 : decode cL_law 928 = .ok (.aload_n 0, 1) := dk_42 (dk_at dksL_law_27 11 rfl rfl)
theorem dL_law_929 : decode cL_law 929 = .ok (.iload_n 3, 1) := dk_29 (dk_at dksL_law_27 12 rfl rfl)
theorem dL_law_930 : decode cL_law 930 = .ok (.iconst 2, 1) := dk_5 (dk_at dksL_law_27 13 rfl rfl)
theorem dL_law_931 : decode cL_law 931 = .ok (.iadd, 1) := dk_96 (dk_at dksL_law_27 14 rfl rfl)
theorem dL_law_932 : decode cL_law 932 = .ok (.iaload, 1) := dk_46 (dk_at dksL_law_27 15 rfl rfl)
theorem dL_law_933 : decode cL_law 933 = .ok (.invokevirtual 105, 3) := dk_182 0 105 (dk_at dksL_law_27 16 rfl rfl)
theorem dL_law_936 : decode cL_law 936 = .ok (.aload_n 2, 1) := dk_44 (dk_at dksL_law_27 19 rfl rfl)
theorem dL_law_937 : decode cL_law 937 = .ok (.aload_n 0, 1) := dk_42 (dk_at dksL_law_27 20 rfl rfl)
theorem dL_law_938 : decode cL_law 938 = .ok (.iload_n 3, 1) := dk_29 (dk_at dksL_law_27 21 rfl rfl)
theorem dL_law_939 : decode cL_law 939 = .ok (.iconst 1, 1) := dk_4 (dk_at dksL_law_27 22 rfl rfl)
theorem dL_law_940 : decode cL_law 940 = .ok (.iadd, 1) := dk_96 (dk_at dksL_law_27 23 rfl rfl)
theorem dL_law_941 : decode cL_law 941 = .ok (.iaload, 1) := dk_46 (dk_at dksL_law_28 0 rfl rfl)
theorem dL_law_942 : decode cL_law 942 = .ok (.aload_n 0, 1) := dk_42 (dk_at dksL_law_28 1 rfl rfl)
theorem dL_law_943 : decode cL_law 943 = .ok (.iload_n 3, 1) := dk_29 (dk_at dksL_law_28 2 rfl rfl)
theorem dL_law_944 : decode cL_law 944 = .ok (.iconst 2, 1) := dk_5 (dk_at dksL_law_28 3 rfl rfl)
theorem dL_law_945 : decode cL_law 945 = .ok (.iadd, 1) := dk_96 (dk_at dksL_law_28 4 rfl rfl)
theorem dL_law_946 : decode cL_law 946 = .ok (.iaload, 1) := dk_46 (dk_at dksL_law_28 5 rfl rfl)
theorem dL_law_947 : decode cL_law 947 = .ok (.invokevirtual 108, 3) := dk_182 0 108 (dk_at dksL_law_28 6 rfl rfl)
theorem dL_law_950 : decode cL_law 950 = .ok (.if_icmp .eq 1628, 3) := dk_159 6 92 (dk_at dksL_law_28 9 rfl rfl)
theorem dL_law_953 : decode cL_law 953 = .ok (.iconst 0, 1) := dk_3 (dk_at dksL_law_28 12 rfl rfl)
theorem dL_law_954 : decode cL_law 954 = .ok (.ireturn, 1) := dk_172 (dk_at dksL_law_28 13 rfl rfl)
theorem dL_law_955 : decode cL_law 955 = .ok (.aload_n 1, 1) := dk_43 (dk_at dksL_law_28 14 rfl rfl)
theorem dL_law_956 : decode cL_law 956 = .ok (.aload_n 0, 1) := dk_42 (dk_at dksL_law_28 15 rfl rfl)
theorem dL_law_957 : decode cL_law 957 = .ok (.iload_n 3, 1) := dk_29 (dk_at dksL_law_28 16 rfl rfl)
theorem dL_law_958 : decode cL_law 958 = .ok (.iconst 1, 1) := dk_4 (dk_at dksL_law_28 17 rfl rfl)
theorem dL_law_959 : decode cL_law 959 = .ok (.iadd, 1) := dk_96 (dk_at dksL_law_28 18 rfl rfl)
theorem dL_law_960 : decode cL_law 960 = .ok (.iaload, 1) := dk_46 (dk_at dksL_law_28 19 rfl rfl)
theorem dL_law_961 : decode cL_law 961 = .ok (.aload_n 0, 1) := dk_42 (dk_at dksL_law_28 20 rfl rfl)
theorem dL_law_962 : decode cL_law 962 = .ok (.iload_n 3, 1) := dk_29 (dk_at dksL_law_28 21 rfl rfl)
theorem dL_law_963 : decode cL_law 963 = .ok (.iconst 2, 1) := dk_5 (dk_at dksL_law_28 22 rfl rfl)
theorem dL_law_964 : decode cL_law 964 = .ok (.iadd, 1) := dk_96 (dk_at dksL_law_28 23 rfl rfl)
theorem dL_law_965 : decode cL_law 965 = .ok (.iaload, 1) := dk_46 (dk_at dksL_law_29 0 rfl rfl)
theorem dL_law_966 : decode cL_law 966 = .ok (.invokevirtual 109, 3) := dk_182 0 109 (dk_at dksL_law_29 1 rfl rfl)
theorem dL_law_969 : decode cL_law 969 = .ok (.aload_n 2, 1) := dk_44 (dk_at dksL_law_29 4 rfl rfl)
theorem dL_law_970 : decode cL_law 970 = .ok (.aload_n 0, 1) := dk_42 (dk_at dksL_law_29 5 rfl rfl)
theorem dL_law_971 : decode cL_law 971 = .ok (.iload_n 3, 1) := dk_29 (dk_at dksL_law_29 6 rfl rfl)
theorem dL_law_972 : decode cL_law 972 = .ok (.iconst 1, 1) := dk_4 (dk_at dksL_law_29 7 rfl rfl)
theorem dL_law_973 : decode cL_law 973 = .ok (.iadd, 1) := dk_96 (dk_at dksL_law_29 8 rfl rfl)
theorem dL_law_974 : decode cL_law 974 = .ok (.iaload, 1) := dk_46 (dk_at dksL_law_29 9 rfl rfl)
theorem dL_law_975 : decode cL_law 975 = .ok (.aload_n 0, 1) := dk_42 (dk_at dksL_law_29 10 rfl rfl)
theorem dL_law_976 : decode cL_law 976 = .ok (.iload_n 3, 1) := dk_29 (dk_at dksL_law_29 11 rfl rfl)
theorem dL_law_977 : decode cL_law 977 = .ok (.iconst 2, 1) := dk_5 (dk_at dksL_law_29 12 rfl rfl)
theorem dL_law_978 : decode cL_law 978 = .ok (.iadd, 1) := dk_96 (dk_at dksL_law_29 13 rfl rfl)
theorem dL_law_979 : decode cL_law 979 = .ok (.iaload, 1) := dk_46 (dk_at dksL_law_29 14 rfl rfl)
theorem dL_law_980 : decode cL_law 980 = .ok (.invokevirtual 112, 3) := dk_182 0 112 (dk_at dksL_law_29 15 rfl rfl)
theorem dL_law_983 : decode cL_law 983 = .ok (.if_icmp .eq 1595, 3) := dk_159 6 59 (dk_at dksL_law_29 18 rfl rfl)
theorem dL_law_986 : decode cL_law 986 = .ok (.iconst 0, 1) := dk_3 (dk_at dksL_law_29 21 rfl rfl)
theorem dL_law_987 : decode cL_law 987 = .ok (.ireturn, 1) := dk_172 (dk_at dksL_law_29 22 rfl rfl)
theorem dL_law_988 : decode cL_law 988 = .ok (.aload_n 1, 1) := dk_43 (dk_at dksL_law_29 23 rfl rfl)
theorem dL_law_989 : decode cL_law 989 = .ok (.invokevirtual 113, 3) := dk_182 0 113 (dk_at dksL_law_30 0 rfl rfl)
theorem dL_law_992 : decode cL_law 992 = .ok (.aload_n 2, 1) := dk_44 (dk_at dksL_law_30 3 rfl rfl)
theorem dL_law_993 : decode cL_law 993 = .ok (.invokevirtual 116, 3) := dk_182 0 116 (dk_at dksL_law_30 4 rfl rfl)
theorem dL_law_996 : decode cL_law 996 = .ok (.if_icmp .eq 1582, 3) := dk_159 6 46 (dk_at dksL_law_30 7 rfl rfl)
theorem dL_law_999 : decode cL_law 999 = .ok (.iconst 0, 1) := dk_3 (dk_at dksL_law_30 10 rfl rfl)
theorem dL_law_1000 : decode cL_law 1000 = .ok (.ireturn, 1) := dk_172 (dk_at dksL_law_30 11 rfl rfl)
theorem dL_law_1001 : decode cL_law 1001 = .ok (.aload_n 1, 1) := dk_43 (dk_at dksL_law_30 12 rfl rfl)
theorem dL_law_1002 : decode cL_law 1002 = .ok (.invokevirtual 117, 3) := dk_182 0 117 (dk_at dksL_law_30 13 rfl rfl)
theorem dL_law_1005 : decode cL_law 1005 = .ok (.aload_n 2, 1) := dk_44 (dk_at dksL_law_30 16 rfl rfl)
theorem dL_law_1006 : decode cL_law 1006 = .ok (.invokevirtual 120, 3) := dk_182 0 120 (dk_at dksL_law_30 17 rfl rfl)
theorem dL_law_1009 : decode cL_law 1009 = .ok (.if_icmp .eq 1569, 3) := dk_159 6 33 (dk_at dksL_law_30 20 rfl rfl)
theorem dL_law_1012 : decode cL_law 1012 = .ok (.iconst 0, 1) := dk_3 (dk_at dksL_law_30 23 rfl rfl)
theorem dL_law_1013 : decode cL_law 1013 = .ok (.ireturn, 1) := dk_172 (dk_at dksL_law_31 0 rfl rfl)
theorem dL_law_1014 : decode cL_law 1014 = .ok (.aload_n 1, 1) := dk_43 (dk_at dksL_law_31 1 rfl rfl)
theorem dL_law_1015 : decode cL_law 1015 = .ok (.aload_n 0, 1) := dk_42 (dk_at dksL_law_31 2 rfl rfl)
theorem dL_law_1016 : decode cL_law 1016 = .ok (.iload_n 3, 1) := dk_29 (dk_at dksL_law_31 3 rfl rfl)
theorem dL_law_1017 : decode cL_law 1017 = .ok (.iconst 1, 1) := dk_4 (dk_at dksL_law_31 4 rfl rfl)
theorem dL_law_1018 : decode cL_law 1018 = .ok (.iadd, 1) := dk_96 (dk_at dksL_law_31 5 rfl rfl)
theorem dL_law_1019 : decode cL_law 1019 = .ok (.iaload, 1) := dk_46 (dk_at dksL_law_31 6 rfl rfl)
theorem dL_law_1020 : decode cL_law 1020 = .ok (.aload_n 0, 1) := dk_42 (dk_at dksL_law_31 7 rfl rfl)
theorem dL_law_1021 : decode cL_law 1021 = .ok (.iload_n 3, 1) := dk_29 (dk_at dksL_law_31 8 rfl rfl)
theorem dL_law_1022 : decode cL_law 1022 = .ok (.iconst 2, 1) := dk_5 (dk_at dksL_law_31 9 rfl rfl)
theorem dL_law_1023 : decode cL_law 1023 = .ok (.iadd, 1) := dk_96 (dk_at dksL_law_31 10 rfl rfl)
theorem dL_law_1024 : decode cL_law 1024 = .ok (.iaload, 1) := dk_46 (dk_at dksL_law_31 11 rfl rfl)
theorem dL_law_1025 : decode cL_law 1025 = .ok (.invokevirtual 121, 3) := dk_182 0 121 (dk_at dksL_law_31 12 rfl rfl)
theorem dL_law_1028 : decode cL_law 1028 = .ok (.aload_n 2, 1) := dk_44 (dk_at dksL_law_31 15 rfl rfl)
theorem dL_law_1029 : decode cL_law 1029 = .ok (.aload_n 0, 1) := dk_42 (dk_at dksL_law_31 16 rfl rfl)
theorem dL_law_1030 : decode cL_law 1030 = .ok (.iload_n 3, 1) := dk_29 (dk_at dksL_law_31 17 rfl rfl)
theorem dL_law_1031 : decode cL_law 1031 = .ok (.iconst 1, 1) := dk_4 (dk_at dksL_law_31 18 rfl rfl)
theorem dL_law_1032 : decode cL_law 1032 = .ok (.iadd, 1) := dk_96 (dk_at dksL_law_31 19 rfl rfl)
theorem dL_law_1033 : decode cL_law 1033 = .ok (.iaload, 1) := dk_46 (dk_at dksL_law_31 20 rfl rfl)
theorem dL_law_1034 : decode cL_law 1034 = .ok (.aload_n 0, 1) := dk_42 (dk_at dksL_law_31 21 rfl rfl)
theorem dL_law_1035 : decode cL_law 1035 = .ok (.iload_n 3, 1) := dk_29 (dk_at dksL_law_31 22 rfl rfl)
theorem dL_law_1036 : decode cL_law 1036 = .ok (.iconst 2, 1) := dk_5 (dk_at dksL_law_31 23 rfl rfl)
theorem dL_law_1037 : decode cL_law 1037 = .ok (.iadd, 1) := dk_96 (dk_at dksL_law_32 0 rfl rfl)
theorem dL_law_1038 : decode cL_law 1038 = .ok (.iaload, 1) := dk_46 (dk_at dksL_law_32 1 rfl rfl)
theorem dL_law_1039 : decode cL_law 1039 = .ok (.invokevirtual 124, 3) := dk_182 0 124 (dk_at dksL_law_32 2 rfl rfl)
theorem dL_law_1042 : decode cL_law 1042 = .ok (.if_icmp .eq 1536, 3) := dk_159 6 0 (dk_at dksL_law_32 5 rfl rfl)
theorem dL_law_1045 : decode cL_law 1045 = .ok (.iconst 0, 1) := dk_3 (dk_at dksL_law_32 8 rfl rfl)
theorem dL_law_1046 : decode cL_law 1046 = .ok (.ireturn, 1) := dk_172 (dk_at dksL_law_32 9 rfl rfl)
theorem dL_law_1047 : decode cL_law 1047 = .ok (.aload_n 1, 1) := dk_43 (dk_at dksL_law_32 10 rfl rfl)
theorem dL_law_1048 : decode cL_law 1048 = .ok (.aload_n 0, 1) := dk_42 (dk_at dksL_law_32 11 rfl rfl)
theorem dL_law_1049 : decode cL_law 1049 = .ok (.iload_n 3, 1) := dk_29 (dk_at dksL_law_32 12 rfl rfl)
theorem dL_law_1050 : decode cL_law 1050 = .ok (.iconst 1, 1) := dk_4 (dk_at dksL_law_32 13 rfl rfl)
theorem dL_law_1051 : decode cL_law 1051 = .ok (.iadd, 1) := dk_96 (dk_at dksL_law_32 14 rfl rfl)
theorem dL_law_1052 : decode cL_law 1052 = .ok (.iaload, 1) := dk_46 (dk_at dksL_law_32 15 rfl rfl)
theorem dL_law_1053 : decode cL_law 1053 = .ok (.invokevirtual 125, 3) := dk_182 0 125 (dk_at dksL_law_32 16 rfl rfl)
theorem dL_law_1056 : decode cL_law 1056 = .ok (.aload_n 2, 1) := dk_44 (dk_at dksL_law_32 19 rfl rfl)
theorem dL_law_1057 : decode cL_law 1057 = .ok (.aload_n 0, 1) := dk_42 (dk_at dksL_law_32 20 rfl rfl)
theorem dL_law_1058 : decode cL_law 1058 = .ok (.iload_n 3, 1) := dk_29 (dk_at dksL_law_32 21 rfl rfl)
theorem dL_law_1059 : decode cL_law 1059 = .ok (.iconst 1, 1) := dk_4 (dk_at dksL_law_32 22 rfl rfl)
theorem dL_law_1060 : decode cL_law 1060 = .ok (.iadd, 1) := dk_96 (dk_at dksL_law_32 23 rfl rfl)
theorem dL_law_1061 : decode cL_law 1061 = .ok (.iaload, 1) := dk_46 (dk_at dksL_law_33 0 rfl rfl)
theorem dL_law_1062 : decode cL_law 1062 = .ok (.invokevirtual 128, 3) := dk_182 0 128 (dk_at dksL_law_33 1 rfl rfl)
theorem dL_law_1065 : decode cL_law 1065 = .ok (.if_icmp .eq 1513, 3) := dk_159 5 233 (dk_at dksL_law_33 4 rfl rfl)
theorem dL_law_1068 : decode cL_law 1068 = .ok (.iconst 0, 1) := dk_3 (dk_at dksL_law_33 7 rfl rfl)
theorem dL_law_1069 : decode cL_law 1069 = .ok (.ireturn, 1) := dk_172 (dk_at dksL_law_33 8 rfl rfl)
theorem dL_law_1070 : decode cL_law 1070 = .ok (.aload_n 1, 1) := dk_43 (dk_at dksL_law_33 9 rfl rfl)
theorem dL_law_1071 : decode cL_law 1071 = .ok (.aload_n 0, 1) := dk_42 (dk_at dksL_law_33 10 rfl rfl)
theorem dL_law_1072 : decode cL_law 1072 = .ok (.iload_n 3, 1) := dk_29 (dk_at dksL_law_33 11 rfl rfl)
theorem dL_law_1073 : decode cL_law 1073 = .ok (.iconst 1, 1) := dk_4 (dk_at dksL_law_33 12 rfl rfl)
theorem dL_law_1074 : decode cL_law 1074 = .ok (.iadd, 1) := dk_96 (dk_at dksL_law_33 13 rfl rfl)
theorem dL_law_1075 : decode cL_law 1075 = .ok (.iaload, 1) := dk_46 (dk_at dksL_law_33 14 rfl rfl)
theorem dL_law_1076 : decode cL_law 1076 = .ok (.invokevirtual 129, 3) := dk_182 0 129 (dk_at dksL_law_33 15 rfl rfl)
theorem dL_law_1079 : decode cL_law 1079 = .ok (.aload_n 2, 1) := dk_44 (dk_at dksL_law_33 18 rfl rfl)
theorem dL_law_1080 : decode cL_law 1080 = .ok (.aload_n 0, 1) := dk_42 (dk_at dksL_law_33 19 rfl rfl)
theorem dL_law_1081 : decode cL_law 1081 = .ok (.iload_n 3, 1) := dk_29 (dk_at dksL_law_33 20 rfl rfl)
theorem dL_law_1082 : decode cL_law 1082 = .ok (.iconst 1, 1) := dk_4 (dk_at dksL_law_33 21 rfl rfl)
theorem dL_law_1083 : decode cL_law 1083 = .ok (.iadd, 1) := dk_96 (dk_at dksL_law_33 22 rfl rfl)
theorem dL_law_1084 : decode cL_law 1084 = .ok (.iaload, 1) := dk_46 (dk_at dksL_law_33 23 rfl rfl)
theorem dL_law_1085 : decode cL_law 1085 = .ok (.invokevirtual 132, 3) := dk_182 0 132 (dk_at dksL_law_34 0 rfl rfl)
theorem dL_law_1088 : decode cL_law 1088 = .ok (.if_icmp .eq 1490, 3) := dk_159 5 210 (dk_at dksL_law_34 3 rfl rfl)
theorem dL_law_1091 : decode cL_law 1091 = .ok (.iconst 0, 1) := dk_3 (dk_at dksL_law_34 6 rfl rfl)
theorem dL_law_1092 : decode cL_law 1092 = .ok (.ireturn, 1) := dk_172 (dk_at dksL_law_34 7 rfl rfl)
theorem dL_law_1093 : decode cL_law 1093 = .ok (.aload_n 1, 1) := dk_43 (dk_at dksL_law_34 8 rfl rfl)
theorem dL_law_1094 : decode cL_law 1094 = .ok (.aload_n 0, 1) := dk_42 (dk_at dksL_law_34 9 rfl rfl)
theorem dL_law_1095 : decode cL_law 1095 = .ok (.iload_n 3, 1) := dk_29 (dk_at dksL_law_34 10 rfl rfl)
theorem dL_law_1096 : decode cL_law 1096 = .ok (.iconst 1, 1) := dk_4 (dk_at dksL_law_34 11 rfl rfl)
theorem dL_law_1097 : decode cL_law 1097 = .ok (.iadd, 1) := dk_96 (dk_at dksL_law_34 12 rfl rfl)
theorem dL_law_1098 : decode cL_law 1098 = .ok (.iaload, 1) := dk_46 (dk_at dksL_law_34 13 rfl rfl)
theorem dL_law_1099 : decode cL_law 1099 = .ok (.aload_n 0, 1) := dk_42 (dk_at dksL_law_34 14 rfl rfl)
theorem dL_law_1100 : decode cL_law 1100 = .ok (.iload_n 3, 1) := dk_29 (dk_at dksL_law_34 15 rfl rfl)
theorem dL_law_1101 : decode cL_law 1101 = .ok (.iconst 2, 1) := dk_5 (dk_at dksL_law_34 16 rfl rfl)
theorem dL_law_1102 : decode cL_law 1102 = .ok (.iadd, 1) := dk_96 (dk_at dksL_law_34 17 rfl rfl)
theorem dL_law_1103 : decode cL_law 1103 = .ok (.iaload, 1) := dk_46 (dk_at dksL_law_34 18 rfl rfl)
theorem dL_law_1104 : decode cL_law 1104 = .ok (.aload_n 0, 1) := dk_42 (dk_at dksL_law_34 19 rfl rfl)
theorem dL_law_1105 : decode cL_law 1105 = .ok (.iload_n 3, 1) := dk_29 (dk_at dksL_law_34 20 rfl rfl)
theorem dL_law_1106 : decode cL_law 1106 = .ok (.iconst 3, 1) := dk_6 (dk_at dksL_law_34 21 rfl rfl)
theorem dL_law_1107 : decode cL_law 1107 = .ok (.iadd, 1) := dk_96 (dk_at dksL_law_34 22 rfl rfl)
theorem dL_law_1108 : decode cL_law 1108 = .ok (.iaload, 1) := dk_46 (dk_at dksL_law_34 23 rfl rfl)
theorem dL_law_1109 : decode cL_law 1109 = .ok (.aload_n 0, 1) := dk_42 (dk_at dksL_law_35 0 rfl rfl)
theorem dL_law_1110 : decode cL_law 1110 = .ok (.iload_n 3, 1) := dk_29 (dk_at dksL_law_35 1 rfl rfl)
theorem dL_law_1111 : decode cL_law 1111 = .ok (.iconst 4, 1) := dk_7 (dk_at dksL_law_35 2 rfl rfl)
theorem dL_law_1112 : decode cL_law 1112 = .ok (.iadd, 1) := dk_96 (dk_at dksL_law_35 3 rfl rfl)
theorem dL_law_1113 : decode cL_law 1113 = .ok (.iaload, 1) := dk_46 (dk_at dksL_law_35 4 rfl rfl)
theorem dL_law_1114 : decode cL_law 1114 = .ok (.invokevirtual 133, 3) := dk_182 0 133 (dk_at dksL_law_35 5 rfl rfl)
theorem dL_law_1117 : decode cL_law 1117 = .ok (.aload_n 2, 1) := dk_44 (dk_at dksL_law_35 8 rfl rfl)
theorem dL_law_1118 : decode cL_law 1118 = .ok (.aload_n 0, 1) := dk_42 (dk_at dksL_law_35 9 rfl rfl)
theorem dL_law_1119 : decode cL_law 1119 = .ok (.iload_n 3, 1) := dk_29 (dk_at dksL_law_35 10 rfl rfl)
theorem dL_law_1120 : decode cL_law 1120 = .ok (.iconst 1, 1) := dk_4 (dk_at dksL_law_35 11 rfl rfl)
theorem dL_law_1121 : decode cL_law 1121 = .ok (.iadd, 1) := dk_96 (dk_at dksL_law_35 12 rfl rfl)
theorem dL_law_1122 : decode cL_law 1122 = .ok (.iaload, 1) := dk_46 (dk_at dksL_law_35 13 rfl rfl)
theorem dL_law_1123 : decode cL_law 1123 = .ok (.aload_n 0, 1) := dk_42 (dk_at dksL_law_35 14 rfl rfl)
theorem dL_law_1124 : decode cL_law 1124 = .ok (.iload_n 3, 1) := dk_29 (dk_at dksL_law_35 15 rfl rfl)
theorem dL_law_1125 : decode cL_law 1125 = .ok (.iconst 2, 1) := dk_5 (dk_at dksL_law_35 16 rfl rfl)
theorem dL_law_1126 : decode cL_law 1126 = .ok (.iadd, 1) := dk_96 (dk_at dksL_law_35 17 rfl rfl)
theorem dL_law_1127 : decode cL_law 1127 = .ok (.iaload, 1) := dk_46 (dk_at dksL_law_35 18 rfl rfl)
theorem dL_law_1128 : decode cL_law 1128 = .ok (.aload_n 0, 1) := dk_42 (dk_at dksL_law_35 19 rfl rfl)
theorem dL_law_1129 : decode cL_law 1129 = .ok (.iload_n 3, 1) := dk_29 (dk_at dksL_law_35 20 rfl rfl)
theorem dL_law_1130 : decode cL_law 1130 = .ok (.iconst 3, 1) := dk_6 (dk_at dksL_law_35 21 rfl rfl)
theorem dL_law_1131 : decode cL_law 1131 = .ok (.iadd, 1) := dk_96 (dk_at dksL_law_35 22 rfl rfl)
theorem dL_law_1132 : decode cL_law 1132 = .ok (.iaload, 1) := dk_46 (dk_at dksL_law_35 23 rfl rfl)
theorem dL_law_1133 : decode cL_law 1133 = .ok (.aload_n 0, 1) := dk_42 (dk_at dksL_law_36 0 rfl rfl)
theorem dL_law_1134 : decode cL_law 1134 = .ok (.iload_n 3, 1) := dk_29 (dk_at dksL_law_36 1 rfl rfl)
theorem dL_law_1135 : decode cL_law 1135 = .ok (.iconst 4, 1) := dk_7 (dk_at dksL_law_36 2 rfl rfl)
theorem dL_law_1136 : decode cL_law 1136 = .ok (.iadd, 1) := dk_96 (dk_at dksL_law_36 3 rfl rfl)
theorem dL_law_1137 : decode cL_law 1137 = .ok (.iaload, 1) := dk_46 (dk_at dksL_law_36 4 rfl rfl)
theorem dL_law_1138 : decode cL_law 1138 = .ok (.invokevirtual 137, 3) := dk_182 0 137 (dk_at dksL_law_36 5 rfl rfl)
theorem dL_law_1141 : decode cL_law 1141 = .ok (.if_icmp .eq 1437, 3) := dk_159 5 157 (dk_at dksL_law_36 8 rfl rfl)
theorem dL_law_1144 : decode cL_law 1144 = .ok (.iconst 0, 1) := dk_3 (dk_at dksL_law_36 11 rfl rfl)
theorem dL_law_1145 : decode cL_law 1145 = .ok (.ireturn, 1) := dk_172 (dk_at dksL_law_36 12 rfl rfl)
theorem dL_law_1146 : decode cL_law 1146 = .ok (.aload_n 1, 1) := dk_43 (dk_at dksL_law_36 13 rfl rfl)
theorem dL_law_1147 : decode cL_law 1147 = .ok (.aload_n 0, 1) := dk_42 (dk_at dksL_law_36 14 rfl rfl)
theorem dL_law_1148 : decode cL_law 1148 = .ok (.iload_n 3, 1) := dk_29 (dk_at dksL_law_36 15 rfl rfl)
theorem dL_law_1149 : decode cL_law 1149 = .ok (.iconst 1, 1) := dk_4 (dk_at dksL_law_36 16 rfl rfl)
theorem dL_law_1150 : decode cL_law 1150 = .ok (.iadd, 1) := dk_96 (dk_at dksL_law_36 17 rfl rfl)
theorem dL_law_1151 : decode cL_law 1151 = .ok (.iaload, 1) := dk_46 (dk_at dksL_law_36 18 rfl rfl)
theorem dL_law_1152 : decode cL_law 1152 = .ok (.aload_n 0, 1) := dk_42 (dk_at dksL_law_36 19 rfl rfl)
theorem dL_law_1153 : decode cL_law 1153 = .ok (.iload_n 3, 1) := dk_29 (dk_at dksL_law_36 20 rfl rfl)
theorem dL_law_1154 : decode cL_law 1154 = .ok (.iconst 2, 1) := dk_5 (dk_at dksL_law_36 21 rfl rfl)
theorem dL_law_1155 : decode cL_law 1155 = .ok (.iadd, 1) := dk_96 (dk_at dksL_law_36 22 rfl rfl)
theorem dL_law_1156 : decode cL_law 1156 = .ok (.iaload, 1) := dk_46 (dk_at dksL_law_36 23 rfl rfl)
theorem dL_law_1157 : decode cL_law 1157 = .ok (.invokevirtual 138, 3) := dk_182 0 138 (dk_at dksL_law_37 0 rfl rfl)
theorem dL_law_1160 : decode cL_law 1160 = .ok (.aload_n 2, 1) := dk_44 (dk_at dksL_law_37 3 rfl rfl)
theorem dL_law_1161 : decode cL_law 1161 = .ok (.aload_n 0, 1) := dk_42 (dk_at dksL_law_37 4 rfl rfl)
theorem dL_law_1162 : decode cL_law 1162 = .ok (.iload_n 3, 1) := dk_29 (dk_at dksL_law_37 5 rfl rfl)
theorem dL_law_1163 : decode cL_law 1163 = .ok (.iconst 1, 1) := dk_4 (dk_at dksL_law_37 6 rfl rfl)
theorem dL_law_1164 : decode cL_law 1164 = .ok (.iadd, 1) := dk_96 (dk_at dksL_law_37 7 rfl rfl)
theorem dL_law_1165 : decode cL_law 1165 = .ok (.iaload, 1) := dk_46 (dk_at dksL_law_37 8 rfl rfl)
theorem dL_law_1166 : decode cL_law 1166 = .ok (.aload_n 0, 1) := dk_42 (dk_at dksL_law_37 9 rfl rfl)
theorem dL_law_1167 : decode cL_law 1167 = .ok (.iload_n 3, 1) := dk_29 (dk_at dksL_law_37 10 rfl rfl)
theorem dL_law_1168 : decode cL_law 1168 = .ok (.iconst 2, 1) := dk_5 (dk_at dksL_law_37 11 rfl rfl)
theorem dL_law_1169 : decode cL_law 1169 = .ok (.iadd, 1) := dk_96 (dk_at dksL_law_37 12 rfl rfl)
theorem dL_law_1170 : decode cL_law 1170 = .ok (.iaload, 1) := dk_46 (dk_at dksL_law_37 13 rfl rfl)
theorem dL_law_1171 : decode cL_law 1171 = .ok (.invokevirtual 141, 3) := dk_182 0 141 (dk_at dksL_law_37 14 rfl rfl)
theorem dL_law_1174 : decode cL_law 1174 = .ok (.if_icmp .eq 1404, 3) := dk_159 5 124 (dk_at dksL_law_37 17 rfl rfl)
theorem dL_law_1177 : decode cL_law 1177 = .ok (.iconst 0, 1) := dk_3 (dk_at dksL_law_37 20 rfl rfl)
theorem dL_law_1178 : decode cL_law 1178 = .ok (.ireturn, 1) := dk_172 (dk_at dksL_law_37 21 rfl rfl)
theorem dL_law_1179 : decode cL_law 1179 = .ok (.aload_n 1, 1) := dk_43 (dk_at dksL_law_37 22 rfl rfl)
theorem dL_law_1180 : decode cL_law 1180 = .ok (.aload_n 0, 1) := dk_42 (dk_at dksL_law_37 23 rfl rfl)
theorem dL_law_1181 : decode cL_law 1181 = .ok (.iload_n 3, 1) := dk_29 (dk_at dksL_law_38 0 rfl rfl)
theorem dL_law_1182 : decode cL_law 1182 = .ok (.iconst 1, 1) := dk_4 (dk_at dksL_law_38 1 rfl rfl)
theorem dL_law_1183 : decode cL_law 1183 = .ok (.iadd, 1) := dk_96 (dk_at dksL_law_38 2 rfl rfl)
theorem dL_law_1184 : decode cL_law 1184 = .ok (.iaload, 1) := dk_46 (dk_at dksL_law_38 3 rfl rfl)
theorem dL_law_1185 : decode cL_law 1185 = .ok (.aload_n 0, 1) := dk_42 (dk_at dksL_law_38 4 rfl rfl)
theorem dL_law_1186 : decode cL_law 1186 = .ok (.iload_n 3, 1) := dk_29 (dk_at dksL_law_38 5 rfl rfl)
theorem dL_law_1187 : decode cL_law 1187 = .ok (.iconst 2, 1) := dk_5 (dk_at dksL_law_38 6 rfl rfl)
theorem dL_law_1188 : decode cL_law 1188 = .ok (.iadd, 1) := dk_96 (dk_at dksL_law_38 7 rfl rfl)
theorem dL_law_1189 : decode cL_law 1189 = .ok (.iaload, 1) := dk_46 (dk_at dksL_law_38 8 rfl rfl)
theorem dL_law_1190 : decode cL_law 1190 = .ok (.invokevirtual 142, 3) := dk_182 0 142 (dk_at dksL_law_38 9 rfl rfl)
theorem dL_law_1193 : decode cL_law 1193 = .ok (.aload_n 2, 1) := dk_44 (dk_at dksL_law_38 12 rfl rfl)
theorem dL_law_1194 : decode cL_law 1194 = .ok (.aload_n 0, 1) := dk_42 (dk_at dksL_law_38 13 rfl rfl)
theorem dL_law_1195 : decode cL_law 1195 = .ok (.iload_n 3, 1) := dk_29 (dk_at dksL_law_38 14 rfl rfl)
theorem dL_law_1196 : decode cL_law 1196 = .ok (.iconst 1, 1) := dk_4 (dk_at dksL_law_38 15 rfl rfl)
theorem dL_law_1197 : decode cL_law 1197 = .ok (.iadd, 1) := dk_96 (dk_at dksL_law_38 16 rfl rfl)
theorem dL_law_1198 : decode cL_law 1198 = .ok (.iaload, 1) := dk_46 (dk_at dksL_law_38 17 rfl rfl)
theorem dL_law_1199 : decode cL_law 1199 = .ok (.aload_n 0, 1) := dk_42 (dk_at dksL_law_38 18 rfl rfl)
theorem dL_law_1200 : decode cL_law 1200 = .ok (.iload_n 3, 1) := dk_29 (dk_at dksL_law_38 19 rfl rfl)
theorem dL_law_1201 : decode cL_law 1201 = .ok (.iconst 2, 1) := dk_5 (dk_at dksL_law_38 20 rfl rfl)
theorem dL_law_1202 : decode cL_law 1202 = .ok (.iadd, 1) := dk_96 (dk_at dksL_law_38 21 rfl rfl)
theorem dL_law_1203 : decode cL_law 1203 = .ok (.iaload, 1) := dk_46 (dk_at dksL_law_38 22 rfl rfl)
theorem dL_law_1204 : decode cL_law 1204 = .ok (.invokevirtual 145, 3) := dk_182 0 145 (dk_at dksL_law_39 0 rfl rfl)
theorem dL_law_1207 : decode cL_law 1207 = .ok (.if_icmp .eq 1371, 3) := dk_159 5 91 (dk_at dksL_law_39 3 rfl rfl)
theorem dL_law_1210 : decode cL_law 1210 = .ok (.iconst 0, 1) := dk_3 (dk_at dksL_law_39 6 rfl rfl)
theorem dL_law_1211 : decode cL_law 1211 = .ok (.ireturn, 1) := dk_172 (dk_at dksL_law_39 7 rfl rfl)
theorem dL_law_1212 : decode cL_law 1212 = .ok (.aload_n 1, 1) := dk_43 (dk_at dksL_law_39 8 rfl rfl)
theorem dL_law_1213 : decode cL_law 1213 = .ok (.aload_n 0, 1) := dk_42 (dk_at dksL_law_39 9 rfl rfl)
theorem dL_law_1214 : decode cL_law 1214 = .ok (.iload_n 3, 1) := dk_29 (dk_at dksL_law_39 10 rfl rfl)
theorem dL_law_1215 : decode cL_law 1215 = .ok (.iconst 1, 1) := dk_4 (dk_at dksL_law_39 11 rfl rfl)
theorem dL_law_1216 : decode cL_law 1216 = .ok (.iadd, 1) := dk_96 (dk_at dksL_law_39 12 rfl rfl)
theorem dL_law_1217 : decode cL_law 1217 = .ok (.iaload, 1) := dk_46 (dk_at dksL_law_39 13 rfl rfl)
theorem dL_law_1218 : decode cL_law 1218 = .ok (.aload_n 0, 1) := dk_42 (dk_at dksL_law_39 14 rfl rfl)
theorem dL_law_1219 : decode cL_law 1219 = .ok (.iload_n 3, 1) := dk_29 (dk_at dksL_law_39 15 rfl rfl)
theorem dL_law_1220 : decode cL_law 1220 = .ok (.iconst 2, 1) := dk_5 (dk_at dksL_law_39 16 rfl rfl)
theorem dL_law_1221 : decode cL_law 1221 = .ok (.iadd, 1) := dk_96 (dk_at dksL_law_39 17 rfl rfl)
theorem dL_law_1222 : decode cL_law 1222 = .ok (.iaload, 1) := dk_46 (dk_at dksL_law_39 18 rfl rfl)
theorem dL_law_1223 : decode cL_law 1223 = .ok (.invokevirtual 146, 3) := dk_182 0 146 (dk_at dksL_law_39 19 rfl rfl)
theorem dL_law_1226 : decode cL_law 1226 = .ok (.aload_n 2, 1) := dk_44 (dk_at dksL_law_39 22 rfl rfl)
theorem dL_law_1227 : decode cL_law 1227 = .ok (.aload_n 0, 1) := dk_42 (dk_at dksL_law_39 23 rfl rfl)
theorem dL_law_1228 : decode cL_law 1228 = .ok (.iload_n 3, 1) := dk_29 (dk_at dksL_law_40 0 rfl rfl)
theorem dL_law_1229 : decode cL_law 1229 = .ok (.iconst 1, 1) := dk_4 (dk_at dksL_law_40 1 rfl rfl)
theorem dL_law_1230 : decode cL_law 1230 = .ok (.iadd, 1) := dk_96 (dk_at dksL_law_40 2 rfl rfl)
theorem dL_law_1231 : decode cL_law 1231 = .ok (.iaload, 1) := dk_46 (dk_at dksL_law_40 3 rfl rfl)
theorem dL_law_1232 : decode cL_law 1232 = .ok (.aload_n 0, 1) := dk_42 (dk_at dksL_law_40 4 rfl rfl)
theorem dL_law_1233 : decode cL_law 1233 = .ok (.iload_n 3, 1) := dk_29 (dk_at dksL_law_40 5 rfl rfl)
theorem dL_law_1234 : decode cL_law 1234 = .ok (.iconst 2, 1) := dk_5 (dk_at dksL_law_40 6 rfl rfl)
theorem dL_law_1235 : decode cL_law 1235 = .ok (.iadd, 1) := dk_96 (dk_at dksL_law_40 7 rfl rfl)
theorem dL_law_1236 : decode cL_law 1236 = .ok (.iaload, 1) := dk_46 (dk_at dksL_law_40 8 rfl rfl)
theorem dL_law_1237 : decode cL_law 1237 = .ok (.invokevirtual 149, 3) := dk_182 0 149 (dk_at dksL_law_40 9 rfl rfl)
theorem dL_law_1240 : decode cL_law 1240 = .ok (.if_icmp .eq 1338, 3) := dk_159 5 58 (dk_at dksL_law_40 12 rfl rfl)
theorem dL_law_1243 : decode cL_law 1243 = .ok (.iconst 0, 1) := dk_3 (dk_at dksL_law_40 15 rfl rfl)
theorem dL_law_1244 : decode cL_law 1244 = .ok (.ireturn, 1) := dk_172 (dk_at dksL_law_40 16 rfl rfl)
theorem dL_law_1245 : decode cL_law 1245 = .ok (.aload_n 1, 1) := dk_43 (dk_at dksL_law_40 17 rfl rfl)
theorem dL_law_1246 : decode cL_law 1246 = .ok (.aload_n 0, 1) := dk_42 (dk_at dksL_law_40 18 rfl rfl)
theorem dL_law_1247 : decode cL_law 1247 = .ok (.iload_n 3, 1) := dk_29 (dk_at dksL_law_40 19 rfl rfl)
theorem dL_law_1248 : decode cL_law 1248 = .ok (.iconst 1, 1) := dk_4 (dk_at dksL_law_40 20 rfl rfl)
theorem dL_law_1249 : decode cL_law 1249 = .ok (.iadd, 1) := dk_96 (dk_at dksL_law_40 21 rfl rfl)
theorem dL_law_1250 : decode cL_law 1250 = .ok (.iaload, 1) := dk_46 (dk_at dksL_law_40 22 rfl rfl)
theorem dL_law_1251 : decode cL_law 1251 = .ok (.aload_n 0, 1) := dk_42 (dk_at dksL_law_40 23 rfl rfl)
theorem dL_law_1252 : decode cL_law 1252 = .ok (.iload_n 3, 1) := dk_29 (dk_at dksL_law_41 0 rfl rfl)
theorem dL_law_1253 : decode cL_law 1253 = .ok (.iconst 2, 1) := dk_5 (dk_at dksL_law_41 1 rfl rfl)
theorem dL_law_1254 : decode cL_law 1254 = .ok (.iadd, 1) := dk_96 (dk_at dksL_law_41 2 rfl rfl)
theorem dL_law_1255 : decode cL_law 1255 = .ok (.iaload, 1) := dk_46 (dk_at dksL_law_41 3 rfl rfl)
theorem dL_law_1256 : decode cL_law 1256 = .ok (.invokevirtual 150, 3) := dk_182 0 150 (dk_at dksL_law_41 4 rfl rfl)
theorem dL_law_1259 : decode cL_law 1259 = .ok (.aload_n 2, 1) := dk_44 (dk_at dksL_law_41 7 rfl rfl)
theorem dL_law_1260 : decode cL_law 1260 = .ok (.aload_n 0, 1) := dk_42 (dk_at dksL_law_41 8 rfl rfl)
theorem dL_law_1261 : decode cL_law 1261 = .ok (.iload_n 3, 1) := dk_29 (dk_at dksL_law_41 9 rfl rfl)
theorem dL_law_1262 : decode cL_law 1262 = .ok (.iconst 1, 1) := dk_4 (dk_at dksL_law_41 10 rfl rfl)
theorem dL_law_1263 : decode cL_law 1263 = .ok (.iadd, 1) := dk_96 (dk_at dksL_law_41 11 rfl rfl)
theorem dL_law_1264 : decode cL_law 1264 = .ok (.iaload, 1) := dk_46 (dk_at dksL_law_41 12 rfl rfl)
theorem dL_law_1265 : decode cL_law 1265 = .ok (.aload_n 0, 1) := dk_42 (dk_at dksL_law_41 13 rfl rfl)
theorem dL_law_1266 : decode cL_law 1266 = .ok (.iload_n 3, 1) := dk_29 (dk_at dksL_law_41 14 rfl rfl)
theorem dL_law_1267 : decode cL_law 1267 = .ok (.iconst 2, 1) := dk_5 (dk_at dksL_law_41 15 rfl rfl)
theorem dL_law_1268 : decode cL_law 1268 = .ok (.iadd, 1) := dk_96 (dk_at dksL_law_41 16 rfl rfl)
theorem dL_law_1269 : decode cL_law 1269 = .ok (.iaload, 1) := dk_46 (dk_at dksL_law_41 17 rfl rfl)
theorem dL_law_1270 : decode cL_law 1270 = .ok (.invokevirtual 153, 3) := dk_182 0 153 (dk_at dksL_law_41 18 rfl rfl)
theorem dL_law_1273 : decode cL_law 1273 = .ok (.if_icmp .eq 1305, 3) := dk_159 5 25 (dk_at dksL_law_41 21 rfl rfl)
theorem dL_law_1276 : decode cL_law 1276 = .ok (.iconst 0, 1) := dk_3 (dk_at dksL_law_42 0 rfl rfl)
theorem dL_law_1277 : decode cL_law 1277 = .ok (.ireturn, 1) := dk_172 (dk_at dksL_law_42 1 rfl rfl)
theorem dL_law_1278 : decode cL_law 1278 = .ok (.aload_n 1, 1) := dk_43 (dk_at dksL_law_42 2 rfl rfl)
theorem dL_law_1279 : decode cL_law 1279 = .ok (.aload_n 0, 1) := dk_42 (dk_at dksL_law_42 3 rfl rfl)
theorem dL_law_1280 : decode cL_law 1280 = .ok (.iload_n 3, 1) := dk_29 (dk_at dksL_law_42 4 rfl rfl)
theorem dL_law_1281 : decode cL_law 1281 = .ok (.iconst 1, 1) := dk_4 (dk_at dksL_law_42 5 rfl rfl)
theorem dL_law_1282 : decode cL_law 1282 = .ok (.iadd, 1) := dk_96 (dk_at dksL_law_42 6 rfl rfl)
theorem dL_law_1283 : decode cL_law 1283 = .ok (.iaload, 1) := dk_46 (dk_at dksL_law_42 7 rfl rfl)
theorem dL_law_1284 : decode cL_law 1284 = .ok (.aload_n 0, 1) := dk_42 (dk_at dksL_law_42 8 rfl rfl)
theorem dL_law_1285 : decode cL_law 1285 = .ok (.iload_n 3, 1) := dk_29 (dk_at dksL_law_42 9 rfl rfl)
theorem dL_law_1286 : decode cL_law 1286 = .ok (.iconst 2, 1) := dk_5 (dk_at dksL_law_42 10 rfl rfl)
theorem dL_law_1287 : decode cL_law 1287 = .ok (.iadd, 1) := dk_96 (dk_at dksL_law_42 11 rfl rfl)
theorem dL_law_1288 : decode cL_law 1288 = .ok (.iaload, 1) := dk_46 (dk_at dksL_law_42 12 rfl rfl)
theorem dL_law_1289 : decode cL_law 1289 = .ok (.invokevirtual 154, 3) := dk_182 0 154 (dk_at dksL_law_42 13 rfl rfl)
theorem dL_law_1292 : decode cL_law 1292 = .ok (.aload_n 2, 1) := dk_44 (dk_at dksL_law_42 16 rfl rfl)
theorem dL_law_1293 : decode cL_law 1293 = .ok (.aload_n 0, 1) := dk_42 (dk_at dksL_law_42 17 rfl rfl)
theorem dL_law_1294 : decode cL_law 1294 = .ok (.iload_n 3, 1) := dk_29 (dk_at dksL_law_42 18 rfl rfl)
theorem dL_law_1295 : decode cL_law 1295 = .ok (.iconst 1, 1) := dk_4 (dk_at dksL_law_42 19 rfl rfl)
theorem dL_law_1296 : decode cL_law 1296 = .ok (.iadd, 1) := dk_96 (dk_at dksL_law_42 20 rfl rfl)
theorem dL_law_1297 : decode cL_law 1297 = .ok (.iaload, 1) := dk_46 (dk_at dksL_law_42 21 rfl rfl)
theorem dL_law_1298 : decode cL_law 1298 = .ok (.aload_n 0, 1) := dk_42 (dk_at dksL_law_42 22 rfl rfl)
theorem dL_law_1299 : decode cL_law 1299 = .ok (.iload_n 3, 1) := dk_29 (dk_at dksL_law_42 23 rfl rfl)
theorem dL_law_1300 : decode cL_law 1300 = .ok (.iconst 2, 1) := dk_5 (dk_at dksL_law_43 0 rfl rfl)
theorem dL_law_1301 : decode cL_law 1301 = .ok (.iadd, 1) := dk_96 (dk_at dksL_law_43 1 rfl rfl)
theorem dL_law_1302 : decode cL_law 1302 = .ok (.iaload, 1) := dk_46 (dk_at dksL_law_43 2 rfl rfl)
theorem dL_law_1303 : decode cL_law 1303 = .ok (.invokevirtual 157, 3) := dk_182 0 157 (dk_at dksL_law_43 3 rfl rfl)
theorem dL_law_1306 : decode cL_law 1306 = .ok (.if_icmp .eq 1272, 3) := dk_159 4 248 (dk_at dksL_law_43 6 rfl rfl)
theorem dL_law_1309 : decode cL_law 1309 = .ok (.iconst 0, 1) := dk_3 (dk_at dksL_law_43 9 rfl rfl)
theorem dL_law_1310 : decode cL_law 1310 = .ok (.ireturn, 1) := dk_172 (dk_at dksL_law_43 10 rfl rfl)
theorem dL_law_1311 : decode cL_law 1311 = .ok (.aload_n 1, 1) := dk_43 (dk_at dksL_law_43 11 rfl rfl)
theorem dL_law_1312 : decode cL_law 1312 = .ok (.aload_n 0, 1) := dk_42 (dk_at dksL_law_43 12 rfl rfl)
theorem dL_law_1313 : decode cL_law 1313 = .ok (.iload_n 3, 1) := dk_29 (dk_at dksL_law_43 13 rfl rfl)
theorem dL_law_1314 : decode cL_law 1314 = .ok (.iconst 1, 1) := dk_4 (dk_at dksL_law_43 14 rfl rfl)
theorem dL_law_1315 : decode cL_law 1315 = .ok (.iadd, 1) := dk_96 (dk_at dksL_law_43 15 rfl rfl)
theorem dL_law_1316 : decode cL_law 1316 = .ok (.iaload, 1) := dk_46 (dk_at dksL_law_43 16 rfl rfl)
theorem dL_law_1317 : decode cL_law 1317 = .ok (.aload_n 0, 1) := dk_42 (dk_at dksL_law_43 17 rfl rfl)
theorem dL_law_1318 : decode cL_law 1318 = .ok (.iload_n 3, 1) := dk_29 (dk_at dksL_law_43 18 rfl rfl)
theorem dL_law_1319 : decode cL_law 1319 = .ok (.iconst 2, 1) := dk_5 (dk_at dksL_law_43 19 rfl rfl)
theorem dL_law_1320 : decode cL_law 1320 = .ok (.iadd, 1) := dk_96 (dk_at dksL_law_43 20 rfl rfl)
theorem dL_law_1321 : decode cL_law 1321 = .ok (.iaload, 1) := dk_46 (dk_at dksL_law_43 21 rfl rfl)
theorem dL_law_1322 : decode cL_law 1322 = .ok (.invokevirtual 158, 3) := dk_182 0 158 (dk_at dksL_law_44 0 rfl rfl)
theorem dL_law_1325 : decode cL_law 1325 = .ok (.aload_n 2, 1) := dk_44 (dk_at dksL_law_44 3 rfl rfl)
theorem dL_law_1326 : decode cL_law 1326 = .ok (.aload_n 0, 1) := dk_42 (dk_at dksL_law_44 4 rfl rfl)
theorem dL_law_1327 : decode cL_law 1327 = .ok (.iload_n 3, 1) := dk_29 (dk_at dksL_law_44 5 rfl rfl)
theorem dL_law_1328 : decode cL_law 1328 = .ok (.iconst 1, 1) := dk_4 (dk_at dksL_law_44 6 rfl rfl)
theorem dL_law_1329 : decode cL_law 1329 = .ok (.iadd, 1) := dk_96 (dk_at dksL_law_44 7 rfl rfl)
theorem dL_law_1330 : decode cL_law 1330 = .ok (.iaload, 1) := dk_46 (dk_at dksL_law_44 8 rfl rfl)
theorem dL_law_1331 : decode cL_law 1331 = .ok (.aload_n 0, 1) := dk_42 (dk_at dksL_law_44 9 rfl rfl)
theorem dL_law_1332 : decode cL_law 1332 = .ok (.iload_n 3, 1) := dk_29 (dk_at dksL_law_44 10 rfl rfl)
theorem dL_law_1333 : decode cL_law 1333 = .ok (.iconst 2, 1) := dk_5 (dk_at dksL_law_44 11 rfl rfl)
theorem dL_law_1334 : decode cL_law 1334 = .ok (.iadd, 1) := dk_96 (dk_at dksL_law_44 12 rfl rfl)
theorem dL_law_1335 : decode cL_law 1335 = .ok (.iaload, 1) := dk_46 (dk_at dksL_law_44 13 rfl rfl)
theorem dL_law_1336 : decode cL_law 1336 = .ok (.invokevirtual 161, 3) := dk_182 0 161 (dk_at dksL_law_44 14 rfl rfl)
theorem dL_law_1339 : decode cL_law 1339 = .ok (.if_icmp .eq 1239, 3) := dk_159 4 215 (dk_at dksL_law_44 17 rfl rfl)
theorem dL_law_1342 : decode cL_law 1342 = .ok (.iconst 0, 1) := dk_3 (dk_at dksL_law_44 20 rfl rfl)
theorem dL_law_1343 : decode cL_law 1343 = .ok (.ireturn, 1) := dk_172 (dk_at dksL_law_44 21 rfl rfl)
theorem dL_law_1344 : decode cL_law 1344 = .ok (.aload_n 1, 1) := dk_43 (dk_at dksL_law_44 22 rfl rfl)
theorem dL_law_1345 : decode cL_law 1345 = .ok (.aload_n 0, 1) := dk_42 (dk_at dksL_law_44 23 rfl rfl)
theorem dL_law_1346 : decode cL_law 1346 = .ok (.iload_n 3, 1) := dk_29 (dk_at dksL_law_45 0 rfl rfl)
theorem dL_law_1347 : decode cL_law 1347 = .ok (.iconst 1, 1) := dk_4 (dk_at dksL_law_45 1 rfl rfl)
theorem dL_law_1348 : decode cL_law 1348 = .ok (.iadd, 1) := dk_96 (dk_at dksL_law_45 2 rfl rfl)
theorem dL_law_1349 : decode cL_law 1349 = .ok (.iaload, 1) := dk_46 (dk_at dksL_law_45 3 rfl rfl)
theorem dL_law_1350 : decode cL_law 1350 = .ok (.invokevirtual 162, 3) := dk_182 0 162 (dk_at dksL_law_45 4 rfl rfl)
theorem dL_law_1353 : decode cL_law 1353 = .ok (.aload_n 2, 1) := dk_44 (dk_at dksL_law_45 7 rfl rfl)
theorem dL_law_1354 : decode cL_law 1354 = .ok (.aload_n 0, 1) := dk_42 (dk_at dksL_law_45 8 rfl rfl)
theorem dL_law_1355 : decode cL_law 1355 = .ok (.iload_n 3, 1) := dk_29 (dk_at dksL_law_45 9 rfl rfl)
theorem dL_law_1356 : decode cL_law 1356 = .ok (.iconst 1, 1) := dk_4 (dk_at dksL_law_45 10 rfl rfl)
theorem dL_law_1357 : decode cL_law 1357 = .ok (.iadd, 1) := dk_96 (dk_at dksL_law_45 11 rfl rfl)
theorem dL_law_1358 : decode cL_law 1358 = .ok (.iaload, 1) := dk_46 (dk_at dksL_law_45 12 rfl rfl)
theorem dL_law_1359 : decode cL_law 1359 = .ok (.invokevirtual 165, 3) := dk_182 0 165 (dk_at dksL_law_45 13 rfl rfl)
theorem dL_law_1362 : decode cL_law 1362 = .ok (.if_icmp .eq 1216, 3) := dk_159 4 192 (dk_at dksL_law_45 16 rfl rfl)
theorem dL_law_1365 : decode cL_law 1365 = .ok (.iconst 0, 1) := dk_3 (dk_at dksL_law_45 19 rfl rfl)
theorem dL_law_1366 : decode cL_law 1366 = .ok (.ireturn, 1) := dk_172 (dk_at dksL_law_45 20 rfl rfl)
theorem dL_law_1367 : decode cL_law 1367 = .ok (.aload_n 1, 1) := dk_43 (dk_at dksL_law_45 21 rfl rfl)
theorem dL_law_1368 : decode cL_law 1368 = .ok (.aload_n 0, 1) := dk_42 (dk_at dksL_law_45 22 rfl rfl)
theorem dL_law_1369 : decode cL_law 1369 = .ok (.iload_n 3, 1) := dk_29 (dk_at dksL_law_45 23 rfl rfl)
theorem dL_law_1370 : decode cL_law 1370 = .ok (.iconst 1, 1) := dk_4 (dk_at dksL_law_46 0 rfl rfl)
theorem dL_law_1371 : decode cL_law 1371 = .ok (.iadd, 1) := dk_96 (dk_at dksL_law_46 1 rfl rfl)
theorem dL_law_1372 : decode cL_law 1372 = .ok (.iaload, 1) := dk_46 (dk_at dksL_law_46 2 rfl rfl)
theorem dL_law_1373 : decode cL_law 1373 = .ok (.invokevirtual 166, 3) := dk_182 0 166 (dk_at dksL_law_46 3 rfl rfl)
theorem dL_law_1376 : decode cL_law 1376 = .ok (.aload_n 2, 1) := dk_44 (dk_at dksL_law_46 6 rfl rfl)
theorem dL_law_1377 : decode cL_law 1377 = .ok (.aload_n 0, 1) := dk_42 (dk_at dksL_law_46 7 rfl rfl)
theorem dL_law_1378 : decode cL_law 1378 = .ok (.iload_n 3, 1) := dk_29 (dk_at dksL_law_46 8 rfl rfl)
theorem dL_law_1379 : decode cL_law 1379 = .ok (.iconst 1, 1) := dk_4 (dk_at dksL_law_46 9 rfl rfl)
theorem dL_law_1380 : decode cL_law 1380 = .ok (.iadd, 1) := dk_96 (dk_at dksL_law_46 10 rfl rfl)
theorem dL_law_1381 : decode cL_law 1381 = .ok (.iaload, 1) := dk_46 (dk_at dksL_law_46 11 rfl rfl)
theorem dL_law_1382 : decode cL_law 1382 = .ok (.invokevirtual 169, 3) := dk_182 0 169 (dk_at dksL_law_46 12 rfl rfl)
theorem dL_law_1385 : decode cL_law 1385 = .ok (.if_icmp .eq 1193, 3) := dk_159 4 169 (dk_at dksL_law_46 15 rfl rfl)
theorem dL_law_1388 : decode cL_law 1388 = .ok (.iconst 0, 1) := dk_3 (dk_at dksL_law_46 18 rfl rfl)
theorem dL_law_1389 : decode cL_law 1389 = .ok (.ireturn, 1) := dk_172 (dk_at dksL_law_46 19 rfl rfl)
theorem dL_law_1390 : decode cL_law 1390 = .ok (.aload_n 1, 1) := dk_43 (dk_at dksL_law_46 20 rfl rfl)
theorem dL_law_1391 : decode cL_law 1391 = .ok (.invokevirtual 170, 3) := dk_182 0 170 (dk_at dksL_law_46 21 rfl rfl)
theorem dL_law_1394 : decode cL_law 1394 = .ok (.aload_n 2, 1) := dk_44 (dk_at dksL_law_47 0 rfl rfl)
theorem dL_law_1395 : decode cL_law 1395 = .ok (.invokevirtual 173, 3) := dk_182 0 173 (dk_at dksL_law_47 1 rfl rfl)
theorem dL_law_1398 : decode cL_law 1398 = .ok (.if_icmp .eq 1180, 3) := dk_159 4 156 (dk_at dksL_law_47 4 rfl rfl)
theorem dL_law_1401 : decode cL_law 1401 = .ok (.iconst 0, 1) := dk_3 (dk_at dksL_law_47 7 rfl rfl)
theorem dL_law_1402 : decode cL_law 1402 = .ok (.ireturn, 1) := dk_172 (dk_at dksL_law_47 8 rfl rfl)
theorem dL_law_1403 : decode cL_law 1403 = .ok (.aload_n 1, 1) := dk_43 (dk_at dksL_law_47 9 rfl rfl)
theorem dL_law_1404 : decode cL_law 1404 = .ok (.aload_n 0, 1) := dk_42 (dk_at dksL_law_47 10 rfl rfl)
theorem dL_law_1405 : decode cL_law 1405 = .ok (.iload_n 3, 1) := dk_29 (dk_at dksL_law_47 11 rfl rfl)
theorem dL_law_1406 : decode cL_law 1406 = .ok (.iconst 1, 1) := dk_4 (dk_at dksL_law_47 12 rfl rfl)
theorem dL_law_1407 : decode cL_law 1407 = .ok (.iadd, 1) := dk_96 (dk_at dksL_law_47 13 rfl rfl)
theorem dL_law_1408 : decode cL_law 1408 = .ok (.iaload, 1) := dk_46 (dk_at dksL_law_47 14 rfl rfl)
theorem dL_law_1409 : decode cL_law 1409 = .ok (.aload_n 0, 1) := dk_42 (dk_at dksL_law_47 15 rfl rfl)
theorem dL_law_1410 : decode cL_law 1410 = .ok (.iload_n 3, 1) := dk_29 (dk_at dksL_law_47 16 rfl rfl)
theorem dL_law_1411 : decode cL_law 1411 = .ok (.iconst 2, 1) := dk_5 (dk_at dksL_law_47 17 rfl rfl)
theorem dL_law_1412 : decode cL_law 1412 = .ok (.iadd, 1) := dk_96 (dk_at dksL_law_47 18 rfl rfl)
theorem dL_law_1413 : decode cL_law 1413 = .ok (.iaload, 1) := dk_46 (dk_at dksL_law_47 19 rfl rfl)
theorem dL_law_1414 : decode cL_law 1414 = .ok (.invokevirtual 174, 3) := dk_182 0 174 (dk_at dksL_law_47 20 rfl rfl)
theorem dL_law_1417 : decode cL_law 1417 = .ok (.aload_n 2, 1) := dk_44 (dk_at dksL_law_47 23 rfl rfl)
theorem dL_law_1418 : decode cL_law 1418 = .ok (.aload_n 0, 1) := dk_42 (dk_at dksL_law_48 0 rfl rfl)
theorem dL_law_1419 : decode cL_law 1419 = .ok (.iload_n 3, 1) := dk_29 (dk_at dksL_law_48 1 rfl rfl)
theorem dL_law_1420 : decode cL_law 1420 = .ok (.iconst 1, 1) := dk_4 (dk_at dksL_law_48 2 rfl rfl)
theorem dL_law_1421 : decode cL_law 1421 = .ok (.iadd, 1) := dk_96 (dk_at dksL_law_48 3 rfl rfl)
theorem dL_law_1422 : decode cL_law 1422 = .ok (.iaload, 1) := dk_46 (dk_at dksL_law_48 4 rfl rfl)
theorem dL_law_1423 : decode cL_law 1423 = .ok (.aload_n 0, 1) := dk_42 (dk_at dksL_law_48 5 rfl rfl)
theorem dL_law_1424 : decode cL_law 1424 = .ok (.iload_n 3, 1) := dk_29 (dk_at dksL_law_48 6 rfl rfl)
theorem dL_law_1425 : decode cL_law 1425 = .ok (.iconst 2, 1) := dk_5 (dk_at dksL_law_48 7 rfl rfl)
theorem dL_law_1426 : decode cL_law 1426 = .ok (.iadd, 1) := dk_96 (dk_at dksL_law_48 8 rfl rfl)
theorem dL_law_1427 : decode cL_law 1427 = .ok (.iaload, 1) := dk_46 (dk_at dksL_law_48 9 rfl rfl)
theorem dL_law_1428 : decode cL_law 1428 = .ok (.invokevirtual 177, 3) := dk_182 0 177 (dk_at dksL_law_48 10 rfl rfl)
theorem dL_law_1431 : decode cL_law 1431 = .ok (.if_icmp .eq 1147, 3) := dk_159 4 123 (dk_at dksL_law_48 13 rfl rfl)
theorem dL_law_1434 : decode cL_law 1434 = .ok (.iconst 0, 1) := dk_3 (dk_at dksL_law_48 16 rfl rfl)
theorem dL_law_1435 : decode cL_law 1435 = .ok (.ireturn, 1) := dk_172 (dk_at dksL_law_48 17 rfl rfl)
theorem dL_law_1436 : decode cL_law 1436 = .ok (.aload_n 1, 1) := dk_43 (dk_at dksL_law_48 18 rfl rfl)
theorem dL_law_1437 : decode cL_law 1437 = .ok (.aload_n 0, 1) := dk_42 (dk_at dksL_law_48 19 rfl rfl)
theorem dL_law_1438 : decode cL_law 1438 = .ok (.iload_n 3, 1) := dk_29 (dk_at dksL_law_48 20 rfl rfl)
theorem dL_law_1439 : decode cL_law 1439 = .ok (.iconst 1, 1) := dk_4 (dk_at dksL_law_48 21 rfl rfl)
theorem dL_law_1440 : decode cL_law 1440 = .ok (.iadd, 1) := dk_96 (dk_at dksL_law_48 22 rfl rfl)
theorem dL_law_1441 : decode cL_law 1441 = .ok (.iaload, 1) := dk_46 (dk_at dksL_law_48 23 rfl rfl)
theorem dL_law_1442 : decode cL_law 1442 = .ok (.aload_n 0, 1) := dk_42 (dk_at dksL_law_49 0 rfl rfl)
theorem dL_law_1443 : decode cL_law 1443 = .ok (.iload_n 3, 1) := dk_29 (dk_at dksL_law_49 1 rfl rfl)
theorem dL_law_1444 : decode cL_law 1444 = .ok (.iconst 2, 1) := dk_5 (dk_at dksL_law_49 2 rfl rfl)
theorem dL_law_1445 : decode cL_law 1445 = .ok (.iadd, 1) := dk_96 (dk_at dksL_law_49 3 rfl rfl)
theorem dL_law_1446 : decode cL_law 1446 = .ok (.iaload, 1) := dk_46 (dk_at dksL_law_49 4 rfl rfl)
theorem dL_law_1447 : decode cL_law 1447 = .ok (.invokevirtual 178, 3) := dk_182 0 178 (dk_at dksL_law_49 5 rfl rfl)
theorem dL_law_1450 : decode cL_law 1450 = .ok (.aload_n 2, 1) := dk_44 (dk_at dksL_law_49 8 rfl rfl)
theorem dL_law_1451 : decode cL_law 1451 = .ok (.aload_n 0, 1) := dk_42 (dk_at dksL_law_49 9 rfl rfl)
theorem dL_law_1452 : decode cL_law 1452 = .ok (.iload_n 3, 1) := dk_29 (dk_at dksL_law_49 10 rfl rfl)
theorem dL_law_1453 : decode cL_law 1453 = .ok (.iconst 1, 1) := dk_4 (dk_at dksL_law_49 11 rfl rfl)
theorem dL_law_1454 : decode cL_law 1454 = .ok (.iadd, 1) := dk_96 (dk_at dksL_law_49 12 rfl rfl)
theorem dL_law_1455 : decode cL_law 1455 = .ok (.iaload, 1) := dk_46 (dk_at dksL_law_49 13 rfl rfl)
theorem dL_law_1456 : decode cL_law 1456 = .ok (.aload_n 0, 1) := dk_42 (dk_at dksL_law_49 14 rfl rfl)
theorem dL_law_1457 : decode cL_law 1457 = .ok (.iload_n 3, 1) := dk_29 (dk_at dksL_law_49 15 rfl rfl)
theorem dL_law_1458 : decode cL_law 1458 = .ok (.iconst 2, 1) := dk_5 (dk_at dksL_law_49 16 rfl rfl)
theorem dL_law_1459 : decode cL_law 1459 = .ok (.iadd, 1) := dk_96 (dk_at dksL_law_49 17 rfl rfl)
theorem dL_law_1460 : decode cL_law 1460 = .ok (.iaload, 1) := dk_46 (dk_at dksL_law_49 18 rfl rfl)
theorem dL_law_1461 : decode cL_law 1461 = .ok (.invokevirtual 181, 3) := dk_182 0 181 (dk_at dksL_law_49 19 rfl rfl)
theorem dL_law_1464 : decode cL_law 1464 = .ok (.if_icmp .eq 1114, 3) := dk_159 4 90 (dk_at dksL_law_50 0 rfl rfl)
theorem dL_law_1467 : decode cL_law 1467 = .ok (.iconst 0, 1) := dk_3 (dk_at dksL_law_50 3 rfl rfl)
theorem dL_law_1468 : decode cL_law 1468 = .ok (.ireturn, 1) := dk_172 (dk_at dksL_law_50 4 rfl rfl)
theorem dL_law_1469 : decode cL_law 1469 = .ok (.aload_n 1, 1) := dk_43 (dk_at dksL_law_50 5 rfl rfl)
theorem dL_law_1470 : decode cL_law 1470 = .ok (.aload_n 0, 1) := dk_42 (dk_at dksL_law_50 6 rfl rfl)
theorem dL_law_1471 : decode cL_law 1471 = .ok (.iload_n 3, 1) := dk_29 (dk_at dksL_law_50 7 rfl rfl)
theorem dL_law_1472 : decode cL_law 1472 = .ok (.iconst 1, 1) := dk_4 (dk_at dksL_law_50 8 rfl rfl)
theorem dL_law_1473 : decode cL_law 1473 = .ok (.iadd, 1) := dk_96 (dk_at dksL_law_50 9 rfl rfl)
theorem dL_law_1474 : decode cL_law 1474 = .ok (.iaload, 1) := dk_46 (dk_at dksL_law_50 10 rfl rfl)
theorem dL_law_1475 : decode cL_law 1475 = .ok (.invokevirtual 182, 3) := dk_182 0 182 (dk_at dksL_law_50 11 rfl rfl)
theorem dL_law_1478 : decode cL_law 1478 = .ok (.aload_n 2, 1) := dk_44 (dk_at dksL_law_50 14 rfl rfl)
theorem dL_law_1479 : decode cL_law 1479 = .ok (.aload_n 0, 1) := dk_42 (dk_at dksL_law_50 15 rfl rfl)
theorem dL_law_1480 : decode cL_law 1480 = .ok (.iload_n 3, 1) := dk_29 (dk_at dksL_law_50 16 rfl rfl)
theorem dL_law_1481 : decode cL_law 1481 = .ok (.iconst 1, 1) := dk_4 (dk_at dksL_law_50 17 rfl rfl)
theorem dL_law_1482 : decode cL_law 1482 = .ok (.iadd, 1) := dk_96 (dk_at dksL_law_50 18 rfl rfl)
theorem dL_law_1483 : decode cL_law 1483 = .ok (.iaload, 1) := dk_46 (dk_at dksL_law_50 19 rfl rfl)
theorem dL_law_1484 : decode cL_law 1484 = .ok (.invokevirtual 185, 3) := dk_182 0 185 (dk_at dksL_law_50 20 rfl rfl)
theorem dL_law_1487 : decode cL_law 1487 = .ok (.if_icmp .eq 1091, 3) := dk_159 4 67 (dk_at dksL_law_51 0 rfl rfl)
theorem dL_law_1490 : decode cL_law 1490 = .ok (.iconst 0, 1) := dk_3 (dk_at dksL_law_51 3 rfl rfl)
theorem dL_law_1491 : decode cL_law 1491 = .ok (.ireturn, 1) := dk_172 (dk_at dksL_law_51 4 rfl rfl)
theorem dL_law_1492 : decode cL_law 1492 = .ok (.aload_n 1, 1) := dk_43 (dk_at dksL_law_51 5 rfl rfl)
theorem dL_law_1493 : decode cL_law 1493 = .ok (.aload_n 0, 1) := dk_42 (dk_at dksL_law_51 6 rfl rfl)
theorem dL_law_1494 : decode cL_law 1494 = .ok (.iload_n 3, 1) := dk_29 (dk_at dksL_law_51 7 rfl rfl)
theorem dL_law_1495 : decode cL_law 1495 = .ok (.iconst 1, 1) := dk_4 (dk_at dksL_law_51 8 rfl rfl)
theorem dL_law_1496 : decode cL_law 1496 = .ok (.iadd, 1) := dk_96 (dk_at dksL_law_51 9 rfl rfl)
theorem dL_law_1497 : decode cL_law 1497 = .ok (.iaload, 1) := dk_46 (dk_at dksL_law_51 10 rfl rfl)
theorem dL_law_1498 : decode cL_law 1498 = .ok (.invokevirtual 186, 3) := dk_182 0 186 (dk_at dksL_law_51 11 rfl rfl)
theorem dL_law_1501 : decode cL_law 1501 = .ok (.aload_n 2, 1) := dk_44 (dk_at dksL_law_51 14 rfl rfl)
theorem dL_law_1502 : decode cL_law 1502 = .ok (.aload_n 0, 1) := dk_42 (dk_at dksL_law_51 15 rfl rfl)
theorem dL_law_1503 : decode cL_law 1503 = .ok (.iload_n 3, 1) := dk_29 (dk_at dksL_law_51 16 rfl rfl)
theorem dL_law_1504 : decode cL_law 1504 = .ok (.iconst 1, 1) := dk_4 (dk_at dksL_law_51 17 rfl rfl)
theorem dL_law_1505 : decode cL_law 1505 = .ok (.iadd, 1) := dk_96 (dk_at dksL_law_51 18 rfl rfl)
theorem dL_law_1506 : decode cL_law 1506 = .ok (.iaload, 1) := dk_46 (dk_at dksL_law_51 19 rfl rfl)
theorem dL_law_1507 : decode cL_law 1507 = .ok (.invokevirtual 189, 3) := dk_182 0 189 (dk_at dksL_law_51 20 rfl rfl)
theorem dL_law_1510 : decode cL_law 1510 = .ok (.if_icmp .eq 1068, 3) := dk_159 4 44 (dk_at dksL_law_52 0 rfl rfl)
theorem dL_law_1513 : decode cL_law 1513 = .ok (.iconst 0, 1) := dk_3 (dk_at dksL_law_52 3 rfl rfl)
theorem dL_law_1514 : decode cL_law 1514 = .ok (.ireturn, 1) := dk_172 (dk_at dksL_law_52 4 rfl rfl)
theorem dL_law_1515 : decode cL_law 1515 = .ok (.aload_n 1, 1) := dk_43 (dk_at dksL_law_52 5 rfl rfl)
theorem dL_law_1516 : decode cL_law 1516 = .ok (.aload_n 0, 1) := dk_42 (dk_at dksL_law_52 6 rfl rfl)
theorem dL_law_1517 : decode cL_law 1517 = .ok (.iload_n 3, 1) := dk_29 (dk_at dksL_law_52 7 rfl rfl)
theorem dL_law_1518 : decode cL_law 1518 = .ok (.iconst 1, 1) := dk_4 (dk_at dksL_law_52 8 rfl rfl)
theorem dL_law_1519 : decode cL_law 1519 = .ok (.iadd, 1) := dk_96 (dk_at dksL_law_52 9 rfl rfl)
theorem dL_law_1520 : decode cL_law 1520 = .ok (.iaload, 1) := dk_46 (dk_at dksL_law_52 10 rfl rfl)
theorem dL_law_1521 : decode cL_law 1521 = .ok (.invokevirtual 190, 3) := dk_182 0 190 (dk_at dksL_law_52 11 rfl rfl)
theorem dL_law_1524 : decode cL_law 1524 = .ok (.aload_n 2, 1) := dk_44 (dk_at dksL_law_52 14 rfl rfl)
theorem dL_law_1525 : decode cL_law 1525 = .ok (.aload_n 0, 1) := dk_42 (dk_at dksL_law_52 15 rfl rfl)
theorem dL_law_1526 : decode cL_law 1526 = .ok (.iload_n 3, 1) := dk_29 (dk_at dksL_law_52 16 rfl rfl)
theorem dL_law_1527 : decode cL_law 1527 = .ok (.iconst 1, 1) := dk_4 (dk_at dksL_law_52 17 rfl rfl)
theorem dL_law_1528 : decode cL_law 1528 = .ok (.iadd, 1) := dk_96 (dk_at dksL_law_52 18 rfl rfl)
theorem dL_law_1529 : decode cL_law 1529 = .ok (.iaload, 1) := dk_46 (dk_at dksL_law_52 19 rfl rfl)
theorem dL_law_1530 : decode cL_law 1530 = .ok (.invokevirtual 193, 3) := dk_182 0 193 (dk_at dksL_law_52 20 rfl rfl)
theorem dL_law_1533 : decode cL_law 1533 = .ok (.if_icmp .eq 1045, 3) := dk_159 4 21 (dk_at dksL_law_53 0 rfl rfl)
theorem dL_law_1536 : decode cL_law 1536 = .ok (.iconst 0, 1) := dk_3 (dk_at dksL_law_53 3 rfl rfl)
theorem dL_law_1537 : decode cL_law 1537 = .ok (.ireturn, 1) := dk_172 (dk_at dksL_law_53 4 rfl rfl)
theorem dL_law_1538 : decode cL_law 1538 = .ok (.aload_n 1, 1) := dk_43 (dk_at dksL_law_53 5 rfl rfl)
theorem dL_law_1539 : decode cL_law 1539 = .ok (.aload_n 0, 1) := dk_42 (dk_at dksL_law_53 6 rfl rfl)
theorem dL_law_1540 : decode cL_law 1540 = .ok (.iload_n 3, 1) := dk_29 (dk_at dksL_law_53 7 rfl rfl)
theorem dL_law_1541 : decode cL_law 1541 = .ok (.iconst 1, 1) := dk_4 (dk_at dksL_law_53 8 rfl rfl)
theorem dL_law_1542 : decode cL_law 1542 = .ok (.iadd, 1) := dk_96 (dk_at dksL_law_53 9 rfl rfl)
theorem dL_law_1543 : decode cL_law 1543 = .ok (.iaload, 1) := dk_46 (dk_at dksL_law_53 10 rfl rfl)
theorem dL_law_1544 : decode cL_law 1544 = .ok (.invokevirtual 194, 3) := dk_182 0 194 (dk_at dksL_law_53 11 rfl rfl)
theorem dL_law_1547 : decode cL_law 1547 = .ok (.aload_n 2, 1) := dk_44 (dk_at dksL_law_53 14 rfl rfl)
theorem dL_law_1548 : decode cL_law 1548 = .ok (.aload_n 0, 1) := dk_42 (dk_at dksL_law_53 15 rfl rfl)
theorem dL_law_1549 : decode cL_law 1549 = .ok (.iload_n 3, 1) := dk_29 (dk_at dksL_law_53 16 rfl rfl)
theorem dL_law_1550 : decode cL_law 1550 = .ok (.iconst 1, 1) := dk_4 (dk_at dksL_law_53 17 rfl rfl)
theorem dL_law_1551 : decode cL_law 1551 = .ok (.iadd, 1) := dk_96 (dk_at dksL_law_53 18 rfl rfl)
theorem dL_law_1552 : decode cL_law 1552 = .ok (.iaload, 1) := dk_46 (dk_at dksL_law_53 19 rfl rfl)
theorem dL_law_1553 : decode cL_law 1553 = .ok (.invokevirtual 197, 3) := dk_182 0 197 (dk_at dksL_law_53 20 rfl rfl)
theorem dL_law_1556 : decode cL_law 1556 = .ok (.if_icmp .eq 1022, 3) := dk_159 3 254 (dk_at dksL_law_54 0 rfl rfl)
theorem dL_law_1559 : decode cL_law 1559 = .ok (.iconst 0, 1) := dk_3 (dk_at dksL_law_54 3 rfl rfl)
theorem dL_law_1560 : decode cL_law 1560 = .ok (.ireturn, 1) := dk_172 (dk_at dksL_law_54 4 rfl rfl)
theorem dL_law_1561 : decode cL_law 1561 = .ok (.aload_n 1, 1) := dk_43 (dk_at dksL_law_54 5 rfl rfl)
theorem dL_law_1562 : decode cL_law 1562 = .ok (.aload_n 0, 1) := dk_42 (dk_at dksL_law_54 6 rfl rfl)
theorem dL_law_1563 : decode cL_law 1563 = .ok (.iload_n 3, 1) := dk_29 (dk_at dksL_law_54 7 rfl rfl)
theorem dL_law_1564 : decode cL_law 1564 = .ok (.iconst 1, 1) := dk_4 (dk_at dksL_law_54 8 rfl rfl)
theorem dL_law_1565 : decode cL_law 1565 = .ok (.iadd, 1) := dk_96 (dk_at dksL_law_54 9 rfl rfl)
theorem dL_law_1566 : decode cL_law 1566 = .ok (.iaload, 1) := dk_46 (dk_at dksL_law_54 10 rfl rfl)
theorem dL_law_1567 : decode cL_law 1567 = .ok (.invokevirtual 198, 3) := dk_182 0 198 (dk_at dksL_law_54 11 rfl rfl)
theorem dL_law_1570 : decode cL_law 1570 = .ok (.aload_n 2, 1) := dk_44 (dk_at dksL_law_54 14 rfl rfl)
theorem dL_law_1571 : decode cL_law 1571 = .ok (.aload_n 0, 1) := dk_42 (dk_at dksL_law_54 15 rfl rfl)
theorem dL_law_1572 : decode cL_law 1572 = .ok (.iload_n 3, 1) := dk_29 (dk_at dksL_law_54 16 rfl rfl)
theorem dL_law_1573 : decode cL_law 1573 = .ok (.iconst 1, 1) := dk_4 (dk_at dksL_law_54 17 rfl rfl)
theorem dL_law_1574 : decode cL_law 1574 = .ok (.iadd, 1) := dk_96 (dk_at dksL_law_54 18 rfl rfl)
theorem dL_law_1575 : decode cL_law 1575 = .ok (.iaload, 1) := dk_46 (dk_at dksL_law_54 19 rfl rfl)
theorem dL_law_1576 : decode cL_law 1576 = .ok (.invokevirtual 201, 3) := dk_182 0 201 (dk_at dksL_law_54 20 rfl rfl)
theorem dL_law_1579 : decode cL_law 1579 = .ok (.if_icmp .eq 999, 3) := dk_159 3 231 (dk_at dksL_law_55 0 rfl rfl)
theorem dL_law_1582 : decode cL_law 1582 = .ok (.iconst 0, 1) := dk_3 (dk_at dksL_law_55 3 rfl rfl)
theorem dL_law_1583 : decode cL_law 1583 = .ok (.ireturn, 1) := dk_172 (dk_at dksL_law_55 4 rfl rfl)
theorem dL_law_1584 : decode cL_law 1584 = .ok (.aload_n 1, 1) := dk_43 (dk_at dksL_law_55 5 rfl rfl)
theorem dL_law_1585 : decode cL_law 1585 = .ok (.aload_n 0, 1) := dk_42 (dk_at dksL_law_55 6 rfl rfl)
theorem dL_law_1586 : decode cL_law 1586 = .ok (.iload_n 3, 1) := dk_29 (dk_at dksL_law_55 7 rfl rfl)
theorem dL_law_1587 : decode cL_law 1587 = .ok (.iconst 1, 1) := dk_4 (dk_at dksL_law_55 8 rfl rfl)
theorem dL_law_1588 : decode cL_law 1588 = .ok (.iadd, 1) := dk_96 (dk_at dksL_law_55 9 rfl rfl)
theorem dL_law_1589 : decode cL_law 1589 = .ok (.iaload, 1) := dk_46 (dk_at dksL_law_55 10 rfl rfl)
theorem dL_law_1590 : decode cL_law 1590 = .ok (.invokevirtual 202, 3) := dk_182 0 202 (dk_at dksL_law_55 11 rfl rfl)
theorem dL_law_1593 : decode cL_law 1593 = .ok (.aload_n 2, 1) := dk_44 (dk_at dksL_law_55 14 rfl rfl)
theorem dL_law_1594 : decode cL_law 1594 = .ok (.aload_n 0, 1) := dk_42 (dk_at dksL_law_55 15 rfl rfl)
theorem dL_law_1595 : decode cL_law 1595 = .ok (.iload_n 3, 1) := dk_29 (dk_at dksL_law_55 16 rfl rfl)
theorem dL_law_1596 : decode cL_law 1596 = .ok (.iconst 1, 1) := dk_4 (dk_at dksL_law_55 17 rfl rfl)
theorem dL_law_1597 : decode cL_law 1597 = .ok (.iadd, 1) := dk_96 (dk_at dksL_law_55 18 rfl rfl)
theorem dL_law_1598 : decode cL_law 1598 = .ok (.iaload, 1) := dk_46 (dk_at dksL_law_55 19 rfl rfl)
theorem dL_law_1599 : decode cL_law 1599 = .ok (.invokevirtual 205, 3) := dk_182 0 205 (dk_at dksL_law_55 20 rfl rfl)
theorem dL_law_1602 : decode cL_law 1602 = .ok (.if_icmp .eq 976, 3) := dk_159 3 208 (dk_at dksL_law_56 0 rfl rfl)
theorem dL_law_1605 : decode cL_law 1605 = .ok (.iconst 0, 1) := dk_3 (dk_at dksL_law_56 3 rfl rfl)
theorem dL_law_1606 : decode cL_law 1606 = .ok (.ireturn, 1) := dk_172 (dk_at dksL_law_56 4 rfl rfl)
theorem dL_law_1607 : decode cL_law 1607 = .ok (.aload_n 1, 1) := dk_43 (dk_at dksL_law_56 5 rfl rfl)
theorem dL_law_1608 : decode cL_law 1608 = .ok (.aload_n 0, 1) := dk_42 (dk_at dksL_law_56 6 rfl rfl)
theorem dL_law_1609 : decode cL_law 1609 = .ok (.iload_n 3, 1) := dk_29 (dk_at dksL_law_56 7 rfl rfl)
theorem dL_law_1610 : decode cL_law 1610 = .ok (.iconst 1, 1) := dk_4 (dk_at dksL_law_56 8 rfl rfl)
theorem dL_law_1611 : decode cL_law 1611 = .ok (.iadd, 1) := dk_96 (dk_at dksL_law_56 9 rfl rfl)
theorem dL_law_1612 : decode cL_law 1612 = .ok (.iaload, 1) := dk_46 (dk_at dksL_law_56 10 rfl rfl)
theorem dL_law_1613 : decode cL_law 1613 = .ok (.aload_n 0, 1) := dk_42 (dk_at dksL_law_56 11 rfl rfl)
theorem dL_law_1614 : decode cL_law 1614 = .ok (.iload_n 3, 1) := dk_29 (dk_at dksL_law_56 12 rfl rfl)
theorem dL_law_1615 : decode cL_law 1615 = .ok (.iconst 2, 1) := dk_5 (dk_at dksL_law_56 13 rfl rfl)
theorem dL_law_1616 : decode cL_law 1616 = .ok (.iadd, 1) := dk_96 (dk_at dksL_law_56 14 rfl rfl)
theorem dL_law_1617 : decode cL_law 1617 = .ok (.iaload, 1) := dk_46 (dk_at dksL_law_56 15 rfl rfl)
theorem dL_law_1618 : decode cL_law 1618 = .ok (.invokevirtual 206, 3) := dk_182 0 206 (dk_at dksL_law_56 16 rfl rfl)
theorem dL_law_1621 : decode cL_law 1621 = .ok (.aload_n 2, 1) := dk_44 (dk_at dksL_law_56 19 rfl rfl)
theorem dL_law_1622 : decode cL_law 1622 = .ok (.aload_n 0, 1) := dk_42 (dk_at dksL_law_56 20 rfl rfl)
theorem dL_law_1623 : decode cL_law 1623 = .ok (.iload_n 3, 1) := dk_29 (dk_at dksL_law_56 21 rfl rfl)
theorem dL_law_1624 : decode cL_law 1624 = .ok (.iconst 1, 1) := dk_4 (dk_at dksL_law_56 22 rfl rfl)
theorem dL_law_1625 : decode cL_law 1625 = .ok (.iadd, 1) := dk_96 (dk_at dksL_law_56 23 rfl rfl)
theorem dL_law_1626 : decode cL_law 1626 = .ok (.iaload, 1) := dk_46 (dk_at dksL_law_57 0 rfl rfl)
theorem dL_law_1627 : decode cL_law 1627 = .ok (.aload_n 0, 1) := dk_42 (dk_at dksL_law_57 1 rfl rfl)
theorem dL_law_1628 : decode cL_law 1628 = .ok (.iload_n 3, 1) := dk_29 (dk_at dksL_law_57 2 rfl rfl)
theorem dL_law_1629 : decode cL_law 1629 = .ok (.iconst 2, 1) := dk_5 (dk_at dksL_law_57 3 rfl rfl)
theorem dL_law_1630 : decode cL_law 1630 = .ok (.iadd, 1) := dk_96 (dk_at dksL_law_57 4 rfl rfl)
theorem dL_law_1631 : decode cL_law 1631 = .ok (.iaload, 1) := dk_46 (dk_at dksL_law_57 5 rfl rfl)
theorem dL_law_1632 : decode cL_law 1632 = .ok (.invokevirtual 209, 3) := dk_182 0 209 (dk_at dksL_law_57 6 rfl rfl)
theorem dL_law_1635 : decode cL_law 1635 = .ok (.if_icmp .eq 943, 3) := dk_159 3 175 (dk_at dksL_law_57 9 rfl rfl)
theorem dL_law_1638 : decode cL_law 1638 = .ok (.iconst 0, 1) := dk_3 (dk_at dksL_law_57 12 rfl rfl)
theorem dL_law_1639 : decode cL_law 1639 = .ok (.ireturn, 1) := dk_172 (dk_at dksL_law_57 13 rfl rfl)
theorem dL_law_1640 : decode cL_law 1640 = .ok (.aload_n 1, 1) := dk_43 (dk_at dksL_law_57 14 rfl rfl)
theorem dL_law_1641 : decode cL_law 1641 = .ok (.aload_n 0, 1) := dk_42 (dk_at dksL_law_57 15 rfl rfl)
theorem dL_law_1642 : decode cL_law 1642 = .ok (.iload_n 3, 1) := dk_29 (dk_at dksL_law_57 16 rfl rfl)
theorem dL_law_1643 : decode cL_law 1643 = .ok (.iconst 1, 1) := dk_4 (dk_at dksL_law_57 17 rfl rfl)
theorem dL_law_1644 : decode cL_law 1644 = .ok (.iadd, 1) := dk_96 (dk_at dksL_law_57 18 rfl rfl)
theorem dL_law_1645 : decode cL_law 1645 = .ok (.iaload, 1) := dk_46 (dk_at dksL_law_57 19 rfl rfl)
theorem dL_law_1646 : decode cL_law 1646 = .ok (.invokevirtual 210, 3) := dk_182 0 210 (dk_at dksL_law_57 20 rfl rfl)
theorem dL_law_1649 : decode cL_law 1649 = .ok (.aload_n 2, 1) := dk_44 (dk_at dksL_law_57 23 rfl rfl)
theorem dL_law_1650 : decode cL_law 1650 = .ok (.aload_n 0, 1) := dk_42 (dk_at dksL_law_58 0 rfl rfl)
theorem dL_law_1651 : decode cL_law 1651 = .ok (.iload_n 3, 1) := dk_29 (dk_at dksL_law_58 1 rfl rfl)
theorem dL_law_1652 : decode cL_law 1652 = .ok (.iconst 1, 1) := dk_4 (dk_at dksL_law_58 2 rfl rfl)
theorem dL_law_1653 : decode cL_law 1653 = .ok (.iadd, 1) := dk_96 (dk_at dksL_law_58 3 rfl rfl)
theorem dL_law_1654 : decode cL_law 1654 = .ok (.iaload, 1) := dk_46 (dk_at dksL_law_58 4 rfl rfl)
theorem dL_law_1655 : decode cL_law 1655 = .ok (.invokevirtual 213, 3) := dk_182 0 213 (dk_at dksL_law_58 5 rfl rfl)
theorem dL_law_1658 : decode cL_law 1658 = .ok (.if_icmp .eq 920, 3) := dk_159 3 152 (dk_at dksL_law_58 8 rfl rfl)
theorem dL_law_1661 : decode cL_law 1661 = .ok (.iconst 0, 1) := dk_3 (dk_at dksL_law_58 11 rfl rfl)
theorem dL_law_1662 : decode cL_law 1662 = .ok (.ireturn, 1) := dk_172 (dk_at dksL_law_58 12 rfl rfl)
theorem dL_law_1663 : decode cL_law 1663 = .ok (.aload_n 1, 1) := dk_43 (dk_at dksL_law_58 13 rfl rfl)
theorem dL_law_1664 : decode cL_law 1664 = .ok (.invokevirtual 214, 3) := dk_182 0 214 (dk_at dksL_law_58 14 rfl rfl)
theorem dL_law_1667 : decode cL_law 1667 = .ok (.aload_n 2, 1) := dk_44 (dk_at dksL_law_58 17 rfl rfl)
theorem dL_law_1668 : decode cL_law 1668 = .ok (.invokevirtual 217, 3) := dk_182 0 217 (dk_at dksL_law_58 18 rfl rfl)
theorem dL_law_1671 : decode cL_law 1671 = .ok (.if_icmp .eq 907, 3) := dk_159 3 139 (dk_at dksL_law_58 21 rfl rfl)
theorem dL_law_1674 : decode cL_law 1674 = .ok (.iconst 0, 1) := dk_3 (dk_at dksL_law_59 0 rfl rfl)
theorem dL_law_1675 : decode cL_law 1675 = .ok (.ireturn, 1) := dk_172 (dk_at dksL_law_59 1 rfl rfl)
theorem dL_law_1676 : decode cL_law 1676 = .ok (.aload_n 1, 1) := dk_43 (dk_at dksL_law_59 2 rfl rfl)
theorem dL_law_1677 : decode cL_law 1677 = .ok (.aload_n 0, 1) := dk_42 (dk_at dksL_law_59 3 rfl rfl)
theorem dL_law_1678 : decode cL_law 1678 = .ok (.iload_n 3, 1) := dk_29 (dk_at dksL_law_59 4 rfl rfl)
theorem dL_law_1679 : decode cL_law 1679 = .ok (.iconst 1, 1) := dk_4 (dk_at dksL_law_59 5 rfl rfl)
theorem dL_law_1680 : decode cL_law 1680 = .ok (.iadd, 1) := dk_96 (dk_at dksL_law_59 6 rfl rfl)
theorem dL_law_1681 : decode cL_law 1681 = .ok (.iaload, 1) := dk_46 (dk_at dksL_law_59 7 rfl rfl)
theorem dL_law_1682 : decode cL_law 1682 = .ok (.invokevirtual 218, 3) := dk_182 0 218 (dk_at dksL_law_59 8 rfl rfl)
theorem dL_law_1685 : decode cL_law 1685 = .ok (.aload_n 2, 1) := dk_44 (dk_at dksL_law_59 11 rfl rfl)
theorem dL_law_1686 : decode cL_law 1686 = .ok (.aload_n 0, 1) := dk_42 (dk_at dksL_law_59 12 rfl rfl)
theorem dL_law_1687 : decode cL_law 1687 = .ok (.iload_n 3, 1) := dk_29 (dk_at dksL_law_59 13 rfl rfl)
theorem dL_law_1688 : decode cL_law 1688 = .ok (.iconst 1, 1) := dk_4 (dk_at dksL_law_59 14 rfl rfl)
theorem dL_law_1689 : decode cL_law 1689 = .ok (.iadd, 1) := dk_96 (dk_at dksL_law_59 15 rfl rfl)
theorem dL_law_1690 : decode cL_law 1690 = .ok (.iaload, 1) := dk_46 (dk_at dksL_law_59 16 rfl rfl)
theorem dL_law_1691 : decode cL_law 1691 = .ok (.invokevirtual 221, 3) := dk_182 0 221 (dk_at dksL_law_59 17 rfl rfl)
theorem dL_law_1694 : decode cL_law 1694 = .ok (.if_icmp .eq 884, 3) := dk_159 3 116 (dk_at dksL_law_59 20 rfl rfl)
theorem dL_law_1697 : decode cL_law 1697 = .ok (.iconst 0, 1) := dk_3 (dk_at dksL_law_59 23 rfl rfl)
theorem dL_law_1698 : decode cL_law 1698 = .ok (.ireturn, 1) := dk_172 (dk_at dksL_law_60 0 rfl rfl)
theorem dL_law_1699 : decode cL_law 1699 = .ok (.aload_n 1, 1) := dk_43 (dk_at dksL_law_60 1 rfl rfl)
theorem dL_law_1700 : decode cL_law 1700 = .ok (.aload_n 0, 1) := dk_42 (dk_at dksL_law_60 2 rfl rfl)
theorem dL_law_1701 : decode cL_law 1701 = .ok (.iload_n 3, 1) := dk_29 (dk_at dksL_law_60 3 rfl rfl)
theorem dL_law_1702 : decode cL_law 1702 = .ok (.iconst 1, 1) := dk_4 (dk_at dksL_law_60 4 rfl rfl)
theorem dL_law_1703 : decode cL_law 1703 = .ok (.iadd, 1) := dk_96 (dk_at dksL_law_60 5 rfl rfl)
theorem dL_law_1704 : decode cL_law 1704 = .ok (.iaload, 1) := dk_46 (dk_at dksL_law_60 6 rfl rfl)
theorem dL_law_1705 : decode cL_law 1705 = .ok (.invokevirtual 222, 3) := dk_182 0 222 (dk_at dksL_law_60 7 rfl rfl)
theorem dL_law_1708 : decode cL_law 1708 = .ok (.aload_n 2, 1) := dk_44 (dk_at dksL_law_60 10 rfl rfl)
theorem dL_law_1709 : decode cL_law 1709 = .ok (.aload_n 0, 1) := dk_42 (dk_at dksL_law_60 11 rfl rfl)
theorem dL_law_1710 : decode cL_law 1710 = .ok (.iload_n 3, 1) := dk_29 (dk_at dksL_law_60 12 rfl rfl)
theorem dL_law_1711 : decode cL_law 1711 = .ok (.iconst 1, 1) := dk_4 (dk_at dksL_law_60 13 rfl rfl)
theorem dL_law_1712 : decode cL_law 1712 = .ok (.iadd, 1) := dk_96 (dk_at dksL_law_60 14 rfl rfl)
theorem dL_law_1713 : decode cL_law 1713 = .ok (.iaload, 1) := dk_46 (dk_at dksL_law_60 15 rfl rfl)
theorem dL_law_1714 : decode cL_law 1714 = .ok (.invokevirtual 225, 3) := dk_182 0 225 (dk_at dksL_law_60 16 rfl rfl)
theorem dL_law_1717 : decode cL_law 1717 = .ok (.if_icmp .eq 861, 3) := dk_159 3 93 (dk_at dksL_law_60 19 rfl rfl)
theorem dL_law_1720 : decode cL_law 1720 = .ok (.iconst 0, 1) := dk_3 (dk_at dksL_law_60 22 rfl rfl)
theorem dL_law_1721 : decode cL_law 1721 = .ok (.ireturn, 1) := dk_172 (dk_at dksL_law_60 23 rfl rfl)
theorem dL_law_1722 : decode cL_law 1722 = .ok (.aload_n 1, 1) := dk_43 (dk_at dksL_law_61 0 rfl rfl)
theorem dL_law_1723 : decode cL_law 1723 = .ok (.aload_n 0, 1) := dk_42 (dk_at dksL_law_61 1 rfl rfl)
theorem dL_law_1724 : decode cL_law 1724 = .ok (.iload_n 3, 1) := dk_29 (dk_at dksL_law_61 2 rfl rfl)
theorem dL_law_1725 : decode cL_law 1725 = .ok (.iconst 1, 1) := dk_4 (dk_at dksL_law_61 3 rfl rfl)
theorem dL_law_1726 : decode cL_law 1726 = .ok (.iadd, 1) := dk_96 (dk_at dksL_law_61 4 rfl rfl)
theorem dL_law_1727 : decode cL_law 1727 = .ok (.iaload, 1) := dk_46 (dk_at dksL_law_61 5 rfl rfl)
theorem dL_law_1728 : decode cL_law 1728 = .ok (.aload_n 0, 1) := dk_42 (dk_at dksL_law_61 6 rfl rfl)
theorem dL_law_1729 : decode cL_law 1729 = .ok (.iload_n 3, 1) := dk_29 (dk_at dksL_law_61 7 rfl rfl)
theorem dL_law_1730 : decode cL_law 1730 = .ok (.iconst 2, 1) := dk_5 (dk_at dksL_law_61 8 rfl rfl)
theorem dL_law_1731 : decode cL_law 1731 = .ok (.iadd, 1) := dk_96 (dk_at dksL_law_61 9 rfl rfl)
theorem dL_law_1732 : decode cL_law 1732 = .ok (.iaload, 1) := dk_46 (dk_at dksL_law_61 10 rfl rfl)
theorem dL_law_1733 : decode cL_law 1733 = .ok (.invokevirtual 226, 3) := dk_182 0 226 (dk_at dksL_law_61 11 rfl rfl)
theorem dL_law_1736 : decode cL_law 1736 = .ok (.aload_n 2, 1) := dk_44 (dk_at dksL_law_61 14 rfl rfl)
theorem dL_law_1737 : decode cL_law 1737 = .ok (.aload_n 0, 1) := dk_42 (dk_at dksL_law_61 15 rfl rfl)
theorem dL_law_1738 : decode cL_law 1738 = .ok (.iload_n 3, 1) := dk_29 (dk_at dksL_law_61 16 rfl rfl)
theorem dL_law_1739 : decode cL_law 1739 = .ok (.iconst 1, 1) := dk_4 (dk_at dksL_law_61 17 rfl rfl)
theorem dL_law_1740 : decode cL_law 1740 = .ok (.iadd, 1) := dk_96 (dk_at dksL_law_61 18 rfl rfl)
theorem dL_law_1741 : decode cL_law 1741 = .ok (.iaload, 1) := dk_46 (dk_at dksL_law_61 19 rfl rfl)
theorem dL_law_1742 : decode cL_law 1742 = .ok (.aload_n 0, 1) := dk_42 (dk_at dksL_law_61 20 rfl rfl)
theorem dL_law_1743 : decode cL_law 1743 = .ok (.iload_n 3, 1) := dk_29 (dk_at dksL_law_61 21 rfl rfl)
theorem dL_law_1744 : decode cL_law 1744 = .ok (.iconst 2, 1) := dk_5 (dk_at dksL_law_61 22 rfl rfl)
theorem dL_law_1745 : decode cL_law 1745 = .ok (.iadd, 1) := dk_96 (dk_at dksL_law_61 23 rfl rfl)
theorem dL_law_1746 : decode cL_law 1746 = .ok (.iaload, 1) := dk_46 (dk_at dksL_law_62 0 rfl rfl)
theorem dL_law_1747 : decode cL_law 1747 = .ok (.invokevirtual 229, 3) := dk_182 0 229 (dk_at dksL_law_62 1 rfl rfl)
theorem dL_law_1750 : decode cL_law 1750 = .ok (.if_icmp .eq 828, 3) := dk_159 3 60 (dk_at dksL_law_62 4 rfl rfl)
theorem dL_law_1753 : decode cL_law 1753 = .ok (.iconst 0, 1) := dk_3 (dk_at dksL_law_62 7 rfl rfl)
theorem dL_law_1754 : decode cL_law 1754 = .ok (.ireturn, 1) := dk_172 (dk_at dksL_law_62 8 rfl rfl)
theorem dL_law_1755 : decode cL_law 1755 = .ok (.aload_n 1, 1) := dk_43 (dk_at dksL_law_62 9 rfl rfl)
theorem dL_law_1756 : decode cL_law 1756 = .ok (.aload_n 0, 1) := dk_42 (dk_at dksL_law_62 10 rfl rfl)
theorem dL_law_1757 : decode cL_law 1757 = .ok (.iload_n 3, 1) := dk_29 (dk_at dksL_law_62 11 rfl rfl)
theorem dL_law_1758 : decode cL_law 1758 = .ok (.iconst 1, 1) := dk_4 (dk_at dksL_law_62 12 rfl rfl)
theorem dL_law_1759 : decode cL_law 1759 = .ok (.iadd, 1) := dk_96 (dk_at dksL_law_62 13 rfl rfl)
theorem dL_law_1760 : decode cL_law 1760 = .ok (.iaload, 1) := dk_46 (dk_at dksL_law_62 14 rfl rfl)
theorem dL_law_1761 : decode cL_law 1761 = .ok (.aload_n 0, 1) := dk_42 (dk_at dksL_law_62 15 rfl rfl)
theorem dL_law_1762 : decode cL_law 1762 = .ok (.iload_n 3, 1) := dk_29 (dk_at dksL_law_62 16 rfl rfl)
theorem dL_law_1763 : decode cL_law 1763 = .ok (.iconst 2, 1) := dk_5 (dk_at dksL_law_62 17 rfl rfl)
theorem dL_law_1764 : decode cL_law 1764 = .ok (.iadd, 1) := dk_96 (dk_at dksL_law_62 18 rfl rfl)
theorem dL_law_1765 : decode cL_law 1765 = .ok (.iaload, 1) := dk_46 (dk_at dksL_law_62 19 rfl rfl)
theorem dL_law_1766 : decode cL_law 1766 = .ok (.invokevirtual 230, 3) := dk_182 0 230 (dk_at dksL_law_62 20 rfl rfl)
theorem dL_law_1769 : decode cL_law 1769 = .ok (.aload_n 2, 1) := dk_44 (dk_at dksL_law_62 23 rfl rfl)
theorem dL_law_1770 : decode cL_law 1770 = .ok (.aload_n 0, 1) := dk_42 (dk_at dksL_law_63 0 rfl rfl)
theorem dL_law_1771 : decode cL_law 1771 = .ok (.iload_n 3, 1) := dk_29 (dk_at dksL_law_63 1 rfl rfl)
theorem dL_law_1772 : decode cL_law 1772 = .ok (.iconst 1, 1) := dk_4 (dk_at dksL_law_63 2 rfl rfl)
theorem dL_law_1773 : decode cL_law 1773 = .ok (.iadd, 1) := dk_96 (dk_at dksL_law_63 3 rfl rfl)
theorem dL_law_1774 : decode cL_law 1774 = .ok (.iaload, 1) := dk_46 (dk_at dksL_law_63 4 rfl rfl)
theorem dL_law_1775 : decode cL_law 1775 = .ok (.aload_n 0, 1) := dk_42 (dk_at dksL_law_63 5 rfl rfl)
theorem dL_law_1776 : decode cL_law 1776 = .ok (.iload_n 3, 1) := dk_29 (dk_at dksL_law_63 6 rfl rfl)
theorem dL_law_1777 : decode cL_law 1777 = .ok (.iconst 2, 1) := dk_5 (dk_at dksL_law_63 7 rfl rfl)
theorem dL_law_1778 : decode cL_law 1778 = .ok (.iadd, 1) := dk_96 (dk_at dksL_law_63 8 rfl rfl)
theorem dL_law_1779 : decode cL_law 1779 = .ok (.iaload, 1) := dk_46 (dk_at dksL_law_63 9 rfl rfl)
theorem dL_law_1780 : decode cL_law 1780 = .ok (.invokevirtual 233, 3) := dk_182 0 233 (dk_at dksL_law_63 10 rfl rfl)
theorem dL_law_1783 : decode cL_law 1783 = .ok (.if_icmp .eq 795, 3) := dk_159 3 27 (dk_at dksL_law_63 13 rfl rfl)
theorem dL_law_1786 : decode cL_law 1786 = .ok (.iconst 0, 1) := dk_3 (dk_at dksL_law_63 16 rfl rfl)
theorem dL_law_1787 : decode cL_law 1787 = .ok (.ireturn, 1) := dk_172 (dk_at dksL_law_63 17 rfl rfl)
theorem dL_law_1788 : decode cL_law 1788 = .ok (.aload_n 1, 1) := dk_43 (dk_at dksL_law_63 18 rfl rfl)
theorem dL_law_1789 : decode cL_law 1789 = .ok (.aload_n 0, 1) := dk_42 (dk_at dksL_law_63 19 rfl rfl)
theorem dL_law_1790 : decode cL_law 1790 = .ok (.iload_n 3, 1) := dk_29 (dk_at dksL_law_63 20 rfl rfl)
theorem dL_law_1791 : decode cL_law 1791 = .ok (.iconst 1, 1) := dk_4 (dk_at dksL_law_63 21 rfl rfl)
theorem dL_law_1792 : decode cL_law 1792 = .ok (.iadd, 1) := dk_96 (dk_at dksL_law_63 22 rfl rfl)
theorem dL_law_1793 : decode cL_law 1793 = .ok (.iaload, 1) := dk_46 (dk_at dksL_law_63 23 rfl rfl)
theorem dL_law_1794 : decode cL_law 1794 = .ok (.aload_n 0, 1) := dk_42 (dk_at dksL_law_64 0 rfl rfl)
theorem dL_law_1795 : decode cL_law 1795 = .ok (.iload_n 3, 1) := dk_29 (dk_at dksL_law_64 1 rfl rfl)
theorem dL_law_1796 : decode cL_law 1796 = .ok (.iconst 2, 1) := dk_5 (dk_at dksL_law_64 2 rfl rfl)
theorem dL_law_1797 : decode cL_law 1797 = .ok (.iadd, 1) := dk_96 (dk_at dksL_law_64 3 rfl rfl)
theorem dL_law_1798 : decode cL_law 1798 = .ok (.iaload, 1) := dk_46 (dk_at dksL_law_64 4 rfl rfl)
theorem dL_law_1799 : decode cL_law 1799 = .ok (.invokevirtual 234, 3) := dk_182 0 234 (dk_at dksL_law_64 5 rfl rfl)
theorem dL_law_1802 : decode cL_law 1802 = .ok (.aload_n 2, 1) := dk_44 (dk_at dksL_law_64 8 rfl rfl)
theorem dL_law_1803 : decode cL_law 1803 = .ok (.aload_n 0, 1) := dk_42 (dk_at dksL_law_64 9 rfl rfl)
theorem dL_law_1804 : decode cL_law 1804 = .ok (.iload_n 3, 1) := dk_29 (dk_at dksL_law_64 10 rfl rfl)
theorem dL_law_1805 : decode cL_law 1805 = .ok (.iconst 1, 1) := dk_4 (dk_at dksL_law_64 11 rfl rfl)
theorem dL_law_1806 : decode cL_law 1806 = .ok (.iadd, 1) := dk_96 (dk_at dksL_law_64 12 rfl rfl)
theorem dL_law_1807 : decode cL_law 1807 = .ok (.iaload, 1) := dk_46 (dk_at dksL_law_64 13 rfl rfl)
theorem dL_law_1808 : decode cL_law 1808 = .ok (.aload_n 0, 1) := dk_42 (dk_at dksL_law_64 14 rfl rfl)
theorem dL_law_1809 : decode cL_law 1809 = .ok (.iload_n 3, 1) := dk_29 (dk_at dksL_law_64 15 rfl rfl)
theorem dL_law_1810 : decode cL_law 1810 = .ok (.iconst 2, 1) := dk_5 (dk_at dksL_law_64 16 rfl rfl)
theorem dL_law_1811 : decode cL_law 1811 = .ok (.iadd, 1) := dk_96 (dk_at dksL_law_64 17 rfl rfl)
theorem dL_law_1812 : decode cL_law 1812 = .ok (.iaload, 1) := dk_46 (dk_at dksL_law_64 18 rfl rfl)
theorem dL_law_1813 : decode cL_law 1813 = .ok (.invokevirtual 237, 3) := dk_182 0 237 (dk_at dksL_law_64 19 rfl rfl)
theorem dL_law_1816 : decode cL_law 1816 = .ok (.if_icmp .eq 762, 3) := dk_159 2 250 (dk_at dksL_law_65 0 rfl rfl)
theorem dL_law_1819 : decode cL_law 1819 = .ok (.iconst 0, 1) := dk_3 (dk_at dksL_law_65 3 rfl rfl)
theorem dL_law_1820 : decode cL_law 1820 = .ok (.ireturn, 1) := dk_172 (dk_at dksL_law_65 4 rfl rfl)
theorem dL_law_1821 : decode cL_law 1821 = .ok (.aload_n 1, 1) := dk_43 (dk_at dksL_law_65 5 rfl rfl)
theorem dL_law_1822 : decode cL_law 1822 = .ok (.aload_n 0, 1) := dk_42 (dk_at dksL_law_65 6 rfl rfl)
theorem dL_law_1823 : decode cL_law 1823 = .ok (.iload_n 3, 1) := dk_29 (dk_at dksL_law_65 7 rfl rfl)
theorem dL_law_1824 : decode cL_law 1824 = .ok (.iconst 1, 1) := dk_4 (dk_at dksL_law_65 8 rfl rfl)
theorem dL_law_1825 : decode cL_law 1825 = .ok (.iadd, 1) := dk_96 (dk_at dksL_law_65 9 rfl rfl)
theorem dL_law_1826 : decode cL_law 1826 = .ok (.iaload, 1) := dk_46 (dk_at dksL_law_65 10 rfl rfl)
theorem dL_law_1827 : decode cL_law 1827 = .ok (.aload_n 0, 1) := dk_42 (dk_at dksL_law_65 11 rfl rfl)
theorem dL_law_1828 : decode cL_law 1828 = .ok (.iload_n 3, 1) := dk_29 (dk_at dksL_law_65 12 rfl rfl)
theorem dL_law_1829 : decode cL_law 1829 = .ok (.iconst 2, 1) := dk_5 (dk_at dksL_law_65 13 rfl rfl)
theorem dL_law_1830 : decode cL_law 1830 = .ok (.iadd, 1) := dk_96 (dk_at dksL_law_65 14 rfl rfl)
theorem dL_law_1831 : decode cL_law 1831 = .ok (.iaload, 1) := dk_46 (dk_at dksL_law_65 15 rfl rfl)
theorem dL_law_1832 : decode cL_law 1832 = .ok (.invokevirtual 238, 3) := dk_182 0 238 (dk_at dksL_law_65 16 rfl rfl)
theorem dL_law_1835 : decode cL_law 1835 = .ok (.aload_n 2, 1) := dk_44 (dk_at dksL_law_65 19 rfl rfl)
theorem dL_law_1836 : decode cL_law 1836 = .ok (.aload_n 0, 1) := dk_42 (dk_at dksL_law_65 20 rfl rfl)
theorem dL_law_1837 : decode cL_law 1837 = .ok (.iload_n 3, 1) := dk_29 (dk_at dksL_law_65 21 rfl rfl)
theorem dL_law_1838 : decode cL_law 1838 = .ok (.iconst 1, 1) := dk_4 (dk_at dksL_law_65 22 rfl rfl)
theorem dL_law_1839 : decode cL_law 1839 = .ok (.iadd, 1) := dk_96 (dk_at dksL_law_65 23 rfl rfl)
theorem dL_law_1840 : decode cL_law 1840 = .ok (.iaload, 1) := dk_46 (dk_at dksL_law_66 0 rfl rfl)
theorem dL_law_1841 : decode cL_law 1841 = .ok (.aload_n 0, 1) := dk_42 (dk_at dksL_law_66 1 rfl rfl)
theorem dL_law_1842 : decode cL_law 1842 = .ok (.iload_n 3, 1) := dk_29 (dk_at dksL_law_66 2 rfl rfl)
theorem dL_law_1843 : decode cL_law 1843 = .ok (.iconst 2, 1) := dk_5 (dk_at dksL_law_66 3 rfl rfl)
theorem dL_law_1844 : decode cL_law 1844 = .ok (.iadd, 1) := dk_96 (dk_at dksL_law_66 4 rfl rfl)
theorem dL_law_1845 : decode cL_law 1845 = .ok (.iaload, 1) := dk_46 (dk_at dksL_law_66 5 rfl rfl)
theorem dL_law_1846 : decode cL_law 1846 = .ok (.invokevirtual 241, 3) := dk_182 0 241 (dk_at dksL_law_66 6 rfl rfl)
theorem dL_law_1849 : decode cL_law 1849 = .ok (.if_icmp .eq 729, 3) := dk_159 2 217 (dk_at dksL_law_66 9 rfl rfl)
theorem dL_law_1852 : decode cL_law 1852 = .ok (.iconst 0, 1) := dk_3 (dk_at dksL_law_66 12 rfl rfl)
theorem dL_law_1853 : decode cL_law 1853 = .ok (.ireturn, 1) := dk_172 (dk_at dksL_law_66 13 rfl rfl)
theorem dL_law_1854 : decode cL_law 1854 = .ok (.aload_n 1, 1) := dk_43 (dk_at dksL_law_66 14 rfl rfl)
theorem dL_law_1855 : decode cL_law 1855 = .ok (.aload_n 0, 1) := dk_42 (dk_at dksL_law_66 15 rfl rfl)
theorem dL_law_1856 : decode cL_law 1856 = .ok (.iload_n 3, 1) := dk_29 (dk_at dksL_law_66 16 rfl rfl)
theorem dL_law_1857 : decode cL_law 1857 = .ok (.iconst 1, 1) := dk_4 (dk_at dksL_law_66 17 rfl rfl)
theorem dL_law_1858 : decode cL_law 1858 = .ok (.iadd, 1) := dk_96 (dk_at dksL_law_66 18 rfl rfl)
theorem dL_law_1859 : decode cL_law 1859 = .ok (.iaload, 1) := dk_46 (dk_at dksL_law_66 19 rfl rfl)
theorem dL_law_1860 : decode cL_law 1860 = .ok (.invokevirtual 242, 3) := dk_182 0 242 (dk_at dksL_law_66 20 rfl rfl)
theorem dL_law_1863 : decode cL_law 1863 = .ok (.aload_n 2, 1) := dk_44 (dk_at dksL_law_66 23 rfl rfl)
theorem dL_law_1864 : decode cL_law 1864 = .ok (.aload_n 0, 1) := dk_42 (dk_at dksL_law_67 0 rfl rfl)
theorem dL_law_1865 : decode cL_law 1865 = .ok (.iload_n 3, 1) := dk_29 (dk_at dksL_law_67 1 rfl rfl)
theorem dL_law_1866 : decode cL_law 1866 = .ok (.iconst 1, 1) := dk_4 (dk_at dksL_law_67 2 rfl rfl)
theorem dL_law_1867 : decode cL_law 1867 = .ok (.iadd, 1) := dk_96 (dk_at dksL_law_67 3 rfl rfl)
theorem dL_law_1868 : decode cL_law 1868 = .ok (.iaload, 1) := dk_46 (dk_at dksL_law_67 4 rfl rfl)
theorem dL_law_1869 : decode cL_law 1869 = .ok (.invokevirtual 245, 3) := dk_182 0 245 (dk_at dksL_law_67 5 rfl rfl)
theorem dL_law_1872 : decode cL_law 1872 = .ok (.if_icmp .eq 706, 3) := dk_159 2 194 (dk_at dksL_law_67 8 rfl rfl)
theorem dL_law_1875 : decode cL_law 1875 = .ok (.iconst 0, 1) := dk_3 (dk_at dksL_law_67 11 rfl rfl)
theorem dL_law_1876 : decode cL_law 1876 = .ok (.ireturn, 1) := dk_172 (dk_at dksL_law_67 12 rfl rfl)
theorem dL_law_1877 : decode cL_law 1877 = .ok (.aload_n 1, 1) := dk_43 (dk_at dksL_law_67 13 rfl rfl)
theorem dL_law_1878 : decode cL_law 1878 = .ok (.invokevirtual 246, 3) := dk_182 0 246 (dk_at dksL_law_67 14 rfl rfl)
theorem dL_law_1881 : decode cL_law 1881 = .ok (.aload_n 2, 1) := dk_44 (dk_at dksL_law_67 17 rfl rfl)
theorem dL_law_1882 : decode cL_law 1882 = .ok (.invokevirtual 249, 3) := dk_182 0 249 (dk_at dksL_law_67 18 rfl rfl)
theorem dL_law_1885 : decode cL_law 1885 = .ok (.if_icmp .eq 693, 3) := dk_159 2 181 (dk_at dksL_law_67 21 rfl rfl)
theorem dL_law_1888 : decode cL_law 1888 = .ok (.iconst 0, 1) := dk_3 (dk_at dksL_law_68 0 rfl rfl)
theorem dL_law_1889 : decode cL_law 1889 = .ok (.ireturn, 1) := dk_172 (dk_at dksL_law_68 1 rfl rfl)
theorem dL_law_1890 : decode cL_law 1890 = .ok (.aload_n 1, 1) := dk_43 (dk_at dksL_law_68 2 rfl rfl)
theorem dL_law_1891 : decode cL_law 1891 = .ok (.aload_n 0, 1) := dk_42 (dk_at dksL_law_68 3 rfl rfl)
theorem dL_law_1892 : decode cL_law 1892 = .ok (.iload_n 3, 1) := dk_29 (dk_at dksL_law_68 4 rfl rfl)
theorem dL_law_1893 : decode cL_law 1893 = .ok (.iconst 1, 1) := dk_4 (dk_at dksL_law_68 5 rfl rfl)
theorem dL_law_1894 : decode cL_law 1894 = .ok (.iadd, 1) := dk_96 (dk_at dksL_law_68 6 rfl rfl)
theorem dL_law_1895 : decode cL_law 1895 = .ok (.iaload, 1) := dk_46 (dk_at dksL_law_68 7 rfl rfl)
theorem dL_law_1896 : decode cL_law 1896 = .ok (.invokevirtual 250, 3) := dk_182 0 250 (dk_at dksL_law_68 8 rfl rfl)
theorem dL_law_1899 : decode cL_law 1899 = .ok (.aload_n 2, 1) := dk_44 (dk_at dksL_law_68 11 rfl rfl)
theorem dL_law_1900 : decode cL_law 1900 = .ok (.aload_n 0, 1) := dk_42 (dk_at dksL_law_68 12 rfl rfl)
theorem dL_law_1901 : decode cL_law 1901 = .ok (.iload_n 3, 1) := dk_29 (dk_at dksL_law_68 13 rfl rfl)
theorem dL_law_1902 : decode cL_law 1902 = .ok (.iconst 1, 1) := dk_4 (dk_at dksL_law_68 14 rfl rfl)
theorem dL_law_1903 : decode cL_law 1903 = .ok (.iadd, 1) := dk_96 (dk_at dksL_law_68 15 rfl rfl)
theorem dL_law_1904 : decode cL_law 1904 = .ok (.iaload, 1) := dk_46 (dk_at dksL_law_68 16 rfl rfl)
theorem dL_law_1905 : decode cL_law 1905 = .ok (.invokevirtual 253, 3) := dk_182 0 253 (dk_at dksL_law_68 17 rfl rfl)
theorem dL_law_1908 : decode cL_law 1908 = .ok (.if_icmp .eq 670, 3) := dk_159 2 158 (dk_at dksL_law_68 20 rfl rfl)
theorem dL_law_1911 : decode cL_law 1911 = .ok (.iconst 0, 1) := dk_3 (dk_at dksL_law_68 23 rfl rfl)
theorem dL_law_1912 : decode cL_law 1912 = .ok (.ireturn, 1) := dk_172 (dk_at dksL_law_69 0 rfl rfl)
theorem dL_law_1913 : decode cL_law 1913 = .ok (.aload_n 1, 1) := dk_43 (dk_at dksL_law_69 1 rfl rfl)
theorem dL_law_1914 : decode cL_law 1914 = .ok (.aload_n 0, 1) := dk_42 (dk_at dksL_law_69 2 rfl rfl)
theorem dL_law_1915 : decode cL_law 1915 = .ok (.iload_n 3, 1) := dk_29 (dk_at dksL_law_69 3 rfl rfl)
theorem dL_law_1916 : decode cL_law 1916 = .ok (.iconst 1, 1) := dk_4 (dk_at dksL_law_69 4 rfl rfl)
theorem dL_law_1917 : decode cL_law 1917 = .ok (.iadd, 1) := dk_96 (dk_at dksL_law_69 5 rfl rfl)
theorem dL_law_1918 : decode cL_law 1918 = .ok (.iaload, 1) := dk_46 (dk_at dksL_law_69 6 rfl rfl)
theorem dL_law_1919 : decode cL_law 1919 = .ok (.aload_n 0, 1) := dk_42 (dk_at dksL_law_69 7 rfl rfl)
theorem dL_law_1920 : decode cL_law 1920 = .ok (.iload_n 3, 1) := dk_29 (dk_at dksL_law_69 8 rfl rfl)
theorem dL_law_1921 : decode cL_law 1921 = .ok (.iconst 2, 1) := dk_5 (dk_at dksL_law_69 9 rfl rfl)
theorem dL_law_1922 : decode cL_law 1922 = .ok (.iadd, 1) := dk_96 (dk_at dksL_law_69 10 rfl rfl)
theorem dL_law_1923 : decode cL_law 1923 = .ok (.iaload, 1) := dk_46 (dk_at dksL_law_69 11 rfl rfl)
theorem dL_law_1924 : decode cL_law 1924 = .ok (.invokevirtual 254, 3) := dk_182 0 254 (dk_at dksL_law_69 12 rfl rfl)
theorem dL_law_1927 : decode cL_law 1927 = .ok (.aload_n 2, 1) := dk_44 (dk_at dksL_law_69 15 rfl rfl)
theorem dL_law_1928 : decode cL_law 1928 = .ok (.aload_n 0, 1) := dk_42 (dk_at dksL_law_69 16 rfl rfl)
theorem dL_law_1929 : decode cL_law 1929 = .ok (.iload_n 3, 1) := dk_29 (dk_at dksL_law_69 17 rfl rfl)
theorem dL_law_1930 : decode cL_law 1930 = .ok (.iconst 1, 1) := dk_4 (dk_at dksL_law_69 18 rfl rfl)
theorem dL_law_1931 : decode cL_law 1931 = .ok (.iadd, 1) := dk_96 (dk_at dksL_law_69 19 rfl rfl)
theorem dL_law_1932 : decode cL_law 1932 = .ok (.iaload, 1) := dk_46 (dk_at dksL_law_69 20 rfl rfl)
theorem dL_law_1933 : decode cL_law 1933 = .ok (.aload_n 0, 1) := dk_42 (dk_at dksL_law_69 21 rfl rfl)
theorem dL_law_1934 : decode cL_law 1934 = .ok (.iload_n 3, 1) := dk_29 (dk_at dksL_law_69 22 rfl rfl)
theorem dL_law_1935 : decode cL_law 1935 = .ok (.iconst 2, 1) := dk_5 (dk_at dksL_law_69 23 rfl rfl)
theorem dL_law_1936 : decode cL_law 1936 = .ok (.iadd, 1) := dk_96 (dk_at dksL_law_70 0 rfl rfl)
theorem dL_law_1937 : decode cL_law 1937 = .ok (.iaload, 1) := dk_46 (dk_at dksL_law_70 1 rfl rfl)
theorem dL_law_1938 : decode cL_law 1938 = .ok (.invokevirtual 257, 3) := dk_182 1 1 (dk_at dksL_law_70 2 rfl rfl)
theorem dL_law_1941 : decode cL_law 1941 = .ok (.if_icmp .eq 637, 3) := dk_159 2 125 (dk_at dksL_law_70 5 rfl rfl)
theorem dL_law_1944 : decode cL_law 1944 = .ok (.iconst 0, 1) := dk_3 (dk_at dksL_law_70 8 rfl rfl)
theorem dL_law_1945 : decode cL_law 1945 = .ok (.ireturn, 1) := dk_172 (dk_at dksL_law_70 9 rfl rfl)
theorem dL_law_1946 : decode cL_law 1946 = .ok (.aload_n 1, 1) := dk_43 (dk_at dksL_law_70 10 rfl rfl)
theorem dL_law_1947 : decode cL_law 1947 = .ok (.aload_n 0, 1) := dk_42 (dk_at dksL_law_70 11 rfl rfl)
theorem dL_law_1948 : decode cL_law 1948 = .ok (.iload_n 3, 1) := dk_29 (dk_at dksL_law_70 12 rfl rfl)
theorem dL_law_1949 : decode cL_law 1949 = .ok (.iconst 1, 1) := dk_4 (dk_at dksL_law_70 13 rfl rfl)
theorem dL_law_1950 : decode cL_law 1950 = .ok (.iadd, 1) := dk_96 (dk_at dksL_law_70 14 rfl rfl)
theorem dL_law_1951 : decode cL_law 1951 = .ok (.iaload, 1) := dk_46 (dk_at dksL_law_70 15 rfl rfl)
theorem dL_law_1952 : decode cL_law 1952 = .ok (.aload_n 0, 1) := dk_42 (dk_at dksL_law_70 16 rfl rfl)
theorem dL_law_1953 : decode cL_law 1953 = .ok (.iload_n 3, 1) := dk_29 (dk_at dksL_law_70 17 rfl rfl)
theorem dL_law_1954 : decode cL_law 1954 = .ok (.iconst 2, 1) := dk_5 (dk_at dksL_law_70 18 rfl rfl)
theorem dL_law_1955 : decode cL_law 1955 = .ok (.iadd, 1) := dk_96 (dk_at dksL_law_70 19 rfl rfl)
theorem dL_law_1956 : decode cL_law 1956 = .ok (.iaload, 1) := dk_46 (dk_at dksL_law_70 20 rfl rfl)
theorem dL_law_1957 : decode cL_law 1957 = .ok (.invokevirtual 258, 3) := dk_182 1 2 (dk_at dksL_law_70 21 rfl rfl)
theorem dL_law_1960 : decode cL_law 1960 = .ok (.aload_n 2, 1) := dk_44 (dk_at dksL_law_71 0 rfl rfl)
theorem dL_law_1961 : decode cL_law 1961 = .ok (.aload_n 0, 1) := dk_42 (dk_at dksL_law_71 1 rfl rfl)
theorem dL_law_1962 : decode cL_law 1962 = .ok (.iload_n 3, 1) := dk_29 (dk_at dksL_law_71 2 rfl rfl)
theorem dL_law_1963 : decode cL_law 1963 = .ok (.iconst 1, 1) := dk_4 (dk_at dksL_law_71 3 rfl rfl)
theorem dL_law_1964 : decode cL_law 1964 = .ok (.iadd, 1) := dk_96 (dk_at dksL_law_71 4 rfl rfl)
theorem dL_law_1965 : decode cL_law 1965 = .ok (.iaload, 1) := dk_46 (dk_at dksL_law_71 5 rfl rfl)
theorem dL_law_1966 : decode cL_law 1966 = .ok (.aload_n 0, 1) := dk_42 (dk_at dksL_law_71 6 rfl rfl)
theorem dL_law_1967 : decode cL_law 1967 = .ok (.iload_n 3, 1) := dk_29 (dk_at dksL_law_71 7 rfl rfl)
theorem dL_law_1968 : decode cL_law 1968 = .ok (.iconst 2, 1) := dk_5 (dk_at dksL_law_71 8 rfl rfl)
theorem dL_law_1969 : decode cL_law 1969 = .ok (.iadd, 1) := dk_96 (dk_at dksL_law_71 9 rfl rfl)
theorem dL_law_1970 : decode cL_law 1970 = .ok (.iaload, 1) := dk_46 (dk_at dksL_law_71 10 rfl rfl)
theorem dL_law_1971 : decode cL_law 1971 = .ok (.invokevirtual 261, 3) := dk_182 1 5 (dk_at dksL_law_71 11 rfl rfl)
theorem dL_law_1974 : decode cL_law 1974 = .ok (.if_icmp .eq 604, 3) := dk_159 2 92 (dk_at dksL_law_71 14 rfl rfl)
theorem dL_law_1977 : decode cL_law 1977 = .ok (.iconst 0, 1) := dk_3 (dk_at dksL_law_71 17 rfl rfl)
theorem dL_law_1978 : decode cL_law 1978 = .ok (.ireturn, 1) := dk_172 (dk_at dksL_law_71 18 rfl rfl)
theorem dL_law_1979 : decode cL_law 1979 = .ok (.aload_n 1, 1) := dk_43 (dk_at dksL_law_71 19 rfl rfl)
theorem dL_law_1980 : decode cL_law 1980 = .ok (.aload_n 0, 1) := dk_42 (dk_at dksL_law_71 20 rfl rfl)
theorem dL_law_1981 : decode cL_law 1981 = .ok (.iload_n 3, 1) := dk_29 (dk_at dksL_law_71 21 rfl rfl)
theorem dL_law_1982 : decode cL_law 1982 = .ok (.iconst 1, 1) := dk_4 (dk_at dksL_law_71 22 rfl rfl)
theorem dL_law_1983 : decode cL_law 1983 = .ok (.iadd, 1) := dk_96 (dk_at dksL_law_71 23 rfl rfl)
theorem dL_law_1984 : decode cL_law 1984 = .ok (.iaload, 1) := dk_46 (dk_at dksL_law_72 0 rfl rfl)
theorem dL_law_1985 : decode cL_law 1985 = .ok (.aload_n 0, 1) := dk_42 (dk_at dksL_law_72 1 rfl rfl)
theorem dL_law_1986 : decode cL_law 1986 = .ok (.iload_n 3, 1) := dk_29 (dk_at dksL_law_72 2 rfl rfl)
theorem dL_law_1987 : decode cL_law 1987 = .ok (.iconst 2, 1) := dk_5 (dk_at dksL_law_72 3 rfl rfl)
theorem dL_law_1988 : decode cL_law 1988 = .ok (.iadd, 1) := dk_96 (dk_at dksL_law_72 4 rfl rfl)
theorem dL_law_1989 : decode cL_law 1989 = .ok (.iaload, 1) := dk_46 (dk_at dksL_law_72 5 rfl rfl)
theorem dL_law_1990 : decode cL_law 1990 = .ok (.aload_n 0, 1) := dk_42 (dk_at dksL_law_72 6 rfl rfl)
theorem dL_law_1991 : decode cL_law 1991 = .ok (.iload_n 3, 1) := dk_29 (dk_at dksL_law_72 7 rfl rfl)
theorem dL_law_1992 : decode cL_law 1992 = .ok (.iconst 3, 1) := dk_6 (dk_at dksL_law_72 8 rfl rfl)
theorem dL_law_1993 : decode cL_law 1993 = .ok (.iadd, 1) := dk_96 (dk_at dksL_law_72 9 rfl rfl)
theorem dL_law_1994 : decode cL_law 1994 = .ok (.iaload, 1) := dk_46 (dk_at dksL_law_72 10 rfl rfl)
theorem dL_law_1995 : decode cL_law 1995 = .ok (.aload_n 0, 1) := dk_42 (dk_at dksL_law_72 11 rfl rfl)
theorem dL_law_1996 : decode cL_law 1996 = .ok (.iload_n 3, 1) := dk_29 (dk_at dksL_law_72 12 rfl rfl)
theorem dL_law_1997 : decode cL_law 1997 = .ok (.iconst 4, 1) := dk_7 (dk_at dksL_law_72 13 rfl rfl)
theorem dL_law_1998 : decode cL_law 1998 = .ok (.iadd, 1) := dk_96 (dk_at dksL_law_72 14 rfl rfl)
theorem dL_law_1999 : decode cL_law 1999 = .ok (.iaload, 1) := dk_46 (dk_at dksL_law_72 15 rfl rfl)
theorem dL_law_2000 : decode cL_law 2000 = .ok (.invokevirtual 262, 3) := dk_182 1 6 (dk_at dksL_law_72 16 rfl rfl)
theorem dL_law_2003 : decode cL_law 2003 = .ok (.aload_n 2, 1) := dk_44 (dk_at dksL_law_72 19 rfl rfl)
theorem dL_law_2004 : decode cL_law 2004 = .ok (.aload_n 0, 1) := dk_42 (dk_at dksL_law_72 20 rfl rfl)
theorem dL_law_2005 : decode cL_law 2005 = .ok (.iload_n 3, 1) := dk_29 (dk_at dksL_law_72 21 rfl rfl)
theorem dL_law_2006 : decode cL_law 2006 = .ok (.iconst 1, 1) := dk_4 (dk_at dksL_law_72 22 rfl rfl)
theorem dL_law_2007 : decode cL_law 2007 = .ok (.iadd, 1) := dk_96 (dk_at dksL_law_72 23 rfl rfl)
theorem dL_law_2008 : decode cL_law 2008 = .ok (.iaload, 1) := dk_46 (dk_at dksL_law_73 0 rfl rfl)
theorem dL_law_2009 : decode cL_law 2009 = .ok (.aload_n 0, 1) := dk_42 (dk_at dksL_law_73 1 rfl rfl)
theorem dL_law_2010 : decode cL_law 2010 = .ok (.iload_n 3, 1) := dk_29 (dk_at dksL_law_73 2 rfl rfl)
theorem dL_law_2011 : decode cL_law 2011 = .ok (.iconst 2, 1) := dk_5 (dk_at dksL_law_73 3 rfl rfl)
theorem dL_law_2012 : decode cL_law 2012 = .ok (.iadd, 1) := dk_96 (dk_at dksL_law_73 4 rfl rfl)
theorem dL_law_2013 : decode cL_law 2013 = .ok (.iaload, 1) := dk_46 (dk_at dksL_law_73 5 rfl rfl)
theorem dL_law_2014 : decode cL_law 2014 = .ok (.aload_n 0, 1) := dk_42 (dk_at dksL_law_73 6 rfl rfl)
theorem dL_law_2015 : decode cL_law 2015 = .ok (.iload_n 3, 1) := dk_29 (dk_at dksL_law_73 7 rfl rfl)
theorem dL_law_2016 : decode cL_law 2016 = .ok (.iconst 3, 1) := dk_6 (dk_at dksL_law_73 8 rfl rfl)
theorem dL_law_2017 : decode cL_law 2017 = .ok (.iadd, 1) := dk_96 (dk_at dksL_law_73 9 rfl rfl)
theorem dL_law_2018 : decode cL_law 2018 = .ok (.iaload, 1) := dk_46 (dk_at dksL_law_73 10 rfl rfl)
theorem dL_law_2019 : decode cL_law 2019 = .ok (.aload_n 0, 1) := dk_42 (dk_at dksL_law_73 11 rfl rfl)
theorem dL_law_2020 : decode cL_law 2020 = .ok (.iload_n 3, 1) := dk_29 (dk_at dksL_law_73 12 rfl rfl)
theorem dL_law_2021 : decode cL_law 2021 = .ok (.iconst 4, 1) := dk_7 (dk_at dksL_law_73 13 rfl rfl)
theorem dL_law_2022 : decode cL_law 2022 = .ok (.iadd, 1) := dk_96 (dk_at dksL_law_73 14 rfl rfl)
theorem dL_law_2023 : decode cL_law 2023 = .ok (.iaload, 1) := dk_46 (dk_at dksL_law_73 15 rfl rfl)
theorem dL_law_2024 : decode cL_law 2024 = .ok (.invokevirtual 265, 3) := dk_182 1 9 (dk_at dksL_law_73 16 rfl rfl)
theorem dL_law_2027 : decode cL_law 2027 = .ok (.if_icmp .eq 551, 3) := dk_159 2 39 (dk_at dksL_law_73 19 rfl rfl)
theorem dL_law_2030 : decode cL_law 2030 = .ok (.iconst 0, 1) := dk_3 (dk_at dksL_law_73 22 rfl rfl)
theorem dL_law_2031 : decode cL_law 2031 = .ok (.ireturn, 1) := dk_172 (dk_at dksL_law_73 23 rfl rfl)
theorem dL_law_2032 : decode cL_law 2032 = .ok (.aload_n 1, 1) := dk_43 (dk_at dksL_law_74 0 rfl rfl)
theorem dL_law_2033 : decode cL_law 2033 = .ok (.aload_n 0, 1) := dk_42 (dk_at dksL_law_74 1 rfl rfl)
theorem dL_law_2034 : decode cL_law 2034 = .ok (.iload_n 3, 1) := dk_29 (dk_at dksL_law_74 2 rfl rfl)
theorem dL_law_2035 : decode cL_law 2035 = .ok (.iconst 1, 1) := dk_4 (dk_at dksL_law_74 3 rfl rfl)
theorem dL_law_2036 : decode cL_law 2036 = .ok (.iadd, 1) := dk_96 (dk_at dksL_law_74 4 rfl rfl)
theorem dL_law_2037 : decode cL_law 2037 = .ok (.iaload, 1) := dk_46 (dk_at dksL_law_74 5 rfl rfl)
theorem dL_law_2038 : decode cL_law 2038 = .ok (.aload_n 0, 1) := dk_42 (dk_at dksL_law_74 6 rfl rfl)
theorem dL_law_2039 : decode cL_law 2039 = .ok (.iload_n 3, 1) := dk_29 (dk_at dksL_law_74 7 rfl rfl)
theorem dL_law_2040 : decode cL_law 2040 = .ok (.iconst 2, 1) := dk_5 (dk_at dksL_law_74 8 rfl rfl)
theorem dL_law_2041 : decode cL_law 2041 = .ok (.iadd, 1) := dk_96 (dk_at dksL_law_74 9 rfl rfl)
theorem dL_law_2042 : decode cL_law 2042 = .ok (.iaload, 1) := dk_46 (dk_at dksL_law_74 10 rfl rfl)
theorem dL_law_2043 : decode cL_law 2043 = .ok (.aload_n 0, 1) := dk_42 (dk_at dksL_law_74 11 rfl rfl)
theorem dL_law_2044 : decode cL_law 2044 = .ok (.iload_n 3, 1) := dk_29 (dk_at dksL_law_74 12 rfl rfl)
theorem dL_law_2045 : decode cL_law 2045 = .ok (.iconst 3, 1) := dk_6 (dk_at dksL_law_74 13 rfl rfl)
theorem dL_law_2046 : decode cL_law 2046 = .ok (.iadd, 1) := dk_96 (dk_at dksL_law_74 14 rfl rfl)
theorem dL_law_2047 : decode cL_law 2047 = .ok (.iaload, 1) := dk_46 (dk_at dksL_law_74 15 rfl rfl)
theorem dL_law_2048 : decode cL_law 2048 = .ok (.aload_n 0, 1) := dk_42 (dk_at dksL_law_74 16 rfl rfl)
theorem dL_law_2049 : decode cL_law 2049 = .ok (.iload_n 3, 1) := dk_29 (dk_at dksL_law_74 17 rfl rfl)
theorem dL_law_2050 : decode cL_law 2050 = .ok (.iconst 4, 1) := dk_7 (dk_at dksL_law_74 18 rfl rfl)
theorem dL_law_2051 : decode cL_law 2051 = .ok (.iadd, 1) := dk_96 (dk_at dksL_law_74 19 rfl rfl)
theorem dL_law_2052 : decode cL_law 2052 = .ok (.iaload, 1) := dk_46 (dk_at dksL_law_74 20 rfl rfl)
theorem dL_law_2053 : decode cL_law 2053 = .ok (.invokevirtual 266, 3) := dk_182 1 10 (dk_at dksL_law_74 21 rfl rfl)
theorem dL_law_2056 : decode cL_law 2056 = .ok (.aload_n 2, 1) := dk_44 (dk_at dksL_law_75 0 rfl rfl)
theorem dL_law_2057 : decode cL_law 2057 = .ok (.aload_n 0, 1) := dk_42 (dk_at dksL_law_75 1 rfl rfl)
theorem dL_law_2058 : decode cL_law 2058 = .ok (.iload_n 3, 1) := dk_29 (dk_at dksL_law_75 2 rfl rfl)
theorem dL_law_2059 : decode cL_law 2059 = .ok (.iconst 1, 1) := dk_4 (dk_at dksL_law_75 3 rfl rfl)
theorem dL_law_2060 : decode cL_law 2060 = .ok (.iadd, 1) := dk_96 (dk_at dksL_law_75 4 rfl rfl)
theorem dL_law_2061 : decode cL_law 2061 = .ok (.iaload, 1) := dk_46 (dk_at dksL_law_75 5 rfl rfl)
theorem dL_law_2062 : decode cL_law 2062 = .ok (.aload_n 0, 1) := dk_42 (dk_at dksL_law_75 6 rfl rfl)
theorem dL_law_2063 : decode cL_law 2063 = .ok (.iload_n 3, 1) := dk_29 (dk_at dksL_law_75 7 rfl rfl)
theorem dL_law_2064 : decode cL_law 2064 = .ok (.iconst 2, 1) := dk_5 (dk_at dksL_law_75 8 rfl rfl)
theorem dL_law_2065 : decode cL_law 2065 = .ok (.iadd, 1) := dk_96 (dk_at dksL_law_75 9 rfl rfl)
theorem dL_law_2066 : decode cL_law 2066 = .ok (.iaload, 1) := dk_46 (dk_at dksL_law_75 10 rfl rfl)
theorem dL_law_2067 : decode cL_law 2067 = .ok (.aload_n 0, 1) := dk_42 (dk_at dksL_law_75 11 rfl rfl)
theorem dL_law_2068 : decode cL_law 2068 = .ok (.iload_n 3, 1) := dk_29 (dk_at dksL_law_75 12 rfl rfl)
theorem dL_law_2069 : decode cL_law 2069 = .ok (.iconst 3, 1) := dk_6 (dk_at dksL_law_75 13 rfl rfl)
theorem dL_law_2070 : decode cL_law 2070 = .ok (.iadd, 1) := dk_96 (dk_at dksL_law_75 14 rfl rfl)
theorem dL_law_2071 : decode cL_law 2071 = .ok (.iaload, 1) := dk_46 (dk_at dksL_law_75 15 rfl rfl)
theorem dL_law_2072 : decode cL_law 2072 = .ok (.aload_n 0, 1) := dk_42 (dk_at dksL_law_75 16 rfl rfl)
theorem dL_law_2073 : decode cL_law 2073 = .ok (.iload_n 3, 1) := dk_29 (dk_at dksL_law_75 17 rfl rfl)
theorem dL_law_2074 : decode cL_law 2074 = .ok (.iconst 4, 1) := dk_7 (dk_at dksL_law_75 18 rfl rfl)
theorem dL_law_2075 : decode cL_law 2075 = .ok (.iadd, 1) := dk_96 (dk_at dksL_law_75 19 rfl rfl)
theorem dL_law_2076 : decode cL_law 2076 = .ok (.iaload, 1) := dk_46 (dk_at dksL_law_75 20 rfl rfl)
theorem dL_law_2077 : decode cL_law 2077 = .ok (.invokevirtual 269, 3) := dk_182 1 13 (dk_at dksL_law_75 21 rfl rfl)
theorem dL_law_2080 : decode cL_law 2080 = .ok (.if_icmp .eq 498, 3) := dk_159 1 242 (dk_at dksL_law_76 0 rfl rfl)
theorem dL_law_2083 : decode cL_law 2083 = .ok (.iconst 0, 1) := dk_3 (dk_at dksL_law_76 3 rfl rfl)
theorem dL_law_2084 : decode cL_law 2084 = .ok (.ireturn, 1) := dk_172 (dk_at dksL_law_76 4 rfl rfl)
theorem dL_law_2085 : decode cL_law 2085 = .ok (.aload_n 1, 1) := dk_43 (dk_at dksL_law_76 5 rfl rfl)
theorem dL_law_2086 : decode cL_law 2086 = .ok (.aload_n 0, 1) := dk_42 (dk_at dksL_law_76 6 rfl rfl)
theorem dL_law_2087 : decode cL_law 2087 = .ok (.iload_n 3, 1) := dk_29 (dk_at dksL_law_76 7 rfl rfl)
theorem dL_law_2088 : decode cL_law 2088 = .ok (.iconst 1, 1) := dk_4 (dk_at dksL_law_76 8 rfl rfl)
theorem dL_law_2089 : decode cL_law 2089 = .ok (.iadd, 1) := dk_96 (dk_at dksL_law_76 9 rfl rfl)
theorem dL_law_2090 : decode cL_law 2090 = .ok (.iaload, 1) := dk_46 (dk_at dksL_law_76 10 rfl rfl)
theorem dL_law_2091 : decode cL_law 2091 = .ok (.aload_n 0, 1) := dk_42 (dk_at dksL_law_76 11 rfl rfl)
theorem dL_law_2092 : decode cL_law 2092 = .ok (.iload_n 3, 1) := dk_29 (dk_at dksL_law_76 12 rfl rfl)
theorem dL_law_2093 : decode cL_law 2093 = .ok (.iconst 2, 1) := dk_5 (dk_at dksL_law_76 13 rfl rfl)
theorem dL_law_2094 : decode cL_law 2094 = .ok (.iadd, 1) := dk_96 (dk_at dksL_law_76 14 rfl rfl)
theorem dL_law_2095 : decode cL_law 2095 = .ok (.iaload, 1) := dk_46 (dk_at dksL_law_76 15 rfl rfl)
theorem dL_law_2096 : decode cL_law 2096 = .ok (.invokevirtual 270, 3) := dk_182 1 14 (dk_at dksL_law_76 16 rfl rfl)
theorem dL_law_2099 : decode cL_law 2099 = .ok (.aload_n 2, 1) := dk_44 (dk_at dksL_law_76 19 rfl rfl)
theorem dL_law_2100 : decode cL_law 2100 = .ok (.aload_n 0, 1) := dk_42 (dk_at dksL_law_76 20 rfl rfl)
theorem dL_law_2101 : decode cL_law 2101 = .ok (.iload_n 3, 1) := dk_29 (dk_at dksL_law_76 21 rfl rfl)
theorem dL_law_2102 : decode cL_law 2102 = .ok (.iconst 1, 1) := dk_4 (dk_at dksL_law_76 22 rfl rfl)
theorem dL_law_2103 : decode cL_law 2103 = .ok (.iadd, 1) := dk_96 (dk_at dksL_law_76 23 rfl rfl)
theorem dL_law_2104 : decode cL_law 2104 = .ok (.iaload, 1) := dk_46 (dk_at dksL_law_77 0 rfl rfl)
theorem dL_law_2105 : decode cL_law 2105 = .ok (.aload_n 0, 1) := dk_42 (dk_at dksL_law_77 1 rfl rfl)
theorem dL_law_2106 : decode cL_law 2106 = .ok (.iload_n 3, 1) := dk_29 (dk_at dksL_law_77 2 rfl rfl)
theorem dL_law_2107 : decode cL_law 2107 = .ok (.iconst 2, 1) := dk_5 (dk_at dksL_law_77 3 rfl rfl)
theorem dL_law_2108 : decode cL_law 2108 = .ok (.iadd, 1) := dk_96 (dk_at dksL_law_77 4 rfl rfl)
theorem dL_law_2109 : decode cL_law 2109 = .ok (.iaload, 1) := dk_46 (dk_at dksL_law_77 5 rfl rfl)
theorem dL_law_2110 : decode cL_law 2110 = .ok (.invokevirtual 274, 3) := dk_182 1 18 (dk_at dksL_law_77 6 rfl rfl)
theorem dL_law_2113 : decode cL_law 2113 = .ok (.lcmp, 1) := dk_148 (dk_at dksL_law_77 9 rfl rfl)
theorem dL_law_2114 : decode cL_law 2114 = .ok (.ifCond .eq 464, 3) := dk_153 1 208 (dk_at dksL_law_77 10 rfl rfl)
theorem dL_law_2117 : decode cL_law 2117 = .ok (.iconst 0, 1) := dk_3 (dk_at dksL_law_77 13 rfl rfl)
theorem dL_law_2118 : decode cL_law 2118 = .ok (.ireturn, 1) := dk_172 (dk_at dksL_law_77 14 rfl rfl)
theorem dL_law_2119 : decode cL_law 2119 = .ok (.aload_n 1, 1) := dk_43 (dk_at dksL_law_77 15 rfl rfl)
theorem dL_law_2120 : decode cL_law 2120 = .ok (.aload_n 0, 1) := dk_42 (dk_at dksL_law_77 16 rfl rfl)
theorem dL_law_2121 : decode cL_law 2121 = .ok (.iload_n 3, 1) := dk_29 (dk_at dksL_law_77 17 rfl rfl)
theorem dL_law_2122 : decode cL_law 2122 = .ok (.iconst 1, 1) := dk_4 (dk_at dksL_law_77 18 rfl rfl)
theorem dL_law_2123 : decode cL_law 2123 = .ok (.iadd, 1) := dk_96 (dk_at dksL_law_77 19 rfl rfl)
theorem dL_law_2124 : decode cL_law 2124 = .ok (.iaload, 1) := dk_46 (dk_at dksL_law_77 20 rfl rfl)
theorem dL_law_2125 : decode cL_law 2125 = .ok (.aload_n 0, 1) := dk_42 (dk_at dksL_law_77 21 rfl rfl)
theorem dL_law_2126 : decode cL_law 2126 = .ok (.iload_n 3, 1) := dk_29 (dk_at dksL_law_77 22 rfl rfl)
theorem dL_law_2127 : decode cL_law 2127 = .ok (.iconst 2, 1) := dk_5 (dk_at dksL_law_77 23 rfl rfl)
theorem dL_law_2128 : decode cL_law 2128 = .ok (.iadd, 1) := dk_96 (dk_at dksL_law_78 0 rfl rfl)
theorem dL_law_2129 : decode cL_law 2129 = .ok (.iaload, 1) := dk_46 (dk_at dksL_law_78 1 rfl rfl)
theorem dL_law_2130 : decode cL_law 2130 = .ok (.aload_n 0, 1) := dk_42 (dk_at dksL_law_78 2 rfl rfl)
theorem dL_law_2131 : decode cL_law 2131 = .ok (.iload_n 3, 1) := dk_29 (dk_at dksL_law_78 3 rfl rfl)
theorem dL_law_2132 : decode cL_law 2132 = .ok (.iconst 3, 1) := dk_6 (dk_at dksL_law_78 4 rfl rfl)
theorem dL_law_2133 : decode cL_law 2133 = .ok (.iadd, 1) := dk_96 (dk_at dksL_law_78 5 rfl rfl)
theorem dL_law_2134 : decode cL_law 2134 = .ok (.iaload, 1) := dk_46 (dk_at dksL_law_78 6 rfl rfl)
theorem dL_law_2135 : decode cL_law 2135 = .ok (.invokevirtual 275, 3) := dk_182 1 19 (dk_at dksL_law_78 7 rfl rfl)
theorem dL_law_2138 : decode cL_law 2138 = .ok (.aload_n 2, 1) := dk_44 (dk_at dksL_law_78 10 rfl rfl)
theorem dL_law_2139 : decode cL_law 2139 = .ok (.aload_n 0, 1) := dk_42 (dk_at dksL_law_78 11 rfl rfl)
theorem dL_law_2140 : decode cL_law 2140 = .ok (.iload_n 3, 1) := dk_29 (dk_at dksL_law_78 12 rfl rfl)
theorem dL_law_2141 : decode cL_law 2141 = .ok (.iconst 1, 1) := dk_4 (dk_at dksL_law_78 13 rfl rfl)
theorem dL_law_2142 : decode cL_law 2142 = .ok (.iadd, 1) := dk_96 (dk_at dksL_law_78 14 rfl rfl)
theorem dL_law_2143 : decode cL_law 2143 = .ok (.iaload, 1) := dk_46 (dk_at dksL_law_78 15 rfl rfl)
theorem dL_law_2144 : decode cL_law 2144 = .ok (.aload_n 0, 1) := dk_42 (dk_at dksL_law_78 16 rfl rfl)
theorem dL_law_2145 : decode cL_law 2145 = .ok (.iload_n 3, 1) := dk_29 (dk_at dksL_law_78 17 rfl rfl)
theorem dL_law_2146 : decode cL_law 2146 = .ok (.iconst 2, 1) := dk_5 (dk_at dksL_law_78 18 rfl rfl)
theorem dL_law_2147 : decode cL_law 2147 = .ok (.iadd, 1) := dk_96 (dk_at dksL_law_78 19 rfl rfl)
theorem dL_law_2148 : decode cL_law 2148 = .ok (.iaload, 1) := dk_46 (dk_at dksL_law_78 20 rfl rfl)
theorem dL_law_2149 : decode cL_law 2149 = .ok (.aload_n 0, 1) := dk_42 (dk_at dksL_law_78 21 rfl rfl)
theorem dL_law_2150 : decode cL_law 2150 = .ok (.iload_n 3, 1) := dk_29 (dk_at dksL_law_78 22 rfl rfl)
theorem dL_law_2151 : decode cL_law 2151 = .ok (.iconst 3, 1) := dk_6 (dk_at dksL_law_78 23 rfl rfl)
theorem dL_law_2152 : decode cL_law 2152 = .ok (.iadd, 1) := dk_96 (dk_at dksL_law_79 0 rfl rfl)
theorem dL_law_2153 : decode cL_law 2153 = .ok (.iaload, 1) := dk_46 (dk_at dksL_law_79 1 rfl rfl)
theorem dL_law_2154 : decode cL_law 2154 = .ok (.invokevirtual 279, 3) := dk_182 1 23 (dk_at dksL_law_79 2 rfl rfl)
theorem dL_law_2157 : decode cL_law 2157 = .ok (.if_icmp .eq 421, 3) := dk_159 1 165 (dk_at dksL_law_79 5 rfl rfl)
theorem dL_law_2160 : decode cL_law 2160 = .ok (.iconst 0, 1) := dk_3 (dk_at dksL_law_79 8 rfl rfl)
theorem dL_law_2161 : decode cL_law 2161 = .ok (.ireturn, 1) := dk_172 (dk_at dksL_law_79 9 rfl rfl)
theorem dL_law_2162 : decode cL_law 2162 = .ok (.aload_n 1, 1) := dk_43 (dk_at dksL_law_79 10 rfl rfl)
theorem dL_law_2163 : decode cL_law 2163 = .ok (.aload_n 0, 1) := dk_42 (dk_at dksL_law_79 11 rfl rfl)
theorem dL_law_2164 : decode cL_law 2164 = .ok (.iload_n 3, 1) := dk_29 (dk_at dksL_law_79 12 rfl rfl)
theorem dL_law_2165 : decode cL_law 2165 = .ok (.iconst 1, 1) := dk_4 (dk_at dksL_law_79 13 rfl rfl)
theorem dL_law_2166 : decode cL_law 2166 = .ok (.iadd, 1) := dk_96 (dk_at dksL_law_79 14 rfl rfl)
theorem dL_law_2167 : decode cL_law 2167 = .ok (.iaload, 1) := dk_46 (dk_at dksL_law_79 15 rfl rfl)
theorem dL_law_2168 : decode cL_law 2168 = .ok (.aload_n 0, 1) := dk_42 (dk_at dksL_law_79 16 rfl rfl)
theorem dL_law_2169 : decode cL_law 2169 = .ok (.iload_n 3, 1) := dk_29 (dk_at dksL_law_79 17 rfl rfl)
theorem dL_law_2170 : decode cL_law 2170 = .ok (.iconst 2, 1) := dk_5 (dk_at dksL_law_79 18 rfl rfl)
theorem dL_law_2171 : decode cL_law 2171 = .ok (.iadd, 1) := dk_96 (dk_at dksL_law_79 19 rfl rfl)
theorem dL_law_2172 : decode cL_law 2172 = .ok (.iaload, 1) := dk_46 (dk_at dksL_law_79 20 rfl rfl)
theorem dL_law_2173 : decode cL_law 2173 = .ok (.invokevirtual 280, 3) := dk_182 1 24 (dk_at dksL_law_79 21 rfl rfl)
theorem dL_law_2176 : decode cL_law 2176 = .ok (.aload_n 2, 1) := dk_44 (dk_at dksL_law_80 0 rfl rfl)
theorem dL_law_2177 : decode cL_law 2177 = .ok (.aload_n 0, 1) := dk_42 (dk_at dksL_law_80 1 rfl rfl)
theorem dL_law_2178 : decode cL_law 2178 = .ok (.iload_n 3, 1) := dk_29 (dk_at dksL_law_80 2 rfl rfl)
theorem dL_law_2179 : decode cL_law 2179 = .ok (.iconst 1, 1) := dk_4 (dk_at dksL_law_80 3 rfl rfl)
theorem dL_law_2180 : decode cL_law 2180 = .ok (.iadd, 1) := dk_96 (dk_at dksL_law_80 4 rfl rfl)
theorem dL_law_2181 : decode cL_law 2181 = .ok (.iaload, 1) := dk_46 (dk_at dksL_law_80 5 rfl rfl)
theorem dL_law_2182 : decode cL_law 2182 = .ok (.aload_n 0, 1) := dk_42 (dk_at dksL_law_80 6 rfl rfl)
theorem dL_law_2183 : decode cL_law 2183 = .ok (.iload_n 3, 1) := dk_29 (dk_at dksL_law_80 7 rfl rfl)
theorem dL_law_2184 : decode cL_law 2184 = .ok (.iconst 2, 1) := dk_5 (dk_at dksL_law_80 8 rfl rfl)
theorem dL_law_2185 : decode cL_law 2185 = .ok (.iadd, 1) := dk_96 (dk_at dksL_law_80 9 rfl rfl)
theorem dL_law_2186 : decode cL_law 2186 = .ok (.iaload, 1) := dk_46 (dk_at dksL_law_80 10 rfl rfl)
theorem dL_law_2187 : decode cL_law 2187 = .ok (.invokevirtual 283, 3) := dk_182 1 27 (dk_at dksL_law_80 11 rfl rfl)
theorem dL_law_2190 : decode cL_law 2190 = .ok (.if_icmp .eq 388, 3) := dk_159 1 132 (dk_at dksL_law_80 14 rfl rfl)
theorem dL_law_2193 : decode cL_law 2193 = .ok (.iconst 0, 1) := dk_3 (dk_at dksL_law_80 17 rfl rfl)
theorem dL_law_2194 : decode cL_law 2194 = .ok (.ireturn, 1) := dk_172 (dk_at dksL_law_80 18 rfl rfl)
theorem dL_law_2195 : decode cL_law 2195 = .ok (.aload_n 1, 1) := dk_43 (dk_at dksL_law_80 19 rfl rfl)
theorem dL_law_2196 : decode cL_law 2196 = .ok (.invokevirtual 284, 3) := dk_182 1 28 (dk_at dksL_law_80 20 rfl rfl)
theorem dL_law_2199 : decode cL_law 2199 = .ok (.aload_n 2, 1) := dk_44 (dk_at dksL_law_80 23 rfl rfl)
theorem dL_law_2200 : decode cL_law 2200 = .ok (.invokevirtual 287, 3) := dk_182 1 31 (dk_at dksL_law_81 0 rfl rfl)
theorem dL_law_2203 : decode cL_law 2203 = .ok (.if_icmp .eq 375, 3) := dk_159 1 119 (dk_at dksL_law_81 3 rfl rfl)
theorem dL_law_2206 : decode cL_law 2206 = .ok (.iconst 0, 1) := dk_3 (dk_at dksL_law_81 6 rfl rfl)
theorem dL_law_2207 : decode cL_law 2207 = .ok (.ireturn, 1) := dk_172 (dk_at dksL_law_81 7 rfl rfl)
theorem dL_law_2208 : decode cL_law 2208 = .ok (.aload_n 1, 1) := dk_43 (dk_at dksL_law_81 8 rfl rfl)
theorem dL_law_2209 : decode cL_law 2209 = .ok (.invokevirtual 288, 3) := dk_182 1 32 (dk_at dksL_law_81 9 rfl rfl)
theorem dL_law_2212 : decode cL_law 2212 = .ok (.aload_n 2, 1) := dk_44 (dk_at dksL_law_81 12 rfl rfl)
theorem dL_law_2213 : decode cL_law 2213 = .ok (.invokevirtual 291, 3) := dk_182 1 35 (dk_at dksL_law_81 13 rfl rfl)
theorem dL_law_2216 : decode cL_law 2216 = .ok (.if_icmp .eq 362, 3) := dk_159 1 106 (dk_at dksL_law_81 16 rfl rfl)
theorem dL_law_2219 : decode cL_law 2219 = .ok (.iconst 0, 1) := dk_3 (dk_at dksL_law_81 19 rfl rfl)
theorem dL_law_2220 : decode cL_law 2220 = .ok (.ireturn, 1) := dk_172 (dk_at dksL_law_81 20 rfl rfl)
theorem dL_law_2221 : decode cL_law 2221 = .ok (.aload_n 1, 1) := dk_43 (dk_at dksL_law_81 21 rfl rfl)
theorem dL_law_2222 : decode cL_law 2222 = .ok (.aload_n 0, 1) := dk_42 (dk_at dksL_law_81 22 rfl rfl)
theorem dL_law_2223 : decode cL_law 2223 = .ok (.iload_n 3, 1) := dk_29 (dk_at dksL_law_81 23 rfl rfl)
theorem dL_law_2224 : decode cL_law 2224 = .ok (.iconst 1, 1) := dk_4 (dk_at dksL_law_82 0 rfl rfl)
theorem dL_law_2225 : decode cL_law 2225 = .ok (.iadd, 1) := dk_96 (dk_at dksL_law_82 1 rfl rfl)
theorem dL_law_2226 : decode cL_law 2226 = .ok (.iaload, 1) := dk_46 (dk_at dksL_law_82 2 rfl rfl)
theorem dL_law_2227 : decode cL_law 2227 = .ok (.aload_n 0, 1) := dk_42 (dk_at dksL_law_82 3 rfl rfl)
theorem dL_law_2228 : decode cL_law 2228 = .ok (.iload_n 3, 1) := dk_29 (dk_at dksL_law_82 4 rfl rfl)
theorem dL_law_2229 : decode cL_law 2229 = .ok (.iconst 2, 1) := dk_5 (dk_at dksL_law_82 5 rfl rfl)
theorem dL_law_2230 : decode cL_law 2230 = .ok (.iadd, 1) := dk_96 (dk_at dksL_law_82 6 rfl rfl)
theorem dL_law_2231 : decode cL_law 2231 = .ok (.iaload, 1) := dk_46 (dk_at dksL_law_82 7 rfl rfl)
theorem dL_law_2232 : decode cL_law 2232 = .ok (.invokevirtual 292, 3) := dk_182 1 36 (dk_at dksL_law_82 8 rfl rfl)
theorem dL_law_2235 : decode cL_law 2235 = .ok (.aload_n 2, 1) := dk_44 (dk_at dksL_law_82 11 rfl rfl)
theorem dL_law_2236 : decode cL_law 2236 = .ok (.aload_n 0, 1) := dk_42 (dk_at dksL_law_82 12 rfl rfl)
theorem dL_law_2237 : decode cL_law 2237 = .ok (.iload_n 3, 1) := dk_29 (dk_at dksL_law_82 13 rfl rfl)
theorem dL_law_2238 : decode cL_law 2238 = .ok (.iconst 1, 1) := dk_4 (dk_at dksL_law_82 14 rfl rfl)
theorem dL_law_2239 : decode cL_law 2239 = .ok (.iadd, 1) := dk_96 (dk_at dksL_law_82 15 rfl rfl)
theorem dL_law_2240 : decode cL_law 2240 = .ok (.iaload, 1) := dk_46 (dk_at dksL_law_82 16 rfl rfl)
theorem dL_law_2241 : decode cL_law 2241 = .ok (.aload_n 0, 1) := dk_42 (dk_at dksL_law_82 17 rfl rfl)
theorem dL_law_2242 : decode cL_law 2242 = .ok (.iload_n 3, 1) := dk_29 (dk_at dksL_law_82 18 rfl rfl)
theorem dL_law_2243 : decode cL_law 2243 = .ok (.iconst 2, 1) := dk_5 (dk_at dksL_law_82 19 rfl rfl)
theorem dL_law_2244 : decode cL_law 2244 = .ok (.iadd, 1) := dk_96 (dk_at dksL_law_82 20 rfl rfl)
theorem dL_law_2245 : decode cL_law 2245 = .ok (.iaload, 1) := dk_46 (dk_at dksL_law_82 21 rfl rfl)
theorem dL_law_2246 : decode cL_law 2246 = .ok (.invokevirtual 295, 3) := dk_182 1 39 (dk_at dksL_law_83 0 rfl rfl)
theorem dL_law_2249 : decode cL_law 2249 = .ok (.if_icmp .eq 329, 3) := dk_159 1 73 (dk_at dksL_law_83 3 rfl rfl)
theorem dL_law_2252 : decode cL_law 2252 = .ok (.iconst 0, 1) := dk_3 (dk_at dksL_law_83 6 rfl rfl)
theorem dL_law_2253 : decode cL_law 2253 = .ok (.ireturn, 1) := dk_172 (dk_at dksL_law_83 7 rfl rfl)
theorem dL_law_2254 : decode cL_law 2254 = .ok (.aload_n 1, 1) := dk_43 (dk_at dksL_law_83 8 rfl rfl)
theorem dL_law_2255 : decode cL_law 2255 = .ok (.aload_n 0, 1) := dk_42 (dk_at dksL_law_83 9 rfl rfl)
theorem dL_law_2256 : decode cL_law 2256 = .ok (.iload_n 3, 1) := dk_29 (dk_at dksL_law_83 10 rfl rfl)
theorem dL_law_2257 : decode cL_law 2257 = .ok (.iconst 1, 1) := dk_4 (dk_at dksL_law_83 11 rfl rfl)
theorem dL_law_2258 : decode cL_law 2258 = .ok (.iadd, 1) := dk_96 (dk_at dksL_law_83 12 rfl rfl)
theorem dL_law_2259 : decode cL_law 2259 = .ok (.iaload, 1) := dk_46 (dk_at dksL_law_83 13 rfl rfl)
theorem dL_law_2260 : decode cL_law 2260 = .ok (.aload_n 0, 1) := dk_42 (dk_at dksL_law_83 14 rfl rfl)
theorem dL_law_2261 : decode cL_law 2261 = .ok (.iload_n 3, 1) := dk_29 (dk_at dksL_law_83 15 rfl rfl)
theorem dL_law_2262 : decode cL_law 2262 = .ok (.iconst 2, 1) := dk_5 (dk_at dksL_law_83 16 rfl rfl)
theorem dL_law_2263 : decode cL_law 2263 = .ok (.iadd, 1) := dk_96 (dk_at dksL_law_83 17 rfl rfl)
theorem dL_law_2264 : decode cL_law 2264 = .ok (.iaload, 1) := dk_46 (dk_at dksL_law_83 18 rfl rfl)
theorem dL_law_2265 : decode cL_law 2265 = .ok (.aload_n 0, 1) := dk_42 (dk_at dksL_law_83 19 rfl rfl)
theorem dL_law_2266 : decode cL_law 2266 = .ok (.iload_n 3, 1) := dk_29 (dk_at dksL_law_83 20 rfl rfl)
theorem dL_law_2267 : decode cL_law 2267 = .ok (.iconst 3, 1) := dk_6 (dk_at dksL_law_83 21 rfl rfl)
theorem dL_law_2268 : decode cL_law 2268 = .ok (.iadd, 1) := dk_96 (dk_at dksL_law_83 22 rfl rfl)
theorem dL_law_2269 : decode cL_law 2269 = .ok (.iaload, 1) := dk_46 (dk_at dksL_law_83 23 rfl rfl)
theorem dL_law_2270 : decode cL_law 2270 = .ok (.invokevirtual 296, 3) := dk_182 1 40 (dk_at dksL_law_84 0 rfl rfl)
theorem dL_law_2273 : decode cL_law 2273 = .ok (.aload_n 2, 1) := dk_44 (dk_at dksL_law_84 3 rfl rfl)
theorem dL_law_2274 : decode cL_law 2274 = .ok (.aload_n 0, 1) := dk_42 (dk_at dksL_law_84 4 rfl rfl)
theorem dL_law_2275 : decode cL_law 2275 = .ok (.iload_n 3, 1) := dk_29 (dk_at dksL_law_84 5 rfl rfl)
theorem dL_law_2276 : decode cL_law 2276 = .ok (.iconst 1, 1) := dk_4 (dk_at dksL_law_84 6 rfl rfl)
theorem dL_law_2277 : decode cL_law 2277 = .ok (.iadd, 1) := dk_96 (dk_at dksL_law_84 7 rfl rfl)
theorem dL_law_2278 : decode cL_law 2278 = .ok (.iaload, 1) := dk_46 (dk_at dksL_law_84 8 rfl rfl)
theorem dL_law_2279 : decode cL_law 2279 = .ok (.aload_n 0, 1) := dk_42 (dk_at dksL_law_84 9 rfl rfl)
theorem dL_law_2280 : decode cL_law 2280 = .ok (.iload_n 3, 1) := dk_29 (dk_at dksL_law_84 10 rfl rfl)
theorem dL_law_2281 : decode cL_law 2281 = .ok (.iconst 2, 1) := dk_5 (dk_at dksL_law_84 11 rfl rfl)
theorem dL_law_2282 : decode cL_law 2282 = .ok (.iadd, 1) := dk_96 (dk_at dksL_law_84 12 rfl rfl)
theorem dL_law_2283 : decode cL_law 2283 = .ok (.iaload, 1) := dk_46 (dk_at dksL_law_84 13 rfl rfl)
theorem dL_law_2284 : decode cL_law 2284 = .ok (.aload_n 0, 1) := dk_42 (dk_at dksL_law_84 14 rfl rfl)
theorem dL_law_2285 : decode cL_law 2285 = .ok (.iload_n 3, 1) := dk_29 (dk_at dksL_law_84 15 rfl rfl)
theorem dL_law_2286 : decode cL_law 2286 = .ok (.iconst 3, 1) := dk_6 (dk_at dksL_law_84 16 rfl rfl)
theorem dL_law_2287 : decode cL_law 2287 = .ok (.iadd, 1) := dk_96 (dk_at dksL_law_84 17 rfl rfl)
theorem dL_law_2288 : decode cL_law 2288 = .ok (.iaload, 1) := dk_46 (dk_at dksL_law_84 18 rfl rfl)
theorem dL_law_2289 : decode cL_law 2289 = .ok (.invokevirtual 299, 3) := dk_182 1 43 (dk_at dksL_law_84 19 rfl rfl)
theorem dL_law_2292 : decode cL_law 2292 = .ok (.if_icmp .eq 286, 3) := dk_159 1 30 (dk_at dksL_law_85 0 rfl rfl)
theorem dL_law_2295 : decode cL_law 2295 = .ok (.iconst 0, 1) := dk_3 (dk_at dksL_law_85 3 rfl rfl)
theorem dL_law_2296 : decode cL_law 2296 = .ok (.ireturn, 1) := dk_172 (dk_at dksL_law_85 4 rfl rfl)
theorem dL_law_2297 : decode cL_law 2297 = .ok (.aload_n 1, 1) := dk_43 (dk_at dksL_law_85 5 rfl rfl)
theorem dL_law_2298 : decode cL_law 2298 = .ok (.aload_n 0, 1) := dk_42 (dk_at dksL_law_85 6 rfl rfl)
theorem dL_law_2299 : decode cL_law 2299 = .ok (.iload_n 3, 1) := dk_29 (dk_at dksL_law_85 7 rfl rfl)
theorem dL_law_2300 : decode cL_law 2300 = .ok (.iconst 1, 1) := dk_4 (dk_at dksL_law_85 8 rfl rfl)
theorem dL_law_2301 : decode cL_law 2301 = .ok (.iadd, 1) := dk_96 (dk_at dksL_law_85 9 rfl rfl)
theorem dL_law_2302 : decode cL_law 2302 = .ok (.iaload, 1) := dk_46 (dk_at dksL_law_85 10 rfl rfl)
theorem dL_law_2303 : decode cL_law 2303 = .ok (.aload_n 0, 1) := dk_42 (dk_at dksL_law_85 11 rfl rfl)
theorem dL_law_2304 : decode cL_law 2304 = .ok (.iload_n 3, 1) := dk_29 (dk_at dksL_law_85 12 rfl rfl)
theorem dL_law_2305 : decode cL_law 2305 = .ok (.iconst 2, 1) := dk_5 (dk_at dksL_law_85 13 rfl rfl)
theorem dL_law_2306 : decode cL_law 2306 = .ok (.iadd, 1) := dk_96 (dk_at dksL_law_85 14 rfl rfl)
theorem dL_law_2307 : decode cL_law 2307 = .ok (.iaload, 1) := dk_46 (dk_at dksL_law_85 15 rfl rfl)
theorem dL_law_2308 : decode cL_law 2308 = .ok (.invokevirtual 300, 3) := dk_182 1 44 (dk_at dksL_law_85 16 rfl rfl)
theorem dL_law_2311 : decode cL_law 2311 = .ok (.aload_n 2, 1) := dk_44 (dk_at dksL_law_85 19 rfl rfl)
theorem dL_law_2312 : decode cL_law 2312 = .ok (.aload_n 0, 1) := dk_42 (dk_at dksL_law_85 20 rfl rfl)
theorem dL_law_2313 : decode cL_law 2313 = .ok (.iload_n 3, 1) := dk_29 (dk_at dksL_law_85 21 rfl rfl)
theorem dL_law_2314 : decode cL_law 2314 = .ok (.iconst 1, 1) := dk_4 (dk_at dksL_law_85 22 rfl rfl)
theorem dL_law_2315 : decode cL_law 2315 = .ok (.iadd, 1) := dk_96 (dk_at dksL_law_85 23 rfl rfl)
theorem dL_law_2316 : decode cL_law 2316 = .ok (.iaload, 1) := dk_46 (dk_at dksL_law_86 0 rfl rfl)
theorem dL_law_2317 : decode cL_law 2317 = .ok (.aload_n 0, 1) := dk_42 (dk_at dksL_law_86 1 rfl rfl)
theorem dL_law_2318 : decode cL_law 2318 = .ok (.iload_n 3, 1) := dk_29 (dk_at dksL_law_86 2 rfl rfl)
theorem dL_law_2319 : decode cL_law 2319 = .ok (.iconst 2, 1) := dk_5 (dk_at dksL_law_86 3 rfl rfl)
theorem dL_law_2320 : decode cL_law 2320 = .ok (.iadd, 1) := dk_96 (dk_at dksL_law_86 4 rfl rfl)
theorem dL_law_2321 : decode cL_law 2321 = .ok (.iaload, 1) := dk_46 (dk_at dksL_law_86 5 rfl rfl)
theorem dL_law_2322 : decode cL_law 2322 = .ok (.invokevirtual 303, 3) := dk_182 1 47 (dk_at dksL_law_86 6 rfl rfl)
theorem dL_law_2325 : decode cL_law 2325 = .ok (.if_icmp .eq 253, 3) := dk_159 0 253 (dk_at dksL_law_86 9 rfl rfl)
theorem dL_law_2328 : decode cL_law 2328 = .ok (.iconst 0, 1) := dk_3 (dk_at dksL_law_86 12 rfl rfl)
theorem dL_law_2329 : decode cL_law 2329 = .ok (.ireturn, 1) := dk_172 (dk_at dksL_law_86 13 rfl rfl)
theorem dL_law_2330 : decode cL_law 2330 = .ok (.aload_n 1, 1) := dk_43 (dk_at dksL_law_86 14 rfl rfl)
theorem dL_law_2331 : decode cL_law 2331 = .ok (.aload_n 0, 1) := dk_42 (dk_at dksL_law_86 15 rfl rfl)
theorem dL_law_2332 : decode cL_law 2332 = .ok (.iload_n 3, 1) := dk_29 (dk_at dksL_law_86 16 rfl rfl)
theorem dL_law_2333 : decode cL_law 2333 = .ok (.iconst 1, 1) := dk_4 (dk_at dksL_law_86 17 rfl rfl)
theorem dL_law_2334 : decode cL_law 2334 = .ok (.iadd, 1) := dk_96 (dk_at dksL_law_86 18 rfl rfl)
theorem dL_law_2335 : decode cL_law 2335 = .ok (.iaload, 1) := dk_46 (dk_at dksL_law_86 19 rfl rfl)
theorem dL_law_2336 : decode cL_law 2336 = .ok (.invokevirtual 304, 3) := dk_182 1 48 (dk_at dksL_law_86 20 rfl rfl)
theorem dL_law_2339 : decode cL_law 2339 = .ok (.aload_n 2, 1) := dk_44 (dk_at dksL_law_86 23 rfl rfl)
theorem dL_law_2340 : decode cL_law 2340 = .ok (.aload_n 0, 1) := dk_42 (dk_at dksL_law_87 0 rfl rfl)
theorem dL_law_2341 : decode cL_law 2341 = .ok (.iload_n 3, 1) := dk_29 (dk_at dksL_law_87 1 rfl rfl)
theorem dL_law_2342 : decode cL_law 2342 = .ok (.iconst 1, 1) := dk_4 (dk_at dksL_law_87 2 rfl rfl)
theorem dL_law_2343 : decode cL_law 2343 = .ok (.iadd, 1) := dk_96 (dk_at dksL_law_87 3 rfl rfl)
theorem dL_law_2344 : decode cL_law 2344 = .ok (.iaload, 1) := dk_46 (dk_at dksL_law_87 4 rfl rfl)
theorem dL_law_2345 : decode cL_law 2345 = .ok (.invokevirtual 307, 3) := dk_182 1 51 (dk_at dksL_law_87 5 rfl rfl)
theorem dL_law_2348 : decode cL_law 2348 = .ok (.if_icmp .eq 230, 3) := dk_159 0 230 (dk_at dksL_law_87 8 rfl rfl)
theorem dL_law_2351 : decode cL_law 2351 = .ok (.iconst 0, 1) := dk_3 (dk_at dksL_law_87 11 rfl rfl)
theorem dL_law_2352 : decode cL_law 2352 = .ok (.ireturn, 1) := dk_172 (dk_at dksL_law_87 12 rfl rfl)
theorem dL_law_2353 : decode cL_law 2353 = .ok (.aload_n 1, 1) := dk_43 (dk_at dksL_law_87 13 rfl rfl)
theorem dL_law_2354 : decode cL_law 2354 = .ok (.aload_n 0, 1) := dk_42 (dk_at dksL_law_87 14 rfl rfl)
theorem dL_law_2355 : decode cL_law 2355 = .ok (.iload_n 3, 1) := dk_29 (dk_at dksL_law_87 15 rfl rfl)
theorem dL_law_2356 : decode cL_law 2356 = .ok (.iconst 1, 1) := dk_4 (dk_at dksL_law_87 16 rfl rfl)
theorem dL_law_2357 : decode cL_law 2357 = .ok (.iadd, 1) := dk_96 (dk_at dksL_law_87 17 rfl rfl)
theorem dL_law_2358 : decode cL_law 2358 = .ok (.iaload, 1) := dk_46 (dk_at dksL_law_87 18 rfl rfl)
theorem dL_law_2359 : decode cL_law 2359 = .ok (.invokevirtual 308, 3) := dk_182 1 52 (dk_at dksL_law_87 19 rfl rfl)
theorem dL_law_2362 : decode cL_law 2362 = .ok (.aload_n 2, 1) := dk_44 (dk_at dksL_law_87 22 rfl rfl)
theorem dL_law_2363 : decode cL_law 2363 = .ok (.aload_n 0, 1) := dk_42 (dk_at dksL_law_87 23 rfl rfl)
theorem dL_law_2364 : decode cL_law 2364 = .ok (.iload_n 3, 1) := dk_29 (dk_at dksL_law_88 0 rfl rfl)
theorem dL_law_2365 : decode cL_law 2365 = .ok (.iconst 1, 1) := dk_4 (dk_at dksL_law_88 1 rfl rfl)
theorem dL_law_2366 : decode cL_law 2366 = .ok (.iadd, 1) := dk_96 (dk_at dksL_law_88 2 rfl rfl)
theorem dL_law_2367 : decode cL_law 2367 = .ok (.iaload, 1) := dk_46 (dk_at dksL_law_88 3 rfl rfl)
theorem dL_law_2368 : decode cL_law 2368 = .ok (.invokevirtual 311, 3) := dk_182 1 55 (dk_at dksL_law_88 4 rfl rfl)
theorem dL_law_2371 : decode cL_law 2371 = .ok (.if_icmp .eq 207, 3) := dk_159 0 207 (dk_at dksL_law_88 7 rfl rfl)
theorem dL_law_2374 : decode cL_law 2374 = .ok (.iconst 0, 1) := dk_3 (dk_at dksL_law_88 10 rfl rfl)
theorem dL_law_2375 : decode cL_law 2375 = .ok (.ireturn, 1) := dk_172 (dk_at dksL_law_88 11 rfl rfl)
theorem dL_law_2376 : decode cL_law 2376 = .ok (.aload_n 1, 1) := dk_43 (dk_at dksL_law_88 12 rfl rfl)
theorem dL_law_2377 : decode cL_law 2377 = .ok (.aload_n 0, 1) := dk_42 (dk_at dksL_law_88 13 rfl rfl)
theorem dL_law_2378 : decode cL_law 2378 = .ok (.iload_n 3, 1) := dk_29 (dk_at dksL_law_88 14 rfl rfl)
theorem dL_law_2379 : decode cL_law 2379 = .ok (.iconst 1, 1) := dk_4 (dk_at dksL_law_88 15 rfl rfl)
theorem dL_law_2380 : decode cL_law 2380 = .ok (.iadd, 1) := dk_96 (dk_at dksL_law_88 16 rfl rfl)
theorem dL_law_2381 : decode cL_law 2381 = .ok (.iaload, 1) := dk_46 (dk_at dksL_law_88 17 rfl rfl)
theorem dL_law_2382 : decode cL_law 2382 = .ok (.invokevirtual 312, 3) := dk_182 1 56 (dk_at dksL_law_88 18 rfl rfl)
theorem dL_law_2385 : decode cL_law 2385 = .ok (.aload_n 2, 1) := dk_44 (dk_at dksL_law_88 21 rfl rfl)
theorem dL_law_2386 : decode cL_law 2386 = .ok (.aload_n 0, 1) := dk_42 (dk_at dksL_law_88 22 rfl rfl)
theorem dL_law_2387 : decode cL_law 2387 = .ok (.iload_n 3, 1) := dk_29 (dk_at dksL_law_88 23 rfl rfl)
theorem dL_law_2388 : decode cL_law 2388 = .ok (.iconst 1, 1) := dk_4 (dk_at dksL_law_89 0 rfl rfl)
theorem dL_law_2389 : decode cL_law 2389 = .ok (.iadd, 1) := dk_96 (dk_at dksL_law_89 1 rfl rfl)
theorem dL_law_2390 : decode cL_law 2390 = .ok (.iaload, 1) := dk_46 (dk_at dksL_law_89 2 rfl rfl)
theorem dL_law_2391 : decode cL_law 2391 = .ok (.invokevirtual 315, 3) := dk_182 1 59 (dk_at dksL_law_89 3 rfl rfl)
theorem dL_law_2394 : decode cL_law 2394 = .ok (.if_icmp .eq 184, 3) := dk_159 0 184 (dk_at dksL_law_89 6 rfl rfl)
theorem dL_law_2397 : decode cL_law 2397 = .ok (.iconst 0, 1) := dk_3 (dk_at dksL_law_89 9 rfl rfl)
theorem dL_law_2398 : decode cL_law 2398 = .ok (.ireturn, 1) := dk_172 (dk_at dksL_law_89 10 rfl rfl)
theorem dL_law_2399 : decode cL_law 2399 = .ok (.aload_n 1, 1) := dk_43 (dk_at dksL_law_89 11 rfl rfl)
theorem dL_law_2400 : decode cL_law 2400 = .ok (.aload_n 0, 1) := dk_42 (dk_at dksL_law_89 12 rfl rfl)
theorem dL_law_2401 : decode cL_law 2401 = .ok (.iload_n 3, 1) := dk_29 (dk_at dksL_law_89 13 rfl rfl)
theorem dL_law_2402 : decode cL_law 2402 = .ok (.iconst 1, 1) := dk_4 (dk_at dksL_law_89 14 rfl rfl)
theorem dL_law_2403 : decode cL_law 2403 = .ok (.iadd, 1) := dk_96 (dk_at dksL_law_89 15 rfl rfl)
theorem dL_law_2404 : decode cL_law 2404 = .ok (.iaload, 1) := dk_46 (dk_at dksL_law_89 16 rfl rfl)
theorem dL_law_2405 : decode cL_law 2405 = .ok (.aload_n 0, 1) := dk_42 (dk_at dksL_law_89 17 rfl rfl)
theorem dL_law_2406 : decode cL_law 2406 = .ok (.iload_n 3, 1) := dk_29 (dk_at dksL_law_89 18 rfl rfl)
theorem dL_law_2407 : decode cL_law 2407 = .ok (.iconst 2, 1) := dk_5 (dk_at dksL_law_89 19 rfl rfl)
theorem dL_law_2408 : decode cL_law 2408 = .ok (.iadd, 1) := dk_96 (dk_at dksL_law_89 20 rfl rfl)
theorem dL_law_2409 : decode cL_law 2409 = .ok (.iaload, 1) := dk_46 (dk_at dksL_law_89 21 rfl rfl)
theorem dL_law_2410 : decode cL_law 2410 = .ok (.aload_n 0, 1) := dk_42 (dk_at dksL_law_89 22 rfl rfl)
theorem dL_law_2411 : decode cL_law 2411 = .ok (.iload_n 3, 1) := dk_29 (dk_at dksL_law_89 23 rfl rfl)
theorem dL_law_2412 : decode cL_law 2412 = .ok (.iconst 3, 1) := dk_6 (dk_at dksL_law_90 0 rfl rfl)
theorem dL_law_2413 : decode cL_law 2413 = .ok (.iadd, 1) := dk_96 (dk_at dksL_law_90 1 rfl rfl)
theorem dL_law_2414 : decode cL_law 2414 = .ok (.iaload, 1) := dk_46 (dk_at dksL_law_90 2 rfl rfl)
theorem dL_law_2415 : decode cL_law 2415 = .ok (.invokevirtual 316, 3) := dk_182 1 60 (dk_at dksL_law_90 3 rfl rfl)
theorem dL_law_2418 : decode cL_law 2418 = .ok (.aload_n 2, 1) := dk_44 (dk_at dksL_law_90 6 rfl rfl)
theorem dL_law_2419 : decode cL_law 2419 = .ok (.aload_n 0, 1) := dk_42 (dk_at dksL_law_90 7 rfl rfl)
theorem dL_law_2420 : decode cL_law 2420 = .ok (.iload_n 3, 1) := dk_29 (dk_at dksL_law_90 8 rfl rfl)
theorem dL_law_2421 : decode cL_law 2421 = .ok (.iconst 1, 1) := dk_4 (dk_at dksL_law_90 9 rfl rfl)
theorem dL_law_2422 : decode cL_law 2422 = .ok (.iadd, 1) := dk_96 (dk_at dksL_law_90 10 rfl rfl)
theorem dL_law_2423 : decode cL_law 2423 = .ok (.iaload, 1) := dk_46 (dk_at dksL_law_90 11 rfl rfl)
theorem dL_law_2424 : decode cL_law 2424 = .ok (.aload_n 0, 1) := dk_42 (dk_at dksL_law_90 12 rfl rfl)
theorem dL_law_2425 : decode cL_law 2425 = .ok (.iload_n 3, 1) := dk_29 (dk_at dksL_law_90 13 rfl rfl)
theorem dL_law_2426 : decode cL_law 2426 = .ok (.iconst 2, 1) := dk_5 (dk_at dksL_law_90 14 rfl rfl)
theorem dL_law_2427 : decode cL_law 2427 = .ok (.iadd, 1) := dk_96 (dk_at dksL_law_90 15 rfl rfl)
theorem dL_law_2428 : decode cL_law 2428 = .ok (.iaload, 1) := dk_46 (dk_at dksL_law_90 16 rfl rfl)
theorem dL_law_2429 : decode cL_law 2429 = .ok (.aload_n 0, 1) := dk_42 (dk_at dksL_law_90 17 rfl rfl)
theorem dL_law_2430 : decode cL_law 2430 = .ok (.iload_n 3, 1) := dk_29 (dk_at dksL_law_90 18 rfl rfl)
theorem dL_law_2431 : decode cL_law 2431 = .ok (.iconst 3, 1) := dk_6 (dk_at dksL_law_90 19 rfl rfl)
theorem dL_law_2432 : decode cL_law 2432 = .ok (.iadd, 1) := dk_96 (dk_at dksL_law_90 20 rfl rfl)
theorem dL_law_2433 : decode cL_law 2433 = .ok (.iaload, 1) := dk_46 (dk_at dksL_law_90 21 rfl rfl)
theorem dL_law_2434 : decode cL_law 2434 = .ok (.invokevirtual 319, 3) := dk_182 1 63 (dk_at dksL_law_91 0 rfl rfl)
theorem dL_law_2437 : decode cL_law 2437 = .ok (.if_icmp .eq 141, 3) := dk_159 0 141 (dk_at dksL_law_91 3 rfl rfl)
theorem dL_law_2440 : decode cL_law 2440 = .ok (.iconst 0, 1) := dk_3 (dk_at dksL_law_91 6 rfl rfl)
theorem dL_law_2441 : decode cL_law 2441 = .ok (.ireturn, 1) := dk_172 (dk_at dksL_law_91 7 rfl rfl)
theorem dL_law_2442 : decode cL_law 2442 = .ok (.aload_n 1, 1) := dk_43 (dk_at dksL_law_91 8 rfl rfl)
theorem dL_law_2443 : decode cL_law 2443 = .ok (.aload_n 0, 1) := dk_42 (dk_at dksL_law_91 9 rfl rfl)
theorem dL_law_2444 : decode cL_law 2444 = .ok (.iload_n 3, 1) := dk_29 (dk_at dksL_law_91 10 rfl rfl)
theorem dL_law_2445 : decode cL_law 2445 = .ok (.iconst 1, 1) := dk_4 (dk_at dksL_law_91 11 rfl rfl)
theorem dL_law_2446 : decode cL_law 2446 = .ok (.iadd, 1) := dk_96 (dk_at dksL_law_91 12 rfl rfl)
theorem dL_law_2447 : decode cL_law 2447 = .ok (.iaload, 1) := dk_46 (dk_at dksL_law_91 13 rfl rfl)
theorem dL_law_2448 : decode cL_law 2448 = .ok (.aload_n 0, 1) := dk_42 (dk_at dksL_law_91 14 rfl rfl)
theorem dL_law_2449 : decode cL_law 2449 = .ok (.iload_n 3, 1) := dk_29 (dk_at dksL_law_91 15 rfl rfl)
theorem dL_law_2450 : decode cL_law 2450 = .ok (.iconst 2, 1) := dk_5 (dk_at dksL_law_91 16 rfl rfl)
theorem dL_law_2451 : decode cL_law 2451 = .ok (.iadd, 1) := dk_96 (dk_at dksL_law_91 17 rfl rfl)
theorem dL_law_2452 : decode cL_law 2452 = .ok (.iaload, 1) := dk_46 (dk_at dksL_law_91 18 rfl rfl)
theorem dL_law_2453 : decode cL_law 2453 = .ok (.aload_n 0, 1) := dk_42 (dk_at dksL_law_91 19 rfl rfl)
theorem dL_law_2454 : decode cL_law 2454 = .ok (.iload_n 3, 1) := dk_29 (dk_at dksL_law_91 20 rfl rfl)
theorem dL_law_2455 : decode cL_law 2455 = .ok (.iconst 3, 1) := dk_6 (dk_at dksL_law_91 21 rfl rfl)
theorem dL_law_2456 : decode cL_law 2456 = .ok (.iadd, 1) := dk_96 (dk_at dksL_law_91 22 rfl rfl)
theorem dL_law_2457 : decode cL_law 2457 = .ok (.iaload, 1) := dk_46 (dk_at dksL_law_91 23 rfl rfl)
theorem dL_law_2458 : decode cL_law 2458 = .ok (.i2l, 1) := dk_133 (dk_at dksL_law_92 0 rfl rfl)
theorem dL_law_2459 : decode cL_law 2459 = .ok (.bipush 32, 2) := dk_16 32 (dk_at dksL_law_92 1 rfl rfl)
theorem dL_law_2461 : decode cL_law 2461 = .ok (.lshl, 1) := dk_121 (dk_at dksL_law_92 3 rfl rfl)
theorem dL_law_2462 : decode cL_law 2462 = .ok (.aload_n 0, 1) := dk_42 (dk_at dksL_law_92 4 rfl rfl)
theorem dL_law_2463 : decode cL_law 2463 = .ok (.iload_n 3, 1) := dk_29 (dk_at dksL_law_92 5 rfl rfl)
theorem dL_law_2464 : decode cL_law 2464 = .ok (.iconst 4, 1) := dk_7 (dk_at dksL_law_92 6 rfl rfl)
theorem dL_law_2465 : decode cL_law 2465 = .ok (.iadd, 1) := dk_96 (dk_at dksL_law_92 7 rfl rfl)
theorem dL_law_2466 : decode cL_law 2466 = .ok (.iaload, 1) := dk_46 (dk_at dksL_law_92 8 rfl rfl)
theorem dL_law_2467 : decode cL_law 2467 = .ok (.i2l, 1) := dk_133 (dk_at dksL_law_92 9 rfl rfl)
theorem dL_law_2468 : decode cL_law 2468 = .ok (.ldc2_w 320, 3) := dk_20 1 64 (dk_at dksL_law_92 10 rfl rfl)
theorem dL_law_2471 : decode cL_law 2471 = .ok (.land, 1) := dk_127 (dk_at dksL_law_92 13 rfl rfl)
theorem dL_law_2472 : decode cL_law 2472 = .ok (.lor, 1) := dk_129 (dk_at dksL_law_92 14 rfl rfl)
theorem dL_law_2473 : decode cL_law 2473 = .ok (.invokevirtual 322, 3) := dk_182 1 66 (dk_at dksL_law_92 15 rfl rfl)
theorem dL_law_2476 : decode cL_law 2476 = .ok (.aload_n 2, 1) := dk_44 (dk_at dksL_law_92 18 rfl rfl)
theorem dL_law_2477 : decode cL_law 2477 = .ok (.aload_n 0, 1) := dk_42 (dk_at dksL_law_92 19 rfl rfl)
theorem dL_law_2478 : decode cL_law 2478 = .ok (.iload_n 3, 1) := dk_29 (dk_at dksL_law_92 20 rfl rfl)
theorem dL_law_2479 : decode cL_law 2479 = .ok (.iconst 1, 1) := dk_4 (dk_at dksL_law_92 21 rfl rfl)
theorem dL_law_2480 : decode cL_law 2480 = .ok (.iadd, 1) := dk_96 (dk_at dksL_law_92 22 rfl rfl)
theorem dL_law_2481 : decode cL_law 2481 = .ok (.iaload, 1) := dk_46 (dk_at dksL_law_92 23 rfl rfl)
theorem dL_law_2482 : decode cL_law 2482 = .ok (.aload_n 0, 1) := dk_42 (dk_at dksL_law_93 0 rfl rfl)
theorem dL_law_2483 : decode cL_law 2483 = .ok (.iload_n 3, 1) := dk_29 (dk_at dksL_law_93 1 rfl rfl)
theorem dL_law_2484 : decode cL_law 2484 = .ok (.iconst 2, 1) := dk_5 (dk_at dksL_law_93 2 rfl rfl)
theorem dL_law_2485 : decode cL_law 2485 = .ok (.iadd, 1) := dk_96 (dk_at dksL_law_93 3 rfl rfl)
theorem dL_law_2486 : decode cL_law 2486 = .ok (.iaload, 1) := dk_46 (dk_at dksL_law_93 4 rfl rfl)
theorem dL_law_2487 : decode cL_law 2487 = .ok (.aload_n 0, 1) := dk_42 (dk_at dksL_law_93 5 rfl rfl)
theorem dL_law_2488 : decode cL_law 2488 = .ok (.iload_n 3, 1) := dk_29 (dk_at dksL_law_93 6 rfl rfl)
theorem dL_law_2489 : decode cL_law 2489 = .ok (.iconst 3, 1) := dk_6 (dk_at dksL_law_93 7 rfl rfl)
theorem dL_law_2490 : decode cL_law 2490 = .ok (.iadd, 1) := dk_96 (dk_at dksL_law_93 8 rfl rfl)
theorem dL_law_2491 : decode cL_law 2491 = .ok (.iaload, 1) := dk_46 (dk_at dksL_law_93 9 rfl rfl)
theorem dL_law_2492 : decode cL_law 2492 = .ok (.i2l, 1) := dk_133 (dk_at dksL_law_93 10 rfl rfl)
theorem dL_law_2493 : decode cL_law 2493 = .ok (.bipush 32, 2) := dk_16 32 (dk_at dksL_law_93 11 rfl rfl)
theorem dL_law_2495 : decode cL_law 2495 = .ok (.lshl, 1) := dk_121 (dk_at dksL_law_93 13 rfl rfl)
theorem dL_law_2496 : decode cL_law 2496 = .ok (.aload_n 0, 1) := dk_42 (dk_at dksL_law_93 14 rfl rfl)
theorem dL_law_2497 : decode cL_law 2497 = .ok (.iload_n 3, 1) := dk_29 (dk_at dksL_law_93 15 rfl rfl)
theorem dL_law_2498 : decode cL_law 2498 = .ok (.iconst 4, 1) := dk_7 (dk_at dksL_law_93 16 rfl rfl)
theorem dL_law_2499 : decode cL_law 2499 = .ok (.iadd, 1) := dk_96 (dk_at dksL_law_93 17 rfl rfl)
theorem dL_law_2500 : decode cL_law 2500 = .ok (.iaload, 1) := dk_46 (dk_at dksL_law_93 18 rfl rfl)
theorem dL_law_2501 : decode cL_law 2501 = .ok (.i2l, 1) := dk_133 (dk_at dksL_law_93 19 rfl rfl)
theorem dL_law_2502 : decode cL_law 2502 = .ok (.ldc2_w 320, 3) := dk_20 1 64 (dk_at dksL_law_93 20 rfl rfl)
theorem dL_law_2505 : decode cL_law 2505 = .ok (.land, 1) := dk_127 (dk_at dksL_law_93 23 rfl rfl)
theorem dL_law_2506 : decode cL_law 2506 = .ok (.lor, 1) := dk_129 (dk_at dksL_law_94 0 rfl rfl)
theorem dL_law_2507 : decode cL_law 2507 = .ok (.invokevirtual 326, 3) := dk_182 1 70 (dk_at dksL_law_94 1 rfl rfl)
theorem dL_law_2510 : decode cL_law 2510 = .ok (.if_icmp .eq 68, 3) := dk_159 0 68 (dk_at dksL_law_94 4 rfl rfl)
theorem dL_law_2513 : decode cL_law 2513 = .ok (.iconst 0, 1) := dk_3 (dk_at dksL_law_94 7 rfl rfl)
theorem dL_law_2514 : decode cL_law 2514 = .ok (.ireturn, 1) := dk_172 (dk_at dksL_law_94 8 rfl rfl)
theorem dL_law_2515 : decode cL_law 2515 = .ok (.aload_n 1, 1) := dk_43 (dk_at dksL_law_94 9 rfl rfl)
theorem dL_law_2516 : decode cL_law 2516 = .ok (.aload_n 0, 1) := dk_42 (dk_at dksL_law_94 10 rfl rfl)
theorem dL_law_2517 : decode cL_law 2517 = .ok (.iload_n 3, 1) := dk_29 (dk_at dksL_law_94 11 rfl rfl)
theorem dL_law_2518 : decode cL_law 2518 = .ok (.iconst 1, 1) := dk_4 (dk_at dksL_law_94 12 rfl rfl)
theorem dL_law_2519 : decode cL_law 2519 = .ok (.iadd, 1) := dk_96 (dk_at dksL_law_94 13 rfl rfl)
theorem dL_law_2520 : decode cL_law 2520 = .ok (.iaload, 1) := dk_46 (dk_at dksL_law_94 14 rfl rfl)
theorem dL_law_2521 : decode cL_law 2521 = .ok (.aload_n 0, 1) := dk_42 (dk_at dksL_law_94 15 rfl rfl)
theorem dL_law_2522 : decode cL_law 2522 = .ok (.iload_n 3, 1) := dk_29 (dk_at dksL_law_94 16 rfl rfl)
theorem dL_law_2523 : decode cL_law 2523 = .ok (.iconst 2, 1) := dk_5 (dk_at dksL_law_94 17 rfl rfl)
theorem dL_law_2524 : decode cL_law 2524 = .ok (.iadd, 1) := dk_96 (dk_at dksL_law_94 18 rfl rfl)
theorem dL_law_2525 : decode cL_law 2525 = .ok (.iaload, 1) := dk_46 (dk_at dksL_law_94 19 rfl rfl)
theorem dL_law_2526 : decode cL_law 2526 = .ok (.aload_n 0, 1) := dk_42 (dk_at dksL_law_94 20 rfl rfl)
theorem dL_law_2527 : decode cL_law 2527 = .ok (.iload_n 3, 1) := dk_29 (dk_at dksL_law_94 21 rfl rfl)
theorem dL_law_2528 : decode cL_law 2528 = .ok (.iconst 3, 1) := dk_6 (dk_at dksL_law_94 22 rfl rfl)
theorem dL_law_2529 : decode cL_law 2529 = .ok (.iadd, 1) := dk_96 (dk_at dksL_law_94 23 rfl rfl)
theorem dL_law_2530 : decode cL_law 2530 = .ok (.iaload, 1) := dk_46 (dk_at dksL_law_95 0 rfl rfl)
theorem dL_law_2531 : decode cL_law 2531 = .ok (.aload_n 0, 1) := dk_42 (dk_at dksL_law_95 1 rfl rfl)
theorem dL_law_2532 : decode cL_law 2532 = .ok (.iload_n 3, 1) := dk_29 (dk_at dksL_law_95 2 rfl rfl)
theorem dL_law_2533 : decode cL_law 2533 = .ok (.iconst 4, 1) := dk_7 (dk_at dksL_law_95 3 rfl rfl)
theorem dL_law_2534 : decode cL_law 2534 = .ok (.iadd, 1) := dk_96 (dk_at dksL_law_95 4 rfl rfl)
theorem dL_law_2535 : decode cL_law 2535 = .ok (.iaload, 1) := dk_46 (dk_at dksL_law_95 5 rfl rfl)
theorem dL_law_2536 : decode cL_law 2536 = .ok (.aload_n 0, 1) := dk_42 (dk_at dksL_law_95 6 rfl rfl)
theorem dL_law_2537 : decode cL_law 2537 = .ok (.iload_n 3, 1) := dk_29 (dk_at dksL_law_95 7 rfl rfl)
theorem dL_law_2538 : decode cL_law 2538 = .ok (.iconst 5, 1) := dk_8 (dk_at dksL_law_95 8 rfl rfl)
theorem dL_law_2539 : decode cL_law 2539 = .ok (.iadd, 1) := dk_96 (dk_at dksL_law_95 9 rfl rfl)
theorem dL_law_2540 : decode cL_law 2540 = .ok (.iaload, 1) := dk_46 (dk_at dksL_law_95 10 rfl rfl)
theorem dL_law_2541 : decode cL_law 2541 = .ok (.invokevirtual 327, 3) := dk_182 1 71 (dk_at dksL_law_95 11 rfl rfl)
theorem dL_law_2544 : decode cL_law 2544 = .ok (.aload_n 2, 1) := dk_44 (dk_at dksL_law_95 14 rfl rfl)
theorem dL_law_2545 : decode cL_law 2545 = .ok (.aload_n 0, 1) := dk_42 (dk_at dksL_law_95 15 rfl rfl)
theorem dL_law_2546 : decode cL_law 2546 = .ok (.iload_n 3, 1) := dk_29 (dk_at dksL_law_95 16 rfl rfl)
theorem dL_law_2547 : decode cL_law 2547 = .ok (.iconst 1, 1) := dk_4 (dk_at dksL_law_95 17 rfl rfl)
theorem dL_law_2548 : decode cL_law 2548 = .ok (.iadd, 1) := dk_96 (dk_at dksL_law_95 18 rfl rfl)
theorem dL_law_2549 : decode cL_law 2549 = .ok (.iaload, 1) := dk_46 (dk_at dksL_law_95 19 rfl rfl)
theorem dL_law_2550 : decode cL_law 2550 = .ok (.aload_n 0, 1) := dk_42 (dk_at dksL_law_95 20 rfl rfl)
theorem dL_law_2551 : decode cL_law 2551 = .ok (.iload_n 3, 1) := dk_29 (dk_at dksL_law_95 21 rfl rfl)
theorem dL_law_2552 : decode cL_law 2552 = .ok (.iconst 2, 1) := dk_5 (dk_at dksL_law_95 22 rfl rfl)
theorem dL_law_2553 : decode cL_law 2553 = .ok (.iadd, 1) := dk_96 (dk_at dksL_law_95 23 rfl rfl)
theorem dL_law_2554 : decode cL_law 2554 = .ok (.iaload, 1) := dk_46 (dk_at dksL_law_96 0 rfl rfl)
theorem dL_law_2555 : decode cL_law 2555 = .ok (.aload_n 0, 1) := dk_42 (dk_at dksL_law_96 1 rfl rfl)
theorem dL_law_2556 : decode cL_law 2556 = .ok (.iload_n 3, 1) := dk_29 (dk_at dksL_law_96 2 rfl rfl)
theorem dL_law_2557 : decode cL_law 2557 = .ok (.iconst 3, 1) := dk_6 (dk_at dksL_law_96 3 rfl rfl)
theorem dL_law_2558 : decode cL_law 2558 = .ok (.iadd, 1) := dk_96 (dk_at dksL_law_96 4 rfl rfl)
theorem dL_law_2559 : decode cL_law 2559 = .ok (.iaload, 1) := dk_46 (dk_at dksL_law_96 5 rfl rfl)
theorem dL_law_2560 : decode cL_law 2560 = .ok (.aload_n 0, 1) := dk_42 (dk_at dksL_law_96 6 rfl rfl)
theorem dL_law_2561 : decode cL_law 2561 = .ok (.iload_n 3, 1) := dk_29 (dk_at dksL_law_96 7 rfl rfl)
theorem dL_law_2562 : decode cL_law 2562 = .ok (.iconst 4, 1) := dk_7 (dk_at dksL_law_96 8 rfl rfl)
theorem dL_law_2563 : decode cL_law 2563 = .ok (.iadd, 1) := dk_96 (dk_at dksL_law_96 9 rfl rfl)
theorem dL_law_2564 : decode cL_law 2564 = .ok (.iaload, 1) := dk_46 (dk_at dksL_law_96 10 rfl rfl)
theorem dL_law_2565 : decode cL_law 2565 = .ok (.aload_n 0, 1) := dk_42 (dk_at dksL_law_96 11 rfl rfl)
theorem dL_law_2566 : decode cL_law 2566 = .ok (.iload_n 3, 1) := dk_29 (dk_at dksL_law_96 12 rfl rfl)
theorem dL_law_2567 : decode cL_law 2567 = .ok (.iconst 5, 1) := dk_8 (dk_at dksL_law_96 13 rfl rfl)
theorem dL_law_2568 : decode cL_law 2568 = .ok (.iadd, 1) := dk_96 (dk_at dksL_law_96 14 rfl rfl)
theorem dL_law_2569 : decode cL_law 2569 = .ok (.iaload, 1) := dk_46 (dk_at dksL_law_96 15 rfl rfl)
theorem dL_law_2570 : decode cL_law 2570 = .ok (.invokevirtual 330, 3) := dk_182 1 74 (dk_at dksL_law_96 16 rfl rfl)
theorem dL_law_2573 : decode cL_law 2573 = .ok (.if_icmp .eq 5, 3) := dk_159 0 5 (dk_at dksL_law_96 19 rfl rfl)
theorem dL_law_2576 : decode cL_law 2576 = .ok (.iconst 0, 1) := dk_3 (dk_at dksL_law_96 22 rfl rfl)
theorem dL_law_2577 : decode cL_law 2577 = .ok (.ireturn, 1) := dk_172 (dk_at dksL_law_96 23 rfl rfl)
theorem dL_law_2578 : decode cL_law 2578 = .ok (.iinc 3 6, 3) := dk_132 3 6 (dk_at dksL_law_97 0 rfl rfl)
theorem dL_law_2581 : decode cL_law 2581 = .ok (.goto (-2563), 3) := dk_167 245 253 (dk_at dksL_law_97 3 rfl rfl)
theorem dL_law_2584 : decode cL_law 2584 = .ok (.iconst 1, 1) := dk_4 (dk_at dksL_law_97 6 rfl rfl)
theorem dL_law_2585 : decode cL_law 2585 = .ok (.ireturn, 1) := dk_172 (dk_at dksL_law_97 7 rfl rfl)
