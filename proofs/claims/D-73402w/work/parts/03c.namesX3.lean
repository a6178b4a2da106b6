/-! SkeletonsModel -/
set_option maxRecDepth 100000
def RX3 : String := "SkeletonsModel"
def TX3 : u_T := fun k => match k with
  | 0 => ("SkeletonsModel", "now", "[I", true)
  | 1 => ("SkeletonsModel", "was", "[I", true)
  | 2 => ("SkeletonsModel", "undone", "I", false)
  | 3 => ("SkeletonsModel", "kept", "[I", true)
  | 4 => ("SkeletonsModel", "isKept", "[Z", true)
  | 5 => ("SkeletonsModel", "tape", "[B", true)
  | 6 => ("SkeletonsModel", "taped", "I", false)
  | 7 => ("SkeletonsModel", "at", "I", false)
  | 8 => ("SkeletonsModel", "wrong", "I", false)
  | 9 => ("SkeletonsModel", "read", "[I", true)
  | 10 => ("SkeletonsModel", "openAt", "[I", true)
  | 11 => ("SkeletonsModel", "openLong", "[I", true)
  | 12 => ("SkeletonsModel", "openPlace", "[I", true)
  | 13 => ("SkeletonsModel", "open", "I", false)
  | 14 => ("SkeletonsModel", "shapes", "I", false)
  | 15 => ("SkeletonsModel", "shapeSize", "[I", true)
  | 16 => ("SkeletonsModel", "kid", "[I", true)
  | 17 => ("SkeletonsModel", "kids", "[I", true)
  | 18 => ("SkeletonsModel", "tall", "[I", true)
  | 19 => ("SkeletonsModel", "formsOf", "[J", true)
  | 20 => ("SkeletonsModel", "ownOf", "[J", true)
  | 21 => ("SkeletonsModel", "symmetryOf", "[J", true)
  | 22 => ("SkeletonsModel", "marksOf", "[I", true)
  | 23 => ("SkeletonsModel", "seen", "[I", true)
  | 24 => ("SkeletonsModel", "shapeAt", "[I", true)
  | 25 => ("SkeletonsModel", "behindAt", "[I", true)
  | 26 => ("SkeletonsModel", "found", "[I", true)
  | 27 => ("SkeletonsModel", "foundMany", "I", false)
  | 28 => ("SkeletonsModel", "product", "[I", true)
  | 29 => ("SkeletonsModel", "factor", "[I", true)
  | 30 => ("SkeletonsModel", "aside", "[I", true)
  | 31 => ("SkeletonsModel", "far", "[I", true)
  | 32 => ("SkeletonsModel", "depths", "[I", true)
  | 33 => ("SkeletonsModel", "waitShape", "[I", true)
  | 34 => ("SkeletonsModel", "waitDepth", "[I", true)
  | 35 => ("SkeletonsModel", "listMany", "[I", true)
  | 36 => ("SkeletonsModel", "listFrom", "[I", true)
  | 37 => ("SkeletonsModel", "list", "[I", true)
  | 38 => ("SkeletonsModel", "isListed", "Z", false)
  | 39 => ("SkeletonsModel", "made", "[I", true)
  | 40 => ("SkeletonsModel", "codeNow", "[I", true)
  | 41 => ("SkeletonsModel", "radicals", "[J", true)
  | 42 => ("SkeletonsModel", "formed", "[J", true)
  | 43 => ("SkeletonsModel", "owned", "[J", true)
  | 44 => ("SkeletonsModel", "isCounted", "Z", false)
  | 45 => ("SkeletonsModel", "some", "[J", true)
  | 46 => ("SkeletonsModel", "others", "[J", true)
  | 47 => ("SkeletonsModel", "four", "[I", true)
  | 48 => ("SkeletonsModel", "rowsAll", "J", false)
  | 49 => ("SkeletonsModel", "rowsTwos", "J", false)
  | 50 => ("SkeletonsModel", "rowsThree", "J", false)
  | 51 => ("SkeletonsModel", "rowsMirrored", "J", false)
  | 52 => ("SkeletonsModel", "texts", "[B", true)
  | 53 => ("SkeletonsModel", "textLong", "[I", true)
  | 54 => ("SkeletonsModel", "line", "[B", true)
  | 55 => ("SkeletonsModel", "lineLong", "I", false)
  | 56 => ("SkeletonsModel", "least", "[B", true)
  | 57 => ("SkeletonsModel", "leastLong", "I", false)
  | 58 => ("SkeletonsModel", "path", "[I", true)
  | _ => ("SkeletonsModel", "hung", "[I", true)
def tyX3 : Nat → FieldType := fun k => match k with
  | 0 => .array .int
  | 1 => .array .int
  | 2 => .int
  | 3 => .array .int
  | 4 => .array .boolean
  | 5 => .array .byte
  | 6 => .int
  | 7 => .int
  | 8 => .int
  | 9 => .array .int
  | 10 => .array .int
  | 11 => .array .int
  | 12 => .array .int
  | 13 => .int
  | 14 => .int
  | 15 => .array .int
  | 16 => .array .int
  | 17 => .array .int
  | 18 => .array .int
  | 19 => .array .long
  | 20 => .array .long
  | 21 => .array .long
  | 22 => .array .int
  | 23 => .array .int
  | 24 => .array .int
  | 25 => .array .int
  | 26 => .array .int
  | 27 => .int
  | 28 => .array .int
  | 29 => .array .int
  | 30 => .array .int
  | 31 => .array .int
  | 32 => .array .int
  | 33 => .array .int
  | 34 => .array .int
  | 35 => .array .int
  | 36 => .array .int
  | 37 => .array .int
  | 38 => .boolean
  | 39 => .array .int
  | 40 => .array .int
  | 41 => .array .long
  | 42 => .array .long
  | 43 => .array .long
  | 44 => .boolean
  | 45 => .array .long
  | 46 => .array .long
  | 47 => .array .int
  | 48 => .long
  | 49 => .long
  | 50 => .long
  | 51 => .long
  | 52 => .array .byte
  | 53 => .array .int
  | 54 => .array .byte
  | 55 => .int
  | 56 => .array .byte
  | 57 => .int
  | 58 => .array .int
  | _ => .array .int
abbrev wsX30 : List Cond := u_ws RX3 TX3 60
set_option maxRecDepth 100000 in
theorem nmX3 : ∀ a, a < 60 → ∀ b, b < 60 → a ≠ b → (TX3 a).2.1 ≠ (TX3 b).2.1 := by decide +kernel
set_option maxRecDepth 100000 in
theorem tyX3_ok : ∀ k, k < 60 → parseFieldDescriptor (TX3 k).2.2.1 = some (tyX3 k) := by decide +kernel
abbrev cX3_init : ByteArray := prog_21_method_1_code
def yX3_init : MethodName := ⟨RX3, "<init>", "()V"⟩
def dkwX3_init_15 : List UInt8 := [188, 10, 181, 0, 142, 42, 7, 188, 10, 181, 0, 145, 42, 180, 0, 7, 3, 4, 79, 177]
abbrev dktX3_init_15 : List UInt8 := dkwX3_init_15 ++ []
def dkwX3_init_14 : List UInt8 := [188, 10, 181, 0, 133, 42, 16, 96, 188, 8, 181, 0, 136, 42, 16, 96, 188, 8, 181, 0, 139, 42, 16, 16]
abbrev dktX3_init_14 : List UInt8 := dkwX3_init_14 ++ dktX3_init_15
def dkwX3_init_13 : List UInt8 := [181, 0, 124, 42, 7, 188, 10, 181, 0, 127, 42, 17, 96, 0, 188, 8, 181, 0, 130, 42, 17, 1, 0]
abbrev dktX3_init_13 : List UInt8 := dkwX3_init_13 ++ dktX3_init_14
def dkwX3_init_12 : List UInt8 := [181, 0, 115, 42, 16, 41, 188, 11, 181, 0, 118, 42, 16, 41, 188, 11, 181, 0, 121, 42, 16, 41, 188, 11]
abbrev dktX3_init_12 : List UInt8 := dkwX3_init_12 ++ dktX3_init_13
def dkwX3_init_11 : List UInt8 := [181, 0, 106, 42, 16, 16, 188, 10, 181, 0, 109, 42, 16, 41, 188, 11, 181, 0, 112, 42, 16, 41, 188, 11]
abbrev dktX3_init_11 : List UInt8 := dkwX3_init_11 ++ dktX3_init_12
def dkwX3_init_10 : List UInt8 := [42, 16, 12, 188, 10, 181, 0, 100, 42, 17, 12, 128, 188, 10, 181, 0, 103, 42, 16, 17, 188, 10]
abbrev dktX3_init_10 : List UInt8 := dkwX3_init_10 ++ dktX3_init_11
def dkwX3_init_9 : List UInt8 := [42, 16, 64, 188, 10, 181, 0, 91, 42, 16, 64, 188, 10, 181, 0, 94, 42, 16, 12, 188, 10, 181, 0, 97]
abbrev dktX3_init_9 : List UInt8 := dkwX3_init_9 ++ dktX3_init_10
def dkwX3_init_8 : List UInt8 := [42, 7, 188, 10, 181, 0, 82, 42, 17, 1, 0, 188, 10, 181, 0, 85, 42, 16, 16, 188, 10, 181, 0, 88]
abbrev dktX3_init_8 : List UInt8 := dkwX3_init_8 ++ dktX3_init_9
def dkwX3_init_7 : List UInt8 := [181, 0, 70, 42, 7, 188, 10, 181, 0, 73, 42, 7, 188, 10, 181, 0, 76, 42, 7, 188, 10, 181, 0, 79]
abbrev dktX3_init_7 : List UInt8 := dkwX3_init_7 ++ dktX3_init_8
def dkwX3_init_6 : List UInt8 := [42, 16, 17, 188, 10, 181, 0, 64, 42, 17, 1, 16, 188, 10, 181, 0, 67, 42, 17, 1, 16, 188, 10]
abbrev dktX3_init_6 : List UInt8 := dkwX3_init_6 ++ dktX3_init_7
def dkwX3_init_5 : List UInt8 := [16, 64, 188, 11, 181, 0, 55, 42, 16, 64, 188, 11, 181, 0, 58, 42, 17, 1, 0, 188, 10, 181, 0, 61]
abbrev dktX3_init_5 : List UInt8 := dkwX3_init_5 ++ dktX3_init_6
def dkwX3_init_4 : List UInt8 := [16, 64, 188, 10, 181, 0, 45, 42, 16, 64, 188, 10, 181, 0, 48, 42, 16, 64, 188, 11, 181, 0, 51, 42]
abbrev dktX3_init_4 : List UInt8 := dkwX3_init_4 ++ dktX3_init_5
def dkwX3_init_3 : List UInt8 := [188, 10, 181, 0, 36, 42, 16, 64, 188, 10, 181, 0, 39, 42, 17, 1, 0, 188, 10, 181, 0, 42, 42]
abbrev dktX3_init_3 : List UInt8 := dkwX3_init_3 ++ dktX3_init_4
def dkwX3_init_2 : List UInt8 := [188, 10, 181, 0, 27, 42, 16, 20, 188, 10, 181, 0, 30, 42, 16, 20, 188, 10, 181, 0, 33, 42, 16, 20]
abbrev dktX3_init_2 : List UInt8 := dkwX3_init_2 ++ dktX3_init_3
def dkwX3_init_1 : List UInt8 := [188, 10, 181, 0, 16, 42, 6, 188, 4, 181, 0, 19, 42, 16, 120, 188, 8, 181, 0, 23, 42, 16, 17]
abbrev dktX3_init_1 : List UInt8 := dkwX3_init_1 ++ dktX3_init_2
def dkwX3_init_0 : List UInt8 := [42, 183, 0, 1, 42, 16, 17, 188, 10, 181, 0, 7, 42, 17, 0, 204, 188, 10, 181, 0, 13, 42, 16, 51]
abbrev dktX3_init_0 : List UInt8 := dkwX3_init_0 ++ dktX3_init_1
theorem dksX3_init_0 : cX3_init.data.toList.drop 0 = dktX3_init_0 := by decide +kernel
theorem dksX3_init_1 : cX3_init.data.toList.drop 24 = dktX3_init_1 := dk_seg dksX3_init_0 24 rfl rfl
theorem dksX3_init_2 : cX3_init.data.toList.drop 47 = dktX3_init_2 := dk_seg dksX3_init_1 23 rfl rfl
theorem dksX3_init_3 : cX3_init.data.toList.drop 71 = dktX3_init_3 := dk_seg dksX3_init_2 24 rfl rfl
theorem dksX3_init_4 : cX3_init.data.toList.drop 94 = dktX3_init_4 := dk_seg dksX3_init_3 23 rfl rfl
theorem dksX3_init_5 : cX3_init.data.toList.drop 118 = dktX3_init_5 := dk_seg dksX3_init_4 24 rfl rfl
theorem dksX3_init_6 : cX3_init.data.toList.drop 142 = dktX3_init_6 := dk_seg dksX3_init_5 24 rfl rfl
theorem dksX3_init_7 : cX3_init.data.toList.drop 165 = dktX3_init_7 := dk_seg dksX3_init_6 23 rfl rfl
theorem dksX3_init_8 : cX3_init.data.toList.drop 189 = dktX3_init_8 := dk_seg dksX3_init_7 24 rfl rfl
theorem dksX3_init_9 : cX3_init.data.toList.drop 213 = dktX3_init_9 := dk_seg dksX3_init_8 24 rfl rfl
theorem dksX3_init_10 : cX3_init.data.toList.drop 237 = dktX3_init_10 := dk_seg dksX3_init_9 24 rfl rfl
theorem dksX3_init_11 : cX3_init.data.toList.drop 259 = dktX3_init_11 := dk_seg dksX3_init_10 22 rfl rfl
theorem dksX3_init_12 : cX3_init.data.toList.drop 283 = dktX3_init_12 := dk_seg dksX3_init_11 24 rfl rfl
theorem dksX3_init_13 : cX3_init.data.toList.drop 307 = dktX3_init_13 := dk_seg dksX3_init_12 24 rfl rfl
theorem dksX3_init_14 : cX3_init.data.toList.drop 330 = dktX3_init_14 := dk_seg dksX3_init_13 23 rfl rfl
theorem dksX3_init_15 : cX3_init.data.toList.drop 354 = dktX3_init_15 := dk_seg dksX3_init_14 24 rfl rfl
theorem dX3_init_0 : decode cX3_init 0 = .ok (.aload_n 0, 1) := dk_42 (dk_at dksX3_init_0 0 rfl rfl)
theorem dX3_init_1 : decode cX3_init 1 = .ok (.invokespecial 1, 3) := dk_183 0 1 (dk_at dksX3_init_0 1 rfl rfl)
theorem dX3_init_4 : decode cX3_init 4 = .ok (.aload_n 0, 1) := dk_42 (dk_at dksX3_init_0 4 rfl rfl)
theorem dX3_init_5 : decode cX3_init 5 = .ok (.bipush 17, 2) := dk_16 17 (dk_at dksX3_init_0 5 rfl rfl)
theorem dX3_init_7 : decode cX3_init 7 = .ok (.newarray .int, 2) := dk_188_10 (dk_at dksX3_init_0 7 rfl rfl)
theorem dX3_init_9 : decode cX3_init 9 = .ok (.putfield 7, 3) := dk_181 0 7 (dk_at dksX3_init_0 9 rfl rfl)
theorem dX3_init_12 : decode cX3_init 12 = .ok (.aload_n 0, 1) := dk_42 (dk_at dksX3_init_0 12 rfl rfl)
theorem dX3_init_13 : decode cX3_init 13 = .ok (.sipush 204, 3) := dk_17 0 204 (dk_at dksX3_init_0 13 rfl rfl)
theorem dX3_init_16 : decode cX3_init 16 = .ok (.newarray .int, 2) := dk_188_10 (dk_at dksX3_init_0 16 rfl rfl)
theorem dX3_init_18 : decode cX3_init 18 = .ok (.putfield 13, 3) := dk_181 0 13 (dk_at dksX3_init_0 18 rfl rfl)
theorem dX3_init_21 : decode cX3_init 21 = .ok (.aload_n 0, 1) := dk_42 (dk_at dksX3_init_0 21 rfl rfl)
theorem dX3_init_22 : decode cX3_init 22 = .ok (.bipush 51, 2) := dk_16 51 (dk_at dksX3_init_0 22 rfl rfl)
theorem dX3_init_24 : decode cX3_init 24 = .ok (.newarray .int, 2) := dk_188_10 (dk_at dksX3_init_1 0 rfl rfl)
theorem dX3_init_26 : decode cX3_init 26 = .ok (.putfield 16, 3) := dk_181 0 16 (dk_at dksX3_init_1 2 rfl rfl)
theorem dX3_init_29 : decode cX3_init 29 = .ok (.aload_n 0, 1) := dk_42 (dk_at dksX3_init_1 5 rfl rfl)
theorem dX3_init_30 : decode cX3_init 30 = .ok (.iconst 3, 1) := dk_6 (dk_at dksX3_init_1 6 rfl rfl)
theorem dX3_init_31 : decode cX3_init 31 = .ok (.newarray .boolean, 2) := dk_188_4 (dk_at dksX3_init_1 7 rfl rfl)
theorem dX3_init_33 : decode cX3_init 33 = .ok (.putfield 19, 3) := dk_181 0 19 (dk_at dksX3_init_1 9 rfl rfl)
theorem dX3_init_36 : decode cX3_init 36 = .ok (.aload_n 0, 1) := dk_42 (dk_at dksX3_init_1 12 rfl rfl)
theorem dX3_init_37 : decode cX3_init 37 = .ok (.bipush 120, 2) := dk_16 120 (dk_at dksX3_init_1 13 rfl rfl)
theorem dX3_init_39 : decode cX3_init 39 = .ok (.newarray .byte, 2) := dk_188_8 (dk_at dksX3_init_1 15 rfl rfl)
theorem dX3_init_41 : decode cX3_init 41 = .ok (.putfield 23, 3) := dk_181 0 23 (dk_at dksX3_init_1 17 rfl rfl)
theorem dX3_init_44 : decode cX3_init 44 = .ok (.aload_n 0, 1) := dk_42 (dk_at dksX3_init_1 20 rfl rfl)
theorem dX3_init_45 : decode cX3_init 45 = .ok (.bipush 17, 2) := dk_16 17 (dk_at dksX3_init_1 21 rfl rfl)
theorem dX3_init_47 : decode cX3_init 47 = .ok (.newarray .int, 2) := dk_188_10 (dk_at dksX3_init_2 0 rfl rfl)
theorem dX3_init_49 : decode cX3_init 49 = .ok (.putfield 27, 3) := dk_181 0 27 (dk_at dksX3_init_2 2 rfl rfl)
theorem dX3_init_52 : decode cX3_init 52 = .ok (.aload_n 0, 1) := dk_42 (dk_at dksX3_init_2 5 rfl rfl)
theorem dX3_init_53 : decode cX3_init 53 = .ok (.bipush 20, 2) := dk_16 20 (dk_at dksX3_init_2 6 rfl rfl)
theorem dX3_init_55 : decode cX3_init 55 = .ok (.newarray .int, 2) := dk_188_10 (dk_at dksX3_init_2 8 rfl rfl)
theorem dX3_init_57 : decode cX3_init 57 = .ok (.putfield 30, 3) := dk_181 0 30 (dk_at dksX3_init_2 10 rfl rfl)
theorem dX3_init_60 : decode cX3_init 60 = .ok (.aload_n 0, 1) := dk_42 (dk_at dksX3_init_2 13 rfl rfl)
theorem dX3_init_61 : decode cX3_init 61 = .ok (.bipush 20, 2) := dk_16 20 (dk_at dksX3_init_2 14 rfl rfl)
theorem dX3_init_63 : decode cX3_init 63 = .ok (.newarray .int, 2) := dk_188_10 (dk_at dksX3_init_2 16 rfl rfl)
theorem dX3_init_65 : decode cX3_init 65 = .ok (.putfield 33, 3) := dk_181 0 33 (dk_at dksX3_init_2 18 rfl rfl)
theorem dX3_init_68 : decode cX3_init 68 = .ok (.aload_n 0, 1) := dk_42 (dk_at dksX3_init_2 21 rfl rfl)
theorem dX3_init_69 : decode cX3_init 69 = .ok (.bipush 20, 2) := dk_16 20 (dk_at dksX3_init_2 22 rfl rfl)
theorem dX3_init_71 : decode cX3_init 71 = .ok (.newarray .int, 2) := dk_188_10 (dk_at dksX3_init_3 0 rfl rfl)
theorem dX3_init_73 : decode cX3_init 73 = .ok (.putfield 36, 3) := dk_181 0 36 (dk_at dksX3_init_3 2 rfl rfl)
theorem dX3_init_76 : decode cX3_init 76 = .ok (.aload_n 0, 1) := dk_42 (dk_at dksX3_init_3 5 rfl rfl)
theorem dX3_init_77 : decode cX3_init 77 = .ok (.bipush 64, 2) := dk_16 64 (dk_at dksX3_init_3 6 rfl rfl)
theorem dX3_init_79 : decode cX3_init 79 = .ok (.newarray .int, 2) := dk_188_10 (dk_at dksX3_init_3 8 rfl rfl)
theorem dX3_init_81 : decode cX3_init 81 = .ok (.putfield 39, 3) := dk_181 0 39 (dk_at dksX3_init_3 10 rfl rfl)
theorem dX3_init_84 : decode cX3_init 84 = .ok (.aload_n 0, 1) := dk_42 (dk_at dksX3_init_3 13 rfl rfl)
theorem dX3_init_85 : decode cX3_init 85 = .ok (.sipush 256, 3) := dk_17 1 0 (dk_at dksX3_init_3 14 rfl rfl)
theorem dX3_init_88 : decode cX3_init 88 = .ok (.newarray .int, 2) := dk_188_10 (dk_at dksX3_init_3 17 rfl rfl)
theorem dX3_init_90 : decode cX3_init 90 = .ok (.putfield 42, 3) := dk_181 0 42 (dk_at dksX3_init_3 19 rfl rfl)
theorem dX3_init_93 : decode cX3_init 93 = .ok (.aload_n 0, 1) := dk_42 (dk_at dksX3_init_3 22 rfl rfl)
theorem dX3_init_94 : decode cX3_init 94 = .ok (.bipush 64, 2) := dk_16 64 (dk_at dksX3_init_4 0 rfl rfl)
theorem dX3_init_96 : decode cX3_init 96 = .ok (.newarray .int, 2) := dk_188_10 (dk_at dksX3_init_4 2 rfl rfl)
theorem dX3_init_98 : decode cX3_init 98 = .ok (.putfield 45, 3) := dk_181 0 45 (dk_at dksX3_init_4 4 rfl rfl)
theorem dX3_init_101 : decode cX3_init 101 = .ok (.aload_n 0, 1) := dk_42 (dk_at dksX3_init_4 7 rfl rfl)
theorem dX3_init_102 : decode cX3_init 102 = .ok (.bipush 64, 2) := dk_16 64 (dk_at dksX3_init_4 8 rfl rfl)
theorem dX3_init_104 : decode cX3_init 104 = .ok (.newarray .int, 2) := dk_188_10 (dk_at dksX3_init_4 10 rfl rfl)
theorem dX3_init_106 : decode cX3_init 106 = .ok (.putfield 48, 3) := dk_181 0 48 (dk_at dksX3_init_4 12 rfl rfl)
theorem dX3_init_109 : decode cX3_init 109 = .ok (.aload_n 0, 1) := dk_42 (dk_at dksX3_init_4 15 rfl rfl)
theorem dX3_init_110 : decode cX3_init 110 = .ok (.bipush 64, 2) := dk_16 64 (dk_at dksX3_init_4 16 rfl rfl)
theorem dX3_init_112 : decode cX3_init 112 = .ok (.newarray .long, 2) := dk_188_11 (dk_at dksX3_init_4 18 rfl rfl)
theorem dX3_init_114 : decode cX3_init 114 = .ok (.putfield 51, 3) := dk_181 0 51 (dk_at dksX3_init_4 20 rfl rfl)
theorem dX3_init_117 : decode cX3_init 117 = .ok (.aload_n 0, 1) := dk_42 (dk_at dksX3_init_4 23 rfl rfl)
theorem dX3_init_118 : decode cX3_init 118 = .ok (.bipush 64, 2) := dk_16 64 (dk_at dksX3_init_5 0 rfl rfl)
theorem dX3_init_120 : decode cX3_init 120 = .ok (.newarray .long, 2) := dk_188_11 (dk_at dksX3_init_5 2 rfl rfl)
theorem dX3_init_122 : decode cX3_init 122 = .ok (.putfield 55, 3) := dk_181 0 55 (dk_at dksX3_init_5 4 rfl rfl)
theorem dX3_init_125 : decode cX3_init 125 = .ok (.aload_n 0, 1) := dk_42 (dk_at dksX3_init_5 7 rfl rfl)
theorem dX3_init_126 : decode cX3_init 126 = .ok (.bipush 64, 2) := dk_16 64 (dk_at dksX3_init_5 8 rfl rfl)
theorem dX3_init_128 : decode cX3_init 128 = .ok (.newarray .long, 2) := dk_188_11 (dk_at dksX3_init_5 10 rfl rfl)
theorem dX3_init_130 : decode cX3_init 130 = .ok (.putfield 58, 3) := dk_181 0 58 (dk_at dksX3_init_5 12 rfl rfl)
theorem dX3_init_133 : decode cX3_init 133 = .ok (.aload_n 0, 1) := dk_42 (dk_at dksX3_init_5 15 rfl rfl)
theorem dX3_init_134 : decode cX3_init 134 = .ok (.sipush 256, 3) := dk_17 1 0 (dk_at dksX3_init_5 16 rfl rfl)
theorem dX3_init_137 : decode cX3_init 137 = .ok (.newarray .int, 2) := dk_188_10 (dk_at dksX3_init_5 19 rfl rfl)
theorem dX3_init_139 : decode cX3_init 139 = .ok (.putfield 61, 3) := dk_181 0 61 (dk_at dksX3_init_5 21 rfl rfl)
theorem dX3_init_142 : decode cX3_init 142 = .ok (.aload_n 0, 1) := dk_42 (dk_at dksX3_init_6 0 rfl rfl)
theorem dX3_init_143 : decode cX3_init 143 = .ok (.bipush 17, 2) := dk_16 17 (dk_at dksX3_init_6 1 rfl rfl)
theorem dX3_init_145 : decode cX3_init 145 = .ok (.newarray .int, 2) := dk_188_10 (dk_at dksX3_init_6 3 rfl rfl)
theorem dX3_init_147 : decode cX3_init 147 = .ok (.putfield 64, 3) := dk_181 0 64 (dk_at dksX3_init_6 5 rfl rfl)
theorem dX3_init_150 : decode cX3_init 150 = .ok (.aload_n 0, 1) := dk_42 (dk_at dksX3_init_6 8 rfl rfl)
theorem dX3_init_151 : decode cX3_init 151 = .ok (.sipush 272, 3) := dk_17 1 16 (dk_at dksX3_init_6 9 rfl rfl)
theorem dX3_init_154 : decode cX3_init 154 = .ok (.newarray .int, 2) := dk_188_10 (dk_at dksX3_init_6 12 rfl rfl)
theorem dX3_init_156 : decode cX3_init 156 = .ok (.putfield 67, 3) := dk_181 0 67 (dk_at dksX3_init_6 14 rfl rfl)
theorem dX3_init_159 : decode cX3_init 159 = .ok (.aload_n 0, 1) := dk_42 (dk_at dksX3_init_6 17 rfl rfl)
theorem dX3_init_160 : decode cX3_init 160 = .ok (.sipush 272, 3) := dk_17 1 16 (dk_at dksX3_init_6 18 rfl rfl)
theorem dX3_init_163 : decode cX3_init 163 = .ok (.newarray .int, 2) := dk_188_10 (dk_at dksX3_init_6 21 rfl rfl)
theorem dX3_init_165 : decode cX3_init 165 = .ok (.putfield 70, 3) := dk_181 0 70 (dk_at dksX3_init_7 0 rfl rfl)
theorem dX3_init_168 : decode cX3_init 168 = .ok (.aload_n 0, 1) := dk_42 (dk_at dksX3_init_7 3 rfl rfl)
theorem dX3_init_169 : decode cX3_init 169 = .ok (.iconst 4, 1) := dk_7 (dk_at dksX3_init_7 4 rfl rfl)
theorem dX3_init_170 : decode cX3_init 170 = .ok (.newarray .int, 2) := dk_188_10 (dk_at dksX3_init_7 5 rfl rfl)
theorem dX3_init_172 : decode cX3_init 172 = .ok (.putfield 73, 3) := dk_181 0 73 (dk_at dksX3_init_7 7 rfl rfl)
theorem dX3_init_175 : decode cX3_init 175 = .ok (.aload_n 0, 1) := dk_42 (dk_at dksX3_init_7 10 rfl rfl)
theorem dX3_init_176 : decode cX3_init 176 = .ok (.iconst 4, 1) := dk_7 (dk_at dksX3_init_7 11 rfl rfl)
theorem dX3_init_177 : decode cX3_init 177 = .ok (.newarray .int, 2) := dk_188_10 (dk_at dksX3_init_7 12 rfl rfl)
theorem dX3_init_179 : decode cX3_init 179 = .ok (.putfield 76, 3) := dk_181 0 76 (dk_at dksX3_init_7 14 rfl rfl)
theorem dX3_init_182 : decode cX3_init 182 = .ok (.aload_n 0, 1) := dk_42 (dk_at dksX3_init_7 17 rfl rfl)
theorem dX3_init_183 : decode cX3_init 183 = .ok (.iconst 4, 1) := dk_7 (dk_at dksX3_init_7 18 rfl rfl)
theorem dX3_init_184 : decode cX3_init 184 = .ok (.newarray .int, 2) := dk_188_10 (dk_at dksX3_init_7 19 rfl rfl)
theorem dX3_init_186 : decode cX3_init 186 = .ok (.putfield 79, 3) := dk_181 0 79 (dk_at dksX3_init_7 21 rfl rfl)
theorem dX3_init_189 : decode cX3_init 189 = .ok (.aload_n 0, 1) := dk_42 (dk_at dksX3_init_8 0 rfl rfl)
theorem dX3_init_190 : decode cX3_init 190 = .ok (.iconst 4, 1) := dk_7 (dk_at dksX3_init_8 1 rfl rfl)
theorem dX3_init_191 : decode cX3_init 191 = .ok (.newarray .int, 2) := dk_188_10 (dk_at dksX3_init_8 2 rfl rfl)
theorem dX3_init_193 : decode cX3_init 193 = .ok (.putfield 82, 3) := dk_181 0 82 (dk_at dksX3_init_8 4 rfl rfl)
theorem dX3_init_196 : decode cX3_init 196 = .ok (.aload_n 0, 1) := dk_42 (dk_at dksX3_init_8 7 rfl rfl)
theorem dX3_init_197 : decode cX3_init 197 = .ok (.sipush 256, 3) := dk_17 1 0 (dk_at dksX3_init_8 8 rfl rfl)
theorem dX3_init_200 : decode cX3_init 200 = .ok (.newarray .int, 2) := dk_188_10 (dk_at dksX3_init_8 11 rfl rfl)
theorem dX3_init_202 : decode cX3_init 202 = .ok (.putfield 85, 3) := dk_181 0 85 (dk_at dksX3_init_8 13 rfl rfl)
theorem dX3_init_205 : decode cX3_init 205 = .ok (.aload_n 0, 1) := dk_42 (dk_at dksX3_init_8 16 rfl rfl)
theorem dX3_init_206 : decode cX3_init 206 = .ok (.bipush 16, 2) := dk_16 16 (dk_at dksX3_init_8 17 rfl rfl)
theorem dX3_init_208 : decode cX3_init 208 = .ok (.newarray .int, 2) := dk_188_10 (dk_at dksX3_init_8 19 rfl rfl)
theorem dX3_init_210 : decode cX3_init 210 = .ok (.putfield 88, 3) := dk_181 0 88 (dk_at dksX3_init_8 21 rfl rfl)
theorem dX3_init_213 : decode cX3_init 213 = .ok (.aload_n 0, 1) := dk_42 (dk_at dksX3_init_9 0 rfl rfl)
theorem dX3_init_214 : decode cX3_init 214 = .ok (.bipush 64, 2) := dk_16 64 (dk_at dksX3_init_9 1 rfl rfl)
theorem dX3_init_216 : decode cX3_init 216 = .ok (.newarray .int, 2) := dk_188_10 (dk_at dksX3_init_9 3 rfl rfl)
theorem dX3_init_218 : decode cX3_init 218 = .ok (.putfield 91, 3) := dk_181 0 91 (dk_at dksX3_init_9 5 rfl rfl)
theorem dX3_init_221 : decode cX3_init 221 = .ok (.aload_n 0, 1) := dk_42 (dk_at dksX3_init_9 8 rfl rfl)
theorem dX3_init_222 : decode cX3_init 222 = .ok (.bipush 64, 2) := dk_16 64 (dk_at dksX3_init_9 9 rfl rfl)
theorem dX3_init_224 : decode cX3_init 224 = .ok (.newarray .int, 2) := dk_188_10 (dk_at dksX3_init_9 11 rfl rfl)
theorem dX3_init_226 : decode cX3_init 226 = .ok (.putfield 94, 3) := dk_181 0 94 (dk_at dksX3_init_9 13 rfl rfl)
theorem dX3_init_229 : decode cX3_init 229 = .ok (.aload_n 0, 1) := dk_42 (dk_at dksX3_init_9 16 rfl rfl)
theorem dX3_init_230 : decode cX3_init 230 = .ok (.bipush 12, 2) := dk_16 12 (dk_at dksX3_init_9 17 rfl rfl)
theorem dX3_init_232 : decode cX3_init 232 = .ok (.newarray .int, 2) := dk_188_10 (dk_at dksX3_init_9 19 rfl rfl)
theorem dX3_init_234 : decode cX3_init 234 = .ok (.putfield 97, 3) := dk_181 0 97 (dk_at dksX3_init_9 21 rfl rfl)
theorem dX3_init_237 : decode cX3_init 237 = .ok (.aload_n 0, 1) := dk_42 (dk_at dksX3_init_10 0 rfl rfl)
theorem dX3_init_238 : decode cX3_init 238 = .ok (.bipush 12, 2) := dk_16 12 (dk_at dksX3_init_10 1 rfl rfl)
theorem dX3_init_240 : decode cX3_init 240 = .ok (.newarray .int, 2) := dk_188_10 (dk_at dksX3_init_10 3 rfl rfl)
theorem dX3_init_242 : decode cX3_init 242 = .ok (.putfield 100, 3) := dk_181 0 100 (dk_at dksX3_init_10 5 rfl rfl)
theorem dX3_init_245 : decode cX3_init 245 = .ok (.aload_n 0, 1) := dk_42 (dk_at dksX3_init_10 8 rfl rfl)
theorem dX3_init_246 : decode cX3_init 246 = .ok (.sipush 3200, 3) := dk_17 12 128 (dk_at dksX3_init_10 9 rfl rfl)
theorem dX3_init_249 : decode cX3_init 249 = .ok (.newarray .int, 2) := dk_188_10 (dk_at dksX3_init_10 12 rfl rfl)
theorem dX3_init_251 : decode cX3_init 251 = .ok (.putfield 103, 3) := dk_181 0 103 (dk_at dksX3_init_10 14 rfl rfl)
theorem dX3_init_254 : decode cX3_init 254 = .ok (.aload_n 0, 1) := dk_42 (dk_at dksX3_init_10 17 rfl rfl)
theorem dX3_init_255 : decode cX3_init 255 = .ok (.bipush 17, 2) := dk_16 17 (dk_at dksX3_init_10 18 rfl rfl)
theorem dX3_init_257 : decode cX3_init 257 = .ok (.newarray .int, 2) := dk_188_10 (dk_at dksX3_init_10 20 rfl rfl)
theorem dX3_init_259 : decode cX3_init 259 = .ok (.putfield 106, 3) := dk_181 0 106 (dk_at dksX3_init_11 0 rfl rfl)
theorem dX3_init_262 : decode cX3_init 262 = .ok (.aload_n 0, 1) := dk_42 (dk_at dksX3_init_11 3 rfl rfl)
theorem dX3_init_263 : decode cX3_init 263 = .ok (.bipush 16, 2) := dk_16 16 (dk_at dksX3_init_11 4 rfl rfl)
theorem dX3_init_265 : decode cX3_init 265 = .ok (.newarray .int, 2) := dk_188_10 (dk_at dksX3_init_11 6 rfl rfl)
theorem dX3_init_267 : decode cX3_init 267 = .ok (.putfield 109, 3) := dk_181 0 109 (dk_at dksX3_init_11 8 rfl rfl)
theorem dX3_init_270 : decode cX3_init 270 = .ok (.aload_n 0, 1) := dk_42 (dk_at dksX3_init_11 11 rfl rfl)
theorem dX3_init_271 : decode cX3_init 271 = .ok (.bipush 41, 2) := dk_16 41 (dk_at dksX3_init_11 12 rfl rfl)
theorem dX3_init_273 : decode cX3_init 273 = .ok (.newarray .long, 2) := dk_188_11 (dk_at dksX3_init_11 14 rfl rfl)
theorem dX3_init_275 : decode cX3_init 275 = .ok (.putfield 112, 3) := dk_181 0 112 (dk_at dksX3_init_11 16 rfl rfl)
theorem dX3_init_278 : decode cX3_init 278 = .ok (.aload_n 0, 1) := dk_42 (dk_at dksX3_init_11 19 rfl rfl)
theorem dX3_init_279 : decode cX3_init 279 = .ok (.bipush 41, 2) := dk_16 41 (dk_at dksX3_init_11 20 rfl rfl)
theorem dX3_init_281 : decode cX3_init 281 = .ok (.newarray .long, 2) := dk_188_11 (dk_at dksX3_init_11 22 rfl rfl)
theorem dX3_init_283 : decode cX3_init 283 = .ok (.putfield 115, 3) := dk_181 0 115 (dk_at dksX3_init_12 0 rfl rfl)
theorem dX3_init_286 : decode cX3_init 286 = .ok (.aload_n 0, 1) := dk_42 (dk_at dksX3_init_12 3 rfl rfl)
theorem dX3_init_287 : decode cX3_init 287 = .ok (.bipush 41, 2) := dk_16 41 (dk_at dksX3_init_12 4 rfl rfl)
theorem dX3_init_289 : decode cX3_init 289 = .ok (.newarray .long, 2) := dk_188_11 (dk_at dksX3_init_12 6 rfl rfl)
theorem dX3_init_291 : decode cX3_init 291 = .ok (.putfield 118, 3) := dk_181 0 118 (dk_at dksX3_init_12 8 rfl rfl)
theorem dX3_init_294 : decode cX3_init 294 = .ok (.aload_n 0, 1) := dk_42 (dk_at dksX3_init_12 11 rfl rfl)
theorem dX3_init_295 : decode cX3_init 295 = .ok (.bipush 41, 2) := dk_16 41 (dk_at dksX3_init_12 12 rfl rfl)
theorem dX3_init_297 : decode cX3_init 297 = .ok (.newarray .long, 2) := dk_188_11 (dk_at dksX3_init_12 14 rfl rfl)
theorem dX3_init_299 : decode cX3_init 299 = .ok (.putfield 121, 3) := dk_181 0 121 (dk_at dksX3_init_12 16 rfl rfl)
theorem dX3_init_302 : decode cX3_init 302 = .ok (.aload_n 0, 1) := dk_42 (dk_at dksX3_init_12 19 rfl rfl)
theorem dX3_init_303 : decode cX3_init 303 = .ok (.bipush 41, 2) := dk_16 41 (dk_at dksX3_init_12 20 rfl rfl)
theorem dX3_init_305 : decode cX3_init 305 = .ok (.newarray .long, 2) := dk_188_11 (dk_at dksX3_init_12 22 rfl rfl)
theorem dX3_init_307 : decode cX3_init 307 = .ok (.putfield 124, 3) := dk_181 0 124 (dk_at dksX3_init_13 0 rfl rfl)
theorem dX3_init_310 : decode cX3_init 310 = .ok (.aload_n 0, 1) := dk_42 (dk_at dksX3_init_13 3 rfl rfl)
theorem dX3_init_311 : decode cX3_init 311 = .ok (.iconst 4, 1) := dk_7 (dk_at dksX3_init_13 4 rfl rfl)
theorem dX3_init_312 : decode cX3_init 312 = .ok (.newarray .int, 2) := dk_188_10 (dk_at dksX3_init_13 5 rfl rfl)
theorem dX3_init_314 : decode cX3_init 314 = .ok (.putfield 127, 3) := dk_181 0 127 (dk_at dksX3_init_13 7 rfl rfl)
theorem dX3_init_317 : decode cX3_init 317 = .ok (.aload_n 0, 1) := dk_42 (dk_at dksX3_init_13 10 rfl rfl)
theorem dX3_init_318 : decode cX3_init 318 = .ok (.sipush 24576, 3) := dk_17 96 0 (dk_at dksX3_init_13 11 rfl rfl)
theorem dX3_init_321 : decode cX3_init 321 = .ok (.newarray .byte, 2) := dk_188_8 (dk_at dksX3_init_13 14 rfl rfl)
theorem dX3_init_323 : decode cX3_init 323 = .ok (.putfield 130, 3) := dk_181 0 130 (dk_at dksX3_init_13 16 rfl rfl)
theorem dX3_init_326 : decode cX3_init 326 = .ok (.aload_n 0, 1) := dk_42 (dk_at dksX3_init_13 19 rfl rfl)
theorem dX3_init_327 : decode cX3_init 327 = .ok (.sipush 256, 3) := dk_17 1 0 (dk_at dksX3_init_13 20 rfl rfl)
theorem dX3_init_330 : decode cX3_init 330 = .ok (.newarray .int, 2) := dk_188_10 (dk_at dksX3_init_14 0 rfl rfl)
theorem dX3_init_332 : decode cX3_init 332 = .ok (.putfield 133, 3) := dk_181 0 133 (dk_at dksX3_init_14 2 rfl rfl)
theorem dX3_init_335 : decode cX3_init 335 = .ok (.aload_n 0, 1) := dk_42 (dk_at dksX3_init_14 5 rfl rfl)
theorem dX3_init_336 : decode cX3_init 336 = .ok (.bipush 96, 2) := dk_16 96 (dk_at dksX3_init_14 6 rfl rfl)
theorem dX3_init_338 : decode cX3_init 338 = .ok (.newarray .byte, 2) := dk_188_8 (dk_at dksX3_init_14 8 rfl rfl)
theorem dX3_init_340 : decode cX3_init 340 = .ok (.putfield 136, 3) := dk_181 0 136 (dk_at dksX3_init_14 10 rfl rfl)
theorem dX3_init_343 : decode cX3_init 343 = .ok (.aload_n 0, 1) := dk_42 (dk_at dksX3_init_14 13 rfl rfl)
theorem dX3_init_344 : decode cX3_init 344 = .ok (.bipush 96, 2) := dk_16 96 (dk_at dksX3_init_14 14 rfl rfl)
theorem dX3_init_346 : decode cX3_init 346 = .ok (.newarray .byte, 2) := dk_188_8 (dk_at dksX3_init_14 16 rfl rfl)
theorem dX3_init_348 : decode cX3_init 348 = .ok (.putfield 139, 3) := dk_181 0 139 (dk_at dksX3_init_14 18 rfl rfl)
theorem dX3_init_351 : decode cX3_init 351 = .ok (.aload_n 0, 1) := dk_42 (dk_at dksX3_init_14 21 rfl rfl)
theorem dX3_init_352 : decode cX3_init 352 = .ok (.bipush 16, 2) := dk_16 16 (dk_at dksX3_init_14 22 rfl rfl)
theorem dX3_init_354 : decode cX3_init 354 = .ok (.newarray .int, 2) := dk_188_10 (dk_at dksX3_init_15 0 rfl rfl)
theorem dX3_init_356 : decode cX3_init 356 = .ok (.putfield 142, 3) := dk_181 0 142 (dk_at dksX3_init_15 2 rfl rfl)
theorem dX3_init_359 : decode cX3_init 359 = .ok (.aload_n 0, 1) := dk_42 (dk_at dksX3_init_15 5 rfl rfl)
theorem dX3_init_360 : decode cX3_init 360 = .ok (.iconst 4, 1) := dk_7 (dk_at dksX3_init_15 6 rfl rfl)
theorem dX3_init_361 : decode cX3_init 361 = .ok (.newarray .int, 2) := dk_188_10 (dk_at dksX3_init_15 7 rfl rfl)
theorem dX3_init_363 : decode cX3_init 363 = .ok (.putfield 145, 3) := dk_181 0 145 (dk_at dksX3_init_15 9 rfl rfl)
theorem dX3_init_366 : decode cX3_init 366 = .ok (.aload_n 0, 1) := dk_42 (dk_at dksX3_init_15 12 rfl rfl)
theorem dX3_init_367 : decode cX3_init 367 = .ok (.getfield 7, 3) := dk_180 0 7 (dk_at dksX3_init_15 13 rfl rfl)
theorem dX3_init_370 : decode cX3_init 370 = .ok (.iconst 0, 1) := dk_3 (dk_at dksX3_init_15 16 rfl rfl)
theorem dX3_init_371 : decode cX3_init 371 = .ok (.iconst 1, 1) := dk_4 (dk_at dksX3_init_15 17 rfl rfl)
theorem dX3_init_372 : decode cX3_init 372 = .ok (.iastore, 1) := dk_79 (dk_at dksX3_init_15 18 rfl rfl)
theorem dX3_init_373 : decode cX3_init 373 = .ok (.return_, 1) := dk_177 (dk_at dksX3_init_15 19 rfl rfl)
abbrev cX3_undo : ByteArray := prog_21_method_9_code
def yX3_undo : MethodName := ⟨RX3, "undo", "()I"⟩
def dkwX3_undo_2 : List UInt8 := [132, 1, 1, 167, 255, 227, 42, 180, 0, 152, 172]
abbrev dktX3_undo_2 : List UInt8 := dkwX3_undo_2 ++ []
def dkwX3_undo_1 : List UInt8 := [162, 0, 29, 42, 180, 0, 7, 27, 42, 180, 0, 13, 16, 17, 42, 180, 0, 152, 104, 27, 96, 46, 79]
abbrev dktX3_undo_1 : List UInt8 := dkwX3_undo_1 ++ dktX3_undo_2
def dkwX3_undo_0 : List UInt8 := [42, 180, 0, 152, 154, 0, 5, 2, 172, 42, 89, 180, 0, 152, 4, 100, 181, 0, 152, 3, 60, 27, 16, 17]
abbrev dktX3_undo_0 : List UInt8 := dkwX3_undo_0 ++ dktX3_undo_1
theorem dksX3_undo_0 : cX3_undo.data.toList.drop 0 = dktX3_undo_0 := by decide +kernel
theorem dksX3_undo_1 : cX3_undo.data.toList.drop 24 = dktX3_undo_1 := dk_seg dksX3_undo_0 24 rfl rfl
theorem dksX3_undo_2 : cX3_undo.data.toList.drop 47 = dktX3_undo_2 := dk_seg dksX3_undo_1 23 rfl rfl
theorem dX3_undo_0 : decode cX3_undo 0 = .ok (.aload_n 0, 1) := dk_42 (dk_at dksX3_undo_0 0 rfl rfl)
theorem dX3_undo_1 : decode cX3_undo 1 = .ok (.getfield 152, 3) := dk_180 0 152 (dk_at dksX3_undo_0 1 rfl rfl)
theorem dX3_undo_4 : decode cX3_undo 4 = .ok (.ifCond .ne 5, 3) := dk_154 0 5 (dk_at dksX3_undo_0 4 rfl rfl)
theorem dX3_undo_7 : decode cX3_undo 7 = .ok (.iconst (-1), 1) := dk_2 (dk_at dksX3_undo_0 7 rfl rfl)
theorem dX3_undo_8 : decode cX3_undo 8 = .ok (.ireturn, 1) := dk_172 (dk_at dksX3_undo_0 8 rfl rfl)
theorem dX3_undo_9 : decode cX3_undo 9 = .ok (.aload_n 0, 1) := dk_42 (dk_at dksX3_undo_0 9 rfl rfl)
theorem dX3_undo_10 : decode cX3_undo 10 = .ok (.dup, 1) := dk_89 (dk_at dksX3_undo_0 10 rfl rfl)
theorem dX3_undo_11 : decode cX3_undo 11 = .ok (.getfield 152, 3) := dk_180 0 152 (dk_at dksX3_undo_0 11 rfl rfl)
theorem dX3_undo_14 : decode cX3_undo 14 = .ok (.iconst 1, 1) := dk_4 (dk_at dksX3_undo_0 14 rfl rfl)
theorem dX3_undo_15 : decode cX3_undo 15 = .ok (.isub, 1) := dk_100 (dk_at dksX3_undo_0 15 rfl rfl)
theorem dX3_undo_16 : decode cX3_undo 16 = .ok (.putfield 152, 3) := dk_181 0 152 (dk_at dksX3_undo_0 16 rfl rfl)
theorem dX3_undo_19 : decode cX3_undo 19 = .ok (.iconst 0, 1) := dk_3 (dk_at dksX3_undo_0 19 rfl rfl)
theorem dX3_undo_20 : decode cX3_undo 20 = .ok (.istore_n 1, 1) := dk_60 (dk_at dksX3_undo_0 20 rfl rfl)
theorem dX3_undo_21 : decode cX3_undo 21 = .ok (.iload_n 1, 1) := dk_27 (dk_at dksX3_undo_0 21 rfl rfl)
theorem dX3_undo_22 : decode cX3_undo 22 = .ok (.bipush 17, 2) := dk_16 17 (dk_at dksX3_undo_0 22 rfl rfl)
theorem dX3_undo_24 : decode cX3_undo 24 = .ok (.if_icmp .ge 29, 3) := dk_162 0 29 (dk_at dksX3_undo_1 0 rfl rfl)
theorem dX3_undo_27 : decode cX3_undo 27 = .ok (.aload_n 0, 1) := dk_42 (dk_at dksX3_undo_1 3 rfl rfl)
theorem dX3_undo_28 : decode cX3_undo 28 = .ok (.getfield 7, 3) := dk_180 0 7 (dk_at dksX3_undo_1 4 rfl rfl)
theorem dX3_undo_31 : decode cX3_undo 31 = .ok (.iload_n 1, 1) := dk_27 (dk_at dksX3_undo_1 7 rfl rfl)
theorem dX3_undo_32 : decode cX3_undo 32 = .ok (.aload_n 0, 1) := dk_42 (dk_at dksX3_undo_1 8 rfl rfl)
theorem dX3_undo_33 : decode cX3_undo 33 = .ok (.getfield 13, 3) := dk_180 0 13 (dk_at dksX3_undo_1 9 rfl rfl)
theorem dX3_undo_36 : decode cX3_undo 36 = .ok (.bipush 17, 2) := dk_16 17 (dk_at dksX3_undo_1 12 rfl rfl)
theorem dX3_undo_38 : decode cX3_undo 38 = .ok (.aload_n 0, 1) := dk_42 (dk_at dksX3_undo_1 14 rfl rfl)
theorem dX3_undo_39 : decode cX3_undo 39 = .ok (.getfield 152, 3) := dk_180 0 152 (dk_at dksX3_undo_1 15 rfl rfl)
theorem dX3_undo_42 : decode cX3_undo 42 = .ok (.imul, 1) := dk_104 (dk_at dksX3_undo_1 18 rfl rfl)
theorem dX3_undo_43 : decode cX3_undo 43 = .ok (.iload_n 1, 1) := dk_27 (dk_at dksX3_undo_1 19 rfl rfl)
theorem dX3_undo_44 : decode cX3_undo 44 = .ok (.iadd, 1) := dk_96 (dk_at dksX3_undo_1 20 rfl rfl)
theorem dX3_undo_45 : decode cX3_undo 45 = .ok (.iaload, 1) := dk_46 (dk_at dksX3_undo_1 21 rfl rfl)
theorem dX3_undo_46 : decode cX3_undo 46 = .ok (.iastore, 1) := dk_79 (dk_at dksX3_undo_1 22 rfl rfl)
theorem dX3_undo_47 : decode cX3_undo 47 = .ok (.iinc 1 1, 3) := dk_132 1 1 (dk_at dksX3_undo_2 0 rfl rfl)
theorem dX3_undo_50 : decode cX3_undo 50 = .ok (.goto (-29), 3) := dk_167 255 227 (dk_at dksX3_undo_2 3 rfl rfl)
theorem dX3_undo_53 : decode cX3_undo 53 = .ok (.aload_n 0, 1) := dk_42 (dk_at dksX3_undo_2 6 rfl rfl)
theorem dX3_undo_54 : decode cX3_undo 54 = .ok (.getfield 152, 3) := dk_180 0 152 (dk_at dksX3_undo_2 7 rfl rfl)
theorem dX3_undo_57 : decode cX3_undo 57 = .ok (.ireturn, 1) := dk_172 (dk_at dksX3_undo_2 10 rfl rfl)
abbrev cX3_keep : ByteArray := prog_21_method_10_code
def yX3_keep : MethodName := ⟨RX3, "keep", "(I)I"⟩
def dkwX3_keep_2 : List UInt8 := [180, 0, 19, 27, 4, 84, 42, 180, 0, 7, 3, 46, 172]
abbrev dktX3_keep_2 : List UInt8 := dkwX3_keep_2 ++ []
def dkwX3_keep_1 : List UInt8 := [180, 0, 16, 16, 17, 27, 104, 28, 96, 42, 180, 0, 7, 28, 46, 79, 132, 2, 1, 167, 255, 230, 42]
abbrev dktX3_keep_1 : List UInt8 := dkwX3_keep_1 ++ dktX3_keep_2
def dkwX3_keep_0 : List UInt8 := [27, 133, 9, 20, 0, 156, 184, 0, 158, 154, 0, 5, 2, 172, 3, 61, 28, 16, 17, 162, 0, 26, 42]
abbrev dktX3_keep_0 : List UInt8 := dkwX3_keep_0 ++ dktX3_keep_1
theorem dksX3_keep_0 : cX3_keep.data.toList.drop 0 = dktX3_keep_0 := by decide +kernel
theorem dksX3_keep_1 : cX3_keep.data.toList.drop 23 = dktX3_keep_1 := dk_seg dksX3_keep_0 23 rfl rfl
theorem dksX3_keep_2 : cX3_keep.data.toList.drop 46 = dktX3_keep_2 := dk_seg dksX3_keep_1 23 rfl rfl
theorem dX3_keep_0 : decode cX3_keep 0 = .ok (.iload_n 1, 1) := dk_27 (dk_at dksX3_keep_0 0 rfl rfl)
theorem dX3_keep_1 : decode cX3_keep 1 = .ok (.i2l, 1) := dk_133 (dk_at dksX3_keep_0 1 rfl rfl)
theorem dX3_keep_2 : decode cX3_keep 2 = .ok (.lconst 0, 1) := dk_9 (dk_at dksX3_keep_0 2 rfl rfl)
theorem dX3_keep_3 : decode cX3_keep 3 = .ok (.ldc2_w 156, 3) := dk_20 0 156 (dk_at dksX3_keep_0 3 rfl rfl)
theorem dX3_keep_6 : decode cX3_keep 6 = .ok (.invokestatic 158, 3) := dk_184 0 158 (dk_at dksX3_keep_0 6 rfl rfl)
theorem dX3_keep_9 : decode cX3_keep 9 = .ok (.ifCond .ne 5, 3) := dk_154 0 5 (dk_at dksX3_keep_0 9 rfl rfl)
theorem dX3_keep_12 : decode cX3_keep 12 = .ok (.iconst (-1), 1) := dk_2 (dk_at dksX3_keep_0 12 rfl rfl)
theorem dX3_keep_13 : decode cX3_keep 13 = .ok (.ireturn, 1) := dk_172 (dk_at dksX3_keep_0 13 rfl rfl)
theorem dX3_keep_14 : decode cX3_keep 14 = .ok (.iconst 0, 1) := dk_3 (dk_at dksX3_keep_0 14 rfl rfl)
theorem dX3_keep_15 : decode cX3_keep 15 = .ok (.istore_n 2, 1) := dk_61 (dk_at dksX3_keep_0 15 rfl rfl)
theorem dX3_keep_16 : decode cX3_keep 16 = .ok (.iload_n 2, 1) := dk_28 (dk_at dksX3_keep_0 16 rfl rfl)
theorem dX3_keep_17 : decode cX3_keep 17 = .ok (.bipush 17, 2) := dk_16 17 (dk_at dksX3_keep_0 17 rfl rfl)
theorem dX3_keep_19 : decode cX3_keep 19 = .ok (.if_icmp .ge 26, 3) := dk_162 0 26 (dk_at dksX3_keep_0 19 rfl rfl)
theorem dX3_keep_22 : decode cX3_keep 22 = .ok (.aload_n 0, 1) := dk_42 (dk_at dksX3_keep_0 22 rfl rfl)
theorem dX3_keep_23 : decode cX3_keep 23 = .ok (.getfield 16, 3) := dk_180 0 16 (dk_at dksX3_keep_1 0 rfl rfl)
theorem dX3_keep_26 : decode cX3_keep 26 = .ok (.bipush 17, 2) := dk_16 17 (dk_at dksX3_keep_1 3 rfl rfl)
theorem dX3_keep_28 : decode cX3_keep 28 = .ok (.iload_n 1, 1) := dk_27 (dk_at dksX3_keep_1 5 rfl rfl)
theorem dX3_keep_29 : decode cX3_keep 29 = .ok (.imul, 1) := dk_104 (dk_at dksX3_keep_1 6 rfl rfl)
theorem dX3_keep_30 : decode cX3_keep 30 = .ok (.iload_n 2, 1) := dk_28 (dk_at dksX3_keep_1 7 rfl rfl)
theorem dX3_keep_31 : decode cX3_keep 31 = .ok (.iadd, 1) := dk_96 (dk_at dksX3_keep_1 8 rfl rfl)
theorem dX3_keep_32 : decode cX3_keep 32 = .ok (.aload_n 0, 1) := dk_42 (dk_at dksX3_keep_1 9 rfl rfl)
theorem dX3_keep_33 : decode cX3_keep 33 = .ok (.getfield 7, 3) := dk_180 0 7 (dk_at dksX3_keep_1 10 rfl rfl)
theorem dX3_keep_36 : decode cX3_keep 36 = .ok (.iload_n 2, 1) := dk_28 (dk_at dksX3_keep_1 13 rfl rfl)
theorem dX3_keep_37 : decode cX3_keep 37 = .ok (.iaload, 1) := dk_46 (dk_at dksX3_keep_1 14 rfl rfl)
theorem dX3_keep_38 : decode cX3_keep 38 = .ok (.iastore, 1) := dk_79 (dk_at dksX3_keep_1 15 rfl rfl)
theorem dX3_keep_39 : decode cX3_keep 39 = .ok (.iinc 2 1, 3) := dk_132 2 1 (dk_at dksX3_keep_1 16 rfl rfl)
theorem dX3_keep_42 : decode cX3_keep 42 = .ok (.goto (-26), 3) := dk_167 255 230 (dk_at dksX3_keep_1 19 rfl rfl)
theorem dX3_keep_45 : decode cX3_keep 45 = .ok (.aload_n 0, 1) := dk_42 (dk_at dksX3_keep_1 22 rfl rfl)
theorem dX3_keep_46 : decode cX3_keep 46 = .ok (.getfield 19, 3) := dk_180 0 19 (dk_at dksX3_keep_2 0 rfl rfl)
theorem dX3_keep_49 : decode cX3_keep 49 = .ok (.iload_n 1, 1) := dk_27 (dk_at dksX3_keep_2 3 rfl rfl)
theorem dX3_keep_50 : decode cX3_keep 50 = .ok (.iconst 1, 1) := dk_4 (dk_at dksX3_keep_2 4 rfl rfl)
theorem dX3_keep_51 : decode cX3_keep 51 = .ok (.bastore, 1) := dk_84 (dk_at dksX3_keep_2 5 rfl rfl)
theorem dX3_keep_52 : decode cX3_keep 52 = .ok (.aload_n 0, 1) := dk_42 (dk_at dksX3_keep_2 6 rfl rfl)
theorem dX3_keep_53 : decode cX3_keep 53 = .ok (.getfield 7, 3) := dk_180 0 7 (dk_at dksX3_keep_2 7 rfl rfl)
theorem dX3_keep_56 : decode cX3_keep 56 = .ok (.iconst 0, 1) := dk_3 (dk_at dksX3_keep_2 10 rfl rfl)
theorem dX3_keep_57 : decode cX3_keep 57 = .ok (.iaload, 1) := dk_46 (dk_at dksX3_keep_2 11 rfl rfl)
theorem dX3_keep_58 : decode cX3_keep 58 = .ok (.ireturn, 1) := dk_172 (dk_at dksX3_keep_2 12 rfl rfl)
abbrev cX3_isIn : ByteArray := prog_21_method_2_code
def yX3_isIn : MethodName := ⟨RX3, "isIn", "(JJJ)Z"⟩
def dkwX3_isIn_0 : List UInt8 := [30, 32, 148, 155, 0, 14, 30, 22, 4, 148, 157, 0, 7, 4, 167, 0, 4, 3, 172]
abbrev dktX3_isIn_0 : List UInt8 := dkwX3_isIn_0 ++ []
theorem dksX3_isIn_0 : cX3_isIn.data.toList.drop 0 = dktX3_isIn_0 := by decide +kernel
theorem dX3_isIn_0 : decode cX3_isIn 0 = .ok (.lload_n 0, 1) := dk_30 (dk_at dksX3_isIn_0 0 rfl rfl)
theorem dX3_isIn_1 : decode cX3_isIn 1 = .ok (.lload_n 2, 1) := dk_32 (dk_at dksX3_isIn_0 1 rfl rfl)
theorem dX3_isIn_2 : decode cX3_isIn 2 = .ok (.lcmp, 1) := dk_148 (dk_at dksX3_isIn_0 2 rfl rfl)
theorem dX3_isIn_3 : decode cX3_isIn 3 = .ok (.ifCond .lt 14, 3) := dk_155 0 14 (dk_at dksX3_isIn_0 3 rfl rfl)
theorem dX3_isIn_6 : decode cX3_isIn 6 = .ok (.lload_n 0, 1) := dk_30 (dk_at dksX3_isIn_0 6 rfl rfl)
theorem dX3_isIn_7 : decode cX3_isIn 7 = .ok (.lload 4, 2) := dk_22 4 (dk_at dksX3_isIn_0 7 rfl rfl)
theorem dX3_isIn_9 : decode cX3_isIn 9 = .ok (.lcmp, 1) := dk_148 (dk_at dksX3_isIn_0 9 rfl rfl)
theorem dX3_isIn_10 : decode cX3_isIn 10 = .ok (.ifCond .gt 7, 3) := dk_157 0 7 (dk_at dksX3_isIn_0 10 rfl rfl)
theorem dX3_isIn_13 : decode cX3_isIn 13 = .ok (.iconst 1, 1) := dk_4 (dk_at dksX3_isIn_0 13 rfl rfl)
theorem dX3_isIn_14 : decode cX3_isIn 14 = .ok (.goto 4, 3) := dk_167 0 4 (dk_at dksX3_isIn_0 14 rfl rfl)
theorem dX3_isIn_17 : decode cX3_isIn 17 = .ok (.iconst 0, 1) := dk_3 (dk_at dksX3_isIn_0 17 rfl rfl)
theorem dX3_isIn_18 : decode cX3_isIn 18 = .ok (.ireturn, 1) := dk_172 (dk_at dksX3_isIn_0 18 rfl rfl)
abbrev cX3_grow : ByteArray := prog_21_method_11_code
def yX3_grow : MethodName := ⟨RX3, "grow", "(I)I"⟩
def dkwX3_grow_3 : List UInt8 := [3, 46, 4, 100, 182, 0, 172, 42, 180, 0, 7, 3, 46, 172]
abbrev dktX3_grow_3 : List UInt8 := dkwX3_grow_3 ++ []
def dkwX3_grow_2 : List UInt8 := [180, 0, 7, 3, 46, 96, 3, 79, 42, 180, 0, 7, 3, 92, 46, 4, 96, 79, 42, 27, 42, 180, 0, 7]
abbrev dktX3_grow_2 : List UInt8 := dkwX3_grow_2 ++ dktX3_grow_3
def dkwX3_grow_1 : List UInt8 := [180, 0, 7, 3, 46, 16, 16, 160, 0, 6, 16, 253, 172, 42, 182, 0, 169, 42, 180, 0, 7, 4, 42]
abbrev dktX3_grow_1 : List UInt8 := dkwX3_grow_1 ++ dktX3_grow_2
def dkwX3_grow_0 : List UInt8 := [42, 27, 182, 0, 162, 154, 0, 5, 2, 172, 42, 27, 182, 0, 166, 7, 160, 0, 6, 16, 254, 172, 42]
abbrev dktX3_grow_0 : List UInt8 := dkwX3_grow_0 ++ dktX3_grow_1
theorem dksX3_grow_0 : cX3_grow.data.toList.drop 0 = dktX3_grow_0 := by decide +kernel
theorem dksX3_grow_1 : cX3_grow.data.toList.drop 23 = dktX3_grow_1 := dk_seg dksX3_grow_0 23 rfl rfl
theorem dksX3_grow_2 : cX3_grow.data.toList.drop 46 = dktX3_grow_2 := dk_seg dksX3_grow_1 23 rfl rfl
theorem dksX3_grow_3 : cX3_grow.data.toList.drop 70 = dktX3_grow_3 := dk_seg dksX3_grow_2 24 rfl rfl
theorem dX3_grow_0 : decode cX3_grow 0 = .ok (.aload_n 0, 1) := dk_42 (dk_at dksX3_grow_0 0 rfl rfl)
theorem dX3_grow_1 : decode cX3_grow 1 = .ok (.iload_n 1, 1) := dk_27 (dk_at dksX3_grow_0 1 rfl rfl)
theorem dX3_grow_2 : decode cX3_grow 2 = .ok (.invokevirtual 162, 3) := dk_182 0 162 (dk_at dksX3_grow_0 2 rfl rfl)
theorem dX3_grow_5 : decode cX3_grow 5 = .ok (.ifCond .ne 5, 3) := dk_154 0 5 (dk_at dksX3_grow_0 5 rfl rfl)
theorem dX3_grow_8 : decode cX3_grow 8 = .ok (.iconst (-1), 1) := dk_2 (dk_at dksX3_grow_0 8 rfl rfl)
theorem dX3_grow_9 : decode cX3_grow 9 = .ok (.ireturn, 1) := dk_172 (dk_at dksX3_grow_0 9 rfl rfl)
theorem dX3_grow_10 : decode cX3_grow 10 = .ok (.aload_n 0, 1) := dk_42 (dk_at dksX3_grow_0 10 rfl rfl)
theorem dX3_grow_11 : decode cX3_grow 11 = .ok (.iload_n 1, 1) := dk_27 (dk_at dksX3_grow_0 11 rfl rfl)
theorem dX3_grow_12 : decode cX3_grow 12 = .ok (.invokevirtual 166, 3) := dk_182 0 166 (dk_at dksX3_grow_0 12 rfl rfl)
theorem dX3_grow_15 : decode cX3_grow 15 = .ok (.iconst 4, 1) := dk_7 (dk_at dksX3_grow_0 15 rfl rfl)
theorem dX3_grow_16 : decode cX3_grow 16 = .ok (.if_icmp .ne 6, 3) := dk_160 0 6 (dk_at dksX3_grow_0 16 rfl rfl)
theorem dX3_grow_19 : decode cX3_grow 19 = .ok (.bipush (-2), 2) := dk_16 254 (dk_at dksX3_grow_0 19 rfl rfl)
theorem dX3_grow_21 : decode cX3_grow 21 = .ok (.ireturn, 1) := dk_172 (dk_at dksX3_grow_0 21 rfl rfl)
theorem dX3_grow_22 : decode cX3_grow 22 = .ok (.aload_n 0, 1) := dk_42 (dk_at dksX3_grow_0 22 rfl rfl)
theorem dX3_grow_23 : decode cX3_grow 23 = .ok (.getfield 7, 3) := dk_180 0 7 (dk_at dksX3_grow_1 0 rfl rfl)
theorem dX3_grow_26 : decode cX3_grow 26 = .ok (.iconst 0, 1) := dk_3 (dk_at dksX3_grow_1 3 rfl rfl)
theorem dX3_grow_27 : decode cX3_grow 27 = .ok (.iaload, 1) := dk_46 (dk_at dksX3_grow_1 4 rfl rfl)
theorem dX3_grow_28 : decode cX3_grow 28 = .ok (.bipush 16, 2) := dk_16 16 (dk_at dksX3_grow_1 5 rfl rfl)
theorem dX3_grow_30 : decode cX3_grow 30 = .ok (.if_icmp .ne 6, 3) := dk_160 0 6 (dk_at dksX3_grow_1 7 rfl rfl)
theorem dX3_grow_33 : decode cX3_grow 33 = .ok (.bipush (-3), 2) := dk_16 253 (dk_at dksX3_grow_1 10 rfl rfl)
theorem dX3_grow_35 : decode cX3_grow 35 = .ok (.ireturn, 1) := dk_172 (dk_at dksX3_grow_1 12 rfl rfl)
theorem dX3_grow_36 : decode cX3_grow 36 = .ok (.aload_n 0, 1) := dk_42 (dk_at dksX3_grow_1 13 rfl rfl)
theorem dX3_grow_37 : decode cX3_grow 37 = .ok (.invokevirtual 169, 3) := dk_182 0 169 (dk_at dksX3_grow_1 14 rfl rfl)
theorem dX3_grow_40 : decode cX3_grow 40 = .ok (.aload_n 0, 1) := dk_42 (dk_at dksX3_grow_1 17 rfl rfl)
theorem dX3_grow_41 : decode cX3_grow 41 = .ok (.getfield 7, 3) := dk_180 0 7 (dk_at dksX3_grow_1 18 rfl rfl)
theorem dX3_grow_44 : decode cX3_grow 44 = .ok (.iconst 1, 1) := dk_4 (dk_at dksX3_grow_1 21 rfl rfl)
theorem dX3_grow_45 : decode cX3_grow 45 = .ok (.aload_n 0, 1) := dk_42 (dk_at dksX3_grow_1 22 rfl rfl)
theorem dX3_grow_46 : decode cX3_grow 46 = .ok (.getfield 7, 3) := dk_180 0 7 (dk_at dksX3_grow_2 0 rfl rfl)
theorem dX3_grow_49 : decode cX3_grow 49 = .ok (.iconst 0, 1) := dk_3 (dk_at dksX3_grow_2 3 rfl rfl)
theorem dX3_grow_50 : decode cX3_grow 50 = .ok (.iaload, 1) := dk_46 (dk_at dksX3_grow_2 4 rfl rfl)
theorem dX3_grow_51 : decode cX3_grow 51 = .ok (.iadd, 1) := dk_96 (dk_at dksX3_grow_2 5 rfl rfl)
theorem dX3_grow_52 : decode cX3_grow 52 = .ok (.iconst 0, 1) := dk_3 (dk_at dksX3_grow_2 6 rfl rfl)
theorem dX3_grow_53 : decode cX3_grow 53 = .ok (.iastore, 1) := dk_79 (dk_at dksX3_grow_2 7 rfl rfl)
theorem dX3_grow_54 : decode cX3_grow 54 = .ok (.aload_n 0, 1) := dk_42 (dk_at dksX3_grow_2 8 rfl rfl)
theorem dX3_grow_55 : decode cX3_grow 55 = .ok (.getfield 7, 3) := dk_180 0 7 (dk_at dksX3_grow_2 9 rfl rfl)
theorem dX3_grow_58 : decode cX3_grow 58 = .ok (.iconst 0, 1) := dk_3 (dk_at dksX3_grow_2 12 rfl rfl)
theorem dX3_grow_59 : decode cX3_grow 59 = .ok (.dup2, 1) := dk_92 (dk_at dksX3_grow_2 13 rfl rfl)
theorem dX3_grow_60 : decode cX3_grow 60 = .ok (.iaload, 1) := dk_46 (dk_at dksX3_grow_2 14 rfl rfl)
theorem dX3_grow_61 : decode cX3_grow 61 = .ok (.iconst 1, 1) := dk_4 (dk_at dksX3_grow_2 15 rfl rfl)
theorem dX3_grow_62 : decode cX3_grow 62 = .ok (.iadd, 1) := dk_96 (dk_at dksX3_grow_2 16 rfl rfl)
theorem dX3_grow_63 : decode cX3_grow 63 = .ok (.iastore, 1) := dk_79 (dk_at dksX3_grow_2 17 rfl rfl)
theorem dX3_grow_64 : decode cX3_grow 64 = .ok (.aload_n 0, 1) := dk_42 (dk_at dksX3_grow_2 18 rfl rfl)
theorem dX3_grow_65 : decode cX3_grow 65 = .ok (.iload_n 1, 1) := dk_27 (dk_at dksX3_grow_2 19 rfl rfl)
theorem dX3_grow_66 : decode cX3_grow 66 = .ok (.aload_n 0, 1) := dk_42 (dk_at dksX3_grow_2 20 rfl rfl)
theorem dX3_grow_67 : decode cX3_grow 67 = .ok (.getfield 7, 3) := dk_180 0 7 (dk_at dksX3_grow_2 21 rfl rfl)
theorem dX3_grow_70 : decode cX3_grow 70 = .ok (.iconst 0, 1) := dk_3 (dk_at dksX3_grow_3 0 rfl rfl)
theorem dX3_grow_71 : decode cX3_grow 71 = .ok (.iaload, 1) := dk_46 (dk_at dksX3_grow_3 1 rfl rfl)
theorem dX3_grow_72 : decode cX3_grow 72 = .ok (.iconst 1, 1) := dk_4 (dk_at dksX3_grow_3 2 rfl rfl)
theorem dX3_grow_73 : decode cX3_grow 73 = .ok (.isub, 1) := dk_100 (dk_at dksX3_grow_3 3 rfl rfl)
theorem dX3_grow_74 : decode cX3_grow 74 = .ok (.invokevirtual 172, 3) := dk_182 0 172 (dk_at dksX3_grow_3 4 rfl rfl)
theorem dX3_grow_77 : decode cX3_grow 77 = .ok (.aload_n 0, 1) := dk_42 (dk_at dksX3_grow_3 7 rfl rfl)
theorem dX3_grow_78 : decode cX3_grow 78 = .ok (.getfield 7, 3) := dk_180 0 7 (dk_at dksX3_grow_3 8 rfl rfl)
theorem dX3_grow_81 : decode cX3_grow 81 = .ok (.iconst 0, 1) := dk_3 (dk_at dksX3_grow_3 11 rfl rfl)
theorem dX3_grow_82 : decode cX3_grow 82 = .ok (.iaload, 1) := dk_46 (dk_at dksX3_grow_3 12 rfl rfl)
theorem dX3_grow_83 : decode cX3_grow 83 = .ok (.ireturn, 1) := dk_172 (dk_at dksX3_grow_3 13 rfl rfl)
abbrev cX3_isCarbon : ByteArray := prog_21_method_5_code
def yX3_isCarbon : MethodName := ⟨RX3, "isCarbon", "(I)Z"⟩
def dkwX3_isCarbon_0 : List UInt8 := [27, 155, 0, 17, 27, 42, 180, 0, 7, 3, 46, 162, 0, 7, 4, 167, 0, 4, 3, 172]
abbrev dktX3_isCarbon_0 : List UInt8 := dkwX3_isCarbon_0 ++ []
theorem dksX3_isCarbon_0 : cX3_isCarbon.data.toList.drop 0 = dktX3_isCarbon_0 := by decide +kernel
theorem dX3_isCarbon_0 : decode cX3_isCarbon 0 = .ok (.iload_n 1, 1) := dk_27 (dk_at dksX3_isCarbon_0 0 rfl rfl)
theorem dX3_isCarbon_1 : decode cX3_isCarbon 1 = .ok (.ifCond .lt 17, 3) := dk_155 0 17 (dk_at dksX3_isCarbon_0 1 rfl rfl)
theorem dX3_isCarbon_4 : decode cX3_isCarbon 4 = .ok (.iload_n 1, 1) := dk_27 (dk_at dksX3_isCarbon_0 4 rfl rfl)
theorem dX3_isCarbon_5 : decode cX3_isCarbon 5 = .ok (.aload_n 0, 1) := dk_42 (dk_at dksX3_isCarbon_0 5 rfl rfl)
theorem dX3_isCarbon_6 : decode cX3_isCarbon 6 = .ok (.getfield 7, 3) := dk_180 0 7 (dk_at dksX3_isCarbon_0 6 rfl rfl)
theorem dX3_isCarbon_9 : decode cX3_isCarbon 9 = .ok (.iconst 0, 1) := dk_3 (dk_at dksX3_isCarbon_0 9 rfl rfl)
theorem dX3_isCarbon_10 : decode cX3_isCarbon 10 = .ok (.iaload, 1) := dk_46 (dk_at dksX3_isCarbon_0 10 rfl rfl)
theorem dX3_isCarbon_11 : decode cX3_isCarbon 11 = .ok (.if_icmp .ge 7, 3) := dk_162 0 7 (dk_at dksX3_isCarbon_0 11 rfl rfl)
theorem dX3_isCarbon_14 : decode cX3_isCarbon 14 = .ok (.iconst 1, 1) := dk_4 (dk_at dksX3_isCarbon_0 14 rfl rfl)
theorem dX3_isCarbon_15 : decode cX3_isCarbon 15 = .ok (.goto 4, 3) := dk_167 0 4 (dk_at dksX3_isCarbon_0 15 rfl rfl)
theorem dX3_isCarbon_18 : decode cX3_isCarbon 18 = .ok (.iconst 0, 1) := dk_3 (dk_at dksX3_isCarbon_0 18 rfl rfl)
theorem dX3_isCarbon_19 : decode cX3_isCarbon 19 = .ok (.ireturn, 1) := dk_172 (dk_at dksX3_isCarbon_0 19 rfl rfl)
abbrev cX3_degree : ByteArray := prog_21_method_6_code
def yX3_degree : MethodName := ⟨RX3, "degree", "(I)I"⟩
def dkwX3_degree_0 : List UInt8 := [42, 180, 0, 7, 4, 27, 96, 46, 184, 0, 148, 172]
abbrev dktX3_degree_0 : List UInt8 := dkwX3_degree_0 ++ []
theorem dksX3_degree_0 : cX3_degree.data.toList.drop 0 = dktX3_degree_0 := by decide +kernel
theorem dX3_degree_0 : decode cX3_degree 0 = .ok (.aload_n 0, 1) := dk_42 (dk_at dksX3_degree_0 0 rfl rfl)
theorem dX3_degree_1 : decode cX3_degree 1 = .ok (.getfield 7, 3) := dk_180 0 7 (dk_at dksX3_degree_0 1 rfl rfl)
theorem dX3_degree_4 : decode cX3_degree 4 = .ok (.iconst 1, 1) := dk_4 (dk_at dksX3_degree_0 4 rfl rfl)
theorem dX3_degree_5 : decode cX3_degree 5 = .ok (.iload_n 1, 1) := dk_27 (dk_at dksX3_degree_0 5 rfl rfl)
theorem dX3_degree_6 : decode cX3_degree 6 = .ok (.iadd, 1) := dk_96 (dk_at dksX3_degree_0 6 rfl rfl)
theorem dX3_degree_7 : decode cX3_degree 7 = .ok (.iaload, 1) := dk_46 (dk_at dksX3_degree_0 7 rfl rfl)
theorem dX3_degree_8 : decode cX3_degree 8 = .ok (.invokestatic 148, 3) := dk_184 0 148 (dk_at dksX3_degree_0 8 rfl rfl)
theorem dX3_degree_11 : decode cX3_degree 11 = .ok (.ireturn, 1) := dk_172 (dk_at dksX3_degree_0 11 rfl rfl)
abbrev cX3_size : ByteArray := prog_21_method_4_code
def yX3_size : MethodName := ⟨RX3, "size", "(I)I"⟩
def dkwX3_size_0 : List UInt8 := [3, 60, 26, 61, 28, 153, 0, 15, 132, 1, 1, 28, 28, 4, 100, 126, 61, 167, 255, 243, 27, 172]
abbrev dktX3_size_0 : List UInt8 := dkwX3_size_0 ++ []
theorem dksX3_size_0 : cX3_size.data.toList.drop 0 = dktX3_size_0 := by decide +kernel
theorem dX3_size_0 : decode cX3_size 0 = .ok (.iconst 0, 1) := dk_3 (dk_at dksX3_size_0 0 rfl rfl)
theorem dX3_size_1 : decode cX3_size 1 = .ok (.istore_n 1, 1) := dk_60 (dk_at dksX3_size_0 1 rfl rfl)
theorem dX3_size_2 : decode cX3_size 2 = .ok (.iload_n 0, 1) := dk_26 (dk_at dksX3_size_0 2 rfl rfl)
theorem dX3_size_3 : decode cX3_size 3 = .ok (.istore_n 2, 1) := dk_61 (dk_at dksX3_size_0 3 rfl rfl)
theorem dX3_size_4 : decode cX3_size 4 = .ok (.iload_n 2, 1) := dk_28 (dk_at dksX3_size_0 4 rfl rfl)
theorem dX3_size_5 : decode cX3_size 5 = .ok (.ifCond .eq 15, 3) := dk_153 0 15 (dk_at dksX3_size_0 5 rfl rfl)
theorem dX3_size_8 : decode cX3_size 8 = .ok (.iinc 1 1, 3) := dk_132 1 1 (dk_at dksX3_size_0 8 rfl rfl)
theorem dX3_size_11 : decode cX3_size 11 = .ok (.iload_n 2, 1) := dk_28 (dk_at dksX3_size_0 11 rfl rfl)
theorem dX3_size_12 : decode cX3_size 12 = .ok (.iload_n 2, 1) := dk_28 (dk_at dksX3_size_0 12 rfl rfl)
theorem dX3_size_13 : decode cX3_size 13 = .ok (.iconst 1, 1) := dk_4 (dk_at dksX3_size_0 13 rfl rfl)
theorem dX3_size_14 : decode cX3_size 14 = .ok (.isub, 1) := dk_100 (dk_at dksX3_size_0 14 rfl rfl)
theorem dX3_size_15 : decode cX3_size 15 = .ok (.iand, 1) := dk_126 (dk_at dksX3_size_0 15 rfl rfl)
theorem dX3_size_16 : decode cX3_size 16 = .ok (.istore_n 2, 1) := dk_61 (dk_at dksX3_size_0 16 rfl rfl)
theorem dX3_size_17 : decode cX3_size 17 = .ok (.goto (-13), 3) := dk_167 255 243 (dk_at dksX3_size_0 17 rfl rfl)
theorem dX3_size_20 : decode cX3_size 20 = .ok (.iload_n 1, 1) := dk_27 (dk_at dksX3_size_0 20 rfl rfl)
theorem dX3_size_21 : decode cX3_size 21 = .ok (.ireturn, 1) := dk_172 (dk_at dksX3_size_0 21 rfl rfl)
abbrev cX3_keepsAct : ByteArray := prog_21_method_8_code
def yX3_keepsAct : MethodName := ⟨RX3, "keepsAct", "()V"⟩
def dkwX3_keepsAct_3 : List UInt8 := [42, 180, 0, 7, 27, 46, 79, 132, 1, 1, 167, 255, 227, 42, 89, 180, 0, 152, 4, 96, 181, 0, 152, 177]
abbrev dktX3_keepsAct_3 : List UInt8 := dkwX3_keepsAct_3 ++ []
def dkwX3_keepsAct_2 : List UInt8 := [181, 0, 152, 3, 60, 27, 16, 17, 162, 0, 29, 42, 180, 0, 13, 16, 17, 42, 180, 0, 152, 104, 27, 96]
abbrev dktX3_keepsAct_2 : List UInt8 := dkwX3_keepsAct_2 ++ dktX3_keepsAct_3
def dkwX3_keepsAct_1 : List UInt8 := [16, 17, 100, 42, 180, 0, 13, 27, 46, 79, 132, 1, 1, 167, 255, 231, 42, 89, 180, 0, 152, 4, 100]
abbrev dktX3_keepsAct_1 : List UInt8 := dkwX3_keepsAct_1 ++ dktX3_keepsAct_2
def dkwX3_keepsAct_0 : List UInt8 := [42, 180, 0, 152, 16, 12, 160, 0, 44, 16, 17, 60, 27, 17, 0, 204, 162, 0, 24, 42, 180, 0, 13, 27]
abbrev dktX3_keepsAct_0 : List UInt8 := dkwX3_keepsAct_0 ++ dktX3_keepsAct_1
theorem dksX3_keepsAct_0 : cX3_keepsAct.data.toList.drop 0 = dktX3_keepsAct_0 := by decide +kernel
theorem dksX3_keepsAct_1 : cX3_keepsAct.data.toList.drop 24 = dktX3_keepsAct_1 := dk_seg dksX3_keepsAct_0 24 rfl rfl
theorem dksX3_keepsAct_2 : cX3_keepsAct.data.toList.drop 47 = dktX3_keepsAct_2 := dk_seg dksX3_keepsAct_1 23 rfl rfl
theorem dksX3_keepsAct_3 : cX3_keepsAct.data.toList.drop 71 = dktX3_keepsAct_3 := dk_seg dksX3_keepsAct_2 24 rfl rfl
theorem dX3_keepsAct_0 : decode cX3_keepsAct 0 = .ok (.aload_n 0, 1) := dk_42 (dk_at dksX3_keepsAct_0 0 rfl rfl)
theorem dX3_keepsAct_1 : decode cX3_keepsAct 1 = .ok (.getfield 152, 3) := dk_180 0 152 (dk_at dksX3_keepsAct_0 1 rfl rfl)
theorem dX3_keepsAct_4 : decode cX3_keepsAct 4 = .ok (.bipush 12, 2) := dk_16 12 (dk_at dksX3_keepsAct_0 4 rfl rfl)
theorem dX3_keepsAct_6 : decode cX3_keepsAct 6 = .ok (.if_icmp .ne 44, 3) := dk_160 0 44 (dk_at dksX3_keepsAct_0 6 rfl rfl)
theorem dX3_keepsAct_9 : decode cX3_keepsAct 9 = .ok (.bipush 17, 2) := dk_16 17 (dk_at dksX3_keepsAct_0 9 rfl rfl)
theorem dX3_keepsAct_11 : decode cX3_keepsAct 11 = .ok (.istore_n 1, 1) := dk_60 (dk_at dksX3_keepsAct_0 11 rfl rfl)
theorem dX3_keepsAct_12 : decode cX3_keepsAct 12 = .ok (.iload_n 1, 1) := dk_27 (dk_at dksX3_keepsAct_0 12 rfl rfl)
theorem dX3_keepsAct_13 : decode cX3_keepsAct 13 = .ok (.sipush 204, 3) := dk_17 0 204 (dk_at dksX3_keepsAct_0 13 rfl rfl)
theorem dX3_keepsAct_16 : decode cX3_keepsAct 16 = .ok (.if_icmp .ge 24, 3) := dk_162 0 24 (dk_at dksX3_keepsAct_0 16 rfl rfl)
theorem dX3_keepsAct_19 : decode cX3_keepsAct 19 = .ok (.aload_n 0, 1) := dk_42 (dk_at dksX3_keepsAct_0 19 rfl rfl)
theorem dX3_keepsAct_20 : decode cX3_keepsAct 20 = .ok (.getfield 13, 3) := dk_180 0 13 (dk_at dksX3_keepsAct_0 20 rfl rfl)
theorem dX3_keepsAct_23 : decode cX3_keepsAct 23 = .ok (.iload_n 1, 1) := dk_27 (dk_at dksX3_keepsAct_0 23 rfl rfl)
theorem dX3_keepsAct_24 : decode cX3_keepsAct 24 = .ok (.bipush 17, 2) := dk_16 17 (dk_at dksX3_keepsAct_1 0 rfl rfl)
theorem dX3_keepsAct_26 : decode cX3_keepsAct 26 = .ok (.isub, 1) := dk_100 (dk_at dksX3_keepsAct_1 2 rfl rfl)
theorem dX3_keepsAct_27 : decode cX3_keepsAct 27 = .ok (.aload_n 0, 1) := dk_42 (dk_at dksX3_keepsAct_1 3 rfl rfl)
theorem dX3_keepsAct_28 : decode cX3_keepsAct 28 = .ok (.getfield 13, 3) := dk_180 0 13 (dk_at dksX3_keepsAct_1 4 rfl rfl)
theorem dX3_keepsAct_31 : decode cX3_keepsAct 31 = .ok (.iload_n 1, 1) := dk_27 (dk_at dksX3_keepsAct_1 7 rfl rfl)
theorem dX3_keepsAct_32 : decode cX3_keepsAct 32 = .ok (.iaload, 1) := dk_46 (dk_at dksX3_keepsAct_1 8 rfl rfl)
theorem dX3_keepsAct_33 : decode cX3_keepsAct 33 = .ok (.iastore, 1) := dk_79 (dk_at dksX3_keepsAct_1 9 rfl rfl)
theorem dX3_keepsAct_34 : decode cX3_keepsAct 34 = .ok (.iinc 1 1, 3) := dk_132 1 1 (dk_at dksX3_keepsAct_1 10 rfl rfl)
theorem dX3_keepsAct_37 : decode cX3_keepsAct 37 = .ok (.goto (-25), 3) := dk_167 255 231 (dk_at dksX3_keepsAct_1 13 rfl rfl)
theorem dX3_keepsAct_40 : decode cX3_keepsAct 40 = .ok (.aload_n 0, 1) := dk_42 (dk_at dksX3_keepsAct_1 16 rfl rfl)
theorem dX3_keepsAct_41 : decode cX3_keepsAct 41 = .ok (.dup, 1) := dk_89 (dk_at dksX3_keepsAct_1 17 rfl rfl)
theorem dX3_keepsAct_42 : decode cX3_keepsAct 42 = .ok (.getfield 152, 3) := dk_180 0 152 (dk_at dksX3_keepsAct_1 18 rfl rfl)
theorem dX3_keepsAct_45 : decode cX3_keepsAct 45 = .ok (.iconst 1, 1) := dk_4 (dk_at dksX3_keepsAct_1 21 rfl rfl)
theorem dX3_keepsAct_46 : decode cX3_keepsAct 46 = .ok (.isub, 1) := dk_100 (dk_at dksX3_keepsAct_1 22 rfl rfl)
theorem dX3_keepsAct_47 : decode cX3_keepsAct 47 = .ok (.putfield 152, 3) := dk_181 0 152 (dk_at dksX3_keepsAct_2 0 rfl rfl)
theorem dX3_keepsAct_50 : decode cX3_keepsAct 50 = .ok (.iconst 0, 1) := dk_3 (dk_at dksX3_keepsAct_2 3 rfl rfl)
theorem dX3_keepsAct_51 : decode cX3_keepsAct 51 = .ok (.istore_n 1, 1) := dk_60 (dk_at dksX3_keepsAct_2 4 rfl rfl)
theorem dX3_keepsAct_52 : decode cX3_keepsAct 52 = .ok (.iload_n 1, 1) := dk_27 (dk_at dksX3_keepsAct_2 5 rfl rfl)
theorem dX3_keepsAct_53 : decode cX3_keepsAct 53 = .ok (.bipush 17, 2) := dk_16 17 (dk_at dksX3_keepsAct_2 6 rfl rfl)
theorem dX3_keepsAct_55 : decode cX3_keepsAct 55 = .ok (.if_icmp .ge 29, 3) := dk_162 0 29 (dk_at dksX3_keepsAct_2 8 rfl rfl)
theorem dX3_keepsAct_58 : decode cX3_keepsAct 58 = .ok (.aload_n 0, 1) := dk_42 (dk_at dksX3_keepsAct_2 11 rfl rfl)
theorem dX3_keepsAct_59 : decode cX3_keepsAct 59 = .ok (.getfield 13, 3) := dk_180 0 13 (dk_at dksX3_keepsAct_2 12 rfl rfl)
theorem dX3_keepsAct_62 : decode cX3_keepsAct 62 = .ok (.bipush 17, 2) := dk_16 17 (dk_at dksX3_keepsAct_2 15 rfl rfl)
theorem dX3_keepsAct_64 : decode cX3_keepsAct 64 = .ok (.aload_n 0, 1) := dk_42 (dk_at dksX3_keepsAct_2 17 rfl rfl)
theorem dX3_keepsAct_65 : decode cX3_keepsAct 65 = .ok (.getfield 152, 3) := dk_180 0 152 (dk_at dksX3_keepsAct_2 18 rfl rfl)
theorem dX3_keepsAct_68 : decode cX3_keepsAct 68 = .ok (.imul, 1) := dk_104 (dk_at dksX3_keepsAct_2 21 rfl rfl)
theorem dX3_keepsAct_69 : decode cX3_keepsAct 69 = .ok (.iload_n 1, 1) := dk_27 (dk_at dksX3_keepsAct_2 22 rfl rfl)
theorem dX3_keepsAct_70 : decode cX3_keepsAct 70 = .ok (.iadd, 1) := dk_96 (dk_at dksX3_keepsAct_2 23 rfl rfl)
theorem dX3_keepsAct_71 : decode cX3_keepsAct 71 = .ok (.aload_n 0, 1) := dk_42 (dk_at dksX3_keepsAct_3 0 rfl rfl)
theorem dX3_keepsAct_72 : decode cX3_keepsAct 72 = .ok (.getfield 7, 3) := dk_180 0 7 (dk_at dksX3_keepsAct_3 1 rfl rfl)
theorem dX3_keepsAct_75 : decode cX3_keepsAct 75 = .ok (.iload_n 1, 1) := dk_27 (dk_at dksX3_keepsAct_3 4 rfl rfl)
theorem dX3_keepsAct_76 : decode cX3_keepsAct 76 = .ok (.iaload, 1) := dk_46 (dk_at dksX3_keepsAct_3 5 rfl rfl)
theorem dX3_keepsAct_77 : decode cX3_keepsAct 77 = .ok (.iastore, 1) := dk_79 (dk_at dksX3_keepsAct_3 6 rfl rfl)
theorem dX3_keepsAct_78 : decode cX3_keepsAct 78 = .ok (.iinc 1 1, 3) := dk_132 1 1 (dk_at dksX3_keepsAct_3 7 rfl rfl)
theorem dX3_keepsAct_81 : decode cX3_keepsAct 81 = .ok (.goto (-29), 3) := dk_167 255 227 (dk_at dksX3_keepsAct_3 10 rfl rfl)
theorem dX3_keepsAct_84 : decode cX3_keepsAct 84 = .ok (.aload_n 0, 1) := dk_42 (dk_at dksX3_keepsAct_3 13 rfl rfl)
theorem dX3_keepsAct_85 : decode cX3_keepsAct 85 = .ok (.dup, 1) := dk_89 (dk_at dksX3_keepsAct_3 14 rfl rfl)
theorem dX3_keepsAct_86 : decode cX3_keepsAct 86 = .ok (.getfield 152, 3) := dk_180 0 152 (dk_at dksX3_keepsAct_3 15 rfl rfl)
theorem dX3_keepsAct_89 : decode cX3_keepsAct 89 = .ok (.iconst 1, 1) := dk_4 (dk_at dksX3_keepsAct_3 18 rfl rfl)
theorem dX3_keepsAct_90 : decode cX3_keepsAct 90 = .ok (.iadd, 1) := dk_96 (dk_at dksX3_keepsAct_3 19 rfl rfl)
theorem dX3_keepsAct_91 : decode cX3_keepsAct 91 = .ok (.putfield 152, 3) := dk_181 0 152 (dk_at dksX3_keepsAct_3 20 rfl rfl)
theorem dX3_keepsAct_94 : decode cX3_keepsAct 94 = .ok (.return_, 1) := dk_177 (dk_at dksX3_keepsAct_3 23 rfl rfl)
abbrev cX3_binds : ByteArray := prog_21_method_7_code
def yX3_binds : MethodName := ⟨RX3, "binds", "(II)V"⟩
def dkwX3_binds_1 : List UInt8 := [27, 120, 128, 79, 177]
abbrev dktX3_binds_1 : List UInt8 := dkwX3_binds_1 ++ []
def dkwX3_binds_0 : List UInt8 := [42, 180, 0, 7, 4, 27, 96, 92, 46, 4, 28, 120, 128, 79, 42, 180, 0, 7, 4, 28, 96, 92, 46, 4]
abbrev dktX3_binds_0 : List UInt8 := dkwX3_binds_0 ++ dktX3_binds_1
theorem dksX3_binds_0 : cX3_binds.data.toList.drop 0 = dktX3_binds_0 := by decide +kernel
theorem dksX3_binds_1 : cX3_binds.data.toList.drop 24 = dktX3_binds_1 := dk_seg dksX3_binds_0 24 rfl rfl
theorem dX3_binds_0 : decode cX3_binds 0 = .ok (.aload_n 0, 1) := dk_42 (dk_at dksX3_binds_0 0 rfl rfl)
theorem dX3_binds_1 : decode cX3_binds 1 = .ok (.getfield 7, 3) := dk_180 0 7 (dk_at dksX3_binds_0 1 rfl rfl)
theorem dX3_binds_4 : decode cX3_binds 4 = .ok (.iconst 1, 1) := dk_4 (dk_at dksX3_binds_0 4 rfl rfl)
theorem dX3_binds_5 : decode cX3_binds 5 = .ok (.iload_n 1, 1) := dk_27 (dk_at dksX3_binds_0 5 rfl rfl)
theorem dX3_binds_6 : decode cX3_binds 6 = .ok (.iadd, 1) := dk_96 (dk_at dksX3_binds_0 6 rfl rfl)
theorem dX3_binds_7 : decode cX3_binds 7 = .ok (.dup2, 1) := dk_92 (dk_at dksX3_binds_0 7 rfl rfl)
theorem dX3_binds_8 : decode cX3_binds 8 = .ok (.iaload, 1) := dk_46 (dk_at dksX3_binds_0 8 rfl rfl)
theorem dX3_binds_9 : decode cX3_binds 9 = .ok (.iconst 1, 1) := dk_4 (dk_at dksX3_binds_0 9 rfl rfl)
theorem dX3_binds_10 : decode cX3_binds 10 = .ok (.iload_n 2, 1) := dk_28 (dk_at dksX3_binds_0 10 rfl rfl)
theorem dX3_binds_11 : decode cX3_binds 11 = .ok (.ishl, 1) := dk_120 (dk_at dksX3_binds_0 11 rfl rfl)
theorem dX3_binds_12 : decode cX3_binds 12 = .ok (.ior, 1) := dk_128 (dk_at dksX3_binds_0 12 rfl rfl)
theorem dX3_binds_13 : decode cX3_binds 13 = .ok (.iastore, 1) := dk_79 (dk_at dksX3_binds_0 13 rfl rfl)
theorem dX3_binds_14 : decode cX3_binds 14 = .ok (.aload_n 0, 1) := dk_42 (dk_at dksX3_binds_0 14 rfl rfl)
theorem dX3_binds_15 : decode cX3_binds 15 = .ok (.getfield 7, 3) := dk_180 0 7 (dk_at dksX3_binds_0 15 rfl rfl)
theorem dX3_binds_18 : decode cX3_binds 18 = .ok (.iconst 1, 1) := dk_4 (dk_at dksX3_binds_0 18 rfl rfl)
theorem dX3_binds_19 : decode cX3_binds 19 = .ok (.iload_n 2, 1) := dk_28 (dk_at dksX3_binds_0 19 rfl rfl)
theorem dX3_binds_20 : decode cX3_binds 20 = .ok (.iadd, 1) := dk_96 (dk_at dksX3_binds_0 20 rfl rfl)
theorem dX3_binds_21 : decode cX3_binds 21 = .ok (.dup2, 1) := dk_92 (dk_at dksX3_binds_0 21 rfl rfl)
theorem dX3_binds_22 : decode cX3_binds 22 = .ok (.iaload, 1) := dk_46 (dk_at dksX3_binds_0 22 rfl rfl)
theorem dX3_binds_23 : decode cX3_binds 23 = .ok (.iconst 1, 1) := dk_4 (dk_at dksX3_binds_0 23 rfl rfl)
theorem dX3_binds_24 : decode cX3_binds 24 = .ok (.iload_n 1, 1) := dk_27 (dk_at dksX3_binds_1 0 rfl rfl)
theorem dX3_binds_25 : decode cX3_binds 25 = .ok (.ishl, 1) := dk_120 (dk_at dksX3_binds_1 1 rfl rfl)
theorem dX3_binds_26 : decode cX3_binds 26 = .ok (.ior, 1) := dk_128 (dk_at dksX3_binds_1 2 rfl rfl)
theorem dX3_binds_27 : decode cX3_binds 27 = .ok (.iastore, 1) := dk_79 (dk_at dksX3_binds_1 3 rfl rfl)
theorem dX3_binds_28 : decode cX3_binds 28 = .ok (.return_, 1) := dk_177 (dk_at dksX3_binds_1 4 rfl rfl)
abbrev cX3_prune : ByteArray := prog_21_method_14_code
def yX3_prune : MethodName := ⟨RX3, "prune", "(I)I"⟩
def dkwX3_prune_1 : List UInt8 := [182, 0, 169, 42, 27, 182, 0, 180, 42, 180, 0, 7, 3, 46, 172]
abbrev dktX3_prune_1 : List UInt8 := dkwX3_prune_1 ++ []
def dkwX3_prune_0 : List UInt8 := [42, 27, 182, 0, 162, 154, 0, 5, 2, 172, 42, 27, 182, 0, 166, 4, 159, 0, 6, 16, 254, 172, 42]
abbrev dktX3_prune_0 : List UInt8 := dkwX3_prune_0 ++ dktX3_prune_1
theorem dksX3_prune_0 : cX3_prune.data.toList.drop 0 = dktX3_prune_0 := by decide +kernel
theorem dksX3_prune_1 : cX3_prune.data.toList.drop 23 = dktX3_prune_1 := dk_seg dksX3_prune_0 23 rfl rfl
theorem dX3_prune_0 : decode cX3_prune 0 = .ok (.aload_n 0, 1) := dk_42 (dk_at dksX3_prune_0 0 rfl rfl)
theorem dX3_prune_1 : decode cX3_prune 1 = .ok (.iload_n 1, 1) := dk_27 (dk_at dksX3_prune_0 1 rfl rfl)
theorem dX3_prune_2 : decode cX3_prune 2 = .ok (.invokevirtual 162, 3) := dk_182 0 162 (dk_at dksX3_prune_0 2 rfl rfl)
theorem dX3_prune_5 : decode cX3_prune 5 = .ok (.ifCond .ne 5, 3) := dk_154 0 5 (dk_at dksX3_prune_0 5 rfl rfl)
theorem dX3_prune_8 : decode cX3_prune 8 = .ok (.iconst (-1), 1) := dk_2 (dk_at dksX3_prune_0 8 rfl rfl)
theorem dX3_prune_9 : decode cX3_prune 9 = .ok (.ireturn, 1) := dk_172 (dk_at dksX3_prune_0 9 rfl rfl)
theorem dX3_prune_10 : decode cX3_prune 10 = .ok (.aload_n 0, 1) := dk_42 (dk_at dksX3_prune_0 10 rfl rfl)
theorem dX3_prune_11 : decode cX3_prune 11 = .ok (.iload_n 1, 1) := dk_27 (dk_at dksX3_prune_0 11 rfl rfl)
theorem dX3_prune_12 : decode cX3_prune 12 = .ok (.invokevirtual 166, 3) := dk_182 0 166 (dk_at dksX3_prune_0 12 rfl rfl)
theorem dX3_prune_15 : decode cX3_prune 15 = .ok (.iconst 1, 1) := dk_4 (dk_at dksX3_prune_0 15 rfl rfl)
theorem dX3_prune_16 : decode cX3_prune 16 = .ok (.if_icmp .eq 6, 3) := dk_159 0 6 (dk_at dksX3_prune_0 16 rfl rfl)
theorem dX3_prune_19 : decode cX3_prune 19 = .ok (.bipush (-2), 2) := dk_16 254 (dk_at dksX3_prune_0 19 rfl rfl)
theorem dX3_prune_21 : decode cX3_prune 21 = .ok (.ireturn, 1) := dk_172 (dk_at dksX3_prune_0 21 rfl rfl)
theorem dX3_prune_22 : decode cX3_prune 22 = .ok (.aload_n 0, 1) := dk_42 (dk_at dksX3_prune_0 22 rfl rfl)
theorem dX3_prune_23 : decode cX3_prune 23 = .ok (.invokevirtual 169, 3) := dk_182 0 169 (dk_at dksX3_prune_1 0 rfl rfl)
theorem dX3_prune_26 : decode cX3_prune 26 = .ok (.aload_n 0, 1) := dk_42 (dk_at dksX3_prune_1 3 rfl rfl)
theorem dX3_prune_27 : decode cX3_prune 27 = .ok (.iload_n 1, 1) := dk_27 (dk_at dksX3_prune_1 4 rfl rfl)
theorem dX3_prune_28 : decode cX3_prune 28 = .ok (.invokevirtual 180, 3) := dk_182 0 180 (dk_at dksX3_prune_1 5 rfl rfl)
theorem dX3_prune_31 : decode cX3_prune 31 = .ok (.aload_n 0, 1) := dk_42 (dk_at dksX3_prune_1 8 rfl rfl)
theorem dX3_prune_32 : decode cX3_prune 32 = .ok (.getfield 7, 3) := dk_180 0 7 (dk_at dksX3_prune_1 9 rfl rfl)
theorem dX3_prune_35 : decode cX3_prune 35 = .ok (.iconst 0, 1) := dk_3 (dk_at dksX3_prune_1 12 rfl rfl)
theorem dX3_prune_36 : decode cX3_prune 36 = .ok (.iaload, 1) := dk_46 (dk_at dksX3_prune_1 13 rfl rfl)
theorem dX3_prune_37 : decode cX3_prune 37 = .ok (.ireturn, 1) := dk_172 (dk_at dksX3_prune_1 14 rfl rfl)
abbrev cX3_removes : ByteArray := prog_21_method_13_code
def yX3_removes : MethodName := ⟨RX3, "removes", "(I)V"⟩
def dkwX3_removes_3 : List UInt8 := [167, 255, 225, 42, 180, 0, 7, 3, 92, 46, 4, 100, 79, 177]
abbrev dktX3_removes_3 : List UInt8 := dkwX3_removes_3 ++ []
def dkwX3_removes_2 : List UInt8 := [46, 162, 0, 25, 42, 180, 0, 7, 4, 28, 96, 42, 180, 0, 7, 5, 28, 96, 46, 79, 132, 2, 1]
abbrev dktX3_removes_2 : List UInt8 := dkwX3_removes_2 ++ dktX3_removes_3
def dkwX3_removes_1 : List UInt8 := [28, 96, 46, 27, 184, 0, 176, 79, 132, 2, 1, 167, 255, 223, 27, 61, 28, 4, 96, 42, 180, 0, 7, 3]
abbrev dktX3_removes_1 : List UInt8 := dkwX3_removes_1 ++ dktX3_removes_2
def dkwX3_removes_0 : List UInt8 := [3, 61, 28, 42, 180, 0, 7, 3, 46, 162, 0, 29, 42, 180, 0, 7, 4, 28, 96, 42, 180, 0, 7, 4]
abbrev dktX3_removes_0 : List UInt8 := dkwX3_removes_0 ++ dktX3_removes_1
theorem dksX3_removes_0 : cX3_removes.data.toList.drop 0 = dktX3_removes_0 := by decide +kernel
theorem dksX3_removes_1 : cX3_removes.data.toList.drop 24 = dktX3_removes_1 := dk_seg dksX3_removes_0 24 rfl rfl
theorem dksX3_removes_2 : cX3_removes.data.toList.drop 48 = dktX3_removes_2 := dk_seg dksX3_removes_1 24 rfl rfl
theorem dksX3_removes_3 : cX3_removes.data.toList.drop 71 = dktX3_removes_3 := dk_seg dksX3_removes_2 23 rfl rfl
theorem dX3_removes_0 : decode cX3_removes 0 = .ok (.iconst 0, 1) := dk_3 (dk_at dksX3_removes_0 0 rfl rfl)
theorem dX3_removes_1 : decode cX3_removes 1 = .ok (.istore_n 2, 1) := dk_61 (dk_at dksX3_removes_0 1 rfl rfl)
theorem dX3_removes_2 : decode cX3_removes 2 = .ok (.iload_n 2, 1) := dk_28 (dk_at dksX3_removes_0 2 rfl rfl)
theorem dX3_removes_3 : decode cX3_removes 3 = .ok (.aload_n 0, 1) := dk_42 (dk_at dksX3_removes_0 3 rfl rfl)
theorem dX3_removes_4 : decode cX3_removes 4 = .ok (.getfield 7, 3) := dk_180 0 7 (dk_at dksX3_removes_0 4 rfl rfl)
theorem dX3_removes_7 : decode cX3_removes 7 = .ok (.iconst 0, 1) := dk_3 (dk_at dksX3_removes_0 7 rfl rfl)
theorem dX3_removes_8 : decode cX3_removes 8 = .ok (.iaload, 1) := dk_46 (dk_at dksX3_removes_0 8 rfl rfl)
theorem dX3_removes_9 : decode cX3_removes 9 = .ok (.if_icmp .ge 29, 3) := dk_162 0 29 (dk_at dksX3_removes_0 9 rfl rfl)
theorem dX3_removes_12 : decode cX3_removes 12 = .ok (.aload_n 0, 1) := dk_42 (dk_at dksX3_removes_0 12 rfl rfl)
theorem dX3_removes_13 : decode cX3_removes 13 = .ok (.getfield 7, 3) := dk_180 0 7 (dk_at dksX3_removes_0 13 rfl rfl)
theorem dX3_removes_16 : decode cX3_removes 16 = .ok (.iconst 1, 1) := dk_4 (dk_at dksX3_removes_0 16 rfl rfl)
theorem dX3_removes_17 : decode cX3_removes 17 = .ok (.iload_n 2, 1) := dk_28 (dk_at dksX3_removes_0 17 rfl rfl)
theorem dX3_removes_18 : decode cX3_removes 18 = .ok (.iadd, 1) := dk_96 (dk_at dksX3_removes_0 18 rfl rfl)
theorem dX3_removes_19 : decode cX3_removes 19 = .ok (.aload_n 0, 1) := dk_42 (dk_at dksX3_removes_0 19 rfl rfl)
theorem dX3_removes_20 : decode cX3_removes 20 = .ok (.getfield 7, 3) := dk_180 0 7 (dk_at dksX3_removes_0 20 rfl rfl)
theorem dX3_removes_23 : decode cX3_removes 23 = .ok (.iconst 1, 1) := dk_4 (dk_at dksX3_removes_0 23 rfl rfl)
theorem dX3_removes_24 : decode cX3_removes 24 = .ok (.iload_n 2, 1) := dk_28 (dk_at dksX3_removes_1 0 rfl rfl)
theorem dX3_removes_25 : decode cX3_removes 25 = .ok (.iadd, 1) := dk_96 (dk_at dksX3_removes_1 1 rfl rfl)
theorem dX3_removes_26 : decode cX3_removes 26 = .ok (.iaload, 1) := dk_46 (dk_at dksX3_removes_1 2 rfl rfl)
theorem dX3_removes_27 : decode cX3_removes 27 = .ok (.iload_n 1, 1) := dk_27 (dk_at dksX3_removes_1 3 rfl rfl)
theorem dX3_removes_28 : decode cX3_removes 28 = .ok (.invokestatic 176, 3) := dk_184 0 176 (dk_at dksX3_removes_1 4 rfl rfl)
theorem dX3_removes_31 : decode cX3_removes 31 = .ok (.iastore, 1) := dk_79 (dk_at dksX3_removes_1 7 rfl rfl)
theorem dX3_removes_32 : decode cX3_removes 32 = .ok (.iinc 2 1, 3) := dk_132 2 1 (dk_at dksX3_removes_1 8 rfl rfl)
theorem dX3_removes_35 : decode cX3_removes 35 = .ok (.goto (-33), 3) := dk_167 255 223 (dk_at dksX3_removes_1 11 rfl rfl)
theorem dX3_removes_38 : decode cX3_removes 38 = .ok (.iload_n 1, 1) := dk_27 (dk_at dksX3_removes_1 14 rfl rfl)
theorem dX3_removes_39 : decode cX3_removes 39 = .ok (.istore_n 2, 1) := dk_61 (dk_at dksX3_removes_1 15 rfl rfl)
theorem dX3_removes_40 : decode cX3_removes 40 = .ok (.iload_n 2, 1) := dk_28 (dk_at dksX3_removes_1 16 rfl rfl)
theorem dX3_removes_41 : decode cX3_removes 41 = .ok (.iconst 1, 1) := dk_4 (dk_at dksX3_removes_1 17 rfl rfl)
theorem dX3_removes_42 : decode cX3_removes 42 = .ok (.iadd, 1) := dk_96 (dk_at dksX3_removes_1 18 rfl rfl)
theorem dX3_removes_43 : decode cX3_removes 43 = .ok (.aload_n 0, 1) := dk_42 (dk_at dksX3_removes_1 19 rfl rfl)
theorem dX3_removes_44 : decode cX3_removes 44 = .ok (.getfield 7, 3) := dk_180 0 7 (dk_at dksX3_removes_1 20 rfl rfl)
theorem dX3_removes_47 : decode cX3_removes 47 = .ok (.iconst 0, 1) := dk_3 (dk_at dksX3_removes_1 23 rfl rfl)
theorem dX3_removes_48 : decode cX3_removes 48 = .ok (.iaload, 1) := dk_46 (dk_at dksX3_removes_2 0 rfl rfl)
theorem dX3_removes_49 : decode cX3_removes 49 = .ok (.if_icmp .ge 25, 3) := dk_162 0 25 (dk_at dksX3_removes_2 1 rfl rfl)
theorem dX3_removes_52 : decode cX3_removes 52 = .ok (.aload_n 0, 1) := dk_42 (dk_at dksX3_removes_2 4 rfl rfl)
theorem dX3_removes_53 : decode cX3_removes 53 = .ok (.getfield 7, 3) := dk_180 0 7 (dk_at dksX3_removes_2 5 rfl rfl)
theorem dX3_removes_56 : decode cX3_removes 56 = .ok (.iconst 1, 1) := dk_4 (dk_at dksX3_removes_2 8 rfl rfl)
theorem dX3_removes_57 : decode cX3_removes 57 = .ok (.iload_n 2, 1) := dk_28 (dk_at dksX3_removes_2 9 rfl rfl)
theorem dX3_removes_58 : decode cX3_removes 58 = .ok (.iadd, 1) := dk_96 (dk_at dksX3_removes_2 10 rfl rfl)
theorem dX3_removes_59 : decode cX3_removes 59 = .ok (.aload_n 0, 1) := dk_42 (dk_at dksX3_removes_2 11 rfl rfl)
theorem dX3_removes_60 : decode cX3_removes 60 = .ok (.getfield 7, 3) := dk_180 0 7 (dk_at dksX3_removes_2 12 rfl rfl)
theorem dX3_removes_63 : decode cX3_removes 63 = .ok (.iconst 2, 1) := dk_5 (dk_at dksX3_removes_2 15 rfl rfl)
theorem dX3_removes_64 : decode cX3_removes 64 = .ok (.iload_n 2, 1) := dk_28 (dk_at dksX3_removes_2 16 rfl rfl)
theorem dX3_removes_65 : decode cX3_removes 65 = .ok (.iadd, 1) := dk_96 (dk_at dksX3_removes_2 17 rfl rfl)
theorem dX3_removes_66 : decode cX3_removes 66 = .ok (.iaload, 1) := dk_46 (dk_at dksX3_removes_2 18 rfl rfl)
theorem dX3_removes_67 : decode cX3_removes 67 = .ok (.iastore, 1) := dk_79 (dk_at dksX3_removes_2 19 rfl rfl)
theorem dX3_removes_68 : decode cX3_removes 68 = .ok (.iinc 2 1, 3) := dk_132 2 1 (dk_at dksX3_removes_2 20 rfl rfl)
theorem dX3_removes_71 : decode cX3_removes 71 = .ok (.goto (-31), 3) := dk_167 255 225 (dk_at dksX3_removes_3 0 rfl rfl)
theorem dX3_removes_74 : decode cX3_removes 74 = .ok (.aload_n 0, 1) := dk_42 (dk_at dksX3_removes_3 3 rfl rfl)
theorem dX3_removes_75 : decode cX3_removes 75 = .ok (.getfield 7, 3) := dk_180 0 7 (dk_at dksX3_removes_3 4 rfl rfl)
theorem dX3_removes_78 : decode cX3_removes 78 = .ok (.iconst 0, 1) := dk_3 (dk_at dksX3_removes_3 7 rfl rfl)
theorem dX3_removes_79 : decode cX3_removes 79 = .ok (.dup2, 1) := dk_92 (dk_at dksX3_removes_3 8 rfl rfl)
theorem dX3_removes_80 : decode cX3_removes 80 = .ok (.iaload, 1) := dk_46 (dk_at dksX3_removes_3 9 rfl rfl)
theorem dX3_removes_81 : decode cX3_removes 81 = .ok (.iconst 1, 1) := dk_4 (dk_at dksX3_removes_3 10 rfl rfl)
theorem dX3_removes_82 : decode cX3_removes 82 = .ok (.isub, 1) := dk_100 (dk_at dksX3_removes_3 11 rfl rfl)
theorem dX3_removes_83 : decode cX3_removes 83 = .ok (.iastore, 1) := dk_79 (dk_at dksX3_removes_3 12 rfl rfl)
theorem dX3_removes_84 : decode cX3_removes 84 = .ok (.return_, 1) := dk_177 (dk_at dksX3_removes_3 13 rfl rfl)
abbrev cX3_closedUp : ByteArray := prog_21_method_12_code
def yX3_closedUp : MethodName := ⟨RX3, "closedUp", "(II)I"⟩
def dkwX3_closedUp_0 : List UInt8 := [26, 4, 27, 120, 4, 100, 126, 61, 28, 26, 27, 4, 96, 122, 27, 120, 128, 172]
abbrev dktX3_closedUp_0 : List UInt8 := dkwX3_closedUp_0 ++ []
theorem dksX3_closedUp_0 : cX3_closedUp.data.toList.drop 0 = dktX3_closedUp_0 := by decide +kernel
theorem dX3_closedUp_0 : decode cX3_closedUp 0 = .ok (.iload_n 0, 1) := dk_26 (dk_at dksX3_closedUp_0 0 rfl rfl)
theorem dX3_closedUp_1 : decode cX3_closedUp 1 = .ok (.iconst 1, 1) := dk_4 (dk_at dksX3_closedUp_0 1 rfl rfl)
theorem dX3_closedUp_2 : decode cX3_closedUp 2 = .ok (.iload_n 1, 1) := dk_27 (dk_at dksX3_closedUp_0 2 rfl rfl)
theorem dX3_closedUp_3 : decode cX3_closedUp 3 = .ok (.ishl, 1) := dk_120 (dk_at dksX3_closedUp_0 3 rfl rfl)
theorem dX3_closedUp_4 : decode cX3_closedUp 4 = .ok (.iconst 1, 1) := dk_4 (dk_at dksX3_closedUp_0 4 rfl rfl)
theorem dX3_closedUp_5 : decode cX3_closedUp 5 = .ok (.isub, 1) := dk_100 (dk_at dksX3_closedUp_0 5 rfl rfl)
theorem dX3_closedUp_6 : decode cX3_closedUp 6 = .ok (.iand, 1) := dk_126 (dk_at dksX3_closedUp_0 6 rfl rfl)
theorem dX3_closedUp_7 : decode cX3_closedUp 7 = .ok (.istore_n 2, 1) := dk_61 (dk_at dksX3_closedUp_0 7 rfl rfl)
theorem dX3_closedUp_8 : decode cX3_closedUp 8 = .ok (.iload_n 2, 1) := dk_28 (dk_at dksX3_closedUp_0 8 rfl rfl)
theorem dX3_closedUp_9 : decode cX3_closedUp 9 = .ok (.iload_n 0, 1) := dk_26 (dk_at dksX3_closedUp_0 9 rfl rfl)
theorem dX3_closedUp_10 : decode cX3_closedUp 10 = .ok (.iload_n 1, 1) := dk_27 (dk_at dksX3_closedUp_0 10 rfl rfl)
theorem dX3_closedUp_11 : decode cX3_closedUp 11 = .ok (.iconst 1, 1) := dk_4 (dk_at dksX3_closedUp_0 11 rfl rfl)
theorem dX3_closedUp_12 : decode cX3_closedUp 12 = .ok (.iadd, 1) := dk_96 (dk_at dksX3_closedUp_0 12 rfl rfl)
theorem dX3_closedUp_13 : decode cX3_closedUp 13 = .ok (.ishr, 1) := dk_122 (dk_at dksX3_closedUp_0 13 rfl rfl)
theorem dX3_closedUp_14 : decode cX3_closedUp 14 = .ok (.iload_n 1, 1) := dk_27 (dk_at dksX3_closedUp_0 14 rfl rfl)
theorem dX3_closedUp_15 : decode cX3_closedUp 15 = .ok (.ishl, 1) := dk_120 (dk_at dksX3_closedUp_0 15 rfl rfl)
theorem dX3_closedUp_16 : decode cX3_closedUp 16 = .ok (.ior, 1) := dk_128 (dk_at dksX3_closedUp_0 16 rfl rfl)
theorem dX3_closedUp_17 : decode cX3_closedUp 17 = .ok (.ireturn, 1) := dk_172 (dk_at dksX3_closedUp_0 17 rfl rfl)
abbrev cX3_bind : ByteArray := prog_21_method_15_code
def yX3_bind : MethodName := ⟨RX3, "bind", "(III)I"⟩
def dkwX3_bind_8 : List UInt8 := [42, 27, 21, 4, 29, 96, 182, 0, 172, 42, 180, 0, 7, 3, 46, 172]
abbrev dktX3_bind_8 : List UInt8 := dkwX3_bind_8 ++ []
def dkwX3_bind_7 : List UInt8 := [132, 5, 1, 167, 255, 210, 42, 180, 0, 7, 3, 92, 46, 42, 180, 0, 16, 16, 17, 28, 104, 46, 96, 79]
abbrev dktX3_bind_7 : List UInt8 := dkwX3_bind_7 ++ dktX3_bind_8
def dkwX3_bind_6 : List UInt8 := [21, 4, 96, 21, 5, 96, 42, 180, 0, 16, 16, 17, 28, 104, 4, 96, 21, 5, 96, 46, 21, 4, 120, 79]
abbrev dktX3_bind_6 : List UInt8 := dkwX3_bind_6 ++ dktX3_bind_7
def dkwX3_bind_5 : List UInt8 := [54, 4, 3, 54, 5, 21, 5, 42, 180, 0, 16, 16, 17, 28, 104, 46, 162, 0, 38, 42, 180, 0, 7, 4]
abbrev dktX3_bind_5 : List UInt8 := dkwX3_bind_5 ++ dktX3_bind_6
def dkwX3_bind_4 : List UInt8 := [16, 17, 28, 104, 46, 96, 16, 16, 164, 0, 6, 16, 253, 172, 42, 182, 0, 169, 42, 180, 0, 7, 3, 46]
abbrev dktX3_bind_4 : List UInt8 := dkwX3_bind_4 ++ dktX3_bind_5
def dkwX3_bind_3 : List UInt8 := [29, 96, 46, 184, 0, 148, 7, 160, 0, 6, 16, 254, 172, 42, 180, 0, 7, 3, 46, 42, 180, 0, 16]
abbrev dktX3_bind_3 : List UInt8 := dkwX3_bind_3 ++ dktX3_bind_4
def dkwX3_bind_2 : List UInt8 := [154, 0, 5, 2, 172, 42, 27, 182, 0, 166, 7, 159, 0, 23, 42, 180, 0, 16, 16, 17, 28, 104, 4, 96]
abbrev dktX3_bind_2 : List UInt8 := dkwX3_bind_2 ++ dktX3_bind_3
def dkwX3_bind_1 : List UInt8 := [28, 51, 153, 0, 24, 29, 133, 9, 42, 180, 0, 16, 16, 17, 28, 104, 46, 4, 100, 133, 184, 0, 158]
abbrev dktX3_bind_1 : List UInt8 := dkwX3_bind_1 ++ dktX3_bind_2
def dkwX3_bind_0 : List UInt8 := [42, 27, 182, 0, 162, 153, 0, 45, 28, 133, 9, 20, 0, 156, 184, 0, 158, 153, 0, 33, 42, 180, 0, 19]
abbrev dktX3_bind_0 : List UInt8 := dkwX3_bind_0 ++ dktX3_bind_1
theorem dksX3_bind_0 : cX3_bind.data.toList.drop 0 = dktX3_bind_0 := by decide +kernel
theorem dksX3_bind_1 : cX3_bind.data.toList.drop 24 = dktX3_bind_1 := dk_seg dksX3_bind_0 24 rfl rfl
theorem dksX3_bind_2 : cX3_bind.data.toList.drop 47 = dktX3_bind_2 := dk_seg dksX3_bind_1 23 rfl rfl
theorem dksX3_bind_3 : cX3_bind.data.toList.drop 71 = dktX3_bind_3 := dk_seg dksX3_bind_2 24 rfl rfl
theorem dksX3_bind_4 : cX3_bind.data.toList.drop 94 = dktX3_bind_4 := dk_seg dksX3_bind_3 23 rfl rfl
theorem dksX3_bind_5 : cX3_bind.data.toList.drop 118 = dktX3_bind_5 := dk_seg dksX3_bind_4 24 rfl rfl
theorem dksX3_bind_6 : cX3_bind.data.toList.drop 142 = dktX3_bind_6 := dk_seg dksX3_bind_5 24 rfl rfl
theorem dksX3_bind_7 : cX3_bind.data.toList.drop 166 = dktX3_bind_7 := dk_seg dksX3_bind_6 24 rfl rfl
theorem dksX3_bind_8 : cX3_bind.data.toList.drop 190 = dktX3_bind_8 := dk_seg dksX3_bind_7 24 rfl rfl
theorem dX3_bind_0 : decode cX3_bind 0 = .ok (.aload_n 0, 1) := dk_42 (dk_at dksX3_bind_0 0 rfl rfl)
theorem dX3_bind_1 : decode cX3_bind 1 = .ok (.iload_n 1, 1) := dk_27 (dk_at dksX3_bind_0 1 rfl rfl)
theorem dX3_bind_2 : decode cX3_bind 2 = .ok (.invokevirtual 162, 3) := dk_182 0 162 (dk_at dksX3_bind_0 2 rfl rfl)
theorem dX3_bind_5 : decode cX3_bind 5 = .ok (.ifCond .eq 45, 3) := dk_153 0 45 (dk_at dksX3_bind_0 5 rfl rfl)
theorem dX3_bind_8 : decode cX3_bind 8 = .ok (.iload_n 2, 1) := dk_28 (dk_at dksX3_bind_0 8 rfl rfl)
theorem dX3_bind_9 : decode cX3_bind 9 = .ok (.i2l, 1) := dk_133 (dk_at dksX3_bind_0 9 rfl rfl)
theorem dX3_bind_10 : decode cX3_bind 10 = .ok (.lconst 0, 1) := dk_9 (dk_at dksX3_bind_0 10 rfl rfl)
theorem dX3_bind_11 : decode cX3_bind 11 = .ok (.ldc2_w 156, 3) := dk_20 0 156 (dk_at dksX3_bind_0 11 rfl rfl)
theorem dX3_bind_14 : decode cX3_bind 14 = .ok (.invokestatic 158, 3) := dk_184 0 158 (dk_at dksX3_bind_0 14 rfl rfl)
theorem dX3_bind_17 : decode cX3_bind 17 = .ok (.ifCond .eq 33, 3) := dk_153 0 33 (dk_at dksX3_bind_0 17 rfl rfl)
theorem dX3_bind_20 : decode cX3_bind 20 = .ok (.aload_n 0, 1) := dk_42 (dk_at dksX3_bind_0 20 rfl rfl)
theorem dX3_bind_21 : decode cX3_bind 21 = .ok (.getfield 19, 3) := dk_180 0 19 (dk_at dksX3_bind_0 21 rfl rfl)
theorem dX3_bind_24 : decode cX3_bind 24 = .ok (.iload_n 2, 1) := dk_28 (dk_at dksX3_bind_1 0 rfl rfl)
theorem dX3_bind_25 : decode cX3_bind 25 = .ok (.baload, 1) := dk_51 (dk_at dksX3_bind_1 1 rfl rfl)
theorem dX3_bind_26 : decode cX3_bind 26 = .ok (.ifCond .eq 24, 3) := dk_153 0 24 (dk_at dksX3_bind_1 2 rfl rfl)
theorem dX3_bind_29 : decode cX3_bind 29 = .ok (.iload_n 3, 1) := dk_29 (dk_at dksX3_bind_1 5 rfl rfl)
theorem dX3_bind_30 : decode cX3_bind 30 = .ok (.i2l, 1) := dk_133 (dk_at dksX3_bind_1 6 rfl rfl)
theorem dX3_bind_31 : decode cX3_bind 31 = .ok (.lconst 0, 1) := dk_9 (dk_at dksX3_bind_1 7 rfl rfl)
theorem dX3_bind_32 : decode cX3_bind 32 = .ok (.aload_n 0, 1) := dk_42 (dk_at dksX3_bind_1 8 rfl rfl)
theorem dX3_bind_33 : decode cX3_bind 33 = .ok (.getfield 16, 3) := dk_180 0 16 (dk_at dksX3_bind_1 9 rfl rfl)
theorem dX3_bind_36 : decode cX3_bind 36 = .ok (.bipush 17, 2) := dk_16 17 (dk_at dksX3_bind_1 12 rfl rfl)
theorem dX3_bind_38 : decode cX3_bind 38 = .ok (.iload_n 2, 1) := dk_28 (dk_at dksX3_bind_1 14 rfl rfl)
theorem dX3_bind_39 : decode cX3_bind 39 = .ok (.imul, 1) := dk_104 (dk_at dksX3_bind_1 15 rfl rfl)
theorem dX3_bind_40 : decode cX3_bind 40 = .ok (.iaload, 1) := dk_46 (dk_at dksX3_bind_1 16 rfl rfl)
theorem dX3_bind_41 : decode cX3_bind 41 = .ok (.iconst 1, 1) := dk_4 (dk_at dksX3_bind_1 17 rfl rfl)
theorem dX3_bind_42 : decode cX3_bind 42 = .ok (.isub, 1) := dk_100 (dk_at dksX3_bind_1 18 rfl rfl)
theorem dX3_bind_43 : decode cX3_bind 43 = .ok (.i2l, 1) := dk_133 (dk_at dksX3_bind_1 19 rfl rfl)
theorem dX3_bind_44 : decode cX3_bind 44 = .ok (.invokestatic 158, 3) := dk_184 0 158 (dk_at dksX3_bind_1 20 rfl rfl)
theorem dX3_bind_47 : decode cX3_bind 47 = .ok (.ifCond .ne 5, 3) := dk_154 0 5 (dk_at dksX3_bind_2 0 rfl rfl)
theorem dX3_bind_50 : decode cX3_bind 50 = .ok (.iconst (-1), 1) := dk_2 (dk_at dksX3_bind_2 3 rfl rfl)
theorem dX3_bind_51 : decode cX3_bind 51 = .ok (.ireturn, 1) := dk_172 (dk_at dksX3_bind_2 4 rfl rfl)
theorem dX3_bind_52 : decode cX3_bind 52 = .ok (.aload_n 0, 1) := dk_42 (dk_at dksX3_bind_2 5 rfl rfl)
theorem dX3_bind_53 : decode cX3_bind 53 = .ok (.iload_n 1, 1) := dk_27 (dk_at dksX3_bind_2 6 rfl rfl)
theorem dX3_bind_54 : decode cX3_bind 54 = .ok (.invokevirtual 166, 3) := dk_182 0 166 (dk_at dksX3_bind_2 7 rfl rfl)
theorem dX3_bind_57 : decode cX3_bind 57 = .ok (.iconst 4, 1) := dk_7 (dk_at dksX3_bind_2 10 rfl rfl)
theorem dX3_bind_58 : decode cX3_bind 58 = .ok (.if_icmp .eq 23, 3) := dk_159 0 23 (dk_at dksX3_bind_2 11 rfl rfl)
theorem dX3_bind_61 : decode cX3_bind 61 = .ok (.aload_n 0, 1) := dk_42 (dk_at dksX3_bind_2 14 rfl rfl)
theorem dX3_bind_62 : decode cX3_bind 62 = .ok (.getfield 16, 3) := dk_180 0 16 (dk_at dksX3_bind_2 15 rfl rfl)
theorem dX3_bind_65 : decode cX3_bind 65 = .ok (.bipush 17, 2) := dk_16 17 (dk_at dksX3_bind_2 18 rfl rfl)
theorem dX3_bind_67 : decode cX3_bind 67 = .ok (.iload_n 2, 1) := dk_28 (dk_at dksX3_bind_2 20 rfl rfl)
theorem dX3_bind_68 : decode cX3_bind 68 = .ok (.imul, 1) := dk_104 (dk_at dksX3_bind_2 21 rfl rfl)
theorem dX3_bind_69 : decode cX3_bind 69 = .ok (.iconst 1, 1) := dk_4 (dk_at dksX3_bind_2 22 rfl rfl)
theorem dX3_bind_70 : decode cX3_bind 70 = .ok (.iadd, 1) := dk_96 (dk_at dksX3_bind_2 23 rfl rfl)
theorem dX3_bind_71 : decode cX3_bind 71 = .ok (.iload_n 3, 1) := dk_29 (dk_at dksX3_bind_3 0 rfl rfl)
theorem dX3_bind_72 : decode cX3_bind 72 = .ok (.iadd, 1) := dk_96 (dk_at dksX3_bind_3 1 rfl rfl)
theorem dX3_bind_73 : decode cX3_bind 73 = .ok (.iaload, 1) := dk_46 (dk_at dksX3_bind_3 2 rfl rfl)
theorem dX3_bind_74 : decode cX3_bind 74 = .ok (.invokestatic 148, 3) := dk_184 0 148 (dk_at dksX3_bind_3 3 rfl rfl)
theorem dX3_bind_77 : decode cX3_bind 77 = .ok (.iconst 4, 1) := dk_7 (dk_at dksX3_bind_3 6 rfl rfl)
theorem dX3_bind_78 : decode cX3_bind 78 = .ok (.if_icmp .ne 6, 3) := dk_160 0 6 (dk_at dksX3_bind_3 7 rfl rfl)
theorem dX3_bind_81 : decode cX3_bind 81 = .ok (.bipush (-2), 2) := dk_16 254 (dk_at dksX3_bind_3 10 rfl rfl)
theorem dX3_bind_83 : decode cX3_bind 83 = .ok (.ireturn, 1) := dk_172 (dk_at dksX3_bind_3 12 rfl rfl)
theorem dX3_bind_84 : decode cX3_bind 84 = .ok (.aload_n 0, 1) := dk_42 (dk_at dksX3_bind_3 13 rfl rfl)
theorem dX3_bind_85 : decode cX3_bind 85 = .ok (.getfield 7, 3) := dk_180 0 7 (dk_at dksX3_bind_3 14 rfl rfl)
theorem dX3_bind_88 : decode cX3_bind 88 = .ok (.iconst 0, 1) := dk_3 (dk_at dksX3_bind_3 17 rfl rfl)
theorem dX3_bind_89 : decode cX3_bind 89 = .ok (.iaload, 1) := dk_46 (dk_at dksX3_bind_3 18 rfl rfl)
theorem dX3_bind_90 : decode cX3_bind 90 = .ok (.aload_n 0, 1) := dk_42 (dk_at dksX3_bind_3 19 rfl rfl)
theorem dX3_bind_91 : decode cX3_bind 91 = .ok (.getfield 16, 3) := dk_180 0 16 (dk_at dksX3_bind_3 20 rfl rfl)
theorem dX3_bind_94 : decode cX3_bind 94 = .ok (.bipush 17, 2) := dk_16 17 (dk_at dksX3_bind_4 0 rfl rfl)
theorem dX3_bind_96 : decode cX3_bind 96 = .ok (.iload_n 2, 1) := dk_28 (dk_at dksX3_bind_4 2 rfl rfl)
theorem dX3_bind_97 : decode cX3_bind 97 = .ok (.imul, 1) := dk_104 (dk_at dksX3_bind_4 3 rfl rfl)
theorem dX3_bind_98 : decode cX3_bind 98 = .ok (.iaload, 1) := dk_46 (dk_at dksX3_bind_4 4 rfl rfl)
theorem dX3_bind_99 : decode cX3_bind 99 = .ok (.iadd, 1) := dk_96 (dk_at dksX3_bind_4 5 rfl rfl)
theorem dX3_bind_100 : decode cX3_bind 100 = .ok (.bipush 16, 2) := dk_16 16 (dk_at dksX3_bind_4 6 rfl rfl)
theorem dX3_bind_102 : decode cX3_bind 102 = .ok (.if_icmp .le 6, 3) := dk_164 0 6 (dk_at dksX3_bind_4 8 rfl rfl)
theorem dX3_bind_105 : decode cX3_bind 105 = .ok (.bipush (-3), 2) := dk_16 253 (dk_at dksX3_bind_4 11 rfl rfl)
theorem dX3_bind_107 : decode cX3_bind 107 = .ok (.ireturn, 1) := dk_172 (dk_at dksX3_bind_4 13 rfl rfl)
theorem dX3_bind_108 : decode cX3_bind 108 = .ok (.aload_n 0, 1) := dk_42 (dk_at dksX3_bind_4 14 rfl rfl)
theorem dX3_bind_109 : decode cX3_bind 109 = .ok (.invokevirtual 169, 3) := dk_182 0 169 (dk_at dksX3_bind_4 15 rfl rfl)
theorem dX3_bind_112 : decode cX3_bind 112 = .ok (.aload_n 0, 1) := dk_42 (dk_at dksX3_bind_4 18 rfl rfl)
theorem dX3_bind_113 : decode cX3_bind 113 = .ok (.getfield 7, 3) := dk_180 0 7 (dk_at dksX3_bind_4 19 rfl rfl)
theorem dX3_bind_116 : decode cX3_bind 116 = .ok (.iconst 0, 1) := dk_3 (dk_at dksX3_bind_4 22 rfl rfl)
theorem dX3_bind_117 : decode cX3_bind 117 = .ok (.iaload, 1) := dk_46 (dk_at dksX3_bind_4 23 rfl rfl)
theorem dX3_bind_118 : decode cX3_bind 118 = .ok (.istore 4, 2) := dk_54 4 (dk_at dksX3_bind_5 0 rfl rfl)
theorem dX3_bind_120 : decode cX3_bind 120 = .ok (.iconst 0, 1) := dk_3 (dk_at dksX3_bind_5 2 rfl rfl)
theorem dX3_bind_121 : decode cX3_bind 121 = .ok (.istore 5, 2) := dk_54 5 (dk_at dksX3_bind_5 3 rfl rfl)
theorem dX3_bind_123 : decode cX3_bind 123 = .ok (.iload 5, 2) := dk_21 5 (dk_at dksX3_bind_5 5 rfl rfl)
theorem dX3_bind_125 : decode cX3_bind 125 = .ok (.aload_n 0, 1) := dk_42 (dk_at dksX3_bind_5 7 rfl rfl)
theorem dX3_bind_126 : decode cX3_bind 126 = .ok (.getfield 16, 3) := dk_180 0 16 (dk_at dksX3_bind_5 8 rfl rfl)
theorem dX3_bind_129 : decode cX3_bind 129 = .ok (.bipush 17, 2) := dk_16 17 (dk_at dksX3_bind_5 11 rfl rfl)
theorem dX3_bind_131 : decode cX3_bind 131 = .ok (.iload_n 2, 1) := dk_28 (dk_at dksX3_bind_5 13 rfl rfl)
theorem dX3_bind_132 : decode cX3_bind 132 = .ok (.imul, 1) := dk_104 (dk_at dksX3_bind_5 14 rfl rfl)
theorem dX3_bind_133 : decode cX3_bind 133 = .ok (.iaload, 1) := dk_46 (dk_at dksX3_bind_5 15 rfl rfl)
theorem dX3_bind_134 : decode cX3_bind 134 = .ok (.if_icmp .ge 38, 3) := dk_162 0 38 (dk_at dksX3_bind_5 16 rfl rfl)
theorem dX3_bind_137 : decode cX3_bind 137 = .ok (.aload_n 0, 1) := dk_42 (dk_at dksX3_bind_5 19 rfl rfl)
theorem dX3_bind_138 : decode cX3_bind 138 = .ok (.getfield 7, 3) := dk_180 0 7 (dk_at dksX3_bind_5 20 rfl rfl)
theorem dX3_bind_141 : decode cX3_bind 141 = .ok (.iconst 1, 1) := dk_4 (dk_at dksX3_bind_5 23 rfl rfl)
theorem dX3_bind_142 : decode cX3_bind 142 = .ok (.iload 4, 2) := dk_21 4 (dk_at dksX3_bind_6 0 rfl rfl)
theorem dX3_bind_144 : decode cX3_bind 144 = .ok (.iadd, 1) := dk_96 (dk_at dksX3_bind_6 2 rfl rfl)
theorem dX3_bind_145 : decode cX3_bind 145 = .ok (.iload 5, 2) := dk_21 5 (dk_at dksX3_bind_6 3 rfl rfl)
theorem dX3_bind_147 : decode cX3_bind 147 = .ok (.iadd, 1) := dk_96 (dk_at dksX3_bind_6 5 rfl rfl)
theorem dX3_bind_148 : decode cX3_bind 148 = .ok (.aload_n 0, 1) := dk_42 (dk_at dksX3_bind_6 6 rfl rfl)
theorem dX3_bind_149 : decode cX3_bind 149 = .ok (.getfield 16, 3) := dk_180 0 16 (dk_at dksX3_bind_6 7 rfl rfl)
theorem dX3_bind_152 : decode cX3_bind 152 = .ok (.bipush 17, 2) := dk_16 17 (dk_at dksX3_bind_6 10 rfl rfl)
theorem dX3_bind_154 : decode cX3_bind 154 = .ok (.iload_n 2, 1) := dk_28 (dk_at dksX3_bind_6 12 rfl rfl)
theorem dX3_bind_155 : decode cX3_bind 155 = .ok (.imul, 1) := dk_104 (dk_at dksX3_bind_6 13 rfl rfl)
theorem dX3_bind_156 : decode cX3_bind 156 = .ok (.iconst 1, 1) := dk_4 (dk_at dksX3_bind_6 14 rfl rfl)
theorem dX3_bind_157 : decode cX3_bind 157 = .ok (.iadd, 1) := dk_96 (dk_at dksX3_bind_6 15 rfl rfl)
theorem dX3_bind_158 : decode cX3_bind 158 = .ok (.iload 5, 2) := dk_21 5 (dk_at dksX3_bind_6 16 rfl rfl)
theorem dX3_bind_160 : decode cX3_bind 160 = .ok (.iadd, 1) := dk_96 (dk_at dksX3_bind_6 18 rfl rfl)
theorem dX3_bind_161 : decode cX3_bind 161 = .ok (.iaload, 1) := dk_46 (dk_at dksX3_bind_6 19 rfl rfl)
theorem dX3_bind_162 : decode cX3_bind 162 = .ok (.iload 4, 2) := dk_21 4 (dk_at dksX3_bind_6 20 rfl rfl)
theorem dX3_bind_164 : decode cX3_bind 164 = .ok (.ishl, 1) := dk_120 (dk_at dksX3_bind_6 22 rfl rfl)
theorem dX3_bind_165 : decode cX3_bind 165 = .ok (.iastore, 1) := dk_79 (dk_at dksX3_bind_6 23 rfl rfl)
theorem dX3_bind_166 : decode cX3_bind 166 = .ok (.iinc 5 1, 3) := dk_132 5 1 (dk_at dksX3_bind_7 0 rfl rfl)
theorem dX3_bind_169 : decode cX3_bind 169 = .ok (.goto (-46), 3) := dk_167 255 210 (dk_at dksX3_bind_7 3 rfl rfl)
theorem dX3_bind_172 : decode cX3_bind 172 = .ok (.aload_n 0, 1) := dk_42 (dk_at dksX3_bind_7 6 rfl rfl)
theorem dX3_bind_173 : decode cX3_bind 173 = .ok (.getfield 7, 3) := dk_180 0 7 (dk_at dksX3_bind_7 7 rfl rfl)
theorem dX3_bind_176 : decode cX3_bind 176 = .ok (.iconst 0, 1) := dk_3 (dk_at dksX3_bind_7 10 rfl rfl)
theorem dX3_bind_177 : decode cX3_bind 177 = .ok (.dup2, 1) := dk_92 (dk_at dksX3_bind_7 11 rfl rfl)
theorem dX3_bind_178 : decode cX3_bind 178 = .ok (.iaload, 1) := dk_46 (dk_at dksX3_bind_7 12 rfl rfl)
theorem dX3_bind_179 : decode cX3_bind 179 = .ok (.aload_n 0, 1) := dk_42 (dk_at dksX3_bind_7 13 rfl rfl)
theorem dX3_bind_180 : decode cX3_bind 180 = .ok (.getfield 16, 3) := dk_180 0 16 (dk_at dksX3_bind_7 14 rfl rfl)
theorem dX3_bind_183 : decode cX3_bind 183 = .ok (.bipush 17, 2) := dk_16 17 (dk_at dksX3_bind_7 17 rfl rfl)
theorem dX3_bind_185 : decode cX3_bind 185 = .ok (.iload_n 2, 1) := dk_28 (dk_at dksX3_bind_7 19 rfl rfl)
theorem dX3_bind_186 : decode cX3_bind 186 = .ok (.imul, 1) := dk_104 (dk_at dksX3_bind_7 20 rfl rfl)
theorem dX3_bind_187 : decode cX3_bind 187 = .ok (.iaload, 1) := dk_46 (dk_at dksX3_bind_7 21 rfl rfl)
theorem dX3_bind_188 : decode cX3_bind 188 = .ok (.iadd, 1) := dk_96 (dk_at dksX3_bind_7 22 rfl rfl)
theorem dX3_bind_189 : decode cX3_bind 189 = .ok (.iastore, 1) := dk_79 (dk_at dksX3_bind_7 23 rfl rfl)
theorem dX3_bind_190 : decode cX3_bind 190 = .ok (.aload_n 0, 1) := dk_42 (dk_at dksX3_bind_8 0 rfl rfl)
theorem dX3_bind_191 : decode cX3_bind 191 = .ok (.iload_n 1, 1) := dk_27 (dk_at dksX3_bind_8 1 rfl rfl)
theorem dX3_bind_192 : decode cX3_bind 192 = .ok (.iload 4, 2) := dk_21 4 (dk_at dksX3_bind_8 2 rfl rfl)
theorem dX3_bind_194 : decode cX3_bind 194 = .ok (.iload_n 3, 1) := dk_29 (dk_at dksX3_bind_8 4 rfl rfl)
theorem dX3_bind_195 : decode cX3_bind 195 = .ok (.iadd, 1) := dk_96 (dk_at dksX3_bind_8 5 rfl rfl)
theorem dX3_bind_196 : decode cX3_bind 196 = .ok (.invokevirtual 172, 3) := dk_182 0 172 (dk_at dksX3_bind_8 6 rfl rfl)
theorem dX3_bind_199 : decode cX3_bind 199 = .ok (.aload_n 0, 1) := dk_42 (dk_at dksX3_bind_8 9 rfl rfl)
theorem dX3_bind_200 : decode cX3_bind 200 = .ok (.getfield 7, 3) := dk_180 0 7 (dk_at dksX3_bind_8 10 rfl rfl)
theorem dX3_bind_203 : decode cX3_bind 203 = .ok (.iconst 0, 1) := dk_3 (dk_at dksX3_bind_8 13 rfl rfl)
theorem dX3_bind_204 : decode cX3_bind 204 = .ok (.iaload, 1) := dk_46 (dk_at dksX3_bind_8 14 rfl rfl)
theorem dX3_bind_205 : decode cX3_bind 205 = .ok (.ireturn, 1) := dk_172 (dk_at dksX3_bind_8 15 rfl rfl)
abbrev cX3_split : ByteArray := prog_21_method_17_code
def yX3_split : MethodName := ⟨RX3, "split", "(II)I"⟩
def dkwX3_split_3 : List UInt8 := [167, 255, 233, 42, 180, 0, 7, 3, 46, 172]
abbrev dktX3_split_3 : List UInt8 := dkwX3_split_3 ++ []
def dkwX3_split_2 : List UInt8 := [21, 4, 155, 0, 24, 29, 21, 4, 184, 0, 184, 153, 0, 9, 42, 21, 4, 182, 0, 180, 132, 4, 255]
abbrev dktX3_split_2 : List UInt8 := dkwX3_split_2 ++ dktX3_split_3
def dkwX3_split_1 : List UInt8 := [28, 184, 0, 184, 154, 0, 5, 2, 172, 42, 182, 0, 169, 42, 28, 27, 182, 0, 188, 62, 16, 15, 54, 4]
abbrev dktX3_split_1 : List UInt8 := dkwX3_split_1 ++ dktX3_split_2
def dkwX3_split_0 : List UInt8 := [42, 27, 182, 0, 162, 153, 0, 26, 42, 28, 182, 0, 162, 153, 0, 18, 42, 180, 0, 7, 4, 27, 96, 46]
abbrev dktX3_split_0 : List UInt8 := dkwX3_split_0 ++ dktX3_split_1
theorem dksX3_split_0 : cX3_split.data.toList.drop 0 = dktX3_split_0 := by decide +kernel
theorem dksX3_split_1 : cX3_split.data.toList.drop 24 = dktX3_split_1 := dk_seg dksX3_split_0 24 rfl rfl
theorem dksX3_split_2 : cX3_split.data.toList.drop 48 = dktX3_split_2 := dk_seg dksX3_split_1 24 rfl rfl
theorem dksX3_split_3 : cX3_split.data.toList.drop 71 = dktX3_split_3 := dk_seg dksX3_split_2 23 rfl rfl
theorem dX3_split_0 : decode cX3_split 0 = .ok (.aload_n 0, 1) := dk_42 (dk_at dksX3_split_0 0 rfl rfl)
theorem dX3_split_1 : decode cX3_split 1 = .ok (.iload_n 1, 1) := dk_27 (dk_at dksX3_split_0 1 rfl rfl)
theorem dX3_split_2 : decode cX3_split 2 = .ok (.invokevirtual 162, 3) := dk_182 0 162 (dk_at dksX3_split_0 2 rfl rfl)
theorem dX3_split_5 : decode cX3_split 5 = .ok (.ifCond .eq 26, 3) := dk_153 0 26 (dk_at dksX3_split_0 5 rfl rfl)
theorem dX3_split_8 : decode cX3_split 8 = .ok (.aload_n 0, 1) := dk_42 (dk_at dksX3_split_0 8 rfl rfl)
theorem dX3_split_9 : decode cX3_split 9 = .ok (.iload_n 2, 1) := dk_28 (dk_at dksX3_split_0 9 rfl rfl)
theorem dX3_split_10 : decode cX3_split 10 = .ok (.invokevirtual 162, 3) := dk_182 0 162 (dk_at dksX3_split_0 10 rfl rfl)
theorem dX3_split_13 : decode cX3_split 13 = .ok (.ifCond .eq 18, 3) := dk_153 0 18 (dk_at dksX3_split_0 13 rfl rfl)
theorem dX3_split_16 : decode cX3_split 16 = .ok (.aload_n 0, 1) := dk_42 (dk_at dksX3_split_0 16 rfl rfl)
theorem dX3_split_17 : decode cX3_split 17 = .ok (.getfield 7, 3) := dk_180 0 7 (dk_at dksX3_split_0 17 rfl rfl)
theorem dX3_split_20 : decode cX3_split 20 = .ok (.iconst 1, 1) := dk_4 (dk_at dksX3_split_0 20 rfl rfl)
theorem dX3_split_21 : decode cX3_split 21 = .ok (.iload_n 1, 1) := dk_27 (dk_at dksX3_split_0 21 rfl rfl)
theorem dX3_split_22 : decode cX3_split 22 = .ok (.iadd, 1) := dk_96 (dk_at dksX3_split_0 22 rfl rfl)
theorem dX3_split_23 : decode cX3_split 23 = .ok (.iaload, 1) := dk_46 (dk_at dksX3_split_0 23 rfl rfl)
theorem dX3_split_24 : decode cX3_split 24 = .ok (.iload_n 2, 1) := dk_28 (dk_at dksX3_split_1 0 rfl rfl)
theorem dX3_split_25 : decode cX3_split 25 = .ok (.invokestatic 184, 3) := dk_184 0 184 (dk_at dksX3_split_1 1 rfl rfl)
theorem dX3_split_28 : decode cX3_split 28 = .ok (.ifCond .ne 5, 3) := dk_154 0 5 (dk_at dksX3_split_1 4 rfl rfl)
theorem dX3_split_31 : decode cX3_split 31 = .ok (.iconst (-1), 1) := dk_2 (dk_at dksX3_split_1 7 rfl rfl)
theorem dX3_split_32 : decode cX3_split 32 = .ok (.ireturn, 1) := dk_172 (dk_at dksX3_split_1 8 rfl rfl)
theorem dX3_split_33 : decode cX3_split 33 = .ok (.aload_n 0, 1) := dk_42 (dk_at dksX3_split_1 9 rfl rfl)
theorem dX3_split_34 : decode cX3_split 34 = .ok (.invokevirtual 169, 3) := dk_182 0 169 (dk_at dksX3_split_1 10 rfl rfl)
theorem dX3_split_37 : decode cX3_split 37 = .ok (.aload_n 0, 1) := dk_42 (dk_at dksX3_split_1 13 rfl rfl)
theorem dX3_split_38 : decode cX3_split 38 = .ok (.iload_n 2, 1) := dk_28 (dk_at dksX3_split_1 14 rfl rfl)
theorem dX3_split_39 : decode cX3_split 39 = .ok (.iload_n 1, 1) := dk_27 (dk_at dksX3_split_1 15 rfl rfl)
theorem dX3_split_40 : decode cX3_split 40 = .ok (.invokevirtual 188, 3) := dk_182 0 188 (dk_at dksX3_split_1 16 rfl rfl)
theorem dX3_split_43 : decode cX3_split 43 = .ok (.istore_n 3, 1) := dk_62 (dk_at dksX3_split_1 19 rfl rfl)
theorem dX3_split_44 : decode cX3_split 44 = .ok (.bipush 15, 2) := dk_16 15 (dk_at dksX3_split_1 20 rfl rfl)
theorem dX3_split_46 : decode cX3_split 46 = .ok (.istore 4, 2) := dk_54 4 (dk_at dksX3_split_1 22 rfl rfl)
theorem dX3_split_48 : decode cX3_split 48 = .ok (.iload 4, 2) := dk_21 4 (dk_at dksX3_split_2 0 rfl rfl)
theorem dX3_split_50 : decode cX3_split 50 = .ok (.ifCond .lt 24, 3) := dk_155 0 24 (dk_at dksX3_split_2 2 rfl rfl)
theorem dX3_split_53 : decode cX3_split 53 = .ok (.iload_n 3, 1) := dk_29 (dk_at dksX3_split_2 5 rfl rfl)
theorem dX3_split_54 : decode cX3_split 54 = .ok (.iload 4, 2) := dk_21 4 (dk_at dksX3_split_2 6 rfl rfl)
theorem dX3_split_56 : decode cX3_split 56 = .ok (.invokestatic 184, 3) := dk_184 0 184 (dk_at dksX3_split_2 8 rfl rfl)
theorem dX3_split_59 : decode cX3_split 59 = .ok (.ifCond .eq 9, 3) := dk_153 0 9 (dk_at dksX3_split_2 11 rfl rfl)
theorem dX3_split_62 : decode cX3_split 62 = .ok (.aload_n 0, 1) := dk_42 (dk_at dksX3_split_2 14 rfl rfl)
theorem dX3_split_63 : decode cX3_split 63 = .ok (.iload 4, 2) := dk_21 4 (dk_at dksX3_split_2 15 rfl rfl)
theorem dX3_split_65 : decode cX3_split 65 = .ok (.invokevirtual 180, 3) := dk_182 0 180 (dk_at dksX3_split_2 17 rfl rfl)
theorem dX3_split_68 : decode cX3_split 68 = .ok (.iinc 4 (-1), 3) := dk_132 4 255 (dk_at dksX3_split_2 20 rfl rfl)
theorem dX3_split_71 : decode cX3_split 71 = .ok (.goto (-23), 3) := dk_167 255 233 (dk_at dksX3_split_3 0 rfl rfl)
theorem dX3_split_74 : decode cX3_split 74 = .ok (.aload_n 0, 1) := dk_42 (dk_at dksX3_split_3 3 rfl rfl)
theorem dX3_split_75 : decode cX3_split 75 = .ok (.getfield 7, 3) := dk_180 0 7 (dk_at dksX3_split_3 4 rfl rfl)
theorem dX3_split_78 : decode cX3_split 78 = .ok (.iconst 0, 1) := dk_3 (dk_at dksX3_split_3 7 rfl rfl)
theorem dX3_split_79 : decode cX3_split 79 = .ok (.iaload, 1) := dk_46 (dk_at dksX3_split_3 8 rfl rfl)
theorem dX3_split_80 : decode cX3_split 80 = .ok (.ireturn, 1) := dk_172 (dk_at dksX3_split_3 9 rfl rfl)
abbrev cX3_has : ByteArray := prog_21_method_3_code
def yX3_has : MethodName := ⟨RX3, "has", "(II)Z"⟩
def dkwX3_has_0 : List UInt8 := [26, 27, 122, 4, 126, 4, 160, 0, 7, 4, 167, 0, 4, 3, 172]
abbrev dktX3_has_0 : List UInt8 := dkwX3_has_0 ++ []
theorem dksX3_has_0 : cX3_has.data.toList.drop 0 = dktX3_has_0 := by decide +kernel
theorem dX3_has_0 : decode cX3_has 0 = .ok (.iload_n 0, 1) := dk_26 (dk_at dksX3_has_0 0 rfl rfl)
theorem dX3_has_1 : decode cX3_has 1 = .ok (.iload_n 1, 1) := dk_27 (dk_at dksX3_has_0 1 rfl rfl)
theorem dX3_has_2 : decode cX3_has 2 = .ok (.ishr, 1) := dk_122 (dk_at dksX3_has_0 2 rfl rfl)
theorem dX3_has_3 : decode cX3_has 3 = .ok (.iconst 1, 1) := dk_4 (dk_at dksX3_has_0 3 rfl rfl)
theorem dX3_has_4 : decode cX3_has 4 = .ok (.iand, 1) := dk_126 (dk_at dksX3_has_0 4 rfl rfl)
theorem dX3_has_5 : decode cX3_has 5 = .ok (.iconst 1, 1) := dk_4 (dk_at dksX3_has_0 5 rfl rfl)
theorem dX3_has_6 : decode cX3_has 6 = .ok (.if_icmp .ne 7, 3) := dk_160 0 7 (dk_at dksX3_has_0 6 rfl rfl)
theorem dX3_has_9 : decode cX3_has 9 = .ok (.iconst 1, 1) := dk_4 (dk_at dksX3_has_0 9 rfl rfl)
theorem dX3_has_10 : decode cX3_has 10 = .ok (.goto 4, 3) := dk_167 0 4 (dk_at dksX3_has_0 10 rfl rfl)
theorem dX3_has_13 : decode cX3_has 13 = .ok (.iconst 0, 1) := dk_3 (dk_at dksX3_has_0 13 rfl rfl)
theorem dX3_has_14 : decode cX3_has 14 = .ok (.ireturn, 1) := dk_172 (dk_at dksX3_has_0 14 rfl rfl)
abbrev cX3_behind : ByteArray := prog_21_method_16_code
def yX3_behind : MethodName := ⟨RX3, "behind", "(II)I"⟩
def dkwX3_behind_3 : List UInt8 := [167, 255, 202, 21, 5, 29, 2, 130, 126, 54, 4, 29, 21, 5, 128, 62, 167, 255, 175, 29, 172]
abbrev dktX3_behind_3 : List UInt8 := dkwX3_behind_3 ++ []
def dkwX3_behind_2 : List UInt8 := [96, 46, 21, 6, 27, 160, 0, 9, 4, 28, 120, 167, 0, 4, 3, 2, 130, 126, 128, 54, 5, 132, 6, 1]
abbrev dktX3_behind_2 : List UInt8 := dkwX3_behind_2 ++ dktX3_behind_3
def dkwX3_behind_1 : List UInt8 := [3, 46, 162, 0, 49, 21, 4, 21, 6, 184, 0, 184, 153, 0, 33, 21, 5, 42, 180, 0, 7, 4, 21, 6]
abbrev dktX3_behind_1 : List UInt8 := dkwX3_behind_1 ++ dktX3_behind_2
def dkwX3_behind_0 : List UInt8 := [4, 27, 120, 62, 29, 54, 4, 21, 4, 153, 0, 82, 3, 54, 5, 3, 54, 6, 21, 6, 42, 180, 0, 7]
abbrev dktX3_behind_0 : List UInt8 := dkwX3_behind_0 ++ dktX3_behind_1
theorem dksX3_behind_0 : cX3_behind.data.toList.drop 0 = dktX3_behind_0 := by decide +kernel
theorem dksX3_behind_1 : cX3_behind.data.toList.drop 24 = dktX3_behind_1 := dk_seg dksX3_behind_0 24 rfl rfl
theorem dksX3_behind_2 : cX3_behind.data.toList.drop 48 = dktX3_behind_2 := dk_seg dksX3_behind_1 24 rfl rfl
theorem dksX3_behind_3 : cX3_behind.data.toList.drop 72 = dktX3_behind_3 := dk_seg dksX3_behind_2 24 rfl rfl
theorem dX3_behind_0 : decode cX3_behind 0 = .ok (.iconst 1, 1) := dk_4 (dk_at dksX3_behind_0 0 rfl rfl)
theorem dX3_behind_1 : decode cX3_behind 1 = .ok (.iload_n 1, 1) := dk_27 (dk_at dksX3_behind_0 1 rfl rfl)
theorem dX3_behind_2 : decode cX3_behind 2 = .ok (.ishl, 1) := dk_120 (dk_at dksX3_behind_0 2 rfl rfl)
theorem dX3_behind_3 : decode cX3_behind 3 = .ok (.istore_n 3, 1) := dk_62 (dk_at dksX3_behind_0 3 rfl rfl)
theorem dX3_behind_4 : decode cX3_behind 4 = .ok (.iload_n 3, 1) := dk_29 (dk_at dksX3_behind_0 4 rfl rfl)
theorem dX3_behind_5 : decode cX3_behind 5 = .ok (.istore 4, 2) := dk_54 4 (dk_at dksX3_behind_0 5 rfl rfl)
theorem dX3_behind_7 : decode cX3_behind 7 = .ok (.iload 4, 2) := dk_21 4 (dk_at dksX3_behind_0 7 rfl rfl)
theorem dX3_behind_9 : decode cX3_behind 9 = .ok (.ifCond .eq 82, 3) := dk_153 0 82 (dk_at dksX3_behind_0 9 rfl rfl)
theorem dX3_behind_12 : decode cX3_behind 12 = .ok (.iconst 0, 1) := dk_3 (dk_at dksX3_behind_0 12 rfl rfl)
theorem dX3_behind_13 : decode cX3_behind 13 = .ok (.istore 5, 2) := dk_54 5 (dk_at dksX3_behind_0 13 rfl rfl)
theorem dX3_behind_15 : decode cX3_behind 15 = .ok (.iconst 0, 1) := dk_3 (dk_at dksX3_behind_0 15 rfl rfl)
theorem dX3_behind_16 : decode cX3_behind 16 = .ok (.istore 6, 2) := dk_54 6 (dk_at dksX3_behind_0 16 rfl rfl)
theorem dX3_behind_18 : decode cX3_behind 18 = .ok (.iload 6, 2) := dk_21 6 (dk_at dksX3_behind_0 18 rfl rfl)
theorem dX3_behind_20 : decode cX3_behind 20 = .ok (.aload_n 0, 1) := dk_42 (dk_at dksX3_behind_0 20 rfl rfl)
theorem dX3_behind_21 : decode cX3_behind 21 = .ok (.getfield 7, 3) := dk_180 0 7 (dk_at dksX3_behind_0 21 rfl rfl)
theorem dX3_behind_24 : decode cX3_behind 24 = .ok (.iconst 0, 1) := dk_3 (dk_at dksX3_behind_1 0 rfl rfl)
theorem dX3_behind_25 : decode cX3_behind 25 = .ok (.iaload, 1) := dk_46 (dk_at dksX3_behind_1 1 rfl rfl)
theorem dX3_behind_26 : decode cX3_behind 26 = .ok (.if_icmp .ge 49, 3) := dk_162 0 49 (dk_at dksX3_behind_1 2 rfl rfl)
theorem dX3_behind_29 : decode cX3_behind 29 = .ok (.iload 4, 2) := dk_21 4 (dk_at dksX3_behind_1 5 rfl rfl)
theorem dX3_behind_31 : decode cX3_behind 31 = .ok (.iload 6, 2) := dk_21 6 (dk_at dksX3_behind_1 7 rfl rfl)
theorem dX3_behind_33 : decode cX3_behind 33 = .ok (.invokestatic 184, 3) := dk_184 0 184 (dk_at dksX3_behind_1 9 rfl rfl)
theorem dX3_behind_36 : decode cX3_behind 36 = .ok (.ifCond .eq 33, 3) := dk_153 0 33 (dk_at dksX3_behind_1 12 rfl rfl)
theorem dX3_behind_39 : decode cX3_behind 39 = .ok (.iload 5, 2) := dk_21 5 (dk_at dksX3_behind_1 15 rfl rfl)
theorem dX3_behind_41 : decode cX3_behind 41 = .ok (.aload_n 0, 1) := dk_42 (dk_at dksX3_behind_1 17 rfl rfl)
theorem dX3_behind_42 : decode cX3_behind 42 = .ok (.getfield 7, 3) := dk_180 0 7 (dk_at dksX3_behind_1 18 rfl rfl)
theorem dX3_behind_45 : decode cX3_behind 45 = .ok (.iconst 1, 1) := dk_4 (dk_at dksX3_behind_1 21 rfl rfl)
theorem dX3_behind_46 : decode cX3_behind 46 = .ok (.iload 6, 2) := dk_21 6 (dk_at dksX3_behind_1 22 rfl rfl)
theorem dX3_behind_48 : decode cX3_behind 48 = .ok (.iadd, 1) := dk_96 (dk_at dksX3_behind_2 0 rfl rfl)
theorem dX3_behind_49 : decode cX3_behind 49 = .ok (.iaload, 1) := dk_46 (dk_at dksX3_behind_2 1 rfl rfl)
theorem dX3_behind_50 : decode cX3_behind 50 = .ok (.iload 6, 2) := dk_21 6 (dk_at dksX3_behind_2 2 rfl rfl)
theorem dX3_behind_52 : decode cX3_behind 52 = .ok (.iload_n 1, 1) := dk_27 (dk_at dksX3_behind_2 4 rfl rfl)
theorem dX3_behind_53 : decode cX3_behind 53 = .ok (.if_icmp .ne 9, 3) := dk_160 0 9 (dk_at dksX3_behind_2 5 rfl rfl)
theorem dX3_behind_56 : decode cX3_behind 56 = .ok (.iconst 1, 1) := dk_4 (dk_at dksX3_behind_2 8 rfl rfl)
theorem dX3_behind_57 : decode cX3_behind 57 = .ok (.iload_n 2, 1) := dk_28 (dk_at dksX3_behind_2 9 rfl rfl)
theorem dX3_behind_58 : decode cX3_behind 58 = .ok (.ishl, 1) := dk_120 (dk_at dksX3_behind_2 10 rfl rfl)
theorem dX3_behind_59 : decode cX3_behind 59 = .ok (.goto 4, 3) := dk_167 0 4 (dk_at dksX3_behind_2 11 rfl rfl)
theorem dX3_behind_62 : decode cX3_behind 62 = .ok (.iconst 0, 1) := dk_3 (dk_at dksX3_behind_2 14 rfl rfl)
theorem dX3_behind_63 : decode cX3_behind 63 = .ok (.iconst (-1), 1) := dk_2 (dk_at dksX3_behind_2 15 rfl rfl)
theorem dX3_behind_64 : decode cX3_behind 64 = .ok (.ixor, 1) := dk_130 (dk_at dksX3_behind_2 16 rfl rfl)
theorem dX3_behind_65 : decode cX3_behind 65 = .ok (.iand, 1) := dk_126 (dk_at dksX3_behind_2 17 rfl rfl)
theorem dX3_behind_66 : decode cX3_behind 66 = .ok (.ior, 1) := dk_128 (dk_at dksX3_behind_2 18 rfl rfl)
theorem dX3_behind_67 : decode cX3_behind 67 = .ok (.istore 5, 2) := dk_54 5 (dk_at dksX3_behind_2 19 rfl rfl)
theorem dX3_behind_69 : decode cX3_behind 69 = .ok (.iinc 6 1, 3) := dk_132 6 1 (dk_at dksX3_behind_2 21 rfl rfl)
theorem dX3_behind_72 : decode cX3_behind 72 = .ok (.goto (-54), 3) := dk_167 255 202 (dk_at dksX3_behind_3 0 rfl rfl)
theorem dX3_behind_75 : decode cX3_behind 75 = .ok (.iload 5, 2) := dk_21 5 (dk_at dksX3_behind_3 3 rfl rfl)
theorem dX3_behind_77 : decode cX3_behind 77 = .ok (.iload_n 3, 1) := dk_29 (dk_at dksX3_behind_3 5 rfl rfl)
theorem dX3_behind_78 : decode cX3_behind 78 = .ok (.iconst (-1), 1) := dk_2 (dk_at dksX3_behind_3 6 rfl rfl)
theorem dX3_behind_79 : decode cX3_behind 79 = .ok (.ixor, 1) := dk_130 (dk_at dksX3_behind_3 7 rfl rfl)
theorem dX3_behind_80 : decode cX3_behind 80 = .ok (.iand, 1) := dk_126 (dk_at dksX3_behind_3 8 rfl rfl)
theorem dX3_behind_81 : decode cX3_behind 81 = .ok (.istore 4, 2) := dk_54 4 (dk_at dksX3_behind_3 9 rfl rfl)
theorem dX3_behind_83 : decode cX3_behind 83 = .ok (.iload_n 3, 1) := dk_29 (dk_at dksX3_behind_3 11 rfl rfl)
theorem dX3_behind_84 : decode cX3_behind 84 = .ok (.iload 5, 2) := dk_21 5 (dk_at dksX3_behind_3 12 rfl rfl)
theorem dX3_behind_86 : decode cX3_behind 86 = .ok (.ior, 1) := dk_128 (dk_at dksX3_behind_3 14 rfl rfl)
theorem dX3_behind_87 : decode cX3_behind 87 = .ok (.istore_n 3, 1) := dk_62 (dk_at dksX3_behind_3 15 rfl rfl)
theorem dX3_behind_88 : decode cX3_behind 88 = .ok (.goto (-81), 3) := dk_167 255 175 (dk_at dksX3_behind_3 16 rfl rfl)
theorem dX3_behind_91 : decode cX3_behind 91 = .ok (.iload_n 3, 1) := dk_29 (dk_at dksX3_behind_3 19 rfl rfl)
theorem dX3_behind_92 : decode cX3_behind 92 = .ok (.ireturn, 1) := dk_172 (dk_at dksX3_behind_3 20 rfl rfl)
abbrev cX3_feed : ByteArray := prog_21_method_18_code
def yX3_feed : MethodName := ⟨RX3, "feed", "(IIIII)I"⟩
def dkwX3_feed_4 : List UInt8 := [84, 132, 6, 1, 167, 255, 172, 42, 89, 180, 0, 191, 16, 20, 96, 181, 0, 191, 42, 180, 0, 191, 172]
abbrev dktX3_feed_4 : List UInt8 := dkwX3_feed_4 ++ []
def dkwX3_feed_3 : List UInt8 := [180, 0, 23, 42, 180, 0, 191, 21, 6, 96, 21, 7, 16, 24, 16, 8, 21, 6, 7, 112, 104, 100, 122, 145]
abbrev dktX3_feed_3 : List UInt8 := dkwX3_feed_3 ++ dktX3_feed_4
def dkwX3_feed_2 : List UInt8 := [162, 0, 7, 29, 167, 0, 17, 21, 6, 16, 16, 162, 0, 8, 21, 4, 167, 0, 5, 21, 5, 54, 7, 42]
abbrev dktX3_feed_2 : List UInt8 := dkwX3_feed_2 ++ dktX3_feed_3
def dkwX3_feed_1 : List UInt8 := [162, 0, 7, 27, 167, 0, 39, 21, 6, 16, 8, 162, 0, 7, 28, 167, 0, 28, 21, 6, 16, 12]
abbrev dktX3_feed_1 : List UInt8 := dkwX3_feed_1 ++ dktX3_feed_2
def dkwX3_feed_0 : List UInt8 := [42, 180, 0, 191, 16, 100, 164, 0, 5, 2, 172, 3, 54, 6, 21, 6, 16, 20, 162, 0, 83, 21, 6, 7]
abbrev dktX3_feed_0 : List UInt8 := dkwX3_feed_0 ++ dktX3_feed_1
theorem dksX3_feed_0 : cX3_feed.data.toList.drop 0 = dktX3_feed_0 := by decide +kernel
theorem dksX3_feed_1 : cX3_feed.data.toList.drop 24 = dktX3_feed_1 := dk_seg dksX3_feed_0 24 rfl rfl
theorem dksX3_feed_2 : cX3_feed.data.toList.drop 46 = dktX3_feed_2 := dk_seg dksX3_feed_1 22 rfl rfl
theorem dksX3_feed_3 : cX3_feed.data.toList.drop 70 = dktX3_feed_3 := dk_seg dksX3_feed_2 24 rfl rfl
theorem dksX3_feed_4 : cX3_feed.data.toList.drop 94 = dktX3_feed_4 := dk_seg dksX3_feed_3 24 rfl rfl
theorem dX3_feed_0 : decode cX3_feed 0 = .ok (.aload_n 0, 1) := dk_42 (dk_at dksX3_feed_0 0 rfl rfl)
theorem dX3_feed_1 : decode cX3_feed 1 = .ok (.getfield 191, 3) := dk_180 0 191 (dk_at dksX3_feed_0 1 rfl rfl)
theorem dX3_feed_4 : decode cX3_feed 4 = .ok (.bipush 100, 2) := dk_16 100 (dk_at dksX3_feed_0 4 rfl rfl)
theorem dX3_feed_6 : decode cX3_feed 6 = .ok (.if_icmp .le 5, 3) := dk_164 0 5 (dk_at dksX3_feed_0 6 rfl rfl)
theorem dX3_feed_9 : decode cX3_feed 9 = .ok (.iconst (-1), 1) := dk_2 (dk_at dksX3_feed_0 9 rfl rfl)
theorem dX3_feed_10 : decode cX3_feed 10 = .ok (.ireturn, 1) := dk_172 (dk_at dksX3_feed_0 10 rfl rfl)
theorem dX3_feed_11 : decode cX3_feed 11 = .ok (.iconst 0, 1) := dk_3 (dk_at dksX3_feed_0 11 rfl rfl)
theorem dX3_feed_12 : decode cX3_feed 12 = .ok (.istore 6, 2) := dk_54 6 (dk_at dksX3_feed_0 12 rfl rfl)
theorem dX3_feed_14 : decode cX3_feed 14 = .ok (.iload 6, 2) := dk_21 6 (dk_at dksX3_feed_0 14 rfl rfl)
theorem dX3_feed_16 : decode cX3_feed 16 = .ok (.bipush 20, 2) := dk_16 20 (dk_at dksX3_feed_0 16 rfl rfl)
theorem dX3_feed_18 : decode cX3_feed 18 = .ok (.if_icmp .ge 83, 3) := dk_162 0 83 (dk_at dksX3_feed_0 18 rfl rfl)
theorem dX3_feed_21 : decode cX3_feed 21 = .ok (.iload 6, 2) := dk_21 6 (dk_at dksX3_feed_0 21 rfl rfl)
theorem dX3_feed_23 : decode cX3_feed 23 = .ok (.iconst 4, 1) := dk_7 (dk_at dksX3_feed_0 23 rfl rfl)
theorem dX3_feed_24 : decode cX3_feed 24 = .ok (.if_icmp .ge 7, 3) := dk_162 0 7 (dk_at dksX3_feed_1 0 rfl rfl)
theorem dX3_feed_27 : decode cX3_feed 27 = .ok (.iload_n 1, 1) := dk_27 (dk_at dksX3_feed_1 3 rfl rfl)
theorem dX3_feed_28 : decode cX3_feed 28 = .ok (.goto 39, 3) := dk_167 0 39 (dk_at dksX3_feed_1 4 rfl rfl)
theorem dX3_feed_31 : decode cX3_feed 31 = .ok (.iload 6, 2) := dk_21 6 (dk_at dksX3_feed_1 7 rfl rfl)
theorem dX3_feed_33 : decode cX3_feed 33 = .ok (.bipush 8, 2) := dk_16 8 (dk_at dksX3_feed_1 9 rfl rfl)
theorem dX3_feed_35 : decode cX3_feed 35 = .ok (.if_icmp .ge 7, 3) := dk_162 0 7 (dk_at dksX3_feed_1 11 rfl rfl)
theorem dX3_feed_38 : decode cX3_feed 38 = .ok (.iload_n 2, 1) := dk_28 (dk_at dksX3_feed_1 14 rfl rfl)
theorem dX3_feed_39 : decode cX3_feed 39 = .ok (.goto 28, 3) := dk_167 0 28 (dk_at dksX3_feed_1 15 rfl rfl)
theorem dX3_feed_42 : decode cX3_feed 42 = .ok (.iload 6, 2) := dk_21 6 (dk_at dksX3_feed_1 18 rfl rfl)
theorem dX3_feed_44 : decode cX3_feed 44 = .ok (.bipush 12, 2) := dk_16 12 (dk_at dksX3_feed_1 20 rfl rfl)
theorem dX3_feed_46 : decode cX3_feed 46 = .ok (.if_icmp .ge 7, 3) := dk_162 0 7 (dk_at dksX3_feed_2 0 rfl rfl)
theorem dX3_feed_49 : decode cX3_feed 49 = .ok (.iload_n 3, 1) := dk_29 (dk_at dksX3_feed_2 3 rfl rfl)
theorem dX3_feed_50 : decode cX3_feed 50 = .ok (.goto 17, 3) := dk_167 0 17 (dk_at dksX3_feed_2 4 rfl rfl)
theorem dX3_feed_53 : decode cX3_feed 53 = .ok (.iload 6, 2) := dk_21 6 (dk_at dksX3_feed_2 7 rfl rfl)
theorem dX3_feed_55 : decode cX3_feed 55 = .ok (.bipush 16, 2) := dk_16 16 (dk_at dksX3_feed_2 9 rfl rfl)
theorem dX3_feed_57 : decode cX3_feed 57 = .ok (.if_icmp .ge 8, 3) := dk_162 0 8 (dk_at dksX3_feed_2 11 rfl rfl)
theorem dX3_feed_60 : decode cX3_feed 60 = .ok (.iload 4, 2) := dk_21 4 (dk_at dksX3_feed_2 14 rfl rfl)
theorem dX3_feed_62 : decode cX3_feed 62 = .ok (.goto 5, 3) := dk_167 0 5 (dk_at dksX3_feed_2 16 rfl rfl)
theorem dX3_feed_65 : decode cX3_feed 65 = .ok (.iload 5, 2) := dk_21 5 (dk_at dksX3_feed_2 19 rfl rfl)
theorem dX3_feed_67 : decode cX3_feed 67 = .ok (.istore 7, 2) := dk_54 7 (dk_at dksX3_feed_2 21 rfl rfl)
theorem dX3_feed_69 : decode cX3_feed 69 = .ok (.aload_n 0, 1) := dk_42 (dk_at dksX3_feed_2 23 rfl rfl)
theorem dX3_feed_70 : decode cX3_feed 70 = .ok (.getfield 23, 3) := dk_180 0 23 (dk_at dksX3_feed_3 0 rfl rfl)
theorem dX3_feed_73 : decode cX3_feed 73 = .ok (.aload_n 0, 1) := dk_42 (dk_at dksX3_feed_3 3 rfl rfl)
theorem dX3_feed_74 : decode cX3_feed 74 = .ok (.getfield 191, 3) := dk_180 0 191 (dk_at dksX3_feed_3 4 rfl rfl)
theorem dX3_feed_77 : decode cX3_feed 77 = .ok (.iload 6, 2) := dk_21 6 (dk_at dksX3_feed_3 7 rfl rfl)
theorem dX3_feed_79 : decode cX3_feed 79 = .ok (.iadd, 1) := dk_96 (dk_at dksX3_feed_3 9 rfl rfl)
theorem dX3_feed_80 : decode cX3_feed 80 = .ok (.iload 7, 2) := dk_21 7 (dk_at dksX3_feed_3 10 rfl rfl)
theorem dX3_feed_82 : decode cX3_feed 82 = .ok (.bipush 24, 2) := dk_16 24 (dk_at dksX3_feed_3 12 rfl rfl)
theorem dX3_feed_84 : decode cX3_feed 84 = .ok (.bipush 8, 2) := dk_16 8 (dk_at dksX3_feed_3 14 rfl rfl)
theorem dX3_feed_86 : decode cX3_feed 86 = .ok (.iload 6, 2) := dk_21 6 (dk_at dksX3_feed_3 16 rfl rfl)
theorem dX3_feed_88 : decode cX3_feed 88 = .ok (.iconst 4, 1) := dk_7 (dk_at dksX3_feed_3 18 rfl rfl)
theorem dX3_feed_89 : decode cX3_feed 89 = .ok (.irem, 1) := dk_112 (dk_at dksX3_feed_3 19 rfl rfl)
theorem dX3_feed_90 : decode cX3_feed 90 = .ok (.imul, 1) := dk_104 (dk_at dksX3_feed_3 20 rfl rfl)
theorem dX3_feed_91 : decode cX3_feed 91 = .ok (.isub, 1) := dk_100 (dk_at dksX3_feed_3 21 rfl rfl)
theorem dX3_feed_92 : decode cX3_feed 92 = .ok (.ishr, 1) := dk_122 (dk_at dksX3_feed_3 22 rfl rfl)
theorem dX3_feed_93 : decode cX3_feed 93 = .ok (.i2b, 1) := dk_145 (dk_at dksX3_feed_3 23 rfl rfl)
theorem dX3_feed_94 : decode cX3_feed 94 = .ok (.bastore, 1) := dk_84 (dk_at dksX3_feed_4 0 rfl rfl)
theorem dX3_feed_95 : decode cX3_feed 95 = .ok (.iinc 6 1, 3) := dk_132 6 1 (dk_at dksX3_feed_4 1 rfl rfl)
theorem dX3_feed_98 : decode cX3_feed 98 = .ok (.goto (-84), 3) := dk_167 255 172 (dk_at dksX3_feed_4 4 rfl rfl)
theorem dX3_feed_101 : decode cX3_feed 101 = .ok (.aload_n 0, 1) := dk_42 (dk_at dksX3_feed_4 7 rfl rfl)
theorem dX3_feed_102 : decode cX3_feed 102 = .ok (.dup, 1) := dk_89 (dk_at dksX3_feed_4 8 rfl rfl)
theorem dX3_feed_103 : decode cX3_feed 103 = .ok (.getfield 191, 3) := dk_180 0 191 (dk_at dksX3_feed_4 9 rfl rfl)
theorem dX3_feed_106 : decode cX3_feed 106 = .ok (.bipush 20, 2) := dk_16 20 (dk_at dksX3_feed_4 12 rfl rfl)
theorem dX3_feed_108 : decode cX3_feed 108 = .ok (.iadd, 1) := dk_96 (dk_at dksX3_feed_4 14 rfl rfl)
theorem dX3_feed_109 : decode cX3_feed 109 = .ok (.putfield 191, 3) := dk_181 0 191 (dk_at dksX3_feed_4 15 rfl rfl)
theorem dX3_feed_112 : decode cX3_feed 112 = .ok (.aload_n 0, 1) := dk_42 (dk_at dksX3_feed_4 18 rfl rfl)
theorem dX3_feed_113 : decode cX3_feed 113 = .ok (.getfield 191, 3) := dk_180 0 191 (dk_at dksX3_feed_4 19 rfl rfl)
theorem dX3_feed_116 : decode cX3_feed 116 = .ok (.ireturn, 1) := dk_172 (dk_at dksX3_feed_4 22 rfl rfl)
abbrev cX3_end : ByteArray := prog_21_method_19_code
def yX3_end : MethodName := ⟨RX3, "end", "(I)I"⟩
def dkwX3_end_0 : List UInt8 := [27, 133, 9, 42, 180, 0, 191, 133, 184, 0, 158, 154, 0, 5, 2, 172, 42, 27, 181, 0, 191, 27, 172]
abbrev dktX3_end_0 : List UInt8 := dkwX3_end_0 ++ []
theorem dksX3_end_0 : cX3_end.data.toList.drop 0 = dktX3_end_0 := by decide +kernel
theorem dX3_end_0 : decode cX3_end 0 = .ok (.iload_n 1, 1) := dk_27 (dk_at dksX3_end_0 0 rfl rfl)
theorem dX3_end_1 : decode cX3_end 1 = .ok (.i2l, 1) := dk_133 (dk_at dksX3_end_0 1 rfl rfl)
theorem dX3_end_2 : decode cX3_end 2 = .ok (.lconst 0, 1) := dk_9 (dk_at dksX3_end_0 2 rfl rfl)
theorem dX3_end_3 : decode cX3_end 3 = .ok (.aload_n 0, 1) := dk_42 (dk_at dksX3_end_0 3 rfl rfl)
theorem dX3_end_4 : decode cX3_end 4 = .ok (.getfield 191, 3) := dk_180 0 191 (dk_at dksX3_end_0 4 rfl rfl)
theorem dX3_end_7 : decode cX3_end 7 = .ok (.i2l, 1) := dk_133 (dk_at dksX3_end_0 7 rfl rfl)
theorem dX3_end_8 : decode cX3_end 8 = .ok (.invokestatic 158, 3) := dk_184 0 158 (dk_at dksX3_end_0 8 rfl rfl)
theorem dX3_end_11 : decode cX3_end 11 = .ok (.ifCond .ne 5, 3) := dk_154 0 5 (dk_at dksX3_end_0 11 rfl rfl)
theorem dX3_end_14 : decode cX3_end 14 = .ok (.iconst (-1), 1) := dk_2 (dk_at dksX3_end_0 14 rfl rfl)
theorem dX3_end_15 : decode cX3_end 15 = .ok (.ireturn, 1) := dk_172 (dk_at dksX3_end_0 15 rfl rfl)
theorem dX3_end_16 : decode cX3_end 16 = .ok (.aload_n 0, 1) := dk_42 (dk_at dksX3_end_0 16 rfl rfl)
theorem dX3_end_17 : decode cX3_end 17 = .ok (.iload_n 1, 1) := dk_27 (dk_at dksX3_end_0 17 rfl rfl)
theorem dX3_end_18 : decode cX3_end 18 = .ok (.putfield 191, 3) := dk_181 0 191 (dk_at dksX3_end_0 18 rfl rfl)
theorem dX3_end_21 : decode cX3_end 21 = .ok (.iload_n 1, 1) := dk_27 (dk_at dksX3_end_0 21 rfl rfl)
theorem dX3_end_22 : decode cX3_end 22 = .ok (.ireturn, 1) := dk_172 (dk_at dksX3_end_0 22 rfl rfl)
abbrev cX3_tell : ByteArray := prog_21_method_34_code
def yX3_tell : MethodName := ⟨RX3, "tell", "(I)I"⟩
def dkwX3_tell_3 : List UInt8 := [180, 0, 7, 29, 42, 180, 0, 27, 29, 46, 79, 132, 3, 1, 167, 255, 235, 42, 180, 0, 7, 3, 46, 172]
abbrev dktX3_tell_3 : List UInt8 := dkwX3_tell_3 ++ []
def dkwX3_tell_2 : List UInt8 := [154, 0, 11, 16, 254, 42, 180, 0, 204, 100, 172, 42, 182, 0, 169, 3, 62, 29, 16, 17, 162, 0, 21, 42]
abbrev dktX3_tell_2 : List UInt8 := dkwX3_tell_2 ++ dktX3_tell_3
def dkwX3_tell_1 : List UInt8 := [27, 154, 0, 10, 42, 182, 0, 249, 167, 0, 7, 42, 182, 0, 252, 61, 42, 3, 181, 0, 191, 28]
abbrev dktX3_tell_1 : List UInt8 := dkwX3_tell_1 ++ dktX3_tell_2
def dkwX3_tell_0 : List UInt8 := [27, 133, 9, 10, 184, 0, 158, 154, 0, 5, 2, 172, 42, 3, 181, 0, 194, 42, 180, 0, 27, 3, 3, 79]
abbrev dktX3_tell_0 : List UInt8 := dkwX3_tell_0 ++ dktX3_tell_1
theorem dksX3_tell_0 : cX3_tell.data.toList.drop 0 = dktX3_tell_0 := by decide +kernel
theorem dksX3_tell_1 : cX3_tell.data.toList.drop 24 = dktX3_tell_1 := dk_seg dksX3_tell_0 24 rfl rfl
theorem dksX3_tell_2 : cX3_tell.data.toList.drop 46 = dktX3_tell_2 := dk_seg dksX3_tell_1 22 rfl rfl
theorem dksX3_tell_3 : cX3_tell.data.toList.drop 70 = dktX3_tell_3 := dk_seg dksX3_tell_2 24 rfl rfl
theorem dX3_tell_0 : decode cX3_tell 0 = .ok (.iload_n 1, 1) := dk_27 (dk_at dksX3_tell_0 0 rfl rfl)
theorem dX3_tell_1 : decode cX3_tell 1 = .ok (.i2l, 1) := dk_133 (dk_at dksX3_tell_0 1 rfl rfl)
theorem dX3_tell_2 : decode cX3_tell 2 = .ok (.lconst 0, 1) := dk_9 (dk_at dksX3_tell_0 2 rfl rfl)
theorem dX3_tell_3 : decode cX3_tell 3 = .ok (.lconst 1, 1) := dk_10 (dk_at dksX3_tell_0 3 rfl rfl)
theorem dX3_tell_4 : decode cX3_tell 4 = .ok (.invokestatic 158, 3) := dk_184 0 158 (dk_at dksX3_tell_0 4 rfl rfl)
theorem dX3_tell_7 : decode cX3_tell 7 = .ok (.ifCond .ne 5, 3) := dk_154 0 5 (dk_at dksX3_tell_0 7 rfl rfl)
theorem dX3_tell_10 : decode cX3_tell 10 = .ok (.iconst (-1), 1) := dk_2 (dk_at dksX3_tell_0 10 rfl rfl)
theorem dX3_tell_11 : decode cX3_tell 11 = .ok (.ireturn, 1) := dk_172 (dk_at dksX3_tell_0 11 rfl rfl)
theorem dX3_tell_12 : decode cX3_tell 12 = .ok (.aload_n 0, 1) := dk_42 (dk_at dksX3_tell_0 12 rfl rfl)
theorem dX3_tell_13 : decode cX3_tell 13 = .ok (.iconst 0, 1) := dk_3 (dk_at dksX3_tell_0 13 rfl rfl)
theorem dX3_tell_14 : decode cX3_tell 14 = .ok (.putfield 194, 3) := dk_181 0 194 (dk_at dksX3_tell_0 14 rfl rfl)
theorem dX3_tell_17 : decode cX3_tell 17 = .ok (.aload_n 0, 1) := dk_42 (dk_at dksX3_tell_0 17 rfl rfl)
theorem dX3_tell_18 : decode cX3_tell 18 = .ok (.getfield 27, 3) := dk_180 0 27 (dk_at dksX3_tell_0 18 rfl rfl)
theorem dX3_tell_21 : decode cX3_tell 21 = .ok (.iconst 0, 1) := dk_3 (dk_at dksX3_tell_0 21 rfl rfl)
theorem dX3_tell_22 : decode cX3_tell 22 = .ok (.iconst 0, 1) := dk_3 (dk_at dksX3_tell_0 22 rfl rfl)
theorem dX3_tell_23 : decode cX3_tell 23 = .ok (.iastore, 1) := dk_79 (dk_at dksX3_tell_0 23 rfl rfl)
theorem dX3_tell_24 : decode cX3_tell 24 = .ok (.iload_n 1, 1) := dk_27 (dk_at dksX3_tell_1 0 rfl rfl)
theorem dX3_tell_25 : decode cX3_tell 25 = .ok (.ifCond .ne 10, 3) := dk_154 0 10 (dk_at dksX3_tell_1 1 rfl rfl)
theorem dX3_tell_28 : decode cX3_tell 28 = .ok (.aload_n 0, 1) := dk_42 (dk_at dksX3_tell_1 4 rfl rfl)
theorem dX3_tell_29 : decode cX3_tell 29 = .ok (.invokevirtual 249, 3) := dk_182 0 249 (dk_at dksX3_tell_1 5 rfl rfl)
theorem dX3_tell_32 : decode cX3_tell 32 = .ok (.goto 7, 3) := dk_167 0 7 (dk_at dksX3_tell_1 8 rfl rfl)
theorem dX3_tell_35 : decode cX3_tell 35 = .ok (.aload_n 0, 1) := dk_42 (dk_at dksX3_tell_1 11 rfl rfl)
theorem dX3_tell_36 : decode cX3_tell 36 = .ok (.invokevirtual 252, 3) := dk_182 0 252 (dk_at dksX3_tell_1 12 rfl rfl)
theorem dX3_tell_39 : decode cX3_tell 39 = .ok (.istore_n 2, 1) := dk_61 (dk_at dksX3_tell_1 15 rfl rfl)
theorem dX3_tell_40 : decode cX3_tell 40 = .ok (.aload_n 0, 1) := dk_42 (dk_at dksX3_tell_1 16 rfl rfl)
theorem dX3_tell_41 : decode cX3_tell 41 = .ok (.iconst 0, 1) := dk_3 (dk_at dksX3_tell_1 17 rfl rfl)
theorem dX3_tell_42 : decode cX3_tell 42 = .ok (.putfield 191, 3) := dk_181 0 191 (dk_at dksX3_tell_1 18 rfl rfl)
theorem dX3_tell_45 : decode cX3_tell 45 = .ok (.iload_n 2, 1) := dk_28 (dk_at dksX3_tell_1 21 rfl rfl)
theorem dX3_tell_46 : decode cX3_tell 46 = .ok (.ifCond .ne 11, 3) := dk_154 0 11 (dk_at dksX3_tell_2 0 rfl rfl)
theorem dX3_tell_49 : decode cX3_tell 49 = .ok (.bipush (-2), 2) := dk_16 254 (dk_at dksX3_tell_2 3 rfl rfl)
theorem dX3_tell_51 : decode cX3_tell 51 = .ok (.aload_n 0, 1) := dk_42 (dk_at dksX3_tell_2 5 rfl rfl)
theorem dX3_tell_52 : decode cX3_tell 52 = .ok (.getfield 204, 3) := dk_180 0 204 (dk_at dksX3_tell_2 6 rfl rfl)
theorem dX3_tell_55 : decode cX3_tell 55 = .ok (.isub, 1) := dk_100 (dk_at dksX3_tell_2 9 rfl rfl)
theorem dX3_tell_56 : decode cX3_tell 56 = .ok (.ireturn, 1) := dk_172 (dk_at dksX3_tell_2 10 rfl rfl)
theorem dX3_tell_57 : decode cX3_tell 57 = .ok (.aload_n 0, 1) := dk_42 (dk_at dksX3_tell_2 11 rfl rfl)
theorem dX3_tell_58 : decode cX3_tell 58 = .ok (.invokevirtual 169, 3) := dk_182 0 169 (dk_at dksX3_tell_2 12 rfl rfl)
theorem dX3_tell_61 : decode cX3_tell 61 = .ok (.iconst 0, 1) := dk_3 (dk_at dksX3_tell_2 15 rfl rfl)
theorem dX3_tell_62 : decode cX3_tell 62 = .ok (.istore_n 3, 1) := dk_62 (dk_at dksX3_tell_2 16 rfl rfl)
theorem dX3_tell_63 : decode cX3_tell 63 = .ok (.iload_n 3, 1) := dk_29 (dk_at dksX3_tell_2 17 rfl rfl)
theorem dX3_tell_64 : decode cX3_tell 64 = .ok (.bipush 17, 2) := dk_16 17 (dk_at dksX3_tell_2 18 rfl rfl)
theorem dX3_tell_66 : decode cX3_tell 66 = .ok (.if_icmp .ge 21, 3) := dk_162 0 21 (dk_at dksX3_tell_2 20 rfl rfl)
theorem dX3_tell_69 : decode cX3_tell 69 = .ok (.aload_n 0, 1) := dk_42 (dk_at dksX3_tell_2 23 rfl rfl)
theorem dX3_tell_70 : decode cX3_tell 70 = .ok (.getfield 7, 3) := dk_180 0 7 (dk_at dksX3_tell_3 0 rfl rfl)
theorem dX3_tell_73 : decode cX3_tell 73 = .ok (.iload_n 3, 1) := dk_29 (dk_at dksX3_tell_3 3 rfl rfl)
theorem dX3_tell_74 : decode cX3_tell 74 = .ok (.aload_n 0, 1) := dk_42 (dk_at dksX3_tell_3 4 rfl rfl)
theorem dX3_tell_75 : decode cX3_tell 75 = .ok (.getfield 27, 3) := dk_180 0 27 (dk_at dksX3_tell_3 5 rfl rfl)
theorem dX3_tell_78 : decode cX3_tell 78 = .ok (.iload_n 3, 1) := dk_29 (dk_at dksX3_tell_3 8 rfl rfl)
theorem dX3_tell_79 : decode cX3_tell 79 = .ok (.iaload, 1) := dk_46 (dk_at dksX3_tell_3 9 rfl rfl)
theorem dX3_tell_80 : decode cX3_tell 80 = .ok (.iastore, 1) := dk_79 (dk_at dksX3_tell_3 10 rfl rfl)
theorem dX3_tell_81 : decode cX3_tell 81 = .ok (.iinc 3 1, 3) := dk_132 3 1 (dk_at dksX3_tell_3 11 rfl rfl)
theorem dX3_tell_84 : decode cX3_tell 84 = .ok (.goto (-21), 3) := dk_167 255 235 (dk_at dksX3_tell_3 14 rfl rfl)
theorem dX3_tell_87 : decode cX3_tell 87 = .ok (.aload_n 0, 1) := dk_42 (dk_at dksX3_tell_3 17 rfl rfl)
theorem dX3_tell_88 : decode cX3_tell 88 = .ok (.getfield 7, 3) := dk_180 0 7 (dk_at dksX3_tell_3 18 rfl rfl)
theorem dX3_tell_91 : decode cX3_tell 91 = .ok (.iconst 0, 1) := dk_3 (dk_at dksX3_tell_3 21 rfl rfl)
theorem dX3_tell_92 : decode cX3_tell 92 = .ok (.iaload, 1) := dk_46 (dk_at dksX3_tell_3 22 rfl rfl)
theorem dX3_tell_93 : decode cX3_tell 93 = .ok (.ireturn, 1) := dk_172 (dk_at dksX3_tell_3 23 rfl rfl)
abbrev cX3_readsBonds : ByteArray := prog_21_method_29_code
def yX3_readsBonds : MethodName := ⟨RX3, "readsBonds", "()Z"⟩
def dkwX3_readsBonds_2 : List UInt8 := [159, 0, 7, 4, 167, 0, 4, 3, 61, 167, 255, 210, 27, 172]
abbrev dktX3_readsBonds_2 : List UInt8 := dkwX3_readsBonds_2 ++ []
def dkwX3_readsBonds_1 : List UInt8 := [42, 182, 0, 229, 2, 159, 0, 29, 42, 182, 0, 229, 62, 42, 28, 182, 0, 235, 60, 29, 16, 40]
abbrev dktX3_readsBonds_1 : List UInt8 := dkwX3_readsBonds_1 ++ dktX3_readsBonds_2
def dkwX3_readsBonds_0 : List UInt8 := [42, 3, 181, 0, 226, 4, 60, 3, 61, 27, 153, 0, 48, 28, 153, 0, 18, 42, 180, 0, 226, 157, 0, 11]
abbrev dktX3_readsBonds_0 : List UInt8 := dkwX3_readsBonds_0 ++ dktX3_readsBonds_1
theorem dksX3_readsBonds_0 : cX3_readsBonds.data.toList.drop 0 = dktX3_readsBonds_0 := by decide +kernel
theorem dksX3_readsBonds_1 : cX3_readsBonds.data.toList.drop 24 = dktX3_readsBonds_1 := dk_seg dksX3_readsBonds_0 24 rfl rfl
theorem dksX3_readsBonds_2 : cX3_readsBonds.data.toList.drop 46 = dktX3_readsBonds_2 := dk_seg dksX3_readsBonds_1 22 rfl rfl
theorem dX3_readsBonds_0 : decode cX3_readsBonds 0 = .ok (.aload_n 0, 1) := dk_42 (dk_at dksX3_readsBonds_0 0 rfl rfl)
theorem dX3_readsBonds_1 : decode cX3_readsBonds 1 = .ok (.iconst 0, 1) := dk_3 (dk_at dksX3_readsBonds_0 1 rfl rfl)
theorem dX3_readsBonds_2 : decode cX3_readsBonds 2 = .ok (.putfield 226, 3) := dk_181 0 226 (dk_at dksX3_readsBonds_0 2 rfl rfl)
theorem dX3_readsBonds_5 : decode cX3_readsBonds 5 = .ok (.iconst 1, 1) := dk_4 (dk_at dksX3_readsBonds_0 5 rfl rfl)
theorem dX3_readsBonds_6 : decode cX3_readsBonds 6 = .ok (.istore_n 1, 1) := dk_60 (dk_at dksX3_readsBonds_0 6 rfl rfl)
theorem dX3_readsBonds_7 : decode cX3_readsBonds 7 = .ok (.iconst 0, 1) := dk_3 (dk_at dksX3_readsBonds_0 7 rfl rfl)
theorem dX3_readsBonds_8 : decode cX3_readsBonds 8 = .ok (.istore_n 2, 1) := dk_61 (dk_at dksX3_readsBonds_0 8 rfl rfl)
theorem dX3_readsBonds_9 : decode cX3_readsBonds 9 = .ok (.iload_n 1, 1) := dk_27 (dk_at dksX3_readsBonds_0 9 rfl rfl)
theorem dX3_readsBonds_10 : decode cX3_readsBonds 10 = .ok (.ifCond .eq 48, 3) := dk_153 0 48 (dk_at dksX3_readsBonds_0 10 rfl rfl)
theorem dX3_readsBonds_13 : decode cX3_readsBonds 13 = .ok (.iload_n 2, 1) := dk_28 (dk_at dksX3_readsBonds_0 13 rfl rfl)
theorem dX3_readsBonds_14 : decode cX3_readsBonds 14 = .ok (.ifCond .eq 18, 3) := dk_153 0 18 (dk_at dksX3_readsBonds_0 14 rfl rfl)
theorem dX3_readsBonds_17 : decode cX3_readsBonds 17 = .ok (.aload_n 0, 1) := dk_42 (dk_at dksX3_readsBonds_0 17 rfl rfl)
theorem dX3_readsBonds_18 : decode cX3_readsBonds 18 = .ok (.getfield 226, 3) := dk_180 0 226 (dk_at dksX3_readsBonds_0 18 rfl rfl)
theorem dX3_readsBonds_21 : decode cX3_readsBonds 21 = .ok (.ifCond .gt 11, 3) := dk_157 0 11 (dk_at dksX3_readsBonds_0 21 rfl rfl)
theorem dX3_readsBonds_24 : decode cX3_readsBonds 24 = .ok (.aload_n 0, 1) := dk_42 (dk_at dksX3_readsBonds_1 0 rfl rfl)
theorem dX3_readsBonds_25 : decode cX3_readsBonds 25 = .ok (.invokevirtual 229, 3) := dk_182 0 229 (dk_at dksX3_readsBonds_1 1 rfl rfl)
theorem dX3_readsBonds_28 : decode cX3_readsBonds 28 = .ok (.iconst (-1), 1) := dk_2 (dk_at dksX3_readsBonds_1 4 rfl rfl)
theorem dX3_readsBonds_29 : decode cX3_readsBonds 29 = .ok (.if_icmp .eq 29, 3) := dk_159 0 29 (dk_at dksX3_readsBonds_1 5 rfl rfl)
theorem dX3_readsBonds_32 : decode cX3_readsBonds 32 = .ok (.aload_n 0, 1) := dk_42 (dk_at dksX3_readsBonds_1 8 rfl rfl)
theorem dX3_readsBonds_33 : decode cX3_readsBonds 33 = .ok (.invokevirtual 229, 3) := dk_182 0 229 (dk_at dksX3_readsBonds_1 9 rfl rfl)
theorem dX3_readsBonds_36 : decode cX3_readsBonds 36 = .ok (.istore_n 3, 1) := dk_62 (dk_at dksX3_readsBonds_1 12 rfl rfl)
theorem dX3_readsBonds_37 : decode cX3_readsBonds 37 = .ok (.aload_n 0, 1) := dk_42 (dk_at dksX3_readsBonds_1 13 rfl rfl)
theorem dX3_readsBonds_38 : decode cX3_readsBonds 38 = .ok (.iload_n 2, 1) := dk_28 (dk_at dksX3_readsBonds_1 14 rfl rfl)
theorem dX3_readsBonds_39 : decode cX3_readsBonds 39 = .ok (.invokevirtual 235, 3) := dk_182 0 235 (dk_at dksX3_readsBonds_1 15 rfl rfl)
theorem dX3_readsBonds_42 : decode cX3_readsBonds 42 = .ok (.istore_n 1, 1) := dk_60 (dk_at dksX3_readsBonds_1 18 rfl rfl)
theorem dX3_readsBonds_43 : decode cX3_readsBonds 43 = .ok (.iload_n 3, 1) := dk_29 (dk_at dksX3_readsBonds_1 19 rfl rfl)
theorem dX3_readsBonds_44 : decode cX3_readsBonds 44 = .ok (.bipush 40, 2) := dk_16 40 (dk_at dksX3_readsBonds_1 20 rfl rfl)
theorem dX3_readsBonds_46 : decode cX3_readsBonds 46 = .ok (.if_icmp .eq 7, 3) := dk_159 0 7 (dk_at dksX3_readsBonds_2 0 rfl rfl)
theorem dX3_readsBonds_49 : decode cX3_readsBonds 49 = .ok (.iconst 1, 1) := dk_4 (dk_at dksX3_readsBonds_2 3 rfl rfl)
theorem dX3_readsBonds_50 : decode cX3_readsBonds 50 = .ok (.goto 4, 3) := dk_167 0 4 (dk_at dksX3_readsBonds_2 4 rfl rfl)
theorem dX3_readsBonds_53 : decode cX3_readsBonds 53 = .ok (.iconst 0, 1) := dk_3 (dk_at dksX3_readsBonds_2 7 rfl rfl)
theorem dX3_readsBonds_54 : decode cX3_readsBonds 54 = .ok (.istore_n 2, 1) := dk_61 (dk_at dksX3_readsBonds_2 8 rfl rfl)
theorem dX3_readsBonds_55 : decode cX3_readsBonds 55 = .ok (.goto (-46), 3) := dk_167 255 210 (dk_at dksX3_readsBonds_2 9 rfl rfl)
theorem dX3_readsBonds_58 : decode cX3_readsBonds 58 = .ok (.iload_n 1, 1) := dk_27 (dk_at dksX3_readsBonds_2 12 rfl rfl)
theorem dX3_readsBonds_59 : decode cX3_readsBonds 59 = .ok (.ireturn, 1) := dk_172 (dk_at dksX3_readsBonds_2 13 rfl rfl)
abbrev cX3_passesBlanks : ByteArray := prog_21_method_26_code
def yX3_passesBlanks : MethodName := ⟨RX3, "passesBlanks", "()I"⟩
def dkwX3_passesBlanks_1 : List UInt8 := [167, 255, 233, 42, 42, 180, 0, 194, 182, 0, 197, 172]
abbrev dktX3_passesBlanks_1 : List UInt8 := dkwX3_passesBlanks_1 ++ []
def dkwX3_passesBlanks_0 : List UInt8 := [42, 42, 180, 0, 194, 182, 0, 197, 16, 32, 160, 0, 16, 42, 89, 180, 0, 194, 4, 96, 181, 0, 194]
abbrev dktX3_passesBlanks_0 : List UInt8 := dkwX3_passesBlanks_0 ++ dktX3_passesBlanks_1
theorem dksX3_passesBlanks_0 : cX3_passesBlanks.data.toList.drop 0 = dktX3_passesBlanks_0 := by decide +kernel
theorem dksX3_passesBlanks_1 : cX3_passesBlanks.data.toList.drop 23 = dktX3_passesBlanks_1 := dk_seg dksX3_passesBlanks_0 23 rfl rfl
theorem dX3_passesBlanks_0 : decode cX3_passesBlanks 0 = .ok (.aload_n 0, 1) := dk_42 (dk_at dksX3_passesBlanks_0 0 rfl rfl)
theorem dX3_passesBlanks_1 : decode cX3_passesBlanks 1 = .ok (.aload_n 0, 1) := dk_42 (dk_at dksX3_passesBlanks_0 1 rfl rfl)
theorem dX3_passesBlanks_2 : decode cX3_passesBlanks 2 = .ok (.getfield 194, 3) := dk_180 0 194 (dk_at dksX3_passesBlanks_0 2 rfl rfl)
theorem dX3_passesBlanks_5 : decode cX3_passesBlanks 5 = .ok (.invokevirtual 197, 3) := dk_182 0 197 (dk_at dksX3_passesBlanks_0 5 rfl rfl)
theorem dX3_passesBlanks_8 : decode cX3_passesBlanks 8 = .ok (.bipush 32, 2) := dk_16 32 (dk_at dksX3_passesBlanks_0 8 rfl rfl)
theorem dX3_passesBlanks_10 : decode cX3_passesBlanks 10 = .ok (.if_icmp .ne 16, 3) := dk_160 0 16 (dk_at dksX3_passesBlanks_0 10 rfl rfl)
theorem dX3_passesBlanks_13 : decode cX3_passesBlanks 13 = .ok (.aload_n 0, 1) := dk_42 (dk_at dksX3_passesBlanks_0 13 rfl rfl)
theorem dX3_passesBlanks_14 : decode cX3_passesBlanks 14 = .ok (.dup, 1) := dk_89 (dk_at dksX3_passesBlanks_0 14 rfl rfl)
theorem dX3_passesBlanks_15 : decode cX3_passesBlanks 15 = .ok (.getfield 194, 3) := dk_180 0 194 (dk_at dksX3_passesBlanks_0 15 rfl rfl)
theorem dX3_passesBlanks_18 : decode cX3_passesBlanks 18 = .ok (.iconst 1, 1) := dk_4 (dk_at dksX3_passesBlanks_0 18 rfl rfl)
theorem dX3_passesBlanks_19 : decode cX3_passesBlanks 19 = .ok (.iadd, 1) := dk_96 (dk_at dksX3_passesBlanks_0 19 rfl rfl)
theorem dX3_passesBlanks_20 : decode cX3_passesBlanks 20 = .ok (.putfield 194, 3) := dk_181 0 194 (dk_at dksX3_passesBlanks_0 20 rfl rfl)
theorem dX3_passesBlanks_23 : decode cX3_passesBlanks 23 = .ok (.goto (-23), 3) := dk_167 255 233 (dk_at dksX3_passesBlanks_1 0 rfl rfl)
theorem dX3_passesBlanks_26 : decode cX3_passesBlanks 26 = .ok (.aload_n 0, 1) := dk_42 (dk_at dksX3_passesBlanks_1 3 rfl rfl)
theorem dX3_passesBlanks_27 : decode cX3_passesBlanks 27 = .ok (.aload_n 0, 1) := dk_42 (dk_at dksX3_passesBlanks_1 4 rfl rfl)
theorem dX3_passesBlanks_28 : decode cX3_passesBlanks 28 = .ok (.getfield 194, 3) := dk_180 0 194 (dk_at dksX3_passesBlanks_1 5 rfl rfl)
theorem dX3_passesBlanks_31 : decode cX3_passesBlanks 31 = .ok (.invokevirtual 197, 3) := dk_182 0 197 (dk_at dksX3_passesBlanks_1 8 rfl rfl)
theorem dX3_passesBlanks_34 : decode cX3_passesBlanks 34 = .ok (.ireturn, 1) := dk_172 (dk_at dksX3_passesBlanks_1 11 rfl rfl)
abbrev cX3_byteAt : ByteArray := prog_21_method_20_code
def yX3_byteAt : MethodName := ⟨RX3, "byteAt", "(I)I"⟩
def dkwX3_byteAt_0 : List UInt8 := [27, 42, 180, 0, 191, 162, 0, 16, 42, 180, 0, 23, 27, 51, 17, 0, 255, 126, 167, 0, 4, 2, 172]
abbrev dktX3_byteAt_0 : List UInt8 := dkwX3_byteAt_0 ++ []
theorem dksX3_byteAt_0 : cX3_byteAt.data.toList.drop 0 = dktX3_byteAt_0 := by decide +kernel
theorem dX3_byteAt_0 : decode cX3_byteAt 0 = .ok (.iload_n 1, 1) := dk_27 (dk_at dksX3_byteAt_0 0 rfl rfl)
theorem dX3_byteAt_1 : decode cX3_byteAt 1 = .ok (.aload_n 0, 1) := dk_42 (dk_at dksX3_byteAt_0 1 rfl rfl)
theorem dX3_byteAt_2 : decode cX3_byteAt 2 = .ok (.getfield 191, 3) := dk_180 0 191 (dk_at dksX3_byteAt_0 2 rfl rfl)
theorem dX3_byteAt_5 : decode cX3_byteAt 5 = .ok (.if_icmp .ge 16, 3) := dk_162 0 16 (dk_at dksX3_byteAt_0 5 rfl rfl)
theorem dX3_byteAt_8 : decode cX3_byteAt 8 = .ok (.aload_n 0, 1) := dk_42 (dk_at dksX3_byteAt_0 8 rfl rfl)
theorem dX3_byteAt_9 : decode cX3_byteAt 9 = .ok (.getfield 23, 3) := dk_180 0 23 (dk_at dksX3_byteAt_0 9 rfl rfl)
theorem dX3_byteAt_12 : decode cX3_byteAt 12 = .ok (.iload_n 1, 1) := dk_27 (dk_at dksX3_byteAt_0 12 rfl rfl)
theorem dX3_byteAt_13 : decode cX3_byteAt 13 = .ok (.baload, 1) := dk_51 (dk_at dksX3_byteAt_0 13 rfl rfl)
theorem dX3_byteAt_14 : decode cX3_byteAt 14 = .ok (.sipush 255, 3) := dk_17 0 255 (dk_at dksX3_byteAt_0 14 rfl rfl)
theorem dX3_byteAt_17 : decode cX3_byteAt 17 = .ok (.iand, 1) := dk_126 (dk_at dksX3_byteAt_0 17 rfl rfl)
theorem dX3_byteAt_18 : decode cX3_byteAt 18 = .ok (.goto 4, 3) := dk_167 0 4 (dk_at dksX3_byteAt_0 18 rfl rfl)
theorem dX3_byteAt_21 : decode cX3_byteAt 21 = .ok (.iconst (-1), 1) := dk_2 (dk_at dksX3_byteAt_0 21 rfl rfl)
theorem dX3_byteAt_22 : decode cX3_byteAt 22 = .ok (.ireturn, 1) := dk_172 (dk_at dksX3_byteAt_0 22 rfl rfl)
abbrev cX3_readsBond : ByteArray := prog_21_method_28_code
def yX3_readsBond : MethodName := ⟨RX3, "readsBond", "(Z)Z"⟩
def dkwX3_readsBond_6 : List UInt8 := [4, 172]
abbrev dktX3_readsBond_6 : List UInt8 := dkwX3_readsBond_6 ++ []
def dkwX3_readsBond_5 : List UInt8 := [182, 0, 214, 172, 42, 89, 180, 0, 194, 4, 96, 181, 0, 194, 42, 89, 180, 0, 226, 4, 100, 181, 0, 226]
abbrev dktX3_readsBond_5 : List UInt8 := dkwX3_readsBond_5 ++ dktX3_readsBond_6
def dkwX3_readsBond_4 : List UInt8 := [153, 0, 16, 28, 16, 41, 160, 0, 10, 42, 180, 0, 226, 154, 0, 13, 42, 4, 42, 180, 0, 194]
abbrev dktX3_readsBond_4 : List UInt8 := dkwX3_readsBond_4 ++ dktX3_readsBond_5
def dkwX3_readsBond_3 : List UInt8 := [180, 0, 30, 42, 180, 0, 226, 42, 180, 0, 30, 42, 180, 0, 226, 4, 100, 46, 79, 4, 172, 27]
abbrev dktX3_readsBond_3 : List UInt8 := dkwX3_readsBond_3 ++ dktX3_readsBond_4
def dkwX3_readsBond_2 : List UInt8 := [160, 0, 45, 42, 89, 180, 0, 194, 4, 96, 181, 0, 194, 42, 89, 180, 0, 226, 4, 96, 181, 0, 226, 42]
abbrev dktX3_readsBond_2 : List UInt8 := dkwX3_readsBond_2 ++ dktX3_readsBond_3
def dkwX3_readsBond_1 : List UInt8 := [180, 0, 30, 42, 180, 0, 226, 46, 167, 0, 4, 2, 182, 0, 232, 172, 27, 153, 0, 51, 28, 16, 40]
abbrev dktX3_readsBond_1 : List UInt8 := dkwX3_readsBond_1 ++ dktX3_readsBond_2
def dkwX3_readsBond_0 : List UInt8 := [42, 182, 0, 229, 61, 28, 16, 99, 160, 0, 32, 42, 27, 154, 0, 10, 42, 180, 0, 226, 158, 0, 15, 42]
abbrev dktX3_readsBond_0 : List UInt8 := dkwX3_readsBond_0 ++ dktX3_readsBond_1
theorem dksX3_readsBond_0 : cX3_readsBond.data.toList.drop 0 = dktX3_readsBond_0 := by decide +kernel
theorem dksX3_readsBond_1 : cX3_readsBond.data.toList.drop 24 = dktX3_readsBond_1 := dk_seg dksX3_readsBond_0 24 rfl rfl
theorem dksX3_readsBond_2 : cX3_readsBond.data.toList.drop 47 = dktX3_readsBond_2 := dk_seg dksX3_readsBond_1 23 rfl rfl
theorem dksX3_readsBond_3 : cX3_readsBond.data.toList.drop 71 = dktX3_readsBond_3 := dk_seg dksX3_readsBond_2 24 rfl rfl
theorem dksX3_readsBond_4 : cX3_readsBond.data.toList.drop 93 = dktX3_readsBond_4 := dk_seg dksX3_readsBond_3 22 rfl rfl
theorem dksX3_readsBond_5 : cX3_readsBond.data.toList.drop 115 = dktX3_readsBond_5 := dk_seg dksX3_readsBond_4 22 rfl rfl
theorem dksX3_readsBond_6 : cX3_readsBond.data.toList.drop 139 = dktX3_readsBond_6 := dk_seg dksX3_readsBond_5 24 rfl rfl
theorem dX3_readsBond_0 : decode cX3_readsBond 0 = .ok (.aload_n 0, 1) := dk_42 (dk_at dksX3_readsBond_0 0 rfl rfl)
theorem dX3_readsBond_1 : decode cX3_readsBond 1 = .ok (.invokevirtual 229, 3) := dk_182 0 229 (dk_at dksX3_readsBond_0 1 rfl rfl)
theorem dX3_readsBond_4 : decode cX3_readsBond 4 = .ok (.istore_n 2, 1) := dk_61 (dk_at dksX3_readsBond_0 4 rfl rfl)
theorem dX3_readsBond_5 : decode cX3_readsBond 5 = .ok (.iload_n 2, 1) := dk_28 (dk_at dksX3_readsBond_0 5 rfl rfl)
theorem dX3_readsBond_6 : decode cX3_readsBond 6 = .ok (.bipush 99, 2) := dk_16 99 (dk_at dksX3_readsBond_0 6 rfl rfl)
theorem dX3_readsBond_8 : decode cX3_readsBond 8 = .ok (.if_icmp .ne 32, 3) := dk_160 0 32 (dk_at dksX3_readsBond_0 8 rfl rfl)
theorem dX3_readsBond_11 : decode cX3_readsBond 11 = .ok (.aload_n 0, 1) := dk_42 (dk_at dksX3_readsBond_0 11 rfl rfl)
theorem dX3_readsBond_12 : decode cX3_readsBond 12 = .ok (.iload_n 1, 1) := dk_27 (dk_at dksX3_readsBond_0 12 rfl rfl)
theorem dX3_readsBond_13 : decode cX3_readsBond 13 = .ok (.ifCond .ne 10, 3) := dk_154 0 10 (dk_at dksX3_readsBond_0 13 rfl rfl)
theorem dX3_readsBond_16 : decode cX3_readsBond 16 = .ok (.aload_n 0, 1) := dk_42 (dk_at dksX3_readsBond_0 16 rfl rfl)
theorem dX3_readsBond_17 : decode cX3_readsBond 17 = .ok (.getfield 226, 3) := dk_180 0 226 (dk_at dksX3_readsBond_0 17 rfl rfl)
theorem dX3_readsBond_20 : decode cX3_readsBond 20 = .ok (.ifCond .le 15, 3) := dk_158 0 15 (dk_at dksX3_readsBond_0 20 rfl rfl)
theorem dX3_readsBond_23 : decode cX3_readsBond 23 = .ok (.aload_n 0, 1) := dk_42 (dk_at dksX3_readsBond_0 23 rfl rfl)
theorem dX3_readsBond_24 : decode cX3_readsBond 24 = .ok (.getfield 30, 3) := dk_180 0 30 (dk_at dksX3_readsBond_1 0 rfl rfl)
theorem dX3_readsBond_27 : decode cX3_readsBond 27 = .ok (.aload_n 0, 1) := dk_42 (dk_at dksX3_readsBond_1 3 rfl rfl)
theorem dX3_readsBond_28 : decode cX3_readsBond 28 = .ok (.getfield 226, 3) := dk_180 0 226 (dk_at dksX3_readsBond_1 4 rfl rfl)
theorem dX3_readsBond_31 : decode cX3_readsBond 31 = .ok (.iaload, 1) := dk_46 (dk_at dksX3_readsBond_1 7 rfl rfl)
theorem dX3_readsBond_32 : decode cX3_readsBond 32 = .ok (.goto 4, 3) := dk_167 0 4 (dk_at dksX3_readsBond_1 8 rfl rfl)
theorem dX3_readsBond_35 : decode cX3_readsBond 35 = .ok (.iconst (-1), 1) := dk_2 (dk_at dksX3_readsBond_1 11 rfl rfl)
theorem dX3_readsBond_36 : decode cX3_readsBond 36 = .ok (.invokevirtual 232, 3) := dk_182 0 232 (dk_at dksX3_readsBond_1 12 rfl rfl)
theorem dX3_readsBond_39 : decode cX3_readsBond 39 = .ok (.ireturn, 1) := dk_172 (dk_at dksX3_readsBond_1 15 rfl rfl)
theorem dX3_readsBond_40 : decode cX3_readsBond 40 = .ok (.iload_n 1, 1) := dk_27 (dk_at dksX3_readsBond_1 16 rfl rfl)
theorem dX3_readsBond_41 : decode cX3_readsBond 41 = .ok (.ifCond .eq 51, 3) := dk_153 0 51 (dk_at dksX3_readsBond_1 17 rfl rfl)
theorem dX3_readsBond_44 : decode cX3_readsBond 44 = .ok (.iload_n 2, 1) := dk_28 (dk_at dksX3_readsBond_1 20 rfl rfl)
theorem dX3_readsBond_45 : decode cX3_readsBond 45 = .ok (.bipush 40, 2) := dk_16 40 (dk_at dksX3_readsBond_1 21 rfl rfl)
theorem dX3_readsBond_47 : decode cX3_readsBond 47 = .ok (.if_icmp .ne 45, 3) := dk_160 0 45 (dk_at dksX3_readsBond_2 0 rfl rfl)
theorem dX3_readsBond_50 : decode cX3_readsBond 50 = .ok (.aload_n 0, 1) := dk_42 (dk_at dksX3_readsBond_2 3 rfl rfl)
theorem dX3_readsBond_51 : decode cX3_readsBond 51 = .ok (.dup, 1) := dk_89 (dk_at dksX3_readsBond_2 4 rfl rfl)
theorem dX3_readsBond_52 : decode cX3_readsBond 52 = .ok (.getfield 194, 3) := dk_180 0 194 (dk_at dksX3_readsBond_2 5 rfl rfl)
theorem dX3_readsBond_55 : decode cX3_readsBond 55 = .ok (.iconst 1, 1) := dk_4 (dk_at dksX3_readsBond_2 8 rfl rfl)
theorem dX3_readsBond_56 : decode cX3_readsBond 56 = .ok (.iadd, 1) := dk_96 (dk_at dksX3_readsBond_2 9 rfl rfl)
theorem dX3_readsBond_57 : decode cX3_readsBond 57 = .ok (.putfield 194, 3) := dk_181 0 194 (dk_at dksX3_readsBond_2 10 rfl rfl)
theorem dX3_readsBond_60 : decode cX3_readsBond 60 = .ok (.aload_n 0, 1) := dk_42 (dk_at dksX3_readsBond_2 13 rfl rfl)
theorem dX3_readsBond_61 : decode cX3_readsBond 61 = .ok (.dup, 1) := dk_89 (dk_at dksX3_readsBond_2 14 rfl rfl)
theorem dX3_readsBond_62 : decode cX3_readsBond 62 = .ok (.getfield 226, 3) := dk_180 0 226 (dk_at dksX3_readsBond_2 15 rfl rfl)
theorem dX3_readsBond_65 : decode cX3_readsBond 65 = .ok (.iconst 1, 1) := dk_4 (dk_at dksX3_readsBond_2 18 rfl rfl)
theorem dX3_readsBond_66 : decode cX3_readsBond 66 = .ok (.iadd, 1) := dk_96 (dk_at dksX3_readsBond_2 19 rfl rfl)
theorem dX3_readsBond_67 : decode cX3_readsBond 67 = .ok (.putfield 226, 3) := dk_181 0 226 (dk_at dksX3_readsBond_2 20 rfl rfl)
theorem dX3_readsBond_70 : decode cX3_readsBond 70 = .ok (.aload_n 0, 1) := dk_42 (dk_at dksX3_readsBond_2 23 rfl rfl)
theorem dX3_readsBond_71 : decode cX3_readsBond 71 = .ok (.getfield 30, 3) := dk_180 0 30 (dk_at dksX3_readsBond_3 0 rfl rfl)
theorem dX3_readsBond_74 : decode cX3_readsBond 74 = .ok (.aload_n 0, 1) := dk_42 (dk_at dksX3_readsBond_3 3 rfl rfl)
theorem dX3_readsBond_75 : decode cX3_readsBond 75 = .ok (.getfield 226, 3) := dk_180 0 226 (dk_at dksX3_readsBond_3 4 rfl rfl)
theorem dX3_readsBond_78 : decode cX3_readsBond 78 = .ok (.aload_n 0, 1) := dk_42 (dk_at dksX3_readsBond_3 7 rfl rfl)
theorem dX3_readsBond_79 : decode cX3_readsBond 79 = .ok (.getfield 30, 3) := dk_180 0 30 (dk_at dksX3_readsBond_3 8 rfl rfl)
theorem dX3_readsBond_82 : decode cX3_readsBond 82 = .ok (.aload_n 0, 1) := dk_42 (dk_at dksX3_readsBond_3 11 rfl rfl)
theorem dX3_readsBond_83 : decode cX3_readsBond 83 = .ok (.getfield 226, 3) := dk_180 0 226 (dk_at dksX3_readsBond_3 12 rfl rfl)
theorem dX3_readsBond_86 : decode cX3_readsBond 86 = .ok (.iconst 1, 1) := dk_4 (dk_at dksX3_readsBond_3 15 rfl rfl)
theorem dX3_readsBond_87 : decode cX3_readsBond 87 = .ok (.isub, 1) := dk_100 (dk_at dksX3_readsBond_3 16 rfl rfl)
theorem dX3_readsBond_88 : decode cX3_readsBond 88 = .ok (.iaload, 1) := dk_46 (dk_at dksX3_readsBond_3 17 rfl rfl)
theorem dX3_readsBond_89 : decode cX3_readsBond 89 = .ok (.iastore, 1) := dk_79 (dk_at dksX3_readsBond_3 18 rfl rfl)
theorem dX3_readsBond_90 : decode cX3_readsBond 90 = .ok (.iconst 1, 1) := dk_4 (dk_at dksX3_readsBond_3 19 rfl rfl)
theorem dX3_readsBond_91 : decode cX3_readsBond 91 = .ok (.ireturn, 1) := dk_172 (dk_at dksX3_readsBond_3 20 rfl rfl)
theorem dX3_readsBond_92 : decode cX3_readsBond 92 = .ok (.iload_n 1, 1) := dk_27 (dk_at dksX3_readsBond_3 21 rfl rfl)
theorem dX3_readsBond_93 : decode cX3_readsBond 93 = .ok (.ifCond .eq 16, 3) := dk_153 0 16 (dk_at dksX3_readsBond_4 0 rfl rfl)
theorem dX3_readsBond_96 : decode cX3_readsBond 96 = .ok (.iload_n 2, 1) := dk_28 (dk_at dksX3_readsBond_4 3 rfl rfl)
theorem dX3_readsBond_97 : decode cX3_readsBond 97 = .ok (.bipush 41, 2) := dk_16 41 (dk_at dksX3_readsBond_4 4 rfl rfl)
theorem dX3_readsBond_99 : decode cX3_readsBond 99 = .ok (.if_icmp .ne 10, 3) := dk_160 0 10 (dk_at dksX3_readsBond_4 6 rfl rfl)
theorem dX3_readsBond_102 : decode cX3_readsBond 102 = .ok (.aload_n 0, 1) := dk_42 (dk_at dksX3_readsBond_4 9 rfl rfl)
theorem dX3_readsBond_103 : decode cX3_readsBond 103 = .ok (.getfield 226, 3) := dk_180 0 226 (dk_at dksX3_readsBond_4 10 rfl rfl)
theorem dX3_readsBond_106 : decode cX3_readsBond 106 = .ok (.ifCond .ne 13, 3) := dk_154 0 13 (dk_at dksX3_readsBond_4 13 rfl rfl)
theorem dX3_readsBond_109 : decode cX3_readsBond 109 = .ok (.aload_n 0, 1) := dk_42 (dk_at dksX3_readsBond_4 16 rfl rfl)
theorem dX3_readsBond_110 : decode cX3_readsBond 110 = .ok (.iconst 1, 1) := dk_4 (dk_at dksX3_readsBond_4 17 rfl rfl)
theorem dX3_readsBond_111 : decode cX3_readsBond 111 = .ok (.aload_n 0, 1) := dk_42 (dk_at dksX3_readsBond_4 18 rfl rfl)
theorem dX3_readsBond_112 : decode cX3_readsBond 112 = .ok (.getfield 194, 3) := dk_180 0 194 (dk_at dksX3_readsBond_4 19 rfl rfl)
theorem dX3_readsBond_115 : decode cX3_readsBond 115 = .ok (.invokevirtual 214, 3) := dk_182 0 214 (dk_at dksX3_readsBond_5 0 rfl rfl)
theorem dX3_readsBond_118 : decode cX3_readsBond 118 = .ok (.ireturn, 1) := dk_172 (dk_at dksX3_readsBond_5 3 rfl rfl)
theorem dX3_readsBond_119 : decode cX3_readsBond 119 = .ok (.aload_n 0, 1) := dk_42 (dk_at dksX3_readsBond_5 4 rfl rfl)
theorem dX3_readsBond_120 : decode cX3_readsBond 120 = .ok (.dup, 1) := dk_89 (dk_at dksX3_readsBond_5 5 rfl rfl)
theorem dX3_readsBond_121 : decode cX3_readsBond 121 = .ok (.getfield 194, 3) := dk_180 0 194 (dk_at dksX3_readsBond_5 6 rfl rfl)
theorem dX3_readsBond_124 : decode cX3_readsBond 124 = .ok (.iconst 1, 1) := dk_4 (dk_at dksX3_readsBond_5 9 rfl rfl)
theorem dX3_readsBond_125 : decode cX3_readsBond 125 = .ok (.iadd, 1) := dk_96 (dk_at dksX3_readsBond_5 10 rfl rfl)
theorem dX3_readsBond_126 : decode cX3_readsBond 126 = .ok (.putfield 194, 3) := dk_181 0 194 (dk_at dksX3_readsBond_5 11 rfl rfl)
theorem dX3_readsBond_129 : decode cX3_readsBond 129 = .ok (.aload_n 0, 1) := dk_42 (dk_at dksX3_readsBond_5 14 rfl rfl)
theorem dX3_readsBond_130 : decode cX3_readsBond 130 = .ok (.dup, 1) := dk_89 (dk_at dksX3_readsBond_5 15 rfl rfl)
theorem dX3_readsBond_131 : decode cX3_readsBond 131 = .ok (.getfield 226, 3) := dk_180 0 226 (dk_at dksX3_readsBond_5 16 rfl rfl)
theorem dX3_readsBond_134 : decode cX3_readsBond 134 = .ok (.iconst 1, 1) := dk_4 (dk_at dksX3_readsBond_5 19 rfl rfl)
theorem dX3_readsBond_135 : decode cX3_readsBond 135 = .ok (.isub, 1) := dk_100 (dk_at dksX3_readsBond_5 20 rfl rfl)
theorem dX3_readsBond_136 : decode cX3_readsBond 136 = .ok (.putfield 226, 3) := dk_181 0 226 (dk_at dksX3_readsBond_5 21 rfl rfl)
theorem dX3_readsBond_139 : decode cX3_readsBond 139 = .ok (.iconst 1, 1) := dk_4 (dk_at dksX3_readsBond_6 0 rfl rfl)
theorem dX3_readsBond_140 : decode cX3_readsBond 140 = .ok (.ireturn, 1) := dk_172 (dk_at dksX3_readsBond_6 1 rfl rfl)
abbrev cX3_readsAtom : ByteArray := prog_21_method_27_code
def yX3_readsAtom : MethodName := ⟨RX3, "readsAtom", "(I)Z"⟩
def dkwX3_readsAtom_6 : List UInt8 := [4, 172]
abbrev dktX3_readsAtom_6 : List UInt8 := dkwX3_readsAtom_6 ++ []
def dkwX3_readsAtom_5 : List UInt8 := [42, 21, 5, 27, 182, 0, 223, 42, 180, 0, 30, 42, 180, 0, 226, 42, 180, 0, 27, 3, 46, 4, 100, 79]
abbrev dktX3_readsAtom_5 : List UInt8 := dkwX3_readsAtom_5 ++ dktX3_readsAtom_6
def dkwX3_readsAtom_4 : List UInt8 := [16, 16, 164, 0, 10, 42, 7, 28, 182, 0, 214, 172, 21, 6, 154, 0, 10, 42, 5, 29, 182, 0, 214, 172]
abbrev dktX3_readsAtom_4 : List UInt8 := dkwX3_readsAtom_4 ++ dktX3_readsAtom_5
def dkwX3_readsAtom_3 : List UInt8 := [184, 0, 158, 54, 6, 42, 180, 0, 27, 3, 46, 21, 6, 153, 0, 8, 21, 5, 167, 0, 4, 4, 96]
abbrev dktX3_readsAtom_3 : List UInt8 := dkwX3_readsAtom_3 ++ dktX3_readsAtom_4
def dkwX3_readsAtom_2 : List UInt8 := [54, 4, 21, 4, 153, 0, 10, 42, 182, 0, 217, 167, 0, 4, 4, 54, 5, 21, 5, 133, 10, 20, 0, 221]
abbrev dktX3_readsAtom_2 : List UInt8 := dkwX3_readsAtom_2 ++ dktX3_readsAtom_3
def dkwX3_readsAtom_1 : List UInt8 := [182, 0, 214, 172, 42, 89, 180, 0, 194, 4, 96, 181, 0, 194, 42, 180, 0, 194, 62, 42, 182, 0, 207]
abbrev dktX3_readsAtom_1 : List UInt8 := dkwX3_readsAtom_1 ++ dktX3_readsAtom_2
def dkwX3_readsAtom_0 : List UInt8 := [42, 180, 0, 194, 61, 27, 2, 159, 0, 19, 42, 27, 182, 0, 211, 7, 160, 0, 10, 42, 6, 28]
abbrev dktX3_readsAtom_0 : List UInt8 := dkwX3_readsAtom_0 ++ dktX3_readsAtom_1
theorem dksX3_readsAtom_0 : cX3_readsAtom.data.toList.drop 0 = dktX3_readsAtom_0 := by decide +kernel
theorem dksX3_readsAtom_1 : cX3_readsAtom.data.toList.drop 22 = dktX3_readsAtom_1 := dk_seg dksX3_readsAtom_0 22 rfl rfl
theorem dksX3_readsAtom_2 : cX3_readsAtom.data.toList.drop 45 = dktX3_readsAtom_2 := dk_seg dksX3_readsAtom_1 23 rfl rfl
theorem dksX3_readsAtom_3 : cX3_readsAtom.data.toList.drop 69 = dktX3_readsAtom_3 := dk_seg dksX3_readsAtom_2 24 rfl rfl
theorem dksX3_readsAtom_4 : cX3_readsAtom.data.toList.drop 92 = dktX3_readsAtom_4 := dk_seg dksX3_readsAtom_3 23 rfl rfl
theorem dksX3_readsAtom_5 : cX3_readsAtom.data.toList.drop 116 = dktX3_readsAtom_5 := dk_seg dksX3_readsAtom_4 24 rfl rfl
theorem dksX3_readsAtom_6 : cX3_readsAtom.data.toList.drop 140 = dktX3_readsAtom_6 := dk_seg dksX3_readsAtom_5 24 rfl rfl
theorem dX3_readsAtom_0 : decode cX3_readsAtom 0 = .ok (.aload_n 0, 1) := dk_42 (dk_at dksX3_readsAtom_0 0 rfl rfl)
theorem dX3_readsAtom_1 : decode cX3_readsAtom 1 = .ok (.getfield 194, 3) := dk_180 0 194 (dk_at dksX3_readsAtom_0 1 rfl rfl)
theorem dX3_readsAtom_4 : decode cX3_readsAtom 4 = .ok (.istore_n 2, 1) := dk_61 (dk_at dksX3_readsAtom_0 4 rfl rfl)
theorem dX3_readsAtom_5 : decode cX3_readsAtom 5 = .ok (.iload_n 1, 1) := dk_27 (dk_at dksX3_readsAtom_0 5 rfl rfl)
theorem dX3_readsAtom_6 : decode cX3_readsAtom 6 = .ok (.iconst (-1), 1) := dk_2 (dk_at dksX3_readsAtom_0 6 rfl rfl)
theorem dX3_readsAtom_7 : decode cX3_readsAtom 7 = .ok (.if_icmp .eq 19, 3) := dk_159 0 19 (dk_at dksX3_readsAtom_0 7 rfl rfl)
theorem dX3_readsAtom_10 : decode cX3_readsAtom 10 = .ok (.aload_n 0, 1) := dk_42 (dk_at dksX3_readsAtom_0 10 rfl rfl)
theorem dX3_readsAtom_11 : decode cX3_readsAtom 11 = .ok (.iload_n 1, 1) := dk_27 (dk_at dksX3_readsAtom_0 11 rfl rfl)
theorem dX3_readsAtom_12 : decode cX3_readsAtom 12 = .ok (.invokevirtual 211, 3) := dk_182 0 211 (dk_at dksX3_readsAtom_0 12 rfl rfl)
theorem dX3_readsAtom_15 : decode cX3_readsAtom 15 = .ok (.iconst 4, 1) := dk_7 (dk_at dksX3_readsAtom_0 15 rfl rfl)
theorem dX3_readsAtom_16 : decode cX3_readsAtom 16 = .ok (.if_icmp .ne 10, 3) := dk_160 0 10 (dk_at dksX3_readsAtom_0 16 rfl rfl)
theorem dX3_readsAtom_19 : decode cX3_readsAtom 19 = .ok (.aload_n 0, 1) := dk_42 (dk_at dksX3_readsAtom_0 19 rfl rfl)
theorem dX3_readsAtom_20 : decode cX3_readsAtom 20 = .ok (.iconst 3, 1) := dk_6 (dk_at dksX3_readsAtom_0 20 rfl rfl)
theorem dX3_readsAtom_21 : decode cX3_readsAtom 21 = .ok (.iload_n 2, 1) := dk_28 (dk_at dksX3_readsAtom_0 21 rfl rfl)
theorem dX3_readsAtom_22 : decode cX3_readsAtom 22 = .ok (.invokevirtual 214, 3) := dk_182 0 214 (dk_at dksX3_readsAtom_1 0 rfl rfl)
theorem dX3_readsAtom_25 : decode cX3_readsAtom 25 = .ok (.ireturn, 1) := dk_172 (dk_at dksX3_readsAtom_1 3 rfl rfl)
theorem dX3_readsAtom_26 : decode cX3_readsAtom 26 = .ok (.aload_n 0, 1) := dk_42 (dk_at dksX3_readsAtom_1 4 rfl rfl)
theorem dX3_readsAtom_27 : decode cX3_readsAtom 27 = .ok (.dup, 1) := dk_89 (dk_at dksX3_readsAtom_1 5 rfl rfl)
theorem dX3_readsAtom_28 : decode cX3_readsAtom 28 = .ok (.getfield 194, 3) := dk_180 0 194 (dk_at dksX3_readsAtom_1 6 rfl rfl)
theorem dX3_readsAtom_31 : decode cX3_readsAtom 31 = .ok (.iconst 1, 1) := dk_4 (dk_at dksX3_readsAtom_1 9 rfl rfl)
theorem dX3_readsAtom_32 : decode cX3_readsAtom 32 = .ok (.iadd, 1) := dk_96 (dk_at dksX3_readsAtom_1 10 rfl rfl)
theorem dX3_readsAtom_33 : decode cX3_readsAtom 33 = .ok (.putfield 194, 3) := dk_181 0 194 (dk_at dksX3_readsAtom_1 11 rfl rfl)
theorem dX3_readsAtom_36 : decode cX3_readsAtom 36 = .ok (.aload_n 0, 1) := dk_42 (dk_at dksX3_readsAtom_1 14 rfl rfl)
theorem dX3_readsAtom_37 : decode cX3_readsAtom 37 = .ok (.getfield 194, 3) := dk_180 0 194 (dk_at dksX3_readsAtom_1 15 rfl rfl)
theorem dX3_readsAtom_40 : decode cX3_readsAtom 40 = .ok (.istore_n 3, 1) := dk_62 (dk_at dksX3_readsAtom_1 18 rfl rfl)
theorem dX3_readsAtom_41 : decode cX3_readsAtom 41 = .ok (.aload_n 0, 1) := dk_42 (dk_at dksX3_readsAtom_1 19 rfl rfl)
theorem dX3_readsAtom_42 : decode cX3_readsAtom 42 = .ok (.invokevirtual 207, 3) := dk_182 0 207 (dk_at dksX3_readsAtom_1 20 rfl rfl)
theorem dX3_readsAtom_45 : decode cX3_readsAtom 45 = .ok (.istore 4, 2) := dk_54 4 (dk_at dksX3_readsAtom_2 0 rfl rfl)
theorem dX3_readsAtom_47 : decode cX3_readsAtom 47 = .ok (.iload 4, 2) := dk_21 4 (dk_at dksX3_readsAtom_2 2 rfl rfl)
theorem dX3_readsAtom_49 : decode cX3_readsAtom 49 = .ok (.ifCond .eq 10, 3) := dk_153 0 10 (dk_at dksX3_readsAtom_2 4 rfl rfl)
theorem dX3_readsAtom_52 : decode cX3_readsAtom 52 = .ok (.aload_n 0, 1) := dk_42 (dk_at dksX3_readsAtom_2 7 rfl rfl)
theorem dX3_readsAtom_53 : decode cX3_readsAtom 53 = .ok (.invokevirtual 217, 3) := dk_182 0 217 (dk_at dksX3_readsAtom_2 8 rfl rfl)
theorem dX3_readsAtom_56 : decode cX3_readsAtom 56 = .ok (.goto 4, 3) := dk_167 0 4 (dk_at dksX3_readsAtom_2 11 rfl rfl)
theorem dX3_readsAtom_59 : decode cX3_readsAtom 59 = .ok (.iconst 1, 1) := dk_4 (dk_at dksX3_readsAtom_2 14 rfl rfl)
theorem dX3_readsAtom_60 : decode cX3_readsAtom 60 = .ok (.istore 5, 2) := dk_54 5 (dk_at dksX3_readsAtom_2 15 rfl rfl)
theorem dX3_readsAtom_62 : decode cX3_readsAtom 62 = .ok (.iload 5, 2) := dk_21 5 (dk_at dksX3_readsAtom_2 17 rfl rfl)
theorem dX3_readsAtom_64 : decode cX3_readsAtom 64 = .ok (.i2l, 1) := dk_133 (dk_at dksX3_readsAtom_2 19 rfl rfl)
theorem dX3_readsAtom_65 : decode cX3_readsAtom 65 = .ok (.lconst 1, 1) := dk_10 (dk_at dksX3_readsAtom_2 20 rfl rfl)
theorem dX3_readsAtom_66 : decode cX3_readsAtom 66 = .ok (.ldc2_w 221, 3) := dk_20 0 221 (dk_at dksX3_readsAtom_2 21 rfl rfl)
theorem dX3_readsAtom_69 : decode cX3_readsAtom 69 = .ok (.invokestatic 158, 3) := dk_184 0 158 (dk_at dksX3_readsAtom_3 0 rfl rfl)
theorem dX3_readsAtom_72 : decode cX3_readsAtom 72 = .ok (.istore 6, 2) := dk_54 6 (dk_at dksX3_readsAtom_3 3 rfl rfl)
theorem dX3_readsAtom_74 : decode cX3_readsAtom 74 = .ok (.aload_n 0, 1) := dk_42 (dk_at dksX3_readsAtom_3 5 rfl rfl)
theorem dX3_readsAtom_75 : decode cX3_readsAtom 75 = .ok (.getfield 27, 3) := dk_180 0 27 (dk_at dksX3_readsAtom_3 6 rfl rfl)
theorem dX3_readsAtom_78 : decode cX3_readsAtom 78 = .ok (.iconst 0, 1) := dk_3 (dk_at dksX3_readsAtom_3 9 rfl rfl)
theorem dX3_readsAtom_79 : decode cX3_readsAtom 79 = .ok (.iaload, 1) := dk_46 (dk_at dksX3_readsAtom_3 10 rfl rfl)
theorem dX3_readsAtom_80 : decode cX3_readsAtom 80 = .ok (.iload 6, 2) := dk_21 6 (dk_at dksX3_readsAtom_3 11 rfl rfl)
theorem dX3_readsAtom_82 : decode cX3_readsAtom 82 = .ok (.ifCond .eq 8, 3) := dk_153 0 8 (dk_at dksX3_readsAtom_3 13 rfl rfl)
theorem dX3_readsAtom_85 : decode cX3_readsAtom 85 = .ok (.iload 5, 2) := dk_21 5 (dk_at dksX3_readsAtom_3 16 rfl rfl)
theorem dX3_readsAtom_87 : decode cX3_readsAtom 87 = .ok (.goto 4, 3) := dk_167 0 4 (dk_at dksX3_readsAtom_3 18 rfl rfl)
theorem dX3_readsAtom_90 : decode cX3_readsAtom 90 = .ok (.iconst 1, 1) := dk_4 (dk_at dksX3_readsAtom_3 21 rfl rfl)
theorem dX3_readsAtom_91 : decode cX3_readsAtom 91 = .ok (.iadd, 1) := dk_96 (dk_at dksX3_readsAtom_3 22 rfl rfl)
theorem dX3_readsAtom_92 : decode cX3_readsAtom 92 = .ok (.bipush 16, 2) := dk_16 16 (dk_at dksX3_readsAtom_4 0 rfl rfl)
theorem dX3_readsAtom_94 : decode cX3_readsAtom 94 = .ok (.if_icmp .le 10, 3) := dk_164 0 10 (dk_at dksX3_readsAtom_4 2 rfl rfl)
theorem dX3_readsAtom_97 : decode cX3_readsAtom 97 = .ok (.aload_n 0, 1) := dk_42 (dk_at dksX3_readsAtom_4 5 rfl rfl)
theorem dX3_readsAtom_98 : decode cX3_readsAtom 98 = .ok (.iconst 4, 1) := dk_7 (dk_at dksX3_readsAtom_4 6 rfl rfl)
theorem dX3_readsAtom_99 : decode cX3_readsAtom 99 = .ok (.iload_n 2, 1) := dk_28 (dk_at dksX3_readsAtom_4 7 rfl rfl)
theorem dX3_readsAtom_100 : decode cX3_readsAtom 100 = .ok (.invokevirtual 214, 3) := dk_182 0 214 (dk_at dksX3_readsAtom_4 8 rfl rfl)
theorem dX3_readsAtom_103 : decode cX3_readsAtom 103 = .ok (.ireturn, 1) := dk_172 (dk_at dksX3_readsAtom_4 11 rfl rfl)
theorem dX3_readsAtom_104 : decode cX3_readsAtom 104 = .ok (.iload 6, 2) := dk_21 6 (dk_at dksX3_readsAtom_4 12 rfl rfl)
theorem dX3_readsAtom_106 : decode cX3_readsAtom 106 = .ok (.ifCond .ne 10, 3) := dk_154 0 10 (dk_at dksX3_readsAtom_4 14 rfl rfl)
theorem dX3_readsAtom_109 : decode cX3_readsAtom 109 = .ok (.aload_n 0, 1) := dk_42 (dk_at dksX3_readsAtom_4 17 rfl rfl)
theorem dX3_readsAtom_110 : decode cX3_readsAtom 110 = .ok (.iconst 2, 1) := dk_5 (dk_at dksX3_readsAtom_4 18 rfl rfl)
theorem dX3_readsAtom_111 : decode cX3_readsAtom 111 = .ok (.iload_n 3, 1) := dk_29 (dk_at dksX3_readsAtom_4 19 rfl rfl)
theorem dX3_readsAtom_112 : decode cX3_readsAtom 112 = .ok (.invokevirtual 214, 3) := dk_182 0 214 (dk_at dksX3_readsAtom_4 20 rfl rfl)
theorem dX3_readsAtom_115 : decode cX3_readsAtom 115 = .ok (.ireturn, 1) := dk_172 (dk_at dksX3_readsAtom_4 23 rfl rfl)
theorem dX3_readsAtom_116 : decode cX3_readsAtom 116 = .ok (.aload_n 0, 1) := dk_42 (dk_at dksX3_readsAtom_5 0 rfl rfl)
theorem dX3_readsAtom_117 : decode cX3_readsAtom 117 = .ok (.iload 5, 2) := dk_21 5 (dk_at dksX3_readsAtom_5 1 rfl rfl)
theorem dX3_readsAtom_119 : decode cX3_readsAtom 119 = .ok (.iload_n 1, 1) := dk_27 (dk_at dksX3_readsAtom_5 3 rfl rfl)
theorem dX3_readsAtom_120 : decode cX3_readsAtom 120 = .ok (.invokevirtual 223, 3) := dk_182 0 223 (dk_at dksX3_readsAtom_5 4 rfl rfl)
theorem dX3_readsAtom_123 : decode cX3_readsAtom 123 = .ok (.aload_n 0, 1) := dk_42 (dk_at dksX3_readsAtom_5 7 rfl rfl)
theorem dX3_readsAtom_124 : decode cX3_readsAtom 124 = .ok (.getfield 30, 3) := dk_180 0 30 (dk_at dksX3_readsAtom_5 8 rfl rfl)
theorem dX3_readsAtom_127 : decode cX3_readsAtom 127 = .ok (.aload_n 0, 1) := dk_42 (dk_at dksX3_readsAtom_5 11 rfl rfl)
theorem dX3_readsAtom_128 : decode cX3_readsAtom 128 = .ok (.getfield 226, 3) := dk_180 0 226 (dk_at dksX3_readsAtom_5 12 rfl rfl)
theorem dX3_readsAtom_131 : decode cX3_readsAtom 131 = .ok (.aload_n 0, 1) := dk_42 (dk_at dksX3_readsAtom_5 15 rfl rfl)
theorem dX3_readsAtom_132 : decode cX3_readsAtom 132 = .ok (.getfield 27, 3) := dk_180 0 27 (dk_at dksX3_readsAtom_5 16 rfl rfl)
theorem dX3_readsAtom_135 : decode cX3_readsAtom 135 = .ok (.iconst 0, 1) := dk_3 (dk_at dksX3_readsAtom_5 19 rfl rfl)
theorem dX3_readsAtom_136 : decode cX3_readsAtom 136 = .ok (.iaload, 1) := dk_46 (dk_at dksX3_readsAtom_5 20 rfl rfl)
theorem dX3_readsAtom_137 : decode cX3_readsAtom 137 = .ok (.iconst 1, 1) := dk_4 (dk_at dksX3_readsAtom_5 21 rfl rfl)
theorem dX3_readsAtom_138 : decode cX3_readsAtom 138 = .ok (.isub, 1) := dk_100 (dk_at dksX3_readsAtom_5 22 rfl rfl)
theorem dX3_readsAtom_139 : decode cX3_readsAtom 139 = .ok (.iastore, 1) := dk_79 (dk_at dksX3_readsAtom_5 23 rfl rfl)
theorem dX3_readsAtom_140 : decode cX3_readsAtom 140 = .ok (.iconst 1, 1) := dk_4 (dk_at dksX3_readsAtom_6 0 rfl rfl)
theorem dX3_readsAtom_141 : decode cX3_readsAtom 141 = .ok (.ireturn, 1) := dk_172 (dk_at dksX3_readsAtom_6 1 rfl rfl)
abbrev cX3_degreeRead : ByteArray := prog_21_method_24_code
def yX3_degreeRead : MethodName := ⟨RX3, "degreeRead", "(I)I"⟩
def dkwX3_degreeRead_0 : List UInt8 := [42, 180, 0, 27, 4, 27, 96, 46, 184, 0, 148, 172]
abbrev dktX3_degreeRead_0 : List UInt8 := dkwX3_degreeRead_0 ++ []
theorem dksX3_degreeRead_0 : cX3_degreeRead.data.toList.drop 0 = dktX3_degreeRead_0 := by decide +kernel
theorem dX3_degreeRead_0 : decode cX3_degreeRead 0 = .ok (.aload_n 0, 1) := dk_42 (dk_at dksX3_degreeRead_0 0 rfl rfl)
theorem dX3_degreeRead_1 : decode cX3_degreeRead 1 = .ok (.getfield 27, 3) := dk_180 0 27 (dk_at dksX3_degreeRead_0 1 rfl rfl)
theorem dX3_degreeRead_4 : decode cX3_degreeRead 4 = .ok (.iconst 1, 1) := dk_4 (dk_at dksX3_degreeRead_0 4 rfl rfl)
theorem dX3_degreeRead_5 : decode cX3_degreeRead 5 = .ok (.iload_n 1, 1) := dk_27 (dk_at dksX3_degreeRead_0 5 rfl rfl)
theorem dX3_degreeRead_6 : decode cX3_degreeRead 6 = .ok (.iadd, 1) := dk_96 (dk_at dksX3_degreeRead_0 6 rfl rfl)
theorem dX3_degreeRead_7 : decode cX3_degreeRead 7 = .ok (.iaload, 1) := dk_46 (dk_at dksX3_degreeRead_0 7 rfl rfl)
theorem dX3_degreeRead_8 : decode cX3_degreeRead 8 = .ok (.invokestatic 148, 3) := dk_184 0 148 (dk_at dksX3_degreeRead_0 8 rfl rfl)
theorem dX3_degreeRead_11 : decode cX3_degreeRead 11 = .ok (.ireturn, 1) := dk_172 (dk_at dksX3_degreeRead_0 11 rfl rfl)
abbrev cX3_fails : ByteArray := prog_21_method_22_code
def yX3_fails : MethodName := ⟨RX3, "fails", "(II)Z"⟩
def dkwX3_fails_0 : List UInt8 := [42, 16, 8, 28, 104, 27, 96, 181, 0, 204, 3, 172]
abbrev dktX3_fails_0 : List UInt8 := dkwX3_fails_0 ++ []
theorem dksX3_fails_0 : cX3_fails.data.toList.drop 0 = dktX3_fails_0 := by decide +kernel
theorem dX3_fails_0 : decode cX3_fails 0 = .ok (.aload_n 0, 1) := dk_42 (dk_at dksX3_fails_0 0 rfl rfl)
theorem dX3_fails_1 : decode cX3_fails 1 = .ok (.bipush 8, 2) := dk_16 8 (dk_at dksX3_fails_0 1 rfl rfl)
theorem dX3_fails_3 : decode cX3_fails 3 = .ok (.iload_n 2, 1) := dk_28 (dk_at dksX3_fails_0 3 rfl rfl)
theorem dX3_fails_4 : decode cX3_fails 4 = .ok (.imul, 1) := dk_104 (dk_at dksX3_fails_0 4 rfl rfl)
theorem dX3_fails_5 : decode cX3_fails 5 = .ok (.iload_n 1, 1) := dk_27 (dk_at dksX3_fails_0 5 rfl rfl)
theorem dX3_fails_6 : decode cX3_fails 6 = .ok (.iadd, 1) := dk_96 (dk_at dksX3_fails_0 6 rfl rfl)
theorem dX3_fails_7 : decode cX3_fails 7 = .ok (.putfield 204, 3) := dk_181 0 204 (dk_at dksX3_fails_0 7 rfl rfl)
theorem dX3_fails_10 : decode cX3_fails 10 = .ok (.iconst 0, 1) := dk_3 (dk_at dksX3_fails_0 10 rfl rfl)
theorem dX3_fails_11 : decode cX3_fails 11 = .ok (.ireturn, 1) := dk_172 (dk_at dksX3_fails_0 11 rfl rfl)
abbrev cX3_isDigit : ByteArray := prog_21_method_21_code
def yX3_isDigit : MethodName := ⟨RX3, "isDigit", "()Z"⟩
def dkwX3_isDigit_0 : List UInt8 := [42, 42, 180, 0, 194, 182, 0, 197, 133, 20, 0, 200, 20, 0, 202, 184, 0, 158, 172]
abbrev dktX3_isDigit_0 : List UInt8 := dkwX3_isDigit_0 ++ []
theorem dksX3_isDigit_0 : cX3_isDigit.data.toList.drop 0 = dktX3_isDigit_0 := by decide +kernel
theorem dX3_isDigit_0 : decode cX3_isDigit 0 = .ok (.aload_n 0, 1) := dk_42 (dk_at dksX3_isDigit_0 0 rfl rfl)
theorem dX3_isDigit_1 : decode cX3_isDigit 1 = .ok (.aload_n 0, 1) := dk_42 (dk_at dksX3_isDigit_0 1 rfl rfl)
theorem dX3_isDigit_2 : decode cX3_isDigit 2 = .ok (.getfield 194, 3) := dk_180 0 194 (dk_at dksX3_isDigit_0 2 rfl rfl)
theorem dX3_isDigit_5 : decode cX3_isDigit 5 = .ok (.invokevirtual 197, 3) := dk_182 0 197 (dk_at dksX3_isDigit_0 5 rfl rfl)
theorem dX3_isDigit_8 : decode cX3_isDigit 8 = .ok (.i2l, 1) := dk_133 (dk_at dksX3_isDigit_0 8 rfl rfl)
theorem dX3_isDigit_9 : decode cX3_isDigit 9 = .ok (.ldc2_w 200, 3) := dk_20 0 200 (dk_at dksX3_isDigit_0 9 rfl rfl)
theorem dX3_isDigit_12 : decode cX3_isDigit 12 = .ok (.ldc2_w 202, 3) := dk_20 0 202 (dk_at dksX3_isDigit_0 12 rfl rfl)
theorem dX3_isDigit_15 : decode cX3_isDigit 15 = .ok (.invokestatic 158, 3) := dk_184 0 158 (dk_at dksX3_isDigit_0 15 rfl rfl)
theorem dX3_isDigit_18 : decode cX3_isDigit 18 = .ok (.ireturn, 1) := dk_172 (dk_at dksX3_isDigit_0 18 rfl rfl)
abbrev cX3_digits : ByteArray := prog_21_method_23_code
def yX3_digits : MethodName := ⟨RX3, "digits", "()I"⟩
def dkwX3_digits_2 : List UInt8 := [167, 255, 211, 27, 172]
abbrev dktX3_digits_2 : List UInt8 := dkwX3_digits_2 ++ []
def dkwX3_digits_1 : List UInt8 := [42, 42, 180, 0, 194, 182, 0, 197, 96, 16, 48, 100, 60, 42, 89, 180, 0, 194, 4, 96, 181, 0, 194]
abbrev dktX3_digits_1 : List UInt8 := dkwX3_digits_1 ++ dktX3_digits_2
def dkwX3_digits_0 : List UInt8 := [3, 60, 42, 182, 0, 207, 153, 0, 44, 27, 17, 39, 15, 164, 0, 7, 27, 167, 0, 19, 16, 10, 27, 104]
abbrev dktX3_digits_0 : List UInt8 := dkwX3_digits_0 ++ dktX3_digits_1
theorem dksX3_digits_0 : cX3_digits.data.toList.drop 0 = dktX3_digits_0 := by decide +kernel
theorem dksX3_digits_1 : cX3_digits.data.toList.drop 24 = dktX3_digits_1 := dk_seg dksX3_digits_0 24 rfl rfl
theorem dksX3_digits_2 : cX3_digits.data.toList.drop 47 = dktX3_digits_2 := dk_seg dksX3_digits_1 23 rfl rfl
theorem dX3_digits_0 : decode cX3_digits 0 = .ok (.iconst 0, 1) := dk_3 (dk_at dksX3_digits_0 0 rfl rfl)
theorem dX3_digits_1 : decode cX3_digits 1 = .ok (.istore_n 1, 1) := dk_60 (dk_at dksX3_digits_0 1 rfl rfl)
theorem dX3_digits_2 : decode cX3_digits 2 = .ok (.aload_n 0, 1) := dk_42 (dk_at dksX3_digits_0 2 rfl rfl)
theorem dX3_digits_3 : decode cX3_digits 3 = .ok (.invokevirtual 207, 3) := dk_182 0 207 (dk_at dksX3_digits_0 3 rfl rfl)
theorem dX3_digits_6 : decode cX3_digits 6 = .ok (.ifCond .eq 44, 3) := dk_153 0 44 (dk_at dksX3_digits_0 6 rfl rfl)
theorem dX3_digits_9 : decode cX3_digits 9 = .ok (.iload_n 1, 1) := dk_27 (dk_at dksX3_digits_0 9 rfl rfl)
theorem dX3_digits_10 : decode cX3_digits 10 = .ok (.sipush 9999, 3) := dk_17 39 15 (dk_at dksX3_digits_0 10 rfl rfl)
theorem dX3_digits_13 : decode cX3_digits 13 = .ok (.if_icmp .le 7, 3) := dk_164 0 7 (dk_at dksX3_digits_0 13 rfl rfl)
theorem dX3_digits_16 : decode cX3_digits 16 = .ok (.iload_n 1, 1) := dk_27 (dk_at dksX3_digits_0 16 rfl rfl)
theorem dX3_digits_17 : decode cX3_digits 17 = .ok (.goto 19, 3) := dk_167 0 19 (dk_at dksX3_digits_0 17 rfl rfl)
theorem dX3_digits_20 : decode cX3_digits 20 = .ok (.bipush 10, 2) := dk_16 10 (dk_at dksX3_digits_0 20 rfl rfl)
theorem dX3_digits_22 : decode cX3_digits 22 = .ok (.iload_n 1, 1) := dk_27 (dk_at dksX3_digits_0 22 rfl rfl)
theorem dX3_digits_23 : decode cX3_digits 23 = .ok (.imul, 1) := dk_104 (dk_at dksX3_digits_0 23 rfl rfl)
theorem dX3_digits_24 : decode cX3_digits 24 = .ok (.aload_n 0, 1) := dk_42 (dk_at dksX3_digits_1 0 rfl rfl)
theorem dX3_digits_25 : decode cX3_digits 25 = .ok (.aload_n 0, 1) := dk_42 (dk_at dksX3_digits_1 1 rfl rfl)
theorem dX3_digits_26 : decode cX3_digits 26 = .ok (.getfield 194, 3) := dk_180 0 194 (dk_at dksX3_digits_1 2 rfl rfl)
theorem dX3_digits_29 : decode cX3_digits 29 = .ok (.invokevirtual 197, 3) := dk_182 0 197 (dk_at dksX3_digits_1 5 rfl rfl)
theorem dX3_digits_32 : decode cX3_digits 32 = .ok (.iadd, 1) := dk_96 (dk_at dksX3_digits_1 8 rfl rfl)
theorem dX3_digits_33 : decode cX3_digits 33 = .ok (.bipush 48, 2) := dk_16 48 (dk_at dksX3_digits_1 9 rfl rfl)
theorem dX3_digits_35 : decode cX3_digits 35 = .ok (.isub, 1) := dk_100 (dk_at dksX3_digits_1 11 rfl rfl)
theorem dX3_digits_36 : decode cX3_digits 36 = .ok (.istore_n 1, 1) := dk_60 (dk_at dksX3_digits_1 12 rfl rfl)
theorem dX3_digits_37 : decode cX3_digits 37 = .ok (.aload_n 0, 1) := dk_42 (dk_at dksX3_digits_1 13 rfl rfl)
theorem dX3_digits_38 : decode cX3_digits 38 = .ok (.dup, 1) := dk_89 (dk_at dksX3_digits_1 14 rfl rfl)
theorem dX3_digits_39 : decode cX3_digits 39 = .ok (.getfield 194, 3) := dk_180 0 194 (dk_at dksX3_digits_1 15 rfl rfl)
theorem dX3_digits_42 : decode cX3_digits 42 = .ok (.iconst 1, 1) := dk_4 (dk_at dksX3_digits_1 18 rfl rfl)
theorem dX3_digits_43 : decode cX3_digits 43 = .ok (.iadd, 1) := dk_96 (dk_at dksX3_digits_1 19 rfl rfl)
theorem dX3_digits_44 : decode cX3_digits 44 = .ok (.putfield 194, 3) := dk_181 0 194 (dk_at dksX3_digits_1 20 rfl rfl)
theorem dX3_digits_47 : decode cX3_digits 47 = .ok (.goto (-45), 3) := dk_167 255 211 (dk_at dksX3_digits_2 0 rfl rfl)
theorem dX3_digits_50 : decode cX3_digits 50 = .ok (.iload_n 1, 1) := dk_27 (dk_at dksX3_digits_2 3 rfl rfl)
theorem dX3_digits_51 : decode cX3_digits 51 = .ok (.ireturn, 1) := dk_172 (dk_at dksX3_digits_2 4 rfl rfl)
abbrev cX3_adds : ByteArray := prog_21_method_25_code
def yX3_adds : MethodName := ⟨RX3, "adds", "(II)V"⟩
def dkwX3_adds_3 : List UInt8 := [128, 79, 21, 5, 62, 132, 4, 1, 167, 255, 181, 177]
abbrev dktX3_adds_3 : List UInt8 := dkwX3_adds_3 ++ []
def dkwX3_adds_2 : List UInt8 := [4, 21, 5, 96, 92, 46, 4, 29, 120, 128, 79, 42, 180, 0, 27, 4, 29, 96, 92, 46, 4, 21, 5, 120]
abbrev dktX3_adds_2 : List UInt8 := dkwX3_adds_2 ++ dktX3_adds_3
def dkwX3_adds_1 : List UInt8 := [21, 5, 96, 3, 79, 42, 180, 0, 27, 3, 92, 46, 4, 96, 79, 29, 2, 159, 0, 33, 42, 180, 0, 27]
abbrev dktX3_adds_1 : List UInt8 := dkwX3_adds_1 ++ dktX3_adds_2
def dkwX3_adds_0 : List UInt8 := [28, 62, 3, 54, 4, 21, 4, 27, 162, 0, 75, 42, 180, 0, 27, 3, 46, 54, 5, 42, 180, 0, 27, 4]
abbrev dktX3_adds_0 : List UInt8 := dkwX3_adds_0 ++ dktX3_adds_1
theorem dksX3_adds_0 : cX3_adds.data.toList.drop 0 = dktX3_adds_0 := by decide +kernel
theorem dksX3_adds_1 : cX3_adds.data.toList.drop 24 = dktX3_adds_1 := dk_seg dksX3_adds_0 24 rfl rfl
theorem dksX3_adds_2 : cX3_adds.data.toList.drop 48 = dktX3_adds_2 := dk_seg dksX3_adds_1 24 rfl rfl
theorem dksX3_adds_3 : cX3_adds.data.toList.drop 72 = dktX3_adds_3 := dk_seg dksX3_adds_2 24 rfl rfl
theorem dX3_adds_0 : decode cX3_adds 0 = .ok (.iload_n 2, 1) := dk_28 (dk_at dksX3_adds_0 0 rfl rfl)
theorem dX3_adds_1 : decode cX3_adds 1 = .ok (.istore_n 3, 1) := dk_62 (dk_at dksX3_adds_0 1 rfl rfl)
theorem dX3_adds_2 : decode cX3_adds 2 = .ok (.iconst 0, 1) := dk_3 (dk_at dksX3_adds_0 2 rfl rfl)
theorem dX3_adds_3 : decode cX3_adds 3 = .ok (.istore 4, 2) := dk_54 4 (dk_at dksX3_adds_0 3 rfl rfl)
theorem dX3_adds_5 : decode cX3_adds 5 = .ok (.iload 4, 2) := dk_21 4 (dk_at dksX3_adds_0 5 rfl rfl)
theorem dX3_adds_7 : decode cX3_adds 7 = .ok (.iload_n 1, 1) := dk_27 (dk_at dksX3_adds_0 7 rfl rfl)
theorem dX3_adds_8 : decode cX3_adds 8 = .ok (.if_icmp .ge 75, 3) := dk_162 0 75 (dk_at dksX3_adds_0 8 rfl rfl)
theorem dX3_adds_11 : decode cX3_adds 11 = .ok (.aload_n 0, 1) := dk_42 (dk_at dksX3_adds_0 11 rfl rfl)
theorem dX3_adds_12 : decode cX3_adds 12 = .ok (.getfield 27, 3) := dk_180 0 27 (dk_at dksX3_adds_0 12 rfl rfl)
theorem dX3_adds_15 : decode cX3_adds 15 = .ok (.iconst 0, 1) := dk_3 (dk_at dksX3_adds_0 15 rfl rfl)
theorem dX3_adds_16 : decode cX3_adds 16 = .ok (.iaload, 1) := dk_46 (dk_at dksX3_adds_0 16 rfl rfl)
theorem dX3_adds_17 : decode cX3_adds 17 = .ok (.istore 5, 2) := dk_54 5 (dk_at dksX3_adds_0 17 rfl rfl)
theorem dX3_adds_19 : decode cX3_adds 19 = .ok (.aload_n 0, 1) := dk_42 (dk_at dksX3_adds_0 19 rfl rfl)
theorem dX3_adds_20 : decode cX3_adds 20 = .ok (.getfield 27, 3) := dk_180 0 27 (dk_at dksX3_adds_0 20 rfl rfl)
theorem dX3_adds_23 : decode cX3_adds 23 = .ok (.iconst 1, 1) := dk_4 (dk_at dksX3_adds_0 23 rfl rfl)
theorem dX3_adds_24 : decode cX3_adds 24 = .ok (.iload 5, 2) := dk_21 5 (dk_at dksX3_adds_1 0 rfl rfl)
theorem dX3_adds_26 : decode cX3_adds 26 = .ok (.iadd, 1) := dk_96 (dk_at dksX3_adds_1 2 rfl rfl)
theorem dX3_adds_27 : decode cX3_adds 27 = .ok (.iconst 0, 1) := dk_3 (dk_at dksX3_adds_1 3 rfl rfl)
theorem dX3_adds_28 : decode cX3_adds 28 = .ok (.iastore, 1) := dk_79 (dk_at dksX3_adds_1 4 rfl rfl)
theorem dX3_adds_29 : decode cX3_adds 29 = .ok (.aload_n 0, 1) := dk_42 (dk_at dksX3_adds_1 5 rfl rfl)
theorem dX3_adds_30 : decode cX3_adds 30 = .ok (.getfield 27, 3) := dk_180 0 27 (dk_at dksX3_adds_1 6 rfl rfl)
theorem dX3_adds_33 : decode cX3_adds 33 = .ok (.iconst 0, 1) := dk_3 (dk_at dksX3_adds_1 9 rfl rfl)
theorem dX3_adds_34 : decode cX3_adds 34 = .ok (.dup2, 1) := dk_92 (dk_at dksX3_adds_1 10 rfl rfl)
theorem dX3_adds_35 : decode cX3_adds 35 = .ok (.iaload, 1) := dk_46 (dk_at dksX3_adds_1 11 rfl rfl)
theorem dX3_adds_36 : decode cX3_adds 36 = .ok (.iconst 1, 1) := dk_4 (dk_at dksX3_adds_1 12 rfl rfl)
theorem dX3_adds_37 : decode cX3_adds 37 = .ok (.iadd, 1) := dk_96 (dk_at dksX3_adds_1 13 rfl rfl)
theorem dX3_adds_38 : decode cX3_adds 38 = .ok (.iastore, 1) := dk_79 (dk_at dksX3_adds_1 14 rfl rfl)
theorem dX3_adds_39 : decode cX3_adds 39 = .ok (.iload_n 3, 1) := dk_29 (dk_at dksX3_adds_1 15 rfl rfl)
theorem dX3_adds_40 : decode cX3_adds 40 = .ok (.iconst (-1), 1) := dk_2 (dk_at dksX3_adds_1 16 rfl rfl)
theorem dX3_adds_41 : decode cX3_adds 41 = .ok (.if_icmp .eq 33, 3) := dk_159 0 33 (dk_at dksX3_adds_1 17 rfl rfl)
theorem dX3_adds_44 : decode cX3_adds 44 = .ok (.aload_n 0, 1) := dk_42 (dk_at dksX3_adds_1 20 rfl rfl)
theorem dX3_adds_45 : decode cX3_adds 45 = .ok (.getfield 27, 3) := dk_180 0 27 (dk_at dksX3_adds_1 21 rfl rfl)
theorem dX3_adds_48 : decode cX3_adds 48 = .ok (.iconst 1, 1) := dk_4 (dk_at dksX3_adds_2 0 rfl rfl)
theorem dX3_adds_49 : decode cX3_adds 49 = .ok (.iload 5, 2) := dk_21 5 (dk_at dksX3_adds_2 1 rfl rfl)
theorem dX3_adds_51 : decode cX3_adds 51 = .ok (.iadd, 1) := dk_96 (dk_at dksX3_adds_2 3 rfl rfl)
theorem dX3_adds_52 : decode cX3_adds 52 = .ok (.dup2, 1) := dk_92 (dk_at dksX3_adds_2 4 rfl rfl)
theorem dX3_adds_53 : decode cX3_adds 53 = .ok (.iaload, 1) := dk_46 (dk_at dksX3_adds_2 5 rfl rfl)
theorem dX3_adds_54 : decode cX3_adds 54 = .ok (.iconst 1, 1) := dk_4 (dk_at dksX3_adds_2 6 rfl rfl)
theorem dX3_adds_55 : decode cX3_adds 55 = .ok (.iload_n 3, 1) := dk_29 (dk_at dksX3_adds_2 7 rfl rfl)
theorem dX3_adds_56 : decode cX3_adds 56 = .ok (.ishl, 1) := dk_120 (dk_at dksX3_adds_2 8 rfl rfl)
theorem dX3_adds_57 : decode cX3_adds 57 = .ok (.ior, 1) := dk_128 (dk_at dksX3_adds_2 9 rfl rfl)
theorem dX3_adds_58 : decode cX3_adds 58 = .ok (.iastore, 1) := dk_79 (dk_at dksX3_adds_2 10 rfl rfl)
theorem dX3_adds_59 : decode cX3_adds 59 = .ok (.aload_n 0, 1) := dk_42 (dk_at dksX3_adds_2 11 rfl rfl)
theorem dX3_adds_60 : decode cX3_adds 60 = .ok (.getfield 27, 3) := dk_180 0 27 (dk_at dksX3_adds_2 12 rfl rfl)
theorem dX3_adds_63 : decode cX3_adds 63 = .ok (.iconst 1, 1) := dk_4 (dk_at dksX3_adds_2 15 rfl rfl)
theorem dX3_adds_64 : decode cX3_adds 64 = .ok (.iload_n 3, 1) := dk_29 (dk_at dksX3_adds_2 16 rfl rfl)
theorem dX3_adds_65 : decode cX3_adds 65 = .ok (.iadd, 1) := dk_96 (dk_at dksX3_adds_2 17 rfl rfl)
theorem dX3_adds_66 : decode cX3_adds 66 = .ok (.dup2, 1) := dk_92 (dk_at dksX3_adds_2 18 rfl rfl)
theorem dX3_adds_67 : decode cX3_adds 67 = .ok (.iaload, 1) := dk_46 (dk_at dksX3_adds_2 19 rfl rfl)
theorem dX3_adds_68 : decode cX3_adds 68 = .ok (.iconst 1, 1) := dk_4 (dk_at dksX3_adds_2 20 rfl rfl)
theorem dX3_adds_69 : decode cX3_adds 69 = .ok (.iload 5, 2) := dk_21 5 (dk_at dksX3_adds_2 21 rfl rfl)
theorem dX3_adds_71 : decode cX3_adds 71 = .ok (.ishl, 1) := dk_120 (dk_at dksX3_adds_2 23 rfl rfl)
theorem dX3_adds_72 : decode cX3_adds 72 = .ok (.ior, 1) := dk_128 (dk_at dksX3_adds_3 0 rfl rfl)
theorem dX3_adds_73 : decode cX3_adds 73 = .ok (.iastore, 1) := dk_79 (dk_at dksX3_adds_3 1 rfl rfl)
theorem dX3_adds_74 : decode cX3_adds 74 = .ok (.iload 5, 2) := dk_21 5 (dk_at dksX3_adds_3 2 rfl rfl)
theorem dX3_adds_76 : decode cX3_adds 76 = .ok (.istore_n 3, 1) := dk_62 (dk_at dksX3_adds_3 4 rfl rfl)
theorem dX3_adds_77 : decode cX3_adds 77 = .ok (.iinc 4 1, 3) := dk_132 4 1 (dk_at dksX3_adds_3 5 rfl rfl)
theorem dX3_adds_80 : decode cX3_adds 80 = .ok (.goto (-75), 3) := dk_167 255 181 (dk_at dksX3_adds_3 8 rfl rfl)
theorem dX3_adds_83 : decode cX3_adds 83 = .ok (.return_, 1) := dk_177 (dk_at dksX3_adds_3 11 rfl rfl)
abbrev cX3_readsName : ByteArray := prog_21_method_33_code
def yX3_readsName : MethodName := ⟨RX3, "readsName", "()Z"⟩
def dkwX3_readsName_5 : List UInt8 := [27, 172]
abbrev dktX3_readsName_5 : List UInt8 := dkwX3_readsName_5 ++ []
def dkwX3_readsName_4 : List UInt8 := [180, 0, 226, 4, 100, 181, 0, 226, 167, 255, 172, 42, 4, 42, 180, 0, 194, 182, 0, 214, 60, 167, 255, 159]
abbrev dktX3_readsName_4 : List UInt8 := dkwX3_readsName_4 ++ dktX3_readsName_5
def dkwX3_readsName_3 : List UInt8 := [42, 180, 0, 194, 182, 0, 197, 16, 41, 160, 0, 26, 42, 89, 180, 0, 194, 4, 96, 181, 0, 194, 42, 89]
abbrev dktX3_readsName_3 : List UInt8 := dkwX3_readsName_3 ++ dktX3_readsName_4
def dkwX3_readsName_2 : List UInt8 := [182, 0, 197, 16, 45, 160, 0, 11, 42, 182, 0, 246, 60, 167, 255, 215, 42, 180, 0, 226, 158, 0, 39, 42]
abbrev dktX3_readsName_2 : List UInt8 := dkwX3_readsName_2 ++ dktX3_readsName_3
def dkwX3_readsName_1 : List UInt8 := [180, 0, 226, 157, 0, 15, 42, 42, 180, 0, 194, 182, 0, 197, 2, 159, 0, 80, 42, 42, 180, 0, 194]
abbrev dktX3_readsName_1 : List UInt8 := dkwX3_readsName_1 ++ dktX3_readsName_2
def dkwX3_readsName_0 : List UInt8 := [42, 3, 181, 0, 226, 42, 2, 182, 0, 243, 154, 0, 5, 3, 172, 4, 60, 27, 153, 0, 99, 42]
abbrev dktX3_readsName_0 : List UInt8 := dkwX3_readsName_0 ++ dktX3_readsName_1
theorem dksX3_readsName_0 : cX3_readsName.data.toList.drop 0 = dktX3_readsName_0 := by decide +kernel
theorem dksX3_readsName_1 : cX3_readsName.data.toList.drop 22 = dktX3_readsName_1 := dk_seg dksX3_readsName_0 22 rfl rfl
theorem dksX3_readsName_2 : cX3_readsName.data.toList.drop 45 = dktX3_readsName_2 := dk_seg dksX3_readsName_1 23 rfl rfl
theorem dksX3_readsName_3 : cX3_readsName.data.toList.drop 69 = dktX3_readsName_3 := dk_seg dksX3_readsName_2 24 rfl rfl
theorem dksX3_readsName_4 : cX3_readsName.data.toList.drop 93 = dktX3_readsName_4 := dk_seg dksX3_readsName_3 24 rfl rfl
theorem dksX3_readsName_5 : cX3_readsName.data.toList.drop 117 = dktX3_readsName_5 := dk_seg dksX3_readsName_4 24 rfl rfl
theorem dX3_readsName_0 : decode cX3_readsName 0 = .ok (.aload_n 0, 1) := dk_42 (dk_at dksX3_readsName_0 0 rfl rfl)
theorem dX3_readsName_1 : decode cX3_readsName 1 = .ok (.iconst 0, 1) := dk_3 (dk_at dksX3_readsName_0 1 rfl rfl)
theorem dX3_readsName_2 : decode cX3_readsName 2 = .ok (.putfield 226, 3) := dk_181 0 226 (dk_at dksX3_readsName_0 2 rfl rfl)
theorem dX3_readsName_5 : decode cX3_readsName 5 = .ok (.aload_n 0, 1) := dk_42 (dk_at dksX3_readsName_0 5 rfl rfl)
theorem dX3_readsName_6 : decode cX3_readsName 6 = .ok (.iconst (-1), 1) := dk_2 (dk_at dksX3_readsName_0 6 rfl rfl)
theorem dX3_readsName_7 : decode cX3_readsName 7 = .ok (.invokevirtual 243, 3) := dk_182 0 243 (dk_at dksX3_readsName_0 7 rfl rfl)
theorem dX3_readsName_10 : decode cX3_readsName 10 = .ok (.ifCond .ne 5, 3) := dk_154 0 5 (dk_at dksX3_readsName_0 10 rfl rfl)
theorem dX3_readsName_13 : decode cX3_readsName 13 = .ok (.iconst 0, 1) := dk_3 (dk_at dksX3_readsName_0 13 rfl rfl)
theorem dX3_readsName_14 : decode cX3_readsName 14 = .ok (.ireturn, 1) := dk_172 (dk_at dksX3_readsName_0 14 rfl rfl)
theorem dX3_readsName_15 : decode cX3_readsName 15 = .ok (.iconst 1, 1) := dk_4 (dk_at dksX3_readsName_0 15 rfl rfl)
theorem dX3_readsName_16 : decode cX3_readsName 16 = .ok (.istore_n 1, 1) := dk_60 (dk_at dksX3_readsName_0 16 rfl rfl)
theorem dX3_readsName_17 : decode cX3_readsName 17 = .ok (.iload_n 1, 1) := dk_27 (dk_at dksX3_readsName_0 17 rfl rfl)
theorem dX3_readsName_18 : decode cX3_readsName 18 = .ok (.ifCond .eq 99, 3) := dk_153 0 99 (dk_at dksX3_readsName_0 18 rfl rfl)
theorem dX3_readsName_21 : decode cX3_readsName 21 = .ok (.aload_n 0, 1) := dk_42 (dk_at dksX3_readsName_0 21 rfl rfl)
theorem dX3_readsName_22 : decode cX3_readsName 22 = .ok (.getfield 226, 3) := dk_180 0 226 (dk_at dksX3_readsName_1 0 rfl rfl)
theorem dX3_readsName_25 : decode cX3_readsName 25 = .ok (.ifCond .gt 15, 3) := dk_157 0 15 (dk_at dksX3_readsName_1 3 rfl rfl)
theorem dX3_readsName_28 : decode cX3_readsName 28 = .ok (.aload_n 0, 1) := dk_42 (dk_at dksX3_readsName_1 6 rfl rfl)
theorem dX3_readsName_29 : decode cX3_readsName 29 = .ok (.aload_n 0, 1) := dk_42 (dk_at dksX3_readsName_1 7 rfl rfl)
theorem dX3_readsName_30 : decode cX3_readsName 30 = .ok (.getfield 194, 3) := dk_180 0 194 (dk_at dksX3_readsName_1 8 rfl rfl)
theorem dX3_readsName_33 : decode cX3_readsName 33 = .ok (.invokevirtual 197, 3) := dk_182 0 197 (dk_at dksX3_readsName_1 11 rfl rfl)
theorem dX3_readsName_36 : decode cX3_readsName 36 = .ok (.iconst (-1), 1) := dk_2 (dk_at dksX3_readsName_1 14 rfl rfl)
theorem dX3_readsName_37 : decode cX3_readsName 37 = .ok (.if_icmp .eq 80, 3) := dk_159 0 80 (dk_at dksX3_readsName_1 15 rfl rfl)
theorem dX3_readsName_40 : decode cX3_readsName 40 = .ok (.aload_n 0, 1) := dk_42 (dk_at dksX3_readsName_1 18 rfl rfl)
theorem dX3_readsName_41 : decode cX3_readsName 41 = .ok (.aload_n 0, 1) := dk_42 (dk_at dksX3_readsName_1 19 rfl rfl)
theorem dX3_readsName_42 : decode cX3_readsName 42 = .ok (.getfield 194, 3) := dk_180 0 194 (dk_at dksX3_readsName_1 20 rfl rfl)
theorem dX3_readsName_45 : decode cX3_readsName 45 = .ok (.invokevirtual 197, 3) := dk_182 0 197 (dk_at dksX3_readsName_2 0 rfl rfl)
theorem dX3_readsName_48 : decode cX3_readsName 48 = .ok (.bipush 45, 2) := dk_16 45 (dk_at dksX3_readsName_2 3 rfl rfl)
theorem dX3_readsName_50 : decode cX3_readsName 50 = .ok (.if_icmp .ne 11, 3) := dk_160 0 11 (dk_at dksX3_readsName_2 5 rfl rfl)
theorem dX3_readsName_53 : decode cX3_readsName 53 = .ok (.aload_n 0, 1) := dk_42 (dk_at dksX3_readsName_2 8 rfl rfl)
theorem dX3_readsName_54 : decode cX3_readsName 54 = .ok (.invokevirtual 246, 3) := dk_182 0 246 (dk_at dksX3_readsName_2 9 rfl rfl)
theorem dX3_readsName_57 : decode cX3_readsName 57 = .ok (.istore_n 1, 1) := dk_60 (dk_at dksX3_readsName_2 12 rfl rfl)
theorem dX3_readsName_58 : decode cX3_readsName 58 = .ok (.goto (-41), 3) := dk_167 255 215 (dk_at dksX3_readsName_2 13 rfl rfl)
theorem dX3_readsName_61 : decode cX3_readsName 61 = .ok (.aload_n 0, 1) := dk_42 (dk_at dksX3_readsName_2 16 rfl rfl)
theorem dX3_readsName_62 : decode cX3_readsName 62 = .ok (.getfield 226, 3) := dk_180 0 226 (dk_at dksX3_readsName_2 17 rfl rfl)
theorem dX3_readsName_65 : decode cX3_readsName 65 = .ok (.ifCond .le 39, 3) := dk_158 0 39 (dk_at dksX3_readsName_2 20 rfl rfl)
theorem dX3_readsName_68 : decode cX3_readsName 68 = .ok (.aload_n 0, 1) := dk_42 (dk_at dksX3_readsName_2 23 rfl rfl)
theorem dX3_readsName_69 : decode cX3_readsName 69 = .ok (.aload_n 0, 1) := dk_42 (dk_at dksX3_readsName_3 0 rfl rfl)
theorem dX3_readsName_70 : decode cX3_readsName 70 = .ok (.getfield 194, 3) := dk_180 0 194 (dk_at dksX3_readsName_3 1 rfl rfl)
theorem dX3_readsName_73 : decode cX3_readsName 73 = .ok (.invokevirtual 197, 3) := dk_182 0 197 (dk_at dksX3_readsName_3 4 rfl rfl)
theorem dX3_readsName_76 : decode cX3_readsName 76 = .ok (.bipush 41, 2) := dk_16 41 (dk_at dksX3_readsName_3 7 rfl rfl)
theorem dX3_readsName_78 : decode cX3_readsName 78 = .ok (.if_icmp .ne 26, 3) := dk_160 0 26 (dk_at dksX3_readsName_3 9 rfl rfl)
theorem dX3_readsName_81 : decode cX3_readsName 81 = .ok (.aload_n 0, 1) := dk_42 (dk_at dksX3_readsName_3 12 rfl rfl)
theorem dX3_readsName_82 : decode cX3_readsName 82 = .ok (.dup, 1) := dk_89 (dk_at dksX3_readsName_3 13 rfl rfl)
theorem dX3_readsName_83 : decode cX3_readsName 83 = .ok (.getfield 194, 3) := dk_180 0 194 (dk_at dksX3_readsName_3 14 rfl rfl)
theorem dX3_readsName_86 : decode cX3_readsName 86 = .ok (.iconst 1, 1) := dk_4 (dk_at dksX3_readsName_3 17 rfl rfl)
theorem dX3_readsName_87 : decode cX3_readsName 87 = .ok (.iadd, 1) := dk_96 (dk_at dksX3_readsName_3 18 rfl rfl)
theorem dX3_readsName_88 : decode cX3_readsName 88 = .ok (.putfield 194, 3) := dk_181 0 194 (dk_at dksX3_readsName_3 19 rfl rfl)
theorem dX3_readsName_91 : decode cX3_readsName 91 = .ok (.aload_n 0, 1) := dk_42 (dk_at dksX3_readsName_3 22 rfl rfl)
theorem dX3_readsName_92 : decode cX3_readsName 92 = .ok (.dup, 1) := dk_89 (dk_at dksX3_readsName_3 23 rfl rfl)
theorem dX3_readsName_93 : decode cX3_readsName 93 = .ok (.getfield 226, 3) := dk_180 0 226 (dk_at dksX3_readsName_4 0 rfl rfl)
theorem dX3_readsName_96 : decode cX3_readsName 96 = .ok (.iconst 1, 1) := dk_4 (dk_at dksX3_readsName_4 3 rfl rfl)
theorem dX3_readsName_97 : decode cX3_readsName 97 = .ok (.isub, 1) := dk_100 (dk_at dksX3_readsName_4 4 rfl rfl)
theorem dX3_readsName_98 : decode cX3_readsName 98 = .ok (.putfield 226, 3) := dk_181 0 226 (dk_at dksX3_readsName_4 5 rfl rfl)
theorem dX3_readsName_101 : decode cX3_readsName 101 = .ok (.goto (-84), 3) := dk_167 255 172 (dk_at dksX3_readsName_4 8 rfl rfl)
theorem dX3_readsName_104 : decode cX3_readsName 104 = .ok (.aload_n 0, 1) := dk_42 (dk_at dksX3_readsName_4 11 rfl rfl)
theorem dX3_readsName_105 : decode cX3_readsName 105 = .ok (.iconst 1, 1) := dk_4 (dk_at dksX3_readsName_4 12 rfl rfl)
theorem dX3_readsName_106 : decode cX3_readsName 106 = .ok (.aload_n 0, 1) := dk_42 (dk_at dksX3_readsName_4 13 rfl rfl)
theorem dX3_readsName_107 : decode cX3_readsName 107 = .ok (.getfield 194, 3) := dk_180 0 194 (dk_at dksX3_readsName_4 14 rfl rfl)
theorem dX3_readsName_110 : decode cX3_readsName 110 = .ok (.invokevirtual 214, 3) := dk_182 0 214 (dk_at dksX3_readsName_4 17 rfl rfl)
theorem dX3_readsName_113 : decode cX3_readsName 113 = .ok (.istore_n 1, 1) := dk_60 (dk_at dksX3_readsName_4 20 rfl rfl)
theorem dX3_readsName_114 : decode cX3_readsName 114 = .ok (.goto (-97), 3) := dk_167 255 159 (dk_at dksX3_readsName_4 21 rfl rfl)
theorem dX3_readsName_117 : decode cX3_readsName 117 = .ok (.iload_n 1, 1) := dk_27 (dk_at dksX3_readsName_5 0 rfl rfl)
theorem dX3_readsName_118 : decode cX3_readsName 118 = .ok (.ireturn, 1) := dk_172 (dk_at dksX3_readsName_5 1 rfl rfl)
abbrev cX3_opensChain : ByteArray := prog_21_method_31_code
def yX3_opensChain : MethodName := ⟨RX3, "opensChain", "(I)Z"⟩
def dkwX3_opensChain_2 : List UInt8 := [180, 0, 36, 42, 180, 0, 226, 4, 79, 4, 172]
abbrev dktX3_opensChain_2 : List UInt8 := dkwX3_opensChain_2 ++ []
def dkwX3_opensChain_1 : List UInt8 := [180, 0, 226, 28, 79, 42, 180, 0, 33, 42, 180, 0, 226, 42, 180, 0, 27, 3, 46, 28, 100, 79, 42]
abbrev dktX3_opensChain_1 : List UInt8 := dkwX3_opensChain_1 ++ dktX3_opensChain_2
def dkwX3_opensChain_0 : List UInt8 := [42, 180, 0, 27, 3, 46, 61, 42, 27, 3, 182, 0, 239, 154, 0, 5, 3, 172, 42, 180, 0, 30, 42]
abbrev dktX3_opensChain_0 : List UInt8 := dkwX3_opensChain_0 ++ dktX3_opensChain_1
theorem dksX3_opensChain_0 : cX3_opensChain.data.toList.drop 0 = dktX3_opensChain_0 := by decide +kernel
theorem dksX3_opensChain_1 : cX3_opensChain.data.toList.drop 23 = dktX3_opensChain_1 := dk_seg dksX3_opensChain_0 23 rfl rfl
theorem dksX3_opensChain_2 : cX3_opensChain.data.toList.drop 46 = dktX3_opensChain_2 := dk_seg dksX3_opensChain_1 23 rfl rfl
theorem dX3_opensChain_0 : decode cX3_opensChain 0 = .ok (.aload_n 0, 1) := dk_42 (dk_at dksX3_opensChain_0 0 rfl rfl)
theorem dX3_opensChain_1 : decode cX3_opensChain 1 = .ok (.getfield 27, 3) := dk_180 0 27 (dk_at dksX3_opensChain_0 1 rfl rfl)
theorem dX3_opensChain_4 : decode cX3_opensChain 4 = .ok (.iconst 0, 1) := dk_3 (dk_at dksX3_opensChain_0 4 rfl rfl)
theorem dX3_opensChain_5 : decode cX3_opensChain 5 = .ok (.iaload, 1) := dk_46 (dk_at dksX3_opensChain_0 5 rfl rfl)
theorem dX3_opensChain_6 : decode cX3_opensChain 6 = .ok (.istore_n 2, 1) := dk_61 (dk_at dksX3_opensChain_0 6 rfl rfl)
theorem dX3_opensChain_7 : decode cX3_opensChain 7 = .ok (.aload_n 0, 1) := dk_42 (dk_at dksX3_opensChain_0 7 rfl rfl)
theorem dX3_opensChain_8 : decode cX3_opensChain 8 = .ok (.iload_n 1, 1) := dk_27 (dk_at dksX3_opensChain_0 8 rfl rfl)
theorem dX3_opensChain_9 : decode cX3_opensChain 9 = .ok (.iconst 0, 1) := dk_3 (dk_at dksX3_opensChain_0 9 rfl rfl)
theorem dX3_opensChain_10 : decode cX3_opensChain 10 = .ok (.invokevirtual 239, 3) := dk_182 0 239 (dk_at dksX3_opensChain_0 10 rfl rfl)
theorem dX3_opensChain_13 : decode cX3_opensChain 13 = .ok (.ifCond .ne 5, 3) := dk_154 0 5 (dk_at dksX3_opensChain_0 13 rfl rfl)
theorem dX3_opensChain_16 : decode cX3_opensChain 16 = .ok (.iconst 0, 1) := dk_3 (dk_at dksX3_opensChain_0 16 rfl rfl)
theorem dX3_opensChain_17 : decode cX3_opensChain 17 = .ok (.ireturn, 1) := dk_172 (dk_at dksX3_opensChain_0 17 rfl rfl)
theorem dX3_opensChain_18 : decode cX3_opensChain 18 = .ok (.aload_n 0, 1) := dk_42 (dk_at dksX3_opensChain_0 18 rfl rfl)
theorem dX3_opensChain_19 : decode cX3_opensChain 19 = .ok (.getfield 30, 3) := dk_180 0 30 (dk_at dksX3_opensChain_0 19 rfl rfl)
theorem dX3_opensChain_22 : decode cX3_opensChain 22 = .ok (.aload_n 0, 1) := dk_42 (dk_at dksX3_opensChain_0 22 rfl rfl)
theorem dX3_opensChain_23 : decode cX3_opensChain 23 = .ok (.getfield 226, 3) := dk_180 0 226 (dk_at dksX3_opensChain_1 0 rfl rfl)
theorem dX3_opensChain_26 : decode cX3_opensChain 26 = .ok (.iload_n 2, 1) := dk_28 (dk_at dksX3_opensChain_1 3 rfl rfl)
theorem dX3_opensChain_27 : decode cX3_opensChain 27 = .ok (.iastore, 1) := dk_79 (dk_at dksX3_opensChain_1 4 rfl rfl)
theorem dX3_opensChain_28 : decode cX3_opensChain 28 = .ok (.aload_n 0, 1) := dk_42 (dk_at dksX3_opensChain_1 5 rfl rfl)
theorem dX3_opensChain_29 : decode cX3_opensChain 29 = .ok (.getfield 33, 3) := dk_180 0 33 (dk_at dksX3_opensChain_1 6 rfl rfl)
theorem dX3_opensChain_32 : decode cX3_opensChain 32 = .ok (.aload_n 0, 1) := dk_42 (dk_at dksX3_opensChain_1 9 rfl rfl)
theorem dX3_opensChain_33 : decode cX3_opensChain 33 = .ok (.getfield 226, 3) := dk_180 0 226 (dk_at dksX3_opensChain_1 10 rfl rfl)
theorem dX3_opensChain_36 : decode cX3_opensChain 36 = .ok (.aload_n 0, 1) := dk_42 (dk_at dksX3_opensChain_1 13 rfl rfl)
theorem dX3_opensChain_37 : decode cX3_opensChain 37 = .ok (.getfield 27, 3) := dk_180 0 27 (dk_at dksX3_opensChain_1 14 rfl rfl)
theorem dX3_opensChain_40 : decode cX3_opensChain 40 = .ok (.iconst 0, 1) := dk_3 (dk_at dksX3_opensChain_1 17 rfl rfl)
theorem dX3_opensChain_41 : decode cX3_opensChain 41 = .ok (.iaload, 1) := dk_46 (dk_at dksX3_opensChain_1 18 rfl rfl)
theorem dX3_opensChain_42 : decode cX3_opensChain 42 = .ok (.iload_n 2, 1) := dk_28 (dk_at dksX3_opensChain_1 19 rfl rfl)
theorem dX3_opensChain_43 : decode cX3_opensChain 43 = .ok (.isub, 1) := dk_100 (dk_at dksX3_opensChain_1 20 rfl rfl)
theorem dX3_opensChain_44 : decode cX3_opensChain 44 = .ok (.iastore, 1) := dk_79 (dk_at dksX3_opensChain_1 21 rfl rfl)
theorem dX3_opensChain_45 : decode cX3_opensChain 45 = .ok (.aload_n 0, 1) := dk_42 (dk_at dksX3_opensChain_1 22 rfl rfl)
theorem dX3_opensChain_46 : decode cX3_opensChain 46 = .ok (.getfield 36, 3) := dk_180 0 36 (dk_at dksX3_opensChain_2 0 rfl rfl)
theorem dX3_opensChain_49 : decode cX3_opensChain 49 = .ok (.aload_n 0, 1) := dk_42 (dk_at dksX3_opensChain_2 3 rfl rfl)
theorem dX3_opensChain_50 : decode cX3_opensChain 50 = .ok (.getfield 226, 3) := dk_180 0 226 (dk_at dksX3_opensChain_2 4 rfl rfl)
theorem dX3_opensChain_53 : decode cX3_opensChain 53 = .ok (.iconst 1, 1) := dk_4 (dk_at dksX3_opensChain_2 7 rfl rfl)
theorem dX3_opensChain_54 : decode cX3_opensChain 54 = .ok (.iastore, 1) := dk_79 (dk_at dksX3_opensChain_2 8 rfl rfl)
theorem dX3_opensChain_55 : decode cX3_opensChain 55 = .ok (.iconst 1, 1) := dk_4 (dk_at dksX3_opensChain_2 9 rfl rfl)
theorem dX3_opensChain_56 : decode cX3_opensChain 56 = .ok (.ireturn, 1) := dk_172 (dk_at dksX3_opensChain_2 10 rfl rfl)
abbrev cX3_readsLength : ByteArray := prog_21_method_30_code
def yX3_readsLength : MethodName := ⟨RX3, "readsLength", "(IZ)Z"⟩
def dkwX3_readsLength_4 : List UInt8 := [182, 0, 223, 4, 172]
abbrev dktX3_readsLength_4 : List UInt8 := dkwX3_readsLength_4 ++ []
def dkwX3_readsLength_3 : List UInt8 := [180, 0, 27, 3, 46, 21, 4, 96, 16, 16, 164, 0, 10, 42, 7, 29, 182, 0, 214, 172, 42, 21, 4, 27]
abbrev dktX3_readsLength_3 : List UInt8 := dkwX3_readsLength_3 ++ dktX3_readsLength_4
def dkwX3_readsLength_2 : List UInt8 := [172, 28, 153, 0, 19, 42, 27, 182, 0, 211, 7, 160, 0, 10, 42, 6, 29, 182, 0, 214, 172, 42]
abbrev dktX3_readsLength_2 : List UInt8 := dkwX3_readsLength_2 ++ dktX3_readsLength_3
def dkwX3_readsLength_1 : List UInt8 := [182, 0, 217, 54, 4, 21, 4, 133, 10, 20, 0, 221, 184, 0, 158, 154, 0, 10, 42, 5, 29, 182, 0, 214]
abbrev dktX3_readsLength_1 : List UInt8 := dkwX3_readsLength_1 ++ dktX3_readsLength_2
def dkwX3_readsLength_0 : List UInt8 := [42, 180, 0, 194, 62, 42, 182, 0, 207, 154, 0, 13, 42, 4, 42, 180, 0, 194, 182, 0, 214, 172, 42]
abbrev dktX3_readsLength_0 : List UInt8 := dkwX3_readsLength_0 ++ dktX3_readsLength_1
theorem dksX3_readsLength_0 : cX3_readsLength.data.toList.drop 0 = dktX3_readsLength_0 := by decide +kernel
theorem dksX3_readsLength_1 : cX3_readsLength.data.toList.drop 23 = dktX3_readsLength_1 := dk_seg dksX3_readsLength_0 23 rfl rfl
theorem dksX3_readsLength_2 : cX3_readsLength.data.toList.drop 47 = dktX3_readsLength_2 := dk_seg dksX3_readsLength_1 24 rfl rfl
theorem dksX3_readsLength_3 : cX3_readsLength.data.toList.drop 69 = dktX3_readsLength_3 := dk_seg dksX3_readsLength_2 22 rfl rfl
theorem dksX3_readsLength_4 : cX3_readsLength.data.toList.drop 93 = dktX3_readsLength_4 := dk_seg dksX3_readsLength_3 24 rfl rfl
theorem dX3_readsLength_0 : decode cX3_readsLength 0 = .ok (.aload_n 0, 1) := dk_42 (dk_at dksX3_readsLength_0 0 rfl rfl)
theorem dX3_readsLength_1 : decode cX3_readsLength 1 = .ok (.getfield 194, 3) := dk_180 0 194 (dk_at dksX3_readsLength_0 1 rfl rfl)
theorem dX3_readsLength_4 : decode cX3_readsLength 4 = .ok (.istore_n 3, 1) := dk_62 (dk_at dksX3_readsLength_0 4 rfl rfl)
theorem dX3_readsLength_5 : decode cX3_readsLength 5 = .ok (.aload_n 0, 1) := dk_42 (dk_at dksX3_readsLength_0 5 rfl rfl)
theorem dX3_readsLength_6 : decode cX3_readsLength 6 = .ok (.invokevirtual 207, 3) := dk_182 0 207 (dk_at dksX3_readsLength_0 6 rfl rfl)
theorem dX3_readsLength_9 : decode cX3_readsLength 9 = .ok (.ifCond .ne 13, 3) := dk_154 0 13 (dk_at dksX3_readsLength_0 9 rfl rfl)
theorem dX3_readsLength_12 : decode cX3_readsLength 12 = .ok (.aload_n 0, 1) := dk_42 (dk_at dksX3_readsLength_0 12 rfl rfl)
theorem dX3_readsLength_13 : decode cX3_readsLength 13 = .ok (.iconst 1, 1) := dk_4 (dk_at dksX3_readsLength_0 13 rfl rfl)
theorem dX3_readsLength_14 : decode cX3_readsLength 14 = .ok (.aload_n 0, 1) := dk_42 (dk_at dksX3_readsLength_0 14 rfl rfl)
theorem dX3_readsLength_15 : decode cX3_readsLength 15 = .ok (.getfield 194, 3) := dk_180 0 194 (dk_at dksX3_readsLength_0 15 rfl rfl)
theorem dX3_readsLength_18 : decode cX3_readsLength 18 = .ok (.invokevirtual 214, 3) := dk_182 0 214 (dk_at dksX3_readsLength_0 18 rfl rfl)
theorem dX3_readsLength_21 : decode cX3_readsLength 21 = .ok (.ireturn, 1) := dk_172 (dk_at dksX3_readsLength_0 21 rfl rfl)
theorem dX3_readsLength_22 : decode cX3_readsLength 22 = .ok (.aload_n 0, 1) := dk_42 (dk_at dksX3_readsLength_0 22 rfl rfl)
theorem dX3_readsLength_23 : decode cX3_readsLength 23 = .ok (.invokevirtual 217, 3) := dk_182 0 217 (dk_at dksX3_readsLength_1 0 rfl rfl)
theorem dX3_readsLength_26 : decode cX3_readsLength 26 = .ok (.istore 4, 2) := dk_54 4 (dk_at dksX3_readsLength_1 3 rfl rfl)
theorem dX3_readsLength_28 : decode cX3_readsLength 28 = .ok (.iload 4, 2) := dk_21 4 (dk_at dksX3_readsLength_1 5 rfl rfl)
theorem dX3_readsLength_30 : decode cX3_readsLength 30 = .ok (.i2l, 1) := dk_133 (dk_at dksX3_readsLength_1 7 rfl rfl)
theorem dX3_readsLength_31 : decode cX3_readsLength 31 = .ok (.lconst 1, 1) := dk_10 (dk_at dksX3_readsLength_1 8 rfl rfl)
theorem dX3_readsLength_32 : decode cX3_readsLength 32 = .ok (.ldc2_w 221, 3) := dk_20 0 221 (dk_at dksX3_readsLength_1 9 rfl rfl)
theorem dX3_readsLength_35 : decode cX3_readsLength 35 = .ok (.invokestatic 158, 3) := dk_184 0 158 (dk_at dksX3_readsLength_1 12 rfl rfl)
theorem dX3_readsLength_38 : decode cX3_readsLength 38 = .ok (.ifCond .ne 10, 3) := dk_154 0 10 (dk_at dksX3_readsLength_1 15 rfl rfl)
theorem dX3_readsLength_41 : decode cX3_readsLength 41 = .ok (.aload_n 0, 1) := dk_42 (dk_at dksX3_readsLength_1 18 rfl rfl)
theorem dX3_readsLength_42 : decode cX3_readsLength 42 = .ok (.iconst 2, 1) := dk_5 (dk_at dksX3_readsLength_1 19 rfl rfl)
theorem dX3_readsLength_43 : decode cX3_readsLength 43 = .ok (.iload_n 3, 1) := dk_29 (dk_at dksX3_readsLength_1 20 rfl rfl)
theorem dX3_readsLength_44 : decode cX3_readsLength 44 = .ok (.invokevirtual 214, 3) := dk_182 0 214 (dk_at dksX3_readsLength_1 21 rfl rfl)
theorem dX3_readsLength_47 : decode cX3_readsLength 47 = .ok (.ireturn, 1) := dk_172 (dk_at dksX3_readsLength_2 0 rfl rfl)
theorem dX3_readsLength_48 : decode cX3_readsLength 48 = .ok (.iload_n 2, 1) := dk_28 (dk_at dksX3_readsLength_2 1 rfl rfl)
theorem dX3_readsLength_49 : decode cX3_readsLength 49 = .ok (.ifCond .eq 19, 3) := dk_153 0 19 (dk_at dksX3_readsLength_2 2 rfl rfl)
theorem dX3_readsLength_52 : decode cX3_readsLength 52 = .ok (.aload_n 0, 1) := dk_42 (dk_at dksX3_readsLength_2 5 rfl rfl)
theorem dX3_readsLength_53 : decode cX3_readsLength 53 = .ok (.iload_n 1, 1) := dk_27 (dk_at dksX3_readsLength_2 6 rfl rfl)
theorem dX3_readsLength_54 : decode cX3_readsLength 54 = .ok (.invokevirtual 211, 3) := dk_182 0 211 (dk_at dksX3_readsLength_2 7 rfl rfl)
theorem dX3_readsLength_57 : decode cX3_readsLength 57 = .ok (.iconst 4, 1) := dk_7 (dk_at dksX3_readsLength_2 10 rfl rfl)
theorem dX3_readsLength_58 : decode cX3_readsLength 58 = .ok (.if_icmp .ne 10, 3) := dk_160 0 10 (dk_at dksX3_readsLength_2 11 rfl rfl)
theorem dX3_readsLength_61 : decode cX3_readsLength 61 = .ok (.aload_n 0, 1) := dk_42 (dk_at dksX3_readsLength_2 14 rfl rfl)
theorem dX3_readsLength_62 : decode cX3_readsLength 62 = .ok (.iconst 3, 1) := dk_6 (dk_at dksX3_readsLength_2 15 rfl rfl)
theorem dX3_readsLength_63 : decode cX3_readsLength 63 = .ok (.iload_n 3, 1) := dk_29 (dk_at dksX3_readsLength_2 16 rfl rfl)
theorem dX3_readsLength_64 : decode cX3_readsLength 64 = .ok (.invokevirtual 214, 3) := dk_182 0 214 (dk_at dksX3_readsLength_2 17 rfl rfl)
theorem dX3_readsLength_67 : decode cX3_readsLength 67 = .ok (.ireturn, 1) := dk_172 (dk_at dksX3_readsLength_2 20 rfl rfl)
theorem dX3_readsLength_68 : decode cX3_readsLength 68 = .ok (.aload_n 0, 1) := dk_42 (dk_at dksX3_readsLength_2 21 rfl rfl)
theorem dX3_readsLength_69 : decode cX3_readsLength 69 = .ok (.getfield 27, 3) := dk_180 0 27 (dk_at dksX3_readsLength_3 0 rfl rfl)
theorem dX3_readsLength_72 : decode cX3_readsLength 72 = .ok (.iconst 0, 1) := dk_3 (dk_at dksX3_readsLength_3 3 rfl rfl)
theorem dX3_readsLength_73 : decode cX3_readsLength 73 = .ok (.iaload, 1) := dk_46 (dk_at dksX3_readsLength_3 4 rfl rfl)
theorem dX3_readsLength_74 : decode cX3_readsLength 74 = .ok (.iload 4, 2) := dk_21 4 (dk_at dksX3_readsLength_3 5 rfl rfl)
theorem dX3_readsLength_76 : decode cX3_readsLength 76 = .ok (.iadd, 1) := dk_96 (dk_at dksX3_readsLength_3 7 rfl rfl)
theorem dX3_readsLength_77 : decode cX3_readsLength 77 = .ok (.bipush 16, 2) := dk_16 16 (dk_at dksX3_readsLength_3 8 rfl rfl)
theorem dX3_readsLength_79 : decode cX3_readsLength 79 = .ok (.if_icmp .le 10, 3) := dk_164 0 10 (dk_at dksX3_readsLength_3 10 rfl rfl)
theorem dX3_readsLength_82 : decode cX3_readsLength 82 = .ok (.aload_n 0, 1) := dk_42 (dk_at dksX3_readsLength_3 13 rfl rfl)
theorem dX3_readsLength_83 : decode cX3_readsLength 83 = .ok (.iconst 4, 1) := dk_7 (dk_at dksX3_readsLength_3 14 rfl rfl)
theorem dX3_readsLength_84 : decode cX3_readsLength 84 = .ok (.iload_n 3, 1) := dk_29 (dk_at dksX3_readsLength_3 15 rfl rfl)
theorem dX3_readsLength_85 : decode cX3_readsLength 85 = .ok (.invokevirtual 214, 3) := dk_182 0 214 (dk_at dksX3_readsLength_3 16 rfl rfl)
theorem dX3_readsLength_88 : decode cX3_readsLength 88 = .ok (.ireturn, 1) := dk_172 (dk_at dksX3_readsLength_3 19 rfl rfl)
theorem dX3_readsLength_89 : decode cX3_readsLength 89 = .ok (.aload_n 0, 1) := dk_42 (dk_at dksX3_readsLength_3 20 rfl rfl)
theorem dX3_readsLength_90 : decode cX3_readsLength 90 = .ok (.iload 4, 2) := dk_21 4 (dk_at dksX3_readsLength_3 21 rfl rfl)
theorem dX3_readsLength_92 : decode cX3_readsLength 92 = .ok (.iload_n 1, 1) := dk_27 (dk_at dksX3_readsLength_3 23 rfl rfl)
theorem dX3_readsLength_93 : decode cX3_readsLength 93 = .ok (.invokevirtual 223, 3) := dk_182 0 223 (dk_at dksX3_readsLength_4 0 rfl rfl)
theorem dX3_readsLength_96 : decode cX3_readsLength 96 = .ok (.iconst 1, 1) := dk_4 (dk_at dksX3_readsLength_4 3 rfl rfl)
theorem dX3_readsLength_97 : decode cX3_readsLength 97 = .ok (.ireturn, 1) := dk_172 (dk_at dksX3_readsLength_4 4 rfl rfl)
abbrev cX3_readsBranch : ByteArray := prog_21_method_32_code
def yX3_readsBranch : MethodName := ⟨RX3, "readsBranch", "()Z"⟩
def dkwX3_readsBranch_8 : List UInt8 := [182, 0, 243, 172]
abbrev dktX3_readsBranch_8 : List UInt8 := dkwX3_readsBranch_8 ++ []
def dkwX3_readsBranch_7 : List UInt8 := [42, 89, 180, 0, 194, 4, 96, 181, 0, 194, 42, 89, 180, 0, 226, 4, 96, 181, 0, 226, 42, 29]
abbrev dktX3_readsBranch_7 : List UInt8 := dkwX3_readsBranch_7 ++ dktX3_readsBranch_8
def dkwX3_readsBranch_6 : List UInt8 := [4, 182, 0, 239, 172, 42, 29, 182, 0, 211, 7, 160, 0, 13, 42, 6, 42, 180, 0, 194, 182, 0, 214, 172]
abbrev dktX3_readsBranch_6 : List UInt8 := dkwX3_readsBranch_6 ++ dktX3_readsBranch_7
def dkwX3_readsBranch_5 : List UInt8 := [180, 0, 226, 46, 28, 96, 4, 100, 62, 42, 42, 180, 0, 194, 182, 0, 197, 16, 40, 159, 0, 10, 42, 29]
abbrev dktX3_readsBranch_5 : List UInt8 := dkwX3_readsBranch_5 ++ dktX3_readsBranch_6
def dkwX3_readsBranch_4 : List UInt8 := [4, 42, 180, 0, 194, 182, 0, 214, 172, 42, 89, 180, 0, 194, 4, 96, 181, 0, 194, 42, 180, 0, 30, 42]
abbrev dktX3_readsBranch_4 : List UInt8 := dkwX3_readsBranch_4 ++ dktX3_readsBranch_5
def dkwX3_readsBranch_3 : List UInt8 := [42, 180, 0, 36, 42, 180, 0, 226, 28, 79, 42, 42, 180, 0, 194, 182, 0, 197, 16, 58, 159, 0, 13, 42]
abbrev dktX3_readsBranch_3 : List UInt8 := dkwX3_readsBranch_3 ++ dktX3_readsBranch_4
def dkwX3_readsBranch_2 : List UInt8 := [133, 42, 180, 0, 33, 42, 180, 0, 226, 46, 133, 184, 0, 158, 154, 0, 10, 42, 5, 27, 182, 0, 214, 172]
abbrev dktX3_readsBranch_2 : List UInt8 := dkwX3_readsBranch_2 ++ dktX3_readsBranch_3
def dkwX3_readsBranch_1 : List UInt8 := [42, 180, 0, 194, 182, 0, 214, 172, 42, 182, 0, 217, 61, 28, 133, 42, 180, 0, 36, 42, 180, 0, 226, 46]
abbrev dktX3_readsBranch_1 : List UInt8 := dkwX3_readsBranch_1 ++ dktX3_readsBranch_2
def dkwX3_readsBranch_0 : List UInt8 := [42, 89, 180, 0, 194, 4, 96, 181, 0, 194, 42, 180, 0, 194, 60, 42, 182, 0, 207, 154, 0, 13, 42, 4]
abbrev dktX3_readsBranch_0 : List UInt8 := dkwX3_readsBranch_0 ++ dktX3_readsBranch_1
theorem dksX3_readsBranch_0 : cX3_readsBranch.data.toList.drop 0 = dktX3_readsBranch_0 := by decide +kernel
theorem dksX3_readsBranch_1 : cX3_readsBranch.data.toList.drop 24 = dktX3_readsBranch_1 := dk_seg dksX3_readsBranch_0 24 rfl rfl
theorem dksX3_readsBranch_2 : cX3_readsBranch.data.toList.drop 48 = dktX3_readsBranch_2 := dk_seg dksX3_readsBranch_1 24 rfl rfl
theorem dksX3_readsBranch_3 : cX3_readsBranch.data.toList.drop 72 = dktX3_readsBranch_3 := dk_seg dksX3_readsBranch_2 24 rfl rfl
theorem dksX3_readsBranch_4 : cX3_readsBranch.data.toList.drop 96 = dktX3_readsBranch_4 := dk_seg dksX3_readsBranch_3 24 rfl rfl
theorem dksX3_readsBranch_5 : cX3_readsBranch.data.toList.drop 120 = dktX3_readsBranch_5 := dk_seg dksX3_readsBranch_4 24 rfl rfl
theorem dksX3_readsBranch_6 : cX3_readsBranch.data.toList.drop 144 = dktX3_readsBranch_6 := dk_seg dksX3_readsBranch_5 24 rfl rfl
theorem dksX3_readsBranch_7 : cX3_readsBranch.data.toList.drop 168 = dktX3_readsBranch_7 := dk_seg dksX3_readsBranch_6 24 rfl rfl
theorem dksX3_readsBranch_8 : cX3_readsBranch.data.toList.drop 190 = dktX3_readsBranch_8 := dk_seg dksX3_readsBranch_7 22 rfl rfl
theorem dX3_readsBranch_0 : decode cX3_readsBranch 0 = .ok (.aload_n 0, 1) := dk_42 (dk_at dksX3_readsBranch_0 0 rfl rfl)
theorem dX3_readsBranch_1 : decode cX3_readsBranch 1 = .ok (.dup, 1) := dk_89 (dk_at dksX3_readsBranch_0 1 rfl rfl)
theorem dX3_readsBranch_2 : decode cX3_readsBranch 2 = .ok (.getfield 194, 3) := dk_180 0 194 (dk_at dksX3_readsBranch_0 2 rfl rfl)
theorem dX3_readsBranch_5 : decode cX3_readsBranch 5 = .ok (.iconst 1, 1) := dk_4 (dk_at dksX3_readsBranch_0 5 rfl rfl)
theorem dX3_readsBranch_6 : decode cX3_readsBranch 6 = .ok (.iadd, 1) := dk_96 (dk_at dksX3_readsBranch_0 6 rfl rfl)
theorem dX3_readsBranch_7 : decode cX3_readsBranch 7 = .ok (.putfield 194, 3) := dk_181 0 194 (dk_at dksX3_readsBranch_0 7 rfl rfl)
theorem dX3_readsBranch_10 : decode cX3_readsBranch 10 = .ok (.aload_n 0, 1) := dk_42 (dk_at dksX3_readsBranch_0 10 rfl rfl)
theorem dX3_readsBranch_11 : decode cX3_readsBranch 11 = .ok (.getfield 194, 3) := dk_180 0 194 (dk_at dksX3_readsBranch_0 11 rfl rfl)
theorem dX3_readsBranch_14 : decode cX3_readsBranch 14 = .ok (.istore_n 1, 1) := dk_60 (dk_at dksX3_readsBranch_0 14 rfl rfl)
theorem dX3_readsBranch_15 : decode cX3_readsBranch 15 = .ok (.aload_n 0, 1) := dk_42 (dk_at dksX3_readsBranch_0 15 rfl rfl)
theorem dX3_readsBranch_16 : decode cX3_readsBranch 16 = .ok (.invokevirtual 207, 3) := dk_182 0 207 (dk_at dksX3_readsBranch_0 16 rfl rfl)
theorem dX3_readsBranch_19 : decode cX3_readsBranch 19 = .ok (.ifCond .ne 13, 3) := dk_154 0 13 (dk_at dksX3_readsBranch_0 19 rfl rfl)
theorem dX3_readsBranch_22 : decode cX3_readsBranch 22 = .ok (.aload_n 0, 1) := dk_42 (dk_at dksX3_readsBranch_0 22 rfl rfl)
theorem dX3_readsBranch_23 : decode cX3_readsBranch 23 = .ok (.iconst 1, 1) := dk_4 (dk_at dksX3_readsBranch_0 23 rfl rfl)
theorem dX3_readsBranch_24 : decode cX3_readsBranch 24 = .ok (.aload_n 0, 1) := dk_42 (dk_at dksX3_readsBranch_1 0 rfl rfl)
theorem dX3_readsBranch_25 : decode cX3_readsBranch 25 = .ok (.getfield 194, 3) := dk_180 0 194 (dk_at dksX3_readsBranch_1 1 rfl rfl)
theorem dX3_readsBranch_28 : decode cX3_readsBranch 28 = .ok (.invokevirtual 214, 3) := dk_182 0 214 (dk_at dksX3_readsBranch_1 4 rfl rfl)
theorem dX3_readsBranch_31 : decode cX3_readsBranch 31 = .ok (.ireturn, 1) := dk_172 (dk_at dksX3_readsBranch_1 7 rfl rfl)
theorem dX3_readsBranch_32 : decode cX3_readsBranch 32 = .ok (.aload_n 0, 1) := dk_42 (dk_at dksX3_readsBranch_1 8 rfl rfl)
theorem dX3_readsBranch_33 : decode cX3_readsBranch 33 = .ok (.invokevirtual 217, 3) := dk_182 0 217 (dk_at dksX3_readsBranch_1 9 rfl rfl)
theorem dX3_readsBranch_36 : decode cX3_readsBranch 36 = .ok (.istore_n 2, 1) := dk_61 (dk_at dksX3_readsBranch_1 12 rfl rfl)
theorem dX3_readsBranch_37 : decode cX3_readsBranch 37 = .ok (.iload_n 2, 1) := dk_28 (dk_at dksX3_readsBranch_1 13 rfl rfl)
theorem dX3_readsBranch_38 : decode cX3_readsBranch 38 = .ok (.i2l, 1) := dk_133 (dk_at dksX3_readsBranch_1 14 rfl rfl)
theorem dX3_readsBranch_39 : decode cX3_readsBranch 39 = .ok (.aload_n 0, 1) := dk_42 (dk_at dksX3_readsBranch_1 15 rfl rfl)
theorem dX3_readsBranch_40 : decode cX3_readsBranch 40 = .ok (.getfield 36, 3) := dk_180 0 36 (dk_at dksX3_readsBranch_1 16 rfl rfl)
theorem dX3_readsBranch_43 : decode cX3_readsBranch 43 = .ok (.aload_n 0, 1) := dk_42 (dk_at dksX3_readsBranch_1 19 rfl rfl)
theorem dX3_readsBranch_44 : decode cX3_readsBranch 44 = .ok (.getfield 226, 3) := dk_180 0 226 (dk_at dksX3_readsBranch_1 20 rfl rfl)
theorem dX3_readsBranch_47 : decode cX3_readsBranch 47 = .ok (.iaload, 1) := dk_46 (dk_at dksX3_readsBranch_1 23 rfl rfl)
theorem dX3_readsBranch_48 : decode cX3_readsBranch 48 = .ok (.i2l, 1) := dk_133 (dk_at dksX3_readsBranch_2 0 rfl rfl)
theorem dX3_readsBranch_49 : decode cX3_readsBranch 49 = .ok (.aload_n 0, 1) := dk_42 (dk_at dksX3_readsBranch_2 1 rfl rfl)
theorem dX3_readsBranch_50 : decode cX3_readsBranch 50 = .ok (.getfield 33, 3) := dk_180 0 33 (dk_at dksX3_readsBranch_2 2 rfl rfl)
theorem dX3_readsBranch_53 : decode cX3_readsBranch 53 = .ok (.aload_n 0, 1) := dk_42 (dk_at dksX3_readsBranch_2 5 rfl rfl)
theorem dX3_readsBranch_54 : decode cX3_readsBranch 54 = .ok (.getfield 226, 3) := dk_180 0 226 (dk_at dksX3_readsBranch_2 6 rfl rfl)
theorem dX3_readsBranch_57 : decode cX3_readsBranch 57 = .ok (.iaload, 1) := dk_46 (dk_at dksX3_readsBranch_2 9 rfl rfl)
theorem dX3_readsBranch_58 : decode cX3_readsBranch 58 = .ok (.i2l, 1) := dk_133 (dk_at dksX3_readsBranch_2 10 rfl rfl)
theorem dX3_readsBranch_59 : decode cX3_readsBranch 59 = .ok (.invokestatic 158, 3) := dk_184 0 158 (dk_at dksX3_readsBranch_2 11 rfl rfl)
theorem dX3_readsBranch_62 : decode cX3_readsBranch 62 = .ok (.ifCond .ne 10, 3) := dk_154 0 10 (dk_at dksX3_readsBranch_2 14 rfl rfl)
theorem dX3_readsBranch_65 : decode cX3_readsBranch 65 = .ok (.aload_n 0, 1) := dk_42 (dk_at dksX3_readsBranch_2 17 rfl rfl)
theorem dX3_readsBranch_66 : decode cX3_readsBranch 66 = .ok (.iconst 2, 1) := dk_5 (dk_at dksX3_readsBranch_2 18 rfl rfl)
theorem dX3_readsBranch_67 : decode cX3_readsBranch 67 = .ok (.iload_n 1, 1) := dk_27 (dk_at dksX3_readsBranch_2 19 rfl rfl)
theorem dX3_readsBranch_68 : decode cX3_readsBranch 68 = .ok (.invokevirtual 214, 3) := dk_182 0 214 (dk_at dksX3_readsBranch_2 20 rfl rfl)
theorem dX3_readsBranch_71 : decode cX3_readsBranch 71 = .ok (.ireturn, 1) := dk_172 (dk_at dksX3_readsBranch_2 23 rfl rfl)
theorem dX3_readsBranch_72 : decode cX3_readsBranch 72 = .ok (.aload_n 0, 1) := dk_42 (dk_at dksX3_readsBranch_3 0 rfl rfl)
theorem dX3_readsBranch_73 : decode cX3_readsBranch 73 = .ok (.getfield 36, 3) := dk_180 0 36 (dk_at dksX3_readsBranch_3 1 rfl rfl)
theorem dX3_readsBranch_76 : decode cX3_readsBranch 76 = .ok (.aload_n 0, 1) := dk_42 (dk_at dksX3_readsBranch_3 4 rfl rfl)
theorem dX3_readsBranch_77 : decode cX3_readsBranch 77 = .ok (.getfield 226, 3) := dk_180 0 226 (dk_at dksX3_readsBranch_3 5 rfl rfl)
theorem dX3_readsBranch_80 : decode cX3_readsBranch 80 = .ok (.iload_n 2, 1) := dk_28 (dk_at dksX3_readsBranch_3 8 rfl rfl)
theorem dX3_readsBranch_81 : decode cX3_readsBranch 81 = .ok (.iastore, 1) := dk_79 (dk_at dksX3_readsBranch_3 9 rfl rfl)
theorem dX3_readsBranch_82 : decode cX3_readsBranch 82 = .ok (.aload_n 0, 1) := dk_42 (dk_at dksX3_readsBranch_3 10 rfl rfl)
theorem dX3_readsBranch_83 : decode cX3_readsBranch 83 = .ok (.aload_n 0, 1) := dk_42 (dk_at dksX3_readsBranch_3 11 rfl rfl)
theorem dX3_readsBranch_84 : decode cX3_readsBranch 84 = .ok (.getfield 194, 3) := dk_180 0 194 (dk_at dksX3_readsBranch_3 12 rfl rfl)
theorem dX3_readsBranch_87 : decode cX3_readsBranch 87 = .ok (.invokevirtual 197, 3) := dk_182 0 197 (dk_at dksX3_readsBranch_3 15 rfl rfl)
theorem dX3_readsBranch_90 : decode cX3_readsBranch 90 = .ok (.bipush 58, 2) := dk_16 58 (dk_at dksX3_readsBranch_3 18 rfl rfl)
theorem dX3_readsBranch_92 : decode cX3_readsBranch 92 = .ok (.if_icmp .eq 13, 3) := dk_159 0 13 (dk_at dksX3_readsBranch_3 20 rfl rfl)
theorem dX3_readsBranch_95 : decode cX3_readsBranch 95 = .ok (.aload_n 0, 1) := dk_42 (dk_at dksX3_readsBranch_3 23 rfl rfl)
theorem dX3_readsBranch_96 : decode cX3_readsBranch 96 = .ok (.iconst 1, 1) := dk_4 (dk_at dksX3_readsBranch_4 0 rfl rfl)
theorem dX3_readsBranch_97 : decode cX3_readsBranch 97 = .ok (.aload_n 0, 1) := dk_42 (dk_at dksX3_readsBranch_4 1 rfl rfl)
theorem dX3_readsBranch_98 : decode cX3_readsBranch 98 = .ok (.getfield 194, 3) := dk_180 0 194 (dk_at dksX3_readsBranch_4 2 rfl rfl)
theorem dX3_readsBranch_101 : decode cX3_readsBranch 101 = .ok (.invokevirtual 214, 3) := dk_182 0 214 (dk_at dksX3_readsBranch_4 5 rfl rfl)
theorem dX3_readsBranch_104 : decode cX3_readsBranch 104 = .ok (.ireturn, 1) := dk_172 (dk_at dksX3_readsBranch_4 8 rfl rfl)
theorem dX3_readsBranch_105 : decode cX3_readsBranch 105 = .ok (.aload_n 0, 1) := dk_42 (dk_at dksX3_readsBranch_4 9 rfl rfl)
theorem dX3_readsBranch_106 : decode cX3_readsBranch 106 = .ok (.dup, 1) := dk_89 (dk_at dksX3_readsBranch_4 10 rfl rfl)
theorem dX3_readsBranch_107 : decode cX3_readsBranch 107 = .ok (.getfield 194, 3) := dk_180 0 194 (dk_at dksX3_readsBranch_4 11 rfl rfl)
theorem dX3_readsBranch_110 : decode cX3_readsBranch 110 = .ok (.iconst 1, 1) := dk_4 (dk_at dksX3_readsBranch_4 14 rfl rfl)
theorem dX3_readsBranch_111 : decode cX3_readsBranch 111 = .ok (.iadd, 1) := dk_96 (dk_at dksX3_readsBranch_4 15 rfl rfl)
theorem dX3_readsBranch_112 : decode cX3_readsBranch 112 = .ok (.putfield 194, 3) := dk_181 0 194 (dk_at dksX3_readsBranch_4 16 rfl rfl)
theorem dX3_readsBranch_115 : decode cX3_readsBranch 115 = .ok (.aload_n 0, 1) := dk_42 (dk_at dksX3_readsBranch_4 19 rfl rfl)
theorem dX3_readsBranch_116 : decode cX3_readsBranch 116 = .ok (.getfield 30, 3) := dk_180 0 30 (dk_at dksX3_readsBranch_4 20 rfl rfl)
theorem dX3_readsBranch_119 : decode cX3_readsBranch 119 = .ok (.aload_n 0, 1) := dk_42 (dk_at dksX3_readsBranch_4 23 rfl rfl)
theorem dX3_readsBranch_120 : decode cX3_readsBranch 120 = .ok (.getfield 226, 3) := dk_180 0 226 (dk_at dksX3_readsBranch_5 0 rfl rfl)
theorem dX3_readsBranch_123 : decode cX3_readsBranch 123 = .ok (.iaload, 1) := dk_46 (dk_at dksX3_readsBranch_5 3 rfl rfl)
theorem dX3_readsBranch_124 : decode cX3_readsBranch 124 = .ok (.iload_n 2, 1) := dk_28 (dk_at dksX3_readsBranch_5 4 rfl rfl)
theorem dX3_readsBranch_125 : decode cX3_readsBranch 125 = .ok (.iadd, 1) := dk_96 (dk_at dksX3_readsBranch_5 5 rfl rfl)
theorem dX3_readsBranch_126 : decode cX3_readsBranch 126 = .ok (.iconst 1, 1) := dk_4 (dk_at dksX3_readsBranch_5 6 rfl rfl)
theorem dX3_readsBranch_127 : decode cX3_readsBranch 127 = .ok (.isub, 1) := dk_100 (dk_at dksX3_readsBranch_5 7 rfl rfl)
theorem dX3_readsBranch_128 : decode cX3_readsBranch 128 = .ok (.istore_n 3, 1) := dk_62 (dk_at dksX3_readsBranch_5 8 rfl rfl)
theorem dX3_readsBranch_129 : decode cX3_readsBranch 129 = .ok (.aload_n 0, 1) := dk_42 (dk_at dksX3_readsBranch_5 9 rfl rfl)
theorem dX3_readsBranch_130 : decode cX3_readsBranch 130 = .ok (.aload_n 0, 1) := dk_42 (dk_at dksX3_readsBranch_5 10 rfl rfl)
theorem dX3_readsBranch_131 : decode cX3_readsBranch 131 = .ok (.getfield 194, 3) := dk_180 0 194 (dk_at dksX3_readsBranch_5 11 rfl rfl)
theorem dX3_readsBranch_134 : decode cX3_readsBranch 134 = .ok (.invokevirtual 197, 3) := dk_182 0 197 (dk_at dksX3_readsBranch_5 14 rfl rfl)
theorem dX3_readsBranch_137 : decode cX3_readsBranch 137 = .ok (.bipush 40, 2) := dk_16 40 (dk_at dksX3_readsBranch_5 17 rfl rfl)
theorem dX3_readsBranch_139 : decode cX3_readsBranch 139 = .ok (.if_icmp .eq 10, 3) := dk_159 0 10 (dk_at dksX3_readsBranch_5 19 rfl rfl)
theorem dX3_readsBranch_142 : decode cX3_readsBranch 142 = .ok (.aload_n 0, 1) := dk_42 (dk_at dksX3_readsBranch_5 22 rfl rfl)
theorem dX3_readsBranch_143 : decode cX3_readsBranch 143 = .ok (.iload_n 3, 1) := dk_29 (dk_at dksX3_readsBranch_5 23 rfl rfl)
theorem dX3_readsBranch_144 : decode cX3_readsBranch 144 = .ok (.iconst 1, 1) := dk_4 (dk_at dksX3_readsBranch_6 0 rfl rfl)
theorem dX3_readsBranch_145 : decode cX3_readsBranch 145 = .ok (.invokevirtual 239, 3) := dk_182 0 239 (dk_at dksX3_readsBranch_6 1 rfl rfl)
theorem dX3_readsBranch_148 : decode cX3_readsBranch 148 = .ok (.ireturn, 1) := dk_172 (dk_at dksX3_readsBranch_6 4 rfl rfl)
theorem dX3_readsBranch_149 : decode cX3_readsBranch 149 = .ok (.aload_n 0, 1) := dk_42 (dk_at dksX3_readsBranch_6 5 rfl rfl)
theorem dX3_readsBranch_150 : decode cX3_readsBranch 150 = .ok (.iload_n 3, 1) := dk_29 (dk_at dksX3_readsBranch_6 6 rfl rfl)
theorem dX3_readsBranch_151 : decode cX3_readsBranch 151 = .ok (.invokevirtual 211, 3) := dk_182 0 211 (dk_at dksX3_readsBranch_6 7 rfl rfl)
theorem dX3_readsBranch_154 : decode cX3_readsBranch 154 = .ok (.iconst 4, 1) := dk_7 (dk_at dksX3_readsBranch_6 10 rfl rfl)
theorem dX3_readsBranch_155 : decode cX3_readsBranch 155 = .ok (.if_icmp .ne 13, 3) := dk_160 0 13 (dk_at dksX3_readsBranch_6 11 rfl rfl)
theorem dX3_readsBranch_158 : decode cX3_readsBranch 158 = .ok (.aload_n 0, 1) := dk_42 (dk_at dksX3_readsBranch_6 14 rfl rfl)
theorem dX3_readsBranch_159 : decode cX3_readsBranch 159 = .ok (.iconst 3, 1) := dk_6 (dk_at dksX3_readsBranch_6 15 rfl rfl)
theorem dX3_readsBranch_160 : decode cX3_readsBranch 160 = .ok (.aload_n 0, 1) := dk_42 (dk_at dksX3_readsBranch_6 16 rfl rfl)
theorem dX3_readsBranch_161 : decode cX3_readsBranch 161 = .ok (.getfield 194, 3) := dk_180 0 194 (dk_at dksX3_readsBranch_6 17 rfl rfl)
theorem dX3_readsBranch_164 : decode cX3_readsBranch 164 = .ok (.invokevirtual 214, 3) := dk_182 0 214 (dk_at dksX3_readsBranch_6 20 rfl rfl)
theorem dX3_readsBranch_167 : decode cX3_readsBranch 167 = .ok (.ireturn, 1) := dk_172 (dk_at dksX3_readsBranch_6 23 rfl rfl)
theorem dX3_readsBranch_168 : decode cX3_readsBranch 168 = .ok (.aload_n 0, 1) := dk_42 (dk_at dksX3_readsBranch_7 0 rfl rfl)
theorem dX3_readsBranch_169 : decode cX3_readsBranch 169 = .ok (.dup, 1) := dk_89 (dk_at dksX3_readsBranch_7 1 rfl rfl)
theorem dX3_readsBranch_170 : decode cX3_readsBranch 170 = .ok (.getfield 194, 3) := dk_180 0 194 (dk_at dksX3_readsBranch_7 2 rfl rfl)
theorem dX3_readsBranch_173 : decode cX3_readsBranch 173 = .ok (.iconst 1, 1) := dk_4 (dk_at dksX3_readsBranch_7 5 rfl rfl)
theorem dX3_readsBranch_174 : decode cX3_readsBranch 174 = .ok (.iadd, 1) := dk_96 (dk_at dksX3_readsBranch_7 6 rfl rfl)
theorem dX3_readsBranch_175 : decode cX3_readsBranch 175 = .ok (.putfield 194, 3) := dk_181 0 194 (dk_at dksX3_readsBranch_7 7 rfl rfl)
theorem dX3_readsBranch_178 : decode cX3_readsBranch 178 = .ok (.aload_n 0, 1) := dk_42 (dk_at dksX3_readsBranch_7 10 rfl rfl)
theorem dX3_readsBranch_179 : decode cX3_readsBranch 179 = .ok (.dup, 1) := dk_89 (dk_at dksX3_readsBranch_7 11 rfl rfl)
theorem dX3_readsBranch_180 : decode cX3_readsBranch 180 = .ok (.getfield 226, 3) := dk_180 0 226 (dk_at dksX3_readsBranch_7 12 rfl rfl)
theorem dX3_readsBranch_183 : decode cX3_readsBranch 183 = .ok (.iconst 1, 1) := dk_4 (dk_at dksX3_readsBranch_7 15 rfl rfl)
theorem dX3_readsBranch_184 : decode cX3_readsBranch 184 = .ok (.iadd, 1) := dk_96 (dk_at dksX3_readsBranch_7 16 rfl rfl)
theorem dX3_readsBranch_185 : decode cX3_readsBranch 185 = .ok (.putfield 226, 3) := dk_181 0 226 (dk_at dksX3_readsBranch_7 17 rfl rfl)
theorem dX3_readsBranch_188 : decode cX3_readsBranch 188 = .ok (.aload_n 0, 1) := dk_42 (dk_at dksX3_readsBranch_7 20 rfl rfl)
theorem dX3_readsBranch_189 : decode cX3_readsBranch 189 = .ok (.iload_n 3, 1) := dk_29 (dk_at dksX3_readsBranch_7 21 rfl rfl)
theorem dX3_readsBranch_190 : decode cX3_readsBranch 190 = .ok (.invokevirtual 243, 3) := dk_182 0 243 (dk_at dksX3_readsBranch_8 0 rfl rfl)
theorem dX3_readsBranch_193 : decode cX3_readsBranch 193 = .ok (.ireturn, 1) := dk_172 (dk_at dksX3_readsBranch_8 3 rfl rfl)
abbrev cX3_take : ByteArray := prog_21_method_69_code
def yX3_take : MethodName := ⟨RX3, "take", "(II)I"⟩
def dkwX3_take_2 : List UInt8 := [132, 3, 1, 167, 255, 235, 27, 172]
abbrev dktX3_take_2 : List UInt8 := dkwX3_take_2 ++ []
def dkwX3_take_1 : List UInt8 := [182, 1, 94, 3, 62, 29, 16, 17, 162, 0, 21, 42, 180, 0, 7, 29, 42, 180, 0, 106, 29, 46, 79]
abbrev dktX3_take_1 : List UInt8 := dkwX3_take_1 ++ dktX3_take_2
def dkwX3_take_0 : List UInt8 := [42, 27, 28, 182, 1, 115, 154, 0, 5, 2, 172, 42, 182, 0, 169, 42, 42, 27, 28, 182, 1, 85, 27]
abbrev dktX3_take_0 : List UInt8 := dkwX3_take_0 ++ dktX3_take_1
theorem dksX3_take_0 : cX3_take.data.toList.drop 0 = dktX3_take_0 := by decide +kernel
theorem dksX3_take_1 : cX3_take.data.toList.drop 23 = dktX3_take_1 := dk_seg dksX3_take_0 23 rfl rfl
theorem dksX3_take_2 : cX3_take.data.toList.drop 46 = dktX3_take_2 := dk_seg dksX3_take_1 23 rfl rfl
theorem dX3_take_0 : decode cX3_take 0 = .ok (.aload_n 0, 1) := dk_42 (dk_at dksX3_take_0 0 rfl rfl)
theorem dX3_take_1 : decode cX3_take 1 = .ok (.iload_n 1, 1) := dk_27 (dk_at dksX3_take_0 1 rfl rfl)
theorem dX3_take_2 : decode cX3_take 2 = .ok (.iload_n 2, 1) := dk_28 (dk_at dksX3_take_0 2 rfl rfl)
theorem dX3_take_3 : decode cX3_take 3 = .ok (.invokevirtual 371, 3) := dk_182 1 115 (dk_at dksX3_take_0 3 rfl rfl)
theorem dX3_take_6 : decode cX3_take 6 = .ok (.ifCond .ne 5, 3) := dk_154 0 5 (dk_at dksX3_take_0 6 rfl rfl)
theorem dX3_take_9 : decode cX3_take 9 = .ok (.iconst (-1), 1) := dk_2 (dk_at dksX3_take_0 9 rfl rfl)
theorem dX3_take_10 : decode cX3_take 10 = .ok (.ireturn, 1) := dk_172 (dk_at dksX3_take_0 10 rfl rfl)
theorem dX3_take_11 : decode cX3_take 11 = .ok (.aload_n 0, 1) := dk_42 (dk_at dksX3_take_0 11 rfl rfl)
theorem dX3_take_12 : decode cX3_take 12 = .ok (.invokevirtual 169, 3) := dk_182 0 169 (dk_at dksX3_take_0 12 rfl rfl)
theorem dX3_take_15 : decode cX3_take 15 = .ok (.aload_n 0, 1) := dk_42 (dk_at dksX3_take_0 15 rfl rfl)
theorem dX3_take_16 : decode cX3_take 16 = .ok (.aload_n 0, 1) := dk_42 (dk_at dksX3_take_0 16 rfl rfl)
theorem dX3_take_17 : decode cX3_take 17 = .ok (.iload_n 1, 1) := dk_27 (dk_at dksX3_take_0 17 rfl rfl)
theorem dX3_take_18 : decode cX3_take 18 = .ok (.iload_n 2, 1) := dk_28 (dk_at dksX3_take_0 18 rfl rfl)
theorem dX3_take_19 : decode cX3_take 19 = .ok (.invokevirtual 341, 3) := dk_182 1 85 (dk_at dksX3_take_0 19 rfl rfl)
theorem dX3_take_22 : decode cX3_take 22 = .ok (.iload_n 1, 1) := dk_27 (dk_at dksX3_take_0 22 rfl rfl)
theorem dX3_take_23 : decode cX3_take 23 = .ok (.invokevirtual 350, 3) := dk_182 1 94 (dk_at dksX3_take_1 0 rfl rfl)
theorem dX3_take_26 : decode cX3_take 26 = .ok (.iconst 0, 1) := dk_3 (dk_at dksX3_take_1 3 rfl rfl)
theorem dX3_take_27 : decode cX3_take 27 = .ok (.istore_n 3, 1) := dk_62 (dk_at dksX3_take_1 4 rfl rfl)
theorem dX3_take_28 : decode cX3_take 28 = .ok (.iload_n 3, 1) := dk_29 (dk_at dksX3_take_1 5 rfl rfl)
theorem dX3_take_29 : decode cX3_take 29 = .ok (.bipush 17, 2) := dk_16 17 (dk_at dksX3_take_1 6 rfl rfl)
theorem dX3_take_31 : decode cX3_take 31 = .ok (.if_icmp .ge 21, 3) := dk_162 0 21 (dk_at dksX3_take_1 8 rfl rfl)
theorem dX3_take_34 : decode cX3_take 34 = .ok (.aload_n 0, 1) := dk_42 (dk_at dksX3_take_1 11 rfl rfl)
theorem dX3_take_35 : decode cX3_take 35 = .ok (.getfield 7, 3) := dk_180 0 7 (dk_at dksX3_take_1 12 rfl rfl)
theorem dX3_take_38 : decode cX3_take 38 = .ok (.iload_n 3, 1) := dk_29 (dk_at dksX3_take_1 15 rfl rfl)
theorem dX3_take_39 : decode cX3_take 39 = .ok (.aload_n 0, 1) := dk_42 (dk_at dksX3_take_1 16 rfl rfl)
theorem dX3_take_40 : decode cX3_take 40 = .ok (.getfield 106, 3) := dk_180 0 106 (dk_at dksX3_take_1 17 rfl rfl)
theorem dX3_take_43 : decode cX3_take 43 = .ok (.iload_n 3, 1) := dk_29 (dk_at dksX3_take_1 20 rfl rfl)
theorem dX3_take_44 : decode cX3_take 44 = .ok (.iaload, 1) := dk_46 (dk_at dksX3_take_1 21 rfl rfl)
theorem dX3_take_45 : decode cX3_take 45 = .ok (.iastore, 1) := dk_79 (dk_at dksX3_take_1 22 rfl rfl)
theorem dX3_take_46 : decode cX3_take 46 = .ok (.iinc 3 1, 3) := dk_132 3 1 (dk_at dksX3_take_2 0 rfl rfl)
theorem dX3_take_49 : decode cX3_take 49 = .ok (.goto (-21), 3) := dk_167 255 235 (dk_at dksX3_take_2 3 rfl rfl)
theorem dX3_take_52 : decode cX3_take 52 = .ok (.iload_n 1, 1) := dk_27 (dk_at dksX3_take_2 6 rfl rfl)
theorem dX3_take_53 : decode cX3_take 53 = .ok (.ireturn, 1) := dk_172 (dk_at dksX3_take_2 7 rfl rfl)
abbrev cX3_isOfList : ByteArray := prog_21_method_68_code
def yX3_isOfList : MethodName := ⟨RX3, "isOfList", "(II)Z"⟩
def dkwX3_isOfList_1 : List UInt8 := [180, 0, 97, 27, 46, 4, 100, 133, 184, 0, 158, 172]
abbrev dktX3_isOfList_1 : List UInt8 := dkwX3_isOfList_1 ++ []
def dkwX3_isOfList_0 : List UInt8 := [27, 133, 10, 20, 1, 110, 184, 0, 158, 154, 0, 5, 3, 172, 42, 182, 1, 112, 28, 133, 9, 42]
abbrev dktX3_isOfList_0 : List UInt8 := dkwX3_isOfList_0 ++ dktX3_isOfList_1
theorem dksX3_isOfList_0 : cX3_isOfList.data.toList.drop 0 = dktX3_isOfList_0 := by decide +kernel
theorem dksX3_isOfList_1 : cX3_isOfList.data.toList.drop 22 = dktX3_isOfList_1 := dk_seg dksX3_isOfList_0 22 rfl rfl
theorem dX3_isOfList_0 : decode cX3_isOfList 0 = .ok (.iload_n 1, 1) := dk_27 (dk_at dksX3_isOfList_0 0 rfl rfl)
theorem dX3_isOfList_1 : decode cX3_isOfList 1 = .ok (.i2l, 1) := dk_133 (dk_at dksX3_isOfList_0 1 rfl rfl)
theorem dX3_isOfList_2 : decode cX3_isOfList 2 = .ok (.lconst 1, 1) := dk_10 (dk_at dksX3_isOfList_0 2 rfl rfl)
theorem dX3_isOfList_3 : decode cX3_isOfList 3 = .ok (.ldc2_w 366, 3) := dk_20 1 110 (dk_at dksX3_isOfList_0 3 rfl rfl)
theorem dX3_isOfList_6 : decode cX3_isOfList 6 = .ok (.invokestatic 158, 3) := dk_184 0 158 (dk_at dksX3_isOfList_0 6 rfl rfl)
theorem dX3_isOfList_9 : decode cX3_isOfList 9 = .ok (.ifCond .ne 5, 3) := dk_154 0 5 (dk_at dksX3_isOfList_0 9 rfl rfl)
theorem dX3_isOfList_12 : decode cX3_isOfList 12 = .ok (.iconst 0, 1) := dk_3 (dk_at dksX3_isOfList_0 12 rfl rfl)
theorem dX3_isOfList_13 : decode cX3_isOfList 13 = .ok (.ireturn, 1) := dk_172 (dk_at dksX3_isOfList_0 13 rfl rfl)
theorem dX3_isOfList_14 : decode cX3_isOfList 14 = .ok (.aload_n 0, 1) := dk_42 (dk_at dksX3_isOfList_0 14 rfl rfl)
theorem dX3_isOfList_15 : decode cX3_isOfList 15 = .ok (.invokevirtual 368, 3) := dk_182 1 112 (dk_at dksX3_isOfList_0 15 rfl rfl)
theorem dX3_isOfList_18 : decode cX3_isOfList 18 = .ok (.iload_n 2, 1) := dk_28 (dk_at dksX3_isOfList_0 18 rfl rfl)
theorem dX3_isOfList_19 : decode cX3_isOfList 19 = .ok (.i2l, 1) := dk_133 (dk_at dksX3_isOfList_0 19 rfl rfl)
theorem dX3_isOfList_20 : decode cX3_isOfList 20 = .ok (.lconst 0, 1) := dk_9 (dk_at dksX3_isOfList_0 20 rfl rfl)
theorem dX3_isOfList_21 : decode cX3_isOfList 21 = .ok (.aload_n 0, 1) := dk_42 (dk_at dksX3_isOfList_0 21 rfl rfl)
theorem dX3_isOfList_22 : decode cX3_isOfList 22 = .ok (.getfield 97, 3) := dk_180 0 97 (dk_at dksX3_isOfList_1 0 rfl rfl)
theorem dX3_isOfList_25 : decode cX3_isOfList 25 = .ok (.iload_n 1, 1) := dk_27 (dk_at dksX3_isOfList_1 3 rfl rfl)
theorem dX3_isOfList_26 : decode cX3_isOfList 26 = .ok (.iaload, 1) := dk_46 (dk_at dksX3_isOfList_1 4 rfl rfl)
theorem dX3_isOfList_27 : decode cX3_isOfList 27 = .ok (.iconst 1, 1) := dk_4 (dk_at dksX3_isOfList_1 5 rfl rfl)
theorem dX3_isOfList_28 : decode cX3_isOfList 28 = .ok (.isub, 1) := dk_100 (dk_at dksX3_isOfList_1 6 rfl rfl)
theorem dX3_isOfList_29 : decode cX3_isOfList 29 = .ok (.i2l, 1) := dk_133 (dk_at dksX3_isOfList_1 7 rfl rfl)
theorem dX3_isOfList_30 : decode cX3_isOfList 30 = .ok (.invokestatic 158, 3) := dk_184 0 158 (dk_at dksX3_isOfList_1 8 rfl rfl)
theorem dX3_isOfList_33 : decode cX3_isOfList 33 = .ok (.ireturn, 1) := dk_172 (dk_at dksX3_isOfList_1 11 rfl rfl)
abbrev cX3_lists : ByteArray := prog_21_method_67_code
def yX3_lists : MethodName := ⟨RX3, "lists", "()V"⟩
def dkwX3_lists_2 : List UInt8 := [132, 1, 1, 167, 255, 242, 177]
abbrev dktX3_lists_2 : List UInt8 := dkwX3_lists_2 ++ []
def dkwX3_lists_1 : List UInt8 := [4, 4, 79, 42, 180, 0, 103, 3, 3, 79, 5, 60, 27, 16, 11, 163, 0, 14, 42, 27, 182, 1, 107]
abbrev dktX3_lists_1 : List UInt8 := dkwX3_lists_1 ++ dktX3_lists_2
def dkwX3_lists_0 : List UInt8 := [42, 180, 1, 103, 153, 0, 4, 177, 42, 4, 181, 1, 103, 42, 180, 0, 100, 4, 3, 79, 42, 180, 0, 97]
abbrev dktX3_lists_0 : List UInt8 := dkwX3_lists_0 ++ dktX3_lists_1
theorem dksX3_lists_0 : cX3_lists.data.toList.drop 0 = dktX3_lists_0 := by decide +kernel
theorem dksX3_lists_1 : cX3_lists.data.toList.drop 24 = dktX3_lists_1 := dk_seg dksX3_lists_0 24 rfl rfl
theorem dksX3_lists_2 : cX3_lists.data.toList.drop 47 = dktX3_lists_2 := dk_seg dksX3_lists_1 23 rfl rfl
theorem dX3_lists_0 : decode cX3_lists 0 = .ok (.aload_n 0, 1) := dk_42 (dk_at dksX3_lists_0 0 rfl rfl)
theorem dX3_lists_1 : decode cX3_lists 1 = .ok (.getfield 359, 3) := dk_180 1 103 (dk_at dksX3_lists_0 1 rfl rfl)
theorem dX3_lists_4 : decode cX3_lists 4 = .ok (.ifCond .eq 4, 3) := dk_153 0 4 (dk_at dksX3_lists_0 4 rfl rfl)
theorem dX3_lists_7 : decode cX3_lists 7 = .ok (.return_, 1) := dk_177 (dk_at dksX3_lists_0 7 rfl rfl)
theorem dX3_lists_8 : decode cX3_lists 8 = .ok (.aload_n 0, 1) := dk_42 (dk_at dksX3_lists_0 8 rfl rfl)
theorem dX3_lists_9 : decode cX3_lists 9 = .ok (.iconst 1, 1) := dk_4 (dk_at dksX3_lists_0 9 rfl rfl)
theorem dX3_lists_10 : decode cX3_lists 10 = .ok (.putfield 359, 3) := dk_181 1 103 (dk_at dksX3_lists_0 10 rfl rfl)
theorem dX3_lists_13 : decode cX3_lists 13 = .ok (.aload_n 0, 1) := dk_42 (dk_at dksX3_lists_0 13 rfl rfl)
theorem dX3_lists_14 : decode cX3_lists 14 = .ok (.getfield 100, 3) := dk_180 0 100 (dk_at dksX3_lists_0 14 rfl rfl)
theorem dX3_lists_17 : decode cX3_lists 17 = .ok (.iconst 1, 1) := dk_4 (dk_at dksX3_lists_0 17 rfl rfl)
theorem dX3_lists_18 : decode cX3_lists 18 = .ok (.iconst 0, 1) := dk_3 (dk_at dksX3_lists_0 18 rfl rfl)
theorem dX3_lists_19 : decode cX3_lists 19 = .ok (.iastore, 1) := dk_79 (dk_at dksX3_lists_0 19 rfl rfl)
theorem dX3_lists_20 : decode cX3_lists 20 = .ok (.aload_n 0, 1) := dk_42 (dk_at dksX3_lists_0 20 rfl rfl)
theorem dX3_lists_21 : decode cX3_lists 21 = .ok (.getfield 97, 3) := dk_180 0 97 (dk_at dksX3_lists_0 21 rfl rfl)
theorem dX3_lists_24 : decode cX3_lists 24 = .ok (.iconst 1, 1) := dk_4 (dk_at dksX3_lists_1 0 rfl rfl)
theorem dX3_lists_25 : decode cX3_lists 25 = .ok (.iconst 1, 1) := dk_4 (dk_at dksX3_lists_1 1 rfl rfl)
theorem dX3_lists_26 : decode cX3_lists 26 = .ok (.iastore, 1) := dk_79 (dk_at dksX3_lists_1 2 rfl rfl)
theorem dX3_lists_27 : decode cX3_lists 27 = .ok (.aload_n 0, 1) := dk_42 (dk_at dksX3_lists_1 3 rfl rfl)
theorem dX3_lists_28 : decode cX3_lists 28 = .ok (.getfield 103, 3) := dk_180 0 103 (dk_at dksX3_lists_1 4 rfl rfl)
theorem dX3_lists_31 : decode cX3_lists 31 = .ok (.iconst 0, 1) := dk_3 (dk_at dksX3_lists_1 7 rfl rfl)
theorem dX3_lists_32 : decode cX3_lists 32 = .ok (.iconst 0, 1) := dk_3 (dk_at dksX3_lists_1 8 rfl rfl)
theorem dX3_lists_33 : decode cX3_lists 33 = .ok (.iastore, 1) := dk_79 (dk_at dksX3_lists_1 9 rfl rfl)
theorem dX3_lists_34 : decode cX3_lists 34 = .ok (.iconst 2, 1) := dk_5 (dk_at dksX3_lists_1 10 rfl rfl)
theorem dX3_lists_35 : decode cX3_lists 35 = .ok (.istore_n 1, 1) := dk_60 (dk_at dksX3_lists_1 11 rfl rfl)
theorem dX3_lists_36 : decode cX3_lists 36 = .ok (.iload_n 1, 1) := dk_27 (dk_at dksX3_lists_1 12 rfl rfl)
theorem dX3_lists_37 : decode cX3_lists 37 = .ok (.bipush 11, 2) := dk_16 11 (dk_at dksX3_lists_1 13 rfl rfl)
theorem dX3_lists_39 : decode cX3_lists 39 = .ok (.if_icmp .gt 14, 3) := dk_163 0 14 (dk_at dksX3_lists_1 15 rfl rfl)
theorem dX3_lists_42 : decode cX3_lists 42 = .ok (.aload_n 0, 1) := dk_42 (dk_at dksX3_lists_1 18 rfl rfl)
theorem dX3_lists_43 : decode cX3_lists 43 = .ok (.iload_n 1, 1) := dk_27 (dk_at dksX3_lists_1 19 rfl rfl)
theorem dX3_lists_44 : decode cX3_lists 44 = .ok (.invokevirtual 363, 3) := dk_182 1 107 (dk_at dksX3_lists_1 20 rfl rfl)
theorem dX3_lists_47 : decode cX3_lists 47 = .ok (.iinc 1 1, 3) := dk_132 1 1 (dk_at dksX3_lists_2 0 rfl rfl)
theorem dX3_lists_50 : decode cX3_lists 50 = .ok (.goto (-14), 3) := dk_167 255 242 (dk_at dksX3_lists_2 3 rfl rfl)
theorem dX3_lists_53 : decode cX3_lists 53 = .ok (.return_, 1) := dk_177 (dk_at dksX3_lists_2 6 rfl rfl)
abbrev cX3_listsOf : ByteArray := prog_21_method_66_code
def yX3_listsOf : MethodName := ⟨RX3, "listsOf", "(I)V"⟩
def dkwX3_listsOf_6 : List UInt8 := [132, 2, 1, 167, 255, 143, 177]
abbrev dktX3_listsOf_6 : List UInt8 := dkwX3_listsOf_6 ++ []
def dkwX3_listsOf_5 : List UInt8 := [180, 0, 106, 3, 182, 1, 69, 42, 182, 1, 97, 42, 27, 182, 1, 100, 132, 3, 1, 167, 255, 163]
abbrev dktX3_listsOf_5 : List UInt8 := dkwX3_listsOf_5 ++ dktX3_listsOf_6
def dkwX3_listsOf_4 : List UInt8 := [180, 0, 106, 4, 29, 96, 92, 46, 4, 27, 4, 100, 120, 128, 79, 42, 180, 0, 106, 3, 27, 79, 42, 42]
abbrev dktX3_listsOf_4 : List UInt8 := dkwX3_listsOf_4 ++ dktX3_listsOf_5
def dkwX3_listsOf_3 : List UInt8 := [4, 29, 96, 46, 184, 0, 148, 7, 160, 0, 6, 167, 0, 53, 42, 180, 0, 106, 27, 4, 29, 120, 79, 42]
abbrev dktX3_listsOf_3 : List UInt8 := dkwX3_listsOf_3 ++ dktX3_listsOf_4
def dkwX3_listsOf_2 : List UInt8 := [4, 100, 162, 0, 92, 42, 42, 27, 4, 100, 28, 182, 1, 85, 27, 4, 100, 182, 1, 94, 42, 180, 0, 106]
abbrev dktX3_listsOf_2 : List UInt8 := dkwX3_listsOf_2 ++ dktX3_listsOf_3
def dkwX3_listsOf_1 : List UInt8 := [180, 0, 97, 27, 3, 79, 3, 61, 28, 42, 180, 0, 97, 27, 4, 100, 46, 162, 0, 107, 3, 62, 29, 27]
abbrev dktX3_listsOf_1 : List UInt8 := dkwX3_listsOf_1 ++ dktX3_listsOf_2
def dkwX3_listsOf_0 : List UInt8 := [42, 180, 0, 100, 27, 42, 27, 4, 100, 42, 180, 0, 97, 27, 4, 100, 46, 182, 1, 85, 79, 42]
abbrev dktX3_listsOf_0 : List UInt8 := dkwX3_listsOf_0 ++ dktX3_listsOf_1
theorem dksX3_listsOf_0 : cX3_listsOf.data.toList.drop 0 = dktX3_listsOf_0 := by decide +kernel
theorem dksX3_listsOf_1 : cX3_listsOf.data.toList.drop 22 = dktX3_listsOf_1 := dk_seg dksX3_listsOf_0 22 rfl rfl
theorem dksX3_listsOf_2 : cX3_listsOf.data.toList.drop 46 = dktX3_listsOf_2 := dk_seg dksX3_listsOf_1 24 rfl rfl
theorem dksX3_listsOf_3 : cX3_listsOf.data.toList.drop 70 = dktX3_listsOf_3 := dk_seg dksX3_listsOf_2 24 rfl rfl
theorem dksX3_listsOf_4 : cX3_listsOf.data.toList.drop 94 = dktX3_listsOf_4 := dk_seg dksX3_listsOf_3 24 rfl rfl
theorem dksX3_listsOf_5 : cX3_listsOf.data.toList.drop 118 = dktX3_listsOf_5 := dk_seg dksX3_listsOf_4 24 rfl rfl
theorem dksX3_listsOf_6 : cX3_listsOf.data.toList.drop 140 = dktX3_listsOf_6 := dk_seg dksX3_listsOf_5 22 rfl rfl
theorem dX3_listsOf_0 : decode cX3_listsOf 0 = .ok (.aload_n 0, 1) := dk_42 (dk_at dksX3_listsOf_0 0 rfl rfl)
theorem dX3_listsOf_1 : decode cX3_listsOf 1 = .ok (.getfield 100, 3) := dk_180 0 100 (dk_at dksX3_listsOf_0 1 rfl rfl)
theorem dX3_listsOf_4 : decode cX3_listsOf 4 = .ok (.iload_n 1, 1) := dk_27 (dk_at dksX3_listsOf_0 4 rfl rfl)
theorem dX3_listsOf_5 : decode cX3_listsOf 5 = .ok (.aload_n 0, 1) := dk_42 (dk_at dksX3_listsOf_0 5 rfl rfl)
theorem dX3_listsOf_6 : decode cX3_listsOf 6 = .ok (.iload_n 1, 1) := dk_27 (dk_at dksX3_listsOf_0 6 rfl rfl)
theorem dX3_listsOf_7 : decode cX3_listsOf 7 = .ok (.iconst 1, 1) := dk_4 (dk_at dksX3_listsOf_0 7 rfl rfl)
theorem dX3_listsOf_8 : decode cX3_listsOf 8 = .ok (.isub, 1) := dk_100 (dk_at dksX3_listsOf_0 8 rfl rfl)
theorem dX3_listsOf_9 : decode cX3_listsOf 9 = .ok (.aload_n 0, 1) := dk_42 (dk_at dksX3_listsOf_0 9 rfl rfl)
theorem dX3_listsOf_10 : decode cX3_listsOf 10 = .ok (.getfield 97, 3) := dk_180 0 97 (dk_at dksX3_listsOf_0 10 rfl rfl)
theorem dX3_listsOf_13 : decode cX3_listsOf 13 = .ok (.iload_n 1, 1) := dk_27 (dk_at dksX3_listsOf_0 13 rfl rfl)
theorem dX3_listsOf_14 : decode cX3_listsOf 14 = .ok (.iconst 1, 1) := dk_4 (dk_at dksX3_listsOf_0 14 rfl rfl)
theorem dX3_listsOf_15 : decode cX3_listsOf 15 = .ok (.isub, 1) := dk_100 (dk_at dksX3_listsOf_0 15 rfl rfl)
theorem dX3_listsOf_16 : decode cX3_listsOf 16 = .ok (.iaload, 1) := dk_46 (dk_at dksX3_listsOf_0 16 rfl rfl)
theorem dX3_listsOf_17 : decode cX3_listsOf 17 = .ok (.invokevirtual 341, 3) := dk_182 1 85 (dk_at dksX3_listsOf_0 17 rfl rfl)
theorem dX3_listsOf_20 : decode cX3_listsOf 20 = .ok (.iastore, 1) := dk_79 (dk_at dksX3_listsOf_0 20 rfl rfl)
theorem dX3_listsOf_21 : decode cX3_listsOf 21 = .ok (.aload_n 0, 1) := dk_42 (dk_at dksX3_listsOf_0 21 rfl rfl)
theorem dX3_listsOf_22 : decode cX3_listsOf 22 = .ok (.getfield 97, 3) := dk_180 0 97 (dk_at dksX3_listsOf_1 0 rfl rfl)
theorem dX3_listsOf_25 : decode cX3_listsOf 25 = .ok (.iload_n 1, 1) := dk_27 (dk_at dksX3_listsOf_1 3 rfl rfl)
theorem dX3_listsOf_26 : decode cX3_listsOf 26 = .ok (.iconst 0, 1) := dk_3 (dk_at dksX3_listsOf_1 4 rfl rfl)
theorem dX3_listsOf_27 : decode cX3_listsOf 27 = .ok (.iastore, 1) := dk_79 (dk_at dksX3_listsOf_1 5 rfl rfl)
theorem dX3_listsOf_28 : decode cX3_listsOf 28 = .ok (.iconst 0, 1) := dk_3 (dk_at dksX3_listsOf_1 6 rfl rfl)
theorem dX3_listsOf_29 : decode cX3_listsOf 29 = .ok (.istore_n 2, 1) := dk_61 (dk_at dksX3_listsOf_1 7 rfl rfl)
theorem dX3_listsOf_30 : decode cX3_listsOf 30 = .ok (.iload_n 2, 1) := dk_28 (dk_at dksX3_listsOf_1 8 rfl rfl)
theorem dX3_listsOf_31 : decode cX3_listsOf 31 = .ok (.aload_n 0, 1) := dk_42 (dk_at dksX3_listsOf_1 9 rfl rfl)
theorem dX3_listsOf_32 : decode cX3_listsOf 32 = .ok (.getfield 97, 3) := dk_180 0 97 (dk_at dksX3_listsOf_1 10 rfl rfl)
theorem dX3_listsOf_35 : decode cX3_listsOf 35 = .ok (.iload_n 1, 1) := dk_27 (dk_at dksX3_listsOf_1 13 rfl rfl)
theorem dX3_listsOf_36 : decode cX3_listsOf 36 = .ok (.iconst 1, 1) := dk_4 (dk_at dksX3_listsOf_1 14 rfl rfl)
theorem dX3_listsOf_37 : decode cX3_listsOf 37 = .ok (.isub, 1) := dk_100 (dk_at dksX3_listsOf_1 15 rfl rfl)
theorem dX3_listsOf_38 : decode cX3_listsOf 38 = .ok (.iaload, 1) := dk_46 (dk_at dksX3_listsOf_1 16 rfl rfl)
theorem dX3_listsOf_39 : decode cX3_listsOf 39 = .ok (.if_icmp .ge 107, 3) := dk_162 0 107 (dk_at dksX3_listsOf_1 17 rfl rfl)
theorem dX3_listsOf_42 : decode cX3_listsOf 42 = .ok (.iconst 0, 1) := dk_3 (dk_at dksX3_listsOf_1 20 rfl rfl)
theorem dX3_listsOf_43 : decode cX3_listsOf 43 = .ok (.istore_n 3, 1) := dk_62 (dk_at dksX3_listsOf_1 21 rfl rfl)
theorem dX3_listsOf_44 : decode cX3_listsOf 44 = .ok (.iload_n 3, 1) := dk_29 (dk_at dksX3_listsOf_1 22 rfl rfl)
theorem dX3_listsOf_45 : decode cX3_listsOf 45 = .ok (.iload_n 1, 1) := dk_27 (dk_at dksX3_listsOf_1 23 rfl rfl)
theorem dX3_listsOf_46 : decode cX3_listsOf 46 = .ok (.iconst 1, 1) := dk_4 (dk_at dksX3_listsOf_2 0 rfl rfl)
theorem dX3_listsOf_47 : decode cX3_listsOf 47 = .ok (.isub, 1) := dk_100 (dk_at dksX3_listsOf_2 1 rfl rfl)
theorem dX3_listsOf_48 : decode cX3_listsOf 48 = .ok (.if_icmp .ge 92, 3) := dk_162 0 92 (dk_at dksX3_listsOf_2 2 rfl rfl)
theorem dX3_listsOf_51 : decode cX3_listsOf 51 = .ok (.aload_n 0, 1) := dk_42 (dk_at dksX3_listsOf_2 5 rfl rfl)
theorem dX3_listsOf_52 : decode cX3_listsOf 52 = .ok (.aload_n 0, 1) := dk_42 (dk_at dksX3_listsOf_2 6 rfl rfl)
theorem dX3_listsOf_53 : decode cX3_listsOf 53 = .ok (.iload_n 1, 1) := dk_27 (dk_at dksX3_listsOf_2 7 rfl rfl)
theorem dX3_listsOf_54 : decode cX3_listsOf 54 = .ok (.iconst 1, 1) := dk_4 (dk_at dksX3_listsOf_2 8 rfl rfl)
theorem dX3_listsOf_55 : decode cX3_listsOf 55 = .ok (.isub, 1) := dk_100 (dk_at dksX3_listsOf_2 9 rfl rfl)
theorem dX3_listsOf_56 : decode cX3_listsOf 56 = .ok (.iload_n 2, 1) := dk_28 (dk_at dksX3_listsOf_2 10 rfl rfl)
theorem dX3_listsOf_57 : decode cX3_listsOf 57 = .ok (.invokevirtual 341, 3) := dk_182 1 85 (dk_at dksX3_listsOf_2 11 rfl rfl)
theorem dX3_listsOf_60 : decode cX3_listsOf 60 = .ok (.iload_n 1, 1) := dk_27 (dk_at dksX3_listsOf_2 14 rfl rfl)
theorem dX3_listsOf_61 : decode cX3_listsOf 61 = .ok (.iconst 1, 1) := dk_4 (dk_at dksX3_listsOf_2 15 rfl rfl)
theorem dX3_listsOf_62 : decode cX3_listsOf 62 = .ok (.isub, 1) := dk_100 (dk_at dksX3_listsOf_2 16 rfl rfl)
theorem dX3_listsOf_63 : decode cX3_listsOf 63 = .ok (.invokevirtual 350, 3) := dk_182 1 94 (dk_at dksX3_listsOf_2 17 rfl rfl)
theorem dX3_listsOf_66 : decode cX3_listsOf 66 = .ok (.aload_n 0, 1) := dk_42 (dk_at dksX3_listsOf_2 20 rfl rfl)
theorem dX3_listsOf_67 : decode cX3_listsOf 67 = .ok (.getfield 106, 3) := dk_180 0 106 (dk_at dksX3_listsOf_2 21 rfl rfl)
theorem dX3_listsOf_70 : decode cX3_listsOf 70 = .ok (.iconst 1, 1) := dk_4 (dk_at dksX3_listsOf_3 0 rfl rfl)
theorem dX3_listsOf_71 : decode cX3_listsOf 71 = .ok (.iload_n 3, 1) := dk_29 (dk_at dksX3_listsOf_3 1 rfl rfl)
theorem dX3_listsOf_72 : decode cX3_listsOf 72 = .ok (.iadd, 1) := dk_96 (dk_at dksX3_listsOf_3 2 rfl rfl)
theorem dX3_listsOf_73 : decode cX3_listsOf 73 = .ok (.iaload, 1) := dk_46 (dk_at dksX3_listsOf_3 3 rfl rfl)
theorem dX3_listsOf_74 : decode cX3_listsOf 74 = .ok (.invokestatic 148, 3) := dk_184 0 148 (dk_at dksX3_listsOf_3 4 rfl rfl)
theorem dX3_listsOf_77 : decode cX3_listsOf 77 = .ok (.iconst 4, 1) := dk_7 (dk_at dksX3_listsOf_3 7 rfl rfl)
theorem dX3_listsOf_78 : decode cX3_listsOf 78 = .ok (.if_icmp .ne 6, 3) := dk_160 0 6 (dk_at dksX3_listsOf_3 8 rfl rfl)
theorem dX3_listsOf_81 : decode cX3_listsOf 81 = .ok (.goto 53, 3) := dk_167 0 53 (dk_at dksX3_listsOf_3 11 rfl rfl)
theorem dX3_listsOf_84 : decode cX3_listsOf 84 = .ok (.aload_n 0, 1) := dk_42 (dk_at dksX3_listsOf_3 14 rfl rfl)
theorem dX3_listsOf_85 : decode cX3_listsOf 85 = .ok (.getfield 106, 3) := dk_180 0 106 (dk_at dksX3_listsOf_3 15 rfl rfl)
theorem dX3_listsOf_88 : decode cX3_listsOf 88 = .ok (.iload_n 1, 1) := dk_27 (dk_at dksX3_listsOf_3 18 rfl rfl)
theorem dX3_listsOf_89 : decode cX3_listsOf 89 = .ok (.iconst 1, 1) := dk_4 (dk_at dksX3_listsOf_3 19 rfl rfl)
theorem dX3_listsOf_90 : decode cX3_listsOf 90 = .ok (.iload_n 3, 1) := dk_29 (dk_at dksX3_listsOf_3 20 rfl rfl)
theorem dX3_listsOf_91 : decode cX3_listsOf 91 = .ok (.ishl, 1) := dk_120 (dk_at dksX3_listsOf_3 21 rfl rfl)
theorem dX3_listsOf_92 : decode cX3_listsOf 92 = .ok (.iastore, 1) := dk_79 (dk_at dksX3_listsOf_3 22 rfl rfl)
theorem dX3_listsOf_93 : decode cX3_listsOf 93 = .ok (.aload_n 0, 1) := dk_42 (dk_at dksX3_listsOf_3 23 rfl rfl)
theorem dX3_listsOf_94 : decode cX3_listsOf 94 = .ok (.getfield 106, 3) := dk_180 0 106 (dk_at dksX3_listsOf_4 0 rfl rfl)
theorem dX3_listsOf_97 : decode cX3_listsOf 97 = .ok (.iconst 1, 1) := dk_4 (dk_at dksX3_listsOf_4 3 rfl rfl)
theorem dX3_listsOf_98 : decode cX3_listsOf 98 = .ok (.iload_n 3, 1) := dk_29 (dk_at dksX3_listsOf_4 4 rfl rfl)
theorem dX3_listsOf_99 : decode cX3_listsOf 99 = .ok (.iadd, 1) := dk_96 (dk_at dksX3_listsOf_4 5 rfl rfl)
theorem dX3_listsOf_100 : decode cX3_listsOf 100 = .ok (.dup2, 1) := dk_92 (dk_at dksX3_listsOf_4 6 rfl rfl)
theorem dX3_listsOf_101 : decode cX3_listsOf 101 = .ok (.iaload, 1) := dk_46 (dk_at dksX3_listsOf_4 7 rfl rfl)
theorem dX3_listsOf_102 : decode cX3_listsOf 102 = .ok (.iconst 1, 1) := dk_4 (dk_at dksX3_listsOf_4 8 rfl rfl)
theorem dX3_listsOf_103 : decode cX3_listsOf 103 = .ok (.iload_n 1, 1) := dk_27 (dk_at dksX3_listsOf_4 9 rfl rfl)
theorem dX3_listsOf_104 : decode cX3_listsOf 104 = .ok (.iconst 1, 1) := dk_4 (dk_at dksX3_listsOf_4 10 rfl rfl)
theorem dX3_listsOf_105 : decode cX3_listsOf 105 = .ok (.isub, 1) := dk_100 (dk_at dksX3_listsOf_4 11 rfl rfl)
theorem dX3_listsOf_106 : decode cX3_listsOf 106 = .ok (.ishl, 1) := dk_120 (dk_at dksX3_listsOf_4 12 rfl rfl)
theorem dX3_listsOf_107 : decode cX3_listsOf 107 = .ok (.ior, 1) := dk_128 (dk_at dksX3_listsOf_4 13 rfl rfl)
theorem dX3_listsOf_108 : decode cX3_listsOf 108 = .ok (.iastore, 1) := dk_79 (dk_at dksX3_listsOf_4 14 rfl rfl)
theorem dX3_listsOf_109 : decode cX3_listsOf 109 = .ok (.aload_n 0, 1) := dk_42 (dk_at dksX3_listsOf_4 15 rfl rfl)
theorem dX3_listsOf_110 : decode cX3_listsOf 110 = .ok (.getfield 106, 3) := dk_180 0 106 (dk_at dksX3_listsOf_4 16 rfl rfl)
theorem dX3_listsOf_113 : decode cX3_listsOf 113 = .ok (.iconst 0, 1) := dk_3 (dk_at dksX3_listsOf_4 19 rfl rfl)
theorem dX3_listsOf_114 : decode cX3_listsOf 114 = .ok (.iload_n 1, 1) := dk_27 (dk_at dksX3_listsOf_4 20 rfl rfl)
theorem dX3_listsOf_115 : decode cX3_listsOf 115 = .ok (.iastore, 1) := dk_79 (dk_at dksX3_listsOf_4 21 rfl rfl)
theorem dX3_listsOf_116 : decode cX3_listsOf 116 = .ok (.aload_n 0, 1) := dk_42 (dk_at dksX3_listsOf_4 22 rfl rfl)
theorem dX3_listsOf_117 : decode cX3_listsOf 117 = .ok (.aload_n 0, 1) := dk_42 (dk_at dksX3_listsOf_4 23 rfl rfl)
theorem dX3_listsOf_118 : decode cX3_listsOf 118 = .ok (.getfield 106, 3) := dk_180 0 106 (dk_at dksX3_listsOf_5 0 rfl rfl)
theorem dX3_listsOf_121 : decode cX3_listsOf 121 = .ok (.iconst 0, 1) := dk_3 (dk_at dksX3_listsOf_5 3 rfl rfl)
theorem dX3_listsOf_122 : decode cX3_listsOf 122 = .ok (.invokevirtual 325, 3) := dk_182 1 69 (dk_at dksX3_listsOf_5 4 rfl rfl)
theorem dX3_listsOf_125 : decode cX3_listsOf 125 = .ok (.aload_n 0, 1) := dk_42 (dk_at dksX3_listsOf_5 7 rfl rfl)
theorem dX3_listsOf_126 : decode cX3_listsOf 126 = .ok (.invokevirtual 353, 3) := dk_182 1 97 (dk_at dksX3_listsOf_5 8 rfl rfl)
theorem dX3_listsOf_129 : decode cX3_listsOf 129 = .ok (.aload_n 0, 1) := dk_42 (dk_at dksX3_listsOf_5 11 rfl rfl)
theorem dX3_listsOf_130 : decode cX3_listsOf 130 = .ok (.iload_n 1, 1) := dk_27 (dk_at dksX3_listsOf_5 12 rfl rfl)
theorem dX3_listsOf_131 : decode cX3_listsOf 131 = .ok (.invokevirtual 356, 3) := dk_182 1 100 (dk_at dksX3_listsOf_5 13 rfl rfl)
theorem dX3_listsOf_134 : decode cX3_listsOf 134 = .ok (.iinc 3 1, 3) := dk_132 3 1 (dk_at dksX3_listsOf_5 16 rfl rfl)
theorem dX3_listsOf_137 : decode cX3_listsOf 137 = .ok (.goto (-93), 3) := dk_167 255 163 (dk_at dksX3_listsOf_5 19 rfl rfl)
theorem dX3_listsOf_140 : decode cX3_listsOf 140 = .ok (.iinc 2 1, 3) := dk_132 2 1 (dk_at dksX3_listsOf_6 0 rfl rfl)
theorem dX3_listsOf_143 : decode cX3_listsOf 143 = .ok (.goto (-113), 3) := dk_167 255 143 (dk_at dksX3_listsOf_6 3 rfl rfl)
theorem dX3_listsOf_146 : decode cX3_listsOf 146 = .ok (.return_, 1) := dk_177 (dk_at dksX3_listsOf_6 6 rfl rfl)
abbrev cX3_codeAt : ByteArray := prog_21_method_62_code
def yX3_codeAt : MethodName := ⟨RX3, "codeAt", "(II)I"⟩
def dkwX3_codeAt_0 : List UInt8 := [42, 180, 0, 100, 27, 46, 27, 28, 104, 96, 172]
abbrev dktX3_codeAt_0 : List UInt8 := dkwX3_codeAt_0 ++ []
theorem dksX3_codeAt_0 : cX3_codeAt.data.toList.drop 0 = dktX3_codeAt_0 := by decide +kernel
theorem dX3_codeAt_0 : decode cX3_codeAt 0 = .ok (.aload_n 0, 1) := dk_42 (dk_at dksX3_codeAt_0 0 rfl rfl)
theorem dX3_codeAt_1 : decode cX3_codeAt 1 = .ok (.getfield 100, 3) := dk_180 0 100 (dk_at dksX3_codeAt_0 1 rfl rfl)
theorem dX3_codeAt_4 : decode cX3_codeAt 4 = .ok (.iload_n 1, 1) := dk_27 (dk_at dksX3_codeAt_0 4 rfl rfl)
theorem dX3_codeAt_5 : decode cX3_codeAt 5 = .ok (.iaload, 1) := dk_46 (dk_at dksX3_codeAt_0 5 rfl rfl)
theorem dX3_codeAt_6 : decode cX3_codeAt 6 = .ok (.iload_n 1, 1) := dk_27 (dk_at dksX3_codeAt_0 6 rfl rfl)
theorem dX3_codeAt_7 : decode cX3_codeAt 7 = .ok (.iload_n 2, 1) := dk_28 (dk_at dksX3_codeAt_0 7 rfl rfl)
theorem dX3_codeAt_8 : decode cX3_codeAt 8 = .ok (.imul, 1) := dk_104 (dk_at dksX3_codeAt_0 8 rfl rfl)
theorem dX3_codeAt_9 : decode cX3_codeAt 9 = .ok (.iadd, 1) := dk_96 (dk_at dksX3_codeAt_0 9 rfl rfl)
theorem dX3_codeAt_10 : decode cX3_codeAt 10 = .ok (.ireturn, 1) := dk_172 (dk_at dksX3_codeAt_0 10 rfl rfl)
abbrev cX3_makes : ByteArray := prog_21_method_61_code
def yX3_makes : MethodName := ⟨RX3, "makes", "(II)V"⟩
def dkwX3_makes_4 : List UInt8 := [4, 29, 120, 128, 79, 132, 3, 1, 167, 255, 163, 177]
abbrev dktX3_makes_4 : List UInt8 := dkwX3_makes_4 ++ []
def dkwX3_makes_3 : List UInt8 := [180, 0, 106, 4, 29, 96, 92, 46, 4, 21, 4, 120, 128, 79, 42, 180, 0, 106, 4, 21, 4, 96, 92, 46]
abbrev dktX3_makes_3 : List UInt8 := dkwX3_makes_3 ++ dktX3_makes_4
def dkwX3_makes_2 : List UInt8 := [96, 46, 4, 100, 159, 0, 9, 132, 4, 255, 167, 255, 226, 21, 4, 156, 0, 6, 167, 0, 33, 42]
abbrev dktX3_makes_2 : List UInt8 := dkwX3_makes_2 ++ dktX3_makes_3
def dkwX3_makes_1 : List UInt8 := [4, 100, 54, 4, 21, 4, 155, 0, 31, 42, 180, 0, 103, 27, 21, 4, 96, 46, 42, 180, 0, 103, 27, 29]
abbrev dktX3_makes_1 : List UInt8 := dkwX3_makes_1 ++ dktX3_makes_2
def dkwX3_makes_0 : List UInt8 := [42, 180, 0, 106, 3, 28, 79, 3, 62, 29, 28, 162, 0, 94, 42, 180, 0, 106, 4, 29, 96, 3, 79, 29]
abbrev dktX3_makes_0 : List UInt8 := dkwX3_makes_0 ++ dktX3_makes_1
theorem dksX3_makes_0 : cX3_makes.data.toList.drop 0 = dktX3_makes_0 := by decide +kernel
theorem dksX3_makes_1 : cX3_makes.data.toList.drop 24 = dktX3_makes_1 := dk_seg dksX3_makes_0 24 rfl rfl
theorem dksX3_makes_2 : cX3_makes.data.toList.drop 48 = dktX3_makes_2 := dk_seg dksX3_makes_1 24 rfl rfl
theorem dksX3_makes_3 : cX3_makes.data.toList.drop 70 = dktX3_makes_3 := dk_seg dksX3_makes_2 22 rfl rfl
theorem dksX3_makes_4 : cX3_makes.data.toList.drop 94 = dktX3_makes_4 := dk_seg dksX3_makes_3 24 rfl rfl
theorem dX3_makes_0 : decode cX3_makes 0 = .ok (.aload_n 0, 1) := dk_42 (dk_at dksX3_makes_0 0 rfl rfl)
theorem dX3_makes_1 : decode cX3_makes 1 = .ok (.getfield 106, 3) := dk_180 0 106 (dk_at dksX3_makes_0 1 rfl rfl)
theorem dX3_makes_4 : decode cX3_makes 4 = .ok (.iconst 0, 1) := dk_3 (dk_at dksX3_makes_0 4 rfl rfl)
theorem dX3_makes_5 : decode cX3_makes 5 = .ok (.iload_n 2, 1) := dk_28 (dk_at dksX3_makes_0 5 rfl rfl)
theorem dX3_makes_6 : decode cX3_makes 6 = .ok (.iastore, 1) := dk_79 (dk_at dksX3_makes_0 6 rfl rfl)
theorem dX3_makes_7 : decode cX3_makes 7 = .ok (.iconst 0, 1) := dk_3 (dk_at dksX3_makes_0 7 rfl rfl)
theorem dX3_makes_8 : decode cX3_makes 8 = .ok (.istore_n 3, 1) := dk_62 (dk_at dksX3_makes_0 8 rfl rfl)
theorem dX3_makes_9 : decode cX3_makes 9 = .ok (.iload_n 3, 1) := dk_29 (dk_at dksX3_makes_0 9 rfl rfl)
theorem dX3_makes_10 : decode cX3_makes 10 = .ok (.iload_n 2, 1) := dk_28 (dk_at dksX3_makes_0 10 rfl rfl)
theorem dX3_makes_11 : decode cX3_makes 11 = .ok (.if_icmp .ge 94, 3) := dk_162 0 94 (dk_at dksX3_makes_0 11 rfl rfl)
theorem dX3_makes_14 : decode cX3_makes 14 = .ok (.aload_n 0, 1) := dk_42 (dk_at dksX3_makes_0 14 rfl rfl)
theorem dX3_makes_15 : decode cX3_makes 15 = .ok (.getfield 106, 3) := dk_180 0 106 (dk_at dksX3_makes_0 15 rfl rfl)
theorem dX3_makes_18 : decode cX3_makes 18 = .ok (.iconst 1, 1) := dk_4 (dk_at dksX3_makes_0 18 rfl rfl)
theorem dX3_makes_19 : decode cX3_makes 19 = .ok (.iload_n 3, 1) := dk_29 (dk_at dksX3_makes_0 19 rfl rfl)
theorem dX3_makes_20 : decode cX3_makes 20 = .ok (.iadd, 1) := dk_96 (dk_at dksX3_makes_0 20 rfl rfl)
theorem dX3_makes_21 : decode cX3_makes 21 = .ok (.iconst 0, 1) := dk_3 (dk_at dksX3_makes_0 21 rfl rfl)
theorem dX3_makes_22 : decode cX3_makes 22 = .ok (.iastore, 1) := dk_79 (dk_at dksX3_makes_0 22 rfl rfl)
theorem dX3_makes_23 : decode cX3_makes 23 = .ok (.iload_n 3, 1) := dk_29 (dk_at dksX3_makes_0 23 rfl rfl)
theorem dX3_makes_24 : decode cX3_makes 24 = .ok (.iconst 1, 1) := dk_4 (dk_at dksX3_makes_1 0 rfl rfl)
theorem dX3_makes_25 : decode cX3_makes 25 = .ok (.isub, 1) := dk_100 (dk_at dksX3_makes_1 1 rfl rfl)
theorem dX3_makes_26 : decode cX3_makes 26 = .ok (.istore 4, 2) := dk_54 4 (dk_at dksX3_makes_1 2 rfl rfl)
theorem dX3_makes_28 : decode cX3_makes 28 = .ok (.iload 4, 2) := dk_21 4 (dk_at dksX3_makes_1 4 rfl rfl)
theorem dX3_makes_30 : decode cX3_makes 30 = .ok (.ifCond .lt 31, 3) := dk_155 0 31 (dk_at dksX3_makes_1 6 rfl rfl)
theorem dX3_makes_33 : decode cX3_makes 33 = .ok (.aload_n 0, 1) := dk_42 (dk_at dksX3_makes_1 9 rfl rfl)
theorem dX3_makes_34 : decode cX3_makes 34 = .ok (.getfield 103, 3) := dk_180 0 103 (dk_at dksX3_makes_1 10 rfl rfl)
theorem dX3_makes_37 : decode cX3_makes 37 = .ok (.iload_n 1, 1) := dk_27 (dk_at dksX3_makes_1 13 rfl rfl)
theorem dX3_makes_38 : decode cX3_makes 38 = .ok (.iload 4, 2) := dk_21 4 (dk_at dksX3_makes_1 14 rfl rfl)
theorem dX3_makes_40 : decode cX3_makes 40 = .ok (.iadd, 1) := dk_96 (dk_at dksX3_makes_1 16 rfl rfl)
theorem dX3_makes_41 : decode cX3_makes 41 = .ok (.iaload, 1) := dk_46 (dk_at dksX3_makes_1 17 rfl rfl)
theorem dX3_makes_42 : decode cX3_makes 42 = .ok (.aload_n 0, 1) := dk_42 (dk_at dksX3_makes_1 18 rfl rfl)
theorem dX3_makes_43 : decode cX3_makes 43 = .ok (.getfield 103, 3) := dk_180 0 103 (dk_at dksX3_makes_1 19 rfl rfl)
theorem dX3_makes_46 : decode cX3_makes 46 = .ok (.iload_n 1, 1) := dk_27 (dk_at dksX3_makes_1 22 rfl rfl)
theorem dX3_makes_47 : decode cX3_makes 47 = .ok (.iload_n 3, 1) := dk_29 (dk_at dksX3_makes_1 23 rfl rfl)
theorem dX3_makes_48 : decode cX3_makes 48 = .ok (.iadd, 1) := dk_96 (dk_at dksX3_makes_2 0 rfl rfl)
theorem dX3_makes_49 : decode cX3_makes 49 = .ok (.iaload, 1) := dk_46 (dk_at dksX3_makes_2 1 rfl rfl)
theorem dX3_makes_50 : decode cX3_makes 50 = .ok (.iconst 1, 1) := dk_4 (dk_at dksX3_makes_2 2 rfl rfl)
theorem dX3_makes_51 : decode cX3_makes 51 = .ok (.isub, 1) := dk_100 (dk_at dksX3_makes_2 3 rfl rfl)
theorem dX3_makes_52 : decode cX3_makes 52 = .ok (.if_icmp .eq 9, 3) := dk_159 0 9 (dk_at dksX3_makes_2 4 rfl rfl)
theorem dX3_makes_55 : decode cX3_makes 55 = .ok (.iinc 4 (-1), 3) := dk_132 4 255 (dk_at dksX3_makes_2 7 rfl rfl)
theorem dX3_makes_58 : decode cX3_makes 58 = .ok (.goto (-30), 3) := dk_167 255 226 (dk_at dksX3_makes_2 10 rfl rfl)
theorem dX3_makes_61 : decode cX3_makes 61 = .ok (.iload 4, 2) := dk_21 4 (dk_at dksX3_makes_2 13 rfl rfl)
theorem dX3_makes_63 : decode cX3_makes 63 = .ok (.ifCond .ge 6, 3) := dk_156 0 6 (dk_at dksX3_makes_2 15 rfl rfl)
theorem dX3_makes_66 : decode cX3_makes 66 = .ok (.goto 33, 3) := dk_167 0 33 (dk_at dksX3_makes_2 18 rfl rfl)
theorem dX3_makes_69 : decode cX3_makes 69 = .ok (.aload_n 0, 1) := dk_42 (dk_at dksX3_makes_2 21 rfl rfl)
theorem dX3_makes_70 : decode cX3_makes 70 = .ok (.getfield 106, 3) := dk_180 0 106 (dk_at dksX3_makes_3 0 rfl rfl)
theorem dX3_makes_73 : decode cX3_makes 73 = .ok (.iconst 1, 1) := dk_4 (dk_at dksX3_makes_3 3 rfl rfl)
theorem dX3_makes_74 : decode cX3_makes 74 = .ok (.iload_n 3, 1) := dk_29 (dk_at dksX3_makes_3 4 rfl rfl)
theorem dX3_makes_75 : decode cX3_makes 75 = .ok (.iadd, 1) := dk_96 (dk_at dksX3_makes_3 5 rfl rfl)
theorem dX3_makes_76 : decode cX3_makes 76 = .ok (.dup2, 1) := dk_92 (dk_at dksX3_makes_3 6 rfl rfl)
theorem dX3_makes_77 : decode cX3_makes 77 = .ok (.iaload, 1) := dk_46 (dk_at dksX3_makes_3 7 rfl rfl)
theorem dX3_makes_78 : decode cX3_makes 78 = .ok (.iconst 1, 1) := dk_4 (dk_at dksX3_makes_3 8 rfl rfl)
theorem dX3_makes_79 : decode cX3_makes 79 = .ok (.iload 4, 2) := dk_21 4 (dk_at dksX3_makes_3 9 rfl rfl)
theorem dX3_makes_81 : decode cX3_makes 81 = .ok (.ishl, 1) := dk_120 (dk_at dksX3_makes_3 11 rfl rfl)
theorem dX3_makes_82 : decode cX3_makes 82 = .ok (.ior, 1) := dk_128 (dk_at dksX3_makes_3 12 rfl rfl)
theorem dX3_makes_83 : decode cX3_makes 83 = .ok (.iastore, 1) := dk_79 (dk_at dksX3_makes_3 13 rfl rfl)
theorem dX3_makes_84 : decode cX3_makes 84 = .ok (.aload_n 0, 1) := dk_42 (dk_at dksX3_makes_3 14 rfl rfl)
theorem dX3_makes_85 : decode cX3_makes 85 = .ok (.getfield 106, 3) := dk_180 0 106 (dk_at dksX3_makes_3 15 rfl rfl)
theorem dX3_makes_88 : decode cX3_makes 88 = .ok (.iconst 1, 1) := dk_4 (dk_at dksX3_makes_3 18 rfl rfl)
theorem dX3_makes_89 : decode cX3_makes 89 = .ok (.iload 4, 2) := dk_21 4 (dk_at dksX3_makes_3 19 rfl rfl)
theorem dX3_makes_91 : decode cX3_makes 91 = .ok (.iadd, 1) := dk_96 (dk_at dksX3_makes_3 21 rfl rfl)
theorem dX3_makes_92 : decode cX3_makes 92 = .ok (.dup2, 1) := dk_92 (dk_at dksX3_makes_3 22 rfl rfl)
theorem dX3_makes_93 : decode cX3_makes 93 = .ok (.iaload, 1) := dk_46 (dk_at dksX3_makes_3 23 rfl rfl)
theorem dX3_makes_94 : decode cX3_makes 94 = .ok (.iconst 1, 1) := dk_4 (dk_at dksX3_makes_4 0 rfl rfl)
theorem dX3_makes_95 : decode cX3_makes 95 = .ok (.iload_n 3, 1) := dk_29 (dk_at dksX3_makes_4 1 rfl rfl)
theorem dX3_makes_96 : decode cX3_makes 96 = .ok (.ishl, 1) := dk_120 (dk_at dksX3_makes_4 2 rfl rfl)
theorem dX3_makes_97 : decode cX3_makes 97 = .ok (.ior, 1) := dk_128 (dk_at dksX3_makes_4 3 rfl rfl)
theorem dX3_makes_98 : decode cX3_makes 98 = .ok (.iastore, 1) := dk_79 (dk_at dksX3_makes_4 4 rfl rfl)
theorem dX3_makes_99 : decode cX3_makes 99 = .ok (.iinc 3 1, 3) := dk_132 3 1 (dk_at dksX3_makes_4 5 rfl rfl)
theorem dX3_makes_102 : decode cX3_makes 102 = .ok (.goto (-93), 3) := dk_167 255 163 (dk_at dksX3_makes_4 8 rfl rfl)
theorem dX3_makes_105 : decode cX3_makes 105 = .ok (.return_, 1) := dk_177 (dk_at dksX3_makes_4 11 rfl rfl)
abbrev cX3_looksAt : ByteArray := prog_21_method_54_code
def yX3_looksAt : MethodName := ⟨RX3, "looksAt", "([II)V"⟩
def dkwX3_looksAt_8 : List UInt8 := [54, 4, 21, 4, 29, 162, 0, 17, 42, 16, 16, 21, 4, 182, 1, 67, 132, 4, 1, 167, 255, 239, 177]
abbrev dktX3_looksAt_8 : List UInt8 := dkwX3_looksAt_8 ++ []
def dkwX3_looksAt_7 : List UInt8 := [21, 6, 182, 1, 67, 132, 6, 1, 167, 255, 209, 132, 5, 1, 167, 255, 194, 132, 4, 1, 167, 255, 179, 3]
abbrev dktX3_looksAt_7 : List UInt8 := dkwX3_looksAt_7 ++ dktX3_looksAt_8
def dkwX3_looksAt_6 : List UInt8 := [21, 6, 184, 0, 184, 153, 0, 24, 42, 21, 5, 21, 6, 182, 1, 64, 21, 4, 160, 0, 11, 42, 21, 5]
abbrev dktX3_looksAt_6 : List UInt8 := dkwX3_looksAt_6 ++ dktX3_looksAt_7
def dkwX3_looksAt_5 : List UInt8 := [21, 5, 29, 162, 0, 62, 3, 54, 6, 21, 6, 29, 162, 0, 47, 42, 180, 0, 64, 4, 21, 5, 96, 46]
abbrev dktX3_looksAt_5 : List UInt8 := dkwX3_looksAt_5 ++ dktX3_looksAt_6
def dkwX3_looksAt_4 : List UInt8 := [132, 5, 1, 167, 255, 209, 132, 4, 1, 167, 255, 194, 4, 54, 4, 21, 4, 29, 162, 0, 77, 3, 54, 5]
abbrev dktX3_looksAt_4 : List UInt8 := dkwX3_looksAt_4 ++ dktX3_looksAt_5
def dkwX3_looksAt_3 : List UInt8 := [153, 0, 24, 42, 180, 0, 70, 16, 16, 21, 4, 104, 21, 5, 96, 42, 21, 4, 21, 5, 182, 1, 61, 79]
abbrev dktX3_looksAt_3 : List UInt8 := dkwX3_looksAt_3 ++ dktX3_looksAt_4
def dkwX3_looksAt_2 : List UInt8 := [54, 5, 21, 5, 29, 162, 0, 47, 42, 180, 0, 64, 4, 21, 4, 96, 46, 21, 5, 184, 0, 184]
abbrev dktX3_looksAt_2 : List UInt8 := dkwX3_looksAt_2 ++ dktX3_looksAt_3
def dkwX3_looksAt_1 : List UInt8 := [167, 255, 236, 42, 182, 1, 58, 42, 180, 0, 64, 3, 46, 62, 3, 54, 4, 21, 4, 29, 162, 0, 62, 3]
abbrev dktX3_looksAt_1 : List UInt8 := dkwX3_looksAt_1 ++ dktX3_looksAt_2
def dkwX3_looksAt_0 : List UInt8 := [3, 62, 29, 16, 17, 162, 0, 20, 42, 180, 0, 64, 29, 43, 28, 29, 96, 46, 79, 132, 3, 1]
abbrev dktX3_looksAt_0 : List UInt8 := dkwX3_looksAt_0 ++ dktX3_looksAt_1
theorem dksX3_looksAt_0 : cX3_looksAt.data.toList.drop 0 = dktX3_looksAt_0 := by decide +kernel
theorem dksX3_looksAt_1 : cX3_looksAt.data.toList.drop 22 = dktX3_looksAt_1 := dk_seg dksX3_looksAt_0 22 rfl rfl
theorem dksX3_looksAt_2 : cX3_looksAt.data.toList.drop 46 = dktX3_looksAt_2 := dk_seg dksX3_looksAt_1 24 rfl rfl
theorem dksX3_looksAt_3 : cX3_looksAt.data.toList.drop 68 = dktX3_looksAt_3 := dk_seg dksX3_looksAt_2 22 rfl rfl
theorem dksX3_looksAt_4 : cX3_looksAt.data.toList.drop 92 = dktX3_looksAt_4 := dk_seg dksX3_looksAt_3 24 rfl rfl
theorem dksX3_looksAt_5 : cX3_looksAt.data.toList.drop 116 = dktX3_looksAt_5 := dk_seg dksX3_looksAt_4 24 rfl rfl
theorem dksX3_looksAt_6 : cX3_looksAt.data.toList.drop 140 = dktX3_looksAt_6 := dk_seg dksX3_looksAt_5 24 rfl rfl
theorem dksX3_looksAt_7 : cX3_looksAt.data.toList.drop 164 = dktX3_looksAt_7 := dk_seg dksX3_looksAt_6 24 rfl rfl
theorem dksX3_looksAt_8 : cX3_looksAt.data.toList.drop 188 = dktX3_looksAt_8 := dk_seg dksX3_looksAt_7 24 rfl rfl
theorem dX3_looksAt_0 : decode cX3_looksAt 0 = .ok (.iconst 0, 1) := dk_3 (dk_at dksX3_looksAt_0 0 rfl rfl)
theorem dX3_looksAt_1 : decode cX3_looksAt 1 = .ok (.istore_n 3, 1) := dk_62 (dk_at dksX3_looksAt_0 1 rfl rfl)
theorem dX3_looksAt_2 : decode cX3_looksAt 2 = .ok (.iload_n 3, 1) := dk_29 (dk_at dksX3_looksAt_0 2 rfl rfl)
theorem dX3_looksAt_3 : decode cX3_looksAt 3 = .ok (.bipush 17, 2) := dk_16 17 (dk_at dksX3_looksAt_0 3 rfl rfl)
theorem dX3_looksAt_5 : decode cX3_looksAt 5 = .ok (.if_icmp .ge 20, 3) := dk_162 0 20 (dk_at dksX3_looksAt_0 5 rfl rfl)
theorem dX3_looksAt_8 : decode cX3_looksAt 8 = .ok (.aload_n 0, 1) := dk_42 (dk_at dksX3_looksAt_0 8 rfl rfl)
theorem dX3_looksAt_9 : decode cX3_looksAt 9 = .ok (.getfield 64, 3) := dk_180 0 64 (dk_at dksX3_looksAt_0 9 rfl rfl)
theorem dX3_looksAt_12 : decode cX3_looksAt 12 = .ok (.iload_n 3, 1) := dk_29 (dk_at dksX3_looksAt_0 12 rfl rfl)
theorem dX3_looksAt_13 : decode cX3_looksAt 13 = .ok (.aload_n 1, 1) := dk_43 (dk_at dksX3_looksAt_0 13 rfl rfl)
theorem dX3_looksAt_14 : decode cX3_looksAt 14 = .ok (.iload_n 2, 1) := dk_28 (dk_at dksX3_looksAt_0 14 rfl rfl)
theorem dX3_looksAt_15 : decode cX3_looksAt 15 = .ok (.iload_n 3, 1) := dk_29 (dk_at dksX3_looksAt_0 15 rfl rfl)
theorem dX3_looksAt_16 : decode cX3_looksAt 16 = .ok (.iadd, 1) := dk_96 (dk_at dksX3_looksAt_0 16 rfl rfl)
theorem dX3_looksAt_17 : decode cX3_looksAt 17 = .ok (.iaload, 1) := dk_46 (dk_at dksX3_looksAt_0 17 rfl rfl)
theorem dX3_looksAt_18 : decode cX3_looksAt 18 = .ok (.iastore, 1) := dk_79 (dk_at dksX3_looksAt_0 18 rfl rfl)
theorem dX3_looksAt_19 : decode cX3_looksAt 19 = .ok (.iinc 3 1, 3) := dk_132 3 1 (dk_at dksX3_looksAt_0 19 rfl rfl)
theorem dX3_looksAt_22 : decode cX3_looksAt 22 = .ok (.goto (-20), 3) := dk_167 255 236 (dk_at dksX3_looksAt_1 0 rfl rfl)
theorem dX3_looksAt_25 : decode cX3_looksAt 25 = .ok (.aload_n 0, 1) := dk_42 (dk_at dksX3_looksAt_1 3 rfl rfl)
theorem dX3_looksAt_26 : decode cX3_looksAt 26 = .ok (.invokevirtual 314, 3) := dk_182 1 58 (dk_at dksX3_looksAt_1 4 rfl rfl)
theorem dX3_looksAt_29 : decode cX3_looksAt 29 = .ok (.aload_n 0, 1) := dk_42 (dk_at dksX3_looksAt_1 7 rfl rfl)
theorem dX3_looksAt_30 : decode cX3_looksAt 30 = .ok (.getfield 64, 3) := dk_180 0 64 (dk_at dksX3_looksAt_1 8 rfl rfl)
theorem dX3_looksAt_33 : decode cX3_looksAt 33 = .ok (.iconst 0, 1) := dk_3 (dk_at dksX3_looksAt_1 11 rfl rfl)
theorem dX3_looksAt_34 : decode cX3_looksAt 34 = .ok (.iaload, 1) := dk_46 (dk_at dksX3_looksAt_1 12 rfl rfl)
theorem dX3_looksAt_35 : decode cX3_looksAt 35 = .ok (.istore_n 3, 1) := dk_62 (dk_at dksX3_looksAt_1 13 rfl rfl)
theorem dX3_looksAt_36 : decode cX3_looksAt 36 = .ok (.iconst 0, 1) := dk_3 (dk_at dksX3_looksAt_1 14 rfl rfl)
theorem dX3_looksAt_37 : decode cX3_looksAt 37 = .ok (.istore 4, 2) := dk_54 4 (dk_at dksX3_looksAt_1 15 rfl rfl)
theorem dX3_looksAt_39 : decode cX3_looksAt 39 = .ok (.iload 4, 2) := dk_21 4 (dk_at dksX3_looksAt_1 17 rfl rfl)
theorem dX3_looksAt_41 : decode cX3_looksAt 41 = .ok (.iload_n 3, 1) := dk_29 (dk_at dksX3_looksAt_1 19 rfl rfl)
theorem dX3_looksAt_42 : decode cX3_looksAt 42 = .ok (.if_icmp .ge 62, 3) := dk_162 0 62 (dk_at dksX3_looksAt_1 20 rfl rfl)
theorem dX3_looksAt_45 : decode cX3_looksAt 45 = .ok (.iconst 0, 1) := dk_3 (dk_at dksX3_looksAt_1 23 rfl rfl)
theorem dX3_looksAt_46 : decode cX3_looksAt 46 = .ok (.istore 5, 2) := dk_54 5 (dk_at dksX3_looksAt_2 0 rfl rfl)
theorem dX3_looksAt_48 : decode cX3_looksAt 48 = .ok (.iload 5, 2) := dk_21 5 (dk_at dksX3_looksAt_2 2 rfl rfl)
theorem dX3_looksAt_50 : decode cX3_looksAt 50 = .ok (.iload_n 3, 1) := dk_29 (dk_at dksX3_looksAt_2 4 rfl rfl)
theorem dX3_looksAt_51 : decode cX3_looksAt 51 = .ok (.if_icmp .ge 47, 3) := dk_162 0 47 (dk_at dksX3_looksAt_2 5 rfl rfl)
theorem dX3_looksAt_54 : decode cX3_looksAt 54 = .ok (.aload_n 0, 1) := dk_42 (dk_at dksX3_looksAt_2 8 rfl rfl)
theorem dX3_looksAt_55 : decode cX3_looksAt 55 = .ok (.getfield 64, 3) := dk_180 0 64 (dk_at dksX3_looksAt_2 9 rfl rfl)
theorem dX3_looksAt_58 : decode cX3_looksAt 58 = .ok (.iconst 1, 1) := dk_4 (dk_at dksX3_looksAt_2 12 rfl rfl)
theorem dX3_looksAt_59 : decode cX3_looksAt 59 = .ok (.iload 4, 2) := dk_21 4 (dk_at dksX3_looksAt_2 13 rfl rfl)
theorem dX3_looksAt_61 : decode cX3_looksAt 61 = .ok (.iadd, 1) := dk_96 (dk_at dksX3_looksAt_2 15 rfl rfl)
theorem dX3_looksAt_62 : decode cX3_looksAt 62 = .ok (.iaload, 1) := dk_46 (dk_at dksX3_looksAt_2 16 rfl rfl)
theorem dX3_looksAt_63 : decode cX3_looksAt 63 = .ok (.iload 5, 2) := dk_21 5 (dk_at dksX3_looksAt_2 17 rfl rfl)
theorem dX3_looksAt_65 : decode cX3_looksAt 65 = .ok (.invokestatic 184, 3) := dk_184 0 184 (dk_at dksX3_looksAt_2 19 rfl rfl)
theorem dX3_looksAt_68 : decode cX3_looksAt 68 = .ok (.ifCond .eq 24, 3) := dk_153 0 24 (dk_at dksX3_looksAt_3 0 rfl rfl)
theorem dX3_looksAt_71 : decode cX3_looksAt 71 = .ok (.aload_n 0, 1) := dk_42 (dk_at dksX3_looksAt_3 3 rfl rfl)
theorem dX3_looksAt_72 : decode cX3_looksAt 72 = .ok (.getfield 70, 3) := dk_180 0 70 (dk_at dksX3_looksAt_3 4 rfl rfl)
theorem dX3_looksAt_75 : decode cX3_looksAt 75 = .ok (.bipush 16, 2) := dk_16 16 (dk_at dksX3_looksAt_3 7 rfl rfl)
theorem dX3_looksAt_77 : decode cX3_looksAt 77 = .ok (.iload 4, 2) := dk_21 4 (dk_at dksX3_looksAt_3 9 rfl rfl)
theorem dX3_looksAt_79 : decode cX3_looksAt 79 = .ok (.imul, 1) := dk_104 (dk_at dksX3_looksAt_3 11 rfl rfl)
theorem dX3_looksAt_80 : decode cX3_looksAt 80 = .ok (.iload 5, 2) := dk_21 5 (dk_at dksX3_looksAt_3 12 rfl rfl)
theorem dX3_looksAt_82 : decode cX3_looksAt 82 = .ok (.iadd, 1) := dk_96 (dk_at dksX3_looksAt_3 14 rfl rfl)
theorem dX3_looksAt_83 : decode cX3_looksAt 83 = .ok (.aload_n 0, 1) := dk_42 (dk_at dksX3_looksAt_3 15 rfl rfl)
theorem dX3_looksAt_84 : decode cX3_looksAt 84 = .ok (.iload 4, 2) := dk_21 4 (dk_at dksX3_looksAt_3 16 rfl rfl)
theorem dX3_looksAt_86 : decode cX3_looksAt 86 = .ok (.iload 5, 2) := dk_21 5 (dk_at dksX3_looksAt_3 18 rfl rfl)
theorem dX3_looksAt_88 : decode cX3_looksAt 88 = .ok (.invokevirtual 317, 3) := dk_182 1 61 (dk_at dksX3_looksAt_3 20 rfl rfl)
theorem dX3_looksAt_91 : decode cX3_looksAt 91 = .ok (.iastore, 1) := dk_79 (dk_at dksX3_looksAt_3 23 rfl rfl)
theorem dX3_looksAt_92 : decode cX3_looksAt 92 = .ok (.iinc 5 1, 3) := dk_132 5 1 (dk_at dksX3_looksAt_4 0 rfl rfl)
theorem dX3_looksAt_95 : decode cX3_looksAt 95 = .ok (.goto (-47), 3) := dk_167 255 209 (dk_at dksX3_looksAt_4 3 rfl rfl)
theorem dX3_looksAt_98 : decode cX3_looksAt 98 = .ok (.iinc 4 1, 3) := dk_132 4 1 (dk_at dksX3_looksAt_4 6 rfl rfl)
theorem dX3_looksAt_101 : decode cX3_looksAt 101 = .ok (.goto (-62), 3) := dk_167 255 194 (dk_at dksX3_looksAt_4 9 rfl rfl)
theorem dX3_looksAt_104 : decode cX3_looksAt 104 = .ok (.iconst 1, 1) := dk_4 (dk_at dksX3_looksAt_4 12 rfl rfl)
theorem dX3_looksAt_105 : decode cX3_looksAt 105 = .ok (.istore 4, 2) := dk_54 4 (dk_at dksX3_looksAt_4 13 rfl rfl)
theorem dX3_looksAt_107 : decode cX3_looksAt 107 = .ok (.iload 4, 2) := dk_21 4 (dk_at dksX3_looksAt_4 15 rfl rfl)
theorem dX3_looksAt_109 : decode cX3_looksAt 109 = .ok (.iload_n 3, 1) := dk_29 (dk_at dksX3_looksAt_4 17 rfl rfl)
theorem dX3_looksAt_110 : decode cX3_looksAt 110 = .ok (.if_icmp .ge 77, 3) := dk_162 0 77 (dk_at dksX3_looksAt_4 18 rfl rfl)
theorem dX3_looksAt_113 : decode cX3_looksAt 113 = .ok (.iconst 0, 1) := dk_3 (dk_at dksX3_looksAt_4 21 rfl rfl)
theorem dX3_looksAt_114 : decode cX3_looksAt 114 = .ok (.istore 5, 2) := dk_54 5 (dk_at dksX3_looksAt_4 22 rfl rfl)
theorem dX3_looksAt_116 : decode cX3_looksAt 116 = .ok (.iload 5, 2) := dk_21 5 (dk_at dksX3_looksAt_5 0 rfl rfl)
theorem dX3_looksAt_118 : decode cX3_looksAt 118 = .ok (.iload_n 3, 1) := dk_29 (dk_at dksX3_looksAt_5 2 rfl rfl)
theorem dX3_looksAt_119 : decode cX3_looksAt 119 = .ok (.if_icmp .ge 62, 3) := dk_162 0 62 (dk_at dksX3_looksAt_5 3 rfl rfl)
theorem dX3_looksAt_122 : decode cX3_looksAt 122 = .ok (.iconst 0, 1) := dk_3 (dk_at dksX3_looksAt_5 6 rfl rfl)
theorem dX3_looksAt_123 : decode cX3_looksAt 123 = .ok (.istore 6, 2) := dk_54 6 (dk_at dksX3_looksAt_5 7 rfl rfl)
theorem dX3_looksAt_125 : decode cX3_looksAt 125 = .ok (.iload 6, 2) := dk_21 6 (dk_at dksX3_looksAt_5 9 rfl rfl)
theorem dX3_looksAt_127 : decode cX3_looksAt 127 = .ok (.iload_n 3, 1) := dk_29 (dk_at dksX3_looksAt_5 11 rfl rfl)
theorem dX3_looksAt_128 : decode cX3_looksAt 128 = .ok (.if_icmp .ge 47, 3) := dk_162 0 47 (dk_at dksX3_looksAt_5 12 rfl rfl)
theorem dX3_looksAt_131 : decode cX3_looksAt 131 = .ok (.aload_n 0, 1) := dk_42 (dk_at dksX3_looksAt_5 15 rfl rfl)
theorem dX3_looksAt_132 : decode cX3_looksAt 132 = .ok (.getfield 64, 3) := dk_180 0 64 (dk_at dksX3_looksAt_5 16 rfl rfl)
theorem dX3_looksAt_135 : decode cX3_looksAt 135 = .ok (.iconst 1, 1) := dk_4 (dk_at dksX3_looksAt_5 19 rfl rfl)
theorem dX3_looksAt_136 : decode cX3_looksAt 136 = .ok (.iload 5, 2) := dk_21 5 (dk_at dksX3_looksAt_5 20 rfl rfl)
theorem dX3_looksAt_138 : decode cX3_looksAt 138 = .ok (.iadd, 1) := dk_96 (dk_at dksX3_looksAt_5 22 rfl rfl)
theorem dX3_looksAt_139 : decode cX3_looksAt 139 = .ok (.iaload, 1) := dk_46 (dk_at dksX3_looksAt_5 23 rfl rfl)
theorem dX3_looksAt_140 : decode cX3_looksAt 140 = .ok (.iload 6, 2) := dk_21 6 (dk_at dksX3_looksAt_6 0 rfl rfl)
theorem dX3_looksAt_142 : decode cX3_looksAt 142 = .ok (.invokestatic 184, 3) := dk_184 0 184 (dk_at dksX3_looksAt_6 2 rfl rfl)
theorem dX3_looksAt_145 : decode cX3_looksAt 145 = .ok (.ifCond .eq 24, 3) := dk_153 0 24 (dk_at dksX3_looksAt_6 5 rfl rfl)
theorem dX3_looksAt_148 : decode cX3_looksAt 148 = .ok (.aload_n 0, 1) := dk_42 (dk_at dksX3_looksAt_6 8 rfl rfl)
theorem dX3_looksAt_149 : decode cX3_looksAt 149 = .ok (.iload 5, 2) := dk_21 5 (dk_at dksX3_looksAt_6 9 rfl rfl)
theorem dX3_looksAt_151 : decode cX3_looksAt 151 = .ok (.iload 6, 2) := dk_21 6 (dk_at dksX3_looksAt_6 11 rfl rfl)
theorem dX3_looksAt_153 : decode cX3_looksAt 153 = .ok (.invokevirtual 320, 3) := dk_182 1 64 (dk_at dksX3_looksAt_6 13 rfl rfl)
theorem dX3_looksAt_156 : decode cX3_looksAt 156 = .ok (.iload 4, 2) := dk_21 4 (dk_at dksX3_looksAt_6 16 rfl rfl)
theorem dX3_looksAt_158 : decode cX3_looksAt 158 = .ok (.if_icmp .ne 11, 3) := dk_160 0 11 (dk_at dksX3_looksAt_6 18 rfl rfl)
theorem dX3_looksAt_161 : decode cX3_looksAt 161 = .ok (.aload_n 0, 1) := dk_42 (dk_at dksX3_looksAt_6 21 rfl rfl)
theorem dX3_looksAt_162 : decode cX3_looksAt 162 = .ok (.iload 5, 2) := dk_21 5 (dk_at dksX3_looksAt_6 22 rfl rfl)
theorem dX3_looksAt_164 : decode cX3_looksAt 164 = .ok (.iload 6, 2) := dk_21 6 (dk_at dksX3_looksAt_7 0 rfl rfl)
theorem dX3_looksAt_166 : decode cX3_looksAt 166 = .ok (.invokevirtual 323, 3) := dk_182 1 67 (dk_at dksX3_looksAt_7 2 rfl rfl)
theorem dX3_looksAt_169 : decode cX3_looksAt 169 = .ok (.iinc 6 1, 3) := dk_132 6 1 (dk_at dksX3_looksAt_7 5 rfl rfl)
theorem dX3_looksAt_172 : decode cX3_looksAt 172 = .ok (.goto (-47), 3) := dk_167 255 209 (dk_at dksX3_looksAt_7 8 rfl rfl)
theorem dX3_looksAt_175 : decode cX3_looksAt 175 = .ok (.iinc 5 1, 3) := dk_132 5 1 (dk_at dksX3_looksAt_7 11 rfl rfl)
theorem dX3_looksAt_178 : decode cX3_looksAt 178 = .ok (.goto (-62), 3) := dk_167 255 194 (dk_at dksX3_looksAt_7 14 rfl rfl)
theorem dX3_looksAt_181 : decode cX3_looksAt 181 = .ok (.iinc 4 1, 3) := dk_132 4 1 (dk_at dksX3_looksAt_7 17 rfl rfl)
theorem dX3_looksAt_184 : decode cX3_looksAt 184 = .ok (.goto (-77), 3) := dk_167 255 179 (dk_at dksX3_looksAt_7 20 rfl rfl)
theorem dX3_looksAt_187 : decode cX3_looksAt 187 = .ok (.iconst 0, 1) := dk_3 (dk_at dksX3_looksAt_7 23 rfl rfl)
theorem dX3_looksAt_188 : decode cX3_looksAt 188 = .ok (.istore 4, 2) := dk_54 4 (dk_at dksX3_looksAt_8 0 rfl rfl)
theorem dX3_looksAt_190 : decode cX3_looksAt 190 = .ok (.iload 4, 2) := dk_21 4 (dk_at dksX3_looksAt_8 2 rfl rfl)
theorem dX3_looksAt_192 : decode cX3_looksAt 192 = .ok (.iload_n 3, 1) := dk_29 (dk_at dksX3_looksAt_8 4 rfl rfl)
theorem dX3_looksAt_193 : decode cX3_looksAt 193 = .ok (.if_icmp .ge 17, 3) := dk_162 0 17 (dk_at dksX3_looksAt_8 5 rfl rfl)
theorem dX3_looksAt_196 : decode cX3_looksAt 196 = .ok (.aload_n 0, 1) := dk_42 (dk_at dksX3_looksAt_8 8 rfl rfl)
theorem dX3_looksAt_197 : decode cX3_looksAt 197 = .ok (.bipush 16, 2) := dk_16 16 (dk_at dksX3_looksAt_8 9 rfl rfl)
theorem dX3_looksAt_199 : decode cX3_looksAt 199 = .ok (.iload 4, 2) := dk_21 4 (dk_at dksX3_looksAt_8 11 rfl rfl)
theorem dX3_looksAt_201 : decode cX3_looksAt 201 = .ok (.invokevirtual 323, 3) := dk_182 1 67 (dk_at dksX3_looksAt_8 13 rfl rfl)
theorem dX3_looksAt_204 : decode cX3_looksAt 204 = .ok (.iinc 4 1, 3) := dk_132 4 1 (dk_at dksX3_looksAt_8 16 rfl rfl)
theorem dX3_looksAt_207 : decode cX3_looksAt 207 = .ok (.goto (-17), 3) := dk_167 255 239 (dk_at dksX3_looksAt_8 19 rfl rfl)
theorem dX3_looksAt_210 : decode cX3_looksAt 210 = .ok (.return_, 1) := dk_177 (dk_at dksX3_looksAt_8 22 rfl rfl)
abbrev cX3_laysHydrogen : ByteArray := prog_21_method_41_code
def yX3_laysHydrogen : MethodName := ⟨RX3, "laysHydrogen", "()V"⟩
def dkwX3_laysHydrogen_3 : List UInt8 := [167, 255, 234, 177]
abbrev dktX3_laysHydrogen_3 : List UInt8 := dkwX3_laysHydrogen_3 ++ []
def dkwX3_laysHydrogen_2 : List UInt8 := [60, 27, 7, 162, 0, 23, 42, 180, 0, 42, 27, 3, 79, 42, 180, 0, 61, 27, 3, 79, 132, 1, 1]
abbrev dktX3_laysHydrogen_2 : List UInt8 := dkwX3_laysHydrogen_2 ++ dktX3_laysHydrogen_3
def dkwX3_laysHydrogen_1 : List UInt8 := [3, 79, 42, 180, 0, 51, 3, 10, 80, 42, 180, 0, 55, 3, 10, 80, 42, 180, 0, 58, 3, 10, 80, 3]
abbrev dktX3_laysHydrogen_1 : List UInt8 := dkwX3_laysHydrogen_1 ++ dktX3_laysHydrogen_2
def dkwX3_laysHydrogen_0 : List UInt8 := [42, 4, 181, 1, 5, 42, 180, 0, 39, 3, 3, 79, 42, 180, 0, 45, 3, 3, 79, 42, 180, 0, 48, 3]
abbrev dktX3_laysHydrogen_0 : List UInt8 := dkwX3_laysHydrogen_0 ++ dktX3_laysHydrogen_1
theorem dksX3_laysHydrogen_0 : cX3_laysHydrogen.data.toList.drop 0 = dktX3_laysHydrogen_0 := by decide +kernel
theorem dksX3_laysHydrogen_1 : cX3_laysHydrogen.data.toList.drop 24 = dktX3_laysHydrogen_1 := dk_seg dksX3_laysHydrogen_0 24 rfl rfl
theorem dksX3_laysHydrogen_2 : cX3_laysHydrogen.data.toList.drop 48 = dktX3_laysHydrogen_2 := dk_seg dksX3_laysHydrogen_1 24 rfl rfl
theorem dksX3_laysHydrogen_3 : cX3_laysHydrogen.data.toList.drop 71 = dktX3_laysHydrogen_3 := dk_seg dksX3_laysHydrogen_2 23 rfl rfl
theorem dX3_laysHydrogen_0 : decode cX3_laysHydrogen 0 = .ok (.aload_n 0, 1) := dk_42 (dk_at dksX3_laysHydrogen_0 0 rfl rfl)
theorem dX3_laysHydrogen_1 : decode cX3_laysHydrogen 1 = .ok (.iconst 1, 1) := dk_4 (dk_at dksX3_laysHydrogen_0 1 rfl rfl)
theorem dX3_laysHydrogen_2 : decode cX3_laysHydrogen 2 = .ok (.putfield 261, 3) := dk_181 1 5 (dk_at dksX3_laysHydrogen_0 2 rfl rfl)
theorem dX3_laysHydrogen_5 : decode cX3_laysHydrogen 5 = .ok (.aload_n 0, 1) := dk_42 (dk_at dksX3_laysHydrogen_0 5 rfl rfl)
theorem dX3_laysHydrogen_6 : decode cX3_laysHydrogen 6 = .ok (.getfield 39, 3) := dk_180 0 39 (dk_at dksX3_laysHydrogen_0 6 rfl rfl)
theorem dX3_laysHydrogen_9 : decode cX3_laysHydrogen 9 = .ok (.iconst 0, 1) := dk_3 (dk_at dksX3_laysHydrogen_0 9 rfl rfl)
theorem dX3_laysHydrogen_10 : decode cX3_laysHydrogen 10 = .ok (.iconst 0, 1) := dk_3 (dk_at dksX3_laysHydrogen_0 10 rfl rfl)
theorem dX3_laysHydrogen_11 : decode cX3_laysHydrogen 11 = .ok (.iastore, 1) := dk_79 (dk_at dksX3_laysHydrogen_0 11 rfl rfl)
theorem dX3_laysHydrogen_12 : decode cX3_laysHydrogen 12 = .ok (.aload_n 0, 1) := dk_42 (dk_at dksX3_laysHydrogen_0 12 rfl rfl)
theorem dX3_laysHydrogen_13 : decode cX3_laysHydrogen 13 = .ok (.getfield 45, 3) := dk_180 0 45 (dk_at dksX3_laysHydrogen_0 13 rfl rfl)
theorem dX3_laysHydrogen_16 : decode cX3_laysHydrogen 16 = .ok (.iconst 0, 1) := dk_3 (dk_at dksX3_laysHydrogen_0 16 rfl rfl)
theorem dX3_laysHydrogen_17 : decode cX3_laysHydrogen 17 = .ok (.iconst 0, 1) := dk_3 (dk_at dksX3_laysHydrogen_0 17 rfl rfl)
theorem dX3_laysHydrogen_18 : decode cX3_laysHydrogen 18 = .ok (.iastore, 1) := dk_79 (dk_at dksX3_laysHydrogen_0 18 rfl rfl)
theorem dX3_laysHydrogen_19 : decode cX3_laysHydrogen 19 = .ok (.aload_n 0, 1) := dk_42 (dk_at dksX3_laysHydrogen_0 19 rfl rfl)
theorem dX3_laysHydrogen_20 : decode cX3_laysHydrogen 20 = .ok (.getfield 48, 3) := dk_180 0 48 (dk_at dksX3_laysHydrogen_0 20 rfl rfl)
theorem dX3_laysHydrogen_23 : decode cX3_laysHydrogen 23 = .ok (.iconst 0, 1) := dk_3 (dk_at dksX3_laysHydrogen_0 23 rfl rfl)
theorem dX3_laysHydrogen_24 : decode cX3_laysHydrogen 24 = .ok (.iconst 0, 1) := dk_3 (dk_at dksX3_laysHydrogen_1 0 rfl rfl)
theorem dX3_laysHydrogen_25 : decode cX3_laysHydrogen 25 = .ok (.iastore, 1) := dk_79 (dk_at dksX3_laysHydrogen_1 1 rfl rfl)
theorem dX3_laysHydrogen_26 : decode cX3_laysHydrogen 26 = .ok (.aload_n 0, 1) := dk_42 (dk_at dksX3_laysHydrogen_1 2 rfl rfl)
theorem dX3_laysHydrogen_27 : decode cX3_laysHydrogen 27 = .ok (.getfield 51, 3) := dk_180 0 51 (dk_at dksX3_laysHydrogen_1 3 rfl rfl)
theorem dX3_laysHydrogen_30 : decode cX3_laysHydrogen 30 = .ok (.iconst 0, 1) := dk_3 (dk_at dksX3_laysHydrogen_1 6 rfl rfl)
theorem dX3_laysHydrogen_31 : decode cX3_laysHydrogen 31 = .ok (.lconst 1, 1) := dk_10 (dk_at dksX3_laysHydrogen_1 7 rfl rfl)
theorem dX3_laysHydrogen_32 : decode cX3_laysHydrogen 32 = .ok (.lastore, 1) := dk_80 (dk_at dksX3_laysHydrogen_1 8 rfl rfl)
theorem dX3_laysHydrogen_33 : decode cX3_laysHydrogen 33 = .ok (.aload_n 0, 1) := dk_42 (dk_at dksX3_laysHydrogen_1 9 rfl rfl)
theorem dX3_laysHydrogen_34 : decode cX3_laysHydrogen 34 = .ok (.getfield 55, 3) := dk_180 0 55 (dk_at dksX3_laysHydrogen_1 10 rfl rfl)
theorem dX3_laysHydrogen_37 : decode cX3_laysHydrogen 37 = .ok (.iconst 0, 1) := dk_3 (dk_at dksX3_laysHydrogen_1 13 rfl rfl)
theorem dX3_laysHydrogen_38 : decode cX3_laysHydrogen 38 = .ok (.lconst 1, 1) := dk_10 (dk_at dksX3_laysHydrogen_1 14 rfl rfl)
theorem dX3_laysHydrogen_39 : decode cX3_laysHydrogen 39 = .ok (.lastore, 1) := dk_80 (dk_at dksX3_laysHydrogen_1 15 rfl rfl)
theorem dX3_laysHydrogen_40 : decode cX3_laysHydrogen 40 = .ok (.aload_n 0, 1) := dk_42 (dk_at dksX3_laysHydrogen_1 16 rfl rfl)
theorem dX3_laysHydrogen_41 : decode cX3_laysHydrogen 41 = .ok (.getfield 58, 3) := dk_180 0 58 (dk_at dksX3_laysHydrogen_1 17 rfl rfl)
theorem dX3_laysHydrogen_44 : decode cX3_laysHydrogen 44 = .ok (.iconst 0, 1) := dk_3 (dk_at dksX3_laysHydrogen_1 20 rfl rfl)
theorem dX3_laysHydrogen_45 : decode cX3_laysHydrogen 45 = .ok (.lconst 1, 1) := dk_10 (dk_at dksX3_laysHydrogen_1 21 rfl rfl)
theorem dX3_laysHydrogen_46 : decode cX3_laysHydrogen 46 = .ok (.lastore, 1) := dk_80 (dk_at dksX3_laysHydrogen_1 22 rfl rfl)
theorem dX3_laysHydrogen_47 : decode cX3_laysHydrogen 47 = .ok (.iconst 0, 1) := dk_3 (dk_at dksX3_laysHydrogen_1 23 rfl rfl)
theorem dX3_laysHydrogen_48 : decode cX3_laysHydrogen 48 = .ok (.istore_n 1, 1) := dk_60 (dk_at dksX3_laysHydrogen_2 0 rfl rfl)
theorem dX3_laysHydrogen_49 : decode cX3_laysHydrogen 49 = .ok (.iload_n 1, 1) := dk_27 (dk_at dksX3_laysHydrogen_2 1 rfl rfl)
theorem dX3_laysHydrogen_50 : decode cX3_laysHydrogen 50 = .ok (.iconst 4, 1) := dk_7 (dk_at dksX3_laysHydrogen_2 2 rfl rfl)
theorem dX3_laysHydrogen_51 : decode cX3_laysHydrogen 51 = .ok (.if_icmp .ge 23, 3) := dk_162 0 23 (dk_at dksX3_laysHydrogen_2 3 rfl rfl)
theorem dX3_laysHydrogen_54 : decode cX3_laysHydrogen 54 = .ok (.aload_n 0, 1) := dk_42 (dk_at dksX3_laysHydrogen_2 6 rfl rfl)
theorem dX3_laysHydrogen_55 : decode cX3_laysHydrogen 55 = .ok (.getfield 42, 3) := dk_180 0 42 (dk_at dksX3_laysHydrogen_2 7 rfl rfl)
theorem dX3_laysHydrogen_58 : decode cX3_laysHydrogen 58 = .ok (.iload_n 1, 1) := dk_27 (dk_at dksX3_laysHydrogen_2 10 rfl rfl)
theorem dX3_laysHydrogen_59 : decode cX3_laysHydrogen 59 = .ok (.iconst 0, 1) := dk_3 (dk_at dksX3_laysHydrogen_2 11 rfl rfl)
theorem dX3_laysHydrogen_60 : decode cX3_laysHydrogen 60 = .ok (.iastore, 1) := dk_79 (dk_at dksX3_laysHydrogen_2 12 rfl rfl)
theorem dX3_laysHydrogen_61 : decode cX3_laysHydrogen 61 = .ok (.aload_n 0, 1) := dk_42 (dk_at dksX3_laysHydrogen_2 13 rfl rfl)
theorem dX3_laysHydrogen_62 : decode cX3_laysHydrogen 62 = .ok (.getfield 61, 3) := dk_180 0 61 (dk_at dksX3_laysHydrogen_2 14 rfl rfl)
theorem dX3_laysHydrogen_65 : decode cX3_laysHydrogen 65 = .ok (.iload_n 1, 1) := dk_27 (dk_at dksX3_laysHydrogen_2 17 rfl rfl)
theorem dX3_laysHydrogen_66 : decode cX3_laysHydrogen 66 = .ok (.iconst 0, 1) := dk_3 (dk_at dksX3_laysHydrogen_2 18 rfl rfl)
theorem dX3_laysHydrogen_67 : decode cX3_laysHydrogen 67 = .ok (.iastore, 1) := dk_79 (dk_at dksX3_laysHydrogen_2 19 rfl rfl)
theorem dX3_laysHydrogen_68 : decode cX3_laysHydrogen 68 = .ok (.iinc 1 1, 3) := dk_132 1 1 (dk_at dksX3_laysHydrogen_2 20 rfl rfl)
theorem dX3_laysHydrogen_71 : decode cX3_laysHydrogen 71 = .ok (.goto (-22), 3) := dk_167 255 234 (dk_at dksX3_laysHydrogen_3 0 rfl rfl)
theorem dX3_laysHydrogen_74 : decode cX3_laysHydrogen 74 = .ok (.return_, 1) := dk_177 (dk_at dksX3_laysHydrogen_3 3 rfl rfl)
abbrev cX3_reached : ByteArray := prog_21_method_36_code
def yX3_reached : MethodName := ⟨RX3, "reached", "(II)I"⟩
def dkwX3_reached_3 : List UInt8 := [126, 54, 5, 21, 5, 29, 2, 130, 126, 54, 4, 29, 21, 5, 128, 62, 167, 255, 175, 29, 172]
abbrev dktX3_reached_3 : List UInt8 := dkwX3_reached_3 ++ []
def dkwX3_reached_2 : List UInt8 := [96, 46, 128, 54, 5, 132, 6, 1, 167, 255, 218, 27, 16, 16, 162, 0, 13, 21, 5, 4, 27, 120, 2, 130]
abbrev dktX3_reached_2 : List UInt8 := dkwX3_reached_2 ++ dktX3_reached_3
def dkwX3_reached_1 : List UInt8 := [3, 46, 162, 0, 33, 21, 4, 21, 6, 184, 0, 184, 153, 0, 17, 21, 5, 42, 180, 0, 64, 4, 21, 6]
abbrev dktX3_reached_1 : List UInt8 := dkwX3_reached_1 ++ dktX3_reached_2
def dkwX3_reached_0 : List UInt8 := [4, 28, 120, 62, 29, 54, 4, 21, 4, 153, 0, 82, 3, 54, 5, 3, 54, 6, 21, 6, 42, 180, 0, 64]
abbrev dktX3_reached_0 : List UInt8 := dkwX3_reached_0 ++ dktX3_reached_1
theorem dksX3_reached_0 : cX3_reached.data.toList.drop 0 = dktX3_reached_0 := by decide +kernel
theorem dksX3_reached_1 : cX3_reached.data.toList.drop 24 = dktX3_reached_1 := dk_seg dksX3_reached_0 24 rfl rfl
theorem dksX3_reached_2 : cX3_reached.data.toList.drop 48 = dktX3_reached_2 := dk_seg dksX3_reached_1 24 rfl rfl
theorem dksX3_reached_3 : cX3_reached.data.toList.drop 72 = dktX3_reached_3 := dk_seg dksX3_reached_2 24 rfl rfl
theorem dX3_reached_0 : decode cX3_reached 0 = .ok (.iconst 1, 1) := dk_4 (dk_at dksX3_reached_0 0 rfl rfl)
theorem dX3_reached_1 : decode cX3_reached 1 = .ok (.iload_n 2, 1) := dk_28 (dk_at dksX3_reached_0 1 rfl rfl)
theorem dX3_reached_2 : decode cX3_reached 2 = .ok (.ishl, 1) := dk_120 (dk_at dksX3_reached_0 2 rfl rfl)
theorem dX3_reached_3 : decode cX3_reached 3 = .ok (.istore_n 3, 1) := dk_62 (dk_at dksX3_reached_0 3 rfl rfl)
theorem dX3_reached_4 : decode cX3_reached 4 = .ok (.iload_n 3, 1) := dk_29 (dk_at dksX3_reached_0 4 rfl rfl)
theorem dX3_reached_5 : decode cX3_reached 5 = .ok (.istore 4, 2) := dk_54 4 (dk_at dksX3_reached_0 5 rfl rfl)
theorem dX3_reached_7 : decode cX3_reached 7 = .ok (.iload 4, 2) := dk_21 4 (dk_at dksX3_reached_0 7 rfl rfl)
theorem dX3_reached_9 : decode cX3_reached 9 = .ok (.ifCond .eq 82, 3) := dk_153 0 82 (dk_at dksX3_reached_0 9 rfl rfl)
theorem dX3_reached_12 : decode cX3_reached 12 = .ok (.iconst 0, 1) := dk_3 (dk_at dksX3_reached_0 12 rfl rfl)
theorem dX3_reached_13 : decode cX3_reached 13 = .ok (.istore 5, 2) := dk_54 5 (dk_at dksX3_reached_0 13 rfl rfl)
theorem dX3_reached_15 : decode cX3_reached 15 = .ok (.iconst 0, 1) := dk_3 (dk_at dksX3_reached_0 15 rfl rfl)
theorem dX3_reached_16 : decode cX3_reached 16 = .ok (.istore 6, 2) := dk_54 6 (dk_at dksX3_reached_0 16 rfl rfl)
theorem dX3_reached_18 : decode cX3_reached 18 = .ok (.iload 6, 2) := dk_21 6 (dk_at dksX3_reached_0 18 rfl rfl)
theorem dX3_reached_20 : decode cX3_reached 20 = .ok (.aload_n 0, 1) := dk_42 (dk_at dksX3_reached_0 20 rfl rfl)
theorem dX3_reached_21 : decode cX3_reached 21 = .ok (.getfield 64, 3) := dk_180 0 64 (dk_at dksX3_reached_0 21 rfl rfl)
theorem dX3_reached_24 : decode cX3_reached 24 = .ok (.iconst 0, 1) := dk_3 (dk_at dksX3_reached_1 0 rfl rfl)
theorem dX3_reached_25 : decode cX3_reached 25 = .ok (.iaload, 1) := dk_46 (dk_at dksX3_reached_1 1 rfl rfl)
theorem dX3_reached_26 : decode cX3_reached 26 = .ok (.if_icmp .ge 33, 3) := dk_162 0 33 (dk_at dksX3_reached_1 2 rfl rfl)
theorem dX3_reached_29 : decode cX3_reached 29 = .ok (.iload 4, 2) := dk_21 4 (dk_at dksX3_reached_1 5 rfl rfl)
theorem dX3_reached_31 : decode cX3_reached 31 = .ok (.iload 6, 2) := dk_21 6 (dk_at dksX3_reached_1 7 rfl rfl)
theorem dX3_reached_33 : decode cX3_reached 33 = .ok (.invokestatic 184, 3) := dk_184 0 184 (dk_at dksX3_reached_1 9 rfl rfl)
theorem dX3_reached_36 : decode cX3_reached 36 = .ok (.ifCond .eq 17, 3) := dk_153 0 17 (dk_at dksX3_reached_1 12 rfl rfl)
theorem dX3_reached_39 : decode cX3_reached 39 = .ok (.iload 5, 2) := dk_21 5 (dk_at dksX3_reached_1 15 rfl rfl)
theorem dX3_reached_41 : decode cX3_reached 41 = .ok (.aload_n 0, 1) := dk_42 (dk_at dksX3_reached_1 17 rfl rfl)
theorem dX3_reached_42 : decode cX3_reached 42 = .ok (.getfield 64, 3) := dk_180 0 64 (dk_at dksX3_reached_1 18 rfl rfl)
theorem dX3_reached_45 : decode cX3_reached 45 = .ok (.iconst 1, 1) := dk_4 (dk_at dksX3_reached_1 21 rfl rfl)
theorem dX3_reached_46 : decode cX3_reached 46 = .ok (.iload 6, 2) := dk_21 6 (dk_at dksX3_reached_1 22 rfl rfl)
theorem dX3_reached_48 : decode cX3_reached 48 = .ok (.iadd, 1) := dk_96 (dk_at dksX3_reached_2 0 rfl rfl)
theorem dX3_reached_49 : decode cX3_reached 49 = .ok (.iaload, 1) := dk_46 (dk_at dksX3_reached_2 1 rfl rfl)
theorem dX3_reached_50 : decode cX3_reached 50 = .ok (.ior, 1) := dk_128 (dk_at dksX3_reached_2 2 rfl rfl)
theorem dX3_reached_51 : decode cX3_reached 51 = .ok (.istore 5, 2) := dk_54 5 (dk_at dksX3_reached_2 3 rfl rfl)
theorem dX3_reached_53 : decode cX3_reached 53 = .ok (.iinc 6 1, 3) := dk_132 6 1 (dk_at dksX3_reached_2 5 rfl rfl)
theorem dX3_reached_56 : decode cX3_reached 56 = .ok (.goto (-38), 3) := dk_167 255 218 (dk_at dksX3_reached_2 8 rfl rfl)
theorem dX3_reached_59 : decode cX3_reached 59 = .ok (.iload_n 1, 1) := dk_27 (dk_at dksX3_reached_2 11 rfl rfl)
theorem dX3_reached_60 : decode cX3_reached 60 = .ok (.bipush 16, 2) := dk_16 16 (dk_at dksX3_reached_2 12 rfl rfl)
theorem dX3_reached_62 : decode cX3_reached 62 = .ok (.if_icmp .ge 13, 3) := dk_162 0 13 (dk_at dksX3_reached_2 14 rfl rfl)
theorem dX3_reached_65 : decode cX3_reached 65 = .ok (.iload 5, 2) := dk_21 5 (dk_at dksX3_reached_2 17 rfl rfl)
theorem dX3_reached_67 : decode cX3_reached 67 = .ok (.iconst 1, 1) := dk_4 (dk_at dksX3_reached_2 19 rfl rfl)
theorem dX3_reached_68 : decode cX3_reached 68 = .ok (.iload_n 1, 1) := dk_27 (dk_at dksX3_reached_2 20 rfl rfl)
theorem dX3_reached_69 : decode cX3_reached 69 = .ok (.ishl, 1) := dk_120 (dk_at dksX3_reached_2 21 rfl rfl)
theorem dX3_reached_70 : decode cX3_reached 70 = .ok (.iconst (-1), 1) := dk_2 (dk_at dksX3_reached_2 22 rfl rfl)
theorem dX3_reached_71 : decode cX3_reached 71 = .ok (.ixor, 1) := dk_130 (dk_at dksX3_reached_2 23 rfl rfl)
theorem dX3_reached_72 : decode cX3_reached 72 = .ok (.iand, 1) := dk_126 (dk_at dksX3_reached_3 0 rfl rfl)
theorem dX3_reached_73 : decode cX3_reached 73 = .ok (.istore 5, 2) := dk_54 5 (dk_at dksX3_reached_3 1 rfl rfl)
theorem dX3_reached_75 : decode cX3_reached 75 = .ok (.iload 5, 2) := dk_21 5 (dk_at dksX3_reached_3 3 rfl rfl)
theorem dX3_reached_77 : decode cX3_reached 77 = .ok (.iload_n 3, 1) := dk_29 (dk_at dksX3_reached_3 5 rfl rfl)
theorem dX3_reached_78 : decode cX3_reached 78 = .ok (.iconst (-1), 1) := dk_2 (dk_at dksX3_reached_3 6 rfl rfl)
theorem dX3_reached_79 : decode cX3_reached 79 = .ok (.ixor, 1) := dk_130 (dk_at dksX3_reached_3 7 rfl rfl)
theorem dX3_reached_80 : decode cX3_reached 80 = .ok (.iand, 1) := dk_126 (dk_at dksX3_reached_3 8 rfl rfl)
theorem dX3_reached_81 : decode cX3_reached 81 = .ok (.istore 4, 2) := dk_54 4 (dk_at dksX3_reached_3 9 rfl rfl)
theorem dX3_reached_83 : decode cX3_reached 83 = .ok (.iload_n 3, 1) := dk_29 (dk_at dksX3_reached_3 11 rfl rfl)
theorem dX3_reached_84 : decode cX3_reached 84 = .ok (.iload 5, 2) := dk_21 5 (dk_at dksX3_reached_3 12 rfl rfl)
theorem dX3_reached_86 : decode cX3_reached 86 = .ok (.ior, 1) := dk_128 (dk_at dksX3_reached_3 14 rfl rfl)
theorem dX3_reached_87 : decode cX3_reached 87 = .ok (.istore_n 3, 1) := dk_62 (dk_at dksX3_reached_3 15 rfl rfl)
theorem dX3_reached_88 : decode cX3_reached 88 = .ok (.goto (-81), 3) := dk_167 255 175 (dk_at dksX3_reached_3 16 rfl rfl)
theorem dX3_reached_91 : decode cX3_reached 91 = .ok (.iload_n 3, 1) := dk_29 (dk_at dksX3_reached_3 19 rfl rfl)
theorem dX3_reached_92 : decode cX3_reached 92 = .ok (.ireturn, 1) := dk_172 (dk_at dksX3_reached_3 20 rfl rfl)
abbrev cX3_sizeSeen : ByteArray := prog_21_method_35_code
def yX3_sizeSeen : MethodName := ⟨RX3, "sizeSeen", "(II)I"⟩
def dkwX3_sizeSeen_0 : List UInt8 := [42, 180, 0, 70, 16, 16, 27, 104, 28, 96, 46, 184, 0, 148, 172]
abbrev dktX3_sizeSeen_0 : List UInt8 := dkwX3_sizeSeen_0 ++ []
theorem dksX3_sizeSeen_0 : cX3_sizeSeen.data.toList.drop 0 = dktX3_sizeSeen_0 := by decide +kernel
theorem dX3_sizeSeen_0 : decode cX3_sizeSeen 0 = .ok (.aload_n 0, 1) := dk_42 (dk_at dksX3_sizeSeen_0 0 rfl rfl)
theorem dX3_sizeSeen_1 : decode cX3_sizeSeen 1 = .ok (.getfield 70, 3) := dk_180 0 70 (dk_at dksX3_sizeSeen_0 1 rfl rfl)
theorem dX3_sizeSeen_4 : decode cX3_sizeSeen 4 = .ok (.bipush 16, 2) := dk_16 16 (dk_at dksX3_sizeSeen_0 4 rfl rfl)
theorem dX3_sizeSeen_6 : decode cX3_sizeSeen 6 = .ok (.iload_n 1, 1) := dk_27 (dk_at dksX3_sizeSeen_0 6 rfl rfl)
theorem dX3_sizeSeen_7 : decode cX3_sizeSeen 7 = .ok (.imul, 1) := dk_104 (dk_at dksX3_sizeSeen_0 7 rfl rfl)
theorem dX3_sizeSeen_8 : decode cX3_sizeSeen 8 = .ok (.iload_n 2, 1) := dk_28 (dk_at dksX3_sizeSeen_0 8 rfl rfl)
theorem dX3_sizeSeen_9 : decode cX3_sizeSeen 9 = .ok (.iadd, 1) := dk_96 (dk_at dksX3_sizeSeen_0 9 rfl rfl)
theorem dX3_sizeSeen_10 : decode cX3_sizeSeen 10 = .ok (.iaload, 1) := dk_46 (dk_at dksX3_sizeSeen_0 10 rfl rfl)
theorem dX3_sizeSeen_11 : decode cX3_sizeSeen 11 = .ok (.invokestatic 148, 3) := dk_184 0 148 (dk_at dksX3_sizeSeen_0 11 rfl rfl)
theorem dX3_sizeSeen_14 : decode cX3_sizeSeen 14 = .ok (.ireturn, 1) := dk_172 (dk_at dksX3_sizeSeen_0 14 rfl rfl)
abbrev cX3_shapes : ByteArray := prog_21_method_53_code
def yX3_shapes : MethodName := ⟨RX3, "shapes", "(II)V"⟩
def dkwX3_shapes_3 : List UInt8 := [182, 1, 55, 79, 177]
abbrev dktX3_shapes_3 : List UInt8 := dkwX3_shapes_3 ++ []
def dkwX3_shapes_2 : List UInt8 := [96, 46, 182, 1, 52, 132, 3, 1, 167, 255, 208, 42, 180, 0, 67, 16, 16, 27, 104, 28, 96, 42]
abbrev dktX3_shapes_2 : List UInt8 := dkwX3_shapes_2 ++ dktX3_shapes_3
def dkwX3_shapes_1 : List UInt8 := [180, 0, 64, 4, 28, 96, 46, 29, 184, 0, 184, 153, 0, 18, 42, 42, 180, 0, 67, 16, 16, 28, 104, 29]
abbrev dktX3_shapes_1 : List UInt8 := dkwX3_shapes_1 ++ dktX3_shapes_2
def dkwX3_shapes_0 : List UInt8 := [42, 3, 181, 0, 255, 3, 62, 29, 42, 180, 0, 64, 3, 46, 162, 0, 44, 29, 27, 159, 0, 33, 42]
abbrev dktX3_shapes_0 : List UInt8 := dkwX3_shapes_0 ++ dktX3_shapes_1
theorem dksX3_shapes_0 : cX3_shapes.data.toList.drop 0 = dktX3_shapes_0 := by decide +kernel
theorem dksX3_shapes_1 : cX3_shapes.data.toList.drop 23 = dktX3_shapes_1 := dk_seg dksX3_shapes_0 23 rfl rfl
theorem dksX3_shapes_2 : cX3_shapes.data.toList.drop 47 = dktX3_shapes_2 := dk_seg dksX3_shapes_1 24 rfl rfl
theorem dksX3_shapes_3 : cX3_shapes.data.toList.drop 69 = dktX3_shapes_3 := dk_seg dksX3_shapes_2 22 rfl rfl
theorem dX3_shapes_0 : decode cX3_shapes 0 = .ok (.aload_n 0, 1) := dk_42 (dk_at dksX3_shapes_0 0 rfl rfl)
theorem dX3_shapes_1 : decode cX3_shapes 1 = .ok (.iconst 0, 1) := dk_3 (dk_at dksX3_shapes_0 1 rfl rfl)
theorem dX3_shapes_2 : decode cX3_shapes 2 = .ok (.putfield 255, 3) := dk_181 0 255 (dk_at dksX3_shapes_0 2 rfl rfl)
theorem dX3_shapes_5 : decode cX3_shapes 5 = .ok (.iconst 0, 1) := dk_3 (dk_at dksX3_shapes_0 5 rfl rfl)
theorem dX3_shapes_6 : decode cX3_shapes 6 = .ok (.istore_n 3, 1) := dk_62 (dk_at dksX3_shapes_0 6 rfl rfl)
theorem dX3_shapes_7 : decode cX3_shapes 7 = .ok (.iload_n 3, 1) := dk_29 (dk_at dksX3_shapes_0 7 rfl rfl)
theorem dX3_shapes_8 : decode cX3_shapes 8 = .ok (.aload_n 0, 1) := dk_42 (dk_at dksX3_shapes_0 8 rfl rfl)
theorem dX3_shapes_9 : decode cX3_shapes 9 = .ok (.getfield 64, 3) := dk_180 0 64 (dk_at dksX3_shapes_0 9 rfl rfl)
theorem dX3_shapes_12 : decode cX3_shapes 12 = .ok (.iconst 0, 1) := dk_3 (dk_at dksX3_shapes_0 12 rfl rfl)
theorem dX3_shapes_13 : decode cX3_shapes 13 = .ok (.iaload, 1) := dk_46 (dk_at dksX3_shapes_0 13 rfl rfl)
theorem dX3_shapes_14 : decode cX3_shapes 14 = .ok (.if_icmp .ge 44, 3) := dk_162 0 44 (dk_at dksX3_shapes_0 14 rfl rfl)
theorem dX3_shapes_17 : decode cX3_shapes 17 = .ok (.iload_n 3, 1) := dk_29 (dk_at dksX3_shapes_0 17 rfl rfl)
theorem dX3_shapes_18 : decode cX3_shapes 18 = .ok (.iload_n 1, 1) := dk_27 (dk_at dksX3_shapes_0 18 rfl rfl)
theorem dX3_shapes_19 : decode cX3_shapes 19 = .ok (.if_icmp .eq 33, 3) := dk_159 0 33 (dk_at dksX3_shapes_0 19 rfl rfl)
theorem dX3_shapes_22 : decode cX3_shapes 22 = .ok (.aload_n 0, 1) := dk_42 (dk_at dksX3_shapes_0 22 rfl rfl)
theorem dX3_shapes_23 : decode cX3_shapes 23 = .ok (.getfield 64, 3) := dk_180 0 64 (dk_at dksX3_shapes_1 0 rfl rfl)
theorem dX3_shapes_26 : decode cX3_shapes 26 = .ok (.iconst 1, 1) := dk_4 (dk_at dksX3_shapes_1 3 rfl rfl)
theorem dX3_shapes_27 : decode cX3_shapes 27 = .ok (.iload_n 2, 1) := dk_28 (dk_at dksX3_shapes_1 4 rfl rfl)
theorem dX3_shapes_28 : decode cX3_shapes 28 = .ok (.iadd, 1) := dk_96 (dk_at dksX3_shapes_1 5 rfl rfl)
theorem dX3_shapes_29 : decode cX3_shapes 29 = .ok (.iaload, 1) := dk_46 (dk_at dksX3_shapes_1 6 rfl rfl)
theorem dX3_shapes_30 : decode cX3_shapes 30 = .ok (.iload_n 3, 1) := dk_29 (dk_at dksX3_shapes_1 7 rfl rfl)
theorem dX3_shapes_31 : decode cX3_shapes 31 = .ok (.invokestatic 184, 3) := dk_184 0 184 (dk_at dksX3_shapes_1 8 rfl rfl)
theorem dX3_shapes_34 : decode cX3_shapes 34 = .ok (.ifCond .eq 18, 3) := dk_153 0 18 (dk_at dksX3_shapes_1 11 rfl rfl)
theorem dX3_shapes_37 : decode cX3_shapes 37 = .ok (.aload_n 0, 1) := dk_42 (dk_at dksX3_shapes_1 14 rfl rfl)
theorem dX3_shapes_38 : decode cX3_shapes 38 = .ok (.aload_n 0, 1) := dk_42 (dk_at dksX3_shapes_1 15 rfl rfl)
theorem dX3_shapes_39 : decode cX3_shapes 39 = .ok (.getfield 67, 3) := dk_180 0 67 (dk_at dksX3_shapes_1 16 rfl rfl)
theorem dX3_shapes_42 : decode cX3_shapes 42 = .ok (.bipush 16, 2) := dk_16 16 (dk_at dksX3_shapes_1 19 rfl rfl)
theorem dX3_shapes_44 : decode cX3_shapes 44 = .ok (.iload_n 2, 1) := dk_28 (dk_at dksX3_shapes_1 21 rfl rfl)
theorem dX3_shapes_45 : decode cX3_shapes 45 = .ok (.imul, 1) := dk_104 (dk_at dksX3_shapes_1 22 rfl rfl)
theorem dX3_shapes_46 : decode cX3_shapes 46 = .ok (.iload_n 3, 1) := dk_29 (dk_at dksX3_shapes_1 23 rfl rfl)
theorem dX3_shapes_47 : decode cX3_shapes 47 = .ok (.iadd, 1) := dk_96 (dk_at dksX3_shapes_2 0 rfl rfl)
theorem dX3_shapes_48 : decode cX3_shapes 48 = .ok (.iaload, 1) := dk_46 (dk_at dksX3_shapes_2 1 rfl rfl)
theorem dX3_shapes_49 : decode cX3_shapes 49 = .ok (.invokevirtual 308, 3) := dk_182 1 52 (dk_at dksX3_shapes_2 2 rfl rfl)
theorem dX3_shapes_52 : decode cX3_shapes 52 = .ok (.iinc 3 1, 3) := dk_132 3 1 (dk_at dksX3_shapes_2 5 rfl rfl)
theorem dX3_shapes_55 : decode cX3_shapes 55 = .ok (.goto (-48), 3) := dk_167 255 208 (dk_at dksX3_shapes_2 8 rfl rfl)
theorem dX3_shapes_58 : decode cX3_shapes 58 = .ok (.aload_n 0, 1) := dk_42 (dk_at dksX3_shapes_2 11 rfl rfl)
theorem dX3_shapes_59 : decode cX3_shapes 59 = .ok (.getfield 67, 3) := dk_180 0 67 (dk_at dksX3_shapes_2 12 rfl rfl)
theorem dX3_shapes_62 : decode cX3_shapes 62 = .ok (.bipush 16, 2) := dk_16 16 (dk_at dksX3_shapes_2 15 rfl rfl)
theorem dX3_shapes_64 : decode cX3_shapes 64 = .ok (.iload_n 1, 1) := dk_27 (dk_at dksX3_shapes_2 17 rfl rfl)
theorem dX3_shapes_65 : decode cX3_shapes 65 = .ok (.imul, 1) := dk_104 (dk_at dksX3_shapes_2 18 rfl rfl)
theorem dX3_shapes_66 : decode cX3_shapes 66 = .ok (.iload_n 2, 1) := dk_28 (dk_at dksX3_shapes_2 19 rfl rfl)
theorem dX3_shapes_67 : decode cX3_shapes 67 = .ok (.iadd, 1) := dk_96 (dk_at dksX3_shapes_2 20 rfl rfl)
theorem dX3_shapes_68 : decode cX3_shapes 68 = .ok (.aload_n 0, 1) := dk_42 (dk_at dksX3_shapes_2 21 rfl rfl)
theorem dX3_shapes_69 : decode cX3_shapes 69 = .ok (.invokevirtual 311, 3) := dk_182 1 55 (dk_at dksX3_shapes_3 0 rfl rfl)
theorem dX3_shapes_72 : decode cX3_shapes 72 = .ok (.iastore, 1) := dk_79 (dk_at dksX3_shapes_3 3 rfl rfl)
theorem dX3_shapes_73 : decode cX3_shapes 73 = .ok (.return_, 1) := dk_177 (dk_at dksX3_shapes_3 4 rfl rfl)
abbrev cX3_finds : ByteArray := prog_21_method_38_code
def yX3_finds : MethodName := ⟨RX3, "finds", "(I)V"⟩
def dkwX3_finds_2 : List UInt8 := [180, 0, 73, 28, 27, 79, 42, 89, 180, 0, 255, 4, 96, 181, 0, 255, 177]
abbrev dktX3_finds_2 : List UInt8 := dkwX3_finds_2 ++ []
def dkwX3_finds_1 : List UInt8 := [158, 0, 23, 42, 180, 0, 73, 28, 42, 180, 0, 73, 28, 4, 100, 46, 79, 132, 2, 255, 167, 255, 219, 42]
abbrev dktX3_finds_1 : List UInt8 := dkwX3_finds_1 ++ dktX3_finds_2
def dkwX3_finds_0 : List UInt8 := [42, 180, 0, 255, 61, 28, 158, 0, 39, 42, 27, 42, 180, 0, 73, 28, 4, 100, 46, 182, 1, 2]
abbrev dktX3_finds_0 : List UInt8 := dkwX3_finds_0 ++ dktX3_finds_1
theorem dksX3_finds_0 : cX3_finds.data.toList.drop 0 = dktX3_finds_0 := by decide +kernel
theorem dksX3_finds_1 : cX3_finds.data.toList.drop 22 = dktX3_finds_1 := dk_seg dksX3_finds_0 22 rfl rfl
theorem dksX3_finds_2 : cX3_finds.data.toList.drop 46 = dktX3_finds_2 := dk_seg dksX3_finds_1 24 rfl rfl
theorem dX3_finds_0 : decode cX3_finds 0 = .ok (.aload_n 0, 1) := dk_42 (dk_at dksX3_finds_0 0 rfl rfl)
theorem dX3_finds_1 : decode cX3_finds 1 = .ok (.getfield 255, 3) := dk_180 0 255 (dk_at dksX3_finds_0 1 rfl rfl)
theorem dX3_finds_4 : decode cX3_finds 4 = .ok (.istore_n 2, 1) := dk_61 (dk_at dksX3_finds_0 4 rfl rfl)
theorem dX3_finds_5 : decode cX3_finds 5 = .ok (.iload_n 2, 1) := dk_28 (dk_at dksX3_finds_0 5 rfl rfl)
theorem dX3_finds_6 : decode cX3_finds 6 = .ok (.ifCond .le 39, 3) := dk_158 0 39 (dk_at dksX3_finds_0 6 rfl rfl)
theorem dX3_finds_9 : decode cX3_finds 9 = .ok (.aload_n 0, 1) := dk_42 (dk_at dksX3_finds_0 9 rfl rfl)
theorem dX3_finds_10 : decode cX3_finds 10 = .ok (.iload_n 1, 1) := dk_27 (dk_at dksX3_finds_0 10 rfl rfl)
theorem dX3_finds_11 : decode cX3_finds 11 = .ok (.aload_n 0, 1) := dk_42 (dk_at dksX3_finds_0 11 rfl rfl)
theorem dX3_finds_12 : decode cX3_finds 12 = .ok (.getfield 73, 3) := dk_180 0 73 (dk_at dksX3_finds_0 12 rfl rfl)
theorem dX3_finds_15 : decode cX3_finds 15 = .ok (.iload_n 2, 1) := dk_28 (dk_at dksX3_finds_0 15 rfl rfl)
theorem dX3_finds_16 : decode cX3_finds 16 = .ok (.iconst 1, 1) := dk_4 (dk_at dksX3_finds_0 16 rfl rfl)
theorem dX3_finds_17 : decode cX3_finds 17 = .ok (.isub, 1) := dk_100 (dk_at dksX3_finds_0 17 rfl rfl)
theorem dX3_finds_18 : decode cX3_finds 18 = .ok (.iaload, 1) := dk_46 (dk_at dksX3_finds_0 18 rfl rfl)
theorem dX3_finds_19 : decode cX3_finds 19 = .ok (.invokevirtual 258, 3) := dk_182 1 2 (dk_at dksX3_finds_0 19 rfl rfl)
theorem dX3_finds_22 : decode cX3_finds 22 = .ok (.ifCond .le 23, 3) := dk_158 0 23 (dk_at dksX3_finds_1 0 rfl rfl)
theorem dX3_finds_25 : decode cX3_finds 25 = .ok (.aload_n 0, 1) := dk_42 (dk_at dksX3_finds_1 3 rfl rfl)
theorem dX3_finds_26 : decode cX3_finds 26 = .ok (.getfield 73, 3) := dk_180 0 73 (dk_at dksX3_finds_1 4 rfl rfl)
theorem dX3_finds_29 : decode cX3_finds 29 = .ok (.iload_n 2, 1) := dk_28 (dk_at dksX3_finds_1 7 rfl rfl)
theorem dX3_finds_30 : decode cX3_finds 30 = .ok (.aload_n 0, 1) := dk_42 (dk_at dksX3_finds_1 8 rfl rfl)
theorem dX3_finds_31 : decode cX3_finds 31 = .ok (.getfield 73, 3) := dk_180 0 73 (dk_at dksX3_finds_1 9 rfl rfl)
theorem dX3_finds_34 : decode cX3_finds 34 = .ok (.iload_n 2, 1) := dk_28 (dk_at dksX3_finds_1 12 rfl rfl)
theorem dX3_finds_35 : decode cX3_finds 35 = .ok (.iconst 1, 1) := dk_4 (dk_at dksX3_finds_1 13 rfl rfl)
theorem dX3_finds_36 : decode cX3_finds 36 = .ok (.isub, 1) := dk_100 (dk_at dksX3_finds_1 14 rfl rfl)
theorem dX3_finds_37 : decode cX3_finds 37 = .ok (.iaload, 1) := dk_46 (dk_at dksX3_finds_1 15 rfl rfl)
theorem dX3_finds_38 : decode cX3_finds 38 = .ok (.iastore, 1) := dk_79 (dk_at dksX3_finds_1 16 rfl rfl)
theorem dX3_finds_39 : decode cX3_finds 39 = .ok (.iinc 2 (-1), 3) := dk_132 2 255 (dk_at dksX3_finds_1 17 rfl rfl)
theorem dX3_finds_42 : decode cX3_finds 42 = .ok (.goto (-37), 3) := dk_167 255 219 (dk_at dksX3_finds_1 20 rfl rfl)
theorem dX3_finds_45 : decode cX3_finds 45 = .ok (.aload_n 0, 1) := dk_42 (dk_at dksX3_finds_1 23 rfl rfl)
theorem dX3_finds_46 : decode cX3_finds 46 = .ok (.getfield 73, 3) := dk_180 0 73 (dk_at dksX3_finds_2 0 rfl rfl)
theorem dX3_finds_49 : decode cX3_finds 49 = .ok (.iload_n 2, 1) := dk_28 (dk_at dksX3_finds_2 3 rfl rfl)
theorem dX3_finds_50 : decode cX3_finds 50 = .ok (.iload_n 1, 1) := dk_27 (dk_at dksX3_finds_2 4 rfl rfl)
theorem dX3_finds_51 : decode cX3_finds 51 = .ok (.iastore, 1) := dk_79 (dk_at dksX3_finds_2 5 rfl rfl)
theorem dX3_finds_52 : decode cX3_finds 52 = .ok (.aload_n 0, 1) := dk_42 (dk_at dksX3_finds_2 6 rfl rfl)
theorem dX3_finds_53 : decode cX3_finds 53 = .ok (.dup, 1) := dk_89 (dk_at dksX3_finds_2 7 rfl rfl)
theorem dX3_finds_54 : decode cX3_finds 54 = .ok (.getfield 255, 3) := dk_180 0 255 (dk_at dksX3_finds_2 8 rfl rfl)
theorem dX3_finds_57 : decode cX3_finds 57 = .ok (.iconst 1, 1) := dk_4 (dk_at dksX3_finds_2 11 rfl rfl)
theorem dX3_finds_58 : decode cX3_finds 58 = .ok (.iadd, 1) := dk_96 (dk_at dksX3_finds_2 12 rfl rfl)
theorem dX3_finds_59 : decode cX3_finds 59 = .ok (.putfield 255, 3) := dk_181 0 255 (dk_at dksX3_finds_2 13 rfl rfl)
theorem dX3_finds_62 : decode cX3_finds 62 = .ok (.return_, 1) := dk_177 (dk_at dksX3_finds_2 16 rfl rfl)
abbrev cX3_compares : ByteArray := prog_21_method_37_code
def yX3_compares : MethodName := ⟨RX3, "compares", "(II)I"⟩
def dkwX3_compares_5 : List UInt8 := [167, 255, 143, 3, 172]
abbrev dktX3_compares_5 : List UInt8 := dkwX3_compares_5 ++ []
def dkwX3_compares_4 : List UInt8 := [54, 6, 42, 180, 0, 42, 7, 21, 4, 104, 21, 5, 96, 46, 54, 7, 21, 6, 62, 21, 7, 54, 4]
abbrev dktX3_compares_4 : List UInt8 := dkwX3_compares_4 ++ dktX3_compares_5
def dkwX3_compares_3 : List UInt8 := [21, 5, 96, 46, 160, 0, 9, 132, 5, 1, 167, 255, 227, 42, 180, 0, 42, 7, 29, 104, 21, 5, 96, 46]
abbrev dktX3_compares_3 : List UInt8 := dkwX3_compares_3 ++ dktX3_compares_4
def dkwX3_compares_2 : List UInt8 := [172, 3, 54, 5, 42, 180, 0, 42, 7, 29, 104, 21, 5, 96, 46, 42, 180, 0, 42, 7, 21, 4, 104]
abbrev dktX3_compares_2 : List UInt8 := dkwX3_compares_2 ++ dktX3_compares_3
def dkwX3_compares_1 : List UInt8 := [159, 0, 25, 42, 180, 0, 39, 29, 46, 42, 180, 0, 39, 21, 4, 46, 164, 0, 7, 4, 167, 0, 4, 2]
abbrev dktX3_compares_1 : List UInt8 := dkwX3_compares_1 ++ dktX3_compares_2
def dkwX3_compares_0 : List UInt8 := [27, 62, 28, 54, 4, 29, 21, 4, 159, 0, 113, 42, 180, 0, 39, 29, 46, 42, 180, 0, 39, 21, 4, 46]
abbrev dktX3_compares_0 : List UInt8 := dkwX3_compares_0 ++ dktX3_compares_1
theorem dksX3_compares_0 : cX3_compares.data.toList.drop 0 = dktX3_compares_0 := by decide +kernel
theorem dksX3_compares_1 : cX3_compares.data.toList.drop 24 = dktX3_compares_1 := dk_seg dksX3_compares_0 24 rfl rfl
theorem dksX3_compares_2 : cX3_compares.data.toList.drop 48 = dktX3_compares_2 := dk_seg dksX3_compares_1 24 rfl rfl
theorem dksX3_compares_3 : cX3_compares.data.toList.drop 71 = dktX3_compares_3 := dk_seg dksX3_compares_2 23 rfl rfl
theorem dksX3_compares_4 : cX3_compares.data.toList.drop 95 = dktX3_compares_4 := dk_seg dksX3_compares_3 24 rfl rfl
theorem dksX3_compares_5 : cX3_compares.data.toList.drop 118 = dktX3_compares_5 := dk_seg dksX3_compares_4 23 rfl rfl
theorem dX3_compares_0 : decode cX3_compares 0 = .ok (.iload_n 1, 1) := dk_27 (dk_at dksX3_compares_0 0 rfl rfl)
theorem dX3_compares_1 : decode cX3_compares 1 = .ok (.istore_n 3, 1) := dk_62 (dk_at dksX3_compares_0 1 rfl rfl)
theorem dX3_compares_2 : decode cX3_compares 2 = .ok (.iload_n 2, 1) := dk_28 (dk_at dksX3_compares_0 2 rfl rfl)
theorem dX3_compares_3 : decode cX3_compares 3 = .ok (.istore 4, 2) := dk_54 4 (dk_at dksX3_compares_0 3 rfl rfl)
theorem dX3_compares_5 : decode cX3_compares 5 = .ok (.iload_n 3, 1) := dk_29 (dk_at dksX3_compares_0 5 rfl rfl)
theorem dX3_compares_6 : decode cX3_compares 6 = .ok (.iload 4, 2) := dk_21 4 (dk_at dksX3_compares_0 6 rfl rfl)
theorem dX3_compares_8 : decode cX3_compares 8 = .ok (.if_icmp .eq 113, 3) := dk_159 0 113 (dk_at dksX3_compares_0 8 rfl rfl)
theorem dX3_compares_11 : decode cX3_compares 11 = .ok (.aload_n 0, 1) := dk_42 (dk_at dksX3_compares_0 11 rfl rfl)
theorem dX3_compares_12 : decode cX3_compares 12 = .ok (.getfield 39, 3) := dk_180 0 39 (dk_at dksX3_compares_0 12 rfl rfl)
theorem dX3_compares_15 : decode cX3_compares 15 = .ok (.iload_n 3, 1) := dk_29 (dk_at dksX3_compares_0 15 rfl rfl)
theorem dX3_compares_16 : decode cX3_compares 16 = .ok (.iaload, 1) := dk_46 (dk_at dksX3_compares_0 16 rfl rfl)
theorem dX3_compares_17 : decode cX3_compares 17 = .ok (.aload_n 0, 1) := dk_42 (dk_at dksX3_compares_0 17 rfl rfl)
theorem dX3_compares_18 : decode cX3_compares 18 = .ok (.getfield 39, 3) := dk_180 0 39 (dk_at dksX3_compares_0 18 rfl rfl)
theorem dX3_compares_21 : decode cX3_compares 21 = .ok (.iload 4, 2) := dk_21 4 (dk_at dksX3_compares_0 21 rfl rfl)
theorem dX3_compares_23 : decode cX3_compares 23 = .ok (.iaload, 1) := dk_46 (dk_at dksX3_compares_0 23 rfl rfl)
theorem dX3_compares_24 : decode cX3_compares 24 = .ok (.if_icmp .eq 25, 3) := dk_159 0 25 (dk_at dksX3_compares_1 0 rfl rfl)
theorem dX3_compares_27 : decode cX3_compares 27 = .ok (.aload_n 0, 1) := dk_42 (dk_at dksX3_compares_1 3 rfl rfl)
theorem dX3_compares_28 : decode cX3_compares 28 = .ok (.getfield 39, 3) := dk_180 0 39 (dk_at dksX3_compares_1 4 rfl rfl)
theorem dX3_compares_31 : decode cX3_compares 31 = .ok (.iload_n 3, 1) := dk_29 (dk_at dksX3_compares_1 7 rfl rfl)
theorem dX3_compares_32 : decode cX3_compares 32 = .ok (.iaload, 1) := dk_46 (dk_at dksX3_compares_1 8 rfl rfl)
theorem dX3_compares_33 : decode cX3_compares 33 = .ok (.aload_n 0, 1) := dk_42 (dk_at dksX3_compares_1 9 rfl rfl)
theorem dX3_compares_34 : decode cX3_compares 34 = .ok (.getfield 39, 3) := dk_180 0 39 (dk_at dksX3_compares_1 10 rfl rfl)
theorem dX3_compares_37 : decode cX3_compares 37 = .ok (.iload 4, 2) := dk_21 4 (dk_at dksX3_compares_1 13 rfl rfl)
theorem dX3_compares_39 : decode cX3_compares 39 = .ok (.iaload, 1) := dk_46 (dk_at dksX3_compares_1 15 rfl rfl)
theorem dX3_compares_40 : decode cX3_compares 40 = .ok (.if_icmp .le 7, 3) := dk_164 0 7 (dk_at dksX3_compares_1 16 rfl rfl)
theorem dX3_compares_43 : decode cX3_compares 43 = .ok (.iconst 1, 1) := dk_4 (dk_at dksX3_compares_1 19 rfl rfl)
theorem dX3_compares_44 : decode cX3_compares 44 = .ok (.goto 4, 3) := dk_167 0 4 (dk_at dksX3_compares_1 20 rfl rfl)
theorem dX3_compares_47 : decode cX3_compares 47 = .ok (.iconst (-1), 1) := dk_2 (dk_at dksX3_compares_1 23 rfl rfl)
theorem dX3_compares_48 : decode cX3_compares 48 = .ok (.ireturn, 1) := dk_172 (dk_at dksX3_compares_2 0 rfl rfl)
theorem dX3_compares_49 : decode cX3_compares 49 = .ok (.iconst 0, 1) := dk_3 (dk_at dksX3_compares_2 1 rfl rfl)
theorem dX3_compares_50 : decode cX3_compares 50 = .ok (.istore 5, 2) := dk_54 5 (dk_at dksX3_compares_2 2 rfl rfl)
theorem dX3_compares_52 : decode cX3_compares 52 = .ok (.aload_n 0, 1) := dk_42 (dk_at dksX3_compares_2 4 rfl rfl)
theorem dX3_compares_53 : decode cX3_compares 53 = .ok (.getfield 42, 3) := dk_180 0 42 (dk_at dksX3_compares_2 5 rfl rfl)
theorem dX3_compares_56 : decode cX3_compares 56 = .ok (.iconst 4, 1) := dk_7 (dk_at dksX3_compares_2 8 rfl rfl)
theorem dX3_compares_57 : decode cX3_compares 57 = .ok (.iload_n 3, 1) := dk_29 (dk_at dksX3_compares_2 9 rfl rfl)
theorem dX3_compares_58 : decode cX3_compares 58 = .ok (.imul, 1) := dk_104 (dk_at dksX3_compares_2 10 rfl rfl)
theorem dX3_compares_59 : decode cX3_compares 59 = .ok (.iload 5, 2) := dk_21 5 (dk_at dksX3_compares_2 11 rfl rfl)
theorem dX3_compares_61 : decode cX3_compares 61 = .ok (.iadd, 1) := dk_96 (dk_at dksX3_compares_2 13 rfl rfl)
theorem dX3_compares_62 : decode cX3_compares 62 = .ok (.iaload, 1) := dk_46 (dk_at dksX3_compares_2 14 rfl rfl)
theorem dX3_compares_63 : decode cX3_compares 63 = .ok (.aload_n 0, 1) := dk_42 (dk_at dksX3_compares_2 15 rfl rfl)
theorem dX3_compares_64 : decode cX3_compares 64 = .ok (.getfield 42, 3) := dk_180 0 42 (dk_at dksX3_compares_2 16 rfl rfl)
theorem dX3_compares_67 : decode cX3_compares 67 = .ok (.iconst 4, 1) := dk_7 (dk_at dksX3_compares_2 19 rfl rfl)
theorem dX3_compares_68 : decode cX3_compares 68 = .ok (.iload 4, 2) := dk_21 4 (dk_at dksX3_compares_2 20 rfl rfl)
theorem dX3_compares_70 : decode cX3_compares 70 = .ok (.imul, 1) := dk_104 (dk_at dksX3_compares_2 22 rfl rfl)
theorem dX3_compares_71 : decode cX3_compares 71 = .ok (.iload 5, 2) := dk_21 5 (dk_at dksX3_compares_3 0 rfl rfl)
theorem dX3_compares_73 : decode cX3_compares 73 = .ok (.iadd, 1) := dk_96 (dk_at dksX3_compares_3 2 rfl rfl)
theorem dX3_compares_74 : decode cX3_compares 74 = .ok (.iaload, 1) := dk_46 (dk_at dksX3_compares_3 3 rfl rfl)
theorem dX3_compares_75 : decode cX3_compares 75 = .ok (.if_icmp .ne 9, 3) := dk_160 0 9 (dk_at dksX3_compares_3 4 rfl rfl)
theorem dX3_compares_78 : decode cX3_compares 78 = .ok (.iinc 5 1, 3) := dk_132 5 1 (dk_at dksX3_compares_3 7 rfl rfl)
theorem dX3_compares_81 : decode cX3_compares 81 = .ok (.goto (-29), 3) := dk_167 255 227 (dk_at dksX3_compares_3 10 rfl rfl)
theorem dX3_compares_84 : decode cX3_compares 84 = .ok (.aload_n 0, 1) := dk_42 (dk_at dksX3_compares_3 13 rfl rfl)
theorem dX3_compares_85 : decode cX3_compares 85 = .ok (.getfield 42, 3) := dk_180 0 42 (dk_at dksX3_compares_3 14 rfl rfl)
theorem dX3_compares_88 : decode cX3_compares 88 = .ok (.iconst 4, 1) := dk_7 (dk_at dksX3_compares_3 17 rfl rfl)
theorem dX3_compares_89 : decode cX3_compares 89 = .ok (.iload_n 3, 1) := dk_29 (dk_at dksX3_compares_3 18 rfl rfl)
theorem dX3_compares_90 : decode cX3_compares 90 = .ok (.imul, 1) := dk_104 (dk_at dksX3_compares_3 19 rfl rfl)
theorem dX3_compares_91 : decode cX3_compares 91 = .ok (.iload 5, 2) := dk_21 5 (dk_at dksX3_compares_3 20 rfl rfl)
theorem dX3_compares_93 : decode cX3_compares 93 = .ok (.iadd, 1) := dk_96 (dk_at dksX3_compares_3 22 rfl rfl)
theorem dX3_compares_94 : decode cX3_compares 94 = .ok (.iaload, 1) := dk_46 (dk_at dksX3_compares_3 23 rfl rfl)
theorem dX3_compares_95 : decode cX3_compares 95 = .ok (.istore 6, 2) := dk_54 6 (dk_at dksX3_compares_4 0 rfl rfl)
theorem dX3_compares_97 : decode cX3_compares 97 = .ok (.aload_n 0, 1) := dk_42 (dk_at dksX3_compares_4 2 rfl rfl)
theorem dX3_compares_98 : decode cX3_compares 98 = .ok (.getfield 42, 3) := dk_180 0 42 (dk_at dksX3_compares_4 3 rfl rfl)
theorem dX3_compares_101 : decode cX3_compares 101 = .ok (.iconst 4, 1) := dk_7 (dk_at dksX3_compares_4 6 rfl rfl)
theorem dX3_compares_102 : decode cX3_compares 102 = .ok (.iload 4, 2) := dk_21 4 (dk_at dksX3_compares_4 7 rfl rfl)
theorem dX3_compares_104 : decode cX3_compares 104 = .ok (.imul, 1) := dk_104 (dk_at dksX3_compares_4 9 rfl rfl)
theorem dX3_compares_105 : decode cX3_compares 105 = .ok (.iload 5, 2) := dk_21 5 (dk_at dksX3_compares_4 10 rfl rfl)
theorem dX3_compares_107 : decode cX3_compares 107 = .ok (.iadd, 1) := dk_96 (dk_at dksX3_compares_4 12 rfl rfl)
theorem dX3_compares_108 : decode cX3_compares 108 = .ok (.iaload, 1) := dk_46 (dk_at dksX3_compares_4 13 rfl rfl)
theorem dX3_compares_109 : decode cX3_compares 109 = .ok (.istore 7, 2) := dk_54 7 (dk_at dksX3_compares_4 14 rfl rfl)
theorem dX3_compares_111 : decode cX3_compares 111 = .ok (.iload 6, 2) := dk_21 6 (dk_at dksX3_compares_4 16 rfl rfl)
theorem dX3_compares_113 : decode cX3_compares 113 = .ok (.istore_n 3, 1) := dk_62 (dk_at dksX3_compares_4 18 rfl rfl)
theorem dX3_compares_114 : decode cX3_compares 114 = .ok (.iload 7, 2) := dk_21 7 (dk_at dksX3_compares_4 19 rfl rfl)
theorem dX3_compares_116 : decode cX3_compares 116 = .ok (.istore 4, 2) := dk_54 4 (dk_at dksX3_compares_4 21 rfl rfl)
theorem dX3_compares_118 : decode cX3_compares 118 = .ok (.goto (-113), 3) := dk_167 255 143 (dk_at dksX3_compares_5 0 rfl rfl)
theorem dX3_compares_121 : decode cX3_compares 121 = .ok (.iconst 0, 1) := dk_3 (dk_at dksX3_compares_5 3 rfl rfl)
theorem dX3_compares_122 : decode cX3_compares 122 = .ok (.ireturn, 1) := dk_172 (dk_at dksX3_compares_5 4 rfl rfl)
abbrev cX3_shapeOfFound : ByteArray := prog_21_method_39_code
def yX3_shapeOfFound : MethodName := ⟨RX3, "shapeOfFound", "()I"⟩
def dkwX3_shapeOfFound_4 : List UInt8 := [180, 1, 5, 4, 100, 172]
abbrev dktX3_shapeOfFound_4 : List UInt8 := dkwX3_shapeOfFound_4 ++ []
def dkwX3_shapeOfFound_3 : List UInt8 := [132, 3, 1, 167, 255, 219, 28, 153, 0, 5, 27, 172, 132, 1, 1, 167, 255, 195, 42, 182, 1, 8, 42]
abbrev dktX3_shapeOfFound_3 : List UInt8 := dkwX3_shapeOfFound_3 ++ dktX3_shapeOfFound_4
def dkwX3_shapeOfFound_2 : List UInt8 := [180, 0, 42, 7, 27, 104, 29, 96, 46, 42, 180, 0, 73, 29, 46, 160, 0, 7, 4, 167, 0, 4, 3, 61]
abbrev dktX3_shapeOfFound_2 : List UInt8 := dkwX3_shapeOfFound_2 ++ dktX3_shapeOfFound_3
def dkwX3_shapeOfFound_1 : List UInt8 := [60, 27, 42, 180, 1, 5, 162, 0, 59, 4, 61, 3, 62, 29, 7, 162, 0, 38, 28, 153, 0, 26, 42]
abbrev dktX3_shapeOfFound_1 : List UInt8 := dkwX3_shapeOfFound_1 ++ dktX3_shapeOfFound_2
def dkwX3_shapeOfFound_0 : List UInt8 := [42, 180, 0, 255, 60, 27, 7, 162, 0, 16, 42, 180, 0, 73, 27, 3, 79, 132, 1, 1, 167, 255, 241, 4]
abbrev dktX3_shapeOfFound_0 : List UInt8 := dkwX3_shapeOfFound_0 ++ dktX3_shapeOfFound_1
theorem dksX3_shapeOfFound_0 : cX3_shapeOfFound.data.toList.drop 0 = dktX3_shapeOfFound_0 := by decide +kernel
theorem dksX3_shapeOfFound_1 : cX3_shapeOfFound.data.toList.drop 24 = dktX3_shapeOfFound_1 := dk_seg dksX3_shapeOfFound_0 24 rfl rfl
theorem dksX3_shapeOfFound_2 : cX3_shapeOfFound.data.toList.drop 47 = dktX3_shapeOfFound_2 := dk_seg dksX3_shapeOfFound_1 23 rfl rfl
theorem dksX3_shapeOfFound_3 : cX3_shapeOfFound.data.toList.drop 71 = dktX3_shapeOfFound_3 := dk_seg dksX3_shapeOfFound_2 24 rfl rfl
theorem dksX3_shapeOfFound_4 : cX3_shapeOfFound.data.toList.drop 94 = dktX3_shapeOfFound_4 := dk_seg dksX3_shapeOfFound_3 23 rfl rfl
theorem dX3_shapeOfFound_0 : decode cX3_shapeOfFound 0 = .ok (.aload_n 0, 1) := dk_42 (dk_at dksX3_shapeOfFound_0 0 rfl rfl)
theorem dX3_shapeOfFound_1 : decode cX3_shapeOfFound 1 = .ok (.getfield 255, 3) := dk_180 0 255 (dk_at dksX3_shapeOfFound_0 1 rfl rfl)
theorem dX3_shapeOfFound_4 : decode cX3_shapeOfFound 4 = .ok (.istore_n 1, 1) := dk_60 (dk_at dksX3_shapeOfFound_0 4 rfl rfl)
theorem dX3_shapeOfFound_5 : decode cX3_shapeOfFound 5 = .ok (.iload_n 1, 1) := dk_27 (dk_at dksX3_shapeOfFound_0 5 rfl rfl)
theorem dX3_shapeOfFound_6 : decode cX3_shapeOfFound 6 = .ok (.iconst 4, 1) := dk_7 (dk_at dksX3_shapeOfFound_0 6 rfl rfl)
theorem dX3_shapeOfFound_7 : decode cX3_shapeOfFound 7 = .ok (.if_icmp .ge 16, 3) := dk_162 0 16 (dk_at dksX3_shapeOfFound_0 7 rfl rfl)
theorem dX3_shapeOfFound_10 : decode cX3_shapeOfFound 10 = .ok (.aload_n 0, 1) := dk_42 (dk_at dksX3_shapeOfFound_0 10 rfl rfl)
theorem dX3_shapeOfFound_11 : decode cX3_shapeOfFound 11 = .ok (.getfield 73, 3) := dk_180 0 73 (dk_at dksX3_shapeOfFound_0 11 rfl rfl)
theorem dX3_shapeOfFound_14 : decode cX3_shapeOfFound 14 = .ok (.iload_n 1, 1) := dk_27 (dk_at dksX3_shapeOfFound_0 14 rfl rfl)
theorem dX3_shapeOfFound_15 : decode cX3_shapeOfFound 15 = .ok (.iconst 0, 1) := dk_3 (dk_at dksX3_shapeOfFound_0 15 rfl rfl)
theorem dX3_shapeOfFound_16 : decode cX3_shapeOfFound 16 = .ok (.iastore, 1) := dk_79 (dk_at dksX3_shapeOfFound_0 16 rfl rfl)
theorem dX3_shapeOfFound_17 : decode cX3_shapeOfFound 17 = .ok (.iinc 1 1, 3) := dk_132 1 1 (dk_at dksX3_shapeOfFound_0 17 rfl rfl)
theorem dX3_shapeOfFound_20 : decode cX3_shapeOfFound 20 = .ok (.goto (-15), 3) := dk_167 255 241 (dk_at dksX3_shapeOfFound_0 20 rfl rfl)
theorem dX3_shapeOfFound_23 : decode cX3_shapeOfFound 23 = .ok (.iconst 1, 1) := dk_4 (dk_at dksX3_shapeOfFound_0 23 rfl rfl)
theorem dX3_shapeOfFound_24 : decode cX3_shapeOfFound 24 = .ok (.istore_n 1, 1) := dk_60 (dk_at dksX3_shapeOfFound_1 0 rfl rfl)
theorem dX3_shapeOfFound_25 : decode cX3_shapeOfFound 25 = .ok (.iload_n 1, 1) := dk_27 (dk_at dksX3_shapeOfFound_1 1 rfl rfl)
theorem dX3_shapeOfFound_26 : decode cX3_shapeOfFound 26 = .ok (.aload_n 0, 1) := dk_42 (dk_at dksX3_shapeOfFound_1 2 rfl rfl)
theorem dX3_shapeOfFound_27 : decode cX3_shapeOfFound 27 = .ok (.getfield 261, 3) := dk_180 1 5 (dk_at dksX3_shapeOfFound_1 3 rfl rfl)
theorem dX3_shapeOfFound_30 : decode cX3_shapeOfFound 30 = .ok (.if_icmp .ge 59, 3) := dk_162 0 59 (dk_at dksX3_shapeOfFound_1 6 rfl rfl)
theorem dX3_shapeOfFound_33 : decode cX3_shapeOfFound 33 = .ok (.iconst 1, 1) := dk_4 (dk_at dksX3_shapeOfFound_1 9 rfl rfl)
theorem dX3_shapeOfFound_34 : decode cX3_shapeOfFound 34 = .ok (.istore_n 2, 1) := dk_61 (dk_at dksX3_shapeOfFound_1 10 rfl rfl)
theorem dX3_shapeOfFound_35 : decode cX3_shapeOfFound 35 = .ok (.iconst 0, 1) := dk_3 (dk_at dksX3_shapeOfFound_1 11 rfl rfl)
theorem dX3_shapeOfFound_36 : decode cX3_shapeOfFound 36 = .ok (.istore_n 3, 1) := dk_62 (dk_at dksX3_shapeOfFound_1 12 rfl rfl)
theorem dX3_shapeOfFound_37 : decode cX3_shapeOfFound 37 = .ok (.iload_n 3, 1) := dk_29 (dk_at dksX3_shapeOfFound_1 13 rfl rfl)
theorem dX3_shapeOfFound_38 : decode cX3_shapeOfFound 38 = .ok (.iconst 4, 1) := dk_7 (dk_at dksX3_shapeOfFound_1 14 rfl rfl)
theorem dX3_shapeOfFound_39 : decode cX3_shapeOfFound 39 = .ok (.if_icmp .ge 38, 3) := dk_162 0 38 (dk_at dksX3_shapeOfFound_1 15 rfl rfl)
theorem dX3_shapeOfFound_42 : decode cX3_shapeOfFound 42 = .ok (.iload_n 2, 1) := dk_28 (dk_at dksX3_shapeOfFound_1 18 rfl rfl)
theorem dX3_shapeOfFound_43 : decode cX3_shapeOfFound 43 = .ok (.ifCond .eq 26, 3) := dk_153 0 26 (dk_at dksX3_shapeOfFound_1 19 rfl rfl)
theorem dX3_shapeOfFound_46 : decode cX3_shapeOfFound 46 = .ok (.aload_n 0, 1) := dk_42 (dk_at dksX3_shapeOfFound_1 22 rfl rfl)
theorem dX3_shapeOfFound_47 : decode cX3_shapeOfFound 47 = .ok (.getfield 42, 3) := dk_180 0 42 (dk_at dksX3_shapeOfFound_2 0 rfl rfl)
theorem dX3_shapeOfFound_50 : decode cX3_shapeOfFound 50 = .ok (.iconst 4, 1) := dk_7 (dk_at dksX3_shapeOfFound_2 3 rfl rfl)
theorem dX3_shapeOfFound_51 : decode cX3_shapeOfFound 51 = .ok (.iload_n 1, 1) := dk_27 (dk_at dksX3_shapeOfFound_2 4 rfl rfl)
theorem dX3_shapeOfFound_52 : decode cX3_shapeOfFound 52 = .ok (.imul, 1) := dk_104 (dk_at dksX3_shapeOfFound_2 5 rfl rfl)
theorem dX3_shapeOfFound_53 : decode cX3_shapeOfFound 53 = .ok (.iload_n 3, 1) := dk_29 (dk_at dksX3_shapeOfFound_2 6 rfl rfl)
theorem dX3_shapeOfFound_54 : decode cX3_shapeOfFound 54 = .ok (.iadd, 1) := dk_96 (dk_at dksX3_shapeOfFound_2 7 rfl rfl)
theorem dX3_shapeOfFound_55 : decode cX3_shapeOfFound 55 = .ok (.iaload, 1) := dk_46 (dk_at dksX3_shapeOfFound_2 8 rfl rfl)
theorem dX3_shapeOfFound_56 : decode cX3_shapeOfFound 56 = .ok (.aload_n 0, 1) := dk_42 (dk_at dksX3_shapeOfFound_2 9 rfl rfl)
theorem dX3_shapeOfFound_57 : decode cX3_shapeOfFound 57 = .ok (.getfield 73, 3) := dk_180 0 73 (dk_at dksX3_shapeOfFound_2 10 rfl rfl)
theorem dX3_shapeOfFound_60 : decode cX3_shapeOfFound 60 = .ok (.iload_n 3, 1) := dk_29 (dk_at dksX3_shapeOfFound_2 13 rfl rfl)
theorem dX3_shapeOfFound_61 : decode cX3_shapeOfFound 61 = .ok (.iaload, 1) := dk_46 (dk_at dksX3_shapeOfFound_2 14 rfl rfl)
theorem dX3_shapeOfFound_62 : decode cX3_shapeOfFound 62 = .ok (.if_icmp .ne 7, 3) := dk_160 0 7 (dk_at dksX3_shapeOfFound_2 15 rfl rfl)
theorem dX3_shapeOfFound_65 : decode cX3_shapeOfFound 65 = .ok (.iconst 1, 1) := dk_4 (dk_at dksX3_shapeOfFound_2 18 rfl rfl)
theorem dX3_shapeOfFound_66 : decode cX3_shapeOfFound 66 = .ok (.goto 4, 3) := dk_167 0 4 (dk_at dksX3_shapeOfFound_2 19 rfl rfl)
theorem dX3_shapeOfFound_69 : decode cX3_shapeOfFound 69 = .ok (.iconst 0, 1) := dk_3 (dk_at dksX3_shapeOfFound_2 22 rfl rfl)
theorem dX3_shapeOfFound_70 : decode cX3_shapeOfFound 70 = .ok (.istore_n 2, 1) := dk_61 (dk_at dksX3_shapeOfFound_2 23 rfl rfl)
theorem dX3_shapeOfFound_71 : decode cX3_shapeOfFound 71 = .ok (.iinc 3 1, 3) := dk_132 3 1 (dk_at dksX3_shapeOfFound_3 0 rfl rfl)
theorem dX3_shapeOfFound_74 : decode cX3_shapeOfFound 74 = .ok (.goto (-37), 3) := dk_167 255 219 (dk_at dksX3_shapeOfFound_3 3 rfl rfl)
theorem dX3_shapeOfFound_77 : decode cX3_shapeOfFound 77 = .ok (.iload_n 2, 1) := dk_28 (dk_at dksX3_shapeOfFound_3 6 rfl rfl)
theorem dX3_shapeOfFound_78 : decode cX3_shapeOfFound 78 = .ok (.ifCond .eq 5, 3) := dk_153 0 5 (dk_at dksX3_shapeOfFound_3 7 rfl rfl)
theorem dX3_shapeOfFound_81 : decode cX3_shapeOfFound 81 = .ok (.iload_n 1, 1) := dk_27 (dk_at dksX3_shapeOfFound_3 10 rfl rfl)
theorem dX3_shapeOfFound_82 : decode cX3_shapeOfFound 82 = .ok (.ireturn, 1) := dk_172 (dk_at dksX3_shapeOfFound_3 11 rfl rfl)
theorem dX3_shapeOfFound_83 : decode cX3_shapeOfFound 83 = .ok (.iinc 1 1, 3) := dk_132 1 1 (dk_at dksX3_shapeOfFound_3 12 rfl rfl)
theorem dX3_shapeOfFound_86 : decode cX3_shapeOfFound 86 = .ok (.goto (-61), 3) := dk_167 255 195 (dk_at dksX3_shapeOfFound_3 15 rfl rfl)
theorem dX3_shapeOfFound_89 : decode cX3_shapeOfFound 89 = .ok (.aload_n 0, 1) := dk_42 (dk_at dksX3_shapeOfFound_3 18 rfl rfl)
theorem dX3_shapeOfFound_90 : decode cX3_shapeOfFound 90 = .ok (.invokevirtual 264, 3) := dk_182 1 8 (dk_at dksX3_shapeOfFound_3 19 rfl rfl)
theorem dX3_shapeOfFound_93 : decode cX3_shapeOfFound 93 = .ok (.aload_n 0, 1) := dk_42 (dk_at dksX3_shapeOfFound_3 22 rfl rfl)
theorem dX3_shapeOfFound_94 : decode cX3_shapeOfFound 94 = .ok (.getfield 261, 3) := dk_180 1 5 (dk_at dksX3_shapeOfFound_4 0 rfl rfl)
theorem dX3_shapeOfFound_97 : decode cX3_shapeOfFound 97 = .ok (.iconst 1, 1) := dk_4 (dk_at dksX3_shapeOfFound_4 3 rfl rfl)
theorem dX3_shapeOfFound_98 : decode cX3_shapeOfFound 98 = .ok (.isub, 1) := dk_100 (dk_at dksX3_shapeOfFound_4 4 rfl rfl)
theorem dX3_shapeOfFound_99 : decode cX3_shapeOfFound 99 = .ok (.ireturn, 1) := dk_172 (dk_at dksX3_shapeOfFound_4 5 rfl rfl)
abbrev cX3_lays : ByteArray := prog_21_method_40_code
def yX3_lays : MethodName := ⟨RX3, "lays", "()V"⟩
def dkwX3_lays_6 : List UInt8 := [42, 27, 182, 1, 14, 42, 27, 6, 42, 180, 0, 255, 100, 182, 1, 17, 177]
abbrev dktX3_lays_6 : List UInt8 := dkwX3_lays_6 ++ []
def dkwX3_lays_5 : List UInt8 := [180, 0, 48, 42, 180, 0, 73, 28, 46, 46, 4, 96, 79, 132, 2, 1, 167, 255, 163, 42, 27, 182, 1, 11]
abbrev dktX3_lays_5 : List UInt8 := dkwX3_lays_5 ++ dktX3_lays_6
def dkwX3_lays_4 : List UInt8 := [42, 180, 0, 73, 28, 46, 46, 4, 96, 42, 180, 0, 48, 27, 46, 164, 0, 22, 42, 180, 0, 48, 27, 42]
abbrev dktX3_lays_4 : List UInt8 := dkwX3_lays_4 ++ dktX3_lays_5
def dkwX3_lays_3 : List UInt8 := [180, 0, 39, 42, 180, 0, 73, 28, 46, 46, 96, 79, 28, 42, 180, 0, 255, 162, 0, 44, 42, 180, 0, 48]
abbrev dktX3_lays_3 : List UInt8 := dkwX3_lays_3 ++ dktX3_lays_4
def dkwX3_lays_2 : List UInt8 := [180, 0, 42, 7, 27, 104, 28, 96, 42, 180, 0, 73, 28, 46, 79, 42, 180, 0, 39, 27, 92, 46, 42]
abbrev dktX3_lays_2 : List UInt8 := dkwX3_lays_2 ++ dktX3_lays_3
def dkwX3_lays_1 : List UInt8 := [180, 0, 45, 27, 42, 180, 0, 255, 79, 42, 180, 0, 48, 27, 4, 79, 3, 61, 28, 7, 162, 0, 94, 42]
abbrev dktX3_lays_1 : List UInt8 := dkwX3_lays_1 ++ dktX3_lays_2
def dkwX3_lays_0 : List UInt8 := [42, 180, 1, 5, 60, 42, 89, 180, 1, 5, 4, 96, 181, 1, 5, 42, 180, 0, 39, 27, 4, 79, 42]
abbrev dktX3_lays_0 : List UInt8 := dkwX3_lays_0 ++ dktX3_lays_1
theorem dksX3_lays_0 : cX3_lays.data.toList.drop 0 = dktX3_lays_0 := by decide +kernel
theorem dksX3_lays_1 : cX3_lays.data.toList.drop 23 = dktX3_lays_1 := dk_seg dksX3_lays_0 23 rfl rfl
theorem dksX3_lays_2 : cX3_lays.data.toList.drop 47 = dktX3_lays_2 := dk_seg dksX3_lays_1 24 rfl rfl
theorem dksX3_lays_3 : cX3_lays.data.toList.drop 70 = dktX3_lays_3 := dk_seg dksX3_lays_2 23 rfl rfl
theorem dksX3_lays_4 : cX3_lays.data.toList.drop 94 = dktX3_lays_4 := dk_seg dksX3_lays_3 24 rfl rfl
theorem dksX3_lays_5 : cX3_lays.data.toList.drop 118 = dktX3_lays_5 := dk_seg dksX3_lays_4 24 rfl rfl
theorem dksX3_lays_6 : cX3_lays.data.toList.drop 142 = dktX3_lays_6 := dk_seg dksX3_lays_5 24 rfl rfl
theorem dX3_lays_0 : decode cX3_lays 0 = .ok (.aload_n 0, 1) := dk_42 (dk_at dksX3_lays_0 0 rfl rfl)
theorem dX3_lays_1 : decode cX3_lays 1 = .ok (.getfield 261, 3) := dk_180 1 5 (dk_at dksX3_lays_0 1 rfl rfl)
theorem dX3_lays_4 : decode cX3_lays 4 = .ok (.istore_n 1, 1) := dk_60 (dk_at dksX3_lays_0 4 rfl rfl)
theorem dX3_lays_5 : decode cX3_lays 5 = .ok (.aload_n 0, 1) := dk_42 (dk_at dksX3_lays_0 5 rfl rfl)
theorem dX3_lays_6 : decode cX3_lays 6 = .ok (.dup, 1) := dk_89 (dk_at dksX3_lays_0 6 rfl rfl)
theorem dX3_lays_7 : decode cX3_lays 7 = .ok (.getfield 261, 3) := dk_180 1 5 (dk_at dksX3_lays_0 7 rfl rfl)
theorem dX3_lays_10 : decode cX3_lays 10 = .ok (.iconst 1, 1) := dk_4 (dk_at dksX3_lays_0 10 rfl rfl)
theorem dX3_lays_11 : decode cX3_lays 11 = .ok (.iadd, 1) := dk_96 (dk_at dksX3_lays_0 11 rfl rfl)
theorem dX3_lays_12 : decode cX3_lays 12 = .ok (.putfield 261, 3) := dk_181 1 5 (dk_at dksX3_lays_0 12 rfl rfl)
theorem dX3_lays_15 : decode cX3_lays 15 = .ok (.aload_n 0, 1) := dk_42 (dk_at dksX3_lays_0 15 rfl rfl)
theorem dX3_lays_16 : decode cX3_lays 16 = .ok (.getfield 39, 3) := dk_180 0 39 (dk_at dksX3_lays_0 16 rfl rfl)
theorem dX3_lays_19 : decode cX3_lays 19 = .ok (.iload_n 1, 1) := dk_27 (dk_at dksX3_lays_0 19 rfl rfl)
theorem dX3_lays_20 : decode cX3_lays 20 = .ok (.iconst 1, 1) := dk_4 (dk_at dksX3_lays_0 20 rfl rfl)
theorem dX3_lays_21 : decode cX3_lays 21 = .ok (.iastore, 1) := dk_79 (dk_at dksX3_lays_0 21 rfl rfl)
theorem dX3_lays_22 : decode cX3_lays 22 = .ok (.aload_n 0, 1) := dk_42 (dk_at dksX3_lays_0 22 rfl rfl)
theorem dX3_lays_23 : decode cX3_lays 23 = .ok (.getfield 45, 3) := dk_180 0 45 (dk_at dksX3_lays_1 0 rfl rfl)
theorem dX3_lays_26 : decode cX3_lays 26 = .ok (.iload_n 1, 1) := dk_27 (dk_at dksX3_lays_1 3 rfl rfl)
theorem dX3_lays_27 : decode cX3_lays 27 = .ok (.aload_n 0, 1) := dk_42 (dk_at dksX3_lays_1 4 rfl rfl)
theorem dX3_lays_28 : decode cX3_lays 28 = .ok (.getfield 255, 3) := dk_180 0 255 (dk_at dksX3_lays_1 5 rfl rfl)
theorem dX3_lays_31 : decode cX3_lays 31 = .ok (.iastore, 1) := dk_79 (dk_at dksX3_lays_1 8 rfl rfl)
theorem dX3_lays_32 : decode cX3_lays 32 = .ok (.aload_n 0, 1) := dk_42 (dk_at dksX3_lays_1 9 rfl rfl)
theorem dX3_lays_33 : decode cX3_lays 33 = .ok (.getfield 48, 3) := dk_180 0 48 (dk_at dksX3_lays_1 10 rfl rfl)
theorem dX3_lays_36 : decode cX3_lays 36 = .ok (.iload_n 1, 1) := dk_27 (dk_at dksX3_lays_1 13 rfl rfl)
theorem dX3_lays_37 : decode cX3_lays 37 = .ok (.iconst 1, 1) := dk_4 (dk_at dksX3_lays_1 14 rfl rfl)
theorem dX3_lays_38 : decode cX3_lays 38 = .ok (.iastore, 1) := dk_79 (dk_at dksX3_lays_1 15 rfl rfl)
theorem dX3_lays_39 : decode cX3_lays 39 = .ok (.iconst 0, 1) := dk_3 (dk_at dksX3_lays_1 16 rfl rfl)
theorem dX3_lays_40 : decode cX3_lays 40 = .ok (.istore_n 2, 1) := dk_61 (dk_at dksX3_lays_1 17 rfl rfl)
theorem dX3_lays_41 : decode cX3_lays 41 = .ok (.iload_n 2, 1) := dk_28 (dk_at dksX3_lays_1 18 rfl rfl)
theorem dX3_lays_42 : decode cX3_lays 42 = .ok (.iconst 4, 1) := dk_7 (dk_at dksX3_lays_1 19 rfl rfl)
theorem dX3_lays_43 : decode cX3_lays 43 = .ok (.if_icmp .ge 94, 3) := dk_162 0 94 (dk_at dksX3_lays_1 20 rfl rfl)
theorem dX3_lays_46 : decode cX3_lays 46 = .ok (.aload_n 0, 1) := dk_42 (dk_at dksX3_lays_1 23 rfl rfl)
theorem dX3_lays_47 : decode cX3_lays 47 = .ok (.getfield 42, 3) := dk_180 0 42 (dk_at dksX3_lays_2 0 rfl rfl)
theorem dX3_lays_50 : decode cX3_lays 50 = .ok (.iconst 4, 1) := dk_7 (dk_at dksX3_lays_2 3 rfl rfl)
theorem dX3_lays_51 : decode cX3_lays 51 = .ok (.iload_n 1, 1) := dk_27 (dk_at dksX3_lays_2 4 rfl rfl)
theorem dX3_lays_52 : decode cX3_lays 52 = .ok (.imul, 1) := dk_104 (dk_at dksX3_lays_2 5 rfl rfl)
theorem dX3_lays_53 : decode cX3_lays 53 = .ok (.iload_n 2, 1) := dk_28 (dk_at dksX3_lays_2 6 rfl rfl)
theorem dX3_lays_54 : decode cX3_lays 54 = .ok (.iadd, 1) := dk_96 (dk_at dksX3_lays_2 7 rfl rfl)
theorem dX3_lays_55 : decode cX3_lays 55 = .ok (.aload_n 0, 1) := dk_42 (dk_at dksX3_lays_2 8 rfl rfl)
theorem dX3_lays_56 : decode cX3_lays 56 = .ok (.getfield 73, 3) := dk_180 0 73 (dk_at dksX3_lays_2 9 rfl rfl)
theorem dX3_lays_59 : decode cX3_lays 59 = .ok (.iload_n 2, 1) := dk_28 (dk_at dksX3_lays_2 12 rfl rfl)
theorem dX3_lays_60 : decode cX3_lays 60 = .ok (.iaload, 1) := dk_46 (dk_at dksX3_lays_2 13 rfl rfl)
theorem dX3_lays_61 : decode cX3_lays 61 = .ok (.iastore, 1) := dk_79 (dk_at dksX3_lays_2 14 rfl rfl)
theorem dX3_lays_62 : decode cX3_lays 62 = .ok (.aload_n 0, 1) := dk_42 (dk_at dksX3_lays_2 15 rfl rfl)
theorem dX3_lays_63 : decode cX3_lays 63 = .ok (.getfield 39, 3) := dk_180 0 39 (dk_at dksX3_lays_2 16 rfl rfl)
theorem dX3_lays_66 : decode cX3_lays 66 = .ok (.iload_n 1, 1) := dk_27 (dk_at dksX3_lays_2 19 rfl rfl)
theorem dX3_lays_67 : decode cX3_lays 67 = .ok (.dup2, 1) := dk_92 (dk_at dksX3_lays_2 20 rfl rfl)
theorem dX3_lays_68 : decode cX3_lays 68 = .ok (.iaload, 1) := dk_46 (dk_at dksX3_lays_2 21 rfl rfl)
theorem dX3_lays_69 : decode cX3_lays 69 = .ok (.aload_n 0, 1) := dk_42 (dk_at dksX3_lays_2 22 rfl rfl)
theorem dX3_lays_70 : decode cX3_lays 70 = .ok (.getfield 39, 3) := dk_180 0 39 (dk_at dksX3_lays_3 0 rfl rfl)
theorem dX3_lays_73 : decode cX3_lays 73 = .ok (.aload_n 0, 1) := dk_42 (dk_at dksX3_lays_3 3 rfl rfl)
theorem dX3_lays_74 : decode cX3_lays 74 = .ok (.getfield 73, 3) := dk_180 0 73 (dk_at dksX3_lays_3 4 rfl rfl)
theorem dX3_lays_77 : decode cX3_lays 77 = .ok (.iload_n 2, 1) := dk_28 (dk_at dksX3_lays_3 7 rfl rfl)
theorem dX3_lays_78 : decode cX3_lays 78 = .ok (.iaload, 1) := dk_46 (dk_at dksX3_lays_3 8 rfl rfl)
theorem dX3_lays_79 : decode cX3_lays 79 = .ok (.iaload, 1) := dk_46 (dk_at dksX3_lays_3 9 rfl rfl)
theorem dX3_lays_80 : decode cX3_lays 80 = .ok (.iadd, 1) := dk_96 (dk_at dksX3_lays_3 10 rfl rfl)
theorem dX3_lays_81 : decode cX3_lays 81 = .ok (.iastore, 1) := dk_79 (dk_at dksX3_lays_3 11 rfl rfl)
theorem dX3_lays_82 : decode cX3_lays 82 = .ok (.iload_n 2, 1) := dk_28 (dk_at dksX3_lays_3 12 rfl rfl)
theorem dX3_lays_83 : decode cX3_lays 83 = .ok (.aload_n 0, 1) := dk_42 (dk_at dksX3_lays_3 13 rfl rfl)
theorem dX3_lays_84 : decode cX3_lays 84 = .ok (.getfield 255, 3) := dk_180 0 255 (dk_at dksX3_lays_3 14 rfl rfl)
theorem dX3_lays_87 : decode cX3_lays 87 = .ok (.if_icmp .ge 44, 3) := dk_162 0 44 (dk_at dksX3_lays_3 17 rfl rfl)
theorem dX3_lays_90 : decode cX3_lays 90 = .ok (.aload_n 0, 1) := dk_42 (dk_at dksX3_lays_3 20 rfl rfl)
theorem dX3_lays_91 : decode cX3_lays 91 = .ok (.getfield 48, 3) := dk_180 0 48 (dk_at dksX3_lays_3 21 rfl rfl)
theorem dX3_lays_94 : decode cX3_lays 94 = .ok (.aload_n 0, 1) := dk_42 (dk_at dksX3_lays_4 0 rfl rfl)
theorem dX3_lays_95 : decode cX3_lays 95 = .ok (.getfield 73, 3) := dk_180 0 73 (dk_at dksX3_lays_4 1 rfl rfl)
theorem dX3_lays_98 : decode cX3_lays 98 = .ok (.iload_n 2, 1) := dk_28 (dk_at dksX3_lays_4 4 rfl rfl)
theorem dX3_lays_99 : decode cX3_lays 99 = .ok (.iaload, 1) := dk_46 (dk_at dksX3_lays_4 5 rfl rfl)
theorem dX3_lays_100 : decode cX3_lays 100 = .ok (.iaload, 1) := dk_46 (dk_at dksX3_lays_4 6 rfl rfl)
theorem dX3_lays_101 : decode cX3_lays 101 = .ok (.iconst 1, 1) := dk_4 (dk_at dksX3_lays_4 7 rfl rfl)
theorem dX3_lays_102 : decode cX3_lays 102 = .ok (.iadd, 1) := dk_96 (dk_at dksX3_lays_4 8 rfl rfl)
theorem dX3_lays_103 : decode cX3_lays 103 = .ok (.aload_n 0, 1) := dk_42 (dk_at dksX3_lays_4 9 rfl rfl)
theorem dX3_lays_104 : decode cX3_lays 104 = .ok (.getfield 48, 3) := dk_180 0 48 (dk_at dksX3_lays_4 10 rfl rfl)
theorem dX3_lays_107 : decode cX3_lays 107 = .ok (.iload_n 1, 1) := dk_27 (dk_at dksX3_lays_4 13 rfl rfl)
theorem dX3_lays_108 : decode cX3_lays 108 = .ok (.iaload, 1) := dk_46 (dk_at dksX3_lays_4 14 rfl rfl)
theorem dX3_lays_109 : decode cX3_lays 109 = .ok (.if_icmp .le 22, 3) := dk_164 0 22 (dk_at dksX3_lays_4 15 rfl rfl)
theorem dX3_lays_112 : decode cX3_lays 112 = .ok (.aload_n 0, 1) := dk_42 (dk_at dksX3_lays_4 18 rfl rfl)
theorem dX3_lays_113 : decode cX3_lays 113 = .ok (.getfield 48, 3) := dk_180 0 48 (dk_at dksX3_lays_4 19 rfl rfl)
theorem dX3_lays_116 : decode cX3_lays 116 = .ok (.iload_n 1, 1) := dk_27 (dk_at dksX3_lays_4 22 rfl rfl)
theorem dX3_lays_117 : decode cX3_lays 117 = .ok (.aload_n 0, 1) := dk_42 (dk_at dksX3_lays_4 23 rfl rfl)
theorem dX3_lays_118 : decode cX3_lays 118 = .ok (.getfield 48, 3) := dk_180 0 48 (dk_at dksX3_lays_5 0 rfl rfl)
theorem dX3_lays_121 : decode cX3_lays 121 = .ok (.aload_n 0, 1) := dk_42 (dk_at dksX3_lays_5 3 rfl rfl)
theorem dX3_lays_122 : decode cX3_lays 122 = .ok (.getfield 73, 3) := dk_180 0 73 (dk_at dksX3_lays_5 4 rfl rfl)
theorem dX3_lays_125 : decode cX3_lays 125 = .ok (.iload_n 2, 1) := dk_28 (dk_at dksX3_lays_5 7 rfl rfl)
theorem dX3_lays_126 : decode cX3_lays 126 = .ok (.iaload, 1) := dk_46 (dk_at dksX3_lays_5 8 rfl rfl)
theorem dX3_lays_127 : decode cX3_lays 127 = .ok (.iaload, 1) := dk_46 (dk_at dksX3_lays_5 9 rfl rfl)
theorem dX3_lays_128 : decode cX3_lays 128 = .ok (.iconst 1, 1) := dk_4 (dk_at dksX3_lays_5 10 rfl rfl)
theorem dX3_lays_129 : decode cX3_lays 129 = .ok (.iadd, 1) := dk_96 (dk_at dksX3_lays_5 11 rfl rfl)
theorem dX3_lays_130 : decode cX3_lays 130 = .ok (.iastore, 1) := dk_79 (dk_at dksX3_lays_5 12 rfl rfl)
theorem dX3_lays_131 : decode cX3_lays 131 = .ok (.iinc 2 1, 3) := dk_132 2 1 (dk_at dksX3_lays_5 13 rfl rfl)
theorem dX3_lays_134 : decode cX3_lays 134 = .ok (.goto (-93), 3) := dk_167 255 163 (dk_at dksX3_lays_5 16 rfl rfl)
theorem dX3_lays_137 : decode cX3_lays 137 = .ok (.aload_n 0, 1) := dk_42 (dk_at dksX3_lays_5 19 rfl rfl)
theorem dX3_lays_138 : decode cX3_lays 138 = .ok (.iload_n 1, 1) := dk_27 (dk_at dksX3_lays_5 20 rfl rfl)
theorem dX3_lays_139 : decode cX3_lays 139 = .ok (.invokevirtual 267, 3) := dk_182 1 11 (dk_at dksX3_lays_5 21 rfl rfl)
theorem dX3_lays_142 : decode cX3_lays 142 = .ok (.aload_n 0, 1) := dk_42 (dk_at dksX3_lays_6 0 rfl rfl)
theorem dX3_lays_143 : decode cX3_lays 143 = .ok (.iload_n 1, 1) := dk_27 (dk_at dksX3_lays_6 1 rfl rfl)
theorem dX3_lays_144 : decode cX3_lays 144 = .ok (.invokevirtual 270, 3) := dk_182 1 14 (dk_at dksX3_lays_6 2 rfl rfl)
theorem dX3_lays_147 : decode cX3_lays 147 = .ok (.aload_n 0, 1) := dk_42 (dk_at dksX3_lays_6 5 rfl rfl)
theorem dX3_lays_148 : decode cX3_lays 148 = .ok (.iload_n 1, 1) := dk_27 (dk_at dksX3_lays_6 6 rfl rfl)
theorem dX3_lays_149 : decode cX3_lays 149 = .ok (.iconst 3, 1) := dk_6 (dk_at dksX3_lays_6 7 rfl rfl)
theorem dX3_lays_150 : decode cX3_lays 150 = .ok (.aload_n 0, 1) := dk_42 (dk_at dksX3_lays_6 8 rfl rfl)
theorem dX3_lays_151 : decode cX3_lays 151 = .ok (.getfield 255, 3) := dk_180 0 255 (dk_at dksX3_lays_6 9 rfl rfl)
theorem dX3_lays_154 : decode cX3_lays 154 = .ok (.isub, 1) := dk_100 (dk_at dksX3_lays_6 12 rfl rfl)
theorem dX3_lays_155 : decode cX3_lays 155 = .ok (.invokevirtual 273, 3) := dk_182 1 17 (dk_at dksX3_lays_6 13 rfl rfl)
theorem dX3_lays_158 : decode cX3_lays 158 = .ok (.return_, 1) := dk_177 (dk_at dksX3_lays_6 16 rfl rfl)
abbrev cX3_laysForms : ByteArray := prog_21_method_42_code
def yX3_laysForms : MethodName := ⟨RX3, "laysForms", "(I)V"⟩
def dkwX3_laysForms_10 : List UInt8 := [180, 0, 55, 27, 9, 80, 177]
abbrev dktX3_laysForms_10 : List UInt8 := dkwX3_laysForms_10 ++ []
def dkwX3_laysForms_9 : List UInt8 := [20, 0, 156, 22, 5, 105, 42, 180, 0, 51, 29, 47, 105, 42, 180, 0, 51, 21, 4, 47, 105, 80, 42]
abbrev dktX3_laysForms_9 : List UInt8 := dkwX3_laysForms_9 ++ dktX3_laysForms_10
def dkwX3_laysForms_8 : List UInt8 := [180, 0, 51, 21, 7, 47, 42, 180, 0, 55, 21, 8, 47, 105, 80, 167, 0, 37, 42, 180, 0, 51, 27]
abbrev dktX3_laysForms_8 : List UInt8 := dkwX3_laysForms_8 ++ dktX3_laysForms_9
def dkwX3_laysForms_7 : List UInt8 := [180, 0, 51, 21, 7, 47, 105, 42, 180, 0, 51, 21, 8, 47, 105, 80, 42, 180, 0, 55, 27, 42]
abbrev dktX3_laysForms_7 : List UInt8 := dkwX3_laysForms_7 ++ dktX3_laysForms_8
def dkwX3_laysForms_6 : List UInt8 := [160, 0, 8, 21, 4, 167, 0, 4, 28, 54, 8, 42, 180, 0, 51, 27, 42, 180, 0, 51, 21, 7, 47, 42]
abbrev dktX3_laysForms_6 : List UInt8 := dkwX3_laysForms_6 ++ dktX3_laysForms_7
def dkwX3_laysForms_5 : List UInt8 := [47, 105, 80, 167, 0, 117, 28, 29, 159, 0, 9, 29, 21, 4, 160, 0, 72, 29, 54, 7, 28, 29]
abbrev dktX3_laysForms_5 : List UInt8 := dkwX3_laysForms_5 ++ dktX3_laysForms_6
def dkwX3_laysForms_4 : List UInt8 := [20, 0, 156, 22, 5, 105, 97, 20, 1, 20, 109, 80, 42, 180, 0, 55, 27, 22, 5, 42, 180, 0, 55, 28]
abbrev dktX3_laysForms_4 : List UInt8 := dkwX3_laysForms_4 ++ dktX3_laysForms_5
def dkwX3_laysForms_3 : List UInt8 := [160, 0, 52, 29, 21, 4, 160, 0, 46, 42, 180, 0, 51, 27, 22, 5, 22, 5, 105, 22, 5, 105]
abbrev dktX3_laysForms_3 : List UInt8 := dkwX3_laysForms_3 ++ dktX3_laysForms_4
def dkwX3_laysForms_2 : List UInt8 := [160, 0, 20, 42, 180, 0, 51, 27, 9, 80, 42, 180, 0, 55, 27, 9, 80, 167, 0, 171, 28, 29]
abbrev dktX3_laysForms_2 : List UInt8 := dkwX3_laysForms_2 ++ dktX3_laysForms_3
def dkwX3_laysForms_1 : List UInt8 := [7, 27, 104, 5, 96, 46, 54, 4, 42, 180, 0, 51, 28, 47, 55, 5, 42, 180, 0, 45, 27, 46, 7]
abbrev dktX3_laysForms_1 : List UInt8 := dkwX3_laysForms_1 ++ dktX3_laysForms_2
def dkwX3_laysForms_0 : List UInt8 := [42, 180, 0, 42, 7, 27, 104, 46, 61, 42, 180, 0, 42, 7, 27, 104, 4, 96, 46, 62, 42, 180, 0, 42]
abbrev dktX3_laysForms_0 : List UInt8 := dkwX3_laysForms_0 ++ dktX3_laysForms_1
theorem dksX3_laysForms_0 : cX3_laysForms.data.toList.drop 0 = dktX3_laysForms_0 := by decide +kernel
theorem dksX3_laysForms_1 : cX3_laysForms.data.toList.drop 24 = dktX3_laysForms_1 := dk_seg dksX3_laysForms_0 24 rfl rfl
theorem dksX3_laysForms_2 : cX3_laysForms.data.toList.drop 47 = dktX3_laysForms_2 := dk_seg dksX3_laysForms_1 23 rfl rfl
theorem dksX3_laysForms_3 : cX3_laysForms.data.toList.drop 69 = dktX3_laysForms_3 := dk_seg dksX3_laysForms_2 22 rfl rfl
theorem dksX3_laysForms_4 : cX3_laysForms.data.toList.drop 91 = dktX3_laysForms_4 := dk_seg dksX3_laysForms_3 22 rfl rfl
theorem dksX3_laysForms_5 : cX3_laysForms.data.toList.drop 115 = dktX3_laysForms_5 := dk_seg dksX3_laysForms_4 24 rfl rfl
theorem dksX3_laysForms_6 : cX3_laysForms.data.toList.drop 137 = dktX3_laysForms_6 := dk_seg dksX3_laysForms_5 22 rfl rfl
theorem dksX3_laysForms_7 : cX3_laysForms.data.toList.drop 161 = dktX3_laysForms_7 := dk_seg dksX3_laysForms_6 24 rfl rfl
theorem dksX3_laysForms_8 : cX3_laysForms.data.toList.drop 183 = dktX3_laysForms_8 := dk_seg dksX3_laysForms_7 22 rfl rfl
theorem dksX3_laysForms_9 : cX3_laysForms.data.toList.drop 206 = dktX3_laysForms_9 := dk_seg dksX3_laysForms_8 23 rfl rfl
theorem dksX3_laysForms_10 : cX3_laysForms.data.toList.drop 229 = dktX3_laysForms_10 := dk_seg dksX3_laysForms_9 23 rfl rfl
theorem dX3_laysForms_0 : decode cX3_laysForms 0 = .ok (.aload_n 0, 1) := dk_42 (dk_at dksX3_laysForms_0 0 rfl rfl)
theorem dX3_laysForms_1 : decode cX3_laysForms 1 = .ok (.getfield 42, 3) := dk_180 0 42 (dk_at dksX3_laysForms_0 1 rfl rfl)
theorem dX3_laysForms_4 : decode cX3_laysForms 4 = .ok (.iconst 4, 1) := dk_7 (dk_at dksX3_laysForms_0 4 rfl rfl)
theorem dX3_laysForms_5 : decode cX3_laysForms 5 = .ok (.iload_n 1, 1) := dk_27 (dk_at dksX3_laysForms_0 5 rfl rfl)
theorem dX3_laysForms_6 : decode cX3_laysForms 6 = .ok (.imul, 1) := dk_104 (dk_at dksX3_laysForms_0 6 rfl rfl)
theorem dX3_laysForms_7 : decode cX3_laysForms 7 = .ok (.iaload, 1) := dk_46 (dk_at dksX3_laysForms_0 7 rfl rfl)
theorem dX3_laysForms_8 : decode cX3_laysForms 8 = .ok (.istore_n 2, 1) := dk_61 (dk_at dksX3_laysForms_0 8 rfl rfl)
theorem dX3_laysForms_9 : decode cX3_laysForms 9 = .ok (.aload_n 0, 1) := dk_42 (dk_at dksX3_laysForms_0 9 rfl rfl)
theorem dX3_laysForms_10 : decode cX3_laysForms 10 = .ok (.getfield 42, 3) := dk_180 0 42 (dk_at dksX3_laysForms_0 10 rfl rfl)
theorem dX3_laysForms_13 : decode cX3_laysForms 13 = .ok (.iconst 4, 1) := dk_7 (dk_at dksX3_laysForms_0 13 rfl rfl)
theorem dX3_laysForms_14 : decode cX3_laysForms 14 = .ok (.iload_n 1, 1) := dk_27 (dk_at dksX3_laysForms_0 14 rfl rfl)
theorem dX3_laysForms_15 : decode cX3_laysForms 15 = .ok (.imul, 1) := dk_104 (dk_at dksX3_laysForms_0 15 rfl rfl)
theorem dX3_laysForms_16 : decode cX3_laysForms 16 = .ok (.iconst 1, 1) := dk_4 (dk_at dksX3_laysForms_0 16 rfl rfl)
theorem dX3_laysForms_17 : decode cX3_laysForms 17 = .ok (.iadd, 1) := dk_96 (dk_at dksX3_laysForms_0 17 rfl rfl)
theorem dX3_laysForms_18 : decode cX3_laysForms 18 = .ok (.iaload, 1) := dk_46 (dk_at dksX3_laysForms_0 18 rfl rfl)
theorem dX3_laysForms_19 : decode cX3_laysForms 19 = .ok (.istore_n 3, 1) := dk_62 (dk_at dksX3_laysForms_0 19 rfl rfl)
theorem dX3_laysForms_20 : decode cX3_laysForms 20 = .ok (.aload_n 0, 1) := dk_42 (dk_at dksX3_laysForms_0 20 rfl rfl)
theorem dX3_laysForms_21 : decode cX3_laysForms 21 = .ok (.getfield 42, 3) := dk_180 0 42 (dk_at dksX3_laysForms_0 21 rfl rfl)
theorem dX3_laysForms_24 : decode cX3_laysForms 24 = .ok (.iconst 4, 1) := dk_7 (dk_at dksX3_laysForms_1 0 rfl rfl)
theorem dX3_laysForms_25 : decode cX3_laysForms 25 = .ok (.iload_n 1, 1) := dk_27 (dk_at dksX3_laysForms_1 1 rfl rfl)
theorem dX3_laysForms_26 : decode cX3_laysForms 26 = .ok (.imul, 1) := dk_104 (dk_at dksX3_laysForms_1 2 rfl rfl)
theorem dX3_laysForms_27 : decode cX3_laysForms 27 = .ok (.iconst 2, 1) := dk_5 (dk_at dksX3_laysForms_1 3 rfl rfl)
theorem dX3_laysForms_28 : decode cX3_laysForms 28 = .ok (.iadd, 1) := dk_96 (dk_at dksX3_laysForms_1 4 rfl rfl)
theorem dX3_laysForms_29 : decode cX3_laysForms 29 = .ok (.iaload, 1) := dk_46 (dk_at dksX3_laysForms_1 5 rfl rfl)
theorem dX3_laysForms_30 : decode cX3_laysForms 30 = .ok (.istore 4, 2) := dk_54 4 (dk_at dksX3_laysForms_1 6 rfl rfl)
theorem dX3_laysForms_32 : decode cX3_laysForms 32 = .ok (.aload_n 0, 1) := dk_42 (dk_at dksX3_laysForms_1 8 rfl rfl)
theorem dX3_laysForms_33 : decode cX3_laysForms 33 = .ok (.getfield 51, 3) := dk_180 0 51 (dk_at dksX3_laysForms_1 9 rfl rfl)
theorem dX3_laysForms_36 : decode cX3_laysForms 36 = .ok (.iload_n 2, 1) := dk_28 (dk_at dksX3_laysForms_1 12 rfl rfl)
theorem dX3_laysForms_37 : decode cX3_laysForms 37 = .ok (.laload, 1) := dk_47 (dk_at dksX3_laysForms_1 13 rfl rfl)
theorem dX3_laysForms_38 : decode cX3_laysForms 38 = .ok (.lstore 5, 2) := dk_55 5 (dk_at dksX3_laysForms_1 14 rfl rfl)
theorem dX3_laysForms_40 : decode cX3_laysForms 40 = .ok (.aload_n 0, 1) := dk_42 (dk_at dksX3_laysForms_1 16 rfl rfl)
theorem dX3_laysForms_41 : decode cX3_laysForms 41 = .ok (.getfield 45, 3) := dk_180 0 45 (dk_at dksX3_laysForms_1 17 rfl rfl)
theorem dX3_laysForms_44 : decode cX3_laysForms 44 = .ok (.iload_n 1, 1) := dk_27 (dk_at dksX3_laysForms_1 20 rfl rfl)
theorem dX3_laysForms_45 : decode cX3_laysForms 45 = .ok (.iaload, 1) := dk_46 (dk_at dksX3_laysForms_1 21 rfl rfl)
theorem dX3_laysForms_46 : decode cX3_laysForms 46 = .ok (.iconst 4, 1) := dk_7 (dk_at dksX3_laysForms_1 22 rfl rfl)
theorem dX3_laysForms_47 : decode cX3_laysForms 47 = .ok (.if_icmp .ne 20, 3) := dk_160 0 20 (dk_at dksX3_laysForms_2 0 rfl rfl)
theorem dX3_laysForms_50 : decode cX3_laysForms 50 = .ok (.aload_n 0, 1) := dk_42 (dk_at dksX3_laysForms_2 3 rfl rfl)
theorem dX3_laysForms_51 : decode cX3_laysForms 51 = .ok (.getfield 51, 3) := dk_180 0 51 (dk_at dksX3_laysForms_2 4 rfl rfl)
theorem dX3_laysForms_54 : decode cX3_laysForms 54 = .ok (.iload_n 1, 1) := dk_27 (dk_at dksX3_laysForms_2 7 rfl rfl)
theorem dX3_laysForms_55 : decode cX3_laysForms 55 = .ok (.lconst 0, 1) := dk_9 (dk_at dksX3_laysForms_2 8 rfl rfl)
theorem dX3_laysForms_56 : decode cX3_laysForms 56 = .ok (.lastore, 1) := dk_80 (dk_at dksX3_laysForms_2 9 rfl rfl)
theorem dX3_laysForms_57 : decode cX3_laysForms 57 = .ok (.aload_n 0, 1) := dk_42 (dk_at dksX3_laysForms_2 10 rfl rfl)
theorem dX3_laysForms_58 : decode cX3_laysForms 58 = .ok (.getfield 55, 3) := dk_180 0 55 (dk_at dksX3_laysForms_2 11 rfl rfl)
theorem dX3_laysForms_61 : decode cX3_laysForms 61 = .ok (.iload_n 1, 1) := dk_27 (dk_at dksX3_laysForms_2 14 rfl rfl)
theorem dX3_laysForms_62 : decode cX3_laysForms 62 = .ok (.lconst 0, 1) := dk_9 (dk_at dksX3_laysForms_2 15 rfl rfl)
theorem dX3_laysForms_63 : decode cX3_laysForms 63 = .ok (.lastore, 1) := dk_80 (dk_at dksX3_laysForms_2 16 rfl rfl)
theorem dX3_laysForms_64 : decode cX3_laysForms 64 = .ok (.goto 171, 3) := dk_167 0 171 (dk_at dksX3_laysForms_2 17 rfl rfl)
theorem dX3_laysForms_67 : decode cX3_laysForms 67 = .ok (.iload_n 2, 1) := dk_28 (dk_at dksX3_laysForms_2 20 rfl rfl)
theorem dX3_laysForms_68 : decode cX3_laysForms 68 = .ok (.iload_n 3, 1) := dk_29 (dk_at dksX3_laysForms_2 21 rfl rfl)
theorem dX3_laysForms_69 : decode cX3_laysForms 69 = .ok (.if_icmp .ne 52, 3) := dk_160 0 52 (dk_at dksX3_laysForms_3 0 rfl rfl)
theorem dX3_laysForms_72 : decode cX3_laysForms 72 = .ok (.iload_n 3, 1) := dk_29 (dk_at dksX3_laysForms_3 3 rfl rfl)
theorem dX3_laysForms_73 : decode cX3_laysForms 73 = .ok (.iload 4, 2) := dk_21 4 (dk_at dksX3_laysForms_3 4 rfl rfl)
theorem dX3_laysForms_75 : decode cX3_laysForms 75 = .ok (.if_icmp .ne 46, 3) := dk_160 0 46 (dk_at dksX3_laysForms_3 6 rfl rfl)
theorem dX3_laysForms_78 : decode cX3_laysForms 78 = .ok (.aload_n 0, 1) := dk_42 (dk_at dksX3_laysForms_3 9 rfl rfl)
theorem dX3_laysForms_79 : decode cX3_laysForms 79 = .ok (.getfield 51, 3) := dk_180 0 51 (dk_at dksX3_laysForms_3 10 rfl rfl)
theorem dX3_laysForms_82 : decode cX3_laysForms 82 = .ok (.iload_n 1, 1) := dk_27 (dk_at dksX3_laysForms_3 13 rfl rfl)
theorem dX3_laysForms_83 : decode cX3_laysForms 83 = .ok (.lload 5, 2) := dk_22 5 (dk_at dksX3_laysForms_3 14 rfl rfl)
theorem dX3_laysForms_85 : decode cX3_laysForms 85 = .ok (.lload 5, 2) := dk_22 5 (dk_at dksX3_laysForms_3 16 rfl rfl)
theorem dX3_laysForms_87 : decode cX3_laysForms 87 = .ok (.lmul, 1) := dk_105 (dk_at dksX3_laysForms_3 18 rfl rfl)
theorem dX3_laysForms_88 : decode cX3_laysForms 88 = .ok (.lload 5, 2) := dk_22 5 (dk_at dksX3_laysForms_3 19 rfl rfl)
theorem dX3_laysForms_90 : decode cX3_laysForms 90 = .ok (.lmul, 1) := dk_105 (dk_at dksX3_laysForms_3 21 rfl rfl)
theorem dX3_laysForms_91 : decode cX3_laysForms 91 = .ok (.ldc2_w 156, 3) := dk_20 0 156 (dk_at dksX3_laysForms_4 0 rfl rfl)
theorem dX3_laysForms_94 : decode cX3_laysForms 94 = .ok (.lload 5, 2) := dk_22 5 (dk_at dksX3_laysForms_4 3 rfl rfl)
theorem dX3_laysForms_96 : decode cX3_laysForms 96 = .ok (.lmul, 1) := dk_105 (dk_at dksX3_laysForms_4 5 rfl rfl)
theorem dX3_laysForms_97 : decode cX3_laysForms 97 = .ok (.ladd, 1) := dk_97 (dk_at dksX3_laysForms_4 6 rfl rfl)
theorem dX3_laysForms_98 : decode cX3_laysForms 98 = .ok (.ldc2_w 276, 3) := dk_20 1 20 (dk_at dksX3_laysForms_4 7 rfl rfl)
theorem dX3_laysForms_101 : decode cX3_laysForms 101 = .ok (.ldiv, 1) := dk_109 (dk_at dksX3_laysForms_4 10 rfl rfl)
theorem dX3_laysForms_102 : decode cX3_laysForms 102 = .ok (.lastore, 1) := dk_80 (dk_at dksX3_laysForms_4 11 rfl rfl)
theorem dX3_laysForms_103 : decode cX3_laysForms 103 = .ok (.aload_n 0, 1) := dk_42 (dk_at dksX3_laysForms_4 12 rfl rfl)
theorem dX3_laysForms_104 : decode cX3_laysForms 104 = .ok (.getfield 55, 3) := dk_180 0 55 (dk_at dksX3_laysForms_4 13 rfl rfl)
theorem dX3_laysForms_107 : decode cX3_laysForms 107 = .ok (.iload_n 1, 1) := dk_27 (dk_at dksX3_laysForms_4 16 rfl rfl)
theorem dX3_laysForms_108 : decode cX3_laysForms 108 = .ok (.lload 5, 2) := dk_22 5 (dk_at dksX3_laysForms_4 17 rfl rfl)
theorem dX3_laysForms_110 : decode cX3_laysForms 110 = .ok (.aload_n 0, 1) := dk_42 (dk_at dksX3_laysForms_4 19 rfl rfl)
theorem dX3_laysForms_111 : decode cX3_laysForms 111 = .ok (.getfield 55, 3) := dk_180 0 55 (dk_at dksX3_laysForms_4 20 rfl rfl)
theorem dX3_laysForms_114 : decode cX3_laysForms 114 = .ok (.iload_n 2, 1) := dk_28 (dk_at dksX3_laysForms_4 23 rfl rfl)
theorem dX3_laysForms_115 : decode cX3_laysForms 115 = .ok (.laload, 1) := dk_47 (dk_at dksX3_laysForms_5 0 rfl rfl)
theorem dX3_laysForms_116 : decode cX3_laysForms 116 = .ok (.lmul, 1) := dk_105 (dk_at dksX3_laysForms_5 1 rfl rfl)
theorem dX3_laysForms_117 : decode cX3_laysForms 117 = .ok (.lastore, 1) := dk_80 (dk_at dksX3_laysForms_5 2 rfl rfl)
theorem dX3_laysForms_118 : decode cX3_laysForms 118 = .ok (.goto 117, 3) := dk_167 0 117 (dk_at dksX3_laysForms_5 3 rfl rfl)
theorem dX3_laysForms_121 : decode cX3_laysForms 121 = .ok (.iload_n 2, 1) := dk_28 (dk_at dksX3_laysForms_5 6 rfl rfl)
theorem dX3_laysForms_122 : decode cX3_laysForms 122 = .ok (.iload_n 3, 1) := dk_29 (dk_at dksX3_laysForms_5 7 rfl rfl)
theorem dX3_laysForms_123 : decode cX3_laysForms 123 = .ok (.if_icmp .eq 9, 3) := dk_159 0 9 (dk_at dksX3_laysForms_5 8 rfl rfl)
theorem dX3_laysForms_126 : decode cX3_laysForms 126 = .ok (.iload_n 3, 1) := dk_29 (dk_at dksX3_laysForms_5 11 rfl rfl)
theorem dX3_laysForms_127 : decode cX3_laysForms 127 = .ok (.iload 4, 2) := dk_21 4 (dk_at dksX3_laysForms_5 12 rfl rfl)
theorem dX3_laysForms_129 : decode cX3_laysForms 129 = .ok (.if_icmp .ne 72, 3) := dk_160 0 72 (dk_at dksX3_laysForms_5 14 rfl rfl)
theorem dX3_laysForms_132 : decode cX3_laysForms 132 = .ok (.iload_n 3, 1) := dk_29 (dk_at dksX3_laysForms_5 17 rfl rfl)
theorem dX3_laysForms_133 : decode cX3_laysForms 133 = .ok (.istore 7, 2) := dk_54 7 (dk_at dksX3_laysForms_5 18 rfl rfl)
theorem dX3_laysForms_135 : decode cX3_laysForms 135 = .ok (.iload_n 2, 1) := dk_28 (dk_at dksX3_laysForms_5 20 rfl rfl)
theorem dX3_laysForms_136 : decode cX3_laysForms 136 = .ok (.iload_n 3, 1) := dk_29 (dk_at dksX3_laysForms_5 21 rfl rfl)
theorem dX3_laysForms_137 : decode cX3_laysForms 137 = .ok (.if_icmp .ne 8, 3) := dk_160 0 8 (dk_at dksX3_laysForms_6 0 rfl rfl)
theorem dX3_laysForms_140 : decode cX3_laysForms 140 = .ok (.iload 4, 2) := dk_21 4 (dk_at dksX3_laysForms_6 3 rfl rfl)
theorem dX3_laysForms_142 : decode cX3_laysForms 142 = .ok (.goto 4, 3) := dk_167 0 4 (dk_at dksX3_laysForms_6 5 rfl rfl)
theorem dX3_laysForms_145 : decode cX3_laysForms 145 = .ok (.iload_n 2, 1) := dk_28 (dk_at dksX3_laysForms_6 8 rfl rfl)
theorem dX3_laysForms_146 : decode cX3_laysForms 146 = .ok (.istore 8, 2) := dk_54 8 (dk_at dksX3_laysForms_6 9 rfl rfl)
theorem dX3_laysForms_148 : decode cX3_laysForms 148 = .ok (.aload_n 0, 1) := dk_42 (dk_at dksX3_laysForms_6 11 rfl rfl)
theorem dX3_laysForms_149 : decode cX3_laysForms 149 = .ok (.getfield 51, 3) := dk_180 0 51 (dk_at dksX3_laysForms_6 12 rfl rfl)
theorem dX3_laysForms_152 : decode cX3_laysForms 152 = .ok (.iload_n 1, 1) := dk_27 (dk_at dksX3_laysForms_6 15 rfl rfl)
theorem dX3_laysForms_153 : decode cX3_laysForms 153 = .ok (.aload_n 0, 1) := dk_42 (dk_at dksX3_laysForms_6 16 rfl rfl)
theorem dX3_laysForms_154 : decode cX3_laysForms 154 = .ok (.getfield 51, 3) := dk_180 0 51 (dk_at dksX3_laysForms_6 17 rfl rfl)
theorem dX3_laysForms_157 : decode cX3_laysForms 157 = .ok (.iload 7, 2) := dk_21 7 (dk_at dksX3_laysForms_6 20 rfl rfl)
theorem dX3_laysForms_159 : decode cX3_laysForms 159 = .ok (.laload, 1) := dk_47 (dk_at dksX3_laysForms_6 22 rfl rfl)
theorem dX3_laysForms_160 : decode cX3_laysForms 160 = .ok (.aload_n 0, 1) := dk_42 (dk_at dksX3_laysForms_6 23 rfl rfl)
theorem dX3_laysForms_161 : decode cX3_laysForms 161 = .ok (.getfield 51, 3) := dk_180 0 51 (dk_at dksX3_laysForms_7 0 rfl rfl)
theorem dX3_laysForms_164 : decode cX3_laysForms 164 = .ok (.iload 7, 2) := dk_21 7 (dk_at dksX3_laysForms_7 3 rfl rfl)
theorem dX3_laysForms_166 : decode cX3_laysForms 166 = .ok (.laload, 1) := dk_47 (dk_at dksX3_laysForms_7 5 rfl rfl)
theorem dX3_laysForms_167 : decode cX3_laysForms 167 = .ok (.lmul, 1) := dk_105 (dk_at dksX3_laysForms_7 6 rfl rfl)
theorem dX3_laysForms_168 : decode cX3_laysForms 168 = .ok (.aload_n 0, 1) := dk_42 (dk_at dksX3_laysForms_7 7 rfl rfl)
theorem dX3_laysForms_169 : decode cX3_laysForms 169 = .ok (.getfield 51, 3) := dk_180 0 51 (dk_at dksX3_laysForms_7 8 rfl rfl)
theorem dX3_laysForms_172 : decode cX3_laysForms 172 = .ok (.iload 8, 2) := dk_21 8 (dk_at dksX3_laysForms_7 11 rfl rfl)
theorem dX3_laysForms_174 : decode cX3_laysForms 174 = .ok (.laload, 1) := dk_47 (dk_at dksX3_laysForms_7 13 rfl rfl)
theorem dX3_laysForms_175 : decode cX3_laysForms 175 = .ok (.lmul, 1) := dk_105 (dk_at dksX3_laysForms_7 14 rfl rfl)
theorem dX3_laysForms_176 : decode cX3_laysForms 176 = .ok (.lastore, 1) := dk_80 (dk_at dksX3_laysForms_7 15 rfl rfl)
theorem dX3_laysForms_177 : decode cX3_laysForms 177 = .ok (.aload_n 0, 1) := dk_42 (dk_at dksX3_laysForms_7 16 rfl rfl)
theorem dX3_laysForms_178 : decode cX3_laysForms 178 = .ok (.getfield 55, 3) := dk_180 0 55 (dk_at dksX3_laysForms_7 17 rfl rfl)
theorem dX3_laysForms_181 : decode cX3_laysForms 181 = .ok (.iload_n 1, 1) := dk_27 (dk_at dksX3_laysForms_7 20 rfl rfl)
theorem dX3_laysForms_182 : decode cX3_laysForms 182 = .ok (.aload_n 0, 1) := dk_42 (dk_at dksX3_laysForms_7 21 rfl rfl)
theorem dX3_laysForms_183 : decode cX3_laysForms 183 = .ok (.getfield 51, 3) := dk_180 0 51 (dk_at dksX3_laysForms_8 0 rfl rfl)
theorem dX3_laysForms_186 : decode cX3_laysForms 186 = .ok (.iload 7, 2) := dk_21 7 (dk_at dksX3_laysForms_8 3 rfl rfl)
theorem dX3_laysForms_188 : decode cX3_laysForms 188 = .ok (.laload, 1) := dk_47 (dk_at dksX3_laysForms_8 5 rfl rfl)
theorem dX3_laysForms_189 : decode cX3_laysForms 189 = .ok (.aload_n 0, 1) := dk_42 (dk_at dksX3_laysForms_8 6 rfl rfl)
theorem dX3_laysForms_190 : decode cX3_laysForms 190 = .ok (.getfield 55, 3) := dk_180 0 55 (dk_at dksX3_laysForms_8 7 rfl rfl)
theorem dX3_laysForms_193 : decode cX3_laysForms 193 = .ok (.iload 8, 2) := dk_21 8 (dk_at dksX3_laysForms_8 10 rfl rfl)
theorem dX3_laysForms_195 : decode cX3_laysForms 195 = .ok (.laload, 1) := dk_47 (dk_at dksX3_laysForms_8 12 rfl rfl)
theorem dX3_laysForms_196 : decode cX3_laysForms 196 = .ok (.lmul, 1) := dk_105 (dk_at dksX3_laysForms_8 13 rfl rfl)
theorem dX3_laysForms_197 : decode cX3_laysForms 197 = .ok (.lastore, 1) := dk_80 (dk_at dksX3_laysForms_8 14 rfl rfl)
theorem dX3_laysForms_198 : decode cX3_laysForms 198 = .ok (.goto 37, 3) := dk_167 0 37 (dk_at dksX3_laysForms_8 15 rfl rfl)
theorem dX3_laysForms_201 : decode cX3_laysForms 201 = .ok (.aload_n 0, 1) := dk_42 (dk_at dksX3_laysForms_8 18 rfl rfl)
theorem dX3_laysForms_202 : decode cX3_laysForms 202 = .ok (.getfield 51, 3) := dk_180 0 51 (dk_at dksX3_laysForms_8 19 rfl rfl)
theorem dX3_laysForms_205 : decode cX3_laysForms 205 = .ok (.iload_n 1, 1) := dk_27 (dk_at dksX3_laysForms_8 22 rfl rfl)
theorem dX3_laysForms_206 : decode cX3_laysForms 206 = .ok (.ldc2_w 156, 3) := dk_20 0 156 (dk_at dksX3_laysForms_9 0 rfl rfl)
theorem dX3_laysForms_209 : decode cX3_laysForms 209 = .ok (.lload 5, 2) := dk_22 5 (dk_at dksX3_laysForms_9 3 rfl rfl)
theorem dX3_laysForms_211 : decode cX3_laysForms 211 = .ok (.lmul, 1) := dk_105 (dk_at dksX3_laysForms_9 5 rfl rfl)
theorem dX3_laysForms_212 : decode cX3_laysForms 212 = .ok (.aload_n 0, 1) := dk_42 (dk_at dksX3_laysForms_9 6 rfl rfl)
theorem dX3_laysForms_213 : decode cX3_laysForms 213 = .ok (.getfield 51, 3) := dk_180 0 51 (dk_at dksX3_laysForms_9 7 rfl rfl)
theorem dX3_laysForms_216 : decode cX3_laysForms 216 = .ok (.iload_n 3, 1) := dk_29 (dk_at dksX3_laysForms_9 10 rfl rfl)
theorem dX3_laysForms_217 : decode cX3_laysForms 217 = .ok (.laload, 1) := dk_47 (dk_at dksX3_laysForms_9 11 rfl rfl)
theorem dX3_laysForms_218 : decode cX3_laysForms 218 = .ok (.lmul, 1) := dk_105 (dk_at dksX3_laysForms_9 12 rfl rfl)
theorem dX3_laysForms_219 : decode cX3_laysForms 219 = .ok (.aload_n 0, 1) := dk_42 (dk_at dksX3_laysForms_9 13 rfl rfl)
theorem dX3_laysForms_220 : decode cX3_laysForms 220 = .ok (.getfield 51, 3) := dk_180 0 51 (dk_at dksX3_laysForms_9 14 rfl rfl)
theorem dX3_laysForms_223 : decode cX3_laysForms 223 = .ok (.iload 4, 2) := dk_21 4 (dk_at dksX3_laysForms_9 17 rfl rfl)
theorem dX3_laysForms_225 : decode cX3_laysForms 225 = .ok (.laload, 1) := dk_47 (dk_at dksX3_laysForms_9 19 rfl rfl)
theorem dX3_laysForms_226 : decode cX3_laysForms 226 = .ok (.lmul, 1) := dk_105 (dk_at dksX3_laysForms_9 20 rfl rfl)
theorem dX3_laysForms_227 : decode cX3_laysForms 227 = .ok (.lastore, 1) := dk_80 (dk_at dksX3_laysForms_9 21 rfl rfl)
theorem dX3_laysForms_228 : decode cX3_laysForms 228 = .ok (.aload_n 0, 1) := dk_42 (dk_at dksX3_laysForms_9 22 rfl rfl)
theorem dX3_laysForms_229 : decode cX3_laysForms 229 = .ok (.getfield 55, 3) := dk_180 0 55 (dk_at dksX3_laysForms_10 0 rfl rfl)
theorem dX3_laysForms_232 : decode cX3_laysForms 232 = .ok (.iload_n 1, 1) := dk_27 (dk_at dksX3_laysForms_10 3 rfl rfl)
theorem dX3_laysForms_233 : decode cX3_laysForms 233 = .ok (.lconst 0, 1) := dk_9 (dk_at dksX3_laysForms_10 4 rfl rfl)
theorem dX3_laysForms_234 : decode cX3_laysForms 234 = .ok (.lastore, 1) := dk_80 (dk_at dksX3_laysForms_10 5 rfl rfl)
theorem dX3_laysForms_235 : decode cX3_laysForms 235 = .ok (.return_, 1) := dk_177 (dk_at dksX3_laysForms_10 6 rfl rfl)
abbrev cX3_laysSymmetry : ByteArray := prog_21_method_45_code
def yX3_laysSymmetry : MethodName := ⟨RX3, "laysSymmetry", "(I)V"⟩
def dkwX3_laysSymmetry_3 : List UInt8 := [42, 27, 21, 4, 182, 1, 26, 96, 54, 4, 167, 255, 220, 42, 180, 0, 58, 27, 32, 80, 177]
abbrev dktX3_laysSymmetry_3 : List UInt8 := dkwX3_laysSymmetry_3 ++ []
def dkwX3_laysSymmetry_2 : List UInt8 := [42, 180, 0, 45, 27, 46, 162, 0, 31, 32, 42, 27, 21, 4, 182, 1, 26, 184, 1, 29, 105, 65, 21, 4]
abbrev dktX3_laysSymmetry_2 : List UInt8 := dkwX3_laysSymmetry_2 ++ dktX3_laysSymmetry_3
def dkwX3_laysSymmetry_1 : List UInt8 := [180, 0, 42, 7, 27, 104, 21, 4, 96, 46, 47, 105, 65, 132, 4, 1, 167, 255, 223, 3, 54, 4, 21, 4]
abbrev dktX3_laysSymmetry_1 : List UInt8 := dkwX3_laysSymmetry_1 ++ dktX3_laysSymmetry_2
def dkwX3_laysSymmetry_0 : List UInt8 := [10, 65, 3, 54, 4, 21, 4, 42, 180, 0, 45, 27, 46, 162, 0, 28, 32, 42, 180, 0, 58, 42]
abbrev dktX3_laysSymmetry_0 : List UInt8 := dkwX3_laysSymmetry_0 ++ dktX3_laysSymmetry_1
theorem dksX3_laysSymmetry_0 : cX3_laysSymmetry.data.toList.drop 0 = dktX3_laysSymmetry_0 := by decide +kernel
theorem dksX3_laysSymmetry_1 : cX3_laysSymmetry.data.toList.drop 22 = dktX3_laysSymmetry_1 := dk_seg dksX3_laysSymmetry_0 22 rfl rfl
theorem dksX3_laysSymmetry_2 : cX3_laysSymmetry.data.toList.drop 46 = dktX3_laysSymmetry_2 := dk_seg dksX3_laysSymmetry_1 24 rfl rfl
theorem dksX3_laysSymmetry_3 : cX3_laysSymmetry.data.toList.drop 70 = dktX3_laysSymmetry_3 := dk_seg dksX3_laysSymmetry_2 24 rfl rfl
theorem dX3_laysSymmetry_0 : decode cX3_laysSymmetry 0 = .ok (.lconst 1, 1) := dk_10 (dk_at dksX3_laysSymmetry_0 0 rfl rfl)
theorem dX3_laysSymmetry_1 : decode cX3_laysSymmetry 1 = .ok (.lstore_n 2, 1) := dk_65 (dk_at dksX3_laysSymmetry_0 1 rfl rfl)
theorem dX3_laysSymmetry_2 : decode cX3_laysSymmetry 2 = .ok (.iconst 0, 1) := dk_3 (dk_at dksX3_laysSymmetry_0 2 rfl rfl)
theorem dX3_laysSymmetry_3 : decode cX3_laysSymmetry 3 = .ok (.istore 4, 2) := dk_54 4 (dk_at dksX3_laysSymmetry_0 3 rfl rfl)
theorem dX3_laysSymmetry_5 : decode cX3_laysSymmetry 5 = .ok (.iload 4, 2) := dk_21 4 (dk_at dksX3_laysSymmetry_0 5 rfl rfl)
theorem dX3_laysSymmetry_7 : decode cX3_laysSymmetry 7 = .ok (.aload_n 0, 1) := dk_42 (dk_at dksX3_laysSymmetry_0 7 rfl rfl)
theorem dX3_laysSymmetry_8 : decode cX3_laysSymmetry 8 = .ok (.getfield 45, 3) := dk_180 0 45 (dk_at dksX3_laysSymmetry_0 8 rfl rfl)
theorem dX3_laysSymmetry_11 : decode cX3_laysSymmetry 11 = .ok (.iload_n 1, 1) := dk_27 (dk_at dksX3_laysSymmetry_0 11 rfl rfl)
theorem dX3_laysSymmetry_12 : decode cX3_laysSymmetry 12 = .ok (.iaload, 1) := dk_46 (dk_at dksX3_laysSymmetry_0 12 rfl rfl)
theorem dX3_laysSymmetry_13 : decode cX3_laysSymmetry 13 = .ok (.if_icmp .ge 28, 3) := dk_162 0 28 (dk_at dksX3_laysSymmetry_0 13 rfl rfl)
theorem dX3_laysSymmetry_16 : decode cX3_laysSymmetry 16 = .ok (.lload_n 2, 1) := dk_32 (dk_at dksX3_laysSymmetry_0 16 rfl rfl)
theorem dX3_laysSymmetry_17 : decode cX3_laysSymmetry 17 = .ok (.aload_n 0, 1) := dk_42 (dk_at dksX3_laysSymmetry_0 17 rfl rfl)
theorem dX3_laysSymmetry_18 : decode cX3_laysSymmetry 18 = .ok (.getfield 58, 3) := dk_180 0 58 (dk_at dksX3_laysSymmetry_0 18 rfl rfl)
theorem dX3_laysSymmetry_21 : decode cX3_laysSymmetry 21 = .ok (.aload_n 0, 1) := dk_42 (dk_at dksX3_laysSymmetry_0 21 rfl rfl)
theorem dX3_laysSymmetry_22 : decode cX3_laysSymmetry 22 = .ok (.getfield 42, 3) := dk_180 0 42 (dk_at dksX3_laysSymmetry_1 0 rfl rfl)
theorem dX3_laysSymmetry_25 : decode cX3_laysSymmetry 25 = .ok (.iconst 4, 1) := dk_7 (dk_at dksX3_laysSymmetry_1 3 rfl rfl)
theorem dX3_laysSymmetry_26 : decode cX3_laysSymmetry 26 = .ok (.iload_n 1, 1) := dk_27 (dk_at dksX3_laysSymmetry_1 4 rfl rfl)
theorem dX3_laysSymmetry_27 : decode cX3_laysSymmetry 27 = .ok (.imul, 1) := dk_104 (dk_at dksX3_laysSymmetry_1 5 rfl rfl)
theorem dX3_laysSymmetry_28 : decode cX3_laysSymmetry 28 = .ok (.iload 4, 2) := dk_21 4 (dk_at dksX3_laysSymmetry_1 6 rfl rfl)
theorem dX3_laysSymmetry_30 : decode cX3_laysSymmetry 30 = .ok (.iadd, 1) := dk_96 (dk_at dksX3_laysSymmetry_1 8 rfl rfl)
theorem dX3_laysSymmetry_31 : decode cX3_laysSymmetry 31 = .ok (.iaload, 1) := dk_46 (dk_at dksX3_laysSymmetry_1 9 rfl rfl)
theorem dX3_laysSymmetry_32 : decode cX3_laysSymmetry 32 = .ok (.laload, 1) := dk_47 (dk_at dksX3_laysSymmetry_1 10 rfl rfl)
theorem dX3_laysSymmetry_33 : decode cX3_laysSymmetry 33 = .ok (.lmul, 1) := dk_105 (dk_at dksX3_laysSymmetry_1 11 rfl rfl)
theorem dX3_laysSymmetry_34 : decode cX3_laysSymmetry 34 = .ok (.lstore_n 2, 1) := dk_65 (dk_at dksX3_laysSymmetry_1 12 rfl rfl)
theorem dX3_laysSymmetry_35 : decode cX3_laysSymmetry 35 = .ok (.iinc 4 1, 3) := dk_132 4 1 (dk_at dksX3_laysSymmetry_1 13 rfl rfl)
theorem dX3_laysSymmetry_38 : decode cX3_laysSymmetry 38 = .ok (.goto (-33), 3) := dk_167 255 223 (dk_at dksX3_laysSymmetry_1 16 rfl rfl)
theorem dX3_laysSymmetry_41 : decode cX3_laysSymmetry 41 = .ok (.iconst 0, 1) := dk_3 (dk_at dksX3_laysSymmetry_1 19 rfl rfl)
theorem dX3_laysSymmetry_42 : decode cX3_laysSymmetry 42 = .ok (.istore 4, 2) := dk_54 4 (dk_at dksX3_laysSymmetry_1 20 rfl rfl)
theorem dX3_laysSymmetry_44 : decode cX3_laysSymmetry 44 = .ok (.iload 4, 2) := dk_21 4 (dk_at dksX3_laysSymmetry_1 22 rfl rfl)
theorem dX3_laysSymmetry_46 : decode cX3_laysSymmetry 46 = .ok (.aload_n 0, 1) := dk_42 (dk_at dksX3_laysSymmetry_2 0 rfl rfl)
theorem dX3_laysSymmetry_47 : decode cX3_laysSymmetry 47 = .ok (.getfield 45, 3) := dk_180 0 45 (dk_at dksX3_laysSymmetry_2 1 rfl rfl)
theorem dX3_laysSymmetry_50 : decode cX3_laysSymmetry 50 = .ok (.iload_n 1, 1) := dk_27 (dk_at dksX3_laysSymmetry_2 4 rfl rfl)
theorem dX3_laysSymmetry_51 : decode cX3_laysSymmetry 51 = .ok (.iaload, 1) := dk_46 (dk_at dksX3_laysSymmetry_2 5 rfl rfl)
theorem dX3_laysSymmetry_52 : decode cX3_laysSymmetry 52 = .ok (.if_icmp .ge 31, 3) := dk_162 0 31 (dk_at dksX3_laysSymmetry_2 6 rfl rfl)
theorem dX3_laysSymmetry_55 : decode cX3_laysSymmetry 55 = .ok (.lload_n 2, 1) := dk_32 (dk_at dksX3_laysSymmetry_2 9 rfl rfl)
theorem dX3_laysSymmetry_56 : decode cX3_laysSymmetry 56 = .ok (.aload_n 0, 1) := dk_42 (dk_at dksX3_laysSymmetry_2 10 rfl rfl)
theorem dX3_laysSymmetry_57 : decode cX3_laysSymmetry 57 = .ok (.iload_n 1, 1) := dk_27 (dk_at dksX3_laysSymmetry_2 11 rfl rfl)
theorem dX3_laysSymmetry_58 : decode cX3_laysSymmetry 58 = .ok (.iload 4, 2) := dk_21 4 (dk_at dksX3_laysSymmetry_2 12 rfl rfl)
theorem dX3_laysSymmetry_60 : decode cX3_laysSymmetry 60 = .ok (.invokevirtual 282, 3) := dk_182 1 26 (dk_at dksX3_laysSymmetry_2 14 rfl rfl)
theorem dX3_laysSymmetry_63 : decode cX3_laysSymmetry 63 = .ok (.invokestatic 285, 3) := dk_184 1 29 (dk_at dksX3_laysSymmetry_2 17 rfl rfl)
theorem dX3_laysSymmetry_66 : decode cX3_laysSymmetry 66 = .ok (.lmul, 1) := dk_105 (dk_at dksX3_laysSymmetry_2 20 rfl rfl)
theorem dX3_laysSymmetry_67 : decode cX3_laysSymmetry 67 = .ok (.lstore_n 2, 1) := dk_65 (dk_at dksX3_laysSymmetry_2 21 rfl rfl)
theorem dX3_laysSymmetry_68 : decode cX3_laysSymmetry 68 = .ok (.iload 4, 2) := dk_21 4 (dk_at dksX3_laysSymmetry_2 22 rfl rfl)
theorem dX3_laysSymmetry_70 : decode cX3_laysSymmetry 70 = .ok (.aload_n 0, 1) := dk_42 (dk_at dksX3_laysSymmetry_3 0 rfl rfl)
theorem dX3_laysSymmetry_71 : decode cX3_laysSymmetry 71 = .ok (.iload_n 1, 1) := dk_27 (dk_at dksX3_laysSymmetry_3 1 rfl rfl)
theorem dX3_laysSymmetry_72 : decode cX3_laysSymmetry 72 = .ok (.iload 4, 2) := dk_21 4 (dk_at dksX3_laysSymmetry_3 2 rfl rfl)
theorem dX3_laysSymmetry_74 : decode cX3_laysSymmetry 74 = .ok (.invokevirtual 282, 3) := dk_182 1 26 (dk_at dksX3_laysSymmetry_3 4 rfl rfl)
theorem dX3_laysSymmetry_77 : decode cX3_laysSymmetry 77 = .ok (.iadd, 1) := dk_96 (dk_at dksX3_laysSymmetry_3 7 rfl rfl)
theorem dX3_laysSymmetry_78 : decode cX3_laysSymmetry 78 = .ok (.istore 4, 2) := dk_54 4 (dk_at dksX3_laysSymmetry_3 8 rfl rfl)
theorem dX3_laysSymmetry_80 : decode cX3_laysSymmetry 80 = .ok (.goto (-36), 3) := dk_167 255 220 (dk_at dksX3_laysSymmetry_3 10 rfl rfl)
theorem dX3_laysSymmetry_83 : decode cX3_laysSymmetry 83 = .ok (.aload_n 0, 1) := dk_42 (dk_at dksX3_laysSymmetry_3 13 rfl rfl)
theorem dX3_laysSymmetry_84 : decode cX3_laysSymmetry 84 = .ok (.getfield 58, 3) := dk_180 0 58 (dk_at dksX3_laysSymmetry_3 14 rfl rfl)
theorem dX3_laysSymmetry_87 : decode cX3_laysSymmetry 87 = .ok (.iload_n 1, 1) := dk_27 (dk_at dksX3_laysSymmetry_3 17 rfl rfl)
theorem dX3_laysSymmetry_88 : decode cX3_laysSymmetry 88 = .ok (.lload_n 2, 1) := dk_32 (dk_at dksX3_laysSymmetry_3 18 rfl rfl)
theorem dX3_laysSymmetry_89 : decode cX3_laysSymmetry 89 = .ok (.lastore, 1) := dk_80 (dk_at dksX3_laysSymmetry_3 19 rfl rfl)
theorem dX3_laysSymmetry_90 : decode cX3_laysSymmetry 90 = .ok (.return_, 1) := dk_177 (dk_at dksX3_laysSymmetry_3 20 rfl rfl)
abbrev cX3_alike : ByteArray := prog_21_method_43_code
def yX3_alike : MethodName := ⟨RX3, "alike", "(II)I"⟩
def dkwX3_alike_1 : List UInt8 := [96, 46, 42, 180, 0, 42, 7, 27, 104, 28, 96, 46, 160, 0, 9, 132, 3, 1, 167, 255, 216, 29, 172]
abbrev dktX3_alike_1 : List UInt8 := dkwX3_alike_1 ++ []
def dkwX3_alike_0 : List UInt8 := [4, 62, 28, 29, 96, 42, 180, 0, 45, 27, 46, 162, 0, 34, 42, 180, 0, 42, 7, 27, 104, 28, 96, 29]
abbrev dktX3_alike_0 : List UInt8 := dkwX3_alike_0 ++ dktX3_alike_1
theorem dksX3_alike_0 : cX3_alike.data.toList.drop 0 = dktX3_alike_0 := by decide +kernel
theorem dksX3_alike_1 : cX3_alike.data.toList.drop 24 = dktX3_alike_1 := dk_seg dksX3_alike_0 24 rfl rfl
theorem dX3_alike_0 : decode cX3_alike 0 = .ok (.iconst 1, 1) := dk_4 (dk_at dksX3_alike_0 0 rfl rfl)
theorem dX3_alike_1 : decode cX3_alike 1 = .ok (.istore_n 3, 1) := dk_62 (dk_at dksX3_alike_0 1 rfl rfl)
theorem dX3_alike_2 : decode cX3_alike 2 = .ok (.iload_n 2, 1) := dk_28 (dk_at dksX3_alike_0 2 rfl rfl)
theorem dX3_alike_3 : decode cX3_alike 3 = .ok (.iload_n 3, 1) := dk_29 (dk_at dksX3_alike_0 3 rfl rfl)
theorem dX3_alike_4 : decode cX3_alike 4 = .ok (.iadd, 1) := dk_96 (dk_at dksX3_alike_0 4 rfl rfl)
theorem dX3_alike_5 : decode cX3_alike 5 = .ok (.aload_n 0, 1) := dk_42 (dk_at dksX3_alike_0 5 rfl rfl)
theorem dX3_alike_6 : decode cX3_alike 6 = .ok (.getfield 45, 3) := dk_180 0 45 (dk_at dksX3_alike_0 6 rfl rfl)
theorem dX3_alike_9 : decode cX3_alike 9 = .ok (.iload_n 1, 1) := dk_27 (dk_at dksX3_alike_0 9 rfl rfl)
theorem dX3_alike_10 : decode cX3_alike 10 = .ok (.iaload, 1) := dk_46 (dk_at dksX3_alike_0 10 rfl rfl)
theorem dX3_alike_11 : decode cX3_alike 11 = .ok (.if_icmp .ge 34, 3) := dk_162 0 34 (dk_at dksX3_alike_0 11 rfl rfl)
theorem dX3_alike_14 : decode cX3_alike 14 = .ok (.aload_n 0, 1) := dk_42 (dk_at dksX3_alike_0 14 rfl rfl)
theorem dX3_alike_15 : decode cX3_alike 15 = .ok (.getfield 42, 3) := dk_180 0 42 (dk_at dksX3_alike_0 15 rfl rfl)
theorem dX3_alike_18 : decode cX3_alike 18 = .ok (.iconst 4, 1) := dk_7 (dk_at dksX3_alike_0 18 rfl rfl)
theorem dX3_alike_19 : decode cX3_alike 19 = .ok (.iload_n 1, 1) := dk_27 (dk_at dksX3_alike_0 19 rfl rfl)
theorem dX3_alike_20 : decode cX3_alike 20 = .ok (.imul, 1) := dk_104 (dk_at dksX3_alike_0 20 rfl rfl)
theorem dX3_alike_21 : decode cX3_alike 21 = .ok (.iload_n 2, 1) := dk_28 (dk_at dksX3_alike_0 21 rfl rfl)
theorem dX3_alike_22 : decode cX3_alike 22 = .ok (.iadd, 1) := dk_96 (dk_at dksX3_alike_0 22 rfl rfl)
theorem dX3_alike_23 : decode cX3_alike 23 = .ok (.iload_n 3, 1) := dk_29 (dk_at dksX3_alike_0 23 rfl rfl)
theorem dX3_alike_24 : decode cX3_alike 24 = .ok (.iadd, 1) := dk_96 (dk_at dksX3_alike_1 0 rfl rfl)
theorem dX3_alike_25 : decode cX3_alike 25 = .ok (.iaload, 1) := dk_46 (dk_at dksX3_alike_1 1 rfl rfl)
theorem dX3_alike_26 : decode cX3_alike 26 = .ok (.aload_n 0, 1) := dk_42 (dk_at dksX3_alike_1 2 rfl rfl)
theorem dX3_alike_27 : decode cX3_alike 27 = .ok (.getfield 42, 3) := dk_180 0 42 (dk_at dksX3_alike_1 3 rfl rfl)
theorem dX3_alike_30 : decode cX3_alike 30 = .ok (.iconst 4, 1) := dk_7 (dk_at dksX3_alike_1 6 rfl rfl)
theorem dX3_alike_31 : decode cX3_alike 31 = .ok (.iload_n 1, 1) := dk_27 (dk_at dksX3_alike_1 7 rfl rfl)
theorem dX3_alike_32 : decode cX3_alike 32 = .ok (.imul, 1) := dk_104 (dk_at dksX3_alike_1 8 rfl rfl)
theorem dX3_alike_33 : decode cX3_alike 33 = .ok (.iload_n 2, 1) := dk_28 (dk_at dksX3_alike_1 9 rfl rfl)
theorem dX3_alike_34 : decode cX3_alike 34 = .ok (.iadd, 1) := dk_96 (dk_at dksX3_alike_1 10 rfl rfl)
theorem dX3_alike_35 : decode cX3_alike 35 = .ok (.iaload, 1) := dk_46 (dk_at dksX3_alike_1 11 rfl rfl)
theorem dX3_alike_36 : decode cX3_alike 36 = .ok (.if_icmp .ne 9, 3) := dk_160 0 9 (dk_at dksX3_alike_1 12 rfl rfl)
theorem dX3_alike_39 : decode cX3_alike 39 = .ok (.iinc 3 1, 3) := dk_132 3 1 (dk_at dksX3_alike_1 15 rfl rfl)
theorem dX3_alike_42 : decode cX3_alike 42 = .ok (.goto (-40), 3) := dk_167 255 216 (dk_at dksX3_alike_1 18 rfl rfl)
theorem dX3_alike_45 : decode cX3_alike 45 = .ok (.iload_n 3, 1) := dk_29 (dk_at dksX3_alike_1 21 rfl rfl)
theorem dX3_alike_46 : decode cX3_alike 46 = .ok (.ireturn, 1) := dk_172 (dk_at dksX3_alike_1 22 rfl rfl)
abbrev cX3_factorial : ByteArray := prog_21_method_44_code
def yX3_factorial : MethodName := ⟨RX3, "factorial", "(I)J"⟩
def dkwX3_factorial_1 : List UInt8 := [160, 0, 9, 20, 1, 22, 167, 0, 6, 20, 1, 24, 173]
abbrev dktX3_factorial_1 : List UInt8 := dkwX3_factorial_1 ++ []
def dkwX3_factorial_0 : List UInt8 := [26, 5, 162, 0, 7, 10, 167, 0, 28, 26, 5, 160, 0, 9, 20, 0, 156, 167, 0, 17, 26, 6]
abbrev dktX3_factorial_0 : List UInt8 := dkwX3_factorial_0 ++ dktX3_factorial_1
theorem dksX3_factorial_0 : cX3_factorial.data.toList.drop 0 = dktX3_factorial_0 := by decide +kernel
theorem dksX3_factorial_1 : cX3_factorial.data.toList.drop 22 = dktX3_factorial_1 := dk_seg dksX3_factorial_0 22 rfl rfl
theorem dX3_factorial_0 : decode cX3_factorial 0 = .ok (.iload_n 0, 1) := dk_26 (dk_at dksX3_factorial_0 0 rfl rfl)
theorem dX3_factorial_1 : decode cX3_factorial 1 = .ok (.iconst 2, 1) := dk_5 (dk_at dksX3_factorial_0 1 rfl rfl)
theorem dX3_factorial_2 : decode cX3_factorial 2 = .ok (.if_icmp .ge 7, 3) := dk_162 0 7 (dk_at dksX3_factorial_0 2 rfl rfl)
theorem dX3_factorial_5 : decode cX3_factorial 5 = .ok (.lconst 1, 1) := dk_10 (dk_at dksX3_factorial_0 5 rfl rfl)
theorem dX3_factorial_6 : decode cX3_factorial 6 = .ok (.goto 28, 3) := dk_167 0 28 (dk_at dksX3_factorial_0 6 rfl rfl)
theorem dX3_factorial_9 : decode cX3_factorial 9 = .ok (.iload_n 0, 1) := dk_26 (dk_at dksX3_factorial_0 9 rfl rfl)
theorem dX3_factorial_10 : decode cX3_factorial 10 = .ok (.iconst 2, 1) := dk_5 (dk_at dksX3_factorial_0 10 rfl rfl)
theorem dX3_factorial_11 : decode cX3_factorial 11 = .ok (.if_icmp .ne 9, 3) := dk_160 0 9 (dk_at dksX3_factorial_0 11 rfl rfl)
theorem dX3_factorial_14 : decode cX3_factorial 14 = .ok (.ldc2_w 156, 3) := dk_20 0 156 (dk_at dksX3_factorial_0 14 rfl rfl)
theorem dX3_factorial_17 : decode cX3_factorial 17 = .ok (.goto 17, 3) := dk_167 0 17 (dk_at dksX3_factorial_0 17 rfl rfl)
theorem dX3_factorial_20 : decode cX3_factorial 20 = .ok (.iload_n 0, 1) := dk_26 (dk_at dksX3_factorial_0 20 rfl rfl)
theorem dX3_factorial_21 : decode cX3_factorial 21 = .ok (.iconst 3, 1) := dk_6 (dk_at dksX3_factorial_0 21 rfl rfl)
theorem dX3_factorial_22 : decode cX3_factorial 22 = .ok (.if_icmp .ne 9, 3) := dk_160 0 9 (dk_at dksX3_factorial_1 0 rfl rfl)
theorem dX3_factorial_25 : decode cX3_factorial 25 = .ok (.ldc2_w 278, 3) := dk_20 1 22 (dk_at dksX3_factorial_1 3 rfl rfl)
theorem dX3_factorial_28 : decode cX3_factorial 28 = .ok (.goto 6, 3) := dk_167 0 6 (dk_at dksX3_factorial_1 6 rfl rfl)
theorem dX3_factorial_31 : decode cX3_factorial 31 = .ok (.ldc2_w 280, 3) := dk_20 1 24 (dk_at dksX3_factorial_1 9 rfl rfl)
theorem dX3_factorial_34 : decode cX3_factorial 34 = .ok (.lreturn, 1) := dk_173 (dk_at dksX3_factorial_1 12 rfl rfl)
abbrev cX3_laysMarks : ByteArray := prog_21_method_52_code
def yX3_laysMarks : MethodName := ⟨RX3, "laysMarks", "(II)V"⟩
def dkwX3_laysMarks_1 : List UInt8 := [180, 0, 76, 29, 46, 79, 132, 3, 1, 167, 255, 232, 177]
abbrev dktX3_laysMarks_1 : List UInt8 := dkwX3_laysMarks_1 ++ []
def dkwX3_laysMarks_0 : List UInt8 := [42, 27, 28, 182, 1, 49, 3, 62, 29, 7, 162, 0, 25, 42, 180, 0, 61, 7, 27, 104, 29, 96, 42]
abbrev dktX3_laysMarks_0 : List UInt8 := dkwX3_laysMarks_0 ++ dktX3_laysMarks_1
theorem dksX3_laysMarks_0 : cX3_laysMarks.data.toList.drop 0 = dktX3_laysMarks_0 := by decide +kernel
theorem dksX3_laysMarks_1 : cX3_laysMarks.data.toList.drop 23 = dktX3_laysMarks_1 := dk_seg dksX3_laysMarks_0 23 rfl rfl
theorem dX3_laysMarks_0 : decode cX3_laysMarks 0 = .ok (.aload_n 0, 1) := dk_42 (dk_at dksX3_laysMarks_0 0 rfl rfl)
theorem dX3_laysMarks_1 : decode cX3_laysMarks 1 = .ok (.iload_n 1, 1) := dk_27 (dk_at dksX3_laysMarks_0 1 rfl rfl)
theorem dX3_laysMarks_2 : decode cX3_laysMarks 2 = .ok (.iload_n 2, 1) := dk_28 (dk_at dksX3_laysMarks_0 2 rfl rfl)
theorem dX3_laysMarks_3 : decode cX3_laysMarks 3 = .ok (.invokevirtual 305, 3) := dk_182 1 49 (dk_at dksX3_laysMarks_0 3 rfl rfl)
theorem dX3_laysMarks_6 : decode cX3_laysMarks 6 = .ok (.iconst 0, 1) := dk_3 (dk_at dksX3_laysMarks_0 6 rfl rfl)
theorem dX3_laysMarks_7 : decode cX3_laysMarks 7 = .ok (.istore_n 3, 1) := dk_62 (dk_at dksX3_laysMarks_0 7 rfl rfl)
theorem dX3_laysMarks_8 : decode cX3_laysMarks 8 = .ok (.iload_n 3, 1) := dk_29 (dk_at dksX3_laysMarks_0 8 rfl rfl)
theorem dX3_laysMarks_9 : decode cX3_laysMarks 9 = .ok (.iconst 4, 1) := dk_7 (dk_at dksX3_laysMarks_0 9 rfl rfl)
theorem dX3_laysMarks_10 : decode cX3_laysMarks 10 = .ok (.if_icmp .ge 25, 3) := dk_162 0 25 (dk_at dksX3_laysMarks_0 10 rfl rfl)
theorem dX3_laysMarks_13 : decode cX3_laysMarks 13 = .ok (.aload_n 0, 1) := dk_42 (dk_at dksX3_laysMarks_0 13 rfl rfl)
theorem dX3_laysMarks_14 : decode cX3_laysMarks 14 = .ok (.getfield 61, 3) := dk_180 0 61 (dk_at dksX3_laysMarks_0 14 rfl rfl)
theorem dX3_laysMarks_17 : decode cX3_laysMarks 17 = .ok (.iconst 4, 1) := dk_7 (dk_at dksX3_laysMarks_0 17 rfl rfl)
theorem dX3_laysMarks_18 : decode cX3_laysMarks 18 = .ok (.iload_n 1, 1) := dk_27 (dk_at dksX3_laysMarks_0 18 rfl rfl)
theorem dX3_laysMarks_19 : decode cX3_laysMarks 19 = .ok (.imul, 1) := dk_104 (dk_at dksX3_laysMarks_0 19 rfl rfl)
theorem dX3_laysMarks_20 : decode cX3_laysMarks 20 = .ok (.iload_n 3, 1) := dk_29 (dk_at dksX3_laysMarks_0 20 rfl rfl)
theorem dX3_laysMarks_21 : decode cX3_laysMarks 21 = .ok (.iadd, 1) := dk_96 (dk_at dksX3_laysMarks_0 21 rfl rfl)
theorem dX3_laysMarks_22 : decode cX3_laysMarks 22 = .ok (.aload_n 0, 1) := dk_42 (dk_at dksX3_laysMarks_0 22 rfl rfl)
theorem dX3_laysMarks_23 : decode cX3_laysMarks 23 = .ok (.getfield 76, 3) := dk_180 0 76 (dk_at dksX3_laysMarks_1 0 rfl rfl)
theorem dX3_laysMarks_26 : decode cX3_laysMarks 26 = .ok (.iload_n 3, 1) := dk_29 (dk_at dksX3_laysMarks_1 3 rfl rfl)
theorem dX3_laysMarks_27 : decode cX3_laysMarks 27 = .ok (.iaload, 1) := dk_46 (dk_at dksX3_laysMarks_1 4 rfl rfl)
theorem dX3_laysMarks_28 : decode cX3_laysMarks 28 = .ok (.iastore, 1) := dk_79 (dk_at dksX3_laysMarks_1 5 rfl rfl)
theorem dX3_laysMarks_29 : decode cX3_laysMarks 29 = .ok (.iinc 3 1, 3) := dk_132 3 1 (dk_at dksX3_laysMarks_1 6 rfl rfl)
theorem dX3_laysMarks_32 : decode cX3_laysMarks 32 = .ok (.goto (-24), 3) := dk_167 255 232 (dk_at dksX3_laysMarks_1 9 rfl rfl)
theorem dX3_laysMarks_35 : decode cX3_laysMarks 35 = .ok (.return_, 1) := dk_177 (dk_at dksX3_laysMarks_1 12 rfl rfl)
abbrev cX3_marksOn : ByteArray := prog_21_method_51_code
def yX3_marksOn : MethodName := ⟨RX3, "marksOn", "(II)V"⟩
def dkwX3_marksOn_3 : List UInt8 := [182, 1, 26, 96, 62, 167, 255, 213, 177]
abbrev dktX3_marksOn_3 : List UInt8 := dkwX3_marksOn_3 ++ []
def dkwX3_marksOn_2 : List UInt8 := [27, 104, 29, 96, 46, 42, 27, 29, 182, 1, 26, 182, 1, 43, 42, 182, 1, 46, 29, 42, 27, 29]
abbrev dktX3_marksOn_2 : List UInt8 := dkwX3_marksOn_2 ++ dktX3_marksOn_3
def dkwX3_marksOn_1 : List UInt8 := [132, 3, 1, 167, 255, 232, 3, 62, 29, 42, 180, 0, 45, 27, 46, 162, 0, 39, 42, 42, 180, 0, 42, 7]
abbrev dktX3_marksOn_1 : List UInt8 := dkwX3_marksOn_1 ++ dktX3_marksOn_2
def dkwX3_marksOn_0 : List UInt8 := [3, 62, 29, 7, 162, 0, 25, 42, 180, 0, 76, 29, 29, 28, 163, 0, 7, 4, 167, 0, 4, 3, 79]
abbrev dktX3_marksOn_0 : List UInt8 := dkwX3_marksOn_0 ++ dktX3_marksOn_1
theorem dksX3_marksOn_0 : cX3_marksOn.data.toList.drop 0 = dktX3_marksOn_0 := by decide +kernel
theorem dksX3_marksOn_1 : cX3_marksOn.data.toList.drop 23 = dktX3_marksOn_1 := dk_seg dksX3_marksOn_0 23 rfl rfl
theorem dksX3_marksOn_2 : cX3_marksOn.data.toList.drop 47 = dktX3_marksOn_2 := dk_seg dksX3_marksOn_1 24 rfl rfl
theorem dksX3_marksOn_3 : cX3_marksOn.data.toList.drop 69 = dktX3_marksOn_3 := dk_seg dksX3_marksOn_2 22 rfl rfl
theorem dX3_marksOn_0 : decode cX3_marksOn 0 = .ok (.iconst 0, 1) := dk_3 (dk_at dksX3_marksOn_0 0 rfl rfl)
theorem dX3_marksOn_1 : decode cX3_marksOn 1 = .ok (.istore_n 3, 1) := dk_62 (dk_at dksX3_marksOn_0 1 rfl rfl)
theorem dX3_marksOn_2 : decode cX3_marksOn 2 = .ok (.iload_n 3, 1) := dk_29 (dk_at dksX3_marksOn_0 2 rfl rfl)
theorem dX3_marksOn_3 : decode cX3_marksOn 3 = .ok (.iconst 4, 1) := dk_7 (dk_at dksX3_marksOn_0 3 rfl rfl)
theorem dX3_marksOn_4 : decode cX3_marksOn 4 = .ok (.if_icmp .ge 25, 3) := dk_162 0 25 (dk_at dksX3_marksOn_0 4 rfl rfl)
theorem dX3_marksOn_7 : decode cX3_marksOn 7 = .ok (.aload_n 0, 1) := dk_42 (dk_at dksX3_marksOn_0 7 rfl rfl)
theorem dX3_marksOn_8 : decode cX3_marksOn 8 = .ok (.getfield 76, 3) := dk_180 0 76 (dk_at dksX3_marksOn_0 8 rfl rfl)
theorem dX3_marksOn_11 : decode cX3_marksOn 11 = .ok (.iload_n 3, 1) := dk_29 (dk_at dksX3_marksOn_0 11 rfl rfl)
theorem dX3_marksOn_12 : decode cX3_marksOn 12 = .ok (.iload_n 3, 1) := dk_29 (dk_at dksX3_marksOn_0 12 rfl rfl)
theorem dX3_marksOn_13 : decode cX3_marksOn 13 = .ok (.iload_n 2, 1) := dk_28 (dk_at dksX3_marksOn_0 13 rfl rfl)
theorem dX3_marksOn_14 : decode cX3_marksOn 14 = .ok (.if_icmp .gt 7, 3) := dk_163 0 7 (dk_at dksX3_marksOn_0 14 rfl rfl)
theorem dX3_marksOn_17 : decode cX3_marksOn 17 = .ok (.iconst 1, 1) := dk_4 (dk_at dksX3_marksOn_0 17 rfl rfl)
theorem dX3_marksOn_18 : decode cX3_marksOn 18 = .ok (.goto 4, 3) := dk_167 0 4 (dk_at dksX3_marksOn_0 18 rfl rfl)
theorem dX3_marksOn_21 : decode cX3_marksOn 21 = .ok (.iconst 0, 1) := dk_3 (dk_at dksX3_marksOn_0 21 rfl rfl)
theorem dX3_marksOn_22 : decode cX3_marksOn 22 = .ok (.iastore, 1) := dk_79 (dk_at dksX3_marksOn_0 22 rfl rfl)
theorem dX3_marksOn_23 : decode cX3_marksOn 23 = .ok (.iinc 3 1, 3) := dk_132 3 1 (dk_at dksX3_marksOn_1 0 rfl rfl)
theorem dX3_marksOn_26 : decode cX3_marksOn 26 = .ok (.goto (-24), 3) := dk_167 255 232 (dk_at dksX3_marksOn_1 3 rfl rfl)
theorem dX3_marksOn_29 : decode cX3_marksOn 29 = .ok (.iconst 0, 1) := dk_3 (dk_at dksX3_marksOn_1 6 rfl rfl)
theorem dX3_marksOn_30 : decode cX3_marksOn 30 = .ok (.istore_n 3, 1) := dk_62 (dk_at dksX3_marksOn_1 7 rfl rfl)
theorem dX3_marksOn_31 : decode cX3_marksOn 31 = .ok (.iload_n 3, 1) := dk_29 (dk_at dksX3_marksOn_1 8 rfl rfl)
theorem dX3_marksOn_32 : decode cX3_marksOn 32 = .ok (.aload_n 0, 1) := dk_42 (dk_at dksX3_marksOn_1 9 rfl rfl)
theorem dX3_marksOn_33 : decode cX3_marksOn 33 = .ok (.getfield 45, 3) := dk_180 0 45 (dk_at dksX3_marksOn_1 10 rfl rfl)
theorem dX3_marksOn_36 : decode cX3_marksOn 36 = .ok (.iload_n 1, 1) := dk_27 (dk_at dksX3_marksOn_1 13 rfl rfl)
theorem dX3_marksOn_37 : decode cX3_marksOn 37 = .ok (.iaload, 1) := dk_46 (dk_at dksX3_marksOn_1 14 rfl rfl)
theorem dX3_marksOn_38 : decode cX3_marksOn 38 = .ok (.if_icmp .ge 39, 3) := dk_162 0 39 (dk_at dksX3_marksOn_1 15 rfl rfl)
theorem dX3_marksOn_41 : decode cX3_marksOn 41 = .ok (.aload_n 0, 1) := dk_42 (dk_at dksX3_marksOn_1 18 rfl rfl)
theorem dX3_marksOn_42 : decode cX3_marksOn 42 = .ok (.aload_n 0, 1) := dk_42 (dk_at dksX3_marksOn_1 19 rfl rfl)
theorem dX3_marksOn_43 : decode cX3_marksOn 43 = .ok (.getfield 42, 3) := dk_180 0 42 (dk_at dksX3_marksOn_1 20 rfl rfl)
theorem dX3_marksOn_46 : decode cX3_marksOn 46 = .ok (.iconst 4, 1) := dk_7 (dk_at dksX3_marksOn_1 23 rfl rfl)
theorem dX3_marksOn_47 : decode cX3_marksOn 47 = .ok (.iload_n 1, 1) := dk_27 (dk_at dksX3_marksOn_2 0 rfl rfl)
theorem dX3_marksOn_48 : decode cX3_marksOn 48 = .ok (.imul, 1) := dk_104 (dk_at dksX3_marksOn_2 1 rfl rfl)
theorem dX3_marksOn_49 : decode cX3_marksOn 49 = .ok (.iload_n 3, 1) := dk_29 (dk_at dksX3_marksOn_2 2 rfl rfl)
theorem dX3_marksOn_50 : decode cX3_marksOn 50 = .ok (.iadd, 1) := dk_96 (dk_at dksX3_marksOn_2 3 rfl rfl)
theorem dX3_marksOn_51 : decode cX3_marksOn 51 = .ok (.iaload, 1) := dk_46 (dk_at dksX3_marksOn_2 4 rfl rfl)
theorem dX3_marksOn_52 : decode cX3_marksOn 52 = .ok (.aload_n 0, 1) := dk_42 (dk_at dksX3_marksOn_2 5 rfl rfl)
theorem dX3_marksOn_53 : decode cX3_marksOn 53 = .ok (.iload_n 1, 1) := dk_27 (dk_at dksX3_marksOn_2 6 rfl rfl)
theorem dX3_marksOn_54 : decode cX3_marksOn 54 = .ok (.iload_n 3, 1) := dk_29 (dk_at dksX3_marksOn_2 7 rfl rfl)
theorem dX3_marksOn_55 : decode cX3_marksOn 55 = .ok (.invokevirtual 282, 3) := dk_182 1 26 (dk_at dksX3_marksOn_2 8 rfl rfl)
theorem dX3_marksOn_58 : decode cX3_marksOn 58 = .ok (.invokevirtual 299, 3) := dk_182 1 43 (dk_at dksX3_marksOn_2 11 rfl rfl)
theorem dX3_marksOn_61 : decode cX3_marksOn 61 = .ok (.aload_n 0, 1) := dk_42 (dk_at dksX3_marksOn_2 14 rfl rfl)
theorem dX3_marksOn_62 : decode cX3_marksOn 62 = .ok (.invokevirtual 302, 3) := dk_182 1 46 (dk_at dksX3_marksOn_2 15 rfl rfl)
theorem dX3_marksOn_65 : decode cX3_marksOn 65 = .ok (.iload_n 3, 1) := dk_29 (dk_at dksX3_marksOn_2 18 rfl rfl)
theorem dX3_marksOn_66 : decode cX3_marksOn 66 = .ok (.aload_n 0, 1) := dk_42 (dk_at dksX3_marksOn_2 19 rfl rfl)
theorem dX3_marksOn_67 : decode cX3_marksOn 67 = .ok (.iload_n 1, 1) := dk_27 (dk_at dksX3_marksOn_2 20 rfl rfl)
theorem dX3_marksOn_68 : decode cX3_marksOn 68 = .ok (.iload_n 3, 1) := dk_29 (dk_at dksX3_marksOn_2 21 rfl rfl)
theorem dX3_marksOn_69 : decode cX3_marksOn 69 = .ok (.invokevirtual 282, 3) := dk_182 1 26 (dk_at dksX3_marksOn_3 0 rfl rfl)
theorem dX3_marksOn_72 : decode cX3_marksOn 72 = .ok (.iadd, 1) := dk_96 (dk_at dksX3_marksOn_3 3 rfl rfl)
theorem dX3_marksOn_73 : decode cX3_marksOn 73 = .ok (.istore_n 3, 1) := dk_62 (dk_at dksX3_marksOn_3 4 rfl rfl)
theorem dX3_marksOn_74 : decode cX3_marksOn 74 = .ok (.goto (-43), 3) := dk_167 255 213 (dk_at dksX3_marksOn_3 5 rfl rfl)
theorem dX3_marksOn_77 : decode cX3_marksOn 77 = .ok (.return_, 1) := dk_177 (dk_at dksX3_marksOn_3 8 rfl rfl)
abbrev cX3_manyLike : ByteArray := prog_21_method_48_code
def yX3_manyLike : MethodName := ⟨RX3, "manyLike", "(II)V"⟩
def dkwX3_manyLike_2 : List UInt8 := [167, 255, 232, 177]
abbrev dktX3_manyLike_2 : List UInt8 := dkwX3_manyLike_2 ++ []
def dkwX3_manyLike_1 : List UInt8 := [162, 0, 25, 42, 180, 0, 79, 29, 92, 46, 42, 27, 28, 29, 182, 1, 33, 96, 79, 132, 3, 1]
abbrev dktX3_manyLike_1 : List UInt8 := dkwX3_manyLike_1 ++ dktX3_manyLike_2
def dkwX3_manyLike_0 : List UInt8 := [3, 62, 29, 7, 162, 0, 16, 42, 180, 0, 79, 29, 3, 79, 132, 3, 1, 167, 255, 241, 3, 62, 29, 7]
abbrev dktX3_manyLike_0 : List UInt8 := dkwX3_manyLike_0 ++ dktX3_manyLike_1
theorem dksX3_manyLike_0 : cX3_manyLike.data.toList.drop 0 = dktX3_manyLike_0 := by decide +kernel
theorem dksX3_manyLike_1 : cX3_manyLike.data.toList.drop 24 = dktX3_manyLike_1 := dk_seg dksX3_manyLike_0 24 rfl rfl
theorem dksX3_manyLike_2 : cX3_manyLike.data.toList.drop 46 = dktX3_manyLike_2 := dk_seg dksX3_manyLike_1 22 rfl rfl
theorem dX3_manyLike_0 : decode cX3_manyLike 0 = .ok (.iconst 0, 1) := dk_3 (dk_at dksX3_manyLike_0 0 rfl rfl)
theorem dX3_manyLike_1 : decode cX3_manyLike 1 = .ok (.istore_n 3, 1) := dk_62 (dk_at dksX3_manyLike_0 1 rfl rfl)
theorem dX3_manyLike_2 : decode cX3_manyLike 2 = .ok (.iload_n 3, 1) := dk_29 (dk_at dksX3_manyLike_0 2 rfl rfl)
theorem dX3_manyLike_3 : decode cX3_manyLike 3 = .ok (.iconst 4, 1) := dk_7 (dk_at dksX3_manyLike_0 3 rfl rfl)
theorem dX3_manyLike_4 : decode cX3_manyLike 4 = .ok (.if_icmp .ge 16, 3) := dk_162 0 16 (dk_at dksX3_manyLike_0 4 rfl rfl)
theorem dX3_manyLike_7 : decode cX3_manyLike 7 = .ok (.aload_n 0, 1) := dk_42 (dk_at dksX3_manyLike_0 7 rfl rfl)
theorem dX3_manyLike_8 : decode cX3_manyLike 8 = .ok (.getfield 79, 3) := dk_180 0 79 (dk_at dksX3_manyLike_0 8 rfl rfl)
theorem dX3_manyLike_11 : decode cX3_manyLike 11 = .ok (.iload_n 3, 1) := dk_29 (dk_at dksX3_manyLike_0 11 rfl rfl)
theorem dX3_manyLike_12 : decode cX3_manyLike 12 = .ok (.iconst 0, 1) := dk_3 (dk_at dksX3_manyLike_0 12 rfl rfl)
theorem dX3_manyLike_13 : decode cX3_manyLike 13 = .ok (.iastore, 1) := dk_79 (dk_at dksX3_manyLike_0 13 rfl rfl)
theorem dX3_manyLike_14 : decode cX3_manyLike 14 = .ok (.iinc 3 1, 3) := dk_132 3 1 (dk_at dksX3_manyLike_0 14 rfl rfl)
theorem dX3_manyLike_17 : decode cX3_manyLike 17 = .ok (.goto (-15), 3) := dk_167 255 241 (dk_at dksX3_manyLike_0 17 rfl rfl)
theorem dX3_manyLike_20 : decode cX3_manyLike 20 = .ok (.iconst 0, 1) := dk_3 (dk_at dksX3_manyLike_0 20 rfl rfl)
theorem dX3_manyLike_21 : decode cX3_manyLike 21 = .ok (.istore_n 3, 1) := dk_62 (dk_at dksX3_manyLike_0 21 rfl rfl)
theorem dX3_manyLike_22 : decode cX3_manyLike 22 = .ok (.iload_n 3, 1) := dk_29 (dk_at dksX3_manyLike_0 22 rfl rfl)
theorem dX3_manyLike_23 : decode cX3_manyLike 23 = .ok (.iconst 4, 1) := dk_7 (dk_at dksX3_manyLike_0 23 rfl rfl)
theorem dX3_manyLike_24 : decode cX3_manyLike 24 = .ok (.if_icmp .ge 25, 3) := dk_162 0 25 (dk_at dksX3_manyLike_1 0 rfl rfl)
theorem dX3_manyLike_27 : decode cX3_manyLike 27 = .ok (.aload_n 0, 1) := dk_42 (dk_at dksX3_manyLike_1 3 rfl rfl)
theorem dX3_manyLike_28 : decode cX3_manyLike 28 = .ok (.getfield 79, 3) := dk_180 0 79 (dk_at dksX3_manyLike_1 4 rfl rfl)
theorem dX3_manyLike_31 : decode cX3_manyLike 31 = .ok (.iload_n 3, 1) := dk_29 (dk_at dksX3_manyLike_1 7 rfl rfl)
theorem dX3_manyLike_32 : decode cX3_manyLike 32 = .ok (.dup2, 1) := dk_92 (dk_at dksX3_manyLike_1 8 rfl rfl)
theorem dX3_manyLike_33 : decode cX3_manyLike 33 = .ok (.iaload, 1) := dk_46 (dk_at dksX3_manyLike_1 9 rfl rfl)
theorem dX3_manyLike_34 : decode cX3_manyLike 34 = .ok (.aload_n 0, 1) := dk_42 (dk_at dksX3_manyLike_1 10 rfl rfl)
theorem dX3_manyLike_35 : decode cX3_manyLike 35 = .ok (.iload_n 1, 1) := dk_27 (dk_at dksX3_manyLike_1 11 rfl rfl)
theorem dX3_manyLike_36 : decode cX3_manyLike 36 = .ok (.iload_n 2, 1) := dk_28 (dk_at dksX3_manyLike_1 12 rfl rfl)
theorem dX3_manyLike_37 : decode cX3_manyLike 37 = .ok (.iload_n 3, 1) := dk_29 (dk_at dksX3_manyLike_1 13 rfl rfl)
theorem dX3_manyLike_38 : decode cX3_manyLike 38 = .ok (.invokevirtual 289, 3) := dk_182 1 33 (dk_at dksX3_manyLike_1 14 rfl rfl)
theorem dX3_manyLike_41 : decode cX3_manyLike 41 = .ok (.iadd, 1) := dk_96 (dk_at dksX3_manyLike_1 17 rfl rfl)
theorem dX3_manyLike_42 : decode cX3_manyLike 42 = .ok (.iastore, 1) := dk_79 (dk_at dksX3_manyLike_1 18 rfl rfl)
theorem dX3_manyLike_43 : decode cX3_manyLike 43 = .ok (.iinc 3 1, 3) := dk_132 3 1 (dk_at dksX3_manyLike_1 19 rfl rfl)
theorem dX3_manyLike_46 : decode cX3_manyLike 46 = .ok (.goto (-24), 3) := dk_167 255 232 (dk_at dksX3_manyLike_2 0 rfl rfl)
theorem dX3_manyLike_49 : decode cX3_manyLike 49 = .ok (.return_, 1) := dk_177 (dk_at dksX3_manyLike_2 3 rfl rfl)
abbrev cX3_waysOf : ByteArray := prog_21_method_49_code
def yX3_waysOf : MethodName := ⟨RX3, "waysOf", "(III)I"⟩
def dkwX3_waysOf_5 : List UInt8 := [167, 255, 155, 132, 5, 1, 167, 255, 138, 21, 4, 172]
abbrev dktX3_waysOf_5 : List UInt8 := dkwX3_waysOf_5 ++ []
def dkwX3_waysOf_4 : List UInt8 := [21, 7, 184, 1, 40, 104, 42, 27, 3, 182, 1, 37, 21, 8, 184, 1, 40, 104, 96, 54, 4, 132, 6, 1]
abbrev dktX3_waysOf_4 : List UInt8 := dkwX3_waysOf_4 ++ dktX3_waysOf_5
def dkwX3_waysOf_3 : List UInt8 := [21, 5, 184, 1, 40, 42, 27, 5, 182, 1, 37, 21, 6, 184, 1, 40, 104, 42, 27, 4, 182, 1, 37]
abbrev dktX3_waysOf_3 : List UInt8 := dkwX3_waysOf_3 ++ dktX3_waysOf_4
def dkwX3_waysOf_2 : List UInt8 := [21, 6, 100, 21, 7, 100, 54, 8, 21, 8, 156, 0, 6, 167, 0, 55, 21, 4, 42, 27, 6, 182, 1, 37]
abbrev dktX3_waysOf_2 : List UInt8 := dkwX3_waysOf_2 ++ dktX3_waysOf_3
def dkwX3_waysOf_1 : List UInt8 := [104, 96, 29, 163, 0, 94, 29, 6, 21, 5, 104, 100, 5, 21, 6, 104, 100, 54, 7, 28, 21, 5, 100]
abbrev dktX3_waysOf_1 : List UInt8 := dkwX3_waysOf_1 ++ dktX3_waysOf_2
def dkwX3_waysOf_0 : List UInt8 := [3, 54, 4, 3, 54, 5, 6, 21, 5, 104, 29, 163, 0, 116, 3, 54, 6, 6, 21, 5, 104, 5, 21, 6]
abbrev dktX3_waysOf_0 : List UInt8 := dkwX3_waysOf_0 ++ dktX3_waysOf_1
theorem dksX3_waysOf_0 : cX3_waysOf.data.toList.drop 0 = dktX3_waysOf_0 := by decide +kernel
theorem dksX3_waysOf_1 : cX3_waysOf.data.toList.drop 24 = dktX3_waysOf_1 := dk_seg dksX3_waysOf_0 24 rfl rfl
theorem dksX3_waysOf_2 : cX3_waysOf.data.toList.drop 47 = dktX3_waysOf_2 := dk_seg dksX3_waysOf_1 23 rfl rfl
theorem dksX3_waysOf_3 : cX3_waysOf.data.toList.drop 71 = dktX3_waysOf_3 := dk_seg dksX3_waysOf_2 24 rfl rfl
theorem dksX3_waysOf_4 : cX3_waysOf.data.toList.drop 94 = dktX3_waysOf_4 := dk_seg dksX3_waysOf_3 23 rfl rfl
theorem dksX3_waysOf_5 : cX3_waysOf.data.toList.drop 118 = dktX3_waysOf_5 := dk_seg dksX3_waysOf_4 24 rfl rfl
theorem dX3_waysOf_0 : decode cX3_waysOf 0 = .ok (.iconst 0, 1) := dk_3 (dk_at dksX3_waysOf_0 0 rfl rfl)
theorem dX3_waysOf_1 : decode cX3_waysOf 1 = .ok (.istore 4, 2) := dk_54 4 (dk_at dksX3_waysOf_0 1 rfl rfl)
theorem dX3_waysOf_3 : decode cX3_waysOf 3 = .ok (.iconst 0, 1) := dk_3 (dk_at dksX3_waysOf_0 3 rfl rfl)
theorem dX3_waysOf_4 : decode cX3_waysOf 4 = .ok (.istore 5, 2) := dk_54 5 (dk_at dksX3_waysOf_0 4 rfl rfl)
theorem dX3_waysOf_6 : decode cX3_waysOf 6 = .ok (.iconst 3, 1) := dk_6 (dk_at dksX3_waysOf_0 6 rfl rfl)
theorem dX3_waysOf_7 : decode cX3_waysOf 7 = .ok (.iload 5, 2) := dk_21 5 (dk_at dksX3_waysOf_0 7 rfl rfl)
theorem dX3_waysOf_9 : decode cX3_waysOf 9 = .ok (.imul, 1) := dk_104 (dk_at dksX3_waysOf_0 9 rfl rfl)
theorem dX3_waysOf_10 : decode cX3_waysOf 10 = .ok (.iload_n 3, 1) := dk_29 (dk_at dksX3_waysOf_0 10 rfl rfl)
theorem dX3_waysOf_11 : decode cX3_waysOf 11 = .ok (.if_icmp .gt 116, 3) := dk_163 0 116 (dk_at dksX3_waysOf_0 11 rfl rfl)
theorem dX3_waysOf_14 : decode cX3_waysOf 14 = .ok (.iconst 0, 1) := dk_3 (dk_at dksX3_waysOf_0 14 rfl rfl)
theorem dX3_waysOf_15 : decode cX3_waysOf 15 = .ok (.istore 6, 2) := dk_54 6 (dk_at dksX3_waysOf_0 15 rfl rfl)
theorem dX3_waysOf_17 : decode cX3_waysOf 17 = .ok (.iconst 3, 1) := dk_6 (dk_at dksX3_waysOf_0 17 rfl rfl)
theorem dX3_waysOf_18 : decode cX3_waysOf 18 = .ok (.iload 5, 2) := dk_21 5 (dk_at dksX3_waysOf_0 18 rfl rfl)
theorem dX3_waysOf_20 : decode cX3_waysOf 20 = .ok (.imul, 1) := dk_104 (dk_at dksX3_waysOf_0 20 rfl rfl)
theorem dX3_waysOf_21 : decode cX3_waysOf 21 = .ok (.iconst 2, 1) := dk_5 (dk_at dksX3_waysOf_0 21 rfl rfl)
theorem dX3_waysOf_22 : decode cX3_waysOf 22 = .ok (.iload 6, 2) := dk_21 6 (dk_at dksX3_waysOf_0 22 rfl rfl)
theorem dX3_waysOf_24 : decode cX3_waysOf 24 = .ok (.imul, 1) := dk_104 (dk_at dksX3_waysOf_1 0 rfl rfl)
theorem dX3_waysOf_25 : decode cX3_waysOf 25 = .ok (.iadd, 1) := dk_96 (dk_at dksX3_waysOf_1 1 rfl rfl)
theorem dX3_waysOf_26 : decode cX3_waysOf 26 = .ok (.iload_n 3, 1) := dk_29 (dk_at dksX3_waysOf_1 2 rfl rfl)
theorem dX3_waysOf_27 : decode cX3_waysOf 27 = .ok (.if_icmp .gt 94, 3) := dk_163 0 94 (dk_at dksX3_waysOf_1 3 rfl rfl)
theorem dX3_waysOf_30 : decode cX3_waysOf 30 = .ok (.iload_n 3, 1) := dk_29 (dk_at dksX3_waysOf_1 6 rfl rfl)
theorem dX3_waysOf_31 : decode cX3_waysOf 31 = .ok (.iconst 3, 1) := dk_6 (dk_at dksX3_waysOf_1 7 rfl rfl)
theorem dX3_waysOf_32 : decode cX3_waysOf 32 = .ok (.iload 5, 2) := dk_21 5 (dk_at dksX3_waysOf_1 8 rfl rfl)
theorem dX3_waysOf_34 : decode cX3_waysOf 34 = .ok (.imul, 1) := dk_104 (dk_at dksX3_waysOf_1 10 rfl rfl)
theorem dX3_waysOf_35 : decode cX3_waysOf 35 = .ok (.isub, 1) := dk_100 (dk_at dksX3_waysOf_1 11 rfl rfl)
theorem dX3_waysOf_36 : decode cX3_waysOf 36 = .ok (.iconst 2, 1) := dk_5 (dk_at dksX3_waysOf_1 12 rfl rfl)
theorem dX3_waysOf_37 : decode cX3_waysOf 37 = .ok (.iload 6, 2) := dk_21 6 (dk_at dksX3_waysOf_1 13 rfl rfl)
theorem dX3_waysOf_39 : decode cX3_waysOf 39 = .ok (.imul, 1) := dk_104 (dk_at dksX3_waysOf_1 15 rfl rfl)
theorem dX3_waysOf_40 : decode cX3_waysOf 40 = .ok (.isub, 1) := dk_100 (dk_at dksX3_waysOf_1 16 rfl rfl)
theorem dX3_waysOf_41 : decode cX3_waysOf 41 = .ok (.istore 7, 2) := dk_54 7 (dk_at dksX3_waysOf_1 17 rfl rfl)
theorem dX3_waysOf_43 : decode cX3_waysOf 43 = .ok (.iload_n 2, 1) := dk_28 (dk_at dksX3_waysOf_1 19 rfl rfl)
theorem dX3_waysOf_44 : decode cX3_waysOf 44 = .ok (.iload 5, 2) := dk_21 5 (dk_at dksX3_waysOf_1 20 rfl rfl)
theorem dX3_waysOf_46 : decode cX3_waysOf 46 = .ok (.isub, 1) := dk_100 (dk_at dksX3_waysOf_1 22 rfl rfl)
theorem dX3_waysOf_47 : decode cX3_waysOf 47 = .ok (.iload 6, 2) := dk_21 6 (dk_at dksX3_waysOf_2 0 rfl rfl)
theorem dX3_waysOf_49 : decode cX3_waysOf 49 = .ok (.isub, 1) := dk_100 (dk_at dksX3_waysOf_2 2 rfl rfl)
theorem dX3_waysOf_50 : decode cX3_waysOf 50 = .ok (.iload 7, 2) := dk_21 7 (dk_at dksX3_waysOf_2 3 rfl rfl)
theorem dX3_waysOf_52 : decode cX3_waysOf 52 = .ok (.isub, 1) := dk_100 (dk_at dksX3_waysOf_2 5 rfl rfl)
theorem dX3_waysOf_53 : decode cX3_waysOf 53 = .ok (.istore 8, 2) := dk_54 8 (dk_at dksX3_waysOf_2 6 rfl rfl)
theorem dX3_waysOf_55 : decode cX3_waysOf 55 = .ok (.iload 8, 2) := dk_21 8 (dk_at dksX3_waysOf_2 8 rfl rfl)
theorem dX3_waysOf_57 : decode cX3_waysOf 57 = .ok (.ifCond .ge 6, 3) := dk_156 0 6 (dk_at dksX3_waysOf_2 10 rfl rfl)
theorem dX3_waysOf_60 : decode cX3_waysOf 60 = .ok (.goto 55, 3) := dk_167 0 55 (dk_at dksX3_waysOf_2 13 rfl rfl)
theorem dX3_waysOf_63 : decode cX3_waysOf 63 = .ok (.iload 4, 2) := dk_21 4 (dk_at dksX3_waysOf_2 16 rfl rfl)
theorem dX3_waysOf_65 : decode cX3_waysOf 65 = .ok (.aload_n 0, 1) := dk_42 (dk_at dksX3_waysOf_2 18 rfl rfl)
theorem dX3_waysOf_66 : decode cX3_waysOf 66 = .ok (.iload_n 1, 1) := dk_27 (dk_at dksX3_waysOf_2 19 rfl rfl)
theorem dX3_waysOf_67 : decode cX3_waysOf 67 = .ok (.iconst 3, 1) := dk_6 (dk_at dksX3_waysOf_2 20 rfl rfl)
theorem dX3_waysOf_68 : decode cX3_waysOf 68 = .ok (.invokevirtual 293, 3) := dk_182 1 37 (dk_at dksX3_waysOf_2 21 rfl rfl)
theorem dX3_waysOf_71 : decode cX3_waysOf 71 = .ok (.iload 5, 2) := dk_21 5 (dk_at dksX3_waysOf_3 0 rfl rfl)
theorem dX3_waysOf_73 : decode cX3_waysOf 73 = .ok (.invokestatic 296, 3) := dk_184 1 40 (dk_at dksX3_waysOf_3 2 rfl rfl)
theorem dX3_waysOf_76 : decode cX3_waysOf 76 = .ok (.aload_n 0, 1) := dk_42 (dk_at dksX3_waysOf_3 5 rfl rfl)
theorem dX3_waysOf_77 : decode cX3_waysOf 77 = .ok (.iload_n 1, 1) := dk_27 (dk_at dksX3_waysOf_3 6 rfl rfl)
theorem dX3_waysOf_78 : decode cX3_waysOf 78 = .ok (.iconst 2, 1) := dk_5 (dk_at dksX3_waysOf_3 7 rfl rfl)
theorem dX3_waysOf_79 : decode cX3_waysOf 79 = .ok (.invokevirtual 293, 3) := dk_182 1 37 (dk_at dksX3_waysOf_3 8 rfl rfl)
theorem dX3_waysOf_82 : decode cX3_waysOf 82 = .ok (.iload 6, 2) := dk_21 6 (dk_at dksX3_waysOf_3 11 rfl rfl)
theorem dX3_waysOf_84 : decode cX3_waysOf 84 = .ok (.invokestatic 296, 3) := dk_184 1 40 (dk_at dksX3_waysOf_3 13 rfl rfl)
theorem dX3_waysOf_87 : decode cX3_waysOf 87 = .ok (.imul, 1) := dk_104 (dk_at dksX3_waysOf_3 16 rfl rfl)
theorem dX3_waysOf_88 : decode cX3_waysOf 88 = .ok (.aload_n 0, 1) := dk_42 (dk_at dksX3_waysOf_3 17 rfl rfl)
theorem dX3_waysOf_89 : decode cX3_waysOf 89 = .ok (.iload_n 1, 1) := dk_27 (dk_at dksX3_waysOf_3 18 rfl rfl)
theorem dX3_waysOf_90 : decode cX3_waysOf 90 = .ok (.iconst 1, 1) := dk_4 (dk_at dksX3_waysOf_3 19 rfl rfl)
theorem dX3_waysOf_91 : decode cX3_waysOf 91 = .ok (.invokevirtual 293, 3) := dk_182 1 37 (dk_at dksX3_waysOf_3 20 rfl rfl)
theorem dX3_waysOf_94 : decode cX3_waysOf 94 = .ok (.iload 7, 2) := dk_21 7 (dk_at dksX3_waysOf_4 0 rfl rfl)
theorem dX3_waysOf_96 : decode cX3_waysOf 96 = .ok (.invokestatic 296, 3) := dk_184 1 40 (dk_at dksX3_waysOf_4 2 rfl rfl)
theorem dX3_waysOf_99 : decode cX3_waysOf 99 = .ok (.imul, 1) := dk_104 (dk_at dksX3_waysOf_4 5 rfl rfl)
theorem dX3_waysOf_100 : decode cX3_waysOf 100 = .ok (.aload_n 0, 1) := dk_42 (dk_at dksX3_waysOf_4 6 rfl rfl)
theorem dX3_waysOf_101 : decode cX3_waysOf 101 = .ok (.iload_n 1, 1) := dk_27 (dk_at dksX3_waysOf_4 7 rfl rfl)
theorem dX3_waysOf_102 : decode cX3_waysOf 102 = .ok (.iconst 0, 1) := dk_3 (dk_at dksX3_waysOf_4 8 rfl rfl)
theorem dX3_waysOf_103 : decode cX3_waysOf 103 = .ok (.invokevirtual 293, 3) := dk_182 1 37 (dk_at dksX3_waysOf_4 9 rfl rfl)
theorem dX3_waysOf_106 : decode cX3_waysOf 106 = .ok (.iload 8, 2) := dk_21 8 (dk_at dksX3_waysOf_4 12 rfl rfl)
theorem dX3_waysOf_108 : decode cX3_waysOf 108 = .ok (.invokestatic 296, 3) := dk_184 1 40 (dk_at dksX3_waysOf_4 14 rfl rfl)
theorem dX3_waysOf_111 : decode cX3_waysOf 111 = .ok (.imul, 1) := dk_104 (dk_at dksX3_waysOf_4 17 rfl rfl)
theorem dX3_waysOf_112 : decode cX3_waysOf 112 = .ok (.iadd, 1) := dk_96 (dk_at dksX3_waysOf_4 18 rfl rfl)
theorem dX3_waysOf_113 : decode cX3_waysOf 113 = .ok (.istore 4, 2) := dk_54 4 (dk_at dksX3_waysOf_4 19 rfl rfl)
theorem dX3_waysOf_115 : decode cX3_waysOf 115 = .ok (.iinc 6 1, 3) := dk_132 6 1 (dk_at dksX3_waysOf_4 21 rfl rfl)
theorem dX3_waysOf_118 : decode cX3_waysOf 118 = .ok (.goto (-101), 3) := dk_167 255 155 (dk_at dksX3_waysOf_5 0 rfl rfl)
theorem dX3_waysOf_121 : decode cX3_waysOf 121 = .ok (.iinc 5 1, 3) := dk_132 5 1 (dk_at dksX3_waysOf_5 3 rfl rfl)
theorem dX3_waysOf_124 : decode cX3_waysOf 124 = .ok (.goto (-118), 3) := dk_167 255 138 (dk_at dksX3_waysOf_5 6 rfl rfl)
theorem dX3_waysOf_127 : decode cX3_waysOf 127 = .ok (.iload 4, 2) := dk_21 4 (dk_at dksX3_waysOf_5 9 rfl rfl)
theorem dX3_waysOf_129 : decode cX3_waysOf 129 = .ok (.ireturn, 1) := dk_172 (dk_at dksX3_waysOf_5 11 rfl rfl)
abbrev cX3_marksBy : ByteArray := prog_21_method_47_code
def yX3_marksBy : MethodName := ⟨RX3, "marksBy", "(II)I"⟩
def dkwX3_marksBy_0 : List UInt8 := [42, 180, 0, 61, 7, 27, 104, 28, 96, 46, 172]
abbrev dktX3_marksBy_0 : List UInt8 := dkwX3_marksBy_0 ++ []
theorem dksX3_marksBy_0 : cX3_marksBy.data.toList.drop 0 = dktX3_marksBy_0 := by decide +kernel
theorem dX3_marksBy_0 : decode cX3_marksBy 0 = .ok (.aload_n 0, 1) := dk_42 (dk_at dksX3_marksBy_0 0 rfl rfl)
theorem dX3_marksBy_1 : decode cX3_marksBy 1 = .ok (.getfield 61, 3) := dk_180 0 61 (dk_at dksX3_marksBy_0 1 rfl rfl)
theorem dX3_marksBy_4 : decode cX3_marksBy 4 = .ok (.iconst 4, 1) := dk_7 (dk_at dksX3_marksBy_0 4 rfl rfl)
theorem dX3_marksBy_5 : decode cX3_marksBy 5 = .ok (.iload_n 1, 1) := dk_27 (dk_at dksX3_marksBy_0 5 rfl rfl)
theorem dX3_marksBy_6 : decode cX3_marksBy 6 = .ok (.imul, 1) := dk_104 (dk_at dksX3_marksBy_0 6 rfl rfl)
theorem dX3_marksBy_7 : decode cX3_marksBy 7 = .ok (.iload_n 2, 1) := dk_28 (dk_at dksX3_marksBy_0 7 rfl rfl)
theorem dX3_marksBy_8 : decode cX3_marksBy 8 = .ok (.iadd, 1) := dk_96 (dk_at dksX3_marksBy_0 8 rfl rfl)
theorem dX3_marksBy_9 : decode cX3_marksBy 9 = .ok (.iaload, 1) := dk_46 (dk_at dksX3_marksBy_0 9 rfl rfl)
theorem dX3_marksBy_10 : decode cX3_marksBy 10 = .ok (.ireturn, 1) := dk_172 (dk_at dksX3_marksBy_0 10 rfl rfl)
abbrev cX3_chosen : ByteArray := prog_21_method_50_code
def yX3_chosen : MethodName := ⟨RX3, "chosen", "(II)I"⟩
def dkwX3_chosen_1 : List UInt8 := [21, 4, 4, 96, 133, 109, 65, 132, 4, 1, 167, 255, 233, 32, 136, 172]
abbrev dktX3_chosen_1 : List UInt8 := dkwX3_chosen_1 ++ []
def dkwX3_chosen_0 : List UInt8 := [27, 154, 0, 5, 4, 172, 10, 65, 3, 54, 4, 21, 4, 27, 162, 0, 23, 32, 26, 21, 4, 96, 133, 105]
abbrev dktX3_chosen_0 : List UInt8 := dkwX3_chosen_0 ++ dktX3_chosen_1
theorem dksX3_chosen_0 : cX3_chosen.data.toList.drop 0 = dktX3_chosen_0 := by decide +kernel
theorem dksX3_chosen_1 : cX3_chosen.data.toList.drop 24 = dktX3_chosen_1 := dk_seg dksX3_chosen_0 24 rfl rfl
theorem dX3_chosen_0 : decode cX3_chosen 0 = .ok (.iload_n 1, 1) := dk_27 (dk_at dksX3_chosen_0 0 rfl rfl)
theorem dX3_chosen_1 : decode cX3_chosen 1 = .ok (.ifCond .ne 5, 3) := dk_154 0 5 (dk_at dksX3_chosen_0 1 rfl rfl)
theorem dX3_chosen_4 : decode cX3_chosen 4 = .ok (.iconst 1, 1) := dk_4 (dk_at dksX3_chosen_0 4 rfl rfl)
theorem dX3_chosen_5 : decode cX3_chosen 5 = .ok (.ireturn, 1) := dk_172 (dk_at dksX3_chosen_0 5 rfl rfl)
theorem dX3_chosen_6 : decode cX3_chosen 6 = .ok (.lconst 1, 1) := dk_10 (dk_at dksX3_chosen_0 6 rfl rfl)
theorem dX3_chosen_7 : decode cX3_chosen 7 = .ok (.lstore_n 2, 1) := dk_65 (dk_at dksX3_chosen_0 7 rfl rfl)
theorem dX3_chosen_8 : decode cX3_chosen 8 = .ok (.iconst 0, 1) := dk_3 (dk_at dksX3_chosen_0 8 rfl rfl)
theorem dX3_chosen_9 : decode cX3_chosen 9 = .ok (.istore 4, 2) := dk_54 4 (dk_at dksX3_chosen_0 9 rfl rfl)
theorem dX3_chosen_11 : decode cX3_chosen 11 = .ok (.iload 4, 2) := dk_21 4 (dk_at dksX3_chosen_0 11 rfl rfl)
theorem dX3_chosen_13 : decode cX3_chosen 13 = .ok (.iload_n 1, 1) := dk_27 (dk_at dksX3_chosen_0 13 rfl rfl)
theorem dX3_chosen_14 : decode cX3_chosen 14 = .ok (.if_icmp .ge 23, 3) := dk_162 0 23 (dk_at dksX3_chosen_0 14 rfl rfl)
theorem dX3_chosen_17 : decode cX3_chosen 17 = .ok (.lload_n 2, 1) := dk_32 (dk_at dksX3_chosen_0 17 rfl rfl)
theorem dX3_chosen_18 : decode cX3_chosen 18 = .ok (.iload_n 0, 1) := dk_26 (dk_at dksX3_chosen_0 18 rfl rfl)
theorem dX3_chosen_19 : decode cX3_chosen 19 = .ok (.iload 4, 2) := dk_21 4 (dk_at dksX3_chosen_0 19 rfl rfl)
theorem dX3_chosen_21 : decode cX3_chosen 21 = .ok (.iadd, 1) := dk_96 (dk_at dksX3_chosen_0 21 rfl rfl)
theorem dX3_chosen_22 : decode cX3_chosen 22 = .ok (.i2l, 1) := dk_133 (dk_at dksX3_chosen_0 22 rfl rfl)
theorem dX3_chosen_23 : decode cX3_chosen 23 = .ok (.lmul, 1) := dk_105 (dk_at dksX3_chosen_0 23 rfl rfl)
theorem dX3_chosen_24 : decode cX3_chosen 24 = .ok (.iload 4, 2) := dk_21 4 (dk_at dksX3_chosen_1 0 rfl rfl)
theorem dX3_chosen_26 : decode cX3_chosen 26 = .ok (.iconst 1, 1) := dk_4 (dk_at dksX3_chosen_1 2 rfl rfl)
theorem dX3_chosen_27 : decode cX3_chosen 27 = .ok (.iadd, 1) := dk_96 (dk_at dksX3_chosen_1 3 rfl rfl)
theorem dX3_chosen_28 : decode cX3_chosen 28 = .ok (.i2l, 1) := dk_133 (dk_at dksX3_chosen_1 4 rfl rfl)
theorem dX3_chosen_29 : decode cX3_chosen 29 = .ok (.ldiv, 1) := dk_109 (dk_at dksX3_chosen_1 5 rfl rfl)
theorem dX3_chosen_30 : decode cX3_chosen 30 = .ok (.lstore_n 2, 1) := dk_65 (dk_at dksX3_chosen_1 6 rfl rfl)
theorem dX3_chosen_31 : decode cX3_chosen 31 = .ok (.iinc 4 1, 3) := dk_132 4 1 (dk_at dksX3_chosen_1 7 rfl rfl)
theorem dX3_chosen_34 : decode cX3_chosen 34 = .ok (.goto (-23), 3) := dk_167 255 233 (dk_at dksX3_chosen_1 10 rfl rfl)
theorem dX3_chosen_37 : decode cX3_chosen 37 = .ok (.lload_n 2, 1) := dk_32 (dk_at dksX3_chosen_1 13 rfl rfl)
theorem dX3_chosen_38 : decode cX3_chosen 38 = .ok (.l2i, 1) := dk_136 (dk_at dksX3_chosen_1 14 rfl rfl)
theorem dX3_chosen_39 : decode cX3_chosen 39 = .ok (.ireturn, 1) := dk_172 (dk_at dksX3_chosen_1 15 rfl rfl)
abbrev cX3_multiplies : ByteArray := prog_21_method_46_code
def yX3_multiplies : MethodName := ⟨RX3, "multiplies", "()V"⟩
def dkwX3_multiplies_3 : List UInt8 := [42, 180, 0, 82, 27, 46, 79, 132, 1, 1, 167, 255, 236, 177]
abbrev dktX3_multiplies_3 : List UInt8 := dkwX3_multiplies_3 ++ []
def dkwX3_multiplies_2 : List UInt8 := [132, 2, 1, 167, 255, 224, 132, 1, 1, 167, 255, 204, 3, 60, 27, 7, 162, 0, 21, 42, 180, 0, 76, 27]
abbrev dktX3_multiplies_2 : List UInt8 := dkwX3_multiplies_2 ++ dktX3_multiplies_3
def dkwX3_multiplies_1 : List UInt8 := [180, 0, 82, 27, 92, 46, 42, 180, 0, 76, 28, 46, 42, 180, 0, 79, 27, 28, 100, 46, 104, 96, 79]
abbrev dktX3_multiplies_1 : List UInt8 := dkwX3_multiplies_1 ++ dktX3_multiplies_2
def dkwX3_multiplies_0 : List UInt8 := [3, 60, 27, 7, 162, 0, 53, 42, 180, 0, 82, 27, 3, 79, 3, 61, 28, 27, 163, 0, 33, 42]
abbrev dktX3_multiplies_0 : List UInt8 := dkwX3_multiplies_0 ++ dktX3_multiplies_1
theorem dksX3_multiplies_0 : cX3_multiplies.data.toList.drop 0 = dktX3_multiplies_0 := by decide +kernel
theorem dksX3_multiplies_1 : cX3_multiplies.data.toList.drop 22 = dktX3_multiplies_1 := dk_seg dksX3_multiplies_0 22 rfl rfl
theorem dksX3_multiplies_2 : cX3_multiplies.data.toList.drop 45 = dktX3_multiplies_2 := dk_seg dksX3_multiplies_1 23 rfl rfl
theorem dksX3_multiplies_3 : cX3_multiplies.data.toList.drop 69 = dktX3_multiplies_3 := dk_seg dksX3_multiplies_2 24 rfl rfl
theorem dX3_multiplies_0 : decode cX3_multiplies 0 = .ok (.iconst 0, 1) := dk_3 (dk_at dksX3_multiplies_0 0 rfl rfl)
theorem dX3_multiplies_1 : decode cX3_multiplies 1 = .ok (.istore_n 1, 1) := dk_60 (dk_at dksX3_multiplies_0 1 rfl rfl)
theorem dX3_multiplies_2 : decode cX3_multiplies 2 = .ok (.iload_n 1, 1) := dk_27 (dk_at dksX3_multiplies_0 2 rfl rfl)
theorem dX3_multiplies_3 : decode cX3_multiplies 3 = .ok (.iconst 4, 1) := dk_7 (dk_at dksX3_multiplies_0 3 rfl rfl)
theorem dX3_multiplies_4 : decode cX3_multiplies 4 = .ok (.if_icmp .ge 53, 3) := dk_162 0 53 (dk_at dksX3_multiplies_0 4 rfl rfl)
theorem dX3_multiplies_7 : decode cX3_multiplies 7 = .ok (.aload_n 0, 1) := dk_42 (dk_at dksX3_multiplies_0 7 rfl rfl)
theorem dX3_multiplies_8 : decode cX3_multiplies 8 = .ok (.getfield 82, 3) := dk_180 0 82 (dk_at dksX3_multiplies_0 8 rfl rfl)
theorem dX3_multiplies_11 : decode cX3_multiplies 11 = .ok (.iload_n 1, 1) := dk_27 (dk_at dksX3_multiplies_0 11 rfl rfl)
theorem dX3_multiplies_12 : decode cX3_multiplies 12 = .ok (.iconst 0, 1) := dk_3 (dk_at dksX3_multiplies_0 12 rfl rfl)
theorem dX3_multiplies_13 : decode cX3_multiplies 13 = .ok (.iastore, 1) := dk_79 (dk_at dksX3_multiplies_0 13 rfl rfl)
theorem dX3_multiplies_14 : decode cX3_multiplies 14 = .ok (.iconst 0, 1) := dk_3 (dk_at dksX3_multiplies_0 14 rfl rfl)
theorem dX3_multiplies_15 : decode cX3_multiplies 15 = .ok (.istore_n 2, 1) := dk_61 (dk_at dksX3_multiplies_0 15 rfl rfl)
theorem dX3_multiplies_16 : decode cX3_multiplies 16 = .ok (.iload_n 2, 1) := dk_28 (dk_at dksX3_multiplies_0 16 rfl rfl)
theorem dX3_multiplies_17 : decode cX3_multiplies 17 = .ok (.iload_n 1, 1) := dk_27 (dk_at dksX3_multiplies_0 17 rfl rfl)
theorem dX3_multiplies_18 : decode cX3_multiplies 18 = .ok (.if_icmp .gt 33, 3) := dk_163 0 33 (dk_at dksX3_multiplies_0 18 rfl rfl)
theorem dX3_multiplies_21 : decode cX3_multiplies 21 = .ok (.aload_n 0, 1) := dk_42 (dk_at dksX3_multiplies_0 21 rfl rfl)
theorem dX3_multiplies_22 : decode cX3_multiplies 22 = .ok (.getfield 82, 3) := dk_180 0 82 (dk_at dksX3_multiplies_1 0 rfl rfl)
theorem dX3_multiplies_25 : decode cX3_multiplies 25 = .ok (.iload_n 1, 1) := dk_27 (dk_at dksX3_multiplies_1 3 rfl rfl)
theorem dX3_multiplies_26 : decode cX3_multiplies 26 = .ok (.dup2, 1) := dk_92 (dk_at dksX3_multiplies_1 4 rfl rfl)
theorem dX3_multiplies_27 : decode cX3_multiplies 27 = .ok (.iaload, 1) := dk_46 (dk_at dksX3_multiplies_1 5 rfl rfl)
theorem dX3_multiplies_28 : decode cX3_multiplies 28 = .ok (.aload_n 0, 1) := dk_42 (dk_at dksX3_multiplies_1 6 rfl rfl)
theorem dX3_multiplies_29 : decode cX3_multiplies 29 = .ok (.getfield 76, 3) := dk_180 0 76 (dk_at dksX3_multiplies_1 7 rfl rfl)
theorem dX3_multiplies_32 : decode cX3_multiplies 32 = .ok (.iload_n 2, 1) := dk_28 (dk_at dksX3_multiplies_1 10 rfl rfl)
theorem dX3_multiplies_33 : decode cX3_multiplies 33 = .ok (.iaload, 1) := dk_46 (dk_at dksX3_multiplies_1 11 rfl rfl)
theorem dX3_multiplies_34 : decode cX3_multiplies 34 = .ok (.aload_n 0, 1) := dk_42 (dk_at dksX3_multiplies_1 12 rfl rfl)
theorem dX3_multiplies_35 : decode cX3_multiplies 35 = .ok (.getfield 79, 3) := dk_180 0 79 (dk_at dksX3_multiplies_1 13 rfl rfl)
theorem dX3_multiplies_38 : decode cX3_multiplies 38 = .ok (.iload_n 1, 1) := dk_27 (dk_at dksX3_multiplies_1 16 rfl rfl)
theorem dX3_multiplies_39 : decode cX3_multiplies 39 = .ok (.iload_n 2, 1) := dk_28 (dk_at dksX3_multiplies_1 17 rfl rfl)
theorem dX3_multiplies_40 : decode cX3_multiplies 40 = .ok (.isub, 1) := dk_100 (dk_at dksX3_multiplies_1 18 rfl rfl)
theorem dX3_multiplies_41 : decode cX3_multiplies 41 = .ok (.iaload, 1) := dk_46 (dk_at dksX3_multiplies_1 19 rfl rfl)
theorem dX3_multiplies_42 : decode cX3_multiplies 42 = .ok (.imul, 1) := dk_104 (dk_at dksX3_multiplies_1 20 rfl rfl)
theorem dX3_multiplies_43 : decode cX3_multiplies 43 = .ok (.iadd, 1) := dk_96 (dk_at dksX3_multiplies_1 21 rfl rfl)
theorem dX3_multiplies_44 : decode cX3_multiplies 44 = .ok (.iastore, 1) := dk_79 (dk_at dksX3_multiplies_1 22 rfl rfl)
theorem dX3_multiplies_45 : decode cX3_multiplies 45 = .ok (.iinc 2 1, 3) := dk_132 2 1 (dk_at dksX3_multiplies_2 0 rfl rfl)
theorem dX3_multiplies_48 : decode cX3_multiplies 48 = .ok (.goto (-32), 3) := dk_167 255 224 (dk_at dksX3_multiplies_2 3 rfl rfl)
theorem dX3_multiplies_51 : decode cX3_multiplies 51 = .ok (.iinc 1 1, 3) := dk_132 1 1 (dk_at dksX3_multiplies_2 6 rfl rfl)
theorem dX3_multiplies_54 : decode cX3_multiplies 54 = .ok (.goto (-52), 3) := dk_167 255 204 (dk_at dksX3_multiplies_2 9 rfl rfl)
theorem dX3_multiplies_57 : decode cX3_multiplies 57 = .ok (.iconst 0, 1) := dk_3 (dk_at dksX3_multiplies_2 12 rfl rfl)
theorem dX3_multiplies_58 : decode cX3_multiplies 58 = .ok (.istore_n 1, 1) := dk_60 (dk_at dksX3_multiplies_2 13 rfl rfl)
theorem dX3_multiplies_59 : decode cX3_multiplies 59 = .ok (.iload_n 1, 1) := dk_27 (dk_at dksX3_multiplies_2 14 rfl rfl)
theorem dX3_multiplies_60 : decode cX3_multiplies 60 = .ok (.iconst 4, 1) := dk_7 (dk_at dksX3_multiplies_2 15 rfl rfl)
theorem dX3_multiplies_61 : decode cX3_multiplies 61 = .ok (.if_icmp .ge 21, 3) := dk_162 0 21 (dk_at dksX3_multiplies_2 16 rfl rfl)
theorem dX3_multiplies_64 : decode cX3_multiplies 64 = .ok (.aload_n 0, 1) := dk_42 (dk_at dksX3_multiplies_2 19 rfl rfl)
theorem dX3_multiplies_65 : decode cX3_multiplies 65 = .ok (.getfield 76, 3) := dk_180 0 76 (dk_at dksX3_multiplies_2 20 rfl rfl)
theorem dX3_multiplies_68 : decode cX3_multiplies 68 = .ok (.iload_n 1, 1) := dk_27 (dk_at dksX3_multiplies_2 23 rfl rfl)
theorem dX3_multiplies_69 : decode cX3_multiplies 69 = .ok (.aload_n 0, 1) := dk_42 (dk_at dksX3_multiplies_3 0 rfl rfl)
theorem dX3_multiplies_70 : decode cX3_multiplies 70 = .ok (.getfield 82, 3) := dk_180 0 82 (dk_at dksX3_multiplies_3 1 rfl rfl)
theorem dX3_multiplies_73 : decode cX3_multiplies 73 = .ok (.iload_n 1, 1) := dk_27 (dk_at dksX3_multiplies_3 4 rfl rfl)
theorem dX3_multiplies_74 : decode cX3_multiplies 74 = .ok (.iaload, 1) := dk_46 (dk_at dksX3_multiplies_3 5 rfl rfl)
theorem dX3_multiplies_75 : decode cX3_multiplies 75 = .ok (.iastore, 1) := dk_79 (dk_at dksX3_multiplies_3 6 rfl rfl)
theorem dX3_multiplies_76 : decode cX3_multiplies 76 = .ok (.iinc 1 1, 3) := dk_132 1 1 (dk_at dksX3_multiplies_3 7 rfl rfl)
theorem dX3_multiplies_79 : decode cX3_multiplies 79 = .ok (.goto (-20), 3) := dk_167 255 236 (dk_at dksX3_multiplies_3 10 rfl rfl)
theorem dX3_multiplies_82 : decode cX3_multiplies 82 = .ok (.return_, 1) := dk_177 (dk_at dksX3_multiplies_3 13 rfl rfl)
abbrev cX3_codes : ByteArray := prog_21_method_60_code
def yX3_codes : MethodName := ⟨RX3, "codes", "()V"⟩
def dkwX3_codes_4 : List UInt8 := [42, 180, 0, 94, 27, 21, 4, 4, 96, 79, 132, 1, 1, 132, 5, 255, 167, 255, 218, 167, 255, 172, 177]
abbrev dktX3_codes_4 : List UInt8 := dkwX3_codes_4 ++ []
def dkwX3_codes_3 : List UInt8 := [54, 5, 21, 5, 155, 0, 39, 42, 180, 0, 91, 27, 42, 180, 0, 42, 7, 29, 104, 21, 5, 96, 46, 79]
abbrev dktX3_codes_3 : List UInt8 := dkwX3_codes_3 ++ dktX3_codes_4
def dkwX3_codes_2 : List UInt8 := [27, 46, 54, 4, 42, 180, 0, 88, 28, 21, 4, 79, 132, 2, 1, 42, 180, 0, 45, 29, 46, 4, 100]
abbrev dktX3_codes_2 : List UInt8 := dkwX3_codes_2 ++ dktX3_codes_3
def dkwX3_codes_1 : List UInt8 := [180, 0, 94, 3, 3, 79, 27, 158, 0, 86, 132, 1, 255, 42, 180, 0, 91, 27, 46, 62, 42, 180, 0, 94]
abbrev dktX3_codes_1 : List UInt8 := dkwX3_codes_1 ++ dktX3_codes_2
def dkwX3_codes_0 : List UInt8 := [4, 60, 3, 61, 42, 180, 0, 91, 3, 42, 180, 0, 67, 17, 1, 0, 42, 182, 1, 82, 96, 46, 79, 42]
abbrev dktX3_codes_0 : List UInt8 := dkwX3_codes_0 ++ dktX3_codes_1
theorem dksX3_codes_0 : cX3_codes.data.toList.drop 0 = dktX3_codes_0 := by decide +kernel
theorem dksX3_codes_1 : cX3_codes.data.toList.drop 24 = dktX3_codes_1 := dk_seg dksX3_codes_0 24 rfl rfl
theorem dksX3_codes_2 : cX3_codes.data.toList.drop 48 = dktX3_codes_2 := dk_seg dksX3_codes_1 24 rfl rfl
theorem dksX3_codes_3 : cX3_codes.data.toList.drop 71 = dktX3_codes_3 := dk_seg dksX3_codes_2 23 rfl rfl
theorem dksX3_codes_4 : cX3_codes.data.toList.drop 95 = dktX3_codes_4 := dk_seg dksX3_codes_3 24 rfl rfl
theorem dX3_codes_0 : decode cX3_codes 0 = .ok (.iconst 1, 1) := dk_4 (dk_at dksX3_codes_0 0 rfl rfl)
theorem dX3_codes_1 : decode cX3_codes 1 = .ok (.istore_n 1, 1) := dk_60 (dk_at dksX3_codes_0 1 rfl rfl)
theorem dX3_codes_2 : decode cX3_codes 2 = .ok (.iconst 0, 1) := dk_3 (dk_at dksX3_codes_0 2 rfl rfl)
theorem dX3_codes_3 : decode cX3_codes 3 = .ok (.istore_n 2, 1) := dk_61 (dk_at dksX3_codes_0 3 rfl rfl)
theorem dX3_codes_4 : decode cX3_codes 4 = .ok (.aload_n 0, 1) := dk_42 (dk_at dksX3_codes_0 4 rfl rfl)
theorem dX3_codes_5 : decode cX3_codes 5 = .ok (.getfield 91, 3) := dk_180 0 91 (dk_at dksX3_codes_0 5 rfl rfl)
theorem dX3_codes_8 : decode cX3_codes 8 = .ok (.iconst 0, 1) := dk_3 (dk_at dksX3_codes_0 8 rfl rfl)
theorem dX3_codes_9 : decode cX3_codes 9 = .ok (.aload_n 0, 1) := dk_42 (dk_at dksX3_codes_0 9 rfl rfl)
theorem dX3_codes_10 : decode cX3_codes 10 = .ok (.getfield 67, 3) := dk_180 0 67 (dk_at dksX3_codes_0 10 rfl rfl)
theorem dX3_codes_13 : decode cX3_codes 13 = .ok (.sipush 256, 3) := dk_17 1 0 (dk_at dksX3_codes_0 13 rfl rfl)
theorem dX3_codes_16 : decode cX3_codes 16 = .ok (.aload_n 0, 1) := dk_42 (dk_at dksX3_codes_0 16 rfl rfl)
theorem dX3_codes_17 : decode cX3_codes 17 = .ok (.invokevirtual 338, 3) := dk_182 1 82 (dk_at dksX3_codes_0 17 rfl rfl)
theorem dX3_codes_20 : decode cX3_codes 20 = .ok (.iadd, 1) := dk_96 (dk_at dksX3_codes_0 20 rfl rfl)
theorem dX3_codes_21 : decode cX3_codes 21 = .ok (.iaload, 1) := dk_46 (dk_at dksX3_codes_0 21 rfl rfl)
theorem dX3_codes_22 : decode cX3_codes 22 = .ok (.iastore, 1) := dk_79 (dk_at dksX3_codes_0 22 rfl rfl)
theorem dX3_codes_23 : decode cX3_codes 23 = .ok (.aload_n 0, 1) := dk_42 (dk_at dksX3_codes_0 23 rfl rfl)
theorem dX3_codes_24 : decode cX3_codes 24 = .ok (.getfield 94, 3) := dk_180 0 94 (dk_at dksX3_codes_1 0 rfl rfl)
theorem dX3_codes_27 : decode cX3_codes 27 = .ok (.iconst 0, 1) := dk_3 (dk_at dksX3_codes_1 3 rfl rfl)
theorem dX3_codes_28 : decode cX3_codes 28 = .ok (.iconst 0, 1) := dk_3 (dk_at dksX3_codes_1 4 rfl rfl)
theorem dX3_codes_29 : decode cX3_codes 29 = .ok (.iastore, 1) := dk_79 (dk_at dksX3_codes_1 5 rfl rfl)
theorem dX3_codes_30 : decode cX3_codes 30 = .ok (.iload_n 1, 1) := dk_27 (dk_at dksX3_codes_1 6 rfl rfl)
theorem dX3_codes_31 : decode cX3_codes 31 = .ok (.ifCond .le 86, 3) := dk_158 0 86 (dk_at dksX3_codes_1 7 rfl rfl)
theorem dX3_codes_34 : decode cX3_codes 34 = .ok (.iinc 1 (-1), 3) := dk_132 1 255 (dk_at dksX3_codes_1 10 rfl rfl)
theorem dX3_codes_37 : decode cX3_codes 37 = .ok (.aload_n 0, 1) := dk_42 (dk_at dksX3_codes_1 13 rfl rfl)
theorem dX3_codes_38 : decode cX3_codes 38 = .ok (.getfield 91, 3) := dk_180 0 91 (dk_at dksX3_codes_1 14 rfl rfl)
theorem dX3_codes_41 : decode cX3_codes 41 = .ok (.iload_n 1, 1) := dk_27 (dk_at dksX3_codes_1 17 rfl rfl)
theorem dX3_codes_42 : decode cX3_codes 42 = .ok (.iaload, 1) := dk_46 (dk_at dksX3_codes_1 18 rfl rfl)
theorem dX3_codes_43 : decode cX3_codes 43 = .ok (.istore_n 3, 1) := dk_62 (dk_at dksX3_codes_1 19 rfl rfl)
theorem dX3_codes_44 : decode cX3_codes 44 = .ok (.aload_n 0, 1) := dk_42 (dk_at dksX3_codes_1 20 rfl rfl)
theorem dX3_codes_45 : decode cX3_codes 45 = .ok (.getfield 94, 3) := dk_180 0 94 (dk_at dksX3_codes_1 21 rfl rfl)
theorem dX3_codes_48 : decode cX3_codes 48 = .ok (.iload_n 1, 1) := dk_27 (dk_at dksX3_codes_2 0 rfl rfl)
theorem dX3_codes_49 : decode cX3_codes 49 = .ok (.iaload, 1) := dk_46 (dk_at dksX3_codes_2 1 rfl rfl)
theorem dX3_codes_50 : decode cX3_codes 50 = .ok (.istore 4, 2) := dk_54 4 (dk_at dksX3_codes_2 2 rfl rfl)
theorem dX3_codes_52 : decode cX3_codes 52 = .ok (.aload_n 0, 1) := dk_42 (dk_at dksX3_codes_2 4 rfl rfl)
theorem dX3_codes_53 : decode cX3_codes 53 = .ok (.getfield 88, 3) := dk_180 0 88 (dk_at dksX3_codes_2 5 rfl rfl)
theorem dX3_codes_56 : decode cX3_codes 56 = .ok (.iload_n 2, 1) := dk_28 (dk_at dksX3_codes_2 8 rfl rfl)
theorem dX3_codes_57 : decode cX3_codes 57 = .ok (.iload 4, 2) := dk_21 4 (dk_at dksX3_codes_2 9 rfl rfl)
theorem dX3_codes_59 : decode cX3_codes 59 = .ok (.iastore, 1) := dk_79 (dk_at dksX3_codes_2 11 rfl rfl)
theorem dX3_codes_60 : decode cX3_codes 60 = .ok (.iinc 2 1, 3) := dk_132 2 1 (dk_at dksX3_codes_2 12 rfl rfl)
theorem dX3_codes_63 : decode cX3_codes 63 = .ok (.aload_n 0, 1) := dk_42 (dk_at dksX3_codes_2 15 rfl rfl)
theorem dX3_codes_64 : decode cX3_codes 64 = .ok (.getfield 45, 3) := dk_180 0 45 (dk_at dksX3_codes_2 16 rfl rfl)
theorem dX3_codes_67 : decode cX3_codes 67 = .ok (.iload_n 3, 1) := dk_29 (dk_at dksX3_codes_2 19 rfl rfl)
theorem dX3_codes_68 : decode cX3_codes 68 = .ok (.iaload, 1) := dk_46 (dk_at dksX3_codes_2 20 rfl rfl)
theorem dX3_codes_69 : decode cX3_codes 69 = .ok (.iconst 1, 1) := dk_4 (dk_at dksX3_codes_2 21 rfl rfl)
theorem dX3_codes_70 : decode cX3_codes 70 = .ok (.isub, 1) := dk_100 (dk_at dksX3_codes_2 22 rfl rfl)
theorem dX3_codes_71 : decode cX3_codes 71 = .ok (.istore 5, 2) := dk_54 5 (dk_at dksX3_codes_3 0 rfl rfl)
theorem dX3_codes_73 : decode cX3_codes 73 = .ok (.iload 5, 2) := dk_21 5 (dk_at dksX3_codes_3 2 rfl rfl)
theorem dX3_codes_75 : decode cX3_codes 75 = .ok (.ifCond .lt 39, 3) := dk_155 0 39 (dk_at dksX3_codes_3 4 rfl rfl)
theorem dX3_codes_78 : decode cX3_codes 78 = .ok (.aload_n 0, 1) := dk_42 (dk_at dksX3_codes_3 7 rfl rfl)
theorem dX3_codes_79 : decode cX3_codes 79 = .ok (.getfield 91, 3) := dk_180 0 91 (dk_at dksX3_codes_3 8 rfl rfl)
theorem dX3_codes_82 : decode cX3_codes 82 = .ok (.iload_n 1, 1) := dk_27 (dk_at dksX3_codes_3 11 rfl rfl)
theorem dX3_codes_83 : decode cX3_codes 83 = .ok (.aload_n 0, 1) := dk_42 (dk_at dksX3_codes_3 12 rfl rfl)
theorem dX3_codes_84 : decode cX3_codes 84 = .ok (.getfield 42, 3) := dk_180 0 42 (dk_at dksX3_codes_3 13 rfl rfl)
theorem dX3_codes_87 : decode cX3_codes 87 = .ok (.iconst 4, 1) := dk_7 (dk_at dksX3_codes_3 16 rfl rfl)
theorem dX3_codes_88 : decode cX3_codes 88 = .ok (.iload_n 3, 1) := dk_29 (dk_at dksX3_codes_3 17 rfl rfl)
theorem dX3_codes_89 : decode cX3_codes 89 = .ok (.imul, 1) := dk_104 (dk_at dksX3_codes_3 18 rfl rfl)
theorem dX3_codes_90 : decode cX3_codes 90 = .ok (.iload 5, 2) := dk_21 5 (dk_at dksX3_codes_3 19 rfl rfl)
theorem dX3_codes_92 : decode cX3_codes 92 = .ok (.iadd, 1) := dk_96 (dk_at dksX3_codes_3 21 rfl rfl)
theorem dX3_codes_93 : decode cX3_codes 93 = .ok (.iaload, 1) := dk_46 (dk_at dksX3_codes_3 22 rfl rfl)
theorem dX3_codes_94 : decode cX3_codes 94 = .ok (.iastore, 1) := dk_79 (dk_at dksX3_codes_3 23 rfl rfl)
theorem dX3_codes_95 : decode cX3_codes 95 = .ok (.aload_n 0, 1) := dk_42 (dk_at dksX3_codes_4 0 rfl rfl)
theorem dX3_codes_96 : decode cX3_codes 96 = .ok (.getfield 94, 3) := dk_180 0 94 (dk_at dksX3_codes_4 1 rfl rfl)
theorem dX3_codes_99 : decode cX3_codes 99 = .ok (.iload_n 1, 1) := dk_27 (dk_at dksX3_codes_4 4 rfl rfl)
theorem dX3_codes_100 : decode cX3_codes 100 = .ok (.iload 4, 2) := dk_21 4 (dk_at dksX3_codes_4 5 rfl rfl)
theorem dX3_codes_102 : decode cX3_codes 102 = .ok (.iconst 1, 1) := dk_4 (dk_at dksX3_codes_4 7 rfl rfl)
theorem dX3_codes_103 : decode cX3_codes 103 = .ok (.iadd, 1) := dk_96 (dk_at dksX3_codes_4 8 rfl rfl)
theorem dX3_codes_104 : decode cX3_codes 104 = .ok (.iastore, 1) := dk_79 (dk_at dksX3_codes_4 9 rfl rfl)
theorem dX3_codes_105 : decode cX3_codes 105 = .ok (.iinc 1 1, 3) := dk_132 1 1 (dk_at dksX3_codes_4 10 rfl rfl)
theorem dX3_codes_108 : decode cX3_codes 108 = .ok (.iinc 5 (-1), 3) := dk_132 5 255 (dk_at dksX3_codes_4 13 rfl rfl)
theorem dX3_codes_111 : decode cX3_codes 111 = .ok (.goto (-38), 3) := dk_167 255 218 (dk_at dksX3_codes_4 16 rfl rfl)
theorem dX3_codes_114 : decode cX3_codes 114 = .ok (.goto (-84), 3) := dk_167 255 172 (dk_at dksX3_codes_4 19 rfl rfl)
theorem dX3_codes_117 : decode cX3_codes 117 = .ok (.return_, 1) := dk_177 (dk_at dksX3_codes_4 22 rfl rfl)
abbrev cX3_first : ByteArray := prog_21_method_59_code
def yX3_first : MethodName := ⟨RX3, "first", "()I"⟩
def dkwX3_first_2 : List UInt8 := [27, 167, 0, 4, 28, 172]
abbrev dktX3_first_2 : List UInt8 := dkwX3_first_2 ++ []
def dkwX3_first_1 : List UInt8 := [16, 16, 28, 104, 27, 96, 46, 42, 180, 0, 67, 16, 16, 27, 104, 28, 96, 46, 182, 1, 2, 155, 0, 7]
abbrev dktX3_first_1 : List UInt8 := dkwX3_first_1 ++ dktX3_first_2
def dkwX3_first_0 : List UInt8 := [42, 3, 182, 1, 79, 60, 42, 4, 182, 1, 79, 61, 28, 2, 160, 0, 5, 27, 172, 42, 42, 180, 0, 67]
abbrev dktX3_first_0 : List UInt8 := dkwX3_first_0 ++ dktX3_first_1
theorem dksX3_first_0 : cX3_first.data.toList.drop 0 = dktX3_first_0 := by decide +kernel
theorem dksX3_first_1 : cX3_first.data.toList.drop 24 = dktX3_first_1 := dk_seg dksX3_first_0 24 rfl rfl
theorem dksX3_first_2 : cX3_first.data.toList.drop 48 = dktX3_first_2 := dk_seg dksX3_first_1 24 rfl rfl
theorem dX3_first_0 : decode cX3_first 0 = .ok (.aload_n 0, 1) := dk_42 (dk_at dksX3_first_0 0 rfl rfl)
theorem dX3_first_1 : decode cX3_first 1 = .ok (.iconst 0, 1) := dk_3 (dk_at dksX3_first_0 1 rfl rfl)
theorem dX3_first_2 : decode cX3_first 2 = .ok (.invokevirtual 335, 3) := dk_182 1 79 (dk_at dksX3_first_0 2 rfl rfl)
theorem dX3_first_5 : decode cX3_first 5 = .ok (.istore_n 1, 1) := dk_60 (dk_at dksX3_first_0 5 rfl rfl)
theorem dX3_first_6 : decode cX3_first 6 = .ok (.aload_n 0, 1) := dk_42 (dk_at dksX3_first_0 6 rfl rfl)
theorem dX3_first_7 : decode cX3_first 7 = .ok (.iconst 1, 1) := dk_4 (dk_at dksX3_first_0 7 rfl rfl)
theorem dX3_first_8 : decode cX3_first 8 = .ok (.invokevirtual 335, 3) := dk_182 1 79 (dk_at dksX3_first_0 8 rfl rfl)
theorem dX3_first_11 : decode cX3_first 11 = .ok (.istore_n 2, 1) := dk_61 (dk_at dksX3_first_0 11 rfl rfl)
theorem dX3_first_12 : decode cX3_first 12 = .ok (.iload_n 2, 1) := dk_28 (dk_at dksX3_first_0 12 rfl rfl)
theorem dX3_first_13 : decode cX3_first 13 = .ok (.iconst (-1), 1) := dk_2 (dk_at dksX3_first_0 13 rfl rfl)
theorem dX3_first_14 : decode cX3_first 14 = .ok (.if_icmp .ne 5, 3) := dk_160 0 5 (dk_at dksX3_first_0 14 rfl rfl)
theorem dX3_first_17 : decode cX3_first 17 = .ok (.iload_n 1, 1) := dk_27 (dk_at dksX3_first_0 17 rfl rfl)
theorem dX3_first_18 : decode cX3_first 18 = .ok (.ireturn, 1) := dk_172 (dk_at dksX3_first_0 18 rfl rfl)
theorem dX3_first_19 : decode cX3_first 19 = .ok (.aload_n 0, 1) := dk_42 (dk_at dksX3_first_0 19 rfl rfl)
theorem dX3_first_20 : decode cX3_first 20 = .ok (.aload_n 0, 1) := dk_42 (dk_at dksX3_first_0 20 rfl rfl)
theorem dX3_first_21 : decode cX3_first 21 = .ok (.getfield 67, 3) := dk_180 0 67 (dk_at dksX3_first_0 21 rfl rfl)
theorem dX3_first_24 : decode cX3_first 24 = .ok (.bipush 16, 2) := dk_16 16 (dk_at dksX3_first_1 0 rfl rfl)
theorem dX3_first_26 : decode cX3_first 26 = .ok (.iload_n 2, 1) := dk_28 (dk_at dksX3_first_1 2 rfl rfl)
theorem dX3_first_27 : decode cX3_first 27 = .ok (.imul, 1) := dk_104 (dk_at dksX3_first_1 3 rfl rfl)
theorem dX3_first_28 : decode cX3_first 28 = .ok (.iload_n 1, 1) := dk_27 (dk_at dksX3_first_1 4 rfl rfl)
theorem dX3_first_29 : decode cX3_first 29 = .ok (.iadd, 1) := dk_96 (dk_at dksX3_first_1 5 rfl rfl)
theorem dX3_first_30 : decode cX3_first 30 = .ok (.iaload, 1) := dk_46 (dk_at dksX3_first_1 6 rfl rfl)
theorem dX3_first_31 : decode cX3_first 31 = .ok (.aload_n 0, 1) := dk_42 (dk_at dksX3_first_1 7 rfl rfl)
theorem dX3_first_32 : decode cX3_first 32 = .ok (.getfield 67, 3) := dk_180 0 67 (dk_at dksX3_first_1 8 rfl rfl)
theorem dX3_first_35 : decode cX3_first 35 = .ok (.bipush 16, 2) := dk_16 16 (dk_at dksX3_first_1 11 rfl rfl)
theorem dX3_first_37 : decode cX3_first 37 = .ok (.iload_n 1, 1) := dk_27 (dk_at dksX3_first_1 13 rfl rfl)
theorem dX3_first_38 : decode cX3_first 38 = .ok (.imul, 1) := dk_104 (dk_at dksX3_first_1 14 rfl rfl)
theorem dX3_first_39 : decode cX3_first 39 = .ok (.iload_n 2, 1) := dk_28 (dk_at dksX3_first_1 15 rfl rfl)
theorem dX3_first_40 : decode cX3_first 40 = .ok (.iadd, 1) := dk_96 (dk_at dksX3_first_1 16 rfl rfl)
theorem dX3_first_41 : decode cX3_first 41 = .ok (.iaload, 1) := dk_46 (dk_at dksX3_first_1 17 rfl rfl)
theorem dX3_first_42 : decode cX3_first 42 = .ok (.invokevirtual 258, 3) := dk_182 1 2 (dk_at dksX3_first_1 18 rfl rfl)
theorem dX3_first_45 : decode cX3_first 45 = .ok (.ifCond .lt 7, 3) := dk_155 0 7 (dk_at dksX3_first_1 21 rfl rfl)
theorem dX3_first_48 : decode cX3_first 48 = .ok (.iload_n 1, 1) := dk_27 (dk_at dksX3_first_2 0 rfl rfl)
theorem dX3_first_49 : decode cX3_first 49 = .ok (.goto 4, 3) := dk_167 0 4 (dk_at dksX3_first_2 1 rfl rfl)
theorem dX3_first_52 : decode cX3_first 52 = .ok (.iload_n 2, 1) := dk_28 (dk_at dksX3_first_2 4 rfl rfl)
theorem dX3_first_53 : decode cX3_first 53 = .ok (.ireturn, 1) := dk_172 (dk_at dksX3_first_2 5 rfl rfl)
abbrev cX3_centroidAt : ByteArray := prog_21_method_58_code
def yX3_centroidAt : MethodName := ⟨RX3, "centroidAt", "(I)I"⟩
def dkwX3_centroidAt_1 : List UInt8 := [167, 0, 12, 28, 154, 0, 5, 29, 172, 132, 2, 255, 132, 3, 1, 167, 255, 223, 2, 172]
abbrev dktX3_centroidAt_1 : List UInt8 := dkwX3_centroidAt_1 ++ []
def dkwX3_centroidAt_0 : List UInt8 := [27, 61, 3, 62, 29, 42, 180, 0, 64, 3, 46, 162, 0, 29, 42, 29, 182, 1, 76, 154, 0, 6]
abbrev dktX3_centroidAt_0 : List UInt8 := dkwX3_centroidAt_0 ++ dktX3_centroidAt_1
theorem dksX3_centroidAt_0 : cX3_centroidAt.data.toList.drop 0 = dktX3_centroidAt_0 := by decide +kernel
theorem dksX3_centroidAt_1 : cX3_centroidAt.data.toList.drop 22 = dktX3_centroidAt_1 := dk_seg dksX3_centroidAt_0 22 rfl rfl
theorem dX3_centroidAt_0 : decode cX3_centroidAt 0 = .ok (.iload_n 1, 1) := dk_27 (dk_at dksX3_centroidAt_0 0 rfl rfl)
theorem dX3_centroidAt_1 : decode cX3_centroidAt 1 = .ok (.istore_n 2, 1) := dk_61 (dk_at dksX3_centroidAt_0 1 rfl rfl)
theorem dX3_centroidAt_2 : decode cX3_centroidAt 2 = .ok (.iconst 0, 1) := dk_3 (dk_at dksX3_centroidAt_0 2 rfl rfl)
theorem dX3_centroidAt_3 : decode cX3_centroidAt 3 = .ok (.istore_n 3, 1) := dk_62 (dk_at dksX3_centroidAt_0 3 rfl rfl)
theorem dX3_centroidAt_4 : decode cX3_centroidAt 4 = .ok (.iload_n 3, 1) := dk_29 (dk_at dksX3_centroidAt_0 4 rfl rfl)
theorem dX3_centroidAt_5 : decode cX3_centroidAt 5 = .ok (.aload_n 0, 1) := dk_42 (dk_at dksX3_centroidAt_0 5 rfl rfl)
theorem dX3_centroidAt_6 : decode cX3_centroidAt 6 = .ok (.getfield 64, 3) := dk_180 0 64 (dk_at dksX3_centroidAt_0 6 rfl rfl)
theorem dX3_centroidAt_9 : decode cX3_centroidAt 9 = .ok (.iconst 0, 1) := dk_3 (dk_at dksX3_centroidAt_0 9 rfl rfl)
theorem dX3_centroidAt_10 : decode cX3_centroidAt 10 = .ok (.iaload, 1) := dk_46 (dk_at dksX3_centroidAt_0 10 rfl rfl)
theorem dX3_centroidAt_11 : decode cX3_centroidAt 11 = .ok (.if_icmp .ge 29, 3) := dk_162 0 29 (dk_at dksX3_centroidAt_0 11 rfl rfl)
theorem dX3_centroidAt_14 : decode cX3_centroidAt 14 = .ok (.aload_n 0, 1) := dk_42 (dk_at dksX3_centroidAt_0 14 rfl rfl)
theorem dX3_centroidAt_15 : decode cX3_centroidAt 15 = .ok (.iload_n 3, 1) := dk_29 (dk_at dksX3_centroidAt_0 15 rfl rfl)
theorem dX3_centroidAt_16 : decode cX3_centroidAt 16 = .ok (.invokevirtual 332, 3) := dk_182 1 76 (dk_at dksX3_centroidAt_0 16 rfl rfl)
theorem dX3_centroidAt_19 : decode cX3_centroidAt 19 = .ok (.ifCond .ne 6, 3) := dk_154 0 6 (dk_at dksX3_centroidAt_0 19 rfl rfl)
theorem dX3_centroidAt_22 : decode cX3_centroidAt 22 = .ok (.goto 12, 3) := dk_167 0 12 (dk_at dksX3_centroidAt_1 0 rfl rfl)
theorem dX3_centroidAt_25 : decode cX3_centroidAt 25 = .ok (.iload_n 2, 1) := dk_28 (dk_at dksX3_centroidAt_1 3 rfl rfl)
theorem dX3_centroidAt_26 : decode cX3_centroidAt 26 = .ok (.ifCond .ne 5, 3) := dk_154 0 5 (dk_at dksX3_centroidAt_1 4 rfl rfl)
theorem dX3_centroidAt_29 : decode cX3_centroidAt 29 = .ok (.iload_n 3, 1) := dk_29 (dk_at dksX3_centroidAt_1 7 rfl rfl)
theorem dX3_centroidAt_30 : decode cX3_centroidAt 30 = .ok (.ireturn, 1) := dk_172 (dk_at dksX3_centroidAt_1 8 rfl rfl)
theorem dX3_centroidAt_31 : decode cX3_centroidAt 31 = .ok (.iinc 2 (-1), 3) := dk_132 2 255 (dk_at dksX3_centroidAt_1 9 rfl rfl)
theorem dX3_centroidAt_34 : decode cX3_centroidAt 34 = .ok (.iinc 3 1, 3) := dk_132 3 1 (dk_at dksX3_centroidAt_1 12 rfl rfl)
theorem dX3_centroidAt_37 : decode cX3_centroidAt 37 = .ok (.goto (-33), 3) := dk_167 255 223 (dk_at dksX3_centroidAt_1 15 rfl rfl)
theorem dX3_centroidAt_40 : decode cX3_centroidAt 40 = .ok (.iconst (-1), 1) := dk_2 (dk_at dksX3_centroidAt_1 18 rfl rfl)
theorem dX3_centroidAt_41 : decode cX3_centroidAt 41 = .ok (.ireturn, 1) := dk_172 (dk_at dksX3_centroidAt_1 19 rfl rfl)
abbrev cX3_isCentroid : ByteArray := prog_21_method_57_code
def yX3_isCentroid : MethodName := ⟨RX3, "isCentroid", "(I)Z"⟩
def dkwX3_isCentroid_2 : List UInt8 := [132, 2, 1, 167, 255, 209, 4, 172]
abbrev dktX3_isCentroid_2 : List UInt8 := dkwX3_isCentroid_2 ++ []
def dkwX3_isCentroid_1 : List UInt8 := [153, 0, 22, 5, 42, 27, 28, 182, 1, 64, 104, 42, 180, 0, 64, 3, 46, 164, 0, 5, 3, 172]
abbrev dktX3_isCentroid_1 : List UInt8 := dkwX3_isCentroid_1 ++ dktX3_isCentroid_2
def dkwX3_isCentroid_0 : List UInt8 := [3, 61, 28, 42, 180, 0, 64, 3, 46, 162, 0, 43, 42, 180, 0, 64, 4, 27, 96, 46, 28, 184, 0, 184]
abbrev dktX3_isCentroid_0 : List UInt8 := dkwX3_isCentroid_0 ++ dktX3_isCentroid_1
theorem dksX3_isCentroid_0 : cX3_isCentroid.data.toList.drop 0 = dktX3_isCentroid_0 := by decide +kernel
theorem dksX3_isCentroid_1 : cX3_isCentroid.data.toList.drop 24 = dktX3_isCentroid_1 := dk_seg dksX3_isCentroid_0 24 rfl rfl
theorem dksX3_isCentroid_2 : cX3_isCentroid.data.toList.drop 46 = dktX3_isCentroid_2 := dk_seg dksX3_isCentroid_1 22 rfl rfl
theorem dX3_isCentroid_0 : decode cX3_isCentroid 0 = .ok (.iconst 0, 1) := dk_3 (dk_at dksX3_isCentroid_0 0 rfl rfl)
theorem dX3_isCentroid_1 : decode cX3_isCentroid 1 = .ok (.istore_n 2, 1) := dk_61 (dk_at dksX3_isCentroid_0 1 rfl rfl)
theorem dX3_isCentroid_2 : decode cX3_isCentroid 2 = .ok (.iload_n 2, 1) := dk_28 (dk_at dksX3_isCentroid_0 2 rfl rfl)
theorem dX3_isCentroid_3 : decode cX3_isCentroid 3 = .ok (.aload_n 0, 1) := dk_42 (dk_at dksX3_isCentroid_0 3 rfl rfl)
theorem dX3_isCentroid_4 : decode cX3_isCentroid 4 = .ok (.getfield 64, 3) := dk_180 0 64 (dk_at dksX3_isCentroid_0 4 rfl rfl)
theorem dX3_isCentroid_7 : decode cX3_isCentroid 7 = .ok (.iconst 0, 1) := dk_3 (dk_at dksX3_isCentroid_0 7 rfl rfl)
theorem dX3_isCentroid_8 : decode cX3_isCentroid 8 = .ok (.iaload, 1) := dk_46 (dk_at dksX3_isCentroid_0 8 rfl rfl)
theorem dX3_isCentroid_9 : decode cX3_isCentroid 9 = .ok (.if_icmp .ge 43, 3) := dk_162 0 43 (dk_at dksX3_isCentroid_0 9 rfl rfl)
theorem dX3_isCentroid_12 : decode cX3_isCentroid 12 = .ok (.aload_n 0, 1) := dk_42 (dk_at dksX3_isCentroid_0 12 rfl rfl)
theorem dX3_isCentroid_13 : decode cX3_isCentroid 13 = .ok (.getfield 64, 3) := dk_180 0 64 (dk_at dksX3_isCentroid_0 13 rfl rfl)
theorem dX3_isCentroid_16 : decode cX3_isCentroid 16 = .ok (.iconst 1, 1) := dk_4 (dk_at dksX3_isCentroid_0 16 rfl rfl)
theorem dX3_isCentroid_17 : decode cX3_isCentroid 17 = .ok (.iload_n 1, 1) := dk_27 (dk_at dksX3_isCentroid_0 17 rfl rfl)
theorem dX3_isCentroid_18 : decode cX3_isCentroid 18 = .ok (.iadd, 1) := dk_96 (dk_at dksX3_isCentroid_0 18 rfl rfl)
theorem dX3_isCentroid_19 : decode cX3_isCentroid 19 = .ok (.iaload, 1) := dk_46 (dk_at dksX3_isCentroid_0 19 rfl rfl)
theorem dX3_isCentroid_20 : decode cX3_isCentroid 20 = .ok (.iload_n 2, 1) := dk_28 (dk_at dksX3_isCentroid_0 20 rfl rfl)
theorem dX3_isCentroid_21 : decode cX3_isCentroid 21 = .ok (.invokestatic 184, 3) := dk_184 0 184 (dk_at dksX3_isCentroid_0 21 rfl rfl)
theorem dX3_isCentroid_24 : decode cX3_isCentroid 24 = .ok (.ifCond .eq 22, 3) := dk_153 0 22 (dk_at dksX3_isCentroid_1 0 rfl rfl)
theorem dX3_isCentroid_27 : decode cX3_isCentroid 27 = .ok (.iconst 2, 1) := dk_5 (dk_at dksX3_isCentroid_1 3 rfl rfl)
theorem dX3_isCentroid_28 : decode cX3_isCentroid 28 = .ok (.aload_n 0, 1) := dk_42 (dk_at dksX3_isCentroid_1 4 rfl rfl)
theorem dX3_isCentroid_29 : decode cX3_isCentroid 29 = .ok (.iload_n 1, 1) := dk_27 (dk_at dksX3_isCentroid_1 5 rfl rfl)
theorem dX3_isCentroid_30 : decode cX3_isCentroid 30 = .ok (.iload_n 2, 1) := dk_28 (dk_at dksX3_isCentroid_1 6 rfl rfl)
theorem dX3_isCentroid_31 : decode cX3_isCentroid 31 = .ok (.invokevirtual 320, 3) := dk_182 1 64 (dk_at dksX3_isCentroid_1 7 rfl rfl)
theorem dX3_isCentroid_34 : decode cX3_isCentroid 34 = .ok (.imul, 1) := dk_104 (dk_at dksX3_isCentroid_1 10 rfl rfl)
theorem dX3_isCentroid_35 : decode cX3_isCentroid 35 = .ok (.aload_n 0, 1) := dk_42 (dk_at dksX3_isCentroid_1 11 rfl rfl)
theorem dX3_isCentroid_36 : decode cX3_isCentroid 36 = .ok (.getfield 64, 3) := dk_180 0 64 (dk_at dksX3_isCentroid_1 12 rfl rfl)
theorem dX3_isCentroid_39 : decode cX3_isCentroid 39 = .ok (.iconst 0, 1) := dk_3 (dk_at dksX3_isCentroid_1 15 rfl rfl)
theorem dX3_isCentroid_40 : decode cX3_isCentroid 40 = .ok (.iaload, 1) := dk_46 (dk_at dksX3_isCentroid_1 16 rfl rfl)
theorem dX3_isCentroid_41 : decode cX3_isCentroid 41 = .ok (.if_icmp .le 5, 3) := dk_164 0 5 (dk_at dksX3_isCentroid_1 17 rfl rfl)
theorem dX3_isCentroid_44 : decode cX3_isCentroid 44 = .ok (.iconst 0, 1) := dk_3 (dk_at dksX3_isCentroid_1 20 rfl rfl)
theorem dX3_isCentroid_45 : decode cX3_isCentroid 45 = .ok (.ireturn, 1) := dk_172 (dk_at dksX3_isCentroid_1 21 rfl rfl)
theorem dX3_isCentroid_46 : decode cX3_isCentroid 46 = .ok (.iinc 2 1, 3) := dk_132 2 1 (dk_at dksX3_isCentroid_2 0 rfl rfl)
theorem dX3_isCentroid_49 : decode cX3_isCentroid 49 = .ok (.goto (-47), 3) := dk_167 255 209 (dk_at dksX3_isCentroid_2 3 rfl rfl)
theorem dX3_isCentroid_52 : decode cX3_isCentroid 52 = .ok (.iconst 1, 1) := dk_4 (dk_at dksX3_isCentroid_2 6 rfl rfl)
theorem dX3_isCentroid_53 : decode cX3_isCentroid 53 = .ok (.ireturn, 1) := dk_172 (dk_at dksX3_isCentroid_2 7 rfl rfl)
abbrev cX3_comesIn : ByteArray := prog_21_method_65_code
def yX3_comesIn : MethodName := ⟨RX3, "comesIn", "(I)V"⟩
def dkwX3_comesIn_4 : List UInt8 := [180, 0, 88, 29, 46, 79, 132, 3, 1, 167, 255, 229, 42, 180, 0, 97, 27, 92, 46, 4, 96, 79, 177]
abbrev dktX3_comesIn_4 : List UInt8 := dkwX3_comesIn_4 ++ []
def dkwX3_comesIn_3 : List UInt8 := [167, 255, 229, 3, 62, 29, 27, 162, 0, 28, 42, 180, 0, 103, 42, 27, 28, 182, 1, 85, 29, 96, 42]
abbrev dktX3_comesIn_3 : List UInt8 := dkwX3_comesIn_3 ++ dktX3_comesIn_4
def dkwX3_comesIn_2 : List UInt8 := [28, 182, 1, 85, 161, 0, 23, 42, 180, 0, 103, 29, 27, 96, 42, 180, 0, 103, 29, 46, 79, 132, 3, 255]
abbrev dktX3_comesIn_2 : List UInt8 := dkwX3_comesIn_2 ++ dktX3_comesIn_3
def dkwX3_comesIn_1 : List UInt8 := [182, 1, 88, 154, 0, 4, 177, 42, 27, 42, 180, 0, 97, 27, 46, 182, 1, 85, 4, 100, 62, 29, 42, 27]
abbrev dktX3_comesIn_1 : List UInt8 := dkwX3_comesIn_1 ++ dktX3_comesIn_2
def dkwX3_comesIn_0 : List UInt8 := [42, 27, 182, 1, 91, 61, 28, 42, 180, 0, 97, 27, 46, 162, 0, 18, 42, 42, 27, 28, 182, 1, 85, 27]
abbrev dktX3_comesIn_0 : List UInt8 := dkwX3_comesIn_0 ++ dktX3_comesIn_1
theorem dksX3_comesIn_0 : cX3_comesIn.data.toList.drop 0 = dktX3_comesIn_0 := by decide +kernel
theorem dksX3_comesIn_1 : cX3_comesIn.data.toList.drop 24 = dktX3_comesIn_1 := dk_seg dksX3_comesIn_0 24 rfl rfl
theorem dksX3_comesIn_2 : cX3_comesIn.data.toList.drop 48 = dktX3_comesIn_2 := dk_seg dksX3_comesIn_1 24 rfl rfl
theorem dksX3_comesIn_3 : cX3_comesIn.data.toList.drop 72 = dktX3_comesIn_3 := dk_seg dksX3_comesIn_2 24 rfl rfl
theorem dksX3_comesIn_4 : cX3_comesIn.data.toList.drop 95 = dktX3_comesIn_4 := dk_seg dksX3_comesIn_3 23 rfl rfl
theorem dX3_comesIn_0 : decode cX3_comesIn 0 = .ok (.aload_n 0, 1) := dk_42 (dk_at dksX3_comesIn_0 0 rfl rfl)
theorem dX3_comesIn_1 : decode cX3_comesIn 1 = .ok (.iload_n 1, 1) := dk_27 (dk_at dksX3_comesIn_0 1 rfl rfl)
theorem dX3_comesIn_2 : decode cX3_comesIn 2 = .ok (.invokevirtual 347, 3) := dk_182 1 91 (dk_at dksX3_comesIn_0 2 rfl rfl)
theorem dX3_comesIn_5 : decode cX3_comesIn 5 = .ok (.istore_n 2, 1) := dk_61 (dk_at dksX3_comesIn_0 5 rfl rfl)
theorem dX3_comesIn_6 : decode cX3_comesIn 6 = .ok (.iload_n 2, 1) := dk_28 (dk_at dksX3_comesIn_0 6 rfl rfl)
theorem dX3_comesIn_7 : decode cX3_comesIn 7 = .ok (.aload_n 0, 1) := dk_42 (dk_at dksX3_comesIn_0 7 rfl rfl)
theorem dX3_comesIn_8 : decode cX3_comesIn 8 = .ok (.getfield 97, 3) := dk_180 0 97 (dk_at dksX3_comesIn_0 8 rfl rfl)
theorem dX3_comesIn_11 : decode cX3_comesIn 11 = .ok (.iload_n 1, 1) := dk_27 (dk_at dksX3_comesIn_0 11 rfl rfl)
theorem dX3_comesIn_12 : decode cX3_comesIn 12 = .ok (.iaload, 1) := dk_46 (dk_at dksX3_comesIn_0 12 rfl rfl)
theorem dX3_comesIn_13 : decode cX3_comesIn 13 = .ok (.if_icmp .ge 18, 3) := dk_162 0 18 (dk_at dksX3_comesIn_0 13 rfl rfl)
theorem dX3_comesIn_16 : decode cX3_comesIn 16 = .ok (.aload_n 0, 1) := dk_42 (dk_at dksX3_comesIn_0 16 rfl rfl)
theorem dX3_comesIn_17 : decode cX3_comesIn 17 = .ok (.aload_n 0, 1) := dk_42 (dk_at dksX3_comesIn_0 17 rfl rfl)
theorem dX3_comesIn_18 : decode cX3_comesIn 18 = .ok (.iload_n 1, 1) := dk_27 (dk_at dksX3_comesIn_0 18 rfl rfl)
theorem dX3_comesIn_19 : decode cX3_comesIn 19 = .ok (.iload_n 2, 1) := dk_28 (dk_at dksX3_comesIn_0 19 rfl rfl)
theorem dX3_comesIn_20 : decode cX3_comesIn 20 = .ok (.invokevirtual 341, 3) := dk_182 1 85 (dk_at dksX3_comesIn_0 20 rfl rfl)
theorem dX3_comesIn_23 : decode cX3_comesIn 23 = .ok (.iload_n 1, 1) := dk_27 (dk_at dksX3_comesIn_0 23 rfl rfl)
theorem dX3_comesIn_24 : decode cX3_comesIn 24 = .ok (.invokevirtual 344, 3) := dk_182 1 88 (dk_at dksX3_comesIn_1 0 rfl rfl)
theorem dX3_comesIn_27 : decode cX3_comesIn 27 = .ok (.ifCond .ne 4, 3) := dk_154 0 4 (dk_at dksX3_comesIn_1 3 rfl rfl)
theorem dX3_comesIn_30 : decode cX3_comesIn 30 = .ok (.return_, 1) := dk_177 (dk_at dksX3_comesIn_1 6 rfl rfl)
theorem dX3_comesIn_31 : decode cX3_comesIn 31 = .ok (.aload_n 0, 1) := dk_42 (dk_at dksX3_comesIn_1 7 rfl rfl)
theorem dX3_comesIn_32 : decode cX3_comesIn 32 = .ok (.iload_n 1, 1) := dk_27 (dk_at dksX3_comesIn_1 8 rfl rfl)
theorem dX3_comesIn_33 : decode cX3_comesIn 33 = .ok (.aload_n 0, 1) := dk_42 (dk_at dksX3_comesIn_1 9 rfl rfl)
theorem dX3_comesIn_34 : decode cX3_comesIn 34 = .ok (.getfield 97, 3) := dk_180 0 97 (dk_at dksX3_comesIn_1 10 rfl rfl)
theorem dX3_comesIn_37 : decode cX3_comesIn 37 = .ok (.iload_n 1, 1) := dk_27 (dk_at dksX3_comesIn_1 13 rfl rfl)
theorem dX3_comesIn_38 : decode cX3_comesIn 38 = .ok (.iaload, 1) := dk_46 (dk_at dksX3_comesIn_1 14 rfl rfl)
theorem dX3_comesIn_39 : decode cX3_comesIn 39 = .ok (.invokevirtual 341, 3) := dk_182 1 85 (dk_at dksX3_comesIn_1 15 rfl rfl)
theorem dX3_comesIn_42 : decode cX3_comesIn 42 = .ok (.iconst 1, 1) := dk_4 (dk_at dksX3_comesIn_1 18 rfl rfl)
theorem dX3_comesIn_43 : decode cX3_comesIn 43 = .ok (.isub, 1) := dk_100 (dk_at dksX3_comesIn_1 19 rfl rfl)
theorem dX3_comesIn_44 : decode cX3_comesIn 44 = .ok (.istore_n 3, 1) := dk_62 (dk_at dksX3_comesIn_1 20 rfl rfl)
theorem dX3_comesIn_45 : decode cX3_comesIn 45 = .ok (.iload_n 3, 1) := dk_29 (dk_at dksX3_comesIn_1 21 rfl rfl)
theorem dX3_comesIn_46 : decode cX3_comesIn 46 = .ok (.aload_n 0, 1) := dk_42 (dk_at dksX3_comesIn_1 22 rfl rfl)
theorem dX3_comesIn_47 : decode cX3_comesIn 47 = .ok (.iload_n 1, 1) := dk_27 (dk_at dksX3_comesIn_1 23 rfl rfl)
theorem dX3_comesIn_48 : decode cX3_comesIn 48 = .ok (.iload_n 2, 1) := dk_28 (dk_at dksX3_comesIn_2 0 rfl rfl)
theorem dX3_comesIn_49 : decode cX3_comesIn 49 = .ok (.invokevirtual 341, 3) := dk_182 1 85 (dk_at dksX3_comesIn_2 1 rfl rfl)
theorem dX3_comesIn_52 : decode cX3_comesIn 52 = .ok (.if_icmp .lt 23, 3) := dk_161 0 23 (dk_at dksX3_comesIn_2 4 rfl rfl)
theorem dX3_comesIn_55 : decode cX3_comesIn 55 = .ok (.aload_n 0, 1) := dk_42 (dk_at dksX3_comesIn_2 7 rfl rfl)
theorem dX3_comesIn_56 : decode cX3_comesIn 56 = .ok (.getfield 103, 3) := dk_180 0 103 (dk_at dksX3_comesIn_2 8 rfl rfl)
theorem dX3_comesIn_59 : decode cX3_comesIn 59 = .ok (.iload_n 3, 1) := dk_29 (dk_at dksX3_comesIn_2 11 rfl rfl)
theorem dX3_comesIn_60 : decode cX3_comesIn 60 = .ok (.iload_n 1, 1) := dk_27 (dk_at dksX3_comesIn_2 12 rfl rfl)
theorem dX3_comesIn_61 : decode cX3_comesIn 61 = .ok (.iadd, 1) := dk_96 (dk_at dksX3_comesIn_2 13 rfl rfl)
theorem dX3_comesIn_62 : decode cX3_comesIn 62 = .ok (.aload_n 0, 1) := dk_42 (dk_at dksX3_comesIn_2 14 rfl rfl)
theorem dX3_comesIn_63 : decode cX3_comesIn 63 = .ok (.getfield 103, 3) := dk_180 0 103 (dk_at dksX3_comesIn_2 15 rfl rfl)
theorem dX3_comesIn_66 : decode cX3_comesIn 66 = .ok (.iload_n 3, 1) := dk_29 (dk_at dksX3_comesIn_2 18 rfl rfl)
theorem dX3_comesIn_67 : decode cX3_comesIn 67 = .ok (.iaload, 1) := dk_46 (dk_at dksX3_comesIn_2 19 rfl rfl)
theorem dX3_comesIn_68 : decode cX3_comesIn 68 = .ok (.iastore, 1) := dk_79 (dk_at dksX3_comesIn_2 20 rfl rfl)
theorem dX3_comesIn_69 : decode cX3_comesIn 69 = .ok (.iinc 3 (-1), 3) := dk_132 3 255 (dk_at dksX3_comesIn_2 21 rfl rfl)
theorem dX3_comesIn_72 : decode cX3_comesIn 72 = .ok (.goto (-27), 3) := dk_167 255 229 (dk_at dksX3_comesIn_3 0 rfl rfl)
theorem dX3_comesIn_75 : decode cX3_comesIn 75 = .ok (.iconst 0, 1) := dk_3 (dk_at dksX3_comesIn_3 3 rfl rfl)
theorem dX3_comesIn_76 : decode cX3_comesIn 76 = .ok (.istore_n 3, 1) := dk_62 (dk_at dksX3_comesIn_3 4 rfl rfl)
theorem dX3_comesIn_77 : decode cX3_comesIn 77 = .ok (.iload_n 3, 1) := dk_29 (dk_at dksX3_comesIn_3 5 rfl rfl)
theorem dX3_comesIn_78 : decode cX3_comesIn 78 = .ok (.iload_n 1, 1) := dk_27 (dk_at dksX3_comesIn_3 6 rfl rfl)
theorem dX3_comesIn_79 : decode cX3_comesIn 79 = .ok (.if_icmp .ge 28, 3) := dk_162 0 28 (dk_at dksX3_comesIn_3 7 rfl rfl)
theorem dX3_comesIn_82 : decode cX3_comesIn 82 = .ok (.aload_n 0, 1) := dk_42 (dk_at dksX3_comesIn_3 10 rfl rfl)
theorem dX3_comesIn_83 : decode cX3_comesIn 83 = .ok (.getfield 103, 3) := dk_180 0 103 (dk_at dksX3_comesIn_3 11 rfl rfl)
theorem dX3_comesIn_86 : decode cX3_comesIn 86 = .ok (.aload_n 0, 1) := dk_42 (dk_at dksX3_comesIn_3 14 rfl rfl)
theorem dX3_comesIn_87 : decode cX3_comesIn 87 = .ok (.iload_n 1, 1) := dk_27 (dk_at dksX3_comesIn_3 15 rfl rfl)
theorem dX3_comesIn_88 : decode cX3_comesIn 88 = .ok (.iload_n 2, 1) := dk_28 (dk_at dksX3_comesIn_3 16 rfl rfl)
theorem dX3_comesIn_89 : decode cX3_comesIn 89 = .ok (.invokevirtual 341, 3) := dk_182 1 85 (dk_at dksX3_comesIn_3 17 rfl rfl)
theorem dX3_comesIn_92 : decode cX3_comesIn 92 = .ok (.iload_n 3, 1) := dk_29 (dk_at dksX3_comesIn_3 20 rfl rfl)
theorem dX3_comesIn_93 : decode cX3_comesIn 93 = .ok (.iadd, 1) := dk_96 (dk_at dksX3_comesIn_3 21 rfl rfl)
theorem dX3_comesIn_94 : decode cX3_comesIn 94 = .ok (.aload_n 0, 1) := dk_42 (dk_at dksX3_comesIn_3 22 rfl rfl)
theorem dX3_comesIn_95 : decode cX3_comesIn 95 = .ok (.getfield 88, 3) := dk_180 0 88 (dk_at dksX3_comesIn_4 0 rfl rfl)
theorem dX3_comesIn_98 : decode cX3_comesIn 98 = .ok (.iload_n 3, 1) := dk_29 (dk_at dksX3_comesIn_4 3 rfl rfl)
theorem dX3_comesIn_99 : decode cX3_comesIn 99 = .ok (.iaload, 1) := dk_46 (dk_at dksX3_comesIn_4 4 rfl rfl)
theorem dX3_comesIn_100 : decode cX3_comesIn 100 = .ok (.iastore, 1) := dk_79 (dk_at dksX3_comesIn_4 5 rfl rfl)
theorem dX3_comesIn_101 : decode cX3_comesIn 101 = .ok (.iinc 3 1, 3) := dk_132 3 1 (dk_at dksX3_comesIn_4 6 rfl rfl)
theorem dX3_comesIn_104 : decode cX3_comesIn 104 = .ok (.goto (-27), 3) := dk_167 255 229 (dk_at dksX3_comesIn_4 9 rfl rfl)
theorem dX3_comesIn_107 : decode cX3_comesIn 107 = .ok (.aload_n 0, 1) := dk_42 (dk_at dksX3_comesIn_4 12 rfl rfl)
theorem dX3_comesIn_108 : decode cX3_comesIn 108 = .ok (.getfield 97, 3) := dk_180 0 97 (dk_at dksX3_comesIn_4 13 rfl rfl)
theorem dX3_comesIn_111 : decode cX3_comesIn 111 = .ok (.iload_n 1, 1) := dk_27 (dk_at dksX3_comesIn_4 16 rfl rfl)
theorem dX3_comesIn_112 : decode cX3_comesIn 112 = .ok (.dup2, 1) := dk_92 (dk_at dksX3_comesIn_4 17 rfl rfl)
theorem dX3_comesIn_113 : decode cX3_comesIn 113 = .ok (.iaload, 1) := dk_46 (dk_at dksX3_comesIn_4 18 rfl rfl)
theorem dX3_comesIn_114 : decode cX3_comesIn 114 = .ok (.iconst 1, 1) := dk_4 (dk_at dksX3_comesIn_4 19 rfl rfl)
theorem dX3_comesIn_115 : decode cX3_comesIn 115 = .ok (.iadd, 1) := dk_96 (dk_at dksX3_comesIn_4 20 rfl rfl)
theorem dX3_comesIn_116 : decode cX3_comesIn 116 = .ok (.iastore, 1) := dk_79 (dk_at dksX3_comesIn_4 21 rfl rfl)
theorem dX3_comesIn_117 : decode cX3_comesIn 117 = .ok (.return_, 1) := dk_177 (dk_at dksX3_comesIn_4 22 rfl rfl)
abbrev cX3_placeOfDepths : ByteArray := prog_21_method_64_code
def yX3_placeOfDepths : MethodName := ⟨RX3, "placeOfDepths", "(I)I"⟩
def dkwX3_placeOfDepths_1 : List UInt8 := [158, 0, 9, 132, 2, 1, 167, 255, 229, 28, 172]
abbrev dktX3_placeOfDepths_1 : List UInt8 := dkwX3_placeOfDepths_1 ++ []
def dkwX3_placeOfDepths_0 : List UInt8 := [3, 61, 28, 42, 180, 0, 97, 27, 46, 162, 0, 23, 42, 42, 27, 28, 182, 1, 85, 27, 182, 1, 88]
abbrev dktX3_placeOfDepths_0 : List UInt8 := dkwX3_placeOfDepths_0 ++ dktX3_placeOfDepths_1
theorem dksX3_placeOfDepths_0 : cX3_placeOfDepths.data.toList.drop 0 = dktX3_placeOfDepths_0 := by decide +kernel
theorem dksX3_placeOfDepths_1 : cX3_placeOfDepths.data.toList.drop 23 = dktX3_placeOfDepths_1 := dk_seg dksX3_placeOfDepths_0 23 rfl rfl
theorem dX3_placeOfDepths_0 : decode cX3_placeOfDepths 0 = .ok (.iconst 0, 1) := dk_3 (dk_at dksX3_placeOfDepths_0 0 rfl rfl)
theorem dX3_placeOfDepths_1 : decode cX3_placeOfDepths 1 = .ok (.istore_n 2, 1) := dk_61 (dk_at dksX3_placeOfDepths_0 1 rfl rfl)
theorem dX3_placeOfDepths_2 : decode cX3_placeOfDepths 2 = .ok (.iload_n 2, 1) := dk_28 (dk_at dksX3_placeOfDepths_0 2 rfl rfl)
theorem dX3_placeOfDepths_3 : decode cX3_placeOfDepths 3 = .ok (.aload_n 0, 1) := dk_42 (dk_at dksX3_placeOfDepths_0 3 rfl rfl)
theorem dX3_placeOfDepths_4 : decode cX3_placeOfDepths 4 = .ok (.getfield 97, 3) := dk_180 0 97 (dk_at dksX3_placeOfDepths_0 4 rfl rfl)
theorem dX3_placeOfDepths_7 : decode cX3_placeOfDepths 7 = .ok (.iload_n 1, 1) := dk_27 (dk_at dksX3_placeOfDepths_0 7 rfl rfl)
theorem dX3_placeOfDepths_8 : decode cX3_placeOfDepths 8 = .ok (.iaload, 1) := dk_46 (dk_at dksX3_placeOfDepths_0 8 rfl rfl)
theorem dX3_placeOfDepths_9 : decode cX3_placeOfDepths 9 = .ok (.if_icmp .ge 23, 3) := dk_162 0 23 (dk_at dksX3_placeOfDepths_0 9 rfl rfl)
theorem dX3_placeOfDepths_12 : decode cX3_placeOfDepths 12 = .ok (.aload_n 0, 1) := dk_42 (dk_at dksX3_placeOfDepths_0 12 rfl rfl)
theorem dX3_placeOfDepths_13 : decode cX3_placeOfDepths 13 = .ok (.aload_n 0, 1) := dk_42 (dk_at dksX3_placeOfDepths_0 13 rfl rfl)
theorem dX3_placeOfDepths_14 : decode cX3_placeOfDepths 14 = .ok (.iload_n 1, 1) := dk_27 (dk_at dksX3_placeOfDepths_0 14 rfl rfl)
theorem dX3_placeOfDepths_15 : decode cX3_placeOfDepths 15 = .ok (.iload_n 2, 1) := dk_28 (dk_at dksX3_placeOfDepths_0 15 rfl rfl)
theorem dX3_placeOfDepths_16 : decode cX3_placeOfDepths 16 = .ok (.invokevirtual 341, 3) := dk_182 1 85 (dk_at dksX3_placeOfDepths_0 16 rfl rfl)
theorem dX3_placeOfDepths_19 : decode cX3_placeOfDepths 19 = .ok (.iload_n 1, 1) := dk_27 (dk_at dksX3_placeOfDepths_0 19 rfl rfl)
theorem dX3_placeOfDepths_20 : decode cX3_placeOfDepths 20 = .ok (.invokevirtual 344, 3) := dk_182 1 88 (dk_at dksX3_placeOfDepths_0 20 rfl rfl)
theorem dX3_placeOfDepths_23 : decode cX3_placeOfDepths 23 = .ok (.ifCond .le 9, 3) := dk_158 0 9 (dk_at dksX3_placeOfDepths_1 0 rfl rfl)
theorem dX3_placeOfDepths_26 : decode cX3_placeOfDepths 26 = .ok (.iinc 2 1, 3) := dk_132 2 1 (dk_at dksX3_placeOfDepths_1 3 rfl rfl)
theorem dX3_placeOfDepths_29 : decode cX3_placeOfDepths 29 = .ok (.goto (-27), 3) := dk_167 255 229 (dk_at dksX3_placeOfDepths_1 6 rfl rfl)
theorem dX3_placeOfDepths_32 : decode cX3_placeOfDepths 32 = .ok (.iload_n 2, 1) := dk_28 (dk_at dksX3_placeOfDepths_1 9 rfl rfl)
theorem dX3_placeOfDepths_33 : decode cX3_placeOfDepths 33 = .ok (.ireturn, 1) := dk_172 (dk_at dksX3_placeOfDepths_1 10 rfl rfl)
abbrev cX3_againstCode : ByteArray := prog_21_method_63_code
def yX3_againstCode : MethodName := ⟨RX3, "againstCode", "(II)I"⟩
def dkwX3_againstCode_1 : List UInt8 := [42, 180, 0, 88, 29, 46, 42, 180, 0, 103, 27, 29, 96, 46, 100, 172, 132, 3, 1, 167, 255, 215, 3, 172]
abbrev dktX3_againstCode_1 : List UInt8 := dkwX3_againstCode_1 ++ []
def dkwX3_againstCode_0 : List UInt8 := [3, 62, 29, 28, 162, 0, 42, 42, 180, 0, 88, 29, 46, 42, 180, 0, 103, 27, 29, 96, 46, 159, 0, 19]
abbrev dktX3_againstCode_0 : List UInt8 := dkwX3_againstCode_0 ++ dktX3_againstCode_1
theorem dksX3_againstCode_0 : cX3_againstCode.data.toList.drop 0 = dktX3_againstCode_0 := by decide +kernel
theorem dksX3_againstCode_1 : cX3_againstCode.data.toList.drop 24 = dktX3_againstCode_1 := dk_seg dksX3_againstCode_0 24 rfl rfl
theorem dX3_againstCode_0 : decode cX3_againstCode 0 = .ok (.iconst 0, 1) := dk_3 (dk_at dksX3_againstCode_0 0 rfl rfl)
theorem dX3_againstCode_1 : decode cX3_againstCode 1 = .ok (.istore_n 3, 1) := dk_62 (dk_at dksX3_againstCode_0 1 rfl rfl)
theorem dX3_againstCode_2 : decode cX3_againstCode 2 = .ok (.iload_n 3, 1) := dk_29 (dk_at dksX3_againstCode_0 2 rfl rfl)
theorem dX3_againstCode_3 : decode cX3_againstCode 3 = .ok (.iload_n 2, 1) := dk_28 (dk_at dksX3_againstCode_0 3 rfl rfl)
theorem dX3_againstCode_4 : decode cX3_againstCode 4 = .ok (.if_icmp .ge 42, 3) := dk_162 0 42 (dk_at dksX3_againstCode_0 4 rfl rfl)
theorem dX3_againstCode_7 : decode cX3_againstCode 7 = .ok (.aload_n 0, 1) := dk_42 (dk_at dksX3_againstCode_0 7 rfl rfl)
theorem dX3_againstCode_8 : decode cX3_againstCode 8 = .ok (.getfield 88, 3) := dk_180 0 88 (dk_at dksX3_againstCode_0 8 rfl rfl)
theorem dX3_againstCode_11 : decode cX3_againstCode 11 = .ok (.iload_n 3, 1) := dk_29 (dk_at dksX3_againstCode_0 11 rfl rfl)
theorem dX3_againstCode_12 : decode cX3_againstCode 12 = .ok (.iaload, 1) := dk_46 (dk_at dksX3_againstCode_0 12 rfl rfl)
theorem dX3_againstCode_13 : decode cX3_againstCode 13 = .ok (.aload_n 0, 1) := dk_42 (dk_at dksX3_againstCode_0 13 rfl rfl)
theorem dX3_againstCode_14 : decode cX3_againstCode 14 = .ok (.getfield 103, 3) := dk_180 0 103 (dk_at dksX3_againstCode_0 14 rfl rfl)
theorem dX3_againstCode_17 : decode cX3_againstCode 17 = .ok (.iload_n 1, 1) := dk_27 (dk_at dksX3_againstCode_0 17 rfl rfl)
theorem dX3_againstCode_18 : decode cX3_againstCode 18 = .ok (.iload_n 3, 1) := dk_29 (dk_at dksX3_againstCode_0 18 rfl rfl)
theorem dX3_againstCode_19 : decode cX3_againstCode 19 = .ok (.iadd, 1) := dk_96 (dk_at dksX3_againstCode_0 19 rfl rfl)
theorem dX3_againstCode_20 : decode cX3_againstCode 20 = .ok (.iaload, 1) := dk_46 (dk_at dksX3_againstCode_0 20 rfl rfl)
theorem dX3_againstCode_21 : decode cX3_againstCode 21 = .ok (.if_icmp .eq 19, 3) := dk_159 0 19 (dk_at dksX3_againstCode_0 21 rfl rfl)
theorem dX3_againstCode_24 : decode cX3_againstCode 24 = .ok (.aload_n 0, 1) := dk_42 (dk_at dksX3_againstCode_1 0 rfl rfl)
theorem dX3_againstCode_25 : decode cX3_againstCode 25 = .ok (.getfield 88, 3) := dk_180 0 88 (dk_at dksX3_againstCode_1 1 rfl rfl)
theorem dX3_againstCode_28 : decode cX3_againstCode 28 = .ok (.iload_n 3, 1) := dk_29 (dk_at dksX3_againstCode_1 4 rfl rfl)
theorem dX3_againstCode_29 : decode cX3_againstCode 29 = .ok (.iaload, 1) := dk_46 (dk_at dksX3_againstCode_1 5 rfl rfl)
theorem dX3_againstCode_30 : decode cX3_againstCode 30 = .ok (.aload_n 0, 1) := dk_42 (dk_at dksX3_againstCode_1 6 rfl rfl)
theorem dX3_againstCode_31 : decode cX3_againstCode 31 = .ok (.getfield 103, 3) := dk_180 0 103 (dk_at dksX3_againstCode_1 7 rfl rfl)
theorem dX3_againstCode_34 : decode cX3_againstCode 34 = .ok (.iload_n 1, 1) := dk_27 (dk_at dksX3_againstCode_1 10 rfl rfl)
theorem dX3_againstCode_35 : decode cX3_againstCode 35 = .ok (.iload_n 3, 1) := dk_29 (dk_at dksX3_againstCode_1 11 rfl rfl)
theorem dX3_againstCode_36 : decode cX3_againstCode 36 = .ok (.iadd, 1) := dk_96 (dk_at dksX3_againstCode_1 12 rfl rfl)
theorem dX3_againstCode_37 : decode cX3_againstCode 37 = .ok (.iaload, 1) := dk_46 (dk_at dksX3_againstCode_1 13 rfl rfl)
theorem dX3_againstCode_38 : decode cX3_againstCode 38 = .ok (.isub, 1) := dk_100 (dk_at dksX3_againstCode_1 14 rfl rfl)
theorem dX3_againstCode_39 : decode cX3_againstCode 39 = .ok (.ireturn, 1) := dk_172 (dk_at dksX3_againstCode_1 15 rfl rfl)
theorem dX3_againstCode_40 : decode cX3_againstCode 40 = .ok (.iinc 3 1, 3) := dk_132 3 1 (dk_at dksX3_againstCode_1 16 rfl rfl)
theorem dX3_againstCode_43 : decode cX3_againstCode 43 = .ok (.goto (-41), 3) := dk_167 255 215 (dk_at dksX3_againstCode_1 19 rfl rfl)
theorem dX3_againstCode_46 : decode cX3_againstCode 46 = .ok (.iconst 0, 1) := dk_3 (dk_at dksX3_againstCode_1 22 rfl rfl)
theorem dX3_againstCode_47 : decode cX3_againstCode 47 = .ok (.ireturn, 1) := dk_172 (dk_at dksX3_againstCode_1 23 rfl rfl)
abbrev cX3_listed : ByteArray := prog_21_method_70_code
def yX3_listed : MethodName := ⟨RX3, "listed", "(III)I"⟩
def dkwX3_listed_1 : List UInt8 := [180, 0, 103, 42, 27, 28, 182, 1, 85, 29, 96, 46, 167, 0, 4, 2, 172]
abbrev dktX3_listed_1 : List UInt8 := dkwX3_listed_1 ++ []
def dkwX3_listed_0 : List UInt8 := [42, 27, 28, 182, 1, 115, 153, 0, 32, 29, 133, 9, 27, 4, 100, 133, 184, 0, 158, 153, 0, 19, 42]
abbrev dktX3_listed_0 : List UInt8 := dkwX3_listed_0 ++ dktX3_listed_1
theorem dksX3_listed_0 : cX3_listed.data.toList.drop 0 = dktX3_listed_0 := by decide +kernel
theorem dksX3_listed_1 : cX3_listed.data.toList.drop 23 = dktX3_listed_1 := dk_seg dksX3_listed_0 23 rfl rfl
theorem dX3_listed_0 : decode cX3_listed 0 = .ok (.aload_n 0, 1) := dk_42 (dk_at dksX3_listed_0 0 rfl rfl)
theorem dX3_listed_1 : decode cX3_listed 1 = .ok (.iload_n 1, 1) := dk_27 (dk_at dksX3_listed_0 1 rfl rfl)
theorem dX3_listed_2 : decode cX3_listed 2 = .ok (.iload_n 2, 1) := dk_28 (dk_at dksX3_listed_0 2 rfl rfl)
theorem dX3_listed_3 : decode cX3_listed 3 = .ok (.invokevirtual 371, 3) := dk_182 1 115 (dk_at dksX3_listed_0 3 rfl rfl)
theorem dX3_listed_6 : decode cX3_listed 6 = .ok (.ifCond .eq 32, 3) := dk_153 0 32 (dk_at dksX3_listed_0 6 rfl rfl)
theorem dX3_listed_9 : decode cX3_listed 9 = .ok (.iload_n 3, 1) := dk_29 (dk_at dksX3_listed_0 9 rfl rfl)
theorem dX3_listed_10 : decode cX3_listed 10 = .ok (.i2l, 1) := dk_133 (dk_at dksX3_listed_0 10 rfl rfl)
theorem dX3_listed_11 : decode cX3_listed 11 = .ok (.lconst 0, 1) := dk_9 (dk_at dksX3_listed_0 11 rfl rfl)
theorem dX3_listed_12 : decode cX3_listed 12 = .ok (.iload_n 1, 1) := dk_27 (dk_at dksX3_listed_0 12 rfl rfl)
theorem dX3_listed_13 : decode cX3_listed 13 = .ok (.iconst 1, 1) := dk_4 (dk_at dksX3_listed_0 13 rfl rfl)
theorem dX3_listed_14 : decode cX3_listed 14 = .ok (.isub, 1) := dk_100 (dk_at dksX3_listed_0 14 rfl rfl)
theorem dX3_listed_15 : decode cX3_listed 15 = .ok (.i2l, 1) := dk_133 (dk_at dksX3_listed_0 15 rfl rfl)
theorem dX3_listed_16 : decode cX3_listed 16 = .ok (.invokestatic 158, 3) := dk_184 0 158 (dk_at dksX3_listed_0 16 rfl rfl)
theorem dX3_listed_19 : decode cX3_listed 19 = .ok (.ifCond .eq 19, 3) := dk_153 0 19 (dk_at dksX3_listed_0 19 rfl rfl)
theorem dX3_listed_22 : decode cX3_listed 22 = .ok (.aload_n 0, 1) := dk_42 (dk_at dksX3_listed_0 22 rfl rfl)
theorem dX3_listed_23 : decode cX3_listed 23 = .ok (.getfield 103, 3) := dk_180 0 103 (dk_at dksX3_listed_1 0 rfl rfl)
theorem dX3_listed_26 : decode cX3_listed 26 = .ok (.aload_n 0, 1) := dk_42 (dk_at dksX3_listed_1 3 rfl rfl)
theorem dX3_listed_27 : decode cX3_listed 27 = .ok (.iload_n 1, 1) := dk_27 (dk_at dksX3_listed_1 4 rfl rfl)
theorem dX3_listed_28 : decode cX3_listed 28 = .ok (.iload_n 2, 1) := dk_28 (dk_at dksX3_listed_1 5 rfl rfl)
theorem dX3_listed_29 : decode cX3_listed 29 = .ok (.invokevirtual 341, 3) := dk_182 1 85 (dk_at dksX3_listed_1 6 rfl rfl)
theorem dX3_listed_32 : decode cX3_listed 32 = .ok (.iload_n 3, 1) := dk_29 (dk_at dksX3_listed_1 9 rfl rfl)
theorem dX3_listed_33 : decode cX3_listed 33 = .ok (.iadd, 1) := dk_96 (dk_at dksX3_listed_1 10 rfl rfl)
theorem dX3_listed_34 : decode cX3_listed 34 = .ok (.iaload, 1) := dk_46 (dk_at dksX3_listed_1 11 rfl rfl)
theorem dX3_listed_35 : decode cX3_listed 35 = .ok (.goto 4, 3) := dk_167 0 4 (dk_at dksX3_listed_1 12 rfl rfl)
theorem dX3_listed_38 : decode cX3_listed 38 = .ok (.iconst (-1), 1) := dk_2 (dk_at dksX3_listed_1 15 rfl rfl)
theorem dX3_listed_39 : decode cX3_listed 39 = .ok (.ireturn, 1) := dk_172 (dk_at dksX3_listed_1 16 rfl rfl)
abbrev cX3_rank : ByteArray := prog_21_method_71_code
def yX3_rank : MethodName := ⟨RX3, "rank", "()I"⟩
def dkwX3_rank_1 : List UInt8 := [182, 1, 97, 42, 42, 180, 0, 7, 3, 46, 182, 1, 91, 172]
abbrev dktX3_rank_1 : List UInt8 := dkwX3_rank_1 ++ []
def dkwX3_rank_0 : List UInt8 := [42, 180, 0, 7, 3, 46, 16, 11, 164, 0, 6, 16, 254, 172, 42, 182, 1, 112, 42, 182, 1, 118, 42]
abbrev dktX3_rank_0 : List UInt8 := dkwX3_rank_0 ++ dktX3_rank_1
theorem dksX3_rank_0 : cX3_rank.data.toList.drop 0 = dktX3_rank_0 := by decide +kernel
theorem dksX3_rank_1 : cX3_rank.data.toList.drop 23 = dktX3_rank_1 := dk_seg dksX3_rank_0 23 rfl rfl
theorem dX3_rank_0 : decode cX3_rank 0 = .ok (.aload_n 0, 1) := dk_42 (dk_at dksX3_rank_0 0 rfl rfl)
theorem dX3_rank_1 : decode cX3_rank 1 = .ok (.getfield 7, 3) := dk_180 0 7 (dk_at dksX3_rank_0 1 rfl rfl)
theorem dX3_rank_4 : decode cX3_rank 4 = .ok (.iconst 0, 1) := dk_3 (dk_at dksX3_rank_0 4 rfl rfl)
theorem dX3_rank_5 : decode cX3_rank 5 = .ok (.iaload, 1) := dk_46 (dk_at dksX3_rank_0 5 rfl rfl)
theorem dX3_rank_6 : decode cX3_rank 6 = .ok (.bipush 11, 2) := dk_16 11 (dk_at dksX3_rank_0 6 rfl rfl)
theorem dX3_rank_8 : decode cX3_rank 8 = .ok (.if_icmp .le 6, 3) := dk_164 0 6 (dk_at dksX3_rank_0 8 rfl rfl)
theorem dX3_rank_11 : decode cX3_rank 11 = .ok (.bipush (-2), 2) := dk_16 254 (dk_at dksX3_rank_0 11 rfl rfl)
theorem dX3_rank_13 : decode cX3_rank 13 = .ok (.ireturn, 1) := dk_172 (dk_at dksX3_rank_0 13 rfl rfl)
theorem dX3_rank_14 : decode cX3_rank 14 = .ok (.aload_n 0, 1) := dk_42 (dk_at dksX3_rank_0 14 rfl rfl)
theorem dX3_rank_15 : decode cX3_rank 15 = .ok (.invokevirtual 368, 3) := dk_182 1 112 (dk_at dksX3_rank_0 15 rfl rfl)
theorem dX3_rank_18 : decode cX3_rank 18 = .ok (.aload_n 0, 1) := dk_42 (dk_at dksX3_rank_0 18 rfl rfl)
theorem dX3_rank_19 : decode cX3_rank 19 = .ok (.invokevirtual 374, 3) := dk_182 1 118 (dk_at dksX3_rank_0 19 rfl rfl)
theorem dX3_rank_22 : decode cX3_rank 22 = .ok (.aload_n 0, 1) := dk_42 (dk_at dksX3_rank_0 22 rfl rfl)
theorem dX3_rank_23 : decode cX3_rank 23 = .ok (.invokevirtual 353, 3) := dk_182 1 97 (dk_at dksX3_rank_1 0 rfl rfl)
theorem dX3_rank_26 : decode cX3_rank 26 = .ok (.aload_n 0, 1) := dk_42 (dk_at dksX3_rank_1 3 rfl rfl)
theorem dX3_rank_27 : decode cX3_rank 27 = .ok (.aload_n 0, 1) := dk_42 (dk_at dksX3_rank_1 4 rfl rfl)
theorem dX3_rank_28 : decode cX3_rank 28 = .ok (.getfield 7, 3) := dk_180 0 7 (dk_at dksX3_rank_1 5 rfl rfl)
theorem dX3_rank_31 : decode cX3_rank 31 = .ok (.iconst 0, 1) := dk_3 (dk_at dksX3_rank_1 8 rfl rfl)
theorem dX3_rank_32 : decode cX3_rank 32 = .ok (.iaload, 1) := dk_46 (dk_at dksX3_rank_1 9 rfl rfl)
theorem dX3_rank_33 : decode cX3_rank 33 = .ok (.invokevirtual 347, 3) := dk_182 1 91 (dk_at dksX3_rank_1 10 rfl rfl)
theorem dX3_rank_36 : decode cX3_rank 36 = .ok (.ireturn, 1) := dk_172 (dk_at dksX3_rank_1 13 rfl rfl)
abbrev cX3_looks : ByteArray := prog_21_method_56_code
def yX3_looks : MethodName := ⟨RX3, "looks", "()V"⟩
def dkwX3_looks_0 : List UInt8 := [42, 42, 180, 0, 7, 3, 182, 1, 69, 42, 182, 1, 73, 177]
abbrev dktX3_looks_0 : List UInt8 := dkwX3_looks_0 ++ []
theorem dksX3_looks_0 : cX3_looks.data.toList.drop 0 = dktX3_looks_0 := by decide +kernel
theorem dX3_looks_0 : decode cX3_looks 0 = .ok (.aload_n 0, 1) := dk_42 (dk_at dksX3_looks_0 0 rfl rfl)
theorem dX3_looks_1 : decode cX3_looks 1 = .ok (.aload_n 0, 1) := dk_42 (dk_at dksX3_looks_0 1 rfl rfl)
theorem dX3_looks_2 : decode cX3_looks 2 = .ok (.getfield 7, 3) := dk_180 0 7 (dk_at dksX3_looks_0 2 rfl rfl)
theorem dX3_looks_5 : decode cX3_looks 5 = .ok (.iconst 0, 1) := dk_3 (dk_at dksX3_looks_0 5 rfl rfl)
theorem dX3_looks_6 : decode cX3_looks 6 = .ok (.invokevirtual 325, 3) := dk_182 1 69 (dk_at dksX3_looks_0 6 rfl rfl)
theorem dX3_looks_9 : decode cX3_looks 9 = .ok (.aload_n 0, 1) := dk_42 (dk_at dksX3_looks_0 9 rfl rfl)
theorem dX3_looks_10 : decode cX3_looks 10 = .ok (.invokevirtual 329, 3) := dk_182 1 73 (dk_at dksX3_looks_0 10 rfl rfl)
theorem dX3_looks_13 : decode cX3_looks 13 = .ok (.return_, 1) := dk_177 (dk_at dksX3_looks_0 13 rfl rfl)
abbrev cX3_measures : ByteArray := prog_21_method_55_code
def yX3_measures : MethodName := ⟨RX3, "measures", "()V"⟩
def dkwX3_measures_4 : List UInt8 := [130, 126, 62, 28, 21, 5, 128, 61, 132, 4, 1, 167, 255, 174, 132, 1, 1, 167, 255, 149, 177]
abbrev dktX3_measures_4 : List UInt8 := dkwX3_measures_4 ++ []
def dkwX3_measures_3 : List UInt8 := [21, 5, 42, 180, 0, 64, 4, 21, 6, 96, 46, 128, 54, 5, 132, 6, 1, 167, 255, 202, 21, 5, 28, 2]
abbrev dktX3_measures_3 : List UInt8 := dkwX3_measures_3 ++ dktX3_measures_4
def dkwX3_measures_2 : List UInt8 := [184, 0, 184, 154, 0, 6, 167, 0, 31, 42, 180, 0, 85, 16, 16, 27, 104, 21, 6, 96, 21, 4, 79]
abbrev dktX3_measures_2 : List UInt8 := dkwX3_measures_2 ++ dktX3_measures_3
def dkwX3_measures_1 : List UInt8 := [153, 0, 84, 3, 54, 5, 3, 54, 6, 21, 6, 42, 180, 0, 64, 3, 46, 162, 0, 49, 29, 21, 6]
abbrev dktX3_measures_1 : List UInt8 := dkwX3_measures_1 ++ dktX3_measures_2
def dkwX3_measures_0 : List UInt8 := [3, 60, 27, 42, 180, 0, 64, 3, 46, 162, 0, 103, 4, 27, 120, 61, 28, 62, 3, 54, 4, 29]
abbrev dktX3_measures_0 : List UInt8 := dkwX3_measures_0 ++ dktX3_measures_1
theorem dksX3_measures_0 : cX3_measures.data.toList.drop 0 = dktX3_measures_0 := by decide +kernel
theorem dksX3_measures_1 : cX3_measures.data.toList.drop 22 = dktX3_measures_1 := dk_seg dksX3_measures_0 22 rfl rfl
theorem dksX3_measures_2 : cX3_measures.data.toList.drop 45 = dktX3_measures_2 := dk_seg dksX3_measures_1 23 rfl rfl
theorem dksX3_measures_3 : cX3_measures.data.toList.drop 68 = dktX3_measures_3 := dk_seg dksX3_measures_2 23 rfl rfl
theorem dksX3_measures_4 : cX3_measures.data.toList.drop 92 = dktX3_measures_4 := dk_seg dksX3_measures_3 24 rfl rfl
theorem dX3_measures_0 : decode cX3_measures 0 = .ok (.iconst 0, 1) := dk_3 (dk_at dksX3_measures_0 0 rfl rfl)
theorem dX3_measures_1 : decode cX3_measures 1 = .ok (.istore_n 1, 1) := dk_60 (dk_at dksX3_measures_0 1 rfl rfl)
theorem dX3_measures_2 : decode cX3_measures 2 = .ok (.iload_n 1, 1) := dk_27 (dk_at dksX3_measures_0 2 rfl rfl)
theorem dX3_measures_3 : decode cX3_measures 3 = .ok (.aload_n 0, 1) := dk_42 (dk_at dksX3_measures_0 3 rfl rfl)
theorem dX3_measures_4 : decode cX3_measures 4 = .ok (.getfield 64, 3) := dk_180 0 64 (dk_at dksX3_measures_0 4 rfl rfl)
theorem dX3_measures_7 : decode cX3_measures 7 = .ok (.iconst 0, 1) := dk_3 (dk_at dksX3_measures_0 7 rfl rfl)
theorem dX3_measures_8 : decode cX3_measures 8 = .ok (.iaload, 1) := dk_46 (dk_at dksX3_measures_0 8 rfl rfl)
theorem dX3_measures_9 : decode cX3_measures 9 = .ok (.if_icmp .ge 103, 3) := dk_162 0 103 (dk_at dksX3_measures_0 9 rfl rfl)
theorem dX3_measures_12 : decode cX3_measures 12 = .ok (.iconst 1, 1) := dk_4 (dk_at dksX3_measures_0 12 rfl rfl)
theorem dX3_measures_13 : decode cX3_measures 13 = .ok (.iload_n 1, 1) := dk_27 (dk_at dksX3_measures_0 13 rfl rfl)
theorem dX3_measures_14 : decode cX3_measures 14 = .ok (.ishl, 1) := dk_120 (dk_at dksX3_measures_0 14 rfl rfl)
theorem dX3_measures_15 : decode cX3_measures 15 = .ok (.istore_n 2, 1) := dk_61 (dk_at dksX3_measures_0 15 rfl rfl)
theorem dX3_measures_16 : decode cX3_measures 16 = .ok (.iload_n 2, 1) := dk_28 (dk_at dksX3_measures_0 16 rfl rfl)
theorem dX3_measures_17 : decode cX3_measures 17 = .ok (.istore_n 3, 1) := dk_62 (dk_at dksX3_measures_0 17 rfl rfl)
theorem dX3_measures_18 : decode cX3_measures 18 = .ok (.iconst 0, 1) := dk_3 (dk_at dksX3_measures_0 18 rfl rfl)
theorem dX3_measures_19 : decode cX3_measures 19 = .ok (.istore 4, 2) := dk_54 4 (dk_at dksX3_measures_0 19 rfl rfl)
theorem dX3_measures_21 : decode cX3_measures 21 = .ok (.iload_n 3, 1) := dk_29 (dk_at dksX3_measures_0 21 rfl rfl)
theorem dX3_measures_22 : decode cX3_measures 22 = .ok (.ifCond .eq 84, 3) := dk_153 0 84 (dk_at dksX3_measures_1 0 rfl rfl)
theorem dX3_measures_25 : decode cX3_measures 25 = .ok (.iconst 0, 1) := dk_3 (dk_at dksX3_measures_1 3 rfl rfl)
theorem dX3_measures_26 : decode cX3_measures 26 = .ok (.istore 5, 2) := dk_54 5 (dk_at dksX3_measures_1 4 rfl rfl)
theorem dX3_measures_28 : decode cX3_measures 28 = .ok (.iconst 0, 1) := dk_3 (dk_at dksX3_measures_1 6 rfl rfl)
theorem dX3_measures_29 : decode cX3_measures 29 = .ok (.istore 6, 2) := dk_54 6 (dk_at dksX3_measures_1 7 rfl rfl)
theorem dX3_measures_31 : decode cX3_measures 31 = .ok (.iload 6, 2) := dk_21 6 (dk_at dksX3_measures_1 9 rfl rfl)
theorem dX3_measures_33 : decode cX3_measures 33 = .ok (.aload_n 0, 1) := dk_42 (dk_at dksX3_measures_1 11 rfl rfl)
theorem dX3_measures_34 : decode cX3_measures 34 = .ok (.getfield 64, 3) := dk_180 0 64 (dk_at dksX3_measures_1 12 rfl rfl)
theorem dX3_measures_37 : decode cX3_measures 37 = .ok (.iconst 0, 1) := dk_3 (dk_at dksX3_measures_1 15 rfl rfl)
theorem dX3_measures_38 : decode cX3_measures 38 = .ok (.iaload, 1) := dk_46 (dk_at dksX3_measures_1 16 rfl rfl)
theorem dX3_measures_39 : decode cX3_measures 39 = .ok (.if_icmp .ge 49, 3) := dk_162 0 49 (dk_at dksX3_measures_1 17 rfl rfl)
theorem dX3_measures_42 : decode cX3_measures 42 = .ok (.iload_n 3, 1) := dk_29 (dk_at dksX3_measures_1 20 rfl rfl)
theorem dX3_measures_43 : decode cX3_measures 43 = .ok (.iload 6, 2) := dk_21 6 (dk_at dksX3_measures_1 21 rfl rfl)
theorem dX3_measures_45 : decode cX3_measures 45 = .ok (.invokestatic 184, 3) := dk_184 0 184 (dk_at dksX3_measures_2 0 rfl rfl)
theorem dX3_measures_48 : decode cX3_measures 48 = .ok (.ifCond .ne 6, 3) := dk_154 0 6 (dk_at dksX3_measures_2 3 rfl rfl)
theorem dX3_measures_51 : decode cX3_measures 51 = .ok (.goto 31, 3) := dk_167 0 31 (dk_at dksX3_measures_2 6 rfl rfl)
theorem dX3_measures_54 : decode cX3_measures 54 = .ok (.aload_n 0, 1) := dk_42 (dk_at dksX3_measures_2 9 rfl rfl)
theorem dX3_measures_55 : decode cX3_measures 55 = .ok (.getfield 85, 3) := dk_180 0 85 (dk_at dksX3_measures_2 10 rfl rfl)
theorem dX3_measures_58 : decode cX3_measures 58 = .ok (.bipush 16, 2) := dk_16 16 (dk_at dksX3_measures_2 13 rfl rfl)
theorem dX3_measures_60 : decode cX3_measures 60 = .ok (.iload_n 1, 1) := dk_27 (dk_at dksX3_measures_2 15 rfl rfl)
theorem dX3_measures_61 : decode cX3_measures 61 = .ok (.imul, 1) := dk_104 (dk_at dksX3_measures_2 16 rfl rfl)
theorem dX3_measures_62 : decode cX3_measures 62 = .ok (.iload 6, 2) := dk_21 6 (dk_at dksX3_measures_2 17 rfl rfl)
theorem dX3_measures_64 : decode cX3_measures 64 = .ok (.iadd, 1) := dk_96 (dk_at dksX3_measures_2 19 rfl rfl)
theorem dX3_measures_65 : decode cX3_measures 65 = .ok (.iload 4, 2) := dk_21 4 (dk_at dksX3_measures_2 20 rfl rfl)
theorem dX3_measures_67 : decode cX3_measures 67 = .ok (.iastore, 1) := dk_79 (dk_at dksX3_measures_2 22 rfl rfl)
theorem dX3_measures_68 : decode cX3_measures 68 = .ok (.iload 5, 2) := dk_21 5 (dk_at dksX3_measures_3 0 rfl rfl)
theorem dX3_measures_70 : decode cX3_measures 70 = .ok (.aload_n 0, 1) := dk_42 (dk_at dksX3_measures_3 2 rfl rfl)
theorem dX3_measures_71 : decode cX3_measures 71 = .ok (.getfield 64, 3) := dk_180 0 64 (dk_at dksX3_measures_3 3 rfl rfl)
theorem dX3_measures_74 : decode cX3_measures 74 = .ok (.iconst 1, 1) := dk_4 (dk_at dksX3_measures_3 6 rfl rfl)
theorem dX3_measures_75 : decode cX3_measures 75 = .ok (.iload 6, 2) := dk_21 6 (dk_at dksX3_measures_3 7 rfl rfl)
theorem dX3_measures_77 : decode cX3_measures 77 = .ok (.iadd, 1) := dk_96 (dk_at dksX3_measures_3 9 rfl rfl)
theorem dX3_measures_78 : decode cX3_measures 78 = .ok (.iaload, 1) := dk_46 (dk_at dksX3_measures_3 10 rfl rfl)
theorem dX3_measures_79 : decode cX3_measures 79 = .ok (.ior, 1) := dk_128 (dk_at dksX3_measures_3 11 rfl rfl)
theorem dX3_measures_80 : decode cX3_measures 80 = .ok (.istore 5, 2) := dk_54 5 (dk_at dksX3_measures_3 12 rfl rfl)
theorem dX3_measures_82 : decode cX3_measures 82 = .ok (.iinc 6 1, 3) := dk_132 6 1 (dk_at dksX3_measures_3 14 rfl rfl)
theorem dX3_measures_85 : decode cX3_measures 85 = .ok (.goto (-54), 3) := dk_167 255 202 (dk_at dksX3_measures_3 17 rfl rfl)
theorem dX3_measures_88 : decode cX3_measures 88 = .ok (.iload 5, 2) := dk_21 5 (dk_at dksX3_measures_3 20 rfl rfl)
theorem dX3_measures_90 : decode cX3_measures 90 = .ok (.iload_n 2, 1) := dk_28 (dk_at dksX3_measures_3 22 rfl rfl)
theorem dX3_measures_91 : decode cX3_measures 91 = .ok (.iconst (-1), 1) := dk_2 (dk_at dksX3_measures_3 23 rfl rfl)
theorem dX3_measures_92 : decode cX3_measures 92 = .ok (.ixor, 1) := dk_130 (dk_at dksX3_measures_4 0 rfl rfl)
theorem dX3_measures_93 : decode cX3_measures 93 = .ok (.iand, 1) := dk_126 (dk_at dksX3_measures_4 1 rfl rfl)
theorem dX3_measures_94 : decode cX3_measures 94 = .ok (.istore_n 3, 1) := dk_62 (dk_at dksX3_measures_4 2 rfl rfl)
theorem dX3_measures_95 : decode cX3_measures 95 = .ok (.iload_n 2, 1) := dk_28 (dk_at dksX3_measures_4 3 rfl rfl)
theorem dX3_measures_96 : decode cX3_measures 96 = .ok (.iload 5, 2) := dk_21 5 (dk_at dksX3_measures_4 4 rfl rfl)
theorem dX3_measures_98 : decode cX3_measures 98 = .ok (.ior, 1) := dk_128 (dk_at dksX3_measures_4 6 rfl rfl)
theorem dX3_measures_99 : decode cX3_measures 99 = .ok (.istore_n 2, 1) := dk_61 (dk_at dksX3_measures_4 7 rfl rfl)
theorem dX3_measures_100 : decode cX3_measures 100 = .ok (.iinc 4 1, 3) := dk_132 4 1 (dk_at dksX3_measures_4 8 rfl rfl)
theorem dX3_measures_103 : decode cX3_measures 103 = .ok (.goto (-82), 3) := dk_167 255 174 (dk_at dksX3_measures_4 11 rfl rfl)
theorem dX3_measures_106 : decode cX3_measures 106 = .ok (.iinc 1 1, 3) := dk_132 1 1 (dk_at dksX3_measures_4 14 rfl rfl)
theorem dX3_measures_109 : decode cX3_measures 109 = .ok (.goto (-107), 3) := dk_167 255 149 (dk_at dksX3_measures_4 17 rfl rfl)
theorem dX3_measures_112 : decode cX3_measures 112 = .ok (.return_, 1) := dk_177 (dk_at dksX3_measures_4 20 rfl rfl)
abbrev cX3_code : ByteArray := prog_21_method_72_code
def yX3_code : MethodName := ⟨RX3, "code", "(I)I"⟩
def dkwX3_code_1 : List UInt8 := [42, 182, 1, 97, 42, 180, 0, 88, 27, 46, 172]
abbrev dktX3_code_1 : List UInt8 := dkwX3_code_1 ++ []
def dkwX3_code_0 : List UInt8 := [27, 133, 9, 42, 180, 0, 7, 3, 46, 4, 100, 133, 184, 0, 158, 154, 0, 5, 2, 172, 42, 182, 1, 118]
abbrev dktX3_code_0 : List UInt8 := dkwX3_code_0 ++ dktX3_code_1
theorem dksX3_code_0 : cX3_code.data.toList.drop 0 = dktX3_code_0 := by decide +kernel
theorem dksX3_code_1 : cX3_code.data.toList.drop 24 = dktX3_code_1 := dk_seg dksX3_code_0 24 rfl rfl
theorem dX3_code_0 : decode cX3_code 0 = .ok (.iload_n 1, 1) := dk_27 (dk_at dksX3_code_0 0 rfl rfl)
theorem dX3_code_1 : decode cX3_code 1 = .ok (.i2l, 1) := dk_133 (dk_at dksX3_code_0 1 rfl rfl)
theorem dX3_code_2 : decode cX3_code 2 = .ok (.lconst 0, 1) := dk_9 (dk_at dksX3_code_0 2 rfl rfl)
theorem dX3_code_3 : decode cX3_code 3 = .ok (.aload_n 0, 1) := dk_42 (dk_at dksX3_code_0 3 rfl rfl)
theorem dX3_code_4 : decode cX3_code 4 = .ok (.getfield 7, 3) := dk_180 0 7 (dk_at dksX3_code_0 4 rfl rfl)
theorem dX3_code_7 : decode cX3_code 7 = .ok (.iconst 0, 1) := dk_3 (dk_at dksX3_code_0 7 rfl rfl)
theorem dX3_code_8 : decode cX3_code 8 = .ok (.iaload, 1) := dk_46 (dk_at dksX3_code_0 8 rfl rfl)
theorem dX3_code_9 : decode cX3_code 9 = .ok (.iconst 1, 1) := dk_4 (dk_at dksX3_code_0 9 rfl rfl)
theorem dX3_code_10 : decode cX3_code 10 = .ok (.isub, 1) := dk_100 (dk_at dksX3_code_0 10 rfl rfl)
theorem dX3_code_11 : decode cX3_code 11 = .ok (.i2l, 1) := dk_133 (dk_at dksX3_code_0 11 rfl rfl)
theorem dX3_code_12 : decode cX3_code 12 = .ok (.invokestatic 158, 3) := dk_184 0 158 (dk_at dksX3_code_0 12 rfl rfl)
theorem dX3_code_15 : decode cX3_code 15 = .ok (.ifCond .ne 5, 3) := dk_154 0 5 (dk_at dksX3_code_0 15 rfl rfl)
theorem dX3_code_18 : decode cX3_code 18 = .ok (.iconst (-1), 1) := dk_2 (dk_at dksX3_code_0 18 rfl rfl)
theorem dX3_code_19 : decode cX3_code 19 = .ok (.ireturn, 1) := dk_172 (dk_at dksX3_code_0 19 rfl rfl)
theorem dX3_code_20 : decode cX3_code 20 = .ok (.aload_n 0, 1) := dk_42 (dk_at dksX3_code_0 20 rfl rfl)
theorem dX3_code_21 : decode cX3_code 21 = .ok (.invokevirtual 374, 3) := dk_182 1 118 (dk_at dksX3_code_0 21 rfl rfl)
theorem dX3_code_24 : decode cX3_code 24 = .ok (.aload_n 0, 1) := dk_42 (dk_at dksX3_code_1 0 rfl rfl)
theorem dX3_code_25 : decode cX3_code 25 = .ok (.invokevirtual 353, 3) := dk_182 1 97 (dk_at dksX3_code_1 1 rfl rfl)
theorem dX3_code_28 : decode cX3_code 28 = .ok (.aload_n 0, 1) := dk_42 (dk_at dksX3_code_1 4 rfl rfl)
theorem dX3_code_29 : decode cX3_code 29 = .ok (.getfield 88, 3) := dk_180 0 88 (dk_at dksX3_code_1 5 rfl rfl)
theorem dX3_code_32 : decode cX3_code 32 = .ok (.iload_n 1, 1) := dk_27 (dk_at dksX3_code_1 8 rfl rfl)
theorem dX3_code_33 : decode cX3_code 33 = .ok (.iaload, 1) := dk_46 (dk_at dksX3_code_1 9 rfl rfl)
theorem dX3_code_34 : decode cX3_code 34 = .ok (.ireturn, 1) := dk_172 (dk_at dksX3_code_1 10 rfl rfl)
abbrev cX3_like : ByteArray := prog_21_method_73_code
def yX3_like : MethodName := ⟨RX3, "like", "(I)I"⟩
def dkwX3_like_5 : List UInt8 := [46, 42, 180, 0, 88, 28, 46, 159, 0, 5, 3, 172, 132, 2, 1, 167, 255, 226, 4, 172]
abbrev dktX3_like_5 : List UInt8 := dkwX3_like_5 ++ []
def dkwX3_like_4 : List UInt8 := [182, 1, 69, 42, 182, 1, 97, 3, 61, 28, 42, 180, 0, 7, 3, 46, 162, 0, 26, 42, 180, 0, 109, 28]
abbrev dktX3_like_4 : List UInt8 := dkwX3_like_4 ++ dktX3_like_5
def dkwX3_like_3 : List UInt8 := [42, 180, 0, 88, 28, 46, 79, 132, 2, 1, 167, 255, 231, 42, 42, 180, 0, 16, 16, 17, 27, 104]
abbrev dktX3_like_3 : List UInt8 := dkwX3_like_3 ++ dktX3_like_4
def dkwX3_like_2 : List UInt8 := [182, 1, 118, 42, 182, 1, 97, 3, 61, 28, 42, 180, 0, 7, 3, 46, 162, 0, 21, 42, 180, 0, 109, 28]
abbrev dktX3_like_2 : List UInt8 := dkwX3_like_2 ++ dktX3_like_3
def dkwX3_like_1 : List UInt8 := [16, 254, 172, 42, 180, 0, 16, 16, 17, 27, 104, 46, 42, 180, 0, 7, 3, 46, 159, 0, 5, 3, 172, 42]
abbrev dktX3_like_1 : List UInt8 := dkwX3_like_1 ++ dktX3_like_2
def dkwX3_like_0 : List UInt8 := [27, 133, 9, 20, 0, 156, 184, 0, 158, 154, 0, 5, 2, 172, 42, 180, 0, 19, 27, 51, 154, 0, 6]
abbrev dktX3_like_0 : List UInt8 := dkwX3_like_0 ++ dktX3_like_1
theorem dksX3_like_0 : cX3_like.data.toList.drop 0 = dktX3_like_0 := by decide +kernel
theorem dksX3_like_1 : cX3_like.data.toList.drop 23 = dktX3_like_1 := dk_seg dksX3_like_0 23 rfl rfl
theorem dksX3_like_2 : cX3_like.data.toList.drop 47 = dktX3_like_2 := dk_seg dksX3_like_1 24 rfl rfl
theorem dksX3_like_3 : cX3_like.data.toList.drop 71 = dktX3_like_3 := dk_seg dksX3_like_2 24 rfl rfl
theorem dksX3_like_4 : cX3_like.data.toList.drop 93 = dktX3_like_4 := dk_seg dksX3_like_3 22 rfl rfl
theorem dksX3_like_5 : cX3_like.data.toList.drop 117 = dktX3_like_5 := dk_seg dksX3_like_4 24 rfl rfl
theorem dX3_like_0 : decode cX3_like 0 = .ok (.iload_n 1, 1) := dk_27 (dk_at dksX3_like_0 0 rfl rfl)
theorem dX3_like_1 : decode cX3_like 1 = .ok (.i2l, 1) := dk_133 (dk_at dksX3_like_0 1 rfl rfl)
theorem dX3_like_2 : decode cX3_like 2 = .ok (.lconst 0, 1) := dk_9 (dk_at dksX3_like_0 2 rfl rfl)
theorem dX3_like_3 : decode cX3_like 3 = .ok (.ldc2_w 156, 3) := dk_20 0 156 (dk_at dksX3_like_0 3 rfl rfl)
theorem dX3_like_6 : decode cX3_like 6 = .ok (.invokestatic 158, 3) := dk_184 0 158 (dk_at dksX3_like_0 6 rfl rfl)
theorem dX3_like_9 : decode cX3_like 9 = .ok (.ifCond .ne 5, 3) := dk_154 0 5 (dk_at dksX3_like_0 9 rfl rfl)
theorem dX3_like_12 : decode cX3_like 12 = .ok (.iconst (-1), 1) := dk_2 (dk_at dksX3_like_0 12 rfl rfl)
theorem dX3_like_13 : decode cX3_like 13 = .ok (.ireturn, 1) := dk_172 (dk_at dksX3_like_0 13 rfl rfl)
theorem dX3_like_14 : decode cX3_like 14 = .ok (.aload_n 0, 1) := dk_42 (dk_at dksX3_like_0 14 rfl rfl)
theorem dX3_like_15 : decode cX3_like 15 = .ok (.getfield 19, 3) := dk_180 0 19 (dk_at dksX3_like_0 15 rfl rfl)
theorem dX3_like_18 : decode cX3_like 18 = .ok (.iload_n 1, 1) := dk_27 (dk_at dksX3_like_0 18 rfl rfl)
theorem dX3_like_19 : decode cX3_like 19 = .ok (.baload, 1) := dk_51 (dk_at dksX3_like_0 19 rfl rfl)
theorem dX3_like_20 : decode cX3_like 20 = .ok (.ifCond .ne 6, 3) := dk_154 0 6 (dk_at dksX3_like_0 20 rfl rfl)
theorem dX3_like_23 : decode cX3_like 23 = .ok (.bipush (-2), 2) := dk_16 254 (dk_at dksX3_like_1 0 rfl rfl)
theorem dX3_like_25 : decode cX3_like 25 = .ok (.ireturn, 1) := dk_172 (dk_at dksX3_like_1 2 rfl rfl)
theorem dX3_like_26 : decode cX3_like 26 = .ok (.aload_n 0, 1) := dk_42 (dk_at dksX3_like_1 3 rfl rfl)
theorem dX3_like_27 : decode cX3_like 27 = .ok (.getfield 16, 3) := dk_180 0 16 (dk_at dksX3_like_1 4 rfl rfl)
theorem dX3_like_30 : decode cX3_like 30 = .ok (.bipush 17, 2) := dk_16 17 (dk_at dksX3_like_1 7 rfl rfl)
theorem dX3_like_32 : decode cX3_like 32 = .ok (.iload_n 1, 1) := dk_27 (dk_at dksX3_like_1 9 rfl rfl)
theorem dX3_like_33 : decode cX3_like 33 = .ok (.imul, 1) := dk_104 (dk_at dksX3_like_1 10 rfl rfl)
theorem dX3_like_34 : decode cX3_like 34 = .ok (.iaload, 1) := dk_46 (dk_at dksX3_like_1 11 rfl rfl)
theorem dX3_like_35 : decode cX3_like 35 = .ok (.aload_n 0, 1) := dk_42 (dk_at dksX3_like_1 12 rfl rfl)
theorem dX3_like_36 : decode cX3_like 36 = .ok (.getfield 7, 3) := dk_180 0 7 (dk_at dksX3_like_1 13 rfl rfl)
theorem dX3_like_39 : decode cX3_like 39 = .ok (.iconst 0, 1) := dk_3 (dk_at dksX3_like_1 16 rfl rfl)
theorem dX3_like_40 : decode cX3_like 40 = .ok (.iaload, 1) := dk_46 (dk_at dksX3_like_1 17 rfl rfl)
theorem dX3_like_41 : decode cX3_like 41 = .ok (.if_icmp .eq 5, 3) := dk_159 0 5 (dk_at dksX3_like_1 18 rfl rfl)
theorem dX3_like_44 : decode cX3_like 44 = .ok (.iconst 0, 1) := dk_3 (dk_at dksX3_like_1 21 rfl rfl)
theorem dX3_like_45 : decode cX3_like 45 = .ok (.ireturn, 1) := dk_172 (dk_at dksX3_like_1 22 rfl rfl)
theorem dX3_like_46 : decode cX3_like 46 = .ok (.aload_n 0, 1) := dk_42 (dk_at dksX3_like_1 23 rfl rfl)
theorem dX3_like_47 : decode cX3_like 47 = .ok (.invokevirtual 374, 3) := dk_182 1 118 (dk_at dksX3_like_2 0 rfl rfl)
theorem dX3_like_50 : decode cX3_like 50 = .ok (.aload_n 0, 1) := dk_42 (dk_at dksX3_like_2 3 rfl rfl)
theorem dX3_like_51 : decode cX3_like 51 = .ok (.invokevirtual 353, 3) := dk_182 1 97 (dk_at dksX3_like_2 4 rfl rfl)
theorem dX3_like_54 : decode cX3_like 54 = .ok (.iconst 0, 1) := dk_3 (dk_at dksX3_like_2 7 rfl rfl)
theorem dX3_like_55 : decode cX3_like 55 = .ok (.istore_n 2, 1) := dk_61 (dk_at dksX3_like_2 8 rfl rfl)
theorem dX3_like_56 : decode cX3_like 56 = .ok (.iload_n 2, 1) := dk_28 (dk_at dksX3_like_2 9 rfl rfl)
theorem dX3_like_57 : decode cX3_like 57 = .ok (.aload_n 0, 1) := dk_42 (dk_at dksX3_like_2 10 rfl rfl)
theorem dX3_like_58 : decode cX3_like 58 = .ok (.getfield 7, 3) := dk_180 0 7 (dk_at dksX3_like_2 11 rfl rfl)
theorem dX3_like_61 : decode cX3_like 61 = .ok (.iconst 0, 1) := dk_3 (dk_at dksX3_like_2 14 rfl rfl)
theorem dX3_like_62 : decode cX3_like 62 = .ok (.iaload, 1) := dk_46 (dk_at dksX3_like_2 15 rfl rfl)
theorem dX3_like_63 : decode cX3_like 63 = .ok (.if_icmp .ge 21, 3) := dk_162 0 21 (dk_at dksX3_like_2 16 rfl rfl)
theorem dX3_like_66 : decode cX3_like 66 = .ok (.aload_n 0, 1) := dk_42 (dk_at dksX3_like_2 19 rfl rfl)
theorem dX3_like_67 : decode cX3_like 67 = .ok (.getfield 109, 3) := dk_180 0 109 (dk_at dksX3_like_2 20 rfl rfl)
theorem dX3_like_70 : decode cX3_like 70 = .ok (.iload_n 2, 1) := dk_28 (dk_at dksX3_like_2 23 rfl rfl)
theorem dX3_like_71 : decode cX3_like 71 = .ok (.aload_n 0, 1) := dk_42 (dk_at dksX3_like_3 0 rfl rfl)
theorem dX3_like_72 : decode cX3_like 72 = .ok (.getfield 88, 3) := dk_180 0 88 (dk_at dksX3_like_3 1 rfl rfl)
theorem dX3_like_75 : decode cX3_like 75 = .ok (.iload_n 2, 1) := dk_28 (dk_at dksX3_like_3 4 rfl rfl)
theorem dX3_like_76 : decode cX3_like 76 = .ok (.iaload, 1) := dk_46 (dk_at dksX3_like_3 5 rfl rfl)
theorem dX3_like_77 : decode cX3_like 77 = .ok (.iastore, 1) := dk_79 (dk_at dksX3_like_3 6 rfl rfl)
theorem dX3_like_78 : decode cX3_like 78 = .ok (.iinc 2 1, 3) := dk_132 2 1 (dk_at dksX3_like_3 7 rfl rfl)
theorem dX3_like_81 : decode cX3_like 81 = .ok (.goto (-25), 3) := dk_167 255 231 (dk_at dksX3_like_3 10 rfl rfl)
theorem dX3_like_84 : decode cX3_like 84 = .ok (.aload_n 0, 1) := dk_42 (dk_at dksX3_like_3 13 rfl rfl)
theorem dX3_like_85 : decode cX3_like 85 = .ok (.aload_n 0, 1) := dk_42 (dk_at dksX3_like_3 14 rfl rfl)
theorem dX3_like_86 : decode cX3_like 86 = .ok (.getfield 16, 3) := dk_180 0 16 (dk_at dksX3_like_3 15 rfl rfl)
theorem dX3_like_89 : decode cX3_like 89 = .ok (.bipush 17, 2) := dk_16 17 (dk_at dksX3_like_3 18 rfl rfl)
theorem dX3_like_91 : decode cX3_like 91 = .ok (.iload_n 1, 1) := dk_27 (dk_at dksX3_like_3 20 rfl rfl)
theorem dX3_like_92 : decode cX3_like 92 = .ok (.imul, 1) := dk_104 (dk_at dksX3_like_3 21 rfl rfl)
theorem dX3_like_93 : decode cX3_like 93 = .ok (.invokevirtual 325, 3) := dk_182 1 69 (dk_at dksX3_like_4 0 rfl rfl)
theorem dX3_like_96 : decode cX3_like 96 = .ok (.aload_n 0, 1) := dk_42 (dk_at dksX3_like_4 3 rfl rfl)
theorem dX3_like_97 : decode cX3_like 97 = .ok (.invokevirtual 353, 3) := dk_182 1 97 (dk_at dksX3_like_4 4 rfl rfl)
theorem dX3_like_100 : decode cX3_like 100 = .ok (.iconst 0, 1) := dk_3 (dk_at dksX3_like_4 7 rfl rfl)
theorem dX3_like_101 : decode cX3_like 101 = .ok (.istore_n 2, 1) := dk_61 (dk_at dksX3_like_4 8 rfl rfl)
theorem dX3_like_102 : decode cX3_like 102 = .ok (.iload_n 2, 1) := dk_28 (dk_at dksX3_like_4 9 rfl rfl)
theorem dX3_like_103 : decode cX3_like 103 = .ok (.aload_n 0, 1) := dk_42 (dk_at dksX3_like_4 10 rfl rfl)
theorem dX3_like_104 : decode cX3_like 104 = .ok (.getfield 7, 3) := dk_180 0 7 (dk_at dksX3_like_4 11 rfl rfl)
theorem dX3_like_107 : decode cX3_like 107 = .ok (.iconst 0, 1) := dk_3 (dk_at dksX3_like_4 14 rfl rfl)
theorem dX3_like_108 : decode cX3_like 108 = .ok (.iaload, 1) := dk_46 (dk_at dksX3_like_4 15 rfl rfl)
theorem dX3_like_109 : decode cX3_like 109 = .ok (.if_icmp .ge 26, 3) := dk_162 0 26 (dk_at dksX3_like_4 16 rfl rfl)
theorem dX3_like_112 : decode cX3_like 112 = .ok (.aload_n 0, 1) := dk_42 (dk_at dksX3_like_4 19 rfl rfl)
theorem dX3_like_113 : decode cX3_like 113 = .ok (.getfield 109, 3) := dk_180 0 109 (dk_at dksX3_like_4 20 rfl rfl)
theorem dX3_like_116 : decode cX3_like 116 = .ok (.iload_n 2, 1) := dk_28 (dk_at dksX3_like_4 23 rfl rfl)
theorem dX3_like_117 : decode cX3_like 117 = .ok (.iaload, 1) := dk_46 (dk_at dksX3_like_5 0 rfl rfl)
theorem dX3_like_118 : decode cX3_like 118 = .ok (.aload_n 0, 1) := dk_42 (dk_at dksX3_like_5 1 rfl rfl)
theorem dX3_like_119 : decode cX3_like 119 = .ok (.getfield 88, 3) := dk_180 0 88 (dk_at dksX3_like_5 2 rfl rfl)
theorem dX3_like_122 : decode cX3_like 122 = .ok (.iload_n 2, 1) := dk_28 (dk_at dksX3_like_5 5 rfl rfl)
theorem dX3_like_123 : decode cX3_like 123 = .ok (.iaload, 1) := dk_46 (dk_at dksX3_like_5 6 rfl rfl)
theorem dX3_like_124 : decode cX3_like 124 = .ok (.if_icmp .eq 5, 3) := dk_159 0 5 (dk_at dksX3_like_5 7 rfl rfl)
theorem dX3_like_127 : decode cX3_like 127 = .ok (.iconst 0, 1) := dk_3 (dk_at dksX3_like_5 10 rfl rfl)
theorem dX3_like_128 : decode cX3_like 128 = .ok (.ireturn, 1) := dk_172 (dk_at dksX3_like_5 11 rfl rfl)
theorem dX3_like_129 : decode cX3_like 129 = .ok (.iinc 2 1, 3) := dk_132 2 1 (dk_at dksX3_like_5 12 rfl rfl)
theorem dX3_like_132 : decode cX3_like 132 = .ok (.goto (-30), 3) := dk_167 255 226 (dk_at dksX3_like_5 15 rfl rfl)
theorem dX3_like_135 : decode cX3_like 135 = .ok (.iconst 1, 1) := dk_4 (dk_at dksX3_like_5 18 rfl rfl)
theorem dX3_like_136 : decode cX3_like 136 = .ok (.ireturn, 1) := dk_172 (dk_at dksX3_like_5 19 rfl rfl)
abbrev cX3_centroid : ByteArray := prog_21_method_74_code
def yX3_centroid : MethodName := ⟨RX3, "centroid", "(I)I"⟩
def dkwX3_centroid_2 : List UInt8 := [167, 0, 4, 28, 172]
abbrev dktX3_centroid_2 : List UInt8 := dkwX3_centroid_2 ++ []
def dkwX3_centroid_1 : List UInt8 := [160, 0, 7, 4, 167, 0, 4, 5, 172, 42, 27, 182, 1, 79, 61, 28, 2, 160, 0, 8, 16, 254]
abbrev dktX3_centroid_1 : List UInt8 := dkwX3_centroid_1 ++ dktX3_centroid_2
def dkwX3_centroid_0 : List UInt8 := [27, 2, 162, 0, 5, 2, 172, 42, 182, 1, 118, 27, 2, 160, 0, 18, 42, 4, 182, 1, 79, 2]
abbrev dktX3_centroid_0 : List UInt8 := dkwX3_centroid_0 ++ dktX3_centroid_1
theorem dksX3_centroid_0 : cX3_centroid.data.toList.drop 0 = dktX3_centroid_0 := by decide +kernel
theorem dksX3_centroid_1 : cX3_centroid.data.toList.drop 22 = dktX3_centroid_1 := dk_seg dksX3_centroid_0 22 rfl rfl
theorem dksX3_centroid_2 : cX3_centroid.data.toList.drop 44 = dktX3_centroid_2 := dk_seg dksX3_centroid_1 22 rfl rfl
theorem dX3_centroid_0 : decode cX3_centroid 0 = .ok (.iload_n 1, 1) := dk_27 (dk_at dksX3_centroid_0 0 rfl rfl)
theorem dX3_centroid_1 : decode cX3_centroid 1 = .ok (.iconst (-1), 1) := dk_2 (dk_at dksX3_centroid_0 1 rfl rfl)
theorem dX3_centroid_2 : decode cX3_centroid 2 = .ok (.if_icmp .ge 5, 3) := dk_162 0 5 (dk_at dksX3_centroid_0 2 rfl rfl)
theorem dX3_centroid_5 : decode cX3_centroid 5 = .ok (.iconst (-1), 1) := dk_2 (dk_at dksX3_centroid_0 5 rfl rfl)
theorem dX3_centroid_6 : decode cX3_centroid 6 = .ok (.ireturn, 1) := dk_172 (dk_at dksX3_centroid_0 6 rfl rfl)
theorem dX3_centroid_7 : decode cX3_centroid 7 = .ok (.aload_n 0, 1) := dk_42 (dk_at dksX3_centroid_0 7 rfl rfl)
theorem dX3_centroid_8 : decode cX3_centroid 8 = .ok (.invokevirtual 374, 3) := dk_182 1 118 (dk_at dksX3_centroid_0 8 rfl rfl)
theorem dX3_centroid_11 : decode cX3_centroid 11 = .ok (.iload_n 1, 1) := dk_27 (dk_at dksX3_centroid_0 11 rfl rfl)
theorem dX3_centroid_12 : decode cX3_centroid 12 = .ok (.iconst (-1), 1) := dk_2 (dk_at dksX3_centroid_0 12 rfl rfl)
theorem dX3_centroid_13 : decode cX3_centroid 13 = .ok (.if_icmp .ne 18, 3) := dk_160 0 18 (dk_at dksX3_centroid_0 13 rfl rfl)
theorem dX3_centroid_16 : decode cX3_centroid 16 = .ok (.aload_n 0, 1) := dk_42 (dk_at dksX3_centroid_0 16 rfl rfl)
theorem dX3_centroid_17 : decode cX3_centroid 17 = .ok (.iconst 1, 1) := dk_4 (dk_at dksX3_centroid_0 17 rfl rfl)
theorem dX3_centroid_18 : decode cX3_centroid 18 = .ok (.invokevirtual 335, 3) := dk_182 1 79 (dk_at dksX3_centroid_0 18 rfl rfl)
theorem dX3_centroid_21 : decode cX3_centroid 21 = .ok (.iconst (-1), 1) := dk_2 (dk_at dksX3_centroid_0 21 rfl rfl)
theorem dX3_centroid_22 : decode cX3_centroid 22 = .ok (.if_icmp .ne 7, 3) := dk_160 0 7 (dk_at dksX3_centroid_1 0 rfl rfl)
theorem dX3_centroid_25 : decode cX3_centroid 25 = .ok (.iconst 1, 1) := dk_4 (dk_at dksX3_centroid_1 3 rfl rfl)
theorem dX3_centroid_26 : decode cX3_centroid 26 = .ok (.goto 4, 3) := dk_167 0 4 (dk_at dksX3_centroid_1 4 rfl rfl)
theorem dX3_centroid_29 : decode cX3_centroid 29 = .ok (.iconst 2, 1) := dk_5 (dk_at dksX3_centroid_1 7 rfl rfl)
theorem dX3_centroid_30 : decode cX3_centroid 30 = .ok (.ireturn, 1) := dk_172 (dk_at dksX3_centroid_1 8 rfl rfl)
theorem dX3_centroid_31 : decode cX3_centroid 31 = .ok (.aload_n 0, 1) := dk_42 (dk_at dksX3_centroid_1 9 rfl rfl)
theorem dX3_centroid_32 : decode cX3_centroid 32 = .ok (.iload_n 1, 1) := dk_27 (dk_at dksX3_centroid_1 10 rfl rfl)
theorem dX3_centroid_33 : decode cX3_centroid 33 = .ok (.invokevirtual 335, 3) := dk_182 1 79 (dk_at dksX3_centroid_1 11 rfl rfl)
theorem dX3_centroid_36 : decode cX3_centroid 36 = .ok (.istore_n 2, 1) := dk_61 (dk_at dksX3_centroid_1 14 rfl rfl)
theorem dX3_centroid_37 : decode cX3_centroid 37 = .ok (.iload_n 2, 1) := dk_28 (dk_at dksX3_centroid_1 15 rfl rfl)
theorem dX3_centroid_38 : decode cX3_centroid 38 = .ok (.iconst (-1), 1) := dk_2 (dk_at dksX3_centroid_1 16 rfl rfl)
theorem dX3_centroid_39 : decode cX3_centroid 39 = .ok (.if_icmp .ne 8, 3) := dk_160 0 8 (dk_at dksX3_centroid_1 17 rfl rfl)
theorem dX3_centroid_42 : decode cX3_centroid 42 = .ok (.bipush (-2), 2) := dk_16 254 (dk_at dksX3_centroid_1 20 rfl rfl)
theorem dX3_centroid_44 : decode cX3_centroid 44 = .ok (.goto 4, 3) := dk_167 0 4 (dk_at dksX3_centroid_2 0 rfl rfl)
theorem dX3_centroid_47 : decode cX3_centroid 47 = .ok (.iload_n 2, 1) := dk_28 (dk_at dksX3_centroid_2 3 rfl rfl)
theorem dX3_centroid_48 : decode cX3_centroid 48 = .ok (.ireturn, 1) := dk_172 (dk_at dksX3_centroid_2 4 rfl rfl)
abbrev cX3_counted : ByteArray := prog_21_method_88_code
def yX3_counted : MethodName := ⟨RX3, "counted", "(II)J"⟩
def dkwX3_counted_4 : List UInt8 := [173, 42, 27, 182, 1, 170, 42, 27, 182, 1, 173, 101, 20, 0, 156, 109, 173]
abbrev dktX3_counted_4 : List UInt8 := dkwX3_counted_4 ++ []
def dkwX3_counted_3 : List UInt8 := [42, 27, 182, 1, 167, 173, 42, 180, 0, 112, 27, 47, 173, 42, 27, 182, 1, 170, 173, 42, 27, 182, 1, 173]
abbrev dktX3_counted_3 : List UInt8 := dkwX3_counted_3 ++ dktX3_counted_4
def dkwX3_counted_2 : List UInt8 := [170, 0, 0, 0, 0, 0, 56, 0, 0, 0, 0, 0, 0, 0, 3, 0, 0, 0, 31, 0, 0, 0, 37, 0, 0, 0, 44, 0, 0, 0, 50]
abbrev dktX3_counted_2 : List UInt8 := dkwX3_counted_2 ++ dktX3_counted_3
def dkwX3_counted_1 : List UInt8 := [20, 1, 162, 173, 42, 182, 1, 164, 28]
abbrev dktX3_counted_1 : List UInt8 := dkwX3_counted_1 ++ dktX3_counted_2
def dkwX3_counted_0 : List UInt8 := [27, 133, 10, 20, 1, 158, 184, 0, 158, 153, 0, 15, 28, 133, 9, 20, 1, 160, 184, 0, 158, 154, 0, 7]
abbrev dktX3_counted_0 : List UInt8 := dkwX3_counted_0 ++ dktX3_counted_1
theorem dksX3_counted_0 : cX3_counted.data.toList.drop 0 = dktX3_counted_0 := by decide +kernel
theorem dksX3_counted_1 : cX3_counted.data.toList.drop 24 = dktX3_counted_1 := dk_seg dksX3_counted_0 24 rfl rfl
theorem dksX3_counted_2 : cX3_counted.data.toList.drop 33 = dktX3_counted_2 := dk_seg dksX3_counted_1 9 rfl rfl
theorem dksX3_counted_3 : cX3_counted.data.toList.drop 64 = dktX3_counted_3 := dk_seg dksX3_counted_2 31 rfl rfl
theorem dksX3_counted_4 : cX3_counted.data.toList.drop 88 = dktX3_counted_4 := dk_seg dksX3_counted_3 24 rfl rfl
theorem dX3_counted_0 : decode cX3_counted 0 = .ok (.iload_n 1, 1) := dk_27 (dk_at dksX3_counted_0 0 rfl rfl)
theorem dX3_counted_1 : decode cX3_counted 1 = .ok (.i2l, 1) := dk_133 (dk_at dksX3_counted_0 1 rfl rfl)
theorem dX3_counted_2 : decode cX3_counted 2 = .ok (.lconst 1, 1) := dk_10 (dk_at dksX3_counted_0 2 rfl rfl)
theorem dX3_counted_3 : decode cX3_counted 3 = .ok (.ldc2_w 414, 3) := dk_20 1 158 (dk_at dksX3_counted_0 3 rfl rfl)
theorem dX3_counted_6 : decode cX3_counted 6 = .ok (.invokestatic 158, 3) := dk_184 0 158 (dk_at dksX3_counted_0 6 rfl rfl)
theorem dX3_counted_9 : decode cX3_counted 9 = .ok (.ifCond .eq 15, 3) := dk_153 0 15 (dk_at dksX3_counted_0 9 rfl rfl)
theorem dX3_counted_12 : decode cX3_counted 12 = .ok (.iload_n 2, 1) := dk_28 (dk_at dksX3_counted_0 12 rfl rfl)
theorem dX3_counted_13 : decode cX3_counted 13 = .ok (.i2l, 1) := dk_133 (dk_at dksX3_counted_0 13 rfl rfl)
theorem dX3_counted_14 : decode cX3_counted 14 = .ok (.lconst 0, 1) := dk_9 (dk_at dksX3_counted_0 14 rfl rfl)
theorem dX3_counted_15 : decode cX3_counted 15 = .ok (.ldc2_w 416, 3) := dk_20 1 160 (dk_at dksX3_counted_0 15 rfl rfl)
theorem dX3_counted_18 : decode cX3_counted 18 = .ok (.invokestatic 158, 3) := dk_184 0 158 (dk_at dksX3_counted_0 18 rfl rfl)
theorem dX3_counted_21 : decode cX3_counted 21 = .ok (.ifCond .ne 7, 3) := dk_154 0 7 (dk_at dksX3_counted_0 21 rfl rfl)
theorem dX3_counted_24 : decode cX3_counted 24 = .ok (.ldc2_w 418, 3) := dk_20 1 162 (dk_at dksX3_counted_1 0 rfl rfl)
theorem dX3_counted_27 : decode cX3_counted 27 = .ok (.lreturn, 1) := dk_173 (dk_at dksX3_counted_1 3 rfl rfl)
theorem dX3_counted_28 : decode cX3_counted 28 = .ok (.aload_n 0, 1) := dk_42 (dk_at dksX3_counted_1 4 rfl rfl)
theorem dX3_counted_29 : decode cX3_counted 29 = .ok (.invokevirtual 420, 3) := dk_182 1 164 (dk_at dksX3_counted_1 5 rfl rfl)
theorem dX3_counted_32 : decode cX3_counted 32 = .ok (.iload_n 2, 1) := dk_28 (dk_at dksX3_counted_1 8 rfl rfl)
theorem dX3_counted_33 : decode cX3_counted 33 = .ok (.tableswitch 56 0 3 #[31, 37, 44, 50], 31) := by decide +kernel
theorem dX3_counted_64 : decode cX3_counted 64 = .ok (.aload_n 0, 1) := dk_42 (dk_at dksX3_counted_3 0 rfl rfl)
theorem dX3_counted_65 : decode cX3_counted 65 = .ok (.iload_n 1, 1) := dk_27 (dk_at dksX3_counted_3 1 rfl rfl)
theorem dX3_counted_66 : decode cX3_counted 66 = .ok (.invokevirtual 423, 3) := dk_182 1 167 (dk_at dksX3_counted_3 2 rfl rfl)
theorem dX3_counted_69 : decode cX3_counted 69 = .ok (.lreturn, 1) := dk_173 (dk_at dksX3_counted_3 5 rfl rfl)
theorem dX3_counted_70 : decode cX3_counted 70 = .ok (.aload_n 0, 1) := dk_42 (dk_at dksX3_counted_3 6 rfl rfl)
theorem dX3_counted_71 : decode cX3_counted 71 = .ok (.getfield 112, 3) := dk_180 0 112 (dk_at dksX3_counted_3 7 rfl rfl)
theorem dX3_counted_74 : decode cX3_counted 74 = .ok (.iload_n 1, 1) := dk_27 (dk_at dksX3_counted_3 10 rfl rfl)
theorem dX3_counted_75 : decode cX3_counted 75 = .ok (.laload, 1) := dk_47 (dk_at dksX3_counted_3 11 rfl rfl)
theorem dX3_counted_76 : decode cX3_counted 76 = .ok (.lreturn, 1) := dk_173 (dk_at dksX3_counted_3 12 rfl rfl)
theorem dX3_counted_77 : decode cX3_counted 77 = .ok (.aload_n 0, 1) := dk_42 (dk_at dksX3_counted_3 13 rfl rfl)
theorem dX3_counted_78 : decode cX3_counted 78 = .ok (.iload_n 1, 1) := dk_27 (dk_at dksX3_counted_3 14 rfl rfl)
theorem dX3_counted_79 : decode cX3_counted 79 = .ok (.invokevirtual 426, 3) := dk_182 1 170 (dk_at dksX3_counted_3 15 rfl rfl)
theorem dX3_counted_82 : decode cX3_counted 82 = .ok (.lreturn, 1) := dk_173 (dk_at dksX3_counted_3 18 rfl rfl)
theorem dX3_counted_83 : decode cX3_counted 83 = .ok (.aload_n 0, 1) := dk_42 (dk_at dksX3_counted_3 19 rfl rfl)
theorem dX3_counted_84 : decode cX3_counted 84 = .ok (.iload_n 1, 1) := dk_27 (dk_at dksX3_counted_3 20 rfl rfl)
theorem dX3_counted_85 : decode cX3_counted 85 = .ok (.invokevirtual 429, 3) := dk_182 1 173 (dk_at dksX3_counted_3 21 rfl rfl)
theorem dX3_counted_88 : decode cX3_counted 88 = .ok (.lreturn, 1) := dk_173 (dk_at dksX3_counted_4 0 rfl rfl)
theorem dX3_counted_89 : decode cX3_counted 89 = .ok (.aload_n 0, 1) := dk_42 (dk_at dksX3_counted_4 1 rfl rfl)
theorem dX3_counted_90 : decode cX3_counted 90 = .ok (.iload_n 1, 1) := dk_27 (dk_at dksX3_counted_4 2 rfl rfl)
theorem dX3_counted_91 : decode cX3_counted 91 = .ok (.invokevirtual 426, 3) := dk_182 1 170 (dk_at dksX3_counted_4 3 rfl rfl)
theorem dX3_counted_94 : decode cX3_counted 94 = .ok (.aload_n 0, 1) := dk_42 (dk_at dksX3_counted_4 6 rfl rfl)
theorem dX3_counted_95 : decode cX3_counted 95 = .ok (.iload_n 1, 1) := dk_27 (dk_at dksX3_counted_4 7 rfl rfl)
theorem dX3_counted_96 : decode cX3_counted 96 = .ok (.invokevirtual 429, 3) := dk_182 1 173 (dk_at dksX3_counted_4 8 rfl rfl)
theorem dX3_counted_99 : decode cX3_counted 99 = .ok (.lsub, 1) := dk_101 (dk_at dksX3_counted_4 11 rfl rfl)
theorem dX3_counted_100 : decode cX3_counted 100 = .ok (.ldc2_w 156, 3) := dk_20 0 156 (dk_at dksX3_counted_4 12 rfl rfl)
theorem dX3_counted_103 : decode cX3_counted 103 = .ok (.ldiv, 1) := dk_109 (dk_at dksX3_counted_4 15 rfl rfl)
theorem dX3_counted_104 : decode cX3_counted 104 = .ok (.lreturn, 1) := dk_173 (dk_at dksX3_counted_4 16 rfl rfl)
abbrev cX3_countsAll : ByteArray := prog_21_method_78_code
def yX3_countsAll : MethodName := ⟨RX3, "countsAll", "()V"⟩
def dkwX3_countsAll_6 : List UInt8 := [184, 1, 128, 80, 132, 1, 1, 167, 255, 144, 177]
abbrev dktX3_countsAll_6 : List UInt8 := dkwX3_countsAll_6 ++ []
def dkwX3_countsAll_5 : List UInt8 := [184, 1, 132, 105, 97, 20, 1, 20, 109, 80, 42, 180, 0, 118, 27, 42, 180, 0, 115, 42, 180, 0, 118, 28]
abbrev dktX3_countsAll_5 : List UInt8 := dkwX3_countsAll_5 ++ dktX3_countsAll_6
def dkwX3_countsAll_4 : List UInt8 := [42, 180, 0, 115, 27, 42, 180, 0, 115, 28, 184, 1, 124, 20, 0, 156, 42, 180, 0, 115, 6, 28]
abbrev dktX3_countsAll_4 : List UInt8 := dkwX3_countsAll_4 ++ dktX3_countsAll_5
def dkwX3_countsAll_3 : List UInt8 := [184, 1, 128, 105, 97, 20, 0, 156, 42, 180, 0, 112, 6, 28, 184, 1, 132, 105, 97, 20, 1, 22, 109, 80]
abbrev dktX3_countsAll_3 : List UInt8 := dkwX3_countsAll_3 ++ dktX3_countsAll_4
def dkwX3_countsAll_2 : List UInt8 := [180, 0, 112, 27, 42, 180, 0, 112, 28, 184, 1, 124, 20, 1, 20, 42, 180, 0, 112, 42, 180, 0, 112, 28]
abbrev dktX3_countsAll_2 : List UInt8 := dkwX3_countsAll_2 ++ dktX3_countsAll_3
def dkwX3_countsAll_1 : List UInt8 := [3, 10, 80, 42, 180, 0, 118, 3, 10, 80, 4, 60, 27, 16, 40, 163, 0, 112, 27, 4, 100, 61, 42]
abbrev dktX3_countsAll_1 : List UInt8 := dkwX3_countsAll_1 ++ dktX3_countsAll_2
def dkwX3_countsAll_0 : List UInt8 := [42, 180, 1, 121, 153, 0, 4, 177, 42, 4, 181, 1, 121, 42, 180, 0, 112, 3, 10, 80, 42, 180, 0, 115]
abbrev dktX3_countsAll_0 : List UInt8 := dkwX3_countsAll_0 ++ dktX3_countsAll_1
theorem dksX3_countsAll_0 : cX3_countsAll.data.toList.drop 0 = dktX3_countsAll_0 := by decide +kernel
theorem dksX3_countsAll_1 : cX3_countsAll.data.toList.drop 24 = dktX3_countsAll_1 := dk_seg dksX3_countsAll_0 24 rfl rfl
theorem dksX3_countsAll_2 : cX3_countsAll.data.toList.drop 47 = dktX3_countsAll_2 := dk_seg dksX3_countsAll_1 23 rfl rfl
theorem dksX3_countsAll_3 : cX3_countsAll.data.toList.drop 71 = dktX3_countsAll_3 := dk_seg dksX3_countsAll_2 24 rfl rfl
theorem dksX3_countsAll_4 : cX3_countsAll.data.toList.drop 95 = dktX3_countsAll_4 := dk_seg dksX3_countsAll_3 24 rfl rfl
theorem dksX3_countsAll_5 : cX3_countsAll.data.toList.drop 117 = dktX3_countsAll_5 := dk_seg dksX3_countsAll_4 22 rfl rfl
theorem dksX3_countsAll_6 : cX3_countsAll.data.toList.drop 141 = dktX3_countsAll_6 := dk_seg dksX3_countsAll_5 24 rfl rfl
theorem dX3_countsAll_0 : decode cX3_countsAll 0 = .ok (.aload_n 0, 1) := dk_42 (dk_at dksX3_countsAll_0 0 rfl rfl)
theorem dX3_countsAll_1 : decode cX3_countsAll 1 = .ok (.getfield 377, 3) := dk_180 1 121 (dk_at dksX3_countsAll_0 1 rfl rfl)
theorem dX3_countsAll_4 : decode cX3_countsAll 4 = .ok (.ifCond .eq 4, 3) := dk_153 0 4 (dk_at dksX3_countsAll_0 4 rfl rfl)
theorem dX3_countsAll_7 : decode cX3_countsAll 7 = .ok (.return_, 1) := dk_177 (dk_at dksX3_countsAll_0 7 rfl rfl)
theorem dX3_countsAll_8 : decode cX3_countsAll 8 = .ok (.aload_n 0, 1) := dk_42 (dk_at dksX3_countsAll_0 8 rfl rfl)
theorem dX3_countsAll_9 : decode cX3_countsAll 9 = .ok (.iconst 1, 1) := dk_4 (dk_at dksX3_countsAll_0 9 rfl rfl)
theorem dX3_countsAll_10 : decode cX3_countsAll 10 = .ok (.putfield 377, 3) := dk_181 1 121 (dk_at dksX3_countsAll_0 10 rfl rfl)
theorem dX3_countsAll_13 : decode cX3_countsAll 13 = .ok (.aload_n 0, 1) := dk_42 (dk_at dksX3_countsAll_0 13 rfl rfl)
theorem dX3_countsAll_14 : decode cX3_countsAll 14 = .ok (.getfield 112, 3) := dk_180 0 112 (dk_at dksX3_countsAll_0 14 rfl rfl)
theorem dX3_countsAll_17 : decode cX3_countsAll 17 = .ok (.iconst 0, 1) := dk_3 (dk_at dksX3_countsAll_0 17 rfl rfl)
theorem dX3_countsAll_18 : decode cX3_countsAll 18 = .ok (.lconst 1, 1) := dk_10 (dk_at dksX3_countsAll_0 18 rfl rfl)
theorem dX3_countsAll_19 : decode cX3_countsAll 19 = .ok (.lastore, 1) := dk_80 (dk_at dksX3_countsAll_0 19 rfl rfl)
theorem dX3_countsAll_20 : decode cX3_countsAll 20 = .ok (.aload_n 0, 1) := dk_42 (dk_at dksX3_countsAll_0 20 rfl rfl)
theorem dX3_countsAll_21 : decode cX3_countsAll 21 = .ok (.getfield 115, 3) := dk_180 0 115 (dk_at dksX3_countsAll_0 21 rfl rfl)
theorem dX3_countsAll_24 : decode cX3_countsAll 24 = .ok (.iconst 0, 1) := dk_3 (dk_at dksX3_countsAll_1 0 rfl rfl)
theorem dX3_countsAll_25 : decode cX3_countsAll 25 = .ok (.lconst 1, 1) := dk_10 (dk_at dksX3_countsAll_1 1 rfl rfl)
theorem dX3_countsAll_26 : decode cX3_countsAll 26 = .ok (.lastore, 1) := dk_80 (dk_at dksX3_countsAll_1 2 rfl rfl)
theorem dX3_countsAll_27 : decode cX3_countsAll 27 = .ok (.aload_n 0, 1) := dk_42 (dk_at dksX3_countsAll_1 3 rfl rfl)
theorem dX3_countsAll_28 : decode cX3_countsAll 28 = .ok (.getfield 118, 3) := dk_180 0 118 (dk_at dksX3_countsAll_1 4 rfl rfl)
theorem dX3_countsAll_31 : decode cX3_countsAll 31 = .ok (.iconst 0, 1) := dk_3 (dk_at dksX3_countsAll_1 7 rfl rfl)
theorem dX3_countsAll_32 : decode cX3_countsAll 32 = .ok (.lconst 1, 1) := dk_10 (dk_at dksX3_countsAll_1 8 rfl rfl)
theorem dX3_countsAll_33 : decode cX3_countsAll 33 = .ok (.lastore, 1) := dk_80 (dk_at dksX3_countsAll_1 9 rfl rfl)
theorem dX3_countsAll_34 : decode cX3_countsAll 34 = .ok (.iconst 1, 1) := dk_4 (dk_at dksX3_countsAll_1 10 rfl rfl)
theorem dX3_countsAll_35 : decode cX3_countsAll 35 = .ok (.istore_n 1, 1) := dk_60 (dk_at dksX3_countsAll_1 11 rfl rfl)
theorem dX3_countsAll_36 : decode cX3_countsAll 36 = .ok (.iload_n 1, 1) := dk_27 (dk_at dksX3_countsAll_1 12 rfl rfl)
theorem dX3_countsAll_37 : decode cX3_countsAll 37 = .ok (.bipush 40, 2) := dk_16 40 (dk_at dksX3_countsAll_1 13 rfl rfl)
theorem dX3_countsAll_39 : decode cX3_countsAll 39 = .ok (.if_icmp .gt 112, 3) := dk_163 0 112 (dk_at dksX3_countsAll_1 15 rfl rfl)
theorem dX3_countsAll_42 : decode cX3_countsAll 42 = .ok (.iload_n 1, 1) := dk_27 (dk_at dksX3_countsAll_1 18 rfl rfl)
theorem dX3_countsAll_43 : decode cX3_countsAll 43 = .ok (.iconst 1, 1) := dk_4 (dk_at dksX3_countsAll_1 19 rfl rfl)
theorem dX3_countsAll_44 : decode cX3_countsAll 44 = .ok (.isub, 1) := dk_100 (dk_at dksX3_countsAll_1 20 rfl rfl)
theorem dX3_countsAll_45 : decode cX3_countsAll 45 = .ok (.istore_n 2, 1) := dk_61 (dk_at dksX3_countsAll_1 21 rfl rfl)
theorem dX3_countsAll_46 : decode cX3_countsAll 46 = .ok (.aload_n 0, 1) := dk_42 (dk_at dksX3_countsAll_1 22 rfl rfl)
theorem dX3_countsAll_47 : decode cX3_countsAll 47 = .ok (.getfield 112, 3) := dk_180 0 112 (dk_at dksX3_countsAll_2 0 rfl rfl)
theorem dX3_countsAll_50 : decode cX3_countsAll 50 = .ok (.iload_n 1, 1) := dk_27 (dk_at dksX3_countsAll_2 3 rfl rfl)
theorem dX3_countsAll_51 : decode cX3_countsAll 51 = .ok (.aload_n 0, 1) := dk_42 (dk_at dksX3_countsAll_2 4 rfl rfl)
theorem dX3_countsAll_52 : decode cX3_countsAll 52 = .ok (.getfield 112, 3) := dk_180 0 112 (dk_at dksX3_countsAll_2 5 rfl rfl)
theorem dX3_countsAll_55 : decode cX3_countsAll 55 = .ok (.iload_n 2, 1) := dk_28 (dk_at dksX3_countsAll_2 8 rfl rfl)
theorem dX3_countsAll_56 : decode cX3_countsAll 56 = .ok (.invokestatic 380, 3) := dk_184 1 124 (dk_at dksX3_countsAll_2 9 rfl rfl)
theorem dX3_countsAll_59 : decode cX3_countsAll 59 = .ok (.ldc2_w 276, 3) := dk_20 1 20 (dk_at dksX3_countsAll_2 12 rfl rfl)
theorem dX3_countsAll_62 : decode cX3_countsAll 62 = .ok (.aload_n 0, 1) := dk_42 (dk_at dksX3_countsAll_2 15 rfl rfl)
theorem dX3_countsAll_63 : decode cX3_countsAll 63 = .ok (.getfield 112, 3) := dk_180 0 112 (dk_at dksX3_countsAll_2 16 rfl rfl)
theorem dX3_countsAll_66 : decode cX3_countsAll 66 = .ok (.aload_n 0, 1) := dk_42 (dk_at dksX3_countsAll_2 19 rfl rfl)
theorem dX3_countsAll_67 : decode cX3_countsAll 67 = .ok (.getfield 112, 3) := dk_180 0 112 (dk_at dksX3_countsAll_2 20 rfl rfl)
theorem dX3_countsAll_70 : decode cX3_countsAll 70 = .ok (.iload_n 2, 1) := dk_28 (dk_at dksX3_countsAll_2 23 rfl rfl)
theorem dX3_countsAll_71 : decode cX3_countsAll 71 = .ok (.invokestatic 384, 3) := dk_184 1 128 (dk_at dksX3_countsAll_3 0 rfl rfl)
theorem dX3_countsAll_74 : decode cX3_countsAll 74 = .ok (.lmul, 1) := dk_105 (dk_at dksX3_countsAll_3 3 rfl rfl)
theorem dX3_countsAll_75 : decode cX3_countsAll 75 = .ok (.ladd, 1) := dk_97 (dk_at dksX3_countsAll_3 4 rfl rfl)
theorem dX3_countsAll_76 : decode cX3_countsAll 76 = .ok (.ldc2_w 156, 3) := dk_20 0 156 (dk_at dksX3_countsAll_3 5 rfl rfl)
theorem dX3_countsAll_79 : decode cX3_countsAll 79 = .ok (.aload_n 0, 1) := dk_42 (dk_at dksX3_countsAll_3 8 rfl rfl)
theorem dX3_countsAll_80 : decode cX3_countsAll 80 = .ok (.getfield 112, 3) := dk_180 0 112 (dk_at dksX3_countsAll_3 9 rfl rfl)
theorem dX3_countsAll_83 : decode cX3_countsAll 83 = .ok (.iconst 3, 1) := dk_6 (dk_at dksX3_countsAll_3 12 rfl rfl)
theorem dX3_countsAll_84 : decode cX3_countsAll 84 = .ok (.iload_n 2, 1) := dk_28 (dk_at dksX3_countsAll_3 13 rfl rfl)
theorem dX3_countsAll_85 : decode cX3_countsAll 85 = .ok (.invokestatic 388, 3) := dk_184 1 132 (dk_at dksX3_countsAll_3 14 rfl rfl)
theorem dX3_countsAll_88 : decode cX3_countsAll 88 = .ok (.lmul, 1) := dk_105 (dk_at dksX3_countsAll_3 17 rfl rfl)
theorem dX3_countsAll_89 : decode cX3_countsAll 89 = .ok (.ladd, 1) := dk_97 (dk_at dksX3_countsAll_3 18 rfl rfl)
theorem dX3_countsAll_90 : decode cX3_countsAll 90 = .ok (.ldc2_w 278, 3) := dk_20 1 22 (dk_at dksX3_countsAll_3 19 rfl rfl)
theorem dX3_countsAll_93 : decode cX3_countsAll 93 = .ok (.ldiv, 1) := dk_109 (dk_at dksX3_countsAll_3 22 rfl rfl)
theorem dX3_countsAll_94 : decode cX3_countsAll 94 = .ok (.lastore, 1) := dk_80 (dk_at dksX3_countsAll_3 23 rfl rfl)
theorem dX3_countsAll_95 : decode cX3_countsAll 95 = .ok (.aload_n 0, 1) := dk_42 (dk_at dksX3_countsAll_4 0 rfl rfl)
theorem dX3_countsAll_96 : decode cX3_countsAll 96 = .ok (.getfield 115, 3) := dk_180 0 115 (dk_at dksX3_countsAll_4 1 rfl rfl)
theorem dX3_countsAll_99 : decode cX3_countsAll 99 = .ok (.iload_n 1, 1) := dk_27 (dk_at dksX3_countsAll_4 4 rfl rfl)
theorem dX3_countsAll_100 : decode cX3_countsAll 100 = .ok (.aload_n 0, 1) := dk_42 (dk_at dksX3_countsAll_4 5 rfl rfl)
theorem dX3_countsAll_101 : decode cX3_countsAll 101 = .ok (.getfield 115, 3) := dk_180 0 115 (dk_at dksX3_countsAll_4 6 rfl rfl)
theorem dX3_countsAll_104 : decode cX3_countsAll 104 = .ok (.iload_n 2, 1) := dk_28 (dk_at dksX3_countsAll_4 9 rfl rfl)
theorem dX3_countsAll_105 : decode cX3_countsAll 105 = .ok (.invokestatic 380, 3) := dk_184 1 124 (dk_at dksX3_countsAll_4 10 rfl rfl)
theorem dX3_countsAll_108 : decode cX3_countsAll 108 = .ok (.ldc2_w 156, 3) := dk_20 0 156 (dk_at dksX3_countsAll_4 13 rfl rfl)
theorem dX3_countsAll_111 : decode cX3_countsAll 111 = .ok (.aload_n 0, 1) := dk_42 (dk_at dksX3_countsAll_4 16 rfl rfl)
theorem dX3_countsAll_112 : decode cX3_countsAll 112 = .ok (.getfield 115, 3) := dk_180 0 115 (dk_at dksX3_countsAll_4 17 rfl rfl)
theorem dX3_countsAll_115 : decode cX3_countsAll 115 = .ok (.iconst 3, 1) := dk_6 (dk_at dksX3_countsAll_4 20 rfl rfl)
theorem dX3_countsAll_116 : decode cX3_countsAll 116 = .ok (.iload_n 2, 1) := dk_28 (dk_at dksX3_countsAll_4 21 rfl rfl)
theorem dX3_countsAll_117 : decode cX3_countsAll 117 = .ok (.invokestatic 388, 3) := dk_184 1 132 (dk_at dksX3_countsAll_5 0 rfl rfl)
theorem dX3_countsAll_120 : decode cX3_countsAll 120 = .ok (.lmul, 1) := dk_105 (dk_at dksX3_countsAll_5 3 rfl rfl)
theorem dX3_countsAll_121 : decode cX3_countsAll 121 = .ok (.ladd, 1) := dk_97 (dk_at dksX3_countsAll_5 4 rfl rfl)
theorem dX3_countsAll_122 : decode cX3_countsAll 122 = .ok (.ldc2_w 276, 3) := dk_20 1 20 (dk_at dksX3_countsAll_5 5 rfl rfl)
theorem dX3_countsAll_125 : decode cX3_countsAll 125 = .ok (.ldiv, 1) := dk_109 (dk_at dksX3_countsAll_5 8 rfl rfl)
theorem dX3_countsAll_126 : decode cX3_countsAll 126 = .ok (.lastore, 1) := dk_80 (dk_at dksX3_countsAll_5 9 rfl rfl)
theorem dX3_countsAll_127 : decode cX3_countsAll 127 = .ok (.aload_n 0, 1) := dk_42 (dk_at dksX3_countsAll_5 10 rfl rfl)
theorem dX3_countsAll_128 : decode cX3_countsAll 128 = .ok (.getfield 118, 3) := dk_180 0 118 (dk_at dksX3_countsAll_5 11 rfl rfl)
theorem dX3_countsAll_131 : decode cX3_countsAll 131 = .ok (.iload_n 1, 1) := dk_27 (dk_at dksX3_countsAll_5 14 rfl rfl)
theorem dX3_countsAll_132 : decode cX3_countsAll 132 = .ok (.aload_n 0, 1) := dk_42 (dk_at dksX3_countsAll_5 15 rfl rfl)
theorem dX3_countsAll_133 : decode cX3_countsAll 133 = .ok (.getfield 115, 3) := dk_180 0 115 (dk_at dksX3_countsAll_5 16 rfl rfl)
theorem dX3_countsAll_136 : decode cX3_countsAll 136 = .ok (.aload_n 0, 1) := dk_42 (dk_at dksX3_countsAll_5 19 rfl rfl)
theorem dX3_countsAll_137 : decode cX3_countsAll 137 = .ok (.getfield 118, 3) := dk_180 0 118 (dk_at dksX3_countsAll_5 20 rfl rfl)
theorem dX3_countsAll_140 : decode cX3_countsAll 140 = .ok (.iload_n 2, 1) := dk_28 (dk_at dksX3_countsAll_5 23 rfl rfl)
theorem dX3_countsAll_141 : decode cX3_countsAll 141 = .ok (.invokestatic 384, 3) := dk_184 1 128 (dk_at dksX3_countsAll_6 0 rfl rfl)
theorem dX3_countsAll_144 : decode cX3_countsAll 144 = .ok (.lastore, 1) := dk_80 (dk_at dksX3_countsAll_6 3 rfl rfl)
theorem dX3_countsAll_145 : decode cX3_countsAll 145 = .ok (.iinc 1 1, 3) := dk_132 1 1 (dk_at dksX3_countsAll_6 4 rfl rfl)
theorem dX3_countsAll_148 : decode cX3_countsAll 148 = .ok (.goto (-112), 3) := dk_167 255 144 (dk_at dksX3_countsAll_6 7 rfl rfl)
theorem dX3_countsAll_151 : decode cX3_countsAll 151 = .ok (.return_, 1) := dk_177 (dk_at dksX3_countsAll_6 10 rfl rfl)
abbrev cX3_three : ByteArray := prog_21_method_75_code
def yX3_three : MethodName := ⟨RX3, "three", "([JI)J"⟩
def dkwX3_three_2 : List UInt8 := [167, 255, 222, 132, 4, 1, 167, 255, 207, 32, 173]
abbrev dktX3_three_2 : List UInt8 := dkwX3_three_2 ++ []
def dkwX3_three_1 : List UInt8 := [42, 21, 4, 47, 42, 21, 5, 47, 105, 42, 27, 21, 4, 100, 21, 5, 100, 47, 105, 97, 65, 132, 5, 1]
abbrev dktX3_three_1 : List UInt8 := dkwX3_three_1 ++ dktX3_three_2
def dkwX3_three_0 : List UInt8 := [9, 65, 3, 54, 4, 21, 4, 27, 163, 0, 49, 3, 54, 5, 21, 4, 21, 5, 96, 27, 163, 0, 31, 32]
abbrev dktX3_three_0 : List UInt8 := dkwX3_three_0 ++ dktX3_three_1
theorem dksX3_three_0 : cX3_three.data.toList.drop 0 = dktX3_three_0 := by decide +kernel
theorem dksX3_three_1 : cX3_three.data.toList.drop 24 = dktX3_three_1 := dk_seg dksX3_three_0 24 rfl rfl
theorem dksX3_three_2 : cX3_three.data.toList.drop 48 = dktX3_three_2 := dk_seg dksX3_three_1 24 rfl rfl
theorem dX3_three_0 : decode cX3_three 0 = .ok (.lconst 0, 1) := dk_9 (dk_at dksX3_three_0 0 rfl rfl)
theorem dX3_three_1 : decode cX3_three 1 = .ok (.lstore_n 2, 1) := dk_65 (dk_at dksX3_three_0 1 rfl rfl)
theorem dX3_three_2 : decode cX3_three 2 = .ok (.iconst 0, 1) := dk_3 (dk_at dksX3_three_0 2 rfl rfl)
theorem dX3_three_3 : decode cX3_three 3 = .ok (.istore 4, 2) := dk_54 4 (dk_at dksX3_three_0 3 rfl rfl)
theorem dX3_three_5 : decode cX3_three 5 = .ok (.iload 4, 2) := dk_21 4 (dk_at dksX3_three_0 5 rfl rfl)
theorem dX3_three_7 : decode cX3_three 7 = .ok (.iload_n 1, 1) := dk_27 (dk_at dksX3_three_0 7 rfl rfl)
theorem dX3_three_8 : decode cX3_three 8 = .ok (.if_icmp .gt 49, 3) := dk_163 0 49 (dk_at dksX3_three_0 8 rfl rfl)
theorem dX3_three_11 : decode cX3_three 11 = .ok (.iconst 0, 1) := dk_3 (dk_at dksX3_three_0 11 rfl rfl)
theorem dX3_three_12 : decode cX3_three 12 = .ok (.istore 5, 2) := dk_54 5 (dk_at dksX3_three_0 12 rfl rfl)
theorem dX3_three_14 : decode cX3_three 14 = .ok (.iload 4, 2) := dk_21 4 (dk_at dksX3_three_0 14 rfl rfl)
theorem dX3_three_16 : decode cX3_three 16 = .ok (.iload 5, 2) := dk_21 5 (dk_at dksX3_three_0 16 rfl rfl)
theorem dX3_three_18 : decode cX3_three 18 = .ok (.iadd, 1) := dk_96 (dk_at dksX3_three_0 18 rfl rfl)
theorem dX3_three_19 : decode cX3_three 19 = .ok (.iload_n 1, 1) := dk_27 (dk_at dksX3_three_0 19 rfl rfl)
theorem dX3_three_20 : decode cX3_three 20 = .ok (.if_icmp .gt 31, 3) := dk_163 0 31 (dk_at dksX3_three_0 20 rfl rfl)
theorem dX3_three_23 : decode cX3_three 23 = .ok (.lload_n 2, 1) := dk_32 (dk_at dksX3_three_0 23 rfl rfl)
theorem dX3_three_24 : decode cX3_three 24 = .ok (.aload_n 0, 1) := dk_42 (dk_at dksX3_three_1 0 rfl rfl)
theorem dX3_three_25 : decode cX3_three 25 = .ok (.iload 4, 2) := dk_21 4 (dk_at dksX3_three_1 1 rfl rfl)
theorem dX3_three_27 : decode cX3_three 27 = .ok (.laload, 1) := dk_47 (dk_at dksX3_three_1 3 rfl rfl)
theorem dX3_three_28 : decode cX3_three 28 = .ok (.aload_n 0, 1) := dk_42 (dk_at dksX3_three_1 4 rfl rfl)
theorem dX3_three_29 : decode cX3_three 29 = .ok (.iload 5, 2) := dk_21 5 (dk_at dksX3_three_1 5 rfl rfl)
theorem dX3_three_31 : decode cX3_three 31 = .ok (.laload, 1) := dk_47 (dk_at dksX3_three_1 7 rfl rfl)
theorem dX3_three_32 : decode cX3_three 32 = .ok (.lmul, 1) := dk_105 (dk_at dksX3_three_1 8 rfl rfl)
theorem dX3_three_33 : decode cX3_three 33 = .ok (.aload_n 0, 1) := dk_42 (dk_at dksX3_three_1 9 rfl rfl)
theorem dX3_three_34 : decode cX3_three 34 = .ok (.iload_n 1, 1) := dk_27 (dk_at dksX3_three_1 10 rfl rfl)
theorem dX3_three_35 : decode cX3_three 35 = .ok (.iload 4, 2) := dk_21 4 (dk_at dksX3_three_1 11 rfl rfl)
theorem dX3_three_37 : decode cX3_three 37 = .ok (.isub, 1) := dk_100 (dk_at dksX3_three_1 13 rfl rfl)
theorem dX3_three_38 : decode cX3_three 38 = .ok (.iload 5, 2) := dk_21 5 (dk_at dksX3_three_1 14 rfl rfl)
theorem dX3_three_40 : decode cX3_three 40 = .ok (.isub, 1) := dk_100 (dk_at dksX3_three_1 16 rfl rfl)
theorem dX3_three_41 : decode cX3_three 41 = .ok (.laload, 1) := dk_47 (dk_at dksX3_three_1 17 rfl rfl)
theorem dX3_three_42 : decode cX3_three 42 = .ok (.lmul, 1) := dk_105 (dk_at dksX3_three_1 18 rfl rfl)
theorem dX3_three_43 : decode cX3_three 43 = .ok (.ladd, 1) := dk_97 (dk_at dksX3_three_1 19 rfl rfl)
theorem dX3_three_44 : decode cX3_three 44 = .ok (.lstore_n 2, 1) := dk_65 (dk_at dksX3_three_1 20 rfl rfl)
theorem dX3_three_45 : decode cX3_three 45 = .ok (.iinc 5 1, 3) := dk_132 5 1 (dk_at dksX3_three_1 21 rfl rfl)
theorem dX3_three_48 : decode cX3_three 48 = .ok (.goto (-34), 3) := dk_167 255 222 (dk_at dksX3_three_2 0 rfl rfl)
theorem dX3_three_51 : decode cX3_three 51 = .ok (.iinc 4 1, 3) := dk_132 4 1 (dk_at dksX3_three_2 3 rfl rfl)
theorem dX3_three_54 : decode cX3_three 54 = .ok (.goto (-49), 3) := dk_167 255 207 (dk_at dksX3_three_2 6 rfl rfl)
theorem dX3_three_57 : decode cX3_three 57 = .ok (.lload_n 2, 1) := dk_32 (dk_at dksX3_three_2 9 rfl rfl)
theorem dX3_three_58 : decode cX3_three 58 = .ok (.lreturn, 1) := dk_173 (dk_at dksX3_three_2 10 rfl rfl)
abbrev cX3_twoAndOne : ByteArray := prog_21_method_76_code
def yX3_twoAndOne : MethodName := ⟨RX3, "twoAndOne", "([J[JI)J"⟩
def dkwX3_twoAndOne_1 : List UInt8 := [100, 47, 105, 97, 66, 132, 5, 1, 167, 255, 229, 33, 173]
abbrev dktX3_twoAndOne_1 : List UInt8 := dkwX3_twoAndOne_1 ++ []
def dkwX3_twoAndOne_0 : List UInt8 := [9, 66, 3, 54, 5, 5, 21, 5, 104, 28, 163, 0, 25, 33, 42, 21, 5, 47, 43, 28, 5, 21, 5, 104]
abbrev dktX3_twoAndOne_0 : List UInt8 := dkwX3_twoAndOne_0 ++ dktX3_twoAndOne_1
theorem dksX3_twoAndOne_0 : cX3_twoAndOne.data.toList.drop 0 = dktX3_twoAndOne_0 := by decide +kernel
theorem dksX3_twoAndOne_1 : cX3_twoAndOne.data.toList.drop 24 = dktX3_twoAndOne_1 := dk_seg dksX3_twoAndOne_0 24 rfl rfl
theorem dX3_twoAndOne_0 : decode cX3_twoAndOne 0 = .ok (.lconst 0, 1) := dk_9 (dk_at dksX3_twoAndOne_0 0 rfl rfl)
theorem dX3_twoAndOne_1 : decode cX3_twoAndOne 1 = .ok (.lstore_n 3, 1) := dk_66 (dk_at dksX3_twoAndOne_0 1 rfl rfl)
theorem dX3_twoAndOne_2 : decode cX3_twoAndOne 2 = .ok (.iconst 0, 1) := dk_3 (dk_at dksX3_twoAndOne_0 2 rfl rfl)
theorem dX3_twoAndOne_3 : decode cX3_twoAndOne 3 = .ok (.istore 5, 2) := dk_54 5 (dk_at dksX3_twoAndOne_0 3 rfl rfl)
theorem dX3_twoAndOne_5 : decode cX3_twoAndOne 5 = .ok (.iconst 2, 1) := dk_5 (dk_at dksX3_twoAndOne_0 5 rfl rfl)
theorem dX3_twoAndOne_6 : decode cX3_twoAndOne 6 = .ok (.iload 5, 2) := dk_21 5 (dk_at dksX3_twoAndOne_0 6 rfl rfl)
theorem dX3_twoAndOne_8 : decode cX3_twoAndOne 8 = .ok (.imul, 1) := dk_104 (dk_at dksX3_twoAndOne_0 8 rfl rfl)
theorem dX3_twoAndOne_9 : decode cX3_twoAndOne 9 = .ok (.iload_n 2, 1) := dk_28 (dk_at dksX3_twoAndOne_0 9 rfl rfl)
theorem dX3_twoAndOne_10 : decode cX3_twoAndOne 10 = .ok (.if_icmp .gt 25, 3) := dk_163 0 25 (dk_at dksX3_twoAndOne_0 10 rfl rfl)
theorem dX3_twoAndOne_13 : decode cX3_twoAndOne 13 = .ok (.lload_n 3, 1) := dk_33 (dk_at dksX3_twoAndOne_0 13 rfl rfl)
theorem dX3_twoAndOne_14 : decode cX3_twoAndOne 14 = .ok (.aload_n 0, 1) := dk_42 (dk_at dksX3_twoAndOne_0 14 rfl rfl)
theorem dX3_twoAndOne_15 : decode cX3_twoAndOne 15 = .ok (.iload 5, 2) := dk_21 5 (dk_at dksX3_twoAndOne_0 15 rfl rfl)
theorem dX3_twoAndOne_17 : decode cX3_twoAndOne 17 = .ok (.laload, 1) := dk_47 (dk_at dksX3_twoAndOne_0 17 rfl rfl)
theorem dX3_twoAndOne_18 : decode cX3_twoAndOne 18 = .ok (.aload_n 1, 1) := dk_43 (dk_at dksX3_twoAndOne_0 18 rfl rfl)
theorem dX3_twoAndOne_19 : decode cX3_twoAndOne 19 = .ok (.iload_n 2, 1) := dk_28 (dk_at dksX3_twoAndOne_0 19 rfl rfl)
theorem dX3_twoAndOne_20 : decode cX3_twoAndOne 20 = .ok (.iconst 2, 1) := dk_5 (dk_at dksX3_twoAndOne_0 20 rfl rfl)
theorem dX3_twoAndOne_21 : decode cX3_twoAndOne 21 = .ok (.iload 5, 2) := dk_21 5 (dk_at dksX3_twoAndOne_0 21 rfl rfl)
theorem dX3_twoAndOne_23 : decode cX3_twoAndOne 23 = .ok (.imul, 1) := dk_104 (dk_at dksX3_twoAndOne_0 23 rfl rfl)
theorem dX3_twoAndOne_24 : decode cX3_twoAndOne 24 = .ok (.isub, 1) := dk_100 (dk_at dksX3_twoAndOne_1 0 rfl rfl)
theorem dX3_twoAndOne_25 : decode cX3_twoAndOne 25 = .ok (.laload, 1) := dk_47 (dk_at dksX3_twoAndOne_1 1 rfl rfl)
theorem dX3_twoAndOne_26 : decode cX3_twoAndOne 26 = .ok (.lmul, 1) := dk_105 (dk_at dksX3_twoAndOne_1 2 rfl rfl)
theorem dX3_twoAndOne_27 : decode cX3_twoAndOne 27 = .ok (.ladd, 1) := dk_97 (dk_at dksX3_twoAndOne_1 3 rfl rfl)
theorem dX3_twoAndOne_28 : decode cX3_twoAndOne 28 = .ok (.lstore_n 3, 1) := dk_66 (dk_at dksX3_twoAndOne_1 4 rfl rfl)
theorem dX3_twoAndOne_29 : decode cX3_twoAndOne 29 = .ok (.iinc 5 1, 3) := dk_132 5 1 (dk_at dksX3_twoAndOne_1 5 rfl rfl)
theorem dX3_twoAndOne_32 : decode cX3_twoAndOne 32 = .ok (.goto (-27), 3) := dk_167 255 229 (dk_at dksX3_twoAndOne_1 8 rfl rfl)
theorem dX3_twoAndOne_35 : decode cX3_twoAndOne 35 = .ok (.lload_n 3, 1) := dk_33 (dk_at dksX3_twoAndOne_1 11 rfl rfl)
theorem dX3_twoAndOne_36 : decode cX3_twoAndOne 36 = .ok (.lreturn, 1) := dk_173 (dk_at dksX3_twoAndOne_1 12 rfl rfl)
abbrev cX3_allAlike : ByteArray := prog_21_method_77_code
def yX3_allAlike : MethodName := ⟨RX3, "allAlike", "([JII)J"⟩
def dkwX3_allAlike_0 : List UInt8 := [28, 27, 112, 154, 0, 11, 42, 28, 27, 108, 47, 167, 0, 4, 9, 173]
abbrev dktX3_allAlike_0 : List UInt8 := dkwX3_allAlike_0 ++ []
theorem dksX3_allAlike_0 : cX3_allAlike.data.toList.drop 0 = dktX3_allAlike_0 := by decide +kernel
theorem dX3_allAlike_0 : decode cX3_allAlike 0 = .ok (.iload_n 2, 1) := dk_28 (dk_at dksX3_allAlike_0 0 rfl rfl)
theorem dX3_allAlike_1 : decode cX3_allAlike 1 = .ok (.iload_n 1, 1) := dk_27 (dk_at dksX3_allAlike_0 1 rfl rfl)
theorem dX3_allAlike_2 : decode cX3_allAlike 2 = .ok (.irem, 1) := dk_112 (dk_at dksX3_allAlike_0 2 rfl rfl)
theorem dX3_allAlike_3 : decode cX3_allAlike 3 = .ok (.ifCond .ne 11, 3) := dk_154 0 11 (dk_at dksX3_allAlike_0 3 rfl rfl)
theorem dX3_allAlike_6 : decode cX3_allAlike 6 = .ok (.aload_n 0, 1) := dk_42 (dk_at dksX3_allAlike_0 6 rfl rfl)
theorem dX3_allAlike_7 : decode cX3_allAlike 7 = .ok (.iload_n 2, 1) := dk_28 (dk_at dksX3_allAlike_0 7 rfl rfl)
theorem dX3_allAlike_8 : decode cX3_allAlike 8 = .ok (.iload_n 1, 1) := dk_27 (dk_at dksX3_allAlike_0 8 rfl rfl)
theorem dX3_allAlike_9 : decode cX3_allAlike 9 = .ok (.idiv, 1) := dk_108 (dk_at dksX3_allAlike_0 9 rfl rfl)
theorem dX3_allAlike_10 : decode cX3_allAlike 10 = .ok (.laload, 1) := dk_47 (dk_at dksX3_allAlike_0 10 rfl rfl)
theorem dX3_allAlike_11 : decode cX3_allAlike 11 = .ok (.goto 4, 3) := dk_167 0 4 (dk_at dksX3_allAlike_0 11 rfl rfl)
theorem dX3_allAlike_14 : decode cX3_allAlike 14 = .ok (.lconst 0, 1) := dk_9 (dk_at dksX3_allAlike_0 14 rfl rfl)
theorem dX3_allAlike_15 : decode cX3_allAlike 15 = .ok (.lreturn, 1) := dk_173 (dk_at dksX3_allAlike_0 15 rfl rfl)
abbrev cX3_skeletons : ByteArray := prog_21_method_85_code
def yX3_skeletons : MethodName := ⟨RX3, "skeletons", "(I)J"⟩
def dkwX3_skeletons_5 : List UInt8 := [167, 0, 4, 33, 173]
abbrev dktX3_skeletons_5 : List UInt8 := dkwX3_skeletons_5 ++ []
def dkwX3_skeletons_4 : List UInt8 := [5, 108, 47, 55, 5, 27, 5, 112, 154, 0, 19, 33, 22, 5, 22, 5, 10, 97, 105, 20, 0, 156, 109, 97]
abbrev dktX3_skeletons_4 : List UInt8 := dkwX3_skeletons_4 ++ dktX3_skeletons_5
def dkwX3_skeletons_3 : List UInt8 := [20, 1, 22, 42, 180, 0, 121, 7, 28, 184, 1, 132, 105, 97, 20, 1, 24, 109, 66, 42, 180, 0, 112, 27]
abbrev dktX3_skeletons_3 : List UInt8 := dkwX3_skeletons_3 ++ dktX3_skeletons_4
def dkwX3_skeletons_2 : List UInt8 := [180, 0, 121, 28, 184, 1, 148, 105, 97, 20, 1, 151, 42, 180, 0, 121, 28, 184, 1, 153, 105, 97]
abbrev dktX3_skeletons_2 : List UInt8 := dkwX3_skeletons_2 ++ dktX3_skeletons_3
def dkwX3_skeletons_1 : List UInt8 := [184, 1, 143, 20, 1, 22, 42, 180, 0, 121, 42, 180, 0, 121, 28, 184, 1, 145, 105, 97, 20, 1, 20, 42]
abbrev dktX3_skeletons_1 : List UInt8 := dkwX3_skeletons_1 ++ dktX3_skeletons_2
def dkwX3_skeletons_0 : List UInt8 := [27, 4, 100, 61, 42, 180, 0, 112, 42, 180, 0, 121, 28, 5, 108, 184, 1, 139, 42, 180, 0, 121, 28]
abbrev dktX3_skeletons_0 : List UInt8 := dkwX3_skeletons_0 ++ dktX3_skeletons_1
theorem dksX3_skeletons_0 : cX3_skeletons.data.toList.drop 0 = dktX3_skeletons_0 := by decide +kernel
theorem dksX3_skeletons_1 : cX3_skeletons.data.toList.drop 23 = dktX3_skeletons_1 := dk_seg dksX3_skeletons_0 23 rfl rfl
theorem dksX3_skeletons_2 : cX3_skeletons.data.toList.drop 47 = dktX3_skeletons_2 := dk_seg dksX3_skeletons_1 24 rfl rfl
theorem dksX3_skeletons_3 : cX3_skeletons.data.toList.drop 69 = dktX3_skeletons_3 := dk_seg dksX3_skeletons_2 22 rfl rfl
theorem dksX3_skeletons_4 : cX3_skeletons.data.toList.drop 93 = dktX3_skeletons_4 := dk_seg dksX3_skeletons_3 24 rfl rfl
theorem dksX3_skeletons_5 : cX3_skeletons.data.toList.drop 117 = dktX3_skeletons_5 := dk_seg dksX3_skeletons_4 24 rfl rfl
theorem dX3_skeletons_0 : decode cX3_skeletons 0 = .ok (.iload_n 1, 1) := dk_27 (dk_at dksX3_skeletons_0 0 rfl rfl)
theorem dX3_skeletons_1 : decode cX3_skeletons 1 = .ok (.iconst 1, 1) := dk_4 (dk_at dksX3_skeletons_0 1 rfl rfl)
theorem dX3_skeletons_2 : decode cX3_skeletons 2 = .ok (.isub, 1) := dk_100 (dk_at dksX3_skeletons_0 2 rfl rfl)
theorem dX3_skeletons_3 : decode cX3_skeletons 3 = .ok (.istore_n 2, 1) := dk_61 (dk_at dksX3_skeletons_0 3 rfl rfl)
theorem dX3_skeletons_4 : decode cX3_skeletons 4 = .ok (.aload_n 0, 1) := dk_42 (dk_at dksX3_skeletons_0 4 rfl rfl)
theorem dX3_skeletons_5 : decode cX3_skeletons 5 = .ok (.getfield 112, 3) := dk_180 0 112 (dk_at dksX3_skeletons_0 5 rfl rfl)
theorem dX3_skeletons_8 : decode cX3_skeletons 8 = .ok (.aload_n 0, 1) := dk_42 (dk_at dksX3_skeletons_0 8 rfl rfl)
theorem dX3_skeletons_9 : decode cX3_skeletons 9 = .ok (.getfield 121, 3) := dk_180 0 121 (dk_at dksX3_skeletons_0 9 rfl rfl)
theorem dX3_skeletons_12 : decode cX3_skeletons 12 = .ok (.iload_n 2, 1) := dk_28 (dk_at dksX3_skeletons_0 12 rfl rfl)
theorem dX3_skeletons_13 : decode cX3_skeletons 13 = .ok (.iconst 2, 1) := dk_5 (dk_at dksX3_skeletons_0 13 rfl rfl)
theorem dX3_skeletons_14 : decode cX3_skeletons 14 = .ok (.idiv, 1) := dk_108 (dk_at dksX3_skeletons_0 14 rfl rfl)
theorem dX3_skeletons_15 : decode cX3_skeletons 15 = .ok (.invokestatic 395, 3) := dk_184 1 139 (dk_at dksX3_skeletons_0 15 rfl rfl)
theorem dX3_skeletons_18 : decode cX3_skeletons 18 = .ok (.aload_n 0, 1) := dk_42 (dk_at dksX3_skeletons_0 18 rfl rfl)
theorem dX3_skeletons_19 : decode cX3_skeletons 19 = .ok (.getfield 121, 3) := dk_180 0 121 (dk_at dksX3_skeletons_0 19 rfl rfl)
theorem dX3_skeletons_22 : decode cX3_skeletons 22 = .ok (.iload_n 2, 1) := dk_28 (dk_at dksX3_skeletons_0 22 rfl rfl)
theorem dX3_skeletons_23 : decode cX3_skeletons 23 = .ok (.invokestatic 399, 3) := dk_184 1 143 (dk_at dksX3_skeletons_1 0 rfl rfl)
theorem dX3_skeletons_26 : decode cX3_skeletons 26 = .ok (.ldc2_w 278, 3) := dk_20 1 22 (dk_at dksX3_skeletons_1 3 rfl rfl)
theorem dX3_skeletons_29 : decode cX3_skeletons 29 = .ok (.aload_n 0, 1) := dk_42 (dk_at dksX3_skeletons_1 6 rfl rfl)
theorem dX3_skeletons_30 : decode cX3_skeletons 30 = .ok (.getfield 121, 3) := dk_180 0 121 (dk_at dksX3_skeletons_1 7 rfl rfl)
theorem dX3_skeletons_33 : decode cX3_skeletons 33 = .ok (.aload_n 0, 1) := dk_42 (dk_at dksX3_skeletons_1 10 rfl rfl)
theorem dX3_skeletons_34 : decode cX3_skeletons 34 = .ok (.getfield 121, 3) := dk_180 0 121 (dk_at dksX3_skeletons_1 11 rfl rfl)
theorem dX3_skeletons_37 : decode cX3_skeletons 37 = .ok (.iload_n 2, 1) := dk_28 (dk_at dksX3_skeletons_1 14 rfl rfl)
theorem dX3_skeletons_38 : decode cX3_skeletons 38 = .ok (.invokestatic 401, 3) := dk_184 1 145 (dk_at dksX3_skeletons_1 15 rfl rfl)
theorem dX3_skeletons_41 : decode cX3_skeletons 41 = .ok (.lmul, 1) := dk_105 (dk_at dksX3_skeletons_1 18 rfl rfl)
theorem dX3_skeletons_42 : decode cX3_skeletons 42 = .ok (.ladd, 1) := dk_97 (dk_at dksX3_skeletons_1 19 rfl rfl)
theorem dX3_skeletons_43 : decode cX3_skeletons 43 = .ok (.ldc2_w 276, 3) := dk_20 1 20 (dk_at dksX3_skeletons_1 20 rfl rfl)
theorem dX3_skeletons_46 : decode cX3_skeletons 46 = .ok (.aload_n 0, 1) := dk_42 (dk_at dksX3_skeletons_1 23 rfl rfl)
theorem dX3_skeletons_47 : decode cX3_skeletons 47 = .ok (.getfield 121, 3) := dk_180 0 121 (dk_at dksX3_skeletons_2 0 rfl rfl)
theorem dX3_skeletons_50 : decode cX3_skeletons 50 = .ok (.iload_n 2, 1) := dk_28 (dk_at dksX3_skeletons_2 3 rfl rfl)
theorem dX3_skeletons_51 : decode cX3_skeletons 51 = .ok (.invokestatic 404, 3) := dk_184 1 148 (dk_at dksX3_skeletons_2 4 rfl rfl)
theorem dX3_skeletons_54 : decode cX3_skeletons 54 = .ok (.lmul, 1) := dk_105 (dk_at dksX3_skeletons_2 7 rfl rfl)
theorem dX3_skeletons_55 : decode cX3_skeletons 55 = .ok (.ladd, 1) := dk_97 (dk_at dksX3_skeletons_2 8 rfl rfl)
theorem dX3_skeletons_56 : decode cX3_skeletons 56 = .ok (.ldc2_w 407, 3) := dk_20 1 151 (dk_at dksX3_skeletons_2 9 rfl rfl)
theorem dX3_skeletons_59 : decode cX3_skeletons 59 = .ok (.aload_n 0, 1) := dk_42 (dk_at dksX3_skeletons_2 12 rfl rfl)
theorem dX3_skeletons_60 : decode cX3_skeletons 60 = .ok (.getfield 121, 3) := dk_180 0 121 (dk_at dksX3_skeletons_2 13 rfl rfl)
theorem dX3_skeletons_63 : decode cX3_skeletons 63 = .ok (.iload_n 2, 1) := dk_28 (dk_at dksX3_skeletons_2 16 rfl rfl)
theorem dX3_skeletons_64 : decode cX3_skeletons 64 = .ok (.invokestatic 409, 3) := dk_184 1 153 (dk_at dksX3_skeletons_2 17 rfl rfl)
theorem dX3_skeletons_67 : decode cX3_skeletons 67 = .ok (.lmul, 1) := dk_105 (dk_at dksX3_skeletons_2 20 rfl rfl)
theorem dX3_skeletons_68 : decode cX3_skeletons 68 = .ok (.ladd, 1) := dk_97 (dk_at dksX3_skeletons_2 21 rfl rfl)
theorem dX3_skeletons_69 : decode cX3_skeletons 69 = .ok (.ldc2_w 278, 3) := dk_20 1 22 (dk_at dksX3_skeletons_3 0 rfl rfl)
theorem dX3_skeletons_72 : decode cX3_skeletons 72 = .ok (.aload_n 0, 1) := dk_42 (dk_at dksX3_skeletons_3 3 rfl rfl)
theorem dX3_skeletons_73 : decode cX3_skeletons 73 = .ok (.getfield 121, 3) := dk_180 0 121 (dk_at dksX3_skeletons_3 4 rfl rfl)
theorem dX3_skeletons_76 : decode cX3_skeletons 76 = .ok (.iconst 4, 1) := dk_7 (dk_at dksX3_skeletons_3 7 rfl rfl)
theorem dX3_skeletons_77 : decode cX3_skeletons 77 = .ok (.iload_n 2, 1) := dk_28 (dk_at dksX3_skeletons_3 8 rfl rfl)
theorem dX3_skeletons_78 : decode cX3_skeletons 78 = .ok (.invokestatic 388, 3) := dk_184 1 132 (dk_at dksX3_skeletons_3 9 rfl rfl)
theorem dX3_skeletons_81 : decode cX3_skeletons 81 = .ok (.lmul, 1) := dk_105 (dk_at dksX3_skeletons_3 12 rfl rfl)
theorem dX3_skeletons_82 : decode cX3_skeletons 82 = .ok (.ladd, 1) := dk_97 (dk_at dksX3_skeletons_3 13 rfl rfl)
theorem dX3_skeletons_83 : decode cX3_skeletons 83 = .ok (.ldc2_w 280, 3) := dk_20 1 24 (dk_at dksX3_skeletons_3 14 rfl rfl)
theorem dX3_skeletons_86 : decode cX3_skeletons 86 = .ok (.ldiv, 1) := dk_109 (dk_at dksX3_skeletons_3 17 rfl rfl)
theorem dX3_skeletons_87 : decode cX3_skeletons 87 = .ok (.lstore_n 3, 1) := dk_66 (dk_at dksX3_skeletons_3 18 rfl rfl)
theorem dX3_skeletons_88 : decode cX3_skeletons 88 = .ok (.aload_n 0, 1) := dk_42 (dk_at dksX3_skeletons_3 19 rfl rfl)
theorem dX3_skeletons_89 : decode cX3_skeletons 89 = .ok (.getfield 112, 3) := dk_180 0 112 (dk_at dksX3_skeletons_3 20 rfl rfl)
theorem dX3_skeletons_92 : decode cX3_skeletons 92 = .ok (.iload_n 1, 1) := dk_27 (dk_at dksX3_skeletons_3 23 rfl rfl)
theorem dX3_skeletons_93 : decode cX3_skeletons 93 = .ok (.iconst 2, 1) := dk_5 (dk_at dksX3_skeletons_4 0 rfl rfl)
theorem dX3_skeletons_94 : decode cX3_skeletons 94 = .ok (.idiv, 1) := dk_108 (dk_at dksX3_skeletons_4 1 rfl rfl)
theorem dX3_skeletons_95 : decode cX3_skeletons 95 = .ok (.laload, 1) := dk_47 (dk_at dksX3_skeletons_4 2 rfl rfl)
theorem dX3_skeletons_96 : decode cX3_skeletons 96 = .ok (.lstore 5, 2) := dk_55 5 (dk_at dksX3_skeletons_4 3 rfl rfl)
theorem dX3_skeletons_98 : decode cX3_skeletons 98 = .ok (.iload_n 1, 1) := dk_27 (dk_at dksX3_skeletons_4 5 rfl rfl)
theorem dX3_skeletons_99 : decode cX3_skeletons 99 = .ok (.iconst 2, 1) := dk_5 (dk_at dksX3_skeletons_4 6 rfl rfl)
theorem dX3_skeletons_100 : decode cX3_skeletons 100 = .ok (.irem, 1) := dk_112 (dk_at dksX3_skeletons_4 7 rfl rfl)
theorem dX3_skeletons_101 : decode cX3_skeletons 101 = .ok (.ifCond .ne 19, 3) := dk_154 0 19 (dk_at dksX3_skeletons_4 8 rfl rfl)
theorem dX3_skeletons_104 : decode cX3_skeletons 104 = .ok (.lload_n 3, 1) := dk_33 (dk_at dksX3_skeletons_4 11 rfl rfl)
theorem dX3_skeletons_105 : decode cX3_skeletons 105 = .ok (.lload 5, 2) := dk_22 5 (dk_at dksX3_skeletons_4 12 rfl rfl)
theorem dX3_skeletons_107 : decode cX3_skeletons 107 = .ok (.lload 5, 2) := dk_22 5 (dk_at dksX3_skeletons_4 14 rfl rfl)
theorem dX3_skeletons_109 : decode cX3_skeletons 109 = .ok (.lconst 1, 1) := dk_10 (dk_at dksX3_skeletons_4 16 rfl rfl)
theorem dX3_skeletons_110 : decode cX3_skeletons 110 = .ok (.ladd, 1) := dk_97 (dk_at dksX3_skeletons_4 17 rfl rfl)
theorem dX3_skeletons_111 : decode cX3_skeletons 111 = .ok (.lmul, 1) := dk_105 (dk_at dksX3_skeletons_4 18 rfl rfl)
theorem dX3_skeletons_112 : decode cX3_skeletons 112 = .ok (.ldc2_w 156, 3) := dk_20 0 156 (dk_at dksX3_skeletons_4 19 rfl rfl)
theorem dX3_skeletons_115 : decode cX3_skeletons 115 = .ok (.ldiv, 1) := dk_109 (dk_at dksX3_skeletons_4 22 rfl rfl)
theorem dX3_skeletons_116 : decode cX3_skeletons 116 = .ok (.ladd, 1) := dk_97 (dk_at dksX3_skeletons_4 23 rfl rfl)
theorem dX3_skeletons_117 : decode cX3_skeletons 117 = .ok (.goto 4, 3) := dk_167 0 4 (dk_at dksX3_skeletons_5 0 rfl rfl)
theorem dX3_skeletons_120 : decode cX3_skeletons 120 = .ok (.lload_n 3, 1) := dk_33 (dk_at dksX3_skeletons_5 3 rfl rfl)
theorem dX3_skeletons_121 : decode cX3_skeletons 121 = .ok (.lreturn, 1) := dk_173 (dk_at dksX3_skeletons_5 4 rfl rfl)
abbrev cX3_takesSome : ByteArray := prog_21_method_79_code
def yX3_takesSome : MethodName := ⟨RX3, "takesSome", "([J[JI)V"⟩
def dkwX3_takesSome_1 : List UInt8 := [132, 3, 1, 167, 255, 232, 177]
abbrev dktX3_takesSome_1 : List UInt8 := dkwX3_takesSome_1 ++ []
def dkwX3_takesSome_0 : List UInt8 := [3, 62, 29, 16, 40, 163, 0, 24, 43, 29, 29, 28, 163, 0, 9, 42, 29, 47, 167, 0, 4, 9, 80]
abbrev dktX3_takesSome_0 : List UInt8 := dkwX3_takesSome_0 ++ dktX3_takesSome_1
theorem dksX3_takesSome_0 : cX3_takesSome.data.toList.drop 0 = dktX3_takesSome_0 := by decide +kernel
theorem dksX3_takesSome_1 : cX3_takesSome.data.toList.drop 23 = dktX3_takesSome_1 := dk_seg dksX3_takesSome_0 23 rfl rfl
theorem dX3_takesSome_0 : decode cX3_takesSome 0 = .ok (.iconst 0, 1) := dk_3 (dk_at dksX3_takesSome_0 0 rfl rfl)
theorem dX3_takesSome_1 : decode cX3_takesSome 1 = .ok (.istore_n 3, 1) := dk_62 (dk_at dksX3_takesSome_0 1 rfl rfl)
theorem dX3_takesSome_2 : decode cX3_takesSome 2 = .ok (.iload_n 3, 1) := dk_29 (dk_at dksX3_takesSome_0 2 rfl rfl)
theorem dX3_takesSome_3 : decode cX3_takesSome 3 = .ok (.bipush 40, 2) := dk_16 40 (dk_at dksX3_takesSome_0 3 rfl rfl)
theorem dX3_takesSome_5 : decode cX3_takesSome 5 = .ok (.if_icmp .gt 24, 3) := dk_163 0 24 (dk_at dksX3_takesSome_0 5 rfl rfl)
theorem dX3_takesSome_8 : decode cX3_takesSome 8 = .ok (.aload_n 1, 1) := dk_43 (dk_at dksX3_takesSome_0 8 rfl rfl)
theorem dX3_takesSome_9 : decode cX3_takesSome 9 = .ok (.iload_n 3, 1) := dk_29 (dk_at dksX3_takesSome_0 9 rfl rfl)
theorem dX3_takesSome_10 : decode cX3_takesSome 10 = .ok (.iload_n 3, 1) := dk_29 (dk_at dksX3_takesSome_0 10 rfl rfl)
theorem dX3_takesSome_11 : decode cX3_takesSome 11 = .ok (.iload_n 2, 1) := dk_28 (dk_at dksX3_takesSome_0 11 rfl rfl)
theorem dX3_takesSome_12 : decode cX3_takesSome 12 = .ok (.if_icmp .gt 9, 3) := dk_163 0 9 (dk_at dksX3_takesSome_0 12 rfl rfl)
theorem dX3_takesSome_15 : decode cX3_takesSome 15 = .ok (.aload_n 0, 1) := dk_42 (dk_at dksX3_takesSome_0 15 rfl rfl)
theorem dX3_takesSome_16 : decode cX3_takesSome 16 = .ok (.iload_n 3, 1) := dk_29 (dk_at dksX3_takesSome_0 16 rfl rfl)
theorem dX3_takesSome_17 : decode cX3_takesSome 17 = .ok (.laload, 1) := dk_47 (dk_at dksX3_takesSome_0 17 rfl rfl)
theorem dX3_takesSome_18 : decode cX3_takesSome 18 = .ok (.goto 4, 3) := dk_167 0 4 (dk_at dksX3_takesSome_0 18 rfl rfl)
theorem dX3_takesSome_21 : decode cX3_takesSome 21 = .ok (.lconst 0, 1) := dk_9 (dk_at dksX3_takesSome_0 21 rfl rfl)
theorem dX3_takesSome_22 : decode cX3_takesSome 22 = .ok (.lastore, 1) := dk_80 (dk_at dksX3_takesSome_0 22 rfl rfl)
theorem dX3_takesSome_23 : decode cX3_takesSome 23 = .ok (.iinc 3 1, 3) := dk_132 3 1 (dk_at dksX3_takesSome_1 0 rfl rfl)
theorem dX3_takesSome_26 : decode cX3_takesSome 26 = .ok (.goto (-24), 3) := dk_167 255 232 (dk_at dksX3_takesSome_1 3 rfl rfl)
theorem dX3_takesSome_29 : decode cX3_takesSome 29 = .ok (.return_, 1) := dk_177 (dk_at dksX3_takesSome_1 6 rfl rfl)
abbrev cX3_four : ByteArray := prog_21_method_80_code
def yX3_four : MethodName := ⟨RX3, "four", "([JI)J"⟩
def dkwX3_four_1 : List UInt8 := [184, 1, 136, 105, 97, 65, 132, 4, 1, 167, 255, 229, 32, 173]
abbrev dktX3_four_1 : List UInt8 := dkwX3_four_1 ++ []
def dkwX3_four_0 : List UInt8 := [9, 65, 3, 54, 4, 21, 4, 27, 163, 0, 27, 32, 42, 21, 4, 184, 1, 136, 42, 27, 21, 4, 100]
abbrev dktX3_four_0 : List UInt8 := dkwX3_four_0 ++ dktX3_four_1
theorem dksX3_four_0 : cX3_four.data.toList.drop 0 = dktX3_four_0 := by decide +kernel
theorem dksX3_four_1 : cX3_four.data.toList.drop 23 = dktX3_four_1 := dk_seg dksX3_four_0 23 rfl rfl
theorem dX3_four_0 : decode cX3_four 0 = .ok (.lconst 0, 1) := dk_9 (dk_at dksX3_four_0 0 rfl rfl)
theorem dX3_four_1 : decode cX3_four 1 = .ok (.lstore_n 2, 1) := dk_65 (dk_at dksX3_four_0 1 rfl rfl)
theorem dX3_four_2 : decode cX3_four 2 = .ok (.iconst 0, 1) := dk_3 (dk_at dksX3_four_0 2 rfl rfl)
theorem dX3_four_3 : decode cX3_four 3 = .ok (.istore 4, 2) := dk_54 4 (dk_at dksX3_four_0 3 rfl rfl)
theorem dX3_four_5 : decode cX3_four 5 = .ok (.iload 4, 2) := dk_21 4 (dk_at dksX3_four_0 5 rfl rfl)
theorem dX3_four_7 : decode cX3_four 7 = .ok (.iload_n 1, 1) := dk_27 (dk_at dksX3_four_0 7 rfl rfl)
theorem dX3_four_8 : decode cX3_four 8 = .ok (.if_icmp .gt 27, 3) := dk_163 0 27 (dk_at dksX3_four_0 8 rfl rfl)
theorem dX3_four_11 : decode cX3_four 11 = .ok (.lload_n 2, 1) := dk_32 (dk_at dksX3_four_0 11 rfl rfl)
theorem dX3_four_12 : decode cX3_four 12 = .ok (.aload_n 0, 1) := dk_42 (dk_at dksX3_four_0 12 rfl rfl)
theorem dX3_four_13 : decode cX3_four 13 = .ok (.iload 4, 2) := dk_21 4 (dk_at dksX3_four_0 13 rfl rfl)
theorem dX3_four_15 : decode cX3_four 15 = .ok (.invokestatic 392, 3) := dk_184 1 136 (dk_at dksX3_four_0 15 rfl rfl)
theorem dX3_four_18 : decode cX3_four 18 = .ok (.aload_n 0, 1) := dk_42 (dk_at dksX3_four_0 18 rfl rfl)
theorem dX3_four_19 : decode cX3_four 19 = .ok (.iload_n 1, 1) := dk_27 (dk_at dksX3_four_0 19 rfl rfl)
theorem dX3_four_20 : decode cX3_four 20 = .ok (.iload 4, 2) := dk_21 4 (dk_at dksX3_four_0 20 rfl rfl)
theorem dX3_four_22 : decode cX3_four 22 = .ok (.isub, 1) := dk_100 (dk_at dksX3_four_0 22 rfl rfl)
theorem dX3_four_23 : decode cX3_four 23 = .ok (.invokestatic 392, 3) := dk_184 1 136 (dk_at dksX3_four_1 0 rfl rfl)
theorem dX3_four_26 : decode cX3_four 26 = .ok (.lmul, 1) := dk_105 (dk_at dksX3_four_1 3 rfl rfl)
theorem dX3_four_27 : decode cX3_four 27 = .ok (.ladd, 1) := dk_97 (dk_at dksX3_four_1 4 rfl rfl)
theorem dX3_four_28 : decode cX3_four 28 = .ok (.lstore_n 2, 1) := dk_65 (dk_at dksX3_four_1 5 rfl rfl)
theorem dX3_four_29 : decode cX3_four 29 = .ok (.iinc 4 1, 3) := dk_132 4 1 (dk_at dksX3_four_1 6 rfl rfl)
theorem dX3_four_32 : decode cX3_four 32 = .ok (.goto (-27), 3) := dk_167 255 229 (dk_at dksX3_four_1 9 rfl rfl)
theorem dX3_four_35 : decode cX3_four 35 = .ok (.lload_n 2, 1) := dk_32 (dk_at dksX3_four_1 12 rfl rfl)
theorem dX3_four_36 : decode cX3_four 36 = .ok (.lreturn, 1) := dk_173 (dk_at dksX3_four_1 13 rfl rfl)
abbrev cX3_pairs : ByteArray := prog_21_method_81_code
def yX3_pairs : MethodName := ⟨RX3, "pairs", "([JI)J"⟩
def dkwX3_pairs_1 : List UInt8 := [65, 132, 4, 1, 167, 255, 233, 32, 173]
abbrev dktX3_pairs_1 : List UInt8 := dkwX3_pairs_1 ++ []
def dkwX3_pairs_0 : List UInt8 := [9, 65, 3, 54, 4, 21, 4, 27, 163, 0, 23, 32, 42, 21, 4, 47, 42, 27, 21, 4, 100, 47, 105, 97]
abbrev dktX3_pairs_0 : List UInt8 := dkwX3_pairs_0 ++ dktX3_pairs_1
theorem dksX3_pairs_0 : cX3_pairs.data.toList.drop 0 = dktX3_pairs_0 := by decide +kernel
theorem dksX3_pairs_1 : cX3_pairs.data.toList.drop 24 = dktX3_pairs_1 := dk_seg dksX3_pairs_0 24 rfl rfl
theorem dX3_pairs_0 : decode cX3_pairs 0 = .ok (.lconst 0, 1) := dk_9 (dk_at dksX3_pairs_0 0 rfl rfl)
theorem dX3_pairs_1 : decode cX3_pairs 1 = .ok (.lstore_n 2, 1) := dk_65 (dk_at dksX3_pairs_0 1 rfl rfl)
theorem dX3_pairs_2 : decode cX3_pairs 2 = .ok (.iconst 0, 1) := dk_3 (dk_at dksX3_pairs_0 2 rfl rfl)
theorem dX3_pairs_3 : decode cX3_pairs 3 = .ok (.istore 4, 2) := dk_54 4 (dk_at dksX3_pairs_0 3 rfl rfl)
theorem dX3_pairs_5 : decode cX3_pairs 5 = .ok (.iload 4, 2) := dk_21 4 (dk_at dksX3_pairs_0 5 rfl rfl)
theorem dX3_pairs_7 : decode cX3_pairs 7 = .ok (.iload_n 1, 1) := dk_27 (dk_at dksX3_pairs_0 7 rfl rfl)
theorem dX3_pairs_8 : decode cX3_pairs 8 = .ok (.if_icmp .gt 23, 3) := dk_163 0 23 (dk_at dksX3_pairs_0 8 rfl rfl)
theorem dX3_pairs_11 : decode cX3_pairs 11 = .ok (.lload_n 2, 1) := dk_32 (dk_at dksX3_pairs_0 11 rfl rfl)
theorem dX3_pairs_12 : decode cX3_pairs 12 = .ok (.aload_n 0, 1) := dk_42 (dk_at dksX3_pairs_0 12 rfl rfl)
theorem dX3_pairs_13 : decode cX3_pairs 13 = .ok (.iload 4, 2) := dk_21 4 (dk_at dksX3_pairs_0 13 rfl rfl)
theorem dX3_pairs_15 : decode cX3_pairs 15 = .ok (.laload, 1) := dk_47 (dk_at dksX3_pairs_0 15 rfl rfl)
theorem dX3_pairs_16 : decode cX3_pairs 16 = .ok (.aload_n 0, 1) := dk_42 (dk_at dksX3_pairs_0 16 rfl rfl)
theorem dX3_pairs_17 : decode cX3_pairs 17 = .ok (.iload_n 1, 1) := dk_27 (dk_at dksX3_pairs_0 17 rfl rfl)
theorem dX3_pairs_18 : decode cX3_pairs 18 = .ok (.iload 4, 2) := dk_21 4 (dk_at dksX3_pairs_0 18 rfl rfl)
theorem dX3_pairs_20 : decode cX3_pairs 20 = .ok (.isub, 1) := dk_100 (dk_at dksX3_pairs_0 20 rfl rfl)
theorem dX3_pairs_21 : decode cX3_pairs 21 = .ok (.laload, 1) := dk_47 (dk_at dksX3_pairs_0 21 rfl rfl)
theorem dX3_pairs_22 : decode cX3_pairs 22 = .ok (.lmul, 1) := dk_105 (dk_at dksX3_pairs_0 22 rfl rfl)
theorem dX3_pairs_23 : decode cX3_pairs 23 = .ok (.ladd, 1) := dk_97 (dk_at dksX3_pairs_0 23 rfl rfl)
theorem dX3_pairs_24 : decode cX3_pairs 24 = .ok (.lstore_n 2, 1) := dk_65 (dk_at dksX3_pairs_1 0 rfl rfl)
theorem dX3_pairs_25 : decode cX3_pairs 25 = .ok (.iinc 4 1, 3) := dk_132 4 1 (dk_at dksX3_pairs_1 1 rfl rfl)
theorem dX3_pairs_28 : decode cX3_pairs 28 = .ok (.goto (-23), 3) := dk_167 255 233 (dk_at dksX3_pairs_1 4 rfl rfl)
theorem dX3_pairs_31 : decode cX3_pairs 31 = .ok (.lload_n 2, 1) := dk_32 (dk_at dksX3_pairs_1 7 rfl rfl)
theorem dX3_pairs_32 : decode cX3_pairs 32 = .ok (.lreturn, 1) := dk_173 (dk_at dksX3_pairs_1 8 rfl rfl)
abbrev cX3_twoAndTwoMore : ByteArray := prog_21_method_84_code
def yX3_twoAndTwoMore : MethodName := ⟨RX3, "twoAndTwoMore", "([J[JI)J"⟩
def dkwX3_twoAndTwoMore_1 : List UInt8 := [100, 184, 1, 136, 105, 97, 66, 132, 5, 1, 167, 255, 227, 33, 173]
abbrev dktX3_twoAndTwoMore_1 : List UInt8 := dkwX3_twoAndTwoMore_1 ++ []
def dkwX3_twoAndTwoMore_0 : List UInt8 := [9, 66, 3, 54, 5, 5, 21, 5, 104, 28, 163, 0, 27, 33, 42, 21, 5, 47, 43, 28, 5, 21, 5, 104]
abbrev dktX3_twoAndTwoMore_0 : List UInt8 := dkwX3_twoAndTwoMore_0 ++ dktX3_twoAndTwoMore_1
theorem dksX3_twoAndTwoMore_0 : cX3_twoAndTwoMore.data.toList.drop 0 = dktX3_twoAndTwoMore_0 := by decide +kernel
theorem dksX3_twoAndTwoMore_1 : cX3_twoAndTwoMore.data.toList.drop 24 = dktX3_twoAndTwoMore_1 := dk_seg dksX3_twoAndTwoMore_0 24 rfl rfl
theorem dX3_twoAndTwoMore_0 : decode cX3_twoAndTwoMore 0 = .ok (.lconst 0, 1) := dk_9 (dk_at dksX3_twoAndTwoMore_0 0 rfl rfl)
theorem dX3_twoAndTwoMore_1 : decode cX3_twoAndTwoMore 1 = .ok (.lstore_n 3, 1) := dk_66 (dk_at dksX3_twoAndTwoMore_0 1 rfl rfl)
theorem dX3_twoAndTwoMore_2 : decode cX3_twoAndTwoMore 2 = .ok (.iconst 0, 1) := dk_3 (dk_at dksX3_twoAndTwoMore_0 2 rfl rfl)
theorem dX3_twoAndTwoMore_3 : decode cX3_twoAndTwoMore 3 = .ok (.istore 5, 2) := dk_54 5 (dk_at dksX3_twoAndTwoMore_0 3 rfl rfl)
theorem dX3_twoAndTwoMore_5 : decode cX3_twoAndTwoMore 5 = .ok (.iconst 2, 1) := dk_5 (dk_at dksX3_twoAndTwoMore_0 5 rfl rfl)
theorem dX3_twoAndTwoMore_6 : decode cX3_twoAndTwoMore 6 = .ok (.iload 5, 2) := dk_21 5 (dk_at dksX3_twoAndTwoMore_0 6 rfl rfl)
theorem dX3_twoAndTwoMore_8 : decode cX3_twoAndTwoMore 8 = .ok (.imul, 1) := dk_104 (dk_at dksX3_twoAndTwoMore_0 8 rfl rfl)
theorem dX3_twoAndTwoMore_9 : decode cX3_twoAndTwoMore 9 = .ok (.iload_n 2, 1) := dk_28 (dk_at dksX3_twoAndTwoMore_0 9 rfl rfl)
theorem dX3_twoAndTwoMore_10 : decode cX3_twoAndTwoMore 10 = .ok (.if_icmp .gt 27, 3) := dk_163 0 27 (dk_at dksX3_twoAndTwoMore_0 10 rfl rfl)
theorem dX3_twoAndTwoMore_13 : decode cX3_twoAndTwoMore 13 = .ok (.lload_n 3, 1) := dk_33 (dk_at dksX3_twoAndTwoMore_0 13 rfl rfl)
theorem dX3_twoAndTwoMore_14 : decode cX3_twoAndTwoMore 14 = .ok (.aload_n 0, 1) := dk_42 (dk_at dksX3_twoAndTwoMore_0 14 rfl rfl)
theorem dX3_twoAndTwoMore_15 : decode cX3_twoAndTwoMore 15 = .ok (.iload 5, 2) := dk_21 5 (dk_at dksX3_twoAndTwoMore_0 15 rfl rfl)
theorem dX3_twoAndTwoMore_17 : decode cX3_twoAndTwoMore 17 = .ok (.laload, 1) := dk_47 (dk_at dksX3_twoAndTwoMore_0 17 rfl rfl)
theorem dX3_twoAndTwoMore_18 : decode cX3_twoAndTwoMore 18 = .ok (.aload_n 1, 1) := dk_43 (dk_at dksX3_twoAndTwoMore_0 18 rfl rfl)
theorem dX3_twoAndTwoMore_19 : decode cX3_twoAndTwoMore 19 = .ok (.iload_n 2, 1) := dk_28 (dk_at dksX3_twoAndTwoMore_0 19 rfl rfl)
theorem dX3_twoAndTwoMore_20 : decode cX3_twoAndTwoMore 20 = .ok (.iconst 2, 1) := dk_5 (dk_at dksX3_twoAndTwoMore_0 20 rfl rfl)
theorem dX3_twoAndTwoMore_21 : decode cX3_twoAndTwoMore 21 = .ok (.iload 5, 2) := dk_21 5 (dk_at dksX3_twoAndTwoMore_0 21 rfl rfl)
theorem dX3_twoAndTwoMore_23 : decode cX3_twoAndTwoMore 23 = .ok (.imul, 1) := dk_104 (dk_at dksX3_twoAndTwoMore_0 23 rfl rfl)
theorem dX3_twoAndTwoMore_24 : decode cX3_twoAndTwoMore 24 = .ok (.isub, 1) := dk_100 (dk_at dksX3_twoAndTwoMore_1 0 rfl rfl)
theorem dX3_twoAndTwoMore_25 : decode cX3_twoAndTwoMore 25 = .ok (.invokestatic 392, 3) := dk_184 1 136 (dk_at dksX3_twoAndTwoMore_1 1 rfl rfl)
theorem dX3_twoAndTwoMore_28 : decode cX3_twoAndTwoMore 28 = .ok (.lmul, 1) := dk_105 (dk_at dksX3_twoAndTwoMore_1 4 rfl rfl)
theorem dX3_twoAndTwoMore_29 : decode cX3_twoAndTwoMore 29 = .ok (.ladd, 1) := dk_97 (dk_at dksX3_twoAndTwoMore_1 5 rfl rfl)
theorem dX3_twoAndTwoMore_30 : decode cX3_twoAndTwoMore 30 = .ok (.lstore_n 3, 1) := dk_66 (dk_at dksX3_twoAndTwoMore_1 6 rfl rfl)
theorem dX3_twoAndTwoMore_31 : decode cX3_twoAndTwoMore 31 = .ok (.iinc 5 1, 3) := dk_132 5 1 (dk_at dksX3_twoAndTwoMore_1 7 rfl rfl)
theorem dX3_twoAndTwoMore_34 : decode cX3_twoAndTwoMore 34 = .ok (.goto (-29), 3) := dk_167 255 227 (dk_at dksX3_twoAndTwoMore_1 10 rfl rfl)
theorem dX3_twoAndTwoMore_37 : decode cX3_twoAndTwoMore 37 = .ok (.lload_n 3, 1) := dk_33 (dk_at dksX3_twoAndTwoMore_1 13 rfl rfl)
theorem dX3_twoAndTwoMore_38 : decode cX3_twoAndTwoMore 38 = .ok (.lreturn, 1) := dk_173 (dk_at dksX3_twoAndTwoMore_1 14 rfl rfl)
abbrev cX3_twoTwos : ByteArray := prog_21_method_82_code
def yX3_twoTwos : MethodName := ⟨RX3, "twoTwos", "([JI)J"⟩
def dkwX3_twoTwos_0 : List UInt8 := [27, 5, 112, 154, 0, 13, 42, 27, 5, 108, 184, 1, 136, 167, 0, 4, 9, 173]
abbrev dktX3_twoTwos_0 : List UInt8 := dkwX3_twoTwos_0 ++ []
theorem dksX3_twoTwos_0 : cX3_twoTwos.data.toList.drop 0 = dktX3_twoTwos_0 := by decide +kernel
theorem dX3_twoTwos_0 : decode cX3_twoTwos 0 = .ok (.iload_n 1, 1) := dk_27 (dk_at dksX3_twoTwos_0 0 rfl rfl)
theorem dX3_twoTwos_1 : decode cX3_twoTwos 1 = .ok (.iconst 2, 1) := dk_5 (dk_at dksX3_twoTwos_0 1 rfl rfl)
theorem dX3_twoTwos_2 : decode cX3_twoTwos 2 = .ok (.irem, 1) := dk_112 (dk_at dksX3_twoTwos_0 2 rfl rfl)
theorem dX3_twoTwos_3 : decode cX3_twoTwos 3 = .ok (.ifCond .ne 13, 3) := dk_154 0 13 (dk_at dksX3_twoTwos_0 3 rfl rfl)
theorem dX3_twoTwos_6 : decode cX3_twoTwos 6 = .ok (.aload_n 0, 1) := dk_42 (dk_at dksX3_twoTwos_0 6 rfl rfl)
theorem dX3_twoTwos_7 : decode cX3_twoTwos 7 = .ok (.iload_n 1, 1) := dk_27 (dk_at dksX3_twoTwos_0 7 rfl rfl)
theorem dX3_twoTwos_8 : decode cX3_twoTwos 8 = .ok (.iconst 2, 1) := dk_5 (dk_at dksX3_twoTwos_0 8 rfl rfl)
theorem dX3_twoTwos_9 : decode cX3_twoTwos 9 = .ok (.idiv, 1) := dk_108 (dk_at dksX3_twoTwos_0 9 rfl rfl)
theorem dX3_twoTwos_10 : decode cX3_twoTwos 10 = .ok (.invokestatic 392, 3) := dk_184 1 136 (dk_at dksX3_twoTwos_0 10 rfl rfl)
theorem dX3_twoTwos_13 : decode cX3_twoTwos 13 = .ok (.goto 4, 3) := dk_167 0 4 (dk_at dksX3_twoTwos_0 13 rfl rfl)
theorem dX3_twoTwos_16 : decode cX3_twoTwos 16 = .ok (.lconst 0, 1) := dk_9 (dk_at dksX3_twoTwos_0 16 rfl rfl)
theorem dX3_twoTwos_17 : decode cX3_twoTwos 17 = .ok (.lreturn, 1) := dk_173 (dk_at dksX3_twoTwos_0 17 rfl rfl)
abbrev cX3_threeAndOne : ByteArray := prog_21_method_83_code
def yX3_threeAndOne : MethodName := ⟨RX3, "threeAndOne", "([JI)J"⟩
def dkwX3_threeAndOne_1 : List UInt8 := [100, 47, 105, 97, 65, 132, 4, 1, 167, 255, 229, 32, 173]
abbrev dktX3_threeAndOne_1 : List UInt8 := dkwX3_threeAndOne_1 ++ []
def dkwX3_threeAndOne_0 : List UInt8 := [9, 65, 3, 54, 4, 6, 21, 4, 104, 27, 163, 0, 25, 32, 42, 21, 4, 47, 42, 27, 6, 21, 4, 104]
abbrev dktX3_threeAndOne_0 : List UInt8 := dkwX3_threeAndOne_0 ++ dktX3_threeAndOne_1
theorem dksX3_threeAndOne_0 : cX3_threeAndOne.data.toList.drop 0 = dktX3_threeAndOne_0 := by decide +kernel
theorem dksX3_threeAndOne_1 : cX3_threeAndOne.data.toList.drop 24 = dktX3_threeAndOne_1 := dk_seg dksX3_threeAndOne_0 24 rfl rfl
theorem dX3_threeAndOne_0 : decode cX3_threeAndOne 0 = .ok (.lconst 0, 1) := dk_9 (dk_at dksX3_threeAndOne_0 0 rfl rfl)
theorem dX3_threeAndOne_1 : decode cX3_threeAndOne 1 = .ok (.lstore_n 2, 1) := dk_65 (dk_at dksX3_threeAndOne_0 1 rfl rfl)
theorem dX3_threeAndOne_2 : decode cX3_threeAndOne 2 = .ok (.iconst 0, 1) := dk_3 (dk_at dksX3_threeAndOne_0 2 rfl rfl)
theorem dX3_threeAndOne_3 : decode cX3_threeAndOne 3 = .ok (.istore 4, 2) := dk_54 4 (dk_at dksX3_threeAndOne_0 3 rfl rfl)
theorem dX3_threeAndOne_5 : decode cX3_threeAndOne 5 = .ok (.iconst 3, 1) := dk_6 (dk_at dksX3_threeAndOne_0 5 rfl rfl)
theorem dX3_threeAndOne_6 : decode cX3_threeAndOne 6 = .ok (.iload 4, 2) := dk_21 4 (dk_at dksX3_threeAndOne_0 6 rfl rfl)
theorem dX3_threeAndOne_8 : decode cX3_threeAndOne 8 = .ok (.imul, 1) := dk_104 (dk_at dksX3_threeAndOne_0 8 rfl rfl)
theorem dX3_threeAndOne_9 : decode cX3_threeAndOne 9 = .ok (.iload_n 1, 1) := dk_27 (dk_at dksX3_threeAndOne_0 9 rfl rfl)
theorem dX3_threeAndOne_10 : decode cX3_threeAndOne 10 = .ok (.if_icmp .gt 25, 3) := dk_163 0 25 (dk_at dksX3_threeAndOne_0 10 rfl rfl)
theorem dX3_threeAndOne_13 : decode cX3_threeAndOne 13 = .ok (.lload_n 2, 1) := dk_32 (dk_at dksX3_threeAndOne_0 13 rfl rfl)
theorem dX3_threeAndOne_14 : decode cX3_threeAndOne 14 = .ok (.aload_n 0, 1) := dk_42 (dk_at dksX3_threeAndOne_0 14 rfl rfl)
theorem dX3_threeAndOne_15 : decode cX3_threeAndOne 15 = .ok (.iload 4, 2) := dk_21 4 (dk_at dksX3_threeAndOne_0 15 rfl rfl)
theorem dX3_threeAndOne_17 : decode cX3_threeAndOne 17 = .ok (.laload, 1) := dk_47 (dk_at dksX3_threeAndOne_0 17 rfl rfl)
theorem dX3_threeAndOne_18 : decode cX3_threeAndOne 18 = .ok (.aload_n 0, 1) := dk_42 (dk_at dksX3_threeAndOne_0 18 rfl rfl)
theorem dX3_threeAndOne_19 : decode cX3_threeAndOne 19 = .ok (.iload_n 1, 1) := dk_27 (dk_at dksX3_threeAndOne_0 19 rfl rfl)
theorem dX3_threeAndOne_20 : decode cX3_threeAndOne 20 = .ok (.iconst 3, 1) := dk_6 (dk_at dksX3_threeAndOne_0 20 rfl rfl)
theorem dX3_threeAndOne_21 : decode cX3_threeAndOne 21 = .ok (.iload 4, 2) := dk_21 4 (dk_at dksX3_threeAndOne_0 21 rfl rfl)
theorem dX3_threeAndOne_23 : decode cX3_threeAndOne 23 = .ok (.imul, 1) := dk_104 (dk_at dksX3_threeAndOne_0 23 rfl rfl)
theorem dX3_threeAndOne_24 : decode cX3_threeAndOne 24 = .ok (.isub, 1) := dk_100 (dk_at dksX3_threeAndOne_1 0 rfl rfl)
theorem dX3_threeAndOne_25 : decode cX3_threeAndOne 25 = .ok (.laload, 1) := dk_47 (dk_at dksX3_threeAndOne_1 1 rfl rfl)
theorem dX3_threeAndOne_26 : decode cX3_threeAndOne 26 = .ok (.lmul, 1) := dk_105 (dk_at dksX3_threeAndOne_1 2 rfl rfl)
theorem dX3_threeAndOne_27 : decode cX3_threeAndOne 27 = .ok (.ladd, 1) := dk_97 (dk_at dksX3_threeAndOne_1 3 rfl rfl)
theorem dX3_threeAndOne_28 : decode cX3_threeAndOne 28 = .ok (.lstore_n 2, 1) := dk_65 (dk_at dksX3_threeAndOne_1 4 rfl rfl)
theorem dX3_threeAndOne_29 : decode cX3_threeAndOne 29 = .ok (.iinc 4 1, 3) := dk_132 4 1 (dk_at dksX3_threeAndOne_1 5 rfl rfl)
theorem dX3_threeAndOne_32 : decode cX3_threeAndOne 32 = .ok (.goto (-27), 3) := dk_167 255 229 (dk_at dksX3_threeAndOne_1 8 rfl rfl)
theorem dX3_threeAndOne_35 : decode cX3_threeAndOne 35 = .ok (.lload_n 2, 1) := dk_32 (dk_at dksX3_threeAndOne_1 11 rfl rfl)
theorem dX3_threeAndOne_36 : decode cX3_threeAndOne 36 = .ok (.lreturn, 1) := dk_173 (dk_at dksX3_threeAndOne_1 12 rfl rfl)
abbrev cX3_formsOfAll : ByteArray := prog_21_method_86_code
def yX3_formsOfAll : MethodName := ⟨RX3, "formsOfAll", "(I)J"⟩
def dkwX3_formsOfAll_3 : List UInt8 := [154, 0, 19, 33, 22, 5, 22, 5, 10, 97, 105, 20, 0, 156, 109, 97, 167, 0, 4, 33, 173]
abbrev dktX3_formsOfAll_3 : List UInt8 := dkwX3_formsOfAll_3 ++ []
def dkwX3_formsOfAll_2 : List UInt8 := [184, 1, 153, 105, 97, 20, 1, 156, 109, 66, 42, 180, 0, 115, 27, 5, 108, 47, 55, 5, 27, 5, 112]
abbrev dktX3_formsOfAll_2 : List UInt8 := dkwX3_formsOfAll_2 ++ dktX3_formsOfAll_3
def dkwX3_formsOfAll_1 : List UInt8 := [184, 1, 143, 20, 1, 20, 42, 180, 0, 121, 28, 184, 1, 148, 105, 97, 20, 1, 151, 42, 180, 0, 121, 28]
abbrev dktX3_formsOfAll_1 : List UInt8 := dkwX3_formsOfAll_1 ++ dktX3_formsOfAll_2
def dkwX3_formsOfAll_0 : List UInt8 := [27, 4, 100, 61, 42, 180, 0, 115, 42, 180, 0, 121, 28, 5, 108, 184, 1, 139, 42, 180, 0, 121, 28]
abbrev dktX3_formsOfAll_0 : List UInt8 := dkwX3_formsOfAll_0 ++ dktX3_formsOfAll_1
theorem dksX3_formsOfAll_0 : cX3_formsOfAll.data.toList.drop 0 = dktX3_formsOfAll_0 := by decide +kernel
theorem dksX3_formsOfAll_1 : cX3_formsOfAll.data.toList.drop 23 = dktX3_formsOfAll_1 := dk_seg dksX3_formsOfAll_0 23 rfl rfl
theorem dksX3_formsOfAll_2 : cX3_formsOfAll.data.toList.drop 47 = dktX3_formsOfAll_2 := dk_seg dksX3_formsOfAll_1 24 rfl rfl
theorem dksX3_formsOfAll_3 : cX3_formsOfAll.data.toList.drop 70 = dktX3_formsOfAll_3 := dk_seg dksX3_formsOfAll_2 23 rfl rfl
theorem dX3_formsOfAll_0 : decode cX3_formsOfAll 0 = .ok (.iload_n 1, 1) := dk_27 (dk_at dksX3_formsOfAll_0 0 rfl rfl)
theorem dX3_formsOfAll_1 : decode cX3_formsOfAll 1 = .ok (.iconst 1, 1) := dk_4 (dk_at dksX3_formsOfAll_0 1 rfl rfl)
theorem dX3_formsOfAll_2 : decode cX3_formsOfAll 2 = .ok (.isub, 1) := dk_100 (dk_at dksX3_formsOfAll_0 2 rfl rfl)
theorem dX3_formsOfAll_3 : decode cX3_formsOfAll 3 = .ok (.istore_n 2, 1) := dk_61 (dk_at dksX3_formsOfAll_0 3 rfl rfl)
theorem dX3_formsOfAll_4 : decode cX3_formsOfAll 4 = .ok (.aload_n 0, 1) := dk_42 (dk_at dksX3_formsOfAll_0 4 rfl rfl)
theorem dX3_formsOfAll_5 : decode cX3_formsOfAll 5 = .ok (.getfield 115, 3) := dk_180 0 115 (dk_at dksX3_formsOfAll_0 5 rfl rfl)
theorem dX3_formsOfAll_8 : decode cX3_formsOfAll 8 = .ok (.aload_n 0, 1) := dk_42 (dk_at dksX3_formsOfAll_0 8 rfl rfl)
theorem dX3_formsOfAll_9 : decode cX3_formsOfAll 9 = .ok (.getfield 121, 3) := dk_180 0 121 (dk_at dksX3_formsOfAll_0 9 rfl rfl)
theorem dX3_formsOfAll_12 : decode cX3_formsOfAll 12 = .ok (.iload_n 2, 1) := dk_28 (dk_at dksX3_formsOfAll_0 12 rfl rfl)
theorem dX3_formsOfAll_13 : decode cX3_formsOfAll 13 = .ok (.iconst 2, 1) := dk_5 (dk_at dksX3_formsOfAll_0 13 rfl rfl)
theorem dX3_formsOfAll_14 : decode cX3_formsOfAll 14 = .ok (.idiv, 1) := dk_108 (dk_at dksX3_formsOfAll_0 14 rfl rfl)
theorem dX3_formsOfAll_15 : decode cX3_formsOfAll 15 = .ok (.invokestatic 395, 3) := dk_184 1 139 (dk_at dksX3_formsOfAll_0 15 rfl rfl)
theorem dX3_formsOfAll_18 : decode cX3_formsOfAll 18 = .ok (.aload_n 0, 1) := dk_42 (dk_at dksX3_formsOfAll_0 18 rfl rfl)
theorem dX3_formsOfAll_19 : decode cX3_formsOfAll 19 = .ok (.getfield 121, 3) := dk_180 0 121 (dk_at dksX3_formsOfAll_0 19 rfl rfl)
theorem dX3_formsOfAll_22 : decode cX3_formsOfAll 22 = .ok (.iload_n 2, 1) := dk_28 (dk_at dksX3_formsOfAll_0 22 rfl rfl)
theorem dX3_formsOfAll_23 : decode cX3_formsOfAll 23 = .ok (.invokestatic 399, 3) := dk_184 1 143 (dk_at dksX3_formsOfAll_1 0 rfl rfl)
theorem dX3_formsOfAll_26 : decode cX3_formsOfAll 26 = .ok (.ldc2_w 276, 3) := dk_20 1 20 (dk_at dksX3_formsOfAll_1 3 rfl rfl)
theorem dX3_formsOfAll_29 : decode cX3_formsOfAll 29 = .ok (.aload_n 0, 1) := dk_42 (dk_at dksX3_formsOfAll_1 6 rfl rfl)
theorem dX3_formsOfAll_30 : decode cX3_formsOfAll 30 = .ok (.getfield 121, 3) := dk_180 0 121 (dk_at dksX3_formsOfAll_1 7 rfl rfl)
theorem dX3_formsOfAll_33 : decode cX3_formsOfAll 33 = .ok (.iload_n 2, 1) := dk_28 (dk_at dksX3_formsOfAll_1 10 rfl rfl)
theorem dX3_formsOfAll_34 : decode cX3_formsOfAll 34 = .ok (.invokestatic 404, 3) := dk_184 1 148 (dk_at dksX3_formsOfAll_1 11 rfl rfl)
theorem dX3_formsOfAll_37 : decode cX3_formsOfAll 37 = .ok (.lmul, 1) := dk_105 (dk_at dksX3_formsOfAll_1 14 rfl rfl)
theorem dX3_formsOfAll_38 : decode cX3_formsOfAll 38 = .ok (.ladd, 1) := dk_97 (dk_at dksX3_formsOfAll_1 15 rfl rfl)
theorem dX3_formsOfAll_39 : decode cX3_formsOfAll 39 = .ok (.ldc2_w 407, 3) := dk_20 1 151 (dk_at dksX3_formsOfAll_1 16 rfl rfl)
theorem dX3_formsOfAll_42 : decode cX3_formsOfAll 42 = .ok (.aload_n 0, 1) := dk_42 (dk_at dksX3_formsOfAll_1 19 rfl rfl)
theorem dX3_formsOfAll_43 : decode cX3_formsOfAll 43 = .ok (.getfield 121, 3) := dk_180 0 121 (dk_at dksX3_formsOfAll_1 20 rfl rfl)
theorem dX3_formsOfAll_46 : decode cX3_formsOfAll 46 = .ok (.iload_n 2, 1) := dk_28 (dk_at dksX3_formsOfAll_1 23 rfl rfl)
theorem dX3_formsOfAll_47 : decode cX3_formsOfAll 47 = .ok (.invokestatic 409, 3) := dk_184 1 153 (dk_at dksX3_formsOfAll_2 0 rfl rfl)
theorem dX3_formsOfAll_50 : decode cX3_formsOfAll 50 = .ok (.lmul, 1) := dk_105 (dk_at dksX3_formsOfAll_2 3 rfl rfl)
theorem dX3_formsOfAll_51 : decode cX3_formsOfAll 51 = .ok (.ladd, 1) := dk_97 (dk_at dksX3_formsOfAll_2 4 rfl rfl)
theorem dX3_formsOfAll_52 : decode cX3_formsOfAll 52 = .ok (.ldc2_w 412, 3) := dk_20 1 156 (dk_at dksX3_formsOfAll_2 5 rfl rfl)
theorem dX3_formsOfAll_55 : decode cX3_formsOfAll 55 = .ok (.ldiv, 1) := dk_109 (dk_at dksX3_formsOfAll_2 8 rfl rfl)
theorem dX3_formsOfAll_56 : decode cX3_formsOfAll 56 = .ok (.lstore_n 3, 1) := dk_66 (dk_at dksX3_formsOfAll_2 9 rfl rfl)
theorem dX3_formsOfAll_57 : decode cX3_formsOfAll 57 = .ok (.aload_n 0, 1) := dk_42 (dk_at dksX3_formsOfAll_2 10 rfl rfl)
theorem dX3_formsOfAll_58 : decode cX3_formsOfAll 58 = .ok (.getfield 115, 3) := dk_180 0 115 (dk_at dksX3_formsOfAll_2 11 rfl rfl)
theorem dX3_formsOfAll_61 : decode cX3_formsOfAll 61 = .ok (.iload_n 1, 1) := dk_27 (dk_at dksX3_formsOfAll_2 14 rfl rfl)
theorem dX3_formsOfAll_62 : decode cX3_formsOfAll 62 = .ok (.iconst 2, 1) := dk_5 (dk_at dksX3_formsOfAll_2 15 rfl rfl)
theorem dX3_formsOfAll_63 : decode cX3_formsOfAll 63 = .ok (.idiv, 1) := dk_108 (dk_at dksX3_formsOfAll_2 16 rfl rfl)
theorem dX3_formsOfAll_64 : decode cX3_formsOfAll 64 = .ok (.laload, 1) := dk_47 (dk_at dksX3_formsOfAll_2 17 rfl rfl)
theorem dX3_formsOfAll_65 : decode cX3_formsOfAll 65 = .ok (.lstore 5, 2) := dk_55 5 (dk_at dksX3_formsOfAll_2 18 rfl rfl)
theorem dX3_formsOfAll_67 : decode cX3_formsOfAll 67 = .ok (.iload_n 1, 1) := dk_27 (dk_at dksX3_formsOfAll_2 20 rfl rfl)
theorem dX3_formsOfAll_68 : decode cX3_formsOfAll 68 = .ok (.iconst 2, 1) := dk_5 (dk_at dksX3_formsOfAll_2 21 rfl rfl)
theorem dX3_formsOfAll_69 : decode cX3_formsOfAll 69 = .ok (.irem, 1) := dk_112 (dk_at dksX3_formsOfAll_2 22 rfl rfl)
theorem dX3_formsOfAll_70 : decode cX3_formsOfAll 70 = .ok (.ifCond .ne 19, 3) := dk_154 0 19 (dk_at dksX3_formsOfAll_3 0 rfl rfl)
theorem dX3_formsOfAll_73 : decode cX3_formsOfAll 73 = .ok (.lload_n 3, 1) := dk_33 (dk_at dksX3_formsOfAll_3 3 rfl rfl)
theorem dX3_formsOfAll_74 : decode cX3_formsOfAll 74 = .ok (.lload 5, 2) := dk_22 5 (dk_at dksX3_formsOfAll_3 4 rfl rfl)
theorem dX3_formsOfAll_76 : decode cX3_formsOfAll 76 = .ok (.lload 5, 2) := dk_22 5 (dk_at dksX3_formsOfAll_3 6 rfl rfl)
theorem dX3_formsOfAll_78 : decode cX3_formsOfAll 78 = .ok (.lconst 1, 1) := dk_10 (dk_at dksX3_formsOfAll_3 8 rfl rfl)
theorem dX3_formsOfAll_79 : decode cX3_formsOfAll 79 = .ok (.ladd, 1) := dk_97 (dk_at dksX3_formsOfAll_3 9 rfl rfl)
theorem dX3_formsOfAll_80 : decode cX3_formsOfAll 80 = .ok (.lmul, 1) := dk_105 (dk_at dksX3_formsOfAll_3 10 rfl rfl)
theorem dX3_formsOfAll_81 : decode cX3_formsOfAll 81 = .ok (.ldc2_w 156, 3) := dk_20 0 156 (dk_at dksX3_formsOfAll_3 11 rfl rfl)
theorem dX3_formsOfAll_84 : decode cX3_formsOfAll 84 = .ok (.ldiv, 1) := dk_109 (dk_at dksX3_formsOfAll_3 14 rfl rfl)
theorem dX3_formsOfAll_85 : decode cX3_formsOfAll 85 = .ok (.ladd, 1) := dk_97 (dk_at dksX3_formsOfAll_3 15 rfl rfl)
theorem dX3_formsOfAll_86 : decode cX3_formsOfAll 86 = .ok (.goto 4, 3) := dk_167 0 4 (dk_at dksX3_formsOfAll_3 16 rfl rfl)
theorem dX3_formsOfAll_89 : decode cX3_formsOfAll 89 = .ok (.lload_n 3, 1) := dk_33 (dk_at dksX3_formsOfAll_3 19 rfl rfl)
theorem dX3_formsOfAll_90 : decode cX3_formsOfAll 90 = .ok (.lreturn, 1) := dk_173 (dk_at dksX3_formsOfAll_3 20 rfl rfl)
abbrev cX3_ownOfAll : ByteArray := prog_21_method_87_code
def yX3_ownOfAll : MethodName := ⟨RX3, "ownOfAll", "(I)J"⟩
def dkwX3_ownOfAll_4 : List UInt8 := [109, 97, 167, 0, 4, 33, 173]
abbrev dktX3_ownOfAll_4 : List UInt8 := dkwX3_ownOfAll_4 ++ []
def dkwX3_ownOfAll_3 : List UInt8 := [27, 5, 112, 154, 0, 26, 33, 22, 5, 22, 5, 105, 42, 180, 0, 115, 27, 5, 108, 47, 97, 20, 0, 156]
abbrev dktX3_ownOfAll_3 : List UInt8 := dkwX3_ownOfAll_3 ++ dktX3_ownOfAll_4
def dkwX3_ownOfAll_2 : List UInt8 := [180, 0, 121, 7, 28, 184, 1, 132, 97, 20, 0, 156, 109, 66, 42, 180, 0, 118, 27, 5, 108, 47, 55, 5]
abbrev dktX3_ownOfAll_2 : List UInt8 := dkwX3_ownOfAll_2 ++ dktX3_ownOfAll_3
def dkwX3_ownOfAll_1 : List UInt8 := [180, 0, 124, 28, 5, 108, 184, 1, 139, 42, 180, 0, 121, 42, 180, 0, 124, 28, 184, 1, 145, 42]
abbrev dktX3_ownOfAll_1 : List UInt8 := dkwX3_ownOfAll_1 ++ dktX3_ownOfAll_2
def dkwX3_ownOfAll_0 : List UInt8 := [27, 4, 100, 61, 42, 180, 0, 115, 42, 180, 0, 121, 28, 5, 108, 184, 1, 139, 42, 180, 0, 118, 42]
abbrev dktX3_ownOfAll_0 : List UInt8 := dkwX3_ownOfAll_0 ++ dktX3_ownOfAll_1
theorem dksX3_ownOfAll_0 : cX3_ownOfAll.data.toList.drop 0 = dktX3_ownOfAll_0 := by decide +kernel
theorem dksX3_ownOfAll_1 : cX3_ownOfAll.data.toList.drop 23 = dktX3_ownOfAll_1 := dk_seg dksX3_ownOfAll_0 23 rfl rfl
theorem dksX3_ownOfAll_2 : cX3_ownOfAll.data.toList.drop 45 = dktX3_ownOfAll_2 := dk_seg dksX3_ownOfAll_1 22 rfl rfl
theorem dksX3_ownOfAll_3 : cX3_ownOfAll.data.toList.drop 69 = dktX3_ownOfAll_3 := dk_seg dksX3_ownOfAll_2 24 rfl rfl
theorem dksX3_ownOfAll_4 : cX3_ownOfAll.data.toList.drop 93 = dktX3_ownOfAll_4 := dk_seg dksX3_ownOfAll_3 24 rfl rfl
theorem dX3_ownOfAll_0 : decode cX3_ownOfAll 0 = .ok (.iload_n 1, 1) := dk_27 (dk_at dksX3_ownOfAll_0 0 rfl rfl)
theorem dX3_ownOfAll_1 : decode cX3_ownOfAll 1 = .ok (.iconst 1, 1) := dk_4 (dk_at dksX3_ownOfAll_0 1 rfl rfl)
theorem dX3_ownOfAll_2 : decode cX3_ownOfAll 2 = .ok (.isub, 1) := dk_100 (dk_at dksX3_ownOfAll_0 2 rfl rfl)
theorem dX3_ownOfAll_3 : decode cX3_ownOfAll 3 = .ok (.istore_n 2, 1) := dk_61 (dk_at dksX3_ownOfAll_0 3 rfl rfl)
theorem dX3_ownOfAll_4 : decode cX3_ownOfAll 4 = .ok (.aload_n 0, 1) := dk_42 (dk_at dksX3_ownOfAll_0 4 rfl rfl)
theorem dX3_ownOfAll_5 : decode cX3_ownOfAll 5 = .ok (.getfield 115, 3) := dk_180 0 115 (dk_at dksX3_ownOfAll_0 5 rfl rfl)
theorem dX3_ownOfAll_8 : decode cX3_ownOfAll 8 = .ok (.aload_n 0, 1) := dk_42 (dk_at dksX3_ownOfAll_0 8 rfl rfl)
theorem dX3_ownOfAll_9 : decode cX3_ownOfAll 9 = .ok (.getfield 121, 3) := dk_180 0 121 (dk_at dksX3_ownOfAll_0 9 rfl rfl)
theorem dX3_ownOfAll_12 : decode cX3_ownOfAll 12 = .ok (.iload_n 2, 1) := dk_28 (dk_at dksX3_ownOfAll_0 12 rfl rfl)
theorem dX3_ownOfAll_13 : decode cX3_ownOfAll 13 = .ok (.iconst 2, 1) := dk_5 (dk_at dksX3_ownOfAll_0 13 rfl rfl)
theorem dX3_ownOfAll_14 : decode cX3_ownOfAll 14 = .ok (.idiv, 1) := dk_108 (dk_at dksX3_ownOfAll_0 14 rfl rfl)
theorem dX3_ownOfAll_15 : decode cX3_ownOfAll 15 = .ok (.invokestatic 395, 3) := dk_184 1 139 (dk_at dksX3_ownOfAll_0 15 rfl rfl)
theorem dX3_ownOfAll_18 : decode cX3_ownOfAll 18 = .ok (.aload_n 0, 1) := dk_42 (dk_at dksX3_ownOfAll_0 18 rfl rfl)
theorem dX3_ownOfAll_19 : decode cX3_ownOfAll 19 = .ok (.getfield 118, 3) := dk_180 0 118 (dk_at dksX3_ownOfAll_0 19 rfl rfl)
theorem dX3_ownOfAll_22 : decode cX3_ownOfAll 22 = .ok (.aload_n 0, 1) := dk_42 (dk_at dksX3_ownOfAll_0 22 rfl rfl)
theorem dX3_ownOfAll_23 : decode cX3_ownOfAll 23 = .ok (.getfield 124, 3) := dk_180 0 124 (dk_at dksX3_ownOfAll_1 0 rfl rfl)
theorem dX3_ownOfAll_26 : decode cX3_ownOfAll 26 = .ok (.iload_n 2, 1) := dk_28 (dk_at dksX3_ownOfAll_1 3 rfl rfl)
theorem dX3_ownOfAll_27 : decode cX3_ownOfAll 27 = .ok (.iconst 2, 1) := dk_5 (dk_at dksX3_ownOfAll_1 4 rfl rfl)
theorem dX3_ownOfAll_28 : decode cX3_ownOfAll 28 = .ok (.idiv, 1) := dk_108 (dk_at dksX3_ownOfAll_1 5 rfl rfl)
theorem dX3_ownOfAll_29 : decode cX3_ownOfAll 29 = .ok (.invokestatic 395, 3) := dk_184 1 139 (dk_at dksX3_ownOfAll_1 6 rfl rfl)
theorem dX3_ownOfAll_32 : decode cX3_ownOfAll 32 = .ok (.aload_n 0, 1) := dk_42 (dk_at dksX3_ownOfAll_1 9 rfl rfl)
theorem dX3_ownOfAll_33 : decode cX3_ownOfAll 33 = .ok (.getfield 121, 3) := dk_180 0 121 (dk_at dksX3_ownOfAll_1 10 rfl rfl)
theorem dX3_ownOfAll_36 : decode cX3_ownOfAll 36 = .ok (.aload_n 0, 1) := dk_42 (dk_at dksX3_ownOfAll_1 13 rfl rfl)
theorem dX3_ownOfAll_37 : decode cX3_ownOfAll 37 = .ok (.getfield 124, 3) := dk_180 0 124 (dk_at dksX3_ownOfAll_1 14 rfl rfl)
theorem dX3_ownOfAll_40 : decode cX3_ownOfAll 40 = .ok (.iload_n 2, 1) := dk_28 (dk_at dksX3_ownOfAll_1 17 rfl rfl)
theorem dX3_ownOfAll_41 : decode cX3_ownOfAll 41 = .ok (.invokestatic 401, 3) := dk_184 1 145 (dk_at dksX3_ownOfAll_1 18 rfl rfl)
theorem dX3_ownOfAll_44 : decode cX3_ownOfAll 44 = .ok (.aload_n 0, 1) := dk_42 (dk_at dksX3_ownOfAll_1 21 rfl rfl)
theorem dX3_ownOfAll_45 : decode cX3_ownOfAll 45 = .ok (.getfield 121, 3) := dk_180 0 121 (dk_at dksX3_ownOfAll_2 0 rfl rfl)
theorem dX3_ownOfAll_48 : decode cX3_ownOfAll 48 = .ok (.iconst 4, 1) := dk_7 (dk_at dksX3_ownOfAll_2 3 rfl rfl)
theorem dX3_ownOfAll_49 : decode cX3_ownOfAll 49 = .ok (.iload_n 2, 1) := dk_28 (dk_at dksX3_ownOfAll_2 4 rfl rfl)
theorem dX3_ownOfAll_50 : decode cX3_ownOfAll 50 = .ok (.invokestatic 388, 3) := dk_184 1 132 (dk_at dksX3_ownOfAll_2 5 rfl rfl)
theorem dX3_ownOfAll_53 : decode cX3_ownOfAll 53 = .ok (.ladd, 1) := dk_97 (dk_at dksX3_ownOfAll_2 8 rfl rfl)
theorem dX3_ownOfAll_54 : decode cX3_ownOfAll 54 = .ok (.ldc2_w 156, 3) := dk_20 0 156 (dk_at dksX3_ownOfAll_2 9 rfl rfl)
theorem dX3_ownOfAll_57 : decode cX3_ownOfAll 57 = .ok (.ldiv, 1) := dk_109 (dk_at dksX3_ownOfAll_2 12 rfl rfl)
theorem dX3_ownOfAll_58 : decode cX3_ownOfAll 58 = .ok (.lstore_n 3, 1) := dk_66 (dk_at dksX3_ownOfAll_2 13 rfl rfl)
theorem dX3_ownOfAll_59 : decode cX3_ownOfAll 59 = .ok (.aload_n 0, 1) := dk_42 (dk_at dksX3_ownOfAll_2 14 rfl rfl)
theorem dX3_ownOfAll_60 : decode cX3_ownOfAll 60 = .ok (.getfield 118, 3) := dk_180 0 118 (dk_at dksX3_ownOfAll_2 15 rfl rfl)
theorem dX3_ownOfAll_63 : decode cX3_ownOfAll 63 = .ok (.iload_n 1, 1) := dk_27 (dk_at dksX3_ownOfAll_2 18 rfl rfl)
theorem dX3_ownOfAll_64 : decode cX3_ownOfAll 64 = .ok (.iconst 2, 1) := dk_5 (dk_at dksX3_ownOfAll_2 19 rfl rfl)
theorem dX3_ownOfAll_65 : decode cX3_ownOfAll 65 = .ok (.idiv, 1) := dk_108 (dk_at dksX3_ownOfAll_2 20 rfl rfl)
theorem dX3_ownOfAll_66 : decode cX3_ownOfAll 66 = .ok (.laload, 1) := dk_47 (dk_at dksX3_ownOfAll_2 21 rfl rfl)
theorem dX3_ownOfAll_67 : decode cX3_ownOfAll 67 = .ok (.lstore 5, 2) := dk_55 5 (dk_at dksX3_ownOfAll_2 22 rfl rfl)
theorem dX3_ownOfAll_69 : decode cX3_ownOfAll 69 = .ok (.iload_n 1, 1) := dk_27 (dk_at dksX3_ownOfAll_3 0 rfl rfl)
theorem dX3_ownOfAll_70 : decode cX3_ownOfAll 70 = .ok (.iconst 2, 1) := dk_5 (dk_at dksX3_ownOfAll_3 1 rfl rfl)
theorem dX3_ownOfAll_71 : decode cX3_ownOfAll 71 = .ok (.irem, 1) := dk_112 (dk_at dksX3_ownOfAll_3 2 rfl rfl)
theorem dX3_ownOfAll_72 : decode cX3_ownOfAll 72 = .ok (.ifCond .ne 26, 3) := dk_154 0 26 (dk_at dksX3_ownOfAll_3 3 rfl rfl)
theorem dX3_ownOfAll_75 : decode cX3_ownOfAll 75 = .ok (.lload_n 3, 1) := dk_33 (dk_at dksX3_ownOfAll_3 6 rfl rfl)
theorem dX3_ownOfAll_76 : decode cX3_ownOfAll 76 = .ok (.lload 5, 2) := dk_22 5 (dk_at dksX3_ownOfAll_3 7 rfl rfl)
theorem dX3_ownOfAll_78 : decode cX3_ownOfAll 78 = .ok (.lload 5, 2) := dk_22 5 (dk_at dksX3_ownOfAll_3 9 rfl rfl)
theorem dX3_ownOfAll_80 : decode cX3_ownOfAll 80 = .ok (.lmul, 1) := dk_105 (dk_at dksX3_ownOfAll_3 11 rfl rfl)
theorem dX3_ownOfAll_81 : decode cX3_ownOfAll 81 = .ok (.aload_n 0, 1) := dk_42 (dk_at dksX3_ownOfAll_3 12 rfl rfl)
theorem dX3_ownOfAll_82 : decode cX3_ownOfAll 82 = .ok (.getfield 115, 3) := dk_180 0 115 (dk_at dksX3_ownOfAll_3 13 rfl rfl)
theorem dX3_ownOfAll_85 : decode cX3_ownOfAll 85 = .ok (.iload_n 1, 1) := dk_27 (dk_at dksX3_ownOfAll_3 16 rfl rfl)
theorem dX3_ownOfAll_86 : decode cX3_ownOfAll 86 = .ok (.iconst 2, 1) := dk_5 (dk_at dksX3_ownOfAll_3 17 rfl rfl)
theorem dX3_ownOfAll_87 : decode cX3_ownOfAll 87 = .ok (.idiv, 1) := dk_108 (dk_at dksX3_ownOfAll_3 18 rfl rfl)
theorem dX3_ownOfAll_88 : decode cX3_ownOfAll 88 = .ok (.laload, 1) := dk_47 (dk_at dksX3_ownOfAll_3 19 rfl rfl)
theorem dX3_ownOfAll_89 : decode cX3_ownOfAll 89 = .ok (.ladd, 1) := dk_97 (dk_at dksX3_ownOfAll_3 20 rfl rfl)
theorem dX3_ownOfAll_90 : decode cX3_ownOfAll 90 = .ok (.ldc2_w 156, 3) := dk_20 0 156 (dk_at dksX3_ownOfAll_3 21 rfl rfl)
theorem dX3_ownOfAll_93 : decode cX3_ownOfAll 93 = .ok (.ldiv, 1) := dk_109 (dk_at dksX3_ownOfAll_4 0 rfl rfl)
theorem dX3_ownOfAll_94 : decode cX3_ownOfAll 94 = .ok (.ladd, 1) := dk_97 (dk_at dksX3_ownOfAll_4 1 rfl rfl)
theorem dX3_ownOfAll_95 : decode cX3_ownOfAll 95 = .ok (.goto 4, 3) := dk_167 0 4 (dk_at dksX3_ownOfAll_4 2 rfl rfl)
theorem dX3_ownOfAll_98 : decode cX3_ownOfAll 98 = .ok (.lload_n 3, 1) := dk_33 (dk_at dksX3_ownOfAll_4 5 rfl rfl)
theorem dX3_ownOfAll_99 : decode cX3_ownOfAll 99 = .ok (.lreturn, 1) := dk_173 (dk_at dksX3_ownOfAll_4 6 rfl rfl)
abbrev cX3_such : ByteArray := prog_21_method_100_code
def yX3_such : MethodName := ⟨RX3, "such", "(III)I"⟩
def dkwX3_such_4 : List UInt8 := [132, 5, 1, 167, 255, 198, 21, 4, 172]
abbrev dktX3_such_4 : List UInt8 := dkwX3_such_4 ++ []
def dkwX3_such_3 : List UInt8 := [42, 182, 1, 73, 21, 4, 42, 28, 182, 1, 203, 29, 160, 0, 7, 4, 167, 0, 4, 3, 96, 54, 4]
abbrev dktX3_such_3 : List UInt8 := dkwX3_such_3 ++ dktX3_such_4
def dkwX3_such_2 : List UInt8 := [162, 0, 53, 42, 42, 27, 21, 5, 182, 1, 85, 27, 182, 1, 94, 42, 42, 180, 0, 106, 3, 182, 1, 69]
abbrev dktX3_such_2 : List UInt8 := dkwX3_such_2 ++ dktX3_such_3
def dkwX3_such_1 : List UInt8 := [29, 156, 0, 5, 2, 172, 42, 182, 1, 112, 3, 54, 4, 3, 54, 5, 21, 5, 42, 180, 0, 97, 27, 46]
abbrev dktX3_such_1 : List UInt8 := dkwX3_such_1 ++ dktX3_such_2
def dkwX3_such_0 : List UInt8 := [27, 133, 10, 20, 1, 110, 184, 0, 158, 153, 0, 19, 28, 133, 9, 20, 1, 20, 184, 0, 158, 153, 0, 7]
abbrev dktX3_such_0 : List UInt8 := dkwX3_such_0 ++ dktX3_such_1
theorem dksX3_such_0 : cX3_such.data.toList.drop 0 = dktX3_such_0 := by decide +kernel
theorem dksX3_such_1 : cX3_such.data.toList.drop 24 = dktX3_such_1 := dk_seg dksX3_such_0 24 rfl rfl
theorem dksX3_such_2 : cX3_such.data.toList.drop 48 = dktX3_such_2 := dk_seg dksX3_such_1 24 rfl rfl
theorem dksX3_such_3 : cX3_such.data.toList.drop 72 = dktX3_such_3 := dk_seg dksX3_such_2 24 rfl rfl
theorem dksX3_such_4 : cX3_such.data.toList.drop 95 = dktX3_such_4 := dk_seg dksX3_such_3 23 rfl rfl
theorem dX3_such_0 : decode cX3_such 0 = .ok (.iload_n 1, 1) := dk_27 (dk_at dksX3_such_0 0 rfl rfl)
theorem dX3_such_1 : decode cX3_such 1 = .ok (.i2l, 1) := dk_133 (dk_at dksX3_such_0 1 rfl rfl)
theorem dX3_such_2 : decode cX3_such 2 = .ok (.lconst 1, 1) := dk_10 (dk_at dksX3_such_0 2 rfl rfl)
theorem dX3_such_3 : decode cX3_such 3 = .ok (.ldc2_w 366, 3) := dk_20 1 110 (dk_at dksX3_such_0 3 rfl rfl)
theorem dX3_such_6 : decode cX3_such 6 = .ok (.invokestatic 158, 3) := dk_184 0 158 (dk_at dksX3_such_0 6 rfl rfl)
theorem dX3_such_9 : decode cX3_such 9 = .ok (.ifCond .eq 19, 3) := dk_153 0 19 (dk_at dksX3_such_0 9 rfl rfl)
theorem dX3_such_12 : decode cX3_such 12 = .ok (.iload_n 2, 1) := dk_28 (dk_at dksX3_such_0 12 rfl rfl)
theorem dX3_such_13 : decode cX3_such 13 = .ok (.i2l, 1) := dk_133 (dk_at dksX3_such_0 13 rfl rfl)
theorem dX3_such_14 : decode cX3_such 14 = .ok (.lconst 0, 1) := dk_9 (dk_at dksX3_such_0 14 rfl rfl)
theorem dX3_such_15 : decode cX3_such 15 = .ok (.ldc2_w 276, 3) := dk_20 1 20 (dk_at dksX3_such_0 15 rfl rfl)
theorem dX3_such_18 : decode cX3_such 18 = .ok (.invokestatic 158, 3) := dk_184 0 158 (dk_at dksX3_such_0 18 rfl rfl)
theorem dX3_such_21 : decode cX3_such 21 = .ok (.ifCond .eq 7, 3) := dk_153 0 7 (dk_at dksX3_such_0 21 rfl rfl)
theorem dX3_such_24 : decode cX3_such 24 = .ok (.iload_n 3, 1) := dk_29 (dk_at dksX3_such_1 0 rfl rfl)
theorem dX3_such_25 : decode cX3_such 25 = .ok (.ifCond .ge 5, 3) := dk_156 0 5 (dk_at dksX3_such_1 1 rfl rfl)
theorem dX3_such_28 : decode cX3_such 28 = .ok (.iconst (-1), 1) := dk_2 (dk_at dksX3_such_1 4 rfl rfl)
theorem dX3_such_29 : decode cX3_such 29 = .ok (.ireturn, 1) := dk_172 (dk_at dksX3_such_1 5 rfl rfl)
theorem dX3_such_30 : decode cX3_such 30 = .ok (.aload_n 0, 1) := dk_42 (dk_at dksX3_such_1 6 rfl rfl)
theorem dX3_such_31 : decode cX3_such 31 = .ok (.invokevirtual 368, 3) := dk_182 1 112 (dk_at dksX3_such_1 7 rfl rfl)
theorem dX3_such_34 : decode cX3_such 34 = .ok (.iconst 0, 1) := dk_3 (dk_at dksX3_such_1 10 rfl rfl)
theorem dX3_such_35 : decode cX3_such 35 = .ok (.istore 4, 2) := dk_54 4 (dk_at dksX3_such_1 11 rfl rfl)
theorem dX3_such_37 : decode cX3_such 37 = .ok (.iconst 0, 1) := dk_3 (dk_at dksX3_such_1 13 rfl rfl)
theorem dX3_such_38 : decode cX3_such 38 = .ok (.istore 5, 2) := dk_54 5 (dk_at dksX3_such_1 14 rfl rfl)
theorem dX3_such_40 : decode cX3_such 40 = .ok (.iload 5, 2) := dk_21 5 (dk_at dksX3_such_1 16 rfl rfl)
theorem dX3_such_42 : decode cX3_such 42 = .ok (.aload_n 0, 1) := dk_42 (dk_at dksX3_such_1 18 rfl rfl)
theorem dX3_such_43 : decode cX3_such 43 = .ok (.getfield 97, 3) := dk_180 0 97 (dk_at dksX3_such_1 19 rfl rfl)
theorem dX3_such_46 : decode cX3_such 46 = .ok (.iload_n 1, 1) := dk_27 (dk_at dksX3_such_1 22 rfl rfl)
theorem dX3_such_47 : decode cX3_such 47 = .ok (.iaload, 1) := dk_46 (dk_at dksX3_such_1 23 rfl rfl)
theorem dX3_such_48 : decode cX3_such 48 = .ok (.if_icmp .ge 53, 3) := dk_162 0 53 (dk_at dksX3_such_2 0 rfl rfl)
theorem dX3_such_51 : decode cX3_such 51 = .ok (.aload_n 0, 1) := dk_42 (dk_at dksX3_such_2 3 rfl rfl)
theorem dX3_such_52 : decode cX3_such 52 = .ok (.aload_n 0, 1) := dk_42 (dk_at dksX3_such_2 4 rfl rfl)
theorem dX3_such_53 : decode cX3_such 53 = .ok (.iload_n 1, 1) := dk_27 (dk_at dksX3_such_2 5 rfl rfl)
theorem dX3_such_54 : decode cX3_such 54 = .ok (.iload 5, 2) := dk_21 5 (dk_at dksX3_such_2 6 rfl rfl)
theorem dX3_such_56 : decode cX3_such 56 = .ok (.invokevirtual 341, 3) := dk_182 1 85 (dk_at dksX3_such_2 8 rfl rfl)
theorem dX3_such_59 : decode cX3_such 59 = .ok (.iload_n 1, 1) := dk_27 (dk_at dksX3_such_2 11 rfl rfl)
theorem dX3_such_60 : decode cX3_such 60 = .ok (.invokevirtual 350, 3) := dk_182 1 94 (dk_at dksX3_such_2 12 rfl rfl)
theorem dX3_such_63 : decode cX3_such 63 = .ok (.aload_n 0, 1) := dk_42 (dk_at dksX3_such_2 15 rfl rfl)
theorem dX3_such_64 : decode cX3_such 64 = .ok (.aload_n 0, 1) := dk_42 (dk_at dksX3_such_2 16 rfl rfl)
theorem dX3_such_65 : decode cX3_such 65 = .ok (.getfield 106, 3) := dk_180 0 106 (dk_at dksX3_such_2 17 rfl rfl)
theorem dX3_such_68 : decode cX3_such 68 = .ok (.iconst 0, 1) := dk_3 (dk_at dksX3_such_2 20 rfl rfl)
theorem dX3_such_69 : decode cX3_such 69 = .ok (.invokevirtual 325, 3) := dk_182 1 69 (dk_at dksX3_such_2 21 rfl rfl)
theorem dX3_such_72 : decode cX3_such 72 = .ok (.aload_n 0, 1) := dk_42 (dk_at dksX3_such_3 0 rfl rfl)
theorem dX3_such_73 : decode cX3_such 73 = .ok (.invokevirtual 329, 3) := dk_182 1 73 (dk_at dksX3_such_3 1 rfl rfl)
theorem dX3_such_76 : decode cX3_such 76 = .ok (.iload 4, 2) := dk_21 4 (dk_at dksX3_such_3 4 rfl rfl)
theorem dX3_such_78 : decode cX3_such 78 = .ok (.aload_n 0, 1) := dk_42 (dk_at dksX3_such_3 6 rfl rfl)
theorem dX3_such_79 : decode cX3_such 79 = .ok (.iload_n 2, 1) := dk_28 (dk_at dksX3_such_3 7 rfl rfl)
theorem dX3_such_80 : decode cX3_such 80 = .ok (.invokevirtual 459, 3) := dk_182 1 203 (dk_at dksX3_such_3 8 rfl rfl)
theorem dX3_such_83 : decode cX3_such 83 = .ok (.iload_n 3, 1) := dk_29 (dk_at dksX3_such_3 11 rfl rfl)
theorem dX3_such_84 : decode cX3_such 84 = .ok (.if_icmp .ne 7, 3) := dk_160 0 7 (dk_at dksX3_such_3 12 rfl rfl)
theorem dX3_such_87 : decode cX3_such 87 = .ok (.iconst 1, 1) := dk_4 (dk_at dksX3_such_3 15 rfl rfl)
theorem dX3_such_88 : decode cX3_such 88 = .ok (.goto 4, 3) := dk_167 0 4 (dk_at dksX3_such_3 16 rfl rfl)
theorem dX3_such_91 : decode cX3_such 91 = .ok (.iconst 0, 1) := dk_3 (dk_at dksX3_such_3 19 rfl rfl)
theorem dX3_such_92 : decode cX3_such 92 = .ok (.iadd, 1) := dk_96 (dk_at dksX3_such_3 20 rfl rfl)
theorem dX3_such_93 : decode cX3_such 93 = .ok (.istore 4, 2) := dk_54 4 (dk_at dksX3_such_3 21 rfl rfl)
theorem dX3_such_95 : decode cX3_such 95 = .ok (.iinc 5 1, 3) := dk_132 5 1 (dk_at dksX3_such_4 0 rfl rfl)
theorem dX3_such_98 : decode cX3_such 98 = .ok (.goto (-58), 3) := dk_167 255 198 (dk_at dksX3_such_4 3 rfl rfl)
theorem dX3_such_101 : decode cX3_such 101 = .ok (.iload 4, 2) := dk_21 4 (dk_at dksX3_such_4 6 rfl rfl)
theorem dX3_such_103 : decode cX3_such 103 = .ok (.ireturn, 1) := dk_172 (dk_at dksX3_such_4 8 rfl rfl)
abbrev cX3_has_2 : ByteArray := prog_21_method_99_code
def yX3_has_2 : MethodName := ⟨RX3, "has", "(I)I"⟩
def dkwX3_has_2_1 : List UInt8 := [27, 5, 160, 0, 10, 42, 182, 1, 197, 167, 0, 7, 42, 182, 1, 200, 172]
abbrev dktX3_has_2_1 : List UInt8 := dkwX3_has_2_1 ++ []
def dkwX3_has_2_0 : List UInt8 := [27, 154, 0, 10, 42, 182, 1, 191, 167, 0, 32, 27, 4, 160, 0, 11, 42, 4, 182, 1, 194, 167, 0, 19]
abbrev dktX3_has_2_0 : List UInt8 := dkwX3_has_2_0 ++ dktX3_has_2_1
theorem dksX3_has_2_0 : cX3_has_2.data.toList.drop 0 = dktX3_has_2_0 := by decide +kernel
theorem dksX3_has_2_1 : cX3_has_2.data.toList.drop 24 = dktX3_has_2_1 := dk_seg dksX3_has_2_0 24 rfl rfl
theorem dX3_has_2_0 : decode cX3_has_2 0 = .ok (.iload_n 1, 1) := dk_27 (dk_at dksX3_has_2_0 0 rfl rfl)
theorem dX3_has_2_1 : decode cX3_has_2 1 = .ok (.ifCond .ne 10, 3) := dk_154 0 10 (dk_at dksX3_has_2_0 1 rfl rfl)
theorem dX3_has_2_4 : decode cX3_has_2 4 = .ok (.aload_n 0, 1) := dk_42 (dk_at dksX3_has_2_0 4 rfl rfl)
theorem dX3_has_2_5 : decode cX3_has_2 5 = .ok (.invokevirtual 447, 3) := dk_182 1 191 (dk_at dksX3_has_2_0 5 rfl rfl)
theorem dX3_has_2_8 : decode cX3_has_2 8 = .ok (.goto 32, 3) := dk_167 0 32 (dk_at dksX3_has_2_0 8 rfl rfl)
theorem dX3_has_2_11 : decode cX3_has_2 11 = .ok (.iload_n 1, 1) := dk_27 (dk_at dksX3_has_2_0 11 rfl rfl)
theorem dX3_has_2_12 : decode cX3_has_2 12 = .ok (.iconst 1, 1) := dk_4 (dk_at dksX3_has_2_0 12 rfl rfl)
theorem dX3_has_2_13 : decode cX3_has_2 13 = .ok (.if_icmp .ne 11, 3) := dk_160 0 11 (dk_at dksX3_has_2_0 13 rfl rfl)
theorem dX3_has_2_16 : decode cX3_has_2 16 = .ok (.aload_n 0, 1) := dk_42 (dk_at dksX3_has_2_0 16 rfl rfl)
theorem dX3_has_2_17 : decode cX3_has_2 17 = .ok (.iconst 1, 1) := dk_4 (dk_at dksX3_has_2_0 17 rfl rfl)
theorem dX3_has_2_18 : decode cX3_has_2 18 = .ok (.invokevirtual 450, 3) := dk_182 1 194 (dk_at dksX3_has_2_0 18 rfl rfl)
theorem dX3_has_2_21 : decode cX3_has_2 21 = .ok (.goto 19, 3) := dk_167 0 19 (dk_at dksX3_has_2_0 21 rfl rfl)
theorem dX3_has_2_24 : decode cX3_has_2 24 = .ok (.iload_n 1, 1) := dk_27 (dk_at dksX3_has_2_1 0 rfl rfl)
theorem dX3_has_2_25 : decode cX3_has_2 25 = .ok (.iconst 2, 1) := dk_5 (dk_at dksX3_has_2_1 1 rfl rfl)
theorem dX3_has_2_26 : decode cX3_has_2 26 = .ok (.if_icmp .ne 10, 3) := dk_160 0 10 (dk_at dksX3_has_2_1 2 rfl rfl)
theorem dX3_has_2_29 : decode cX3_has_2 29 = .ok (.aload_n 0, 1) := dk_42 (dk_at dksX3_has_2_1 5 rfl rfl)
theorem dX3_has_2_30 : decode cX3_has_2 30 = .ok (.invokevirtual 453, 3) := dk_182 1 197 (dk_at dksX3_has_2_1 6 rfl rfl)
theorem dX3_has_2_33 : decode cX3_has_2 33 = .ok (.goto 7, 3) := dk_167 0 7 (dk_at dksX3_has_2_1 9 rfl rfl)
theorem dX3_has_2_36 : decode cX3_has_2 36 = .ok (.aload_n 0, 1) := dk_42 (dk_at dksX3_has_2_1 12 rfl rfl)
theorem dX3_has_2_37 : decode cX3_has_2 37 = .ok (.invokevirtual 456, 3) := dk_182 1 200 (dk_at dksX3_has_2_1 13 rfl rfl)
theorem dX3_has_2_40 : decode cX3_has_2 40 = .ok (.ireturn, 1) := dk_172 (dk_at dksX3_has_2_1 16 rfl rfl)
abbrev cX3_longest : ByteArray := prog_21_method_94_code
def yX3_longest : MethodName := ⟨RX3, "longest", "()I"⟩
def dkwX3_longest_1 : List UInt8 := [28, 182, 1, 179, 167, 0, 4, 27, 60, 132, 2, 1, 167, 255, 224, 27, 4, 96, 172]
abbrev dktX3_longest_1 : List UInt8 := dkwX3_longest_1 ++ []
def dkwX3_longest_0 : List UInt8 := [3, 60, 3, 61, 28, 42, 180, 0, 64, 3, 46, 162, 0, 28, 42, 28, 182, 1, 179, 27, 164, 0, 11, 42]
abbrev dktX3_longest_0 : List UInt8 := dkwX3_longest_0 ++ dktX3_longest_1
theorem dksX3_longest_0 : cX3_longest.data.toList.drop 0 = dktX3_longest_0 := by decide +kernel
theorem dksX3_longest_1 : cX3_longest.data.toList.drop 24 = dktX3_longest_1 := dk_seg dksX3_longest_0 24 rfl rfl
theorem dX3_longest_0 : decode cX3_longest 0 = .ok (.iconst 0, 1) := dk_3 (dk_at dksX3_longest_0 0 rfl rfl)
theorem dX3_longest_1 : decode cX3_longest 1 = .ok (.istore_n 1, 1) := dk_60 (dk_at dksX3_longest_0 1 rfl rfl)
theorem dX3_longest_2 : decode cX3_longest 2 = .ok (.iconst 0, 1) := dk_3 (dk_at dksX3_longest_0 2 rfl rfl)
theorem dX3_longest_3 : decode cX3_longest 3 = .ok (.istore_n 2, 1) := dk_61 (dk_at dksX3_longest_0 3 rfl rfl)
theorem dX3_longest_4 : decode cX3_longest 4 = .ok (.iload_n 2, 1) := dk_28 (dk_at dksX3_longest_0 4 rfl rfl)
theorem dX3_longest_5 : decode cX3_longest 5 = .ok (.aload_n 0, 1) := dk_42 (dk_at dksX3_longest_0 5 rfl rfl)
theorem dX3_longest_6 : decode cX3_longest 6 = .ok (.getfield 64, 3) := dk_180 0 64 (dk_at dksX3_longest_0 6 rfl rfl)
theorem dX3_longest_9 : decode cX3_longest 9 = .ok (.iconst 0, 1) := dk_3 (dk_at dksX3_longest_0 9 rfl rfl)
theorem dX3_longest_10 : decode cX3_longest 10 = .ok (.iaload, 1) := dk_46 (dk_at dksX3_longest_0 10 rfl rfl)
theorem dX3_longest_11 : decode cX3_longest 11 = .ok (.if_icmp .ge 28, 3) := dk_162 0 28 (dk_at dksX3_longest_0 11 rfl rfl)
theorem dX3_longest_14 : decode cX3_longest 14 = .ok (.aload_n 0, 1) := dk_42 (dk_at dksX3_longest_0 14 rfl rfl)
theorem dX3_longest_15 : decode cX3_longest 15 = .ok (.iload_n 2, 1) := dk_28 (dk_at dksX3_longest_0 15 rfl rfl)
theorem dX3_longest_16 : decode cX3_longest 16 = .ok (.invokevirtual 435, 3) := dk_182 1 179 (dk_at dksX3_longest_0 16 rfl rfl)
theorem dX3_longest_19 : decode cX3_longest 19 = .ok (.iload_n 1, 1) := dk_27 (dk_at dksX3_longest_0 19 rfl rfl)
theorem dX3_longest_20 : decode cX3_longest 20 = .ok (.if_icmp .le 11, 3) := dk_164 0 11 (dk_at dksX3_longest_0 20 rfl rfl)
theorem dX3_longest_23 : decode cX3_longest 23 = .ok (.aload_n 0, 1) := dk_42 (dk_at dksX3_longest_0 23 rfl rfl)
theorem dX3_longest_24 : decode cX3_longest 24 = .ok (.iload_n 2, 1) := dk_28 (dk_at dksX3_longest_1 0 rfl rfl)
theorem dX3_longest_25 : decode cX3_longest 25 = .ok (.invokevirtual 435, 3) := dk_182 1 179 (dk_at dksX3_longest_1 1 rfl rfl)
theorem dX3_longest_28 : decode cX3_longest 28 = .ok (.goto 4, 3) := dk_167 0 4 (dk_at dksX3_longest_1 4 rfl rfl)
theorem dX3_longest_31 : decode cX3_longest 31 = .ok (.iload_n 1, 1) := dk_27 (dk_at dksX3_longest_1 7 rfl rfl)
theorem dX3_longest_32 : decode cX3_longest 32 = .ok (.istore_n 1, 1) := dk_60 (dk_at dksX3_longest_1 8 rfl rfl)
theorem dX3_longest_33 : decode cX3_longest 33 = .ok (.iinc 2 1, 3) := dk_132 2 1 (dk_at dksX3_longest_1 9 rfl rfl)
theorem dX3_longest_36 : decode cX3_longest 36 = .ok (.goto (-32), 3) := dk_167 255 224 (dk_at dksX3_longest_1 12 rfl rfl)
theorem dX3_longest_39 : decode cX3_longest 39 = .ok (.iload_n 1, 1) := dk_27 (dk_at dksX3_longest_1 15 rfl rfl)
theorem dX3_longest_40 : decode cX3_longest 40 = .ok (.iconst 1, 1) := dk_4 (dk_at dksX3_longest_1 16 rfl rfl)
theorem dX3_longest_41 : decode cX3_longest 41 = .ok (.iadd, 1) := dk_96 (dk_at dksX3_longest_1 17 rfl rfl)
theorem dX3_longest_42 : decode cX3_longest 42 = .ok (.ireturn, 1) := dk_172 (dk_at dksX3_longest_1 18 rfl rfl)
abbrev cX3_farthest : ByteArray := prog_21_method_91_code
def yX3_farthest : MethodName := ⟨RX3, "farthest", "(I)I"⟩
def dkwX3_farthest_2 : List UInt8 := [167, 255, 212, 28, 172]
abbrev dktX3_farthest_2 : List UInt8 := dkwX3_farthest_2 ++ []
def dkwX3_farthest_1 : List UInt8 := [46, 28, 164, 0, 17, 42, 180, 0, 85, 16, 16, 27, 104, 29, 96, 46, 167, 0, 4, 28, 61, 132, 3, 1]
abbrev dktX3_farthest_1 : List UInt8 := dkwX3_farthest_1 ++ dktX3_farthest_2
def dkwX3_farthest_0 : List UInt8 := [3, 61, 3, 62, 29, 42, 180, 0, 64, 3, 46, 162, 0, 40, 42, 180, 0, 85, 16, 16, 27, 104, 29, 96]
abbrev dktX3_farthest_0 : List UInt8 := dkwX3_farthest_0 ++ dktX3_farthest_1
theorem dksX3_farthest_0 : cX3_farthest.data.toList.drop 0 = dktX3_farthest_0 := by decide +kernel
theorem dksX3_farthest_1 : cX3_farthest.data.toList.drop 24 = dktX3_farthest_1 := dk_seg dksX3_farthest_0 24 rfl rfl
theorem dksX3_farthest_2 : cX3_farthest.data.toList.drop 48 = dktX3_farthest_2 := dk_seg dksX3_farthest_1 24 rfl rfl
theorem dX3_farthest_0 : decode cX3_farthest 0 = .ok (.iconst 0, 1) := dk_3 (dk_at dksX3_farthest_0 0 rfl rfl)
theorem dX3_farthest_1 : decode cX3_farthest 1 = .ok (.istore_n 2, 1) := dk_61 (dk_at dksX3_farthest_0 1 rfl rfl)
theorem dX3_farthest_2 : decode cX3_farthest 2 = .ok (.iconst 0, 1) := dk_3 (dk_at dksX3_farthest_0 2 rfl rfl)
theorem dX3_farthest_3 : decode cX3_farthest 3 = .ok (.istore_n 3, 1) := dk_62 (dk_at dksX3_farthest_0 3 rfl rfl)
theorem dX3_farthest_4 : decode cX3_farthest 4 = .ok (.iload_n 3, 1) := dk_29 (dk_at dksX3_farthest_0 4 rfl rfl)
theorem dX3_farthest_5 : decode cX3_farthest 5 = .ok (.aload_n 0, 1) := dk_42 (dk_at dksX3_farthest_0 5 rfl rfl)
theorem dX3_farthest_6 : decode cX3_farthest 6 = .ok (.getfield 64, 3) := dk_180 0 64 (dk_at dksX3_farthest_0 6 rfl rfl)
theorem dX3_farthest_9 : decode cX3_farthest 9 = .ok (.iconst 0, 1) := dk_3 (dk_at dksX3_farthest_0 9 rfl rfl)
theorem dX3_farthest_10 : decode cX3_farthest 10 = .ok (.iaload, 1) := dk_46 (dk_at dksX3_farthest_0 10 rfl rfl)
theorem dX3_farthest_11 : decode cX3_farthest 11 = .ok (.if_icmp .ge 40, 3) := dk_162 0 40 (dk_at dksX3_farthest_0 11 rfl rfl)
theorem dX3_farthest_14 : decode cX3_farthest 14 = .ok (.aload_n 0, 1) := dk_42 (dk_at dksX3_farthest_0 14 rfl rfl)
theorem dX3_farthest_15 : decode cX3_farthest 15 = .ok (.getfield 85, 3) := dk_180 0 85 (dk_at dksX3_farthest_0 15 rfl rfl)
theorem dX3_farthest_18 : decode cX3_farthest 18 = .ok (.bipush 16, 2) := dk_16 16 (dk_at dksX3_farthest_0 18 rfl rfl)
theorem dX3_farthest_20 : decode cX3_farthest 20 = .ok (.iload_n 1, 1) := dk_27 (dk_at dksX3_farthest_0 20 rfl rfl)
theorem dX3_farthest_21 : decode cX3_farthest 21 = .ok (.imul, 1) := dk_104 (dk_at dksX3_farthest_0 21 rfl rfl)
theorem dX3_farthest_22 : decode cX3_farthest 22 = .ok (.iload_n 3, 1) := dk_29 (dk_at dksX3_farthest_0 22 rfl rfl)
theorem dX3_farthest_23 : decode cX3_farthest 23 = .ok (.iadd, 1) := dk_96 (dk_at dksX3_farthest_0 23 rfl rfl)
theorem dX3_farthest_24 : decode cX3_farthest 24 = .ok (.iaload, 1) := dk_46 (dk_at dksX3_farthest_1 0 rfl rfl)
theorem dX3_farthest_25 : decode cX3_farthest 25 = .ok (.iload_n 2, 1) := dk_28 (dk_at dksX3_farthest_1 1 rfl rfl)
theorem dX3_farthest_26 : decode cX3_farthest 26 = .ok (.if_icmp .le 17, 3) := dk_164 0 17 (dk_at dksX3_farthest_1 2 rfl rfl)
theorem dX3_farthest_29 : decode cX3_farthest 29 = .ok (.aload_n 0, 1) := dk_42 (dk_at dksX3_farthest_1 5 rfl rfl)
theorem dX3_farthest_30 : decode cX3_farthest 30 = .ok (.getfield 85, 3) := dk_180 0 85 (dk_at dksX3_farthest_1 6 rfl rfl)
theorem dX3_farthest_33 : decode cX3_farthest 33 = .ok (.bipush 16, 2) := dk_16 16 (dk_at dksX3_farthest_1 9 rfl rfl)
theorem dX3_farthest_35 : decode cX3_farthest 35 = .ok (.iload_n 1, 1) := dk_27 (dk_at dksX3_farthest_1 11 rfl rfl)
theorem dX3_farthest_36 : decode cX3_farthest 36 = .ok (.imul, 1) := dk_104 (dk_at dksX3_farthest_1 12 rfl rfl)
theorem dX3_farthest_37 : decode cX3_farthest 37 = .ok (.iload_n 3, 1) := dk_29 (dk_at dksX3_farthest_1 13 rfl rfl)
theorem dX3_farthest_38 : decode cX3_farthest 38 = .ok (.iadd, 1) := dk_96 (dk_at dksX3_farthest_1 14 rfl rfl)
theorem dX3_farthest_39 : decode cX3_farthest 39 = .ok (.iaload, 1) := dk_46 (dk_at dksX3_farthest_1 15 rfl rfl)
theorem dX3_farthest_40 : decode cX3_farthest 40 = .ok (.goto 4, 3) := dk_167 0 4 (dk_at dksX3_farthest_1 16 rfl rfl)
theorem dX3_farthest_43 : decode cX3_farthest 43 = .ok (.iload_n 2, 1) := dk_28 (dk_at dksX3_farthest_1 19 rfl rfl)
theorem dX3_farthest_44 : decode cX3_farthest 44 = .ok (.istore_n 2, 1) := dk_61 (dk_at dksX3_farthest_1 20 rfl rfl)
theorem dX3_farthest_45 : decode cX3_farthest 45 = .ok (.iinc 3 1, 3) := dk_132 3 1 (dk_at dksX3_farthest_1 21 rfl rfl)
theorem dX3_farthest_48 : decode cX3_farthest 48 = .ok (.goto (-44), 3) := dk_167 255 212 (dk_at dksX3_farthest_2 0 rfl rfl)
theorem dX3_farthest_51 : decode cX3_farthest 51 = .ok (.iload_n 2, 1) := dk_28 (dk_at dksX3_farthest_2 3 rfl rfl)
theorem dX3_farthest_52 : decode cX3_farthest 52 = .ok (.ireturn, 1) := dk_172 (dk_at dksX3_farthest_2 4 rfl rfl)
abbrev cX3_withNeighbours : ByteArray := prog_21_method_95_code
def yX3_withNeighbours : MethodName := ⟨RX3, "withNeighbours", "(I)I"⟩
def dkwX3_withNeighbours_1 : List UInt8 := [184, 0, 148, 27, 160, 0, 7, 4, 167, 0, 4, 3, 96, 61, 132, 3, 1, 167, 255, 220, 28, 172]
abbrev dktX3_withNeighbours_1 : List UInt8 := dkwX3_withNeighbours_1 ++ []
def dkwX3_withNeighbours_0 : List UInt8 := [3, 61, 3, 62, 29, 42, 180, 0, 64, 3, 46, 162, 0, 32, 28, 42, 180, 0, 64, 4, 29, 96, 46]
abbrev dktX3_withNeighbours_0 : List UInt8 := dkwX3_withNeighbours_0 ++ dktX3_withNeighbours_1
theorem dksX3_withNeighbours_0 : cX3_withNeighbours.data.toList.drop 0 = dktX3_withNeighbours_0 := by decide +kernel
theorem dksX3_withNeighbours_1 : cX3_withNeighbours.data.toList.drop 23 = dktX3_withNeighbours_1 := dk_seg dksX3_withNeighbours_0 23 rfl rfl
theorem dX3_withNeighbours_0 : decode cX3_withNeighbours 0 = .ok (.iconst 0, 1) := dk_3 (dk_at dksX3_withNeighbours_0 0 rfl rfl)
theorem dX3_withNeighbours_1 : decode cX3_withNeighbours 1 = .ok (.istore_n 2, 1) := dk_61 (dk_at dksX3_withNeighbours_0 1 rfl rfl)
theorem dX3_withNeighbours_2 : decode cX3_withNeighbours 2 = .ok (.iconst 0, 1) := dk_3 (dk_at dksX3_withNeighbours_0 2 rfl rfl)
theorem dX3_withNeighbours_3 : decode cX3_withNeighbours 3 = .ok (.istore_n 3, 1) := dk_62 (dk_at dksX3_withNeighbours_0 3 rfl rfl)
theorem dX3_withNeighbours_4 : decode cX3_withNeighbours 4 = .ok (.iload_n 3, 1) := dk_29 (dk_at dksX3_withNeighbours_0 4 rfl rfl)
theorem dX3_withNeighbours_5 : decode cX3_withNeighbours 5 = .ok (.aload_n 0, 1) := dk_42 (dk_at dksX3_withNeighbours_0 5 rfl rfl)
theorem dX3_withNeighbours_6 : decode cX3_withNeighbours 6 = .ok (.getfield 64, 3) := dk_180 0 64 (dk_at dksX3_withNeighbours_0 6 rfl rfl)
theorem dX3_withNeighbours_9 : decode cX3_withNeighbours 9 = .ok (.iconst 0, 1) := dk_3 (dk_at dksX3_withNeighbours_0 9 rfl rfl)
theorem dX3_withNeighbours_10 : decode cX3_withNeighbours 10 = .ok (.iaload, 1) := dk_46 (dk_at dksX3_withNeighbours_0 10 rfl rfl)
theorem dX3_withNeighbours_11 : decode cX3_withNeighbours 11 = .ok (.if_icmp .ge 32, 3) := dk_162 0 32 (dk_at dksX3_withNeighbours_0 11 rfl rfl)
theorem dX3_withNeighbours_14 : decode cX3_withNeighbours 14 = .ok (.iload_n 2, 1) := dk_28 (dk_at dksX3_withNeighbours_0 14 rfl rfl)
theorem dX3_withNeighbours_15 : decode cX3_withNeighbours 15 = .ok (.aload_n 0, 1) := dk_42 (dk_at dksX3_withNeighbours_0 15 rfl rfl)
theorem dX3_withNeighbours_16 : decode cX3_withNeighbours 16 = .ok (.getfield 64, 3) := dk_180 0 64 (dk_at dksX3_withNeighbours_0 16 rfl rfl)
theorem dX3_withNeighbours_19 : decode cX3_withNeighbours 19 = .ok (.iconst 1, 1) := dk_4 (dk_at dksX3_withNeighbours_0 19 rfl rfl)
theorem dX3_withNeighbours_20 : decode cX3_withNeighbours 20 = .ok (.iload_n 3, 1) := dk_29 (dk_at dksX3_withNeighbours_0 20 rfl rfl)
theorem dX3_withNeighbours_21 : decode cX3_withNeighbours 21 = .ok (.iadd, 1) := dk_96 (dk_at dksX3_withNeighbours_0 21 rfl rfl)
theorem dX3_withNeighbours_22 : decode cX3_withNeighbours 22 = .ok (.iaload, 1) := dk_46 (dk_at dksX3_withNeighbours_0 22 rfl rfl)
theorem dX3_withNeighbours_23 : decode cX3_withNeighbours 23 = .ok (.invokestatic 148, 3) := dk_184 0 148 (dk_at dksX3_withNeighbours_1 0 rfl rfl)
theorem dX3_withNeighbours_26 : decode cX3_withNeighbours 26 = .ok (.iload_n 1, 1) := dk_27 (dk_at dksX3_withNeighbours_1 3 rfl rfl)
theorem dX3_withNeighbours_27 : decode cX3_withNeighbours 27 = .ok (.if_icmp .ne 7, 3) := dk_160 0 7 (dk_at dksX3_withNeighbours_1 4 rfl rfl)
theorem dX3_withNeighbours_30 : decode cX3_withNeighbours 30 = .ok (.iconst 1, 1) := dk_4 (dk_at dksX3_withNeighbours_1 7 rfl rfl)
theorem dX3_withNeighbours_31 : decode cX3_withNeighbours 31 = .ok (.goto 4, 3) := dk_167 0 4 (dk_at dksX3_withNeighbours_1 8 rfl rfl)
theorem dX3_withNeighbours_34 : decode cX3_withNeighbours 34 = .ok (.iconst 0, 1) := dk_3 (dk_at dksX3_withNeighbours_1 11 rfl rfl)
theorem dX3_withNeighbours_35 : decode cX3_withNeighbours 35 = .ok (.iadd, 1) := dk_96 (dk_at dksX3_withNeighbours_1 12 rfl rfl)
theorem dX3_withNeighbours_36 : decode cX3_withNeighbours 36 = .ok (.istore_n 2, 1) := dk_61 (dk_at dksX3_withNeighbours_1 13 rfl rfl)
theorem dX3_withNeighbours_37 : decode cX3_withNeighbours 37 = .ok (.iinc 3 1, 3) := dk_132 3 1 (dk_at dksX3_withNeighbours_1 14 rfl rfl)
theorem dX3_withNeighbours_40 : decode cX3_withNeighbours 40 = .ok (.goto (-36), 3) := dk_167 255 220 (dk_at dksX3_withNeighbours_1 17 rfl rfl)
theorem dX3_withNeighbours_43 : decode cX3_withNeighbours 43 = .ok (.iload_n 2, 1) := dk_28 (dk_at dksX3_withNeighbours_1 20 rfl rfl)
theorem dX3_withNeighbours_44 : decode cX3_withNeighbours 44 = .ok (.ireturn, 1) := dk_172 (dk_at dksX3_withNeighbours_1 21 rfl rfl)
abbrev cX3_asymmetricMany : ByteArray := prog_21_method_96_code
def yX3_asymmetricMany : MethodName := ⟨RX3, "asymmetricMany", "()I"⟩
def dkwX3_asymmetricMany_1 : List UInt8 := [167, 0, 4, 3, 96, 60, 132, 2, 1, 167, 255, 227, 27, 172]
abbrev dktX3_asymmetricMany_1 : List UInt8 := dkwX3_asymmetricMany_1 ++ []
def dkwX3_asymmetricMany_0 : List UInt8 := [3, 60, 3, 61, 28, 42, 180, 0, 64, 3, 46, 162, 0, 25, 27, 42, 28, 182, 1, 182, 153, 0, 7, 4]
abbrev dktX3_asymmetricMany_0 : List UInt8 := dkwX3_asymmetricMany_0 ++ dktX3_asymmetricMany_1
theorem dksX3_asymmetricMany_0 : cX3_asymmetricMany.data.toList.drop 0 = dktX3_asymmetricMany_0 := by decide +kernel
theorem dksX3_asymmetricMany_1 : cX3_asymmetricMany.data.toList.drop 24 = dktX3_asymmetricMany_1 := dk_seg dksX3_asymmetricMany_0 24 rfl rfl
theorem dX3_asymmetricMany_0 : decode cX3_asymmetricMany 0 = .ok (.iconst 0, 1) := dk_3 (dk_at dksX3_asymmetricMany_0 0 rfl rfl)
theorem dX3_asymmetricMany_1 : decode cX3_asymmetricMany 1 = .ok (.istore_n 1, 1) := dk_60 (dk_at dksX3_asymmetricMany_0 1 rfl rfl)
theorem dX3_asymmetricMany_2 : decode cX3_asymmetricMany 2 = .ok (.iconst 0, 1) := dk_3 (dk_at dksX3_asymmetricMany_0 2 rfl rfl)
theorem dX3_asymmetricMany_3 : decode cX3_asymmetricMany 3 = .ok (.istore_n 2, 1) := dk_61 (dk_at dksX3_asymmetricMany_0 3 rfl rfl)
theorem dX3_asymmetricMany_4 : decode cX3_asymmetricMany 4 = .ok (.iload_n 2, 1) := dk_28 (dk_at dksX3_asymmetricMany_0 4 rfl rfl)
theorem dX3_asymmetricMany_5 : decode cX3_asymmetricMany 5 = .ok (.aload_n 0, 1) := dk_42 (dk_at dksX3_asymmetricMany_0 5 rfl rfl)
theorem dX3_asymmetricMany_6 : decode cX3_asymmetricMany 6 = .ok (.getfield 64, 3) := dk_180 0 64 (dk_at dksX3_asymmetricMany_0 6 rfl rfl)
theorem dX3_asymmetricMany_9 : decode cX3_asymmetricMany 9 = .ok (.iconst 0, 1) := dk_3 (dk_at dksX3_asymmetricMany_0 9 rfl rfl)
theorem dX3_asymmetricMany_10 : decode cX3_asymmetricMany 10 = .ok (.iaload, 1) := dk_46 (dk_at dksX3_asymmetricMany_0 10 rfl rfl)
theorem dX3_asymmetricMany_11 : decode cX3_asymmetricMany 11 = .ok (.if_icmp .ge 25, 3) := dk_162 0 25 (dk_at dksX3_asymmetricMany_0 11 rfl rfl)
theorem dX3_asymmetricMany_14 : decode cX3_asymmetricMany 14 = .ok (.iload_n 1, 1) := dk_27 (dk_at dksX3_asymmetricMany_0 14 rfl rfl)
theorem dX3_asymmetricMany_15 : decode cX3_asymmetricMany 15 = .ok (.aload_n 0, 1) := dk_42 (dk_at dksX3_asymmetricMany_0 15 rfl rfl)
theorem dX3_asymmetricMany_16 : decode cX3_asymmetricMany 16 = .ok (.iload_n 2, 1) := dk_28 (dk_at dksX3_asymmetricMany_0 16 rfl rfl)
theorem dX3_asymmetricMany_17 : decode cX3_asymmetricMany 17 = .ok (.invokevirtual 438, 3) := dk_182 1 182 (dk_at dksX3_asymmetricMany_0 17 rfl rfl)
theorem dX3_asymmetricMany_20 : decode cX3_asymmetricMany 20 = .ok (.ifCond .eq 7, 3) := dk_153 0 7 (dk_at dksX3_asymmetricMany_0 20 rfl rfl)
theorem dX3_asymmetricMany_23 : decode cX3_asymmetricMany 23 = .ok (.iconst 1, 1) := dk_4 (dk_at dksX3_asymmetricMany_0 23 rfl rfl)
theorem dX3_asymmetricMany_24 : decode cX3_asymmetricMany 24 = .ok (.goto 4, 3) := dk_167 0 4 (dk_at dksX3_asymmetricMany_1 0 rfl rfl)
theorem dX3_asymmetricMany_27 : decode cX3_asymmetricMany 27 = .ok (.iconst 0, 1) := dk_3 (dk_at dksX3_asymmetricMany_1 3 rfl rfl)
theorem dX3_asymmetricMany_28 : decode cX3_asymmetricMany 28 = .ok (.iadd, 1) := dk_96 (dk_at dksX3_asymmetricMany_1 4 rfl rfl)
theorem dX3_asymmetricMany_29 : decode cX3_asymmetricMany 29 = .ok (.istore_n 1, 1) := dk_60 (dk_at dksX3_asymmetricMany_1 5 rfl rfl)
theorem dX3_asymmetricMany_30 : decode cX3_asymmetricMany 30 = .ok (.iinc 2 1, 3) := dk_132 2 1 (dk_at dksX3_asymmetricMany_1 6 rfl rfl)
theorem dX3_asymmetricMany_33 : decode cX3_asymmetricMany 33 = .ok (.goto (-29), 3) := dk_167 255 227 (dk_at dksX3_asymmetricMany_1 9 rfl rfl)
theorem dX3_asymmetricMany_36 : decode cX3_asymmetricMany 36 = .ok (.iload_n 1, 1) := dk_27 (dk_at dksX3_asymmetricMany_1 12 rfl rfl)
theorem dX3_asymmetricMany_37 : decode cX3_asymmetricMany 37 = .ok (.ireturn, 1) := dk_172 (dk_at dksX3_asymmetricMany_1 13 rfl rfl)
abbrev cX3_isAsymmetric : ByteArray := prog_21_method_90_code
def yX3_isAsymmetric : MethodName := ⟨RX3, "isAsymmetric", "(I)Z"⟩
def dkwX3_isAsymmetric_3 : List UInt8 := [3, 62, 132, 4, 1, 167, 255, 205, 29, 172]
abbrev dktX3_isAsymmetric_3 : List UInt8 := dkwX3_isAsymmetric_3 ++ []
def dkwX3_isAsymmetric_2 : List UInt8 := [21, 4, 96, 46, 42, 180, 0, 42, 7, 28, 104, 21, 4, 96, 4, 100, 46, 159, 0, 7, 4, 167, 0, 4]
abbrev dktX3_isAsymmetric_2 : List UInt8 := dkwX3_isAsymmetric_2 ++ dktX3_isAsymmetric_3
def dkwX3_isAsymmetric_1 : List UInt8 := [54, 4, 21, 4, 42, 180, 0, 45, 28, 46, 162, 0, 46, 29, 153, 0, 34, 42, 180, 0, 42, 7, 28, 104]
abbrev dktX3_isAsymmetric_1 : List UInt8 := dkwX3_isAsymmetric_1 ++ dktX3_isAsymmetric_2
def dkwX3_isAsymmetric_0 : List UInt8 := [42, 27, 182, 1, 176, 61, 42, 180, 0, 45, 28, 46, 5, 164, 0, 7, 4, 167, 0, 4, 3, 62, 4]
abbrev dktX3_isAsymmetric_0 : List UInt8 := dkwX3_isAsymmetric_0 ++ dktX3_isAsymmetric_1
theorem dksX3_isAsymmetric_0 : cX3_isAsymmetric.data.toList.drop 0 = dktX3_isAsymmetric_0 := by decide +kernel
theorem dksX3_isAsymmetric_1 : cX3_isAsymmetric.data.toList.drop 23 = dktX3_isAsymmetric_1 := dk_seg dksX3_isAsymmetric_0 23 rfl rfl
theorem dksX3_isAsymmetric_2 : cX3_isAsymmetric.data.toList.drop 47 = dktX3_isAsymmetric_2 := dk_seg dksX3_isAsymmetric_1 24 rfl rfl
theorem dksX3_isAsymmetric_3 : cX3_isAsymmetric.data.toList.drop 71 = dktX3_isAsymmetric_3 := dk_seg dksX3_isAsymmetric_2 24 rfl rfl
theorem dX3_isAsymmetric_0 : decode cX3_isAsymmetric 0 = .ok (.aload_n 0, 1) := dk_42 (dk_at dksX3_isAsymmetric_0 0 rfl rfl)
theorem dX3_isAsymmetric_1 : decode cX3_isAsymmetric 1 = .ok (.iload_n 1, 1) := dk_27 (dk_at dksX3_isAsymmetric_0 1 rfl rfl)
theorem dX3_isAsymmetric_2 : decode cX3_isAsymmetric 2 = .ok (.invokevirtual 432, 3) := dk_182 1 176 (dk_at dksX3_isAsymmetric_0 2 rfl rfl)
theorem dX3_isAsymmetric_5 : decode cX3_isAsymmetric 5 = .ok (.istore_n 2, 1) := dk_61 (dk_at dksX3_isAsymmetric_0 5 rfl rfl)
theorem dX3_isAsymmetric_6 : decode cX3_isAsymmetric 6 = .ok (.aload_n 0, 1) := dk_42 (dk_at dksX3_isAsymmetric_0 6 rfl rfl)
theorem dX3_isAsymmetric_7 : decode cX3_isAsymmetric 7 = .ok (.getfield 45, 3) := dk_180 0 45 (dk_at dksX3_isAsymmetric_0 7 rfl rfl)
theorem dX3_isAsymmetric_10 : decode cX3_isAsymmetric 10 = .ok (.iload_n 2, 1) := dk_28 (dk_at dksX3_isAsymmetric_0 10 rfl rfl)
theorem dX3_isAsymmetric_11 : decode cX3_isAsymmetric 11 = .ok (.iaload, 1) := dk_46 (dk_at dksX3_isAsymmetric_0 11 rfl rfl)
theorem dX3_isAsymmetric_12 : decode cX3_isAsymmetric 12 = .ok (.iconst 2, 1) := dk_5 (dk_at dksX3_isAsymmetric_0 12 rfl rfl)
theorem dX3_isAsymmetric_13 : decode cX3_isAsymmetric 13 = .ok (.if_icmp .le 7, 3) := dk_164 0 7 (dk_at dksX3_isAsymmetric_0 13 rfl rfl)
theorem dX3_isAsymmetric_16 : decode cX3_isAsymmetric 16 = .ok (.iconst 1, 1) := dk_4 (dk_at dksX3_isAsymmetric_0 16 rfl rfl)
theorem dX3_isAsymmetric_17 : decode cX3_isAsymmetric 17 = .ok (.goto 4, 3) := dk_167 0 4 (dk_at dksX3_isAsymmetric_0 17 rfl rfl)
theorem dX3_isAsymmetric_20 : decode cX3_isAsymmetric 20 = .ok (.iconst 0, 1) := dk_3 (dk_at dksX3_isAsymmetric_0 20 rfl rfl)
theorem dX3_isAsymmetric_21 : decode cX3_isAsymmetric 21 = .ok (.istore_n 3, 1) := dk_62 (dk_at dksX3_isAsymmetric_0 21 rfl rfl)
theorem dX3_isAsymmetric_22 : decode cX3_isAsymmetric 22 = .ok (.iconst 1, 1) := dk_4 (dk_at dksX3_isAsymmetric_0 22 rfl rfl)
theorem dX3_isAsymmetric_23 : decode cX3_isAsymmetric 23 = .ok (.istore 4, 2) := dk_54 4 (dk_at dksX3_isAsymmetric_1 0 rfl rfl)
theorem dX3_isAsymmetric_25 : decode cX3_isAsymmetric 25 = .ok (.iload 4, 2) := dk_21 4 (dk_at dksX3_isAsymmetric_1 2 rfl rfl)
theorem dX3_isAsymmetric_27 : decode cX3_isAsymmetric 27 = .ok (.aload_n 0, 1) := dk_42 (dk_at dksX3_isAsymmetric_1 4 rfl rfl)
theorem dX3_isAsymmetric_28 : decode cX3_isAsymmetric 28 = .ok (.getfield 45, 3) := dk_180 0 45 (dk_at dksX3_isAsymmetric_1 5 rfl rfl)
theorem dX3_isAsymmetric_31 : decode cX3_isAsymmetric 31 = .ok (.iload_n 2, 1) := dk_28 (dk_at dksX3_isAsymmetric_1 8 rfl rfl)
theorem dX3_isAsymmetric_32 : decode cX3_isAsymmetric 32 = .ok (.iaload, 1) := dk_46 (dk_at dksX3_isAsymmetric_1 9 rfl rfl)
theorem dX3_isAsymmetric_33 : decode cX3_isAsymmetric 33 = .ok (.if_icmp .ge 46, 3) := dk_162 0 46 (dk_at dksX3_isAsymmetric_1 10 rfl rfl)
theorem dX3_isAsymmetric_36 : decode cX3_isAsymmetric 36 = .ok (.iload_n 3, 1) := dk_29 (dk_at dksX3_isAsymmetric_1 13 rfl rfl)
theorem dX3_isAsymmetric_37 : decode cX3_isAsymmetric 37 = .ok (.ifCond .eq 34, 3) := dk_153 0 34 (dk_at dksX3_isAsymmetric_1 14 rfl rfl)
theorem dX3_isAsymmetric_40 : decode cX3_isAsymmetric 40 = .ok (.aload_n 0, 1) := dk_42 (dk_at dksX3_isAsymmetric_1 17 rfl rfl)
theorem dX3_isAsymmetric_41 : decode cX3_isAsymmetric 41 = .ok (.getfield 42, 3) := dk_180 0 42 (dk_at dksX3_isAsymmetric_1 18 rfl rfl)
theorem dX3_isAsymmetric_44 : decode cX3_isAsymmetric 44 = .ok (.iconst 4, 1) := dk_7 (dk_at dksX3_isAsymmetric_1 21 rfl rfl)
theorem dX3_isAsymmetric_45 : decode cX3_isAsymmetric 45 = .ok (.iload_n 2, 1) := dk_28 (dk_at dksX3_isAsymmetric_1 22 rfl rfl)
theorem dX3_isAsymmetric_46 : decode cX3_isAsymmetric 46 = .ok (.imul, 1) := dk_104 (dk_at dksX3_isAsymmetric_1 23 rfl rfl)
theorem dX3_isAsymmetric_47 : decode cX3_isAsymmetric 47 = .ok (.iload 4, 2) := dk_21 4 (dk_at dksX3_isAsymmetric_2 0 rfl rfl)
theorem dX3_isAsymmetric_49 : decode cX3_isAsymmetric 49 = .ok (.iadd, 1) := dk_96 (dk_at dksX3_isAsymmetric_2 2 rfl rfl)
theorem dX3_isAsymmetric_50 : decode cX3_isAsymmetric 50 = .ok (.iaload, 1) := dk_46 (dk_at dksX3_isAsymmetric_2 3 rfl rfl)
theorem dX3_isAsymmetric_51 : decode cX3_isAsymmetric 51 = .ok (.aload_n 0, 1) := dk_42 (dk_at dksX3_isAsymmetric_2 4 rfl rfl)
theorem dX3_isAsymmetric_52 : decode cX3_isAsymmetric 52 = .ok (.getfield 42, 3) := dk_180 0 42 (dk_at dksX3_isAsymmetric_2 5 rfl rfl)
theorem dX3_isAsymmetric_55 : decode cX3_isAsymmetric 55 = .ok (.iconst 4, 1) := dk_7 (dk_at dksX3_isAsymmetric_2 8 rfl rfl)
theorem dX3_isAsymmetric_56 : decode cX3_isAsymmetric 56 = .ok (.iload_n 2, 1) := dk_28 (dk_at dksX3_isAsymmetric_2 9 rfl rfl)
theorem dX3_isAsymmetric_57 : decode cX3_isAsymmetric 57 = .ok (.imul, 1) := dk_104 (dk_at dksX3_isAsymmetric_2 10 rfl rfl)
theorem dX3_isAsymmetric_58 : decode cX3_isAsymmetric 58 = .ok (.iload 4, 2) := dk_21 4 (dk_at dksX3_isAsymmetric_2 11 rfl rfl)
theorem dX3_isAsymmetric_60 : decode cX3_isAsymmetric 60 = .ok (.iadd, 1) := dk_96 (dk_at dksX3_isAsymmetric_2 13 rfl rfl)
theorem dX3_isAsymmetric_61 : decode cX3_isAsymmetric 61 = .ok (.iconst 1, 1) := dk_4 (dk_at dksX3_isAsymmetric_2 14 rfl rfl)
theorem dX3_isAsymmetric_62 : decode cX3_isAsymmetric 62 = .ok (.isub, 1) := dk_100 (dk_at dksX3_isAsymmetric_2 15 rfl rfl)
theorem dX3_isAsymmetric_63 : decode cX3_isAsymmetric 63 = .ok (.iaload, 1) := dk_46 (dk_at dksX3_isAsymmetric_2 16 rfl rfl)
theorem dX3_isAsymmetric_64 : decode cX3_isAsymmetric 64 = .ok (.if_icmp .eq 7, 3) := dk_159 0 7 (dk_at dksX3_isAsymmetric_2 17 rfl rfl)
theorem dX3_isAsymmetric_67 : decode cX3_isAsymmetric 67 = .ok (.iconst 1, 1) := dk_4 (dk_at dksX3_isAsymmetric_2 20 rfl rfl)
theorem dX3_isAsymmetric_68 : decode cX3_isAsymmetric 68 = .ok (.goto 4, 3) := dk_167 0 4 (dk_at dksX3_isAsymmetric_2 21 rfl rfl)
theorem dX3_isAsymmetric_71 : decode cX3_isAsymmetric 71 = .ok (.iconst 0, 1) := dk_3 (dk_at dksX3_isAsymmetric_3 0 rfl rfl)
theorem dX3_isAsymmetric_72 : decode cX3_isAsymmetric 72 = .ok (.istore_n 3, 1) := dk_62 (dk_at dksX3_isAsymmetric_3 1 rfl rfl)
theorem dX3_isAsymmetric_73 : decode cX3_isAsymmetric 73 = .ok (.iinc 4 1, 3) := dk_132 4 1 (dk_at dksX3_isAsymmetric_3 2 rfl rfl)
theorem dX3_isAsymmetric_76 : decode cX3_isAsymmetric 76 = .ok (.goto (-51), 3) := dk_167 255 205 (dk_at dksX3_isAsymmetric_3 5 rfl rfl)
theorem dX3_isAsymmetric_79 : decode cX3_isAsymmetric 79 = .ok (.iload_n 3, 1) := dk_29 (dk_at dksX3_isAsymmetric_3 8 rfl rfl)
theorem dX3_isAsymmetric_80 : decode cX3_isAsymmetric 80 = .ok (.ireturn, 1) := dk_172 (dk_at dksX3_isAsymmetric_3 9 rfl rfl)
abbrev cX3_rootAt : ByteArray := prog_21_method_89_code
def yX3_rootAt : MethodName := ⟨RX3, "rootAt", "(I)I"⟩
def dkwX3_rootAt_0 : List UInt8 := [42, 180, 0, 67, 17, 1, 0, 27, 96, 46, 172]
abbrev dktX3_rootAt_0 : List UInt8 := dkwX3_rootAt_0 ++ []
theorem dksX3_rootAt_0 : cX3_rootAt.data.toList.drop 0 = dktX3_rootAt_0 := by decide +kernel
theorem dX3_rootAt_0 : decode cX3_rootAt 0 = .ok (.aload_n 0, 1) := dk_42 (dk_at dksX3_rootAt_0 0 rfl rfl)
theorem dX3_rootAt_1 : decode cX3_rootAt 1 = .ok (.getfield 67, 3) := dk_180 0 67 (dk_at dksX3_rootAt_0 1 rfl rfl)
theorem dX3_rootAt_4 : decode cX3_rootAt 4 = .ok (.sipush 256, 3) := dk_17 1 0 (dk_at dksX3_rootAt_0 4 rfl rfl)
theorem dX3_rootAt_7 : decode cX3_rootAt 7 = .ok (.iload_n 1, 1) := dk_27 (dk_at dksX3_rootAt_0 7 rfl rfl)
theorem dX3_rootAt_8 : decode cX3_rootAt 8 = .ok (.iadd, 1) := dk_96 (dk_at dksX3_rootAt_0 8 rfl rfl)
theorem dX3_rootAt_9 : decode cX3_rootAt 9 = .ok (.iaload, 1) := dk_46 (dk_at dksX3_rootAt_0 9 rfl rfl)
theorem dX3_rootAt_10 : decode cX3_rootAt 10 = .ok (.ireturn, 1) := dk_172 (dk_at dksX3_rootAt_0 10 rfl rfl)
abbrev cX3_unlike : ByteArray := prog_21_method_97_code
def yX3_unlike : MethodName := ⟨RX3, "unlike", "()I"⟩
def dkwX3_unlike_1 : List UInt8 := [4, 167, 0, 4, 3, 96, 60, 132, 2, 1, 167, 255, 226, 27, 172]
abbrev dktX3_unlike_1 : List UInt8 := dkwX3_unlike_1 ++ []
def dkwX3_unlike_0 : List UInt8 := [3, 60, 3, 61, 28, 42, 180, 0, 64, 3, 46, 162, 0, 26, 27, 42, 28, 182, 1, 185, 28, 160, 0, 7]
abbrev dktX3_unlike_0 : List UInt8 := dkwX3_unlike_0 ++ dktX3_unlike_1
theorem dksX3_unlike_0 : cX3_unlike.data.toList.drop 0 = dktX3_unlike_0 := by decide +kernel
theorem dksX3_unlike_1 : cX3_unlike.data.toList.drop 24 = dktX3_unlike_1 := dk_seg dksX3_unlike_0 24 rfl rfl
theorem dX3_unlike_0 : decode cX3_unlike 0 = .ok (.iconst 0, 1) := dk_3 (dk_at dksX3_unlike_0 0 rfl rfl)
theorem dX3_unlike_1 : decode cX3_unlike 1 = .ok (.istore_n 1, 1) := dk_60 (dk_at dksX3_unlike_0 1 rfl rfl)
theorem dX3_unlike_2 : decode cX3_unlike 2 = .ok (.iconst 0, 1) := dk_3 (dk_at dksX3_unlike_0 2 rfl rfl)
theorem dX3_unlike_3 : decode cX3_unlike 3 = .ok (.istore_n 2, 1) := dk_61 (dk_at dksX3_unlike_0 3 rfl rfl)
theorem dX3_unlike_4 : decode cX3_unlike 4 = .ok (.iload_n 2, 1) := dk_28 (dk_at dksX3_unlike_0 4 rfl rfl)
theorem dX3_unlike_5 : decode cX3_unlike 5 = .ok (.aload_n 0, 1) := dk_42 (dk_at dksX3_unlike_0 5 rfl rfl)
theorem dX3_unlike_6 : decode cX3_unlike 6 = .ok (.getfield 64, 3) := dk_180 0 64 (dk_at dksX3_unlike_0 6 rfl rfl)
theorem dX3_unlike_9 : decode cX3_unlike 9 = .ok (.iconst 0, 1) := dk_3 (dk_at dksX3_unlike_0 9 rfl rfl)
theorem dX3_unlike_10 : decode cX3_unlike 10 = .ok (.iaload, 1) := dk_46 (dk_at dksX3_unlike_0 10 rfl rfl)
theorem dX3_unlike_11 : decode cX3_unlike 11 = .ok (.if_icmp .ge 26, 3) := dk_162 0 26 (dk_at dksX3_unlike_0 11 rfl rfl)
theorem dX3_unlike_14 : decode cX3_unlike 14 = .ok (.iload_n 1, 1) := dk_27 (dk_at dksX3_unlike_0 14 rfl rfl)
theorem dX3_unlike_15 : decode cX3_unlike 15 = .ok (.aload_n 0, 1) := dk_42 (dk_at dksX3_unlike_0 15 rfl rfl)
theorem dX3_unlike_16 : decode cX3_unlike 16 = .ok (.iload_n 2, 1) := dk_28 (dk_at dksX3_unlike_0 16 rfl rfl)
theorem dX3_unlike_17 : decode cX3_unlike 17 = .ok (.invokevirtual 441, 3) := dk_182 1 185 (dk_at dksX3_unlike_0 17 rfl rfl)
theorem dX3_unlike_20 : decode cX3_unlike 20 = .ok (.iload_n 2, 1) := dk_28 (dk_at dksX3_unlike_0 20 rfl rfl)
theorem dX3_unlike_21 : decode cX3_unlike 21 = .ok (.if_icmp .ne 7, 3) := dk_160 0 7 (dk_at dksX3_unlike_0 21 rfl rfl)
theorem dX3_unlike_24 : decode cX3_unlike 24 = .ok (.iconst 1, 1) := dk_4 (dk_at dksX3_unlike_1 0 rfl rfl)
theorem dX3_unlike_25 : decode cX3_unlike 25 = .ok (.goto 4, 3) := dk_167 0 4 (dk_at dksX3_unlike_1 1 rfl rfl)
theorem dX3_unlike_28 : decode cX3_unlike 28 = .ok (.iconst 0, 1) := dk_3 (dk_at dksX3_unlike_1 4 rfl rfl)
theorem dX3_unlike_29 : decode cX3_unlike 29 = .ok (.iadd, 1) := dk_96 (dk_at dksX3_unlike_1 5 rfl rfl)
theorem dX3_unlike_30 : decode cX3_unlike 30 = .ok (.istore_n 1, 1) := dk_60 (dk_at dksX3_unlike_1 6 rfl rfl)
theorem dX3_unlike_31 : decode cX3_unlike 31 = .ok (.iinc 2 1, 3) := dk_132 2 1 (dk_at dksX3_unlike_1 7 rfl rfl)
theorem dX3_unlike_34 : decode cX3_unlike 34 = .ok (.goto (-30), 3) := dk_167 255 226 (dk_at dksX3_unlike_1 10 rfl rfl)
theorem dX3_unlike_37 : decode cX3_unlike 37 = .ok (.iload_n 1, 1) := dk_27 (dk_at dksX3_unlike_1 13 rfl rfl)
theorem dX3_unlike_38 : decode cX3_unlike 38 = .ok (.ireturn, 1) := dk_172 (dk_at dksX3_unlike_1 14 rfl rfl)
abbrev cX3_leastLike : ByteArray := prog_21_method_93_code
def yX3_leastLike : MethodName := ⟨RX3, "leastLike", "(I)I"⟩
def dkwX3_leastLike_0 : List UInt8 := [3, 61, 42, 28, 182, 1, 176, 42, 27, 182, 1, 176, 159, 0, 9, 132, 2, 1, 167, 255, 240, 28, 172]
abbrev dktX3_leastLike_0 : List UInt8 := dkwX3_leastLike_0 ++ []
theorem dksX3_leastLike_0 : cX3_leastLike.data.toList.drop 0 = dktX3_leastLike_0 := by decide +kernel
theorem dX3_leastLike_0 : decode cX3_leastLike 0 = .ok (.iconst 0, 1) := dk_3 (dk_at dksX3_leastLike_0 0 rfl rfl)
theorem dX3_leastLike_1 : decode cX3_leastLike 1 = .ok (.istore_n 2, 1) := dk_61 (dk_at dksX3_leastLike_0 1 rfl rfl)
theorem dX3_leastLike_2 : decode cX3_leastLike 2 = .ok (.aload_n 0, 1) := dk_42 (dk_at dksX3_leastLike_0 2 rfl rfl)
theorem dX3_leastLike_3 : decode cX3_leastLike 3 = .ok (.iload_n 2, 1) := dk_28 (dk_at dksX3_leastLike_0 3 rfl rfl)
theorem dX3_leastLike_4 : decode cX3_leastLike 4 = .ok (.invokevirtual 432, 3) := dk_182 1 176 (dk_at dksX3_leastLike_0 4 rfl rfl)
theorem dX3_leastLike_7 : decode cX3_leastLike 7 = .ok (.aload_n 0, 1) := dk_42 (dk_at dksX3_leastLike_0 7 rfl rfl)
theorem dX3_leastLike_8 : decode cX3_leastLike 8 = .ok (.iload_n 1, 1) := dk_27 (dk_at dksX3_leastLike_0 8 rfl rfl)
theorem dX3_leastLike_9 : decode cX3_leastLike 9 = .ok (.invokevirtual 432, 3) := dk_182 1 176 (dk_at dksX3_leastLike_0 9 rfl rfl)
theorem dX3_leastLike_12 : decode cX3_leastLike 12 = .ok (.if_icmp .eq 9, 3) := dk_159 0 9 (dk_at dksX3_leastLike_0 12 rfl rfl)
theorem dX3_leastLike_15 : decode cX3_leastLike 15 = .ok (.iinc 2 1, 3) := dk_132 2 1 (dk_at dksX3_leastLike_0 15 rfl rfl)
theorem dX3_leastLike_18 : decode cX3_leastLike 18 = .ok (.goto (-16), 3) := dk_167 255 240 (dk_at dksX3_leastLike_0 18 rfl rfl)
theorem dX3_leastLike_21 : decode cX3_leastLike 21 = .ok (.iload_n 2, 1) := dk_28 (dk_at dksX3_leastLike_0 21 rfl rfl)
theorem dX3_leastLike_22 : decode cX3_leastLike 22 = .ok (.ireturn, 1) := dk_172 (dk_at dksX3_leastLike_0 22 rfl rfl)
abbrev cX3_about : ByteArray := prog_21_method_101_code
def yX3_about : MethodName := ⟨RX3, "about", "(II)I"⟩
def dkwX3_about_4 : List UInt8 := [182, 1, 179, 172, 42, 27, 182, 1, 188, 172, 7, 42, 27, 182, 0, 166, 100, 172]
abbrev dktX3_about_4 : List UInt8 := dkwX3_about_4 ++ []
def dkwX3_about_3 : List UInt8 := [42, 27, 182, 1, 185, 172, 42, 27, 182, 1, 182, 153, 0, 7, 4, 167, 0, 4, 3, 172, 42, 27]
abbrev dktX3_about_3 : List UInt8 := dkwX3_about_3 ++ dktX3_about_4
def dkwX3_about_2 : List UInt8 := [170, 0, 0, 0, 61, 0, 0, 0, 0, 0, 0, 0, 3, 0, 0, 0, 29, 0, 0, 0, 35, 0, 0, 0, 49, 0, 0, 0, 55]
abbrev dktX3_about_2 : List UInt8 := dkwX3_about_2 ++ dktX3_about_3
def dkwX3_about_1 : List UInt8 := [182, 1, 118, 28]
abbrev dktX3_about_1 : List UInt8 := dkwX3_about_1 ++ dktX3_about_2
def dkwX3_about_0 : List UInt8 := [42, 27, 182, 0, 162, 153, 0, 15, 28, 133, 9, 20, 1, 160, 184, 0, 158, 154, 0, 5, 2, 172, 42]
abbrev dktX3_about_0 : List UInt8 := dkwX3_about_0 ++ dktX3_about_1
theorem dksX3_about_0 : cX3_about.data.toList.drop 0 = dktX3_about_0 := by decide +kernel
theorem dksX3_about_1 : cX3_about.data.toList.drop 23 = dktX3_about_1 := dk_seg dksX3_about_0 23 rfl rfl
theorem dksX3_about_2 : cX3_about.data.toList.drop 27 = dktX3_about_2 := dk_seg dksX3_about_1 4 rfl rfl
theorem dksX3_about_3 : cX3_about.data.toList.drop 56 = dktX3_about_3 := dk_seg dksX3_about_2 29 rfl rfl
theorem dksX3_about_4 : cX3_about.data.toList.drop 78 = dktX3_about_4 := dk_seg dksX3_about_3 22 rfl rfl
theorem dX3_about_0 : decode cX3_about 0 = .ok (.aload_n 0, 1) := dk_42 (dk_at dksX3_about_0 0 rfl rfl)
theorem dX3_about_1 : decode cX3_about 1 = .ok (.iload_n 1, 1) := dk_27 (dk_at dksX3_about_0 1 rfl rfl)
theorem dX3_about_2 : decode cX3_about 2 = .ok (.invokevirtual 162, 3) := dk_182 0 162 (dk_at dksX3_about_0 2 rfl rfl)
theorem dX3_about_5 : decode cX3_about 5 = .ok (.ifCond .eq 15, 3) := dk_153 0 15 (dk_at dksX3_about_0 5 rfl rfl)
theorem dX3_about_8 : decode cX3_about 8 = .ok (.iload_n 2, 1) := dk_28 (dk_at dksX3_about_0 8 rfl rfl)
theorem dX3_about_9 : decode cX3_about 9 = .ok (.i2l, 1) := dk_133 (dk_at dksX3_about_0 9 rfl rfl)
theorem dX3_about_10 : decode cX3_about 10 = .ok (.lconst 0, 1) := dk_9 (dk_at dksX3_about_0 10 rfl rfl)
theorem dX3_about_11 : decode cX3_about 11 = .ok (.ldc2_w 416, 3) := dk_20 1 160 (dk_at dksX3_about_0 11 rfl rfl)
theorem dX3_about_14 : decode cX3_about 14 = .ok (.invokestatic 158, 3) := dk_184 0 158 (dk_at dksX3_about_0 14 rfl rfl)
theorem dX3_about_17 : decode cX3_about 17 = .ok (.ifCond .ne 5, 3) := dk_154 0 5 (dk_at dksX3_about_0 17 rfl rfl)
theorem dX3_about_20 : decode cX3_about 20 = .ok (.iconst (-1), 1) := dk_2 (dk_at dksX3_about_0 20 rfl rfl)
theorem dX3_about_21 : decode cX3_about 21 = .ok (.ireturn, 1) := dk_172 (dk_at dksX3_about_0 21 rfl rfl)
theorem dX3_about_22 : decode cX3_about 22 = .ok (.aload_n 0, 1) := dk_42 (dk_at dksX3_about_0 22 rfl rfl)
theorem dX3_about_23 : decode cX3_about 23 = .ok (.invokevirtual 374, 3) := dk_182 1 118 (dk_at dksX3_about_1 0 rfl rfl)
theorem dX3_about_26 : decode cX3_about 26 = .ok (.iload_n 2, 1) := dk_28 (dk_at dksX3_about_1 3 rfl rfl)
theorem dX3_about_27 : decode cX3_about 27 = .ok (.tableswitch 61 0 3 #[29, 35, 49, 55], 29) := by decide +kernel
theorem dX3_about_56 : decode cX3_about 56 = .ok (.aload_n 0, 1) := dk_42 (dk_at dksX3_about_3 0 rfl rfl)
theorem dX3_about_57 : decode cX3_about 57 = .ok (.iload_n 1, 1) := dk_27 (dk_at dksX3_about_3 1 rfl rfl)
theorem dX3_about_58 : decode cX3_about 58 = .ok (.invokevirtual 441, 3) := dk_182 1 185 (dk_at dksX3_about_3 2 rfl rfl)
theorem dX3_about_61 : decode cX3_about 61 = .ok (.ireturn, 1) := dk_172 (dk_at dksX3_about_3 5 rfl rfl)
theorem dX3_about_62 : decode cX3_about 62 = .ok (.aload_n 0, 1) := dk_42 (dk_at dksX3_about_3 6 rfl rfl)
theorem dX3_about_63 : decode cX3_about 63 = .ok (.iload_n 1, 1) := dk_27 (dk_at dksX3_about_3 7 rfl rfl)
theorem dX3_about_64 : decode cX3_about 64 = .ok (.invokevirtual 438, 3) := dk_182 1 182 (dk_at dksX3_about_3 8 rfl rfl)
theorem dX3_about_67 : decode cX3_about 67 = .ok (.ifCond .eq 7, 3) := dk_153 0 7 (dk_at dksX3_about_3 11 rfl rfl)
theorem dX3_about_70 : decode cX3_about 70 = .ok (.iconst 1, 1) := dk_4 (dk_at dksX3_about_3 14 rfl rfl)
theorem dX3_about_71 : decode cX3_about 71 = .ok (.goto 4, 3) := dk_167 0 4 (dk_at dksX3_about_3 15 rfl rfl)
theorem dX3_about_74 : decode cX3_about 74 = .ok (.iconst 0, 1) := dk_3 (dk_at dksX3_about_3 18 rfl rfl)
theorem dX3_about_75 : decode cX3_about 75 = .ok (.ireturn, 1) := dk_172 (dk_at dksX3_about_3 19 rfl rfl)
theorem dX3_about_76 : decode cX3_about 76 = .ok (.aload_n 0, 1) := dk_42 (dk_at dksX3_about_3 20 rfl rfl)
theorem dX3_about_77 : decode cX3_about 77 = .ok (.iload_n 1, 1) := dk_27 (dk_at dksX3_about_3 21 rfl rfl)
theorem dX3_about_78 : decode cX3_about 78 = .ok (.invokevirtual 435, 3) := dk_182 1 179 (dk_at dksX3_about_4 0 rfl rfl)
theorem dX3_about_81 : decode cX3_about 81 = .ok (.ireturn, 1) := dk_172 (dk_at dksX3_about_4 3 rfl rfl)
theorem dX3_about_82 : decode cX3_about 82 = .ok (.aload_n 0, 1) := dk_42 (dk_at dksX3_about_4 4 rfl rfl)
theorem dX3_about_83 : decode cX3_about 83 = .ok (.iload_n 1, 1) := dk_27 (dk_at dksX3_about_4 5 rfl rfl)
theorem dX3_about_84 : decode cX3_about 84 = .ok (.invokevirtual 444, 3) := dk_182 1 188 (dk_at dksX3_about_4 6 rfl rfl)
theorem dX3_about_87 : decode cX3_about 87 = .ok (.ireturn, 1) := dk_172 (dk_at dksX3_about_4 9 rfl rfl)
theorem dX3_about_88 : decode cX3_about 88 = .ok (.iconst 4, 1) := dk_7 (dk_at dksX3_about_4 10 rfl rfl)
theorem dX3_about_89 : decode cX3_about 89 = .ok (.aload_n 0, 1) := dk_42 (dk_at dksX3_about_4 11 rfl rfl)
theorem dX3_about_90 : decode cX3_about 90 = .ok (.iload_n 1, 1) := dk_27 (dk_at dksX3_about_4 12 rfl rfl)
theorem dX3_about_91 : decode cX3_about 91 = .ok (.invokevirtual 166, 3) := dk_182 0 166 (dk_at dksX3_about_4 13 rfl rfl)
theorem dX3_about_94 : decode cX3_about 94 = .ok (.isub, 1) := dk_100 (dk_at dksX3_about_4 16 rfl rfl)
theorem dX3_about_95 : decode cX3_about 95 = .ok (.ireturn, 1) := dk_172 (dk_at dksX3_about_4 17 rfl rfl)
abbrev cX3_together : ByteArray := prog_21_method_92_code
def yX3_together : MethodName := ⟨RX3, "together", "(I)I"⟩
def dkwX3_together_1 : List UInt8 := [96, 46, 96, 61, 132, 3, 1, 167, 255, 229, 28, 172]
abbrev dktX3_together_1 : List UInt8 := dkwX3_together_1 ++ []
def dkwX3_together_0 : List UInt8 := [3, 61, 3, 62, 29, 42, 180, 0, 64, 3, 46, 162, 0, 23, 28, 42, 180, 0, 85, 16, 16, 27, 104, 29]
abbrev dktX3_together_0 : List UInt8 := dkwX3_together_0 ++ dktX3_together_1
theorem dksX3_together_0 : cX3_together.data.toList.drop 0 = dktX3_together_0 := by decide +kernel
theorem dksX3_together_1 : cX3_together.data.toList.drop 24 = dktX3_together_1 := dk_seg dksX3_together_0 24 rfl rfl
theorem dX3_together_0 : decode cX3_together 0 = .ok (.iconst 0, 1) := dk_3 (dk_at dksX3_together_0 0 rfl rfl)
theorem dX3_together_1 : decode cX3_together 1 = .ok (.istore_n 2, 1) := dk_61 (dk_at dksX3_together_0 1 rfl rfl)
theorem dX3_together_2 : decode cX3_together 2 = .ok (.iconst 0, 1) := dk_3 (dk_at dksX3_together_0 2 rfl rfl)
theorem dX3_together_3 : decode cX3_together 3 = .ok (.istore_n 3, 1) := dk_62 (dk_at dksX3_together_0 3 rfl rfl)
theorem dX3_together_4 : decode cX3_together 4 = .ok (.iload_n 3, 1) := dk_29 (dk_at dksX3_together_0 4 rfl rfl)
theorem dX3_together_5 : decode cX3_together 5 = .ok (.aload_n 0, 1) := dk_42 (dk_at dksX3_together_0 5 rfl rfl)
theorem dX3_together_6 : decode cX3_together 6 = .ok (.getfield 64, 3) := dk_180 0 64 (dk_at dksX3_together_0 6 rfl rfl)
theorem dX3_together_9 : decode cX3_together 9 = .ok (.iconst 0, 1) := dk_3 (dk_at dksX3_together_0 9 rfl rfl)
theorem dX3_together_10 : decode cX3_together 10 = .ok (.iaload, 1) := dk_46 (dk_at dksX3_together_0 10 rfl rfl)
theorem dX3_together_11 : decode cX3_together 11 = .ok (.if_icmp .ge 23, 3) := dk_162 0 23 (dk_at dksX3_together_0 11 rfl rfl)
theorem dX3_together_14 : decode cX3_together 14 = .ok (.iload_n 2, 1) := dk_28 (dk_at dksX3_together_0 14 rfl rfl)
theorem dX3_together_15 : decode cX3_together 15 = .ok (.aload_n 0, 1) := dk_42 (dk_at dksX3_together_0 15 rfl rfl)
theorem dX3_together_16 : decode cX3_together 16 = .ok (.getfield 85, 3) := dk_180 0 85 (dk_at dksX3_together_0 16 rfl rfl)
theorem dX3_together_19 : decode cX3_together 19 = .ok (.bipush 16, 2) := dk_16 16 (dk_at dksX3_together_0 19 rfl rfl)
theorem dX3_together_21 : decode cX3_together 21 = .ok (.iload_n 1, 1) := dk_27 (dk_at dksX3_together_0 21 rfl rfl)
theorem dX3_together_22 : decode cX3_together 22 = .ok (.imul, 1) := dk_104 (dk_at dksX3_together_0 22 rfl rfl)
theorem dX3_together_23 : decode cX3_together 23 = .ok (.iload_n 3, 1) := dk_29 (dk_at dksX3_together_0 23 rfl rfl)
theorem dX3_together_24 : decode cX3_together 24 = .ok (.iadd, 1) := dk_96 (dk_at dksX3_together_1 0 rfl rfl)
theorem dX3_together_25 : decode cX3_together 25 = .ok (.iaload, 1) := dk_46 (dk_at dksX3_together_1 1 rfl rfl)
theorem dX3_together_26 : decode cX3_together 26 = .ok (.iadd, 1) := dk_96 (dk_at dksX3_together_1 2 rfl rfl)
theorem dX3_together_27 : decode cX3_together 27 = .ok (.istore_n 2, 1) := dk_61 (dk_at dksX3_together_1 3 rfl rfl)
theorem dX3_together_28 : decode cX3_together 28 = .ok (.iinc 3 1, 3) := dk_132 3 1 (dk_at dksX3_together_1 4 rfl rfl)
theorem dX3_together_31 : decode cX3_together 31 = .ok (.goto (-27), 3) := dk_167 255 229 (dk_at dksX3_together_1 7 rfl rfl)
theorem dX3_together_34 : decode cX3_together 34 = .ok (.iload_n 2, 1) := dk_28 (dk_at dksX3_together_1 10 rfl rfl)
theorem dX3_together_35 : decode cX3_together 35 = .ok (.ireturn, 1) := dk_172 (dk_at dksX3_together_1 11 rfl rfl)
abbrev cX3_neighbour : ByteArray := prog_21_method_102_code
def yX3_neighbour : MethodName := ⟨RX3, "neighbour", "(II)I"⟩
def dkwX3_neighbour_3 : List UInt8 := [132, 3, 255, 132, 4, 1, 167, 255, 213, 2, 172]
abbrev dktX3_neighbour_3 : List UInt8 := dkwX3_neighbour_3 ++ []
def dkwX3_neighbour_2 : List UInt8 := [4, 27, 96, 46, 21, 4, 184, 0, 184, 154, 0, 6, 167, 0, 13, 29, 154, 0, 6, 21, 4, 172]
abbrev dktX3_neighbour_2 : List UInt8 := dkwX3_neighbour_2 ++ dktX3_neighbour_3
def dkwX3_neighbour_1 : List UInt8 := [182, 0, 166, 172, 28, 62, 3, 54, 4, 21, 4, 42, 180, 0, 7, 3, 46, 162, 0, 38, 42, 180, 0, 7]
abbrev dktX3_neighbour_1 : List UInt8 := dkwX3_neighbour_1 ++ dktX3_neighbour_2
def dkwX3_neighbour_0 : List UInt8 := [42, 27, 182, 0, 162, 153, 0, 8, 28, 2, 162, 0, 5, 2, 172, 28, 2, 160, 0, 9, 42, 27]
abbrev dktX3_neighbour_0 : List UInt8 := dkwX3_neighbour_0 ++ dktX3_neighbour_1
theorem dksX3_neighbour_0 : cX3_neighbour.data.toList.drop 0 = dktX3_neighbour_0 := by decide +kernel
theorem dksX3_neighbour_1 : cX3_neighbour.data.toList.drop 22 = dktX3_neighbour_1 := dk_seg dksX3_neighbour_0 22 rfl rfl
theorem dksX3_neighbour_2 : cX3_neighbour.data.toList.drop 46 = dktX3_neighbour_2 := dk_seg dksX3_neighbour_1 24 rfl rfl
theorem dksX3_neighbour_3 : cX3_neighbour.data.toList.drop 68 = dktX3_neighbour_3 := dk_seg dksX3_neighbour_2 22 rfl rfl
theorem dX3_neighbour_0 : decode cX3_neighbour 0 = .ok (.aload_n 0, 1) := dk_42 (dk_at dksX3_neighbour_0 0 rfl rfl)
theorem dX3_neighbour_1 : decode cX3_neighbour 1 = .ok (.iload_n 1, 1) := dk_27 (dk_at dksX3_neighbour_0 1 rfl rfl)
theorem dX3_neighbour_2 : decode cX3_neighbour 2 = .ok (.invokevirtual 162, 3) := dk_182 0 162 (dk_at dksX3_neighbour_0 2 rfl rfl)
theorem dX3_neighbour_5 : decode cX3_neighbour 5 = .ok (.ifCond .eq 8, 3) := dk_153 0 8 (dk_at dksX3_neighbour_0 5 rfl rfl)
theorem dX3_neighbour_8 : decode cX3_neighbour 8 = .ok (.iload_n 2, 1) := dk_28 (dk_at dksX3_neighbour_0 8 rfl rfl)
theorem dX3_neighbour_9 : decode cX3_neighbour 9 = .ok (.iconst (-1), 1) := dk_2 (dk_at dksX3_neighbour_0 9 rfl rfl)
theorem dX3_neighbour_10 : decode cX3_neighbour 10 = .ok (.if_icmp .ge 5, 3) := dk_162 0 5 (dk_at dksX3_neighbour_0 10 rfl rfl)
theorem dX3_neighbour_13 : decode cX3_neighbour 13 = .ok (.iconst (-1), 1) := dk_2 (dk_at dksX3_neighbour_0 13 rfl rfl)
theorem dX3_neighbour_14 : decode cX3_neighbour 14 = .ok (.ireturn, 1) := dk_172 (dk_at dksX3_neighbour_0 14 rfl rfl)
theorem dX3_neighbour_15 : decode cX3_neighbour 15 = .ok (.iload_n 2, 1) := dk_28 (dk_at dksX3_neighbour_0 15 rfl rfl)
theorem dX3_neighbour_16 : decode cX3_neighbour 16 = .ok (.iconst (-1), 1) := dk_2 (dk_at dksX3_neighbour_0 16 rfl rfl)
theorem dX3_neighbour_17 : decode cX3_neighbour 17 = .ok (.if_icmp .ne 9, 3) := dk_160 0 9 (dk_at dksX3_neighbour_0 17 rfl rfl)
theorem dX3_neighbour_20 : decode cX3_neighbour 20 = .ok (.aload_n 0, 1) := dk_42 (dk_at dksX3_neighbour_0 20 rfl rfl)
theorem dX3_neighbour_21 : decode cX3_neighbour 21 = .ok (.iload_n 1, 1) := dk_27 (dk_at dksX3_neighbour_0 21 rfl rfl)
theorem dX3_neighbour_22 : decode cX3_neighbour 22 = .ok (.invokevirtual 166, 3) := dk_182 0 166 (dk_at dksX3_neighbour_1 0 rfl rfl)
theorem dX3_neighbour_25 : decode cX3_neighbour 25 = .ok (.ireturn, 1) := dk_172 (dk_at dksX3_neighbour_1 3 rfl rfl)
theorem dX3_neighbour_26 : decode cX3_neighbour 26 = .ok (.iload_n 2, 1) := dk_28 (dk_at dksX3_neighbour_1 4 rfl rfl)
theorem dX3_neighbour_27 : decode cX3_neighbour 27 = .ok (.istore_n 3, 1) := dk_62 (dk_at dksX3_neighbour_1 5 rfl rfl)
theorem dX3_neighbour_28 : decode cX3_neighbour 28 = .ok (.iconst 0, 1) := dk_3 (dk_at dksX3_neighbour_1 6 rfl rfl)
theorem dX3_neighbour_29 : decode cX3_neighbour 29 = .ok (.istore 4, 2) := dk_54 4 (dk_at dksX3_neighbour_1 7 rfl rfl)
theorem dX3_neighbour_31 : decode cX3_neighbour 31 = .ok (.iload 4, 2) := dk_21 4 (dk_at dksX3_neighbour_1 9 rfl rfl)
theorem dX3_neighbour_33 : decode cX3_neighbour 33 = .ok (.aload_n 0, 1) := dk_42 (dk_at dksX3_neighbour_1 11 rfl rfl)
theorem dX3_neighbour_34 : decode cX3_neighbour 34 = .ok (.getfield 7, 3) := dk_180 0 7 (dk_at dksX3_neighbour_1 12 rfl rfl)
theorem dX3_neighbour_37 : decode cX3_neighbour 37 = .ok (.iconst 0, 1) := dk_3 (dk_at dksX3_neighbour_1 15 rfl rfl)
theorem dX3_neighbour_38 : decode cX3_neighbour 38 = .ok (.iaload, 1) := dk_46 (dk_at dksX3_neighbour_1 16 rfl rfl)
theorem dX3_neighbour_39 : decode cX3_neighbour 39 = .ok (.if_icmp .ge 38, 3) := dk_162 0 38 (dk_at dksX3_neighbour_1 17 rfl rfl)
theorem dX3_neighbour_42 : decode cX3_neighbour 42 = .ok (.aload_n 0, 1) := dk_42 (dk_at dksX3_neighbour_1 20 rfl rfl)
theorem dX3_neighbour_43 : decode cX3_neighbour 43 = .ok (.getfield 7, 3) := dk_180 0 7 (dk_at dksX3_neighbour_1 21 rfl rfl)
theorem dX3_neighbour_46 : decode cX3_neighbour 46 = .ok (.iconst 1, 1) := dk_4 (dk_at dksX3_neighbour_2 0 rfl rfl)
theorem dX3_neighbour_47 : decode cX3_neighbour 47 = .ok (.iload_n 1, 1) := dk_27 (dk_at dksX3_neighbour_2 1 rfl rfl)
theorem dX3_neighbour_48 : decode cX3_neighbour 48 = .ok (.iadd, 1) := dk_96 (dk_at dksX3_neighbour_2 2 rfl rfl)
theorem dX3_neighbour_49 : decode cX3_neighbour 49 = .ok (.iaload, 1) := dk_46 (dk_at dksX3_neighbour_2 3 rfl rfl)
theorem dX3_neighbour_50 : decode cX3_neighbour 50 = .ok (.iload 4, 2) := dk_21 4 (dk_at dksX3_neighbour_2 4 rfl rfl)
theorem dX3_neighbour_52 : decode cX3_neighbour 52 = .ok (.invokestatic 184, 3) := dk_184 0 184 (dk_at dksX3_neighbour_2 6 rfl rfl)
theorem dX3_neighbour_55 : decode cX3_neighbour 55 = .ok (.ifCond .ne 6, 3) := dk_154 0 6 (dk_at dksX3_neighbour_2 9 rfl rfl)
theorem dX3_neighbour_58 : decode cX3_neighbour 58 = .ok (.goto 13, 3) := dk_167 0 13 (dk_at dksX3_neighbour_2 12 rfl rfl)
theorem dX3_neighbour_61 : decode cX3_neighbour 61 = .ok (.iload_n 3, 1) := dk_29 (dk_at dksX3_neighbour_2 15 rfl rfl)
theorem dX3_neighbour_62 : decode cX3_neighbour 62 = .ok (.ifCond .ne 6, 3) := dk_154 0 6 (dk_at dksX3_neighbour_2 16 rfl rfl)
theorem dX3_neighbour_65 : decode cX3_neighbour 65 = .ok (.iload 4, 2) := dk_21 4 (dk_at dksX3_neighbour_2 19 rfl rfl)
theorem dX3_neighbour_67 : decode cX3_neighbour 67 = .ok (.ireturn, 1) := dk_172 (dk_at dksX3_neighbour_2 21 rfl rfl)
theorem dX3_neighbour_68 : decode cX3_neighbour 68 = .ok (.iinc 3 (-1), 3) := dk_132 3 255 (dk_at dksX3_neighbour_3 0 rfl rfl)
theorem dX3_neighbour_71 : decode cX3_neighbour 71 = .ok (.iinc 4 1, 3) := dk_132 4 1 (dk_at dksX3_neighbour_3 3 rfl rfl)
theorem dX3_neighbour_74 : decode cX3_neighbour 74 = .ok (.goto (-43), 3) := dk_167 255 213 (dk_at dksX3_neighbour_3 6 rfl rfl)
theorem dX3_neighbour_77 : decode cX3_neighbour 77 = .ok (.iconst (-1), 1) := dk_2 (dk_at dksX3_neighbour_3 9 rfl rfl)
theorem dX3_neighbour_78 : decode cX3_neighbour 78 = .ok (.ireturn, 1) := dk_172 (dk_at dksX3_neighbour_3 10 rfl rfl)
abbrev cX3_apart : ByteArray := prog_21_method_103_code
def yX3_apart : MethodName := ⟨RX3, "apart", "(II)I"⟩
def dkwX3_apart_1 : List UInt8 := [180, 0, 85, 16, 16, 27, 104, 28, 96, 46, 172]
abbrev dktX3_apart_1 : List UInt8 := dkwX3_apart_1 ++ []
def dkwX3_apart_0 : List UInt8 := [42, 27, 182, 0, 162, 153, 0, 11, 42, 28, 182, 0, 162, 154, 0, 5, 2, 172, 42, 182, 1, 118, 42]
abbrev dktX3_apart_0 : List UInt8 := dkwX3_apart_0 ++ dktX3_apart_1
theorem dksX3_apart_0 : cX3_apart.data.toList.drop 0 = dktX3_apart_0 := by decide +kernel
theorem dksX3_apart_1 : cX3_apart.data.toList.drop 23 = dktX3_apart_1 := dk_seg dksX3_apart_0 23 rfl rfl
theorem dX3_apart_0 : decode cX3_apart 0 = .ok (.aload_n 0, 1) := dk_42 (dk_at dksX3_apart_0 0 rfl rfl)
theorem dX3_apart_1 : decode cX3_apart 1 = .ok (.iload_n 1, 1) := dk_27 (dk_at dksX3_apart_0 1 rfl rfl)
theorem dX3_apart_2 : decode cX3_apart 2 = .ok (.invokevirtual 162, 3) := dk_182 0 162 (dk_at dksX3_apart_0 2 rfl rfl)
theorem dX3_apart_5 : decode cX3_apart 5 = .ok (.ifCond .eq 11, 3) := dk_153 0 11 (dk_at dksX3_apart_0 5 rfl rfl)
theorem dX3_apart_8 : decode cX3_apart 8 = .ok (.aload_n 0, 1) := dk_42 (dk_at dksX3_apart_0 8 rfl rfl)
theorem dX3_apart_9 : decode cX3_apart 9 = .ok (.iload_n 2, 1) := dk_28 (dk_at dksX3_apart_0 9 rfl rfl)
theorem dX3_apart_10 : decode cX3_apart 10 = .ok (.invokevirtual 162, 3) := dk_182 0 162 (dk_at dksX3_apart_0 10 rfl rfl)
theorem dX3_apart_13 : decode cX3_apart 13 = .ok (.ifCond .ne 5, 3) := dk_154 0 5 (dk_at dksX3_apart_0 13 rfl rfl)
theorem dX3_apart_16 : decode cX3_apart 16 = .ok (.iconst (-1), 1) := dk_2 (dk_at dksX3_apart_0 16 rfl rfl)
theorem dX3_apart_17 : decode cX3_apart 17 = .ok (.ireturn, 1) := dk_172 (dk_at dksX3_apart_0 17 rfl rfl)
theorem dX3_apart_18 : decode cX3_apart 18 = .ok (.aload_n 0, 1) := dk_42 (dk_at dksX3_apart_0 18 rfl rfl)
theorem dX3_apart_19 : decode cX3_apart 19 = .ok (.invokevirtual 374, 3) := dk_182 1 118 (dk_at dksX3_apart_0 19 rfl rfl)
theorem dX3_apart_22 : decode cX3_apart 22 = .ok (.aload_n 0, 1) := dk_42 (dk_at dksX3_apart_0 22 rfl rfl)
theorem dX3_apart_23 : decode cX3_apart 23 = .ok (.getfield 85, 3) := dk_180 0 85 (dk_at dksX3_apart_1 0 rfl rfl)
theorem dX3_apart_26 : decode cX3_apart 26 = .ok (.bipush 16, 2) := dk_16 16 (dk_at dksX3_apart_1 3 rfl rfl)
theorem dX3_apart_28 : decode cX3_apart 28 = .ok (.iload_n 1, 1) := dk_27 (dk_at dksX3_apart_1 5 rfl rfl)
theorem dX3_apart_29 : decode cX3_apart 29 = .ok (.imul, 1) := dk_104 (dk_at dksX3_apart_1 6 rfl rfl)
theorem dX3_apart_30 : decode cX3_apart 30 = .ok (.iload_n 2, 1) := dk_28 (dk_at dksX3_apart_1 7 rfl rfl)
theorem dX3_apart_31 : decode cX3_apart 31 = .ok (.iadd, 1) := dk_96 (dk_at dksX3_apart_1 8 rfl rfl)
theorem dX3_apart_32 : decode cX3_apart 32 = .ok (.iaload, 1) := dk_46 (dk_at dksX3_apart_1 9 rfl rfl)
theorem dX3_apart_33 : decode cX3_apart 33 = .ok (.ireturn, 1) := dk_172 (dk_at dksX3_apart_1 10 rfl rfl)
abbrev cX3_branch : ByteArray := prog_21_method_105_code
def yX3_branch : MethodName := ⟨RX3, "branch", "(III)J"⟩
def dkwX3_branch_4 : List UInt8 := [47, 173, 42, 180, 0, 55, 21, 4, 47, 173]
abbrev dktX3_branch_4 : List UInt8 := dkwX3_branch_4 ++ []
def dkwX3_branch_3 : List UInt8 := [42, 180, 0, 39, 21, 4, 46, 133, 173, 42, 180, 0, 48, 21, 4, 46, 133, 173, 42, 180, 0, 51, 21, 4]
abbrev dktX3_branch_3 : List UInt8 := dkwX3_branch_3 ++ dktX3_branch_4
def dkwX3_branch_2 : List UInt8 := [170, 0, 0, 0, 51, 0, 0, 0, 0, 0, 0, 0, 2, 0, 0, 0, 25, 0, 0, 0, 34, 0, 0, 0, 43]
abbrev dktX3_branch_2 : List UInt8 := dkwX3_branch_2 ++ dktX3_branch_3
def dkwX3_branch_1 : List UInt8 := [173, 42, 182, 1, 118, 42, 180, 0, 67, 16, 16, 27, 104, 28, 96, 46, 54, 4, 29]
abbrev dktX3_branch_1 : List UInt8 := dkwX3_branch_1 ++ dktX3_branch_2
def dkwX3_branch_0 : List UInt8 := [42, 27, 28, 182, 1, 205, 153, 0, 15, 29, 133, 9, 20, 1, 20, 184, 0, 158, 154, 0, 7, 20, 1, 162]
abbrev dktX3_branch_0 : List UInt8 := dkwX3_branch_0 ++ dktX3_branch_1
theorem dksX3_branch_0 : cX3_branch.data.toList.drop 0 = dktX3_branch_0 := by decide +kernel
theorem dksX3_branch_1 : cX3_branch.data.toList.drop 24 = dktX3_branch_1 := dk_seg dksX3_branch_0 24 rfl rfl
theorem dksX3_branch_2 : cX3_branch.data.toList.drop 43 = dktX3_branch_2 := dk_seg dksX3_branch_1 19 rfl rfl
theorem dksX3_branch_3 : cX3_branch.data.toList.drop 68 = dktX3_branch_3 := dk_seg dksX3_branch_2 25 rfl rfl
theorem dksX3_branch_4 : cX3_branch.data.toList.drop 92 = dktX3_branch_4 := dk_seg dksX3_branch_3 24 rfl rfl
theorem dX3_branch_0 : decode cX3_branch 0 = .ok (.aload_n 0, 1) := dk_42 (dk_at dksX3_branch_0 0 rfl rfl)
theorem dX3_branch_1 : decode cX3_branch 1 = .ok (.iload_n 1, 1) := dk_27 (dk_at dksX3_branch_0 1 rfl rfl)
theorem dX3_branch_2 : decode cX3_branch 2 = .ok (.iload_n 2, 1) := dk_28 (dk_at dksX3_branch_0 2 rfl rfl)
theorem dX3_branch_3 : decode cX3_branch 3 = .ok (.invokevirtual 461, 3) := dk_182 1 205 (dk_at dksX3_branch_0 3 rfl rfl)
theorem dX3_branch_6 : decode cX3_branch 6 = .ok (.ifCond .eq 15, 3) := dk_153 0 15 (dk_at dksX3_branch_0 6 rfl rfl)
theorem dX3_branch_9 : decode cX3_branch 9 = .ok (.iload_n 3, 1) := dk_29 (dk_at dksX3_branch_0 9 rfl rfl)
theorem dX3_branch_10 : decode cX3_branch 10 = .ok (.i2l, 1) := dk_133 (dk_at dksX3_branch_0 10 rfl rfl)
theorem dX3_branch_11 : decode cX3_branch 11 = .ok (.lconst 0, 1) := dk_9 (dk_at dksX3_branch_0 11 rfl rfl)
theorem dX3_branch_12 : decode cX3_branch 12 = .ok (.ldc2_w 276, 3) := dk_20 1 20 (dk_at dksX3_branch_0 12 rfl rfl)
theorem dX3_branch_15 : decode cX3_branch 15 = .ok (.invokestatic 158, 3) := dk_184 0 158 (dk_at dksX3_branch_0 15 rfl rfl)
theorem dX3_branch_18 : decode cX3_branch 18 = .ok (.ifCond .ne 7, 3) := dk_154 0 7 (dk_at dksX3_branch_0 18 rfl rfl)
theorem dX3_branch_21 : decode cX3_branch 21 = .ok (.ldc2_w 418, 3) := dk_20 1 162 (dk_at dksX3_branch_0 21 rfl rfl)
theorem dX3_branch_24 : decode cX3_branch 24 = .ok (.lreturn, 1) := dk_173 (dk_at dksX3_branch_1 0 rfl rfl)
theorem dX3_branch_25 : decode cX3_branch 25 = .ok (.aload_n 0, 1) := dk_42 (dk_at dksX3_branch_1 1 rfl rfl)
theorem dX3_branch_26 : decode cX3_branch 26 = .ok (.invokevirtual 374, 3) := dk_182 1 118 (dk_at dksX3_branch_1 2 rfl rfl)
theorem dX3_branch_29 : decode cX3_branch 29 = .ok (.aload_n 0, 1) := dk_42 (dk_at dksX3_branch_1 5 rfl rfl)
theorem dX3_branch_30 : decode cX3_branch 30 = .ok (.getfield 67, 3) := dk_180 0 67 (dk_at dksX3_branch_1 6 rfl rfl)
theorem dX3_branch_33 : decode cX3_branch 33 = .ok (.bipush 16, 2) := dk_16 16 (dk_at dksX3_branch_1 9 rfl rfl)
theorem dX3_branch_35 : decode cX3_branch 35 = .ok (.iload_n 1, 1) := dk_27 (dk_at dksX3_branch_1 11 rfl rfl)
theorem dX3_branch_36 : decode cX3_branch 36 = .ok (.imul, 1) := dk_104 (dk_at dksX3_branch_1 12 rfl rfl)
theorem dX3_branch_37 : decode cX3_branch 37 = .ok (.iload_n 2, 1) := dk_28 (dk_at dksX3_branch_1 13 rfl rfl)
theorem dX3_branch_38 : decode cX3_branch 38 = .ok (.iadd, 1) := dk_96 (dk_at dksX3_branch_1 14 rfl rfl)
theorem dX3_branch_39 : decode cX3_branch 39 = .ok (.iaload, 1) := dk_46 (dk_at dksX3_branch_1 15 rfl rfl)
theorem dX3_branch_40 : decode cX3_branch 40 = .ok (.istore 4, 2) := dk_54 4 (dk_at dksX3_branch_1 16 rfl rfl)
theorem dX3_branch_42 : decode cX3_branch 42 = .ok (.iload_n 3, 1) := dk_29 (dk_at dksX3_branch_1 18 rfl rfl)
theorem dX3_branch_43 : decode cX3_branch 43 = .ok (.tableswitch 51 0 2 #[25, 34, 43], 25) := by decide +kernel
theorem dX3_branch_68 : decode cX3_branch 68 = .ok (.aload_n 0, 1) := dk_42 (dk_at dksX3_branch_3 0 rfl rfl)
theorem dX3_branch_69 : decode cX3_branch 69 = .ok (.getfield 39, 3) := dk_180 0 39 (dk_at dksX3_branch_3 1 rfl rfl)
theorem dX3_branch_72 : decode cX3_branch 72 = .ok (.iload 4, 2) := dk_21 4 (dk_at dksX3_branch_3 4 rfl rfl)
theorem dX3_branch_74 : decode cX3_branch 74 = .ok (.iaload, 1) := dk_46 (dk_at dksX3_branch_3 6 rfl rfl)
theorem dX3_branch_75 : decode cX3_branch 75 = .ok (.i2l, 1) := dk_133 (dk_at dksX3_branch_3 7 rfl rfl)
theorem dX3_branch_76 : decode cX3_branch 76 = .ok (.lreturn, 1) := dk_173 (dk_at dksX3_branch_3 8 rfl rfl)
theorem dX3_branch_77 : decode cX3_branch 77 = .ok (.aload_n 0, 1) := dk_42 (dk_at dksX3_branch_3 9 rfl rfl)
theorem dX3_branch_78 : decode cX3_branch 78 = .ok (.getfield 48, 3) := dk_180 0 48 (dk_at dksX3_branch_3 10 rfl rfl)
theorem dX3_branch_81 : decode cX3_branch 81 = .ok (.iload 4, 2) := dk_21 4 (dk_at dksX3_branch_3 13 rfl rfl)
theorem dX3_branch_83 : decode cX3_branch 83 = .ok (.iaload, 1) := dk_46 (dk_at dksX3_branch_3 15 rfl rfl)
theorem dX3_branch_84 : decode cX3_branch 84 = .ok (.i2l, 1) := dk_133 (dk_at dksX3_branch_3 16 rfl rfl)
theorem dX3_branch_85 : decode cX3_branch 85 = .ok (.lreturn, 1) := dk_173 (dk_at dksX3_branch_3 17 rfl rfl)
theorem dX3_branch_86 : decode cX3_branch 86 = .ok (.aload_n 0, 1) := dk_42 (dk_at dksX3_branch_3 18 rfl rfl)
theorem dX3_branch_87 : decode cX3_branch 87 = .ok (.getfield 51, 3) := dk_180 0 51 (dk_at dksX3_branch_3 19 rfl rfl)
theorem dX3_branch_90 : decode cX3_branch 90 = .ok (.iload 4, 2) := dk_21 4 (dk_at dksX3_branch_3 22 rfl rfl)
theorem dX3_branch_92 : decode cX3_branch 92 = .ok (.laload, 1) := dk_47 (dk_at dksX3_branch_4 0 rfl rfl)
theorem dX3_branch_93 : decode cX3_branch 93 = .ok (.lreturn, 1) := dk_173 (dk_at dksX3_branch_4 1 rfl rfl)
theorem dX3_branch_94 : decode cX3_branch 94 = .ok (.aload_n 0, 1) := dk_42 (dk_at dksX3_branch_4 2 rfl rfl)
theorem dX3_branch_95 : decode cX3_branch 95 = .ok (.getfield 55, 3) := dk_180 0 55 (dk_at dksX3_branch_4 3 rfl rfl)
theorem dX3_branch_98 : decode cX3_branch 98 = .ok (.iload 4, 2) := dk_21 4 (dk_at dksX3_branch_4 6 rfl rfl)
theorem dX3_branch_100 : decode cX3_branch 100 = .ok (.laload, 1) := dk_47 (dk_at dksX3_branch_4 8 rfl rfl)
theorem dX3_branch_101 : decode cX3_branch 101 = .ok (.lreturn, 1) := dk_173 (dk_at dksX3_branch_4 9 rfl rfl)
abbrev cX3_areBound : ByteArray := prog_21_method_104_code
def yX3_areBound : MethodName := ⟨RX3, "areBound", "(II)Z"⟩
def dkwX3_areBound_1 : List UInt8 := [28, 184, 0, 184, 153, 0, 7, 4, 167, 0, 4, 3, 172]
abbrev dktX3_areBound_1 : List UInt8 := dkwX3_areBound_1 ++ []
def dkwX3_areBound_0 : List UInt8 := [42, 27, 182, 0, 162, 153, 0, 30, 42, 28, 182, 0, 162, 153, 0, 22, 42, 180, 0, 7, 4, 27, 96, 46]
abbrev dktX3_areBound_0 : List UInt8 := dkwX3_areBound_0 ++ dktX3_areBound_1
theorem dksX3_areBound_0 : cX3_areBound.data.toList.drop 0 = dktX3_areBound_0 := by decide +kernel
theorem dksX3_areBound_1 : cX3_areBound.data.toList.drop 24 = dktX3_areBound_1 := dk_seg dksX3_areBound_0 24 rfl rfl
theorem dX3_areBound_0 : decode cX3_areBound 0 = .ok (.aload_n 0, 1) := dk_42 (dk_at dksX3_areBound_0 0 rfl rfl)
theorem dX3_areBound_1 : decode cX3_areBound 1 = .ok (.iload_n 1, 1) := dk_27 (dk_at dksX3_areBound_0 1 rfl rfl)
theorem dX3_areBound_2 : decode cX3_areBound 2 = .ok (.invokevirtual 162, 3) := dk_182 0 162 (dk_at dksX3_areBound_0 2 rfl rfl)
theorem dX3_areBound_5 : decode cX3_areBound 5 = .ok (.ifCond .eq 30, 3) := dk_153 0 30 (dk_at dksX3_areBound_0 5 rfl rfl)
theorem dX3_areBound_8 : decode cX3_areBound 8 = .ok (.aload_n 0, 1) := dk_42 (dk_at dksX3_areBound_0 8 rfl rfl)
theorem dX3_areBound_9 : decode cX3_areBound 9 = .ok (.iload_n 2, 1) := dk_28 (dk_at dksX3_areBound_0 9 rfl rfl)
theorem dX3_areBound_10 : decode cX3_areBound 10 = .ok (.invokevirtual 162, 3) := dk_182 0 162 (dk_at dksX3_areBound_0 10 rfl rfl)
theorem dX3_areBound_13 : decode cX3_areBound 13 = .ok (.ifCond .eq 22, 3) := dk_153 0 22 (dk_at dksX3_areBound_0 13 rfl rfl)
theorem dX3_areBound_16 : decode cX3_areBound 16 = .ok (.aload_n 0, 1) := dk_42 (dk_at dksX3_areBound_0 16 rfl rfl)
theorem dX3_areBound_17 : decode cX3_areBound 17 = .ok (.getfield 7, 3) := dk_180 0 7 (dk_at dksX3_areBound_0 17 rfl rfl)
theorem dX3_areBound_20 : decode cX3_areBound 20 = .ok (.iconst 1, 1) := dk_4 (dk_at dksX3_areBound_0 20 rfl rfl)
theorem dX3_areBound_21 : decode cX3_areBound 21 = .ok (.iload_n 1, 1) := dk_27 (dk_at dksX3_areBound_0 21 rfl rfl)
theorem dX3_areBound_22 : decode cX3_areBound 22 = .ok (.iadd, 1) := dk_96 (dk_at dksX3_areBound_0 22 rfl rfl)
theorem dX3_areBound_23 : decode cX3_areBound 23 = .ok (.iaload, 1) := dk_46 (dk_at dksX3_areBound_0 23 rfl rfl)
theorem dX3_areBound_24 : decode cX3_areBound 24 = .ok (.iload_n 2, 1) := dk_28 (dk_at dksX3_areBound_1 0 rfl rfl)
theorem dX3_areBound_25 : decode cX3_areBound 25 = .ok (.invokestatic 184, 3) := dk_184 0 184 (dk_at dksX3_areBound_1 1 rfl rfl)
theorem dX3_areBound_28 : decode cX3_areBound 28 = .ok (.ifCond .eq 7, 3) := dk_153 0 7 (dk_at dksX3_areBound_1 4 rfl rfl)
theorem dX3_areBound_31 : decode cX3_areBound 31 = .ok (.iconst 1, 1) := dk_4 (dk_at dksX3_areBound_1 7 rfl rfl)
theorem dX3_areBound_32 : decode cX3_areBound 32 = .ok (.goto 4, 3) := dk_167 0 4 (dk_at dksX3_areBound_1 8 rfl rfl)
theorem dX3_areBound_35 : decode cX3_areBound 35 = .ok (.iconst 0, 1) := dk_3 (dk_at dksX3_areBound_1 11 rfl rfl)
theorem dX3_areBound_36 : decode cX3_areBound 36 = .ok (.ireturn, 1) := dk_172 (dk_at dksX3_areBound_1 12 rfl rfl)
abbrev cX3_greater : ByteArray := prog_21_method_106_code
def yX3_greater : MethodName := ⟨RX3, "greater", "(III)I"⟩
def dkwX3_greater_2 : List UInt8 := [16, 16, 27, 104, 29, 96, 46, 182, 1, 2, 172]
abbrev dktX3_greater_2 : List UInt8 := dkwX3_greater_2 ++ []
def dkwX3_greater_1 : List UInt8 := [16, 254, 172, 42, 182, 1, 118, 42, 42, 180, 0, 67, 16, 16, 27, 104, 28, 96, 46, 42, 180, 0, 67]
abbrev dktX3_greater_1 : List UInt8 := dkwX3_greater_1 ++ dktX3_greater_2
def dkwX3_greater_0 : List UInt8 := [42, 27, 28, 182, 1, 205, 153, 0, 17, 42, 27, 29, 182, 1, 205, 153, 0, 8, 28, 29, 160, 0, 6]
abbrev dktX3_greater_0 : List UInt8 := dkwX3_greater_0 ++ dktX3_greater_1
theorem dksX3_greater_0 : cX3_greater.data.toList.drop 0 = dktX3_greater_0 := by decide +kernel
theorem dksX3_greater_1 : cX3_greater.data.toList.drop 23 = dktX3_greater_1 := dk_seg dksX3_greater_0 23 rfl rfl
theorem dksX3_greater_2 : cX3_greater.data.toList.drop 46 = dktX3_greater_2 := dk_seg dksX3_greater_1 23 rfl rfl
theorem dX3_greater_0 : decode cX3_greater 0 = .ok (.aload_n 0, 1) := dk_42 (dk_at dksX3_greater_0 0 rfl rfl)
theorem dX3_greater_1 : decode cX3_greater 1 = .ok (.iload_n 1, 1) := dk_27 (dk_at dksX3_greater_0 1 rfl rfl)
theorem dX3_greater_2 : decode cX3_greater 2 = .ok (.iload_n 2, 1) := dk_28 (dk_at dksX3_greater_0 2 rfl rfl)
theorem dX3_greater_3 : decode cX3_greater 3 = .ok (.invokevirtual 461, 3) := dk_182 1 205 (dk_at dksX3_greater_0 3 rfl rfl)
theorem dX3_greater_6 : decode cX3_greater 6 = .ok (.ifCond .eq 17, 3) := dk_153 0 17 (dk_at dksX3_greater_0 6 rfl rfl)
theorem dX3_greater_9 : decode cX3_greater 9 = .ok (.aload_n 0, 1) := dk_42 (dk_at dksX3_greater_0 9 rfl rfl)
theorem dX3_greater_10 : decode cX3_greater 10 = .ok (.iload_n 1, 1) := dk_27 (dk_at dksX3_greater_0 10 rfl rfl)
theorem dX3_greater_11 : decode cX3_greater 11 = .ok (.iload_n 3, 1) := dk_29 (dk_at dksX3_greater_0 11 rfl rfl)
theorem dX3_greater_12 : decode cX3_greater 12 = .ok (.invokevirtual 461, 3) := dk_182 1 205 (dk_at dksX3_greater_0 12 rfl rfl)
theorem dX3_greater_15 : decode cX3_greater 15 = .ok (.ifCond .eq 8, 3) := dk_153 0 8 (dk_at dksX3_greater_0 15 rfl rfl)
theorem dX3_greater_18 : decode cX3_greater 18 = .ok (.iload_n 2, 1) := dk_28 (dk_at dksX3_greater_0 18 rfl rfl)
theorem dX3_greater_19 : decode cX3_greater 19 = .ok (.iload_n 3, 1) := dk_29 (dk_at dksX3_greater_0 19 rfl rfl)
theorem dX3_greater_20 : decode cX3_greater 20 = .ok (.if_icmp .ne 6, 3) := dk_160 0 6 (dk_at dksX3_greater_0 20 rfl rfl)
theorem dX3_greater_23 : decode cX3_greater 23 = .ok (.bipush (-2), 2) := dk_16 254 (dk_at dksX3_greater_1 0 rfl rfl)
theorem dX3_greater_25 : decode cX3_greater 25 = .ok (.ireturn, 1) := dk_172 (dk_at dksX3_greater_1 2 rfl rfl)
theorem dX3_greater_26 : decode cX3_greater 26 = .ok (.aload_n 0, 1) := dk_42 (dk_at dksX3_greater_1 3 rfl rfl)
theorem dX3_greater_27 : decode cX3_greater 27 = .ok (.invokevirtual 374, 3) := dk_182 1 118 (dk_at dksX3_greater_1 4 rfl rfl)
theorem dX3_greater_30 : decode cX3_greater 30 = .ok (.aload_n 0, 1) := dk_42 (dk_at dksX3_greater_1 7 rfl rfl)
theorem dX3_greater_31 : decode cX3_greater 31 = .ok (.aload_n 0, 1) := dk_42 (dk_at dksX3_greater_1 8 rfl rfl)
theorem dX3_greater_32 : decode cX3_greater 32 = .ok (.getfield 67, 3) := dk_180 0 67 (dk_at dksX3_greater_1 9 rfl rfl)
theorem dX3_greater_35 : decode cX3_greater 35 = .ok (.bipush 16, 2) := dk_16 16 (dk_at dksX3_greater_1 12 rfl rfl)
theorem dX3_greater_37 : decode cX3_greater 37 = .ok (.iload_n 1, 1) := dk_27 (dk_at dksX3_greater_1 14 rfl rfl)
theorem dX3_greater_38 : decode cX3_greater 38 = .ok (.imul, 1) := dk_104 (dk_at dksX3_greater_1 15 rfl rfl)
theorem dX3_greater_39 : decode cX3_greater 39 = .ok (.iload_n 2, 1) := dk_28 (dk_at dksX3_greater_1 16 rfl rfl)
theorem dX3_greater_40 : decode cX3_greater 40 = .ok (.iadd, 1) := dk_96 (dk_at dksX3_greater_1 17 rfl rfl)
theorem dX3_greater_41 : decode cX3_greater 41 = .ok (.iaload, 1) := dk_46 (dk_at dksX3_greater_1 18 rfl rfl)
theorem dX3_greater_42 : decode cX3_greater 42 = .ok (.aload_n 0, 1) := dk_42 (dk_at dksX3_greater_1 19 rfl rfl)
theorem dX3_greater_43 : decode cX3_greater 43 = .ok (.getfield 67, 3) := dk_180 0 67 (dk_at dksX3_greater_1 20 rfl rfl)
theorem dX3_greater_46 : decode cX3_greater 46 = .ok (.bipush 16, 2) := dk_16 16 (dk_at dksX3_greater_2 0 rfl rfl)
theorem dX3_greater_48 : decode cX3_greater 48 = .ok (.iload_n 1, 1) := dk_27 (dk_at dksX3_greater_2 2 rfl rfl)
theorem dX3_greater_49 : decode cX3_greater 49 = .ok (.imul, 1) := dk_104 (dk_at dksX3_greater_2 3 rfl rfl)
theorem dX3_greater_50 : decode cX3_greater 50 = .ok (.iload_n 3, 1) := dk_29 (dk_at dksX3_greater_2 4 rfl rfl)
theorem dX3_greater_51 : decode cX3_greater 51 = .ok (.iadd, 1) := dk_96 (dk_at dksX3_greater_2 5 rfl rfl)
theorem dX3_greater_52 : decode cX3_greater 52 = .ok (.iaload, 1) := dk_46 (dk_at dksX3_greater_2 6 rfl rfl)
theorem dX3_greater_53 : decode cX3_greater 53 = .ok (.invokevirtual 258, 3) := dk_182 1 2 (dk_at dksX3_greater_2 7 rfl rfl)
theorem dX3_greater_56 : decode cX3_greater 56 = .ok (.ireturn, 1) := dk_172 (dk_at dksX3_greater_2 10 rfl rfl)
abbrev cX3_forms : ByteArray := prog_21_method_112_code
def yX3_forms : MethodName := ⟨RX3, "forms", "(I)J"⟩
def dkwX3_forms_2 : List UInt8 := [182, 1, 235, 101, 20, 0, 156, 109, 173]
abbrev dktX3_forms_2 : List UInt8 := dkwX3_forms_2 ++ []
def dkwX3_forms_1 : List UInt8 := [42, 182, 1, 232, 167, 0, 28, 27, 4, 160, 0, 10, 42, 182, 1, 235, 167, 0, 16, 42, 182, 1, 232, 42]
abbrev dktX3_forms_1 : List UInt8 := dkwX3_forms_1 ++ dktX3_forms_2
def dkwX3_forms_0 : List UInt8 := [27, 133, 9, 20, 0, 156, 184, 0, 158, 154, 0, 7, 20, 1, 162, 173, 42, 182, 1, 118, 27, 154, 0, 10]
abbrev dktX3_forms_0 : List UInt8 := dkwX3_forms_0 ++ dktX3_forms_1
theorem dksX3_forms_0 : cX3_forms.data.toList.drop 0 = dktX3_forms_0 := by decide +kernel
theorem dksX3_forms_1 : cX3_forms.data.toList.drop 24 = dktX3_forms_1 := dk_seg dksX3_forms_0 24 rfl rfl
theorem dksX3_forms_2 : cX3_forms.data.toList.drop 48 = dktX3_forms_2 := dk_seg dksX3_forms_1 24 rfl rfl
theorem dX3_forms_0 : decode cX3_forms 0 = .ok (.iload_n 1, 1) := dk_27 (dk_at dksX3_forms_0 0 rfl rfl)
theorem dX3_forms_1 : decode cX3_forms 1 = .ok (.i2l, 1) := dk_133 (dk_at dksX3_forms_0 1 rfl rfl)
theorem dX3_forms_2 : decode cX3_forms 2 = .ok (.lconst 0, 1) := dk_9 (dk_at dksX3_forms_0 2 rfl rfl)
theorem dX3_forms_3 : decode cX3_forms 3 = .ok (.ldc2_w 156, 3) := dk_20 0 156 (dk_at dksX3_forms_0 3 rfl rfl)
theorem dX3_forms_6 : decode cX3_forms 6 = .ok (.invokestatic 158, 3) := dk_184 0 158 (dk_at dksX3_forms_0 6 rfl rfl)
theorem dX3_forms_9 : decode cX3_forms 9 = .ok (.ifCond .ne 7, 3) := dk_154 0 7 (dk_at dksX3_forms_0 9 rfl rfl)
theorem dX3_forms_12 : decode cX3_forms 12 = .ok (.ldc2_w 418, 3) := dk_20 1 162 (dk_at dksX3_forms_0 12 rfl rfl)
theorem dX3_forms_15 : decode cX3_forms 15 = .ok (.lreturn, 1) := dk_173 (dk_at dksX3_forms_0 15 rfl rfl)
theorem dX3_forms_16 : decode cX3_forms 16 = .ok (.aload_n 0, 1) := dk_42 (dk_at dksX3_forms_0 16 rfl rfl)
theorem dX3_forms_17 : decode cX3_forms 17 = .ok (.invokevirtual 374, 3) := dk_182 1 118 (dk_at dksX3_forms_0 17 rfl rfl)
theorem dX3_forms_20 : decode cX3_forms 20 = .ok (.iload_n 1, 1) := dk_27 (dk_at dksX3_forms_0 20 rfl rfl)
theorem dX3_forms_21 : decode cX3_forms 21 = .ok (.ifCond .ne 10, 3) := dk_154 0 10 (dk_at dksX3_forms_0 21 rfl rfl)
theorem dX3_forms_24 : decode cX3_forms 24 = .ok (.aload_n 0, 1) := dk_42 (dk_at dksX3_forms_1 0 rfl rfl)
theorem dX3_forms_25 : decode cX3_forms 25 = .ok (.invokevirtual 488, 3) := dk_182 1 232 (dk_at dksX3_forms_1 1 rfl rfl)
theorem dX3_forms_28 : decode cX3_forms 28 = .ok (.goto 28, 3) := dk_167 0 28 (dk_at dksX3_forms_1 4 rfl rfl)
theorem dX3_forms_31 : decode cX3_forms 31 = .ok (.iload_n 1, 1) := dk_27 (dk_at dksX3_forms_1 7 rfl rfl)
theorem dX3_forms_32 : decode cX3_forms 32 = .ok (.iconst 1, 1) := dk_4 (dk_at dksX3_forms_1 8 rfl rfl)
theorem dX3_forms_33 : decode cX3_forms 33 = .ok (.if_icmp .ne 10, 3) := dk_160 0 10 (dk_at dksX3_forms_1 9 rfl rfl)
theorem dX3_forms_36 : decode cX3_forms 36 = .ok (.aload_n 0, 1) := dk_42 (dk_at dksX3_forms_1 12 rfl rfl)
theorem dX3_forms_37 : decode cX3_forms 37 = .ok (.invokevirtual 491, 3) := dk_182 1 235 (dk_at dksX3_forms_1 13 rfl rfl)
theorem dX3_forms_40 : decode cX3_forms 40 = .ok (.goto 16, 3) := dk_167 0 16 (dk_at dksX3_forms_1 16 rfl rfl)
theorem dX3_forms_43 : decode cX3_forms 43 = .ok (.aload_n 0, 1) := dk_42 (dk_at dksX3_forms_1 19 rfl rfl)
theorem dX3_forms_44 : decode cX3_forms 44 = .ok (.invokevirtual 488, 3) := dk_182 1 232 (dk_at dksX3_forms_1 20 rfl rfl)
theorem dX3_forms_47 : decode cX3_forms 47 = .ok (.aload_n 0, 1) := dk_42 (dk_at dksX3_forms_1 23 rfl rfl)
theorem dX3_forms_48 : decode cX3_forms 48 = .ok (.invokevirtual 491, 3) := dk_182 1 235 (dk_at dksX3_forms_2 0 rfl rfl)
theorem dX3_forms_51 : decode cX3_forms 51 = .ok (.lsub, 1) := dk_101 (dk_at dksX3_forms_2 3 rfl rfl)
theorem dX3_forms_52 : decode cX3_forms 52 = .ok (.ldc2_w 156, 3) := dk_20 0 156 (dk_at dksX3_forms_2 4 rfl rfl)
theorem dX3_forms_55 : decode cX3_forms 55 = .ok (.ldiv, 1) := dk_109 (dk_at dksX3_forms_2 7 rfl rfl)
theorem dX3_forms_56 : decode cX3_forms 56 = .ok (.lreturn, 1) := dk_173 (dk_at dksX3_forms_2 8 rfl rfl)
abbrev cX3_allForms : ByteArray := prog_21_method_110_code
def yX3_allForms : MethodName := ⟨RX3, "allForms", "()J"⟩
def dkwX3_allForms_5 : List UInt8 := [105, 173]
abbrev dktX3_allForms_5 : List UInt8 := dkwX3_allForms_5 ++ []
def dkwX3_allForms_4 : List UInt8 := [47, 10, 97, 105, 20, 0, 156, 109, 167, 0, 17, 42, 180, 0, 51, 29, 47, 42, 180, 0, 51, 21, 4, 47]
abbrev dktX3_allForms_4 : List UInt8 := dkwX3_allForms_4 ++ dktX3_allForms_5
def dkwX3_allForms_3 : List UInt8 := [27, 104, 28, 96, 46, 54, 4, 29, 21, 4, 160, 0, 25, 42, 180, 0, 51, 29, 47, 42, 180, 0, 51, 29]
abbrev dktX3_allForms_3 : List UInt8 := dkwX3_allForms_3 ++ dktX3_allForms_4
def dkwX3_allForms_2 : List UInt8 := [97, 20, 1, 156, 109, 173, 42, 180, 0, 67, 16, 16, 28, 104, 27, 96, 46, 62, 42, 180, 0, 67, 16, 16]
abbrev dktX3_allForms_2 : List UInt8 := dkwX3_allForms_2 ++ dktX3_allForms_3
def dkwX3_allForms_1 : List UInt8 := [182, 1, 229, 42, 180, 1, 208, 20, 1, 20, 42, 180, 1, 212, 105, 97, 20, 1, 151, 42, 180, 1, 215, 105]
abbrev dktX3_allForms_1 : List UInt8 := dkwX3_allForms_1 ++ dktX3_allForms_2
def dkwX3_allForms_0 : List UInt8 := [42, 3, 182, 1, 79, 60, 42, 4, 182, 1, 79, 61, 28, 2, 160, 0, 39, 42, 42, 27, 182, 1, 176]
abbrev dktX3_allForms_0 : List UInt8 := dkwX3_allForms_0 ++ dktX3_allForms_1
theorem dksX3_allForms_0 : cX3_allForms.data.toList.drop 0 = dktX3_allForms_0 := by decide +kernel
theorem dksX3_allForms_1 : cX3_allForms.data.toList.drop 23 = dktX3_allForms_1 := dk_seg dksX3_allForms_0 23 rfl rfl
theorem dksX3_allForms_2 : cX3_allForms.data.toList.drop 47 = dktX3_allForms_2 := dk_seg dksX3_allForms_1 24 rfl rfl
theorem dksX3_allForms_3 : cX3_allForms.data.toList.drop 71 = dktX3_allForms_3 := dk_seg dksX3_allForms_2 24 rfl rfl
theorem dksX3_allForms_4 : cX3_allForms.data.toList.drop 95 = dktX3_allForms_4 := dk_seg dksX3_allForms_3 24 rfl rfl
theorem dksX3_allForms_5 : cX3_allForms.data.toList.drop 119 = dktX3_allForms_5 := dk_seg dksX3_allForms_4 24 rfl rfl
theorem dX3_allForms_0 : decode cX3_allForms 0 = .ok (.aload_n 0, 1) := dk_42 (dk_at dksX3_allForms_0 0 rfl rfl)
theorem dX3_allForms_1 : decode cX3_allForms 1 = .ok (.iconst 0, 1) := dk_3 (dk_at dksX3_allForms_0 1 rfl rfl)
theorem dX3_allForms_2 : decode cX3_allForms 2 = .ok (.invokevirtual 335, 3) := dk_182 1 79 (dk_at dksX3_allForms_0 2 rfl rfl)
theorem dX3_allForms_5 : decode cX3_allForms 5 = .ok (.istore_n 1, 1) := dk_60 (dk_at dksX3_allForms_0 5 rfl rfl)
theorem dX3_allForms_6 : decode cX3_allForms 6 = .ok (.aload_n 0, 1) := dk_42 (dk_at dksX3_allForms_0 6 rfl rfl)
theorem dX3_allForms_7 : decode cX3_allForms 7 = .ok (.iconst 1, 1) := dk_4 (dk_at dksX3_allForms_0 7 rfl rfl)
theorem dX3_allForms_8 : decode cX3_allForms 8 = .ok (.invokevirtual 335, 3) := dk_182 1 79 (dk_at dksX3_allForms_0 8 rfl rfl)
theorem dX3_allForms_11 : decode cX3_allForms 11 = .ok (.istore_n 2, 1) := dk_61 (dk_at dksX3_allForms_0 11 rfl rfl)
theorem dX3_allForms_12 : decode cX3_allForms 12 = .ok (.iload_n 2, 1) := dk_28 (dk_at dksX3_allForms_0 12 rfl rfl)
theorem dX3_allForms_13 : decode cX3_allForms 13 = .ok (.iconst (-1), 1) := dk_2 (dk_at dksX3_allForms_0 13 rfl rfl)
theorem dX3_allForms_14 : decode cX3_allForms 14 = .ok (.if_icmp .ne 39, 3) := dk_160 0 39 (dk_at dksX3_allForms_0 14 rfl rfl)
theorem dX3_allForms_17 : decode cX3_allForms 17 = .ok (.aload_n 0, 1) := dk_42 (dk_at dksX3_allForms_0 17 rfl rfl)
theorem dX3_allForms_18 : decode cX3_allForms 18 = .ok (.aload_n 0, 1) := dk_42 (dk_at dksX3_allForms_0 18 rfl rfl)
theorem dX3_allForms_19 : decode cX3_allForms 19 = .ok (.iload_n 1, 1) := dk_27 (dk_at dksX3_allForms_0 19 rfl rfl)
theorem dX3_allForms_20 : decode cX3_allForms 20 = .ok (.invokevirtual 432, 3) := dk_182 1 176 (dk_at dksX3_allForms_0 20 rfl rfl)
theorem dX3_allForms_23 : decode cX3_allForms 23 = .ok (.invokevirtual 485, 3) := dk_182 1 229 (dk_at dksX3_allForms_1 0 rfl rfl)
theorem dX3_allForms_26 : decode cX3_allForms 26 = .ok (.aload_n 0, 1) := dk_42 (dk_at dksX3_allForms_1 3 rfl rfl)
theorem dX3_allForms_27 : decode cX3_allForms 27 = .ok (.getfield 464, 3) := dk_180 1 208 (dk_at dksX3_allForms_1 4 rfl rfl)
theorem dX3_allForms_30 : decode cX3_allForms 30 = .ok (.ldc2_w 276, 3) := dk_20 1 20 (dk_at dksX3_allForms_1 7 rfl rfl)
theorem dX3_allForms_33 : decode cX3_allForms 33 = .ok (.aload_n 0, 1) := dk_42 (dk_at dksX3_allForms_1 10 rfl rfl)
theorem dX3_allForms_34 : decode cX3_allForms 34 = .ok (.getfield 468, 3) := dk_180 1 212 (dk_at dksX3_allForms_1 11 rfl rfl)
theorem dX3_allForms_37 : decode cX3_allForms 37 = .ok (.lmul, 1) := dk_105 (dk_at dksX3_allForms_1 14 rfl rfl)
theorem dX3_allForms_38 : decode cX3_allForms 38 = .ok (.ladd, 1) := dk_97 (dk_at dksX3_allForms_1 15 rfl rfl)
theorem dX3_allForms_39 : decode cX3_allForms 39 = .ok (.ldc2_w 407, 3) := dk_20 1 151 (dk_at dksX3_allForms_1 16 rfl rfl)
theorem dX3_allForms_42 : decode cX3_allForms 42 = .ok (.aload_n 0, 1) := dk_42 (dk_at dksX3_allForms_1 19 rfl rfl)
theorem dX3_allForms_43 : decode cX3_allForms 43 = .ok (.getfield 471, 3) := dk_180 1 215 (dk_at dksX3_allForms_1 20 rfl rfl)
theorem dX3_allForms_46 : decode cX3_allForms 46 = .ok (.lmul, 1) := dk_105 (dk_at dksX3_allForms_1 23 rfl rfl)
theorem dX3_allForms_47 : decode cX3_allForms 47 = .ok (.ladd, 1) := dk_97 (dk_at dksX3_allForms_2 0 rfl rfl)
theorem dX3_allForms_48 : decode cX3_allForms 48 = .ok (.ldc2_w 412, 3) := dk_20 1 156 (dk_at dksX3_allForms_2 1 rfl rfl)
theorem dX3_allForms_51 : decode cX3_allForms 51 = .ok (.ldiv, 1) := dk_109 (dk_at dksX3_allForms_2 4 rfl rfl)
theorem dX3_allForms_52 : decode cX3_allForms 52 = .ok (.lreturn, 1) := dk_173 (dk_at dksX3_allForms_2 5 rfl rfl)
theorem dX3_allForms_53 : decode cX3_allForms 53 = .ok (.aload_n 0, 1) := dk_42 (dk_at dksX3_allForms_2 6 rfl rfl)
theorem dX3_allForms_54 : decode cX3_allForms 54 = .ok (.getfield 67, 3) := dk_180 0 67 (dk_at dksX3_allForms_2 7 rfl rfl)
theorem dX3_allForms_57 : decode cX3_allForms 57 = .ok (.bipush 16, 2) := dk_16 16 (dk_at dksX3_allForms_2 10 rfl rfl)
theorem dX3_allForms_59 : decode cX3_allForms 59 = .ok (.iload_n 2, 1) := dk_28 (dk_at dksX3_allForms_2 12 rfl rfl)
theorem dX3_allForms_60 : decode cX3_allForms 60 = .ok (.imul, 1) := dk_104 (dk_at dksX3_allForms_2 13 rfl rfl)
theorem dX3_allForms_61 : decode cX3_allForms 61 = .ok (.iload_n 1, 1) := dk_27 (dk_at dksX3_allForms_2 14 rfl rfl)
theorem dX3_allForms_62 : decode cX3_allForms 62 = .ok (.iadd, 1) := dk_96 (dk_at dksX3_allForms_2 15 rfl rfl)
theorem dX3_allForms_63 : decode cX3_allForms 63 = .ok (.iaload, 1) := dk_46 (dk_at dksX3_allForms_2 16 rfl rfl)
theorem dX3_allForms_64 : decode cX3_allForms 64 = .ok (.istore_n 3, 1) := dk_62 (dk_at dksX3_allForms_2 17 rfl rfl)
theorem dX3_allForms_65 : decode cX3_allForms 65 = .ok (.aload_n 0, 1) := dk_42 (dk_at dksX3_allForms_2 18 rfl rfl)
theorem dX3_allForms_66 : decode cX3_allForms 66 = .ok (.getfield 67, 3) := dk_180 0 67 (dk_at dksX3_allForms_2 19 rfl rfl)
theorem dX3_allForms_69 : decode cX3_allForms 69 = .ok (.bipush 16, 2) := dk_16 16 (dk_at dksX3_allForms_2 22 rfl rfl)
theorem dX3_allForms_71 : decode cX3_allForms 71 = .ok (.iload_n 1, 1) := dk_27 (dk_at dksX3_allForms_3 0 rfl rfl)
theorem dX3_allForms_72 : decode cX3_allForms 72 = .ok (.imul, 1) := dk_104 (dk_at dksX3_allForms_3 1 rfl rfl)
theorem dX3_allForms_73 : decode cX3_allForms 73 = .ok (.iload_n 2, 1) := dk_28 (dk_at dksX3_allForms_3 2 rfl rfl)
theorem dX3_allForms_74 : decode cX3_allForms 74 = .ok (.iadd, 1) := dk_96 (dk_at dksX3_allForms_3 3 rfl rfl)
theorem dX3_allForms_75 : decode cX3_allForms 75 = .ok (.iaload, 1) := dk_46 (dk_at dksX3_allForms_3 4 rfl rfl)
theorem dX3_allForms_76 : decode cX3_allForms 76 = .ok (.istore 4, 2) := dk_54 4 (dk_at dksX3_allForms_3 5 rfl rfl)
theorem dX3_allForms_78 : decode cX3_allForms 78 = .ok (.iload_n 3, 1) := dk_29 (dk_at dksX3_allForms_3 7 rfl rfl)
theorem dX3_allForms_79 : decode cX3_allForms 79 = .ok (.iload 4, 2) := dk_21 4 (dk_at dksX3_allForms_3 8 rfl rfl)
theorem dX3_allForms_81 : decode cX3_allForms 81 = .ok (.if_icmp .ne 25, 3) := dk_160 0 25 (dk_at dksX3_allForms_3 10 rfl rfl)
theorem dX3_allForms_84 : decode cX3_allForms 84 = .ok (.aload_n 0, 1) := dk_42 (dk_at dksX3_allForms_3 13 rfl rfl)
theorem dX3_allForms_85 : decode cX3_allForms 85 = .ok (.getfield 51, 3) := dk_180 0 51 (dk_at dksX3_allForms_3 14 rfl rfl)
theorem dX3_allForms_88 : decode cX3_allForms 88 = .ok (.iload_n 3, 1) := dk_29 (dk_at dksX3_allForms_3 17 rfl rfl)
theorem dX3_allForms_89 : decode cX3_allForms 89 = .ok (.laload, 1) := dk_47 (dk_at dksX3_allForms_3 18 rfl rfl)
theorem dX3_allForms_90 : decode cX3_allForms 90 = .ok (.aload_n 0, 1) := dk_42 (dk_at dksX3_allForms_3 19 rfl rfl)
theorem dX3_allForms_91 : decode cX3_allForms 91 = .ok (.getfield 51, 3) := dk_180 0 51 (dk_at dksX3_allForms_3 20 rfl rfl)
theorem dX3_allForms_94 : decode cX3_allForms 94 = .ok (.iload_n 3, 1) := dk_29 (dk_at dksX3_allForms_3 23 rfl rfl)
theorem dX3_allForms_95 : decode cX3_allForms 95 = .ok (.laload, 1) := dk_47 (dk_at dksX3_allForms_4 0 rfl rfl)
theorem dX3_allForms_96 : decode cX3_allForms 96 = .ok (.lconst 1, 1) := dk_10 (dk_at dksX3_allForms_4 1 rfl rfl)
theorem dX3_allForms_97 : decode cX3_allForms 97 = .ok (.ladd, 1) := dk_97 (dk_at dksX3_allForms_4 2 rfl rfl)
theorem dX3_allForms_98 : decode cX3_allForms 98 = .ok (.lmul, 1) := dk_105 (dk_at dksX3_allForms_4 3 rfl rfl)
theorem dX3_allForms_99 : decode cX3_allForms 99 = .ok (.ldc2_w 156, 3) := dk_20 0 156 (dk_at dksX3_allForms_4 4 rfl rfl)
theorem dX3_allForms_102 : decode cX3_allForms 102 = .ok (.ldiv, 1) := dk_109 (dk_at dksX3_allForms_4 7 rfl rfl)
theorem dX3_allForms_103 : decode cX3_allForms 103 = .ok (.goto 17, 3) := dk_167 0 17 (dk_at dksX3_allForms_4 8 rfl rfl)
theorem dX3_allForms_106 : decode cX3_allForms 106 = .ok (.aload_n 0, 1) := dk_42 (dk_at dksX3_allForms_4 11 rfl rfl)
theorem dX3_allForms_107 : decode cX3_allForms 107 = .ok (.getfield 51, 3) := dk_180 0 51 (dk_at dksX3_allForms_4 12 rfl rfl)
theorem dX3_allForms_110 : decode cX3_allForms 110 = .ok (.iload_n 3, 1) := dk_29 (dk_at dksX3_allForms_4 15 rfl rfl)
theorem dX3_allForms_111 : decode cX3_allForms 111 = .ok (.laload, 1) := dk_47 (dk_at dksX3_allForms_4 16 rfl rfl)
theorem dX3_allForms_112 : decode cX3_allForms 112 = .ok (.aload_n 0, 1) := dk_42 (dk_at dksX3_allForms_4 17 rfl rfl)
theorem dX3_allForms_113 : decode cX3_allForms 113 = .ok (.getfield 51, 3) := dk_180 0 51 (dk_at dksX3_allForms_4 18 rfl rfl)
theorem dX3_allForms_116 : decode cX3_allForms 116 = .ok (.iload 4, 2) := dk_21 4 (dk_at dksX3_allForms_4 21 rfl rfl)
theorem dX3_allForms_118 : decode cX3_allForms 118 = .ok (.laload, 1) := dk_47 (dk_at dksX3_allForms_4 23 rfl rfl)
theorem dX3_allForms_119 : decode cX3_allForms 119 = .ok (.lmul, 1) := dk_105 (dk_at dksX3_allForms_5 0 rfl rfl)
theorem dX3_allForms_120 : decode cX3_allForms 120 = .ok (.lreturn, 1) := dk_173 (dk_at dksX3_allForms_5 1 rfl rfl)
abbrev cX3_countsRows : ByteArray := prog_21_method_109_code
def yX3_countsRows : MethodName := ⟨RX3, "countsRows", "(I)V"⟩
def dkwX3_countsRows_7 : List UInt8 := [180, 1, 218, 32, 109, 181, 1, 218, 177]
abbrev dktX3_countsRows_7 : List UInt8 := dkwX3_countsRows_7 ++ []
def dkwX3_countsRows_6 : List UInt8 := [42, 89, 180, 1, 212, 32, 109, 181, 1, 212, 42, 89, 180, 1, 215, 32, 109, 181, 1, 215, 42, 89]
abbrev dktX3_countsRows_6 : List UInt8 := dkwX3_countsRows_6 ++ dktX3_countsRows_7
def dkwX3_countsRows_5 : List UInt8 := [167, 255, 199, 132, 2, 1, 167, 255, 186, 42, 182, 1, 225, 65, 42, 89, 180, 1, 208, 32, 109, 181, 1, 208]
abbrev dktX3_countsRows_5 : List UInt8 := dkwX3_countsRows_5 ++ dktX3_countsRows_6
def dkwX3_countsRows_4 : List UInt8 := [21, 4, 16, 6, 28, 100, 29, 100, 21, 4, 100, 182, 1, 221, 132, 4, 1, 167, 255, 213, 132, 3, 1]
abbrev dktX3_countsRows_4 : List UInt8 := dkwX3_countsRows_4 ++ dktX3_countsRows_5
def dkwX3_countsRows_3 : List UInt8 := [162, 0, 43, 28, 29, 159, 0, 32, 29, 21, 4, 159, 0, 26, 28, 21, 4, 159, 0, 20, 42, 28, 29]
abbrev dktX3_countsRows_3 : List UInt8 := dkwX3_countsRows_3 ++ dktX3_countsRows_4
def dkwX3_countsRows_2 : List UInt8 := [167, 255, 232, 3, 61, 28, 7, 162, 0, 71, 3, 62, 29, 7, 162, 0, 58, 3, 54, 4, 21, 4, 7]
abbrev dktX3_countsRows_2 : List UInt8 := dkwX3_countsRows_2 ++ dktX3_countsRows_3
def dkwX3_countsRows_1 : List UInt8 := [162, 0, 25, 42, 180, 0, 127, 28, 42, 180, 0, 42, 7, 27, 104, 28, 96, 46, 79, 132, 2, 1]
abbrev dktX3_countsRows_1 : List UInt8 := dkwX3_countsRows_1 ++ dktX3_countsRows_2
def dkwX3_countsRows_0 : List UInt8 := [42, 9, 181, 1, 208, 42, 9, 181, 1, 212, 42, 9, 181, 1, 215, 42, 9, 181, 1, 218, 3, 61, 28, 7]
abbrev dktX3_countsRows_0 : List UInt8 := dkwX3_countsRows_0 ++ dktX3_countsRows_1
theorem dksX3_countsRows_0 : cX3_countsRows.data.toList.drop 0 = dktX3_countsRows_0 := by decide +kernel
theorem dksX3_countsRows_1 : cX3_countsRows.data.toList.drop 24 = dktX3_countsRows_1 := dk_seg dksX3_countsRows_0 24 rfl rfl
theorem dksX3_countsRows_2 : cX3_countsRows.data.toList.drop 46 = dktX3_countsRows_2 := dk_seg dksX3_countsRows_1 22 rfl rfl
theorem dksX3_countsRows_3 : cX3_countsRows.data.toList.drop 69 = dktX3_countsRows_3 := dk_seg dksX3_countsRows_2 23 rfl rfl
theorem dksX3_countsRows_4 : cX3_countsRows.data.toList.drop 92 = dktX3_countsRows_4 := dk_seg dksX3_countsRows_3 23 rfl rfl
theorem dksX3_countsRows_5 : cX3_countsRows.data.toList.drop 115 = dktX3_countsRows_5 := dk_seg dksX3_countsRows_4 23 rfl rfl
theorem dksX3_countsRows_6 : cX3_countsRows.data.toList.drop 139 = dktX3_countsRows_6 := dk_seg dksX3_countsRows_5 24 rfl rfl
theorem dksX3_countsRows_7 : cX3_countsRows.data.toList.drop 161 = dktX3_countsRows_7 := dk_seg dksX3_countsRows_6 22 rfl rfl
theorem dX3_countsRows_0 : decode cX3_countsRows 0 = .ok (.aload_n 0, 1) := dk_42 (dk_at dksX3_countsRows_0 0 rfl rfl)
theorem dX3_countsRows_1 : decode cX3_countsRows 1 = .ok (.lconst 0, 1) := dk_9 (dk_at dksX3_countsRows_0 1 rfl rfl)
theorem dX3_countsRows_2 : decode cX3_countsRows 2 = .ok (.putfield 464, 3) := dk_181 1 208 (dk_at dksX3_countsRows_0 2 rfl rfl)
theorem dX3_countsRows_5 : decode cX3_countsRows 5 = .ok (.aload_n 0, 1) := dk_42 (dk_at dksX3_countsRows_0 5 rfl rfl)
theorem dX3_countsRows_6 : decode cX3_countsRows 6 = .ok (.lconst 0, 1) := dk_9 (dk_at dksX3_countsRows_0 6 rfl rfl)
theorem dX3_countsRows_7 : decode cX3_countsRows 7 = .ok (.putfield 468, 3) := dk_181 1 212 (dk_at dksX3_countsRows_0 7 rfl rfl)
theorem dX3_countsRows_10 : decode cX3_countsRows 10 = .ok (.aload_n 0, 1) := dk_42 (dk_at dksX3_countsRows_0 10 rfl rfl)
theorem dX3_countsRows_11 : decode cX3_countsRows 11 = .ok (.lconst 0, 1) := dk_9 (dk_at dksX3_countsRows_0 11 rfl rfl)
theorem dX3_countsRows_12 : decode cX3_countsRows 12 = .ok (.putfield 471, 3) := dk_181 1 215 (dk_at dksX3_countsRows_0 12 rfl rfl)
theorem dX3_countsRows_15 : decode cX3_countsRows 15 = .ok (.aload_n 0, 1) := dk_42 (dk_at dksX3_countsRows_0 15 rfl rfl)
theorem dX3_countsRows_16 : decode cX3_countsRows 16 = .ok (.lconst 0, 1) := dk_9 (dk_at dksX3_countsRows_0 16 rfl rfl)
theorem dX3_countsRows_17 : decode cX3_countsRows 17 = .ok (.putfield 474, 3) := dk_181 1 218 (dk_at dksX3_countsRows_0 17 rfl rfl)
theorem dX3_countsRows_20 : decode cX3_countsRows 20 = .ok (.iconst 0, 1) := dk_3 (dk_at dksX3_countsRows_0 20 rfl rfl)
theorem dX3_countsRows_21 : decode cX3_countsRows 21 = .ok (.istore_n 2, 1) := dk_61 (dk_at dksX3_countsRows_0 21 rfl rfl)
theorem dX3_countsRows_22 : decode cX3_countsRows 22 = .ok (.iload_n 2, 1) := dk_28 (dk_at dksX3_countsRows_0 22 rfl rfl)
theorem dX3_countsRows_23 : decode cX3_countsRows 23 = .ok (.iconst 4, 1) := dk_7 (dk_at dksX3_countsRows_0 23 rfl rfl)
theorem dX3_countsRows_24 : decode cX3_countsRows 24 = .ok (.if_icmp .ge 25, 3) := dk_162 0 25 (dk_at dksX3_countsRows_1 0 rfl rfl)
theorem dX3_countsRows_27 : decode cX3_countsRows 27 = .ok (.aload_n 0, 1) := dk_42 (dk_at dksX3_countsRows_1 3 rfl rfl)
theorem dX3_countsRows_28 : decode cX3_countsRows 28 = .ok (.getfield 127, 3) := dk_180 0 127 (dk_at dksX3_countsRows_1 4 rfl rfl)
theorem dX3_countsRows_31 : decode cX3_countsRows 31 = .ok (.iload_n 2, 1) := dk_28 (dk_at dksX3_countsRows_1 7 rfl rfl)
theorem dX3_countsRows_32 : decode cX3_countsRows 32 = .ok (.aload_n 0, 1) := dk_42 (dk_at dksX3_countsRows_1 8 rfl rfl)
theorem dX3_countsRows_33 : decode cX3_countsRows 33 = .ok (.getfield 42, 3) := dk_180 0 42 (dk_at dksX3_countsRows_1 9 rfl rfl)
theorem dX3_countsRows_36 : decode cX3_countsRows 36 = .ok (.iconst 4, 1) := dk_7 (dk_at dksX3_countsRows_1 12 rfl rfl)
theorem dX3_countsRows_37 : decode cX3_countsRows 37 = .ok (.iload_n 1, 1) := dk_27 (dk_at dksX3_countsRows_1 13 rfl rfl)
theorem dX3_countsRows_38 : decode cX3_countsRows 38 = .ok (.imul, 1) := dk_104 (dk_at dksX3_countsRows_1 14 rfl rfl)
theorem dX3_countsRows_39 : decode cX3_countsRows 39 = .ok (.iload_n 2, 1) := dk_28 (dk_at dksX3_countsRows_1 15 rfl rfl)
theorem dX3_countsRows_40 : decode cX3_countsRows 40 = .ok (.iadd, 1) := dk_96 (dk_at dksX3_countsRows_1 16 rfl rfl)
theorem dX3_countsRows_41 : decode cX3_countsRows 41 = .ok (.iaload, 1) := dk_46 (dk_at dksX3_countsRows_1 17 rfl rfl)
theorem dX3_countsRows_42 : decode cX3_countsRows 42 = .ok (.iastore, 1) := dk_79 (dk_at dksX3_countsRows_1 18 rfl rfl)
theorem dX3_countsRows_43 : decode cX3_countsRows 43 = .ok (.iinc 2 1, 3) := dk_132 2 1 (dk_at dksX3_countsRows_1 19 rfl rfl)
theorem dX3_countsRows_46 : decode cX3_countsRows 46 = .ok (.goto (-24), 3) := dk_167 255 232 (dk_at dksX3_countsRows_2 0 rfl rfl)
theorem dX3_countsRows_49 : decode cX3_countsRows 49 = .ok (.iconst 0, 1) := dk_3 (dk_at dksX3_countsRows_2 3 rfl rfl)
theorem dX3_countsRows_50 : decode cX3_countsRows 50 = .ok (.istore_n 2, 1) := dk_61 (dk_at dksX3_countsRows_2 4 rfl rfl)
theorem dX3_countsRows_51 : decode cX3_countsRows 51 = .ok (.iload_n 2, 1) := dk_28 (dk_at dksX3_countsRows_2 5 rfl rfl)
theorem dX3_countsRows_52 : decode cX3_countsRows 52 = .ok (.iconst 4, 1) := dk_7 (dk_at dksX3_countsRows_2 6 rfl rfl)
theorem dX3_countsRows_53 : decode cX3_countsRows 53 = .ok (.if_icmp .ge 71, 3) := dk_162 0 71 (dk_at dksX3_countsRows_2 7 rfl rfl)
theorem dX3_countsRows_56 : decode cX3_countsRows 56 = .ok (.iconst 0, 1) := dk_3 (dk_at dksX3_countsRows_2 10 rfl rfl)
theorem dX3_countsRows_57 : decode cX3_countsRows 57 = .ok (.istore_n 3, 1) := dk_62 (dk_at dksX3_countsRows_2 11 rfl rfl)
theorem dX3_countsRows_58 : decode cX3_countsRows 58 = .ok (.iload_n 3, 1) := dk_29 (dk_at dksX3_countsRows_2 12 rfl rfl)
theorem dX3_countsRows_59 : decode cX3_countsRows 59 = .ok (.iconst 4, 1) := dk_7 (dk_at dksX3_countsRows_2 13 rfl rfl)
theorem dX3_countsRows_60 : decode cX3_countsRows 60 = .ok (.if_icmp .ge 58, 3) := dk_162 0 58 (dk_at dksX3_countsRows_2 14 rfl rfl)
theorem dX3_countsRows_63 : decode cX3_countsRows 63 = .ok (.iconst 0, 1) := dk_3 (dk_at dksX3_countsRows_2 17 rfl rfl)
theorem dX3_countsRows_64 : decode cX3_countsRows 64 = .ok (.istore 4, 2) := dk_54 4 (dk_at dksX3_countsRows_2 18 rfl rfl)
theorem dX3_countsRows_66 : decode cX3_countsRows 66 = .ok (.iload 4, 2) := dk_21 4 (dk_at dksX3_countsRows_2 20 rfl rfl)
theorem dX3_countsRows_68 : decode cX3_countsRows 68 = .ok (.iconst 4, 1) := dk_7 (dk_at dksX3_countsRows_2 22 rfl rfl)
theorem dX3_countsRows_69 : decode cX3_countsRows 69 = .ok (.if_icmp .ge 43, 3) := dk_162 0 43 (dk_at dksX3_countsRows_3 0 rfl rfl)
theorem dX3_countsRows_72 : decode cX3_countsRows 72 = .ok (.iload_n 2, 1) := dk_28 (dk_at dksX3_countsRows_3 3 rfl rfl)
theorem dX3_countsRows_73 : decode cX3_countsRows 73 = .ok (.iload_n 3, 1) := dk_29 (dk_at dksX3_countsRows_3 4 rfl rfl)
theorem dX3_countsRows_74 : decode cX3_countsRows 74 = .ok (.if_icmp .eq 32, 3) := dk_159 0 32 (dk_at dksX3_countsRows_3 5 rfl rfl)
theorem dX3_countsRows_77 : decode cX3_countsRows 77 = .ok (.iload_n 3, 1) := dk_29 (dk_at dksX3_countsRows_3 8 rfl rfl)
theorem dX3_countsRows_78 : decode cX3_countsRows 78 = .ok (.iload 4, 2) := dk_21 4 (dk_at dksX3_countsRows_3 9 rfl rfl)
theorem dX3_countsRows_80 : decode cX3_countsRows 80 = .ok (.if_icmp .eq 26, 3) := dk_159 0 26 (dk_at dksX3_countsRows_3 11 rfl rfl)
theorem dX3_countsRows_83 : decode cX3_countsRows 83 = .ok (.iload_n 2, 1) := dk_28 (dk_at dksX3_countsRows_3 14 rfl rfl)
theorem dX3_countsRows_84 : decode cX3_countsRows 84 = .ok (.iload 4, 2) := dk_21 4 (dk_at dksX3_countsRows_3 15 rfl rfl)
theorem dX3_countsRows_86 : decode cX3_countsRows 86 = .ok (.if_icmp .eq 20, 3) := dk_159 0 20 (dk_at dksX3_countsRows_3 17 rfl rfl)
theorem dX3_countsRows_89 : decode cX3_countsRows 89 = .ok (.aload_n 0, 1) := dk_42 (dk_at dksX3_countsRows_3 20 rfl rfl)
theorem dX3_countsRows_90 : decode cX3_countsRows 90 = .ok (.iload_n 2, 1) := dk_28 (dk_at dksX3_countsRows_3 21 rfl rfl)
theorem dX3_countsRows_91 : decode cX3_countsRows 91 = .ok (.iload_n 3, 1) := dk_29 (dk_at dksX3_countsRows_3 22 rfl rfl)
theorem dX3_countsRows_92 : decode cX3_countsRows 92 = .ok (.iload 4, 2) := dk_21 4 (dk_at dksX3_countsRows_4 0 rfl rfl)
theorem dX3_countsRows_94 : decode cX3_countsRows 94 = .ok (.bipush 6, 2) := dk_16 6 (dk_at dksX3_countsRows_4 2 rfl rfl)
theorem dX3_countsRows_96 : decode cX3_countsRows 96 = .ok (.iload_n 2, 1) := dk_28 (dk_at dksX3_countsRows_4 4 rfl rfl)
theorem dX3_countsRows_97 : decode cX3_countsRows 97 = .ok (.isub, 1) := dk_100 (dk_at dksX3_countsRows_4 5 rfl rfl)
theorem dX3_countsRows_98 : decode cX3_countsRows 98 = .ok (.iload_n 3, 1) := dk_29 (dk_at dksX3_countsRows_4 6 rfl rfl)
theorem dX3_countsRows_99 : decode cX3_countsRows 99 = .ok (.isub, 1) := dk_100 (dk_at dksX3_countsRows_4 7 rfl rfl)
theorem dX3_countsRows_100 : decode cX3_countsRows 100 = .ok (.iload 4, 2) := dk_21 4 (dk_at dksX3_countsRows_4 8 rfl rfl)
theorem dX3_countsRows_102 : decode cX3_countsRows 102 = .ok (.isub, 1) := dk_100 (dk_at dksX3_countsRows_4 10 rfl rfl)
theorem dX3_countsRows_103 : decode cX3_countsRows 103 = .ok (.invokevirtual 477, 3) := dk_182 1 221 (dk_at dksX3_countsRows_4 11 rfl rfl)
theorem dX3_countsRows_106 : decode cX3_countsRows 106 = .ok (.iinc 4 1, 3) := dk_132 4 1 (dk_at dksX3_countsRows_4 14 rfl rfl)
theorem dX3_countsRows_109 : decode cX3_countsRows 109 = .ok (.goto (-43), 3) := dk_167 255 213 (dk_at dksX3_countsRows_4 17 rfl rfl)
theorem dX3_countsRows_112 : decode cX3_countsRows 112 = .ok (.iinc 3 1, 3) := dk_132 3 1 (dk_at dksX3_countsRows_4 20 rfl rfl)
theorem dX3_countsRows_115 : decode cX3_countsRows 115 = .ok (.goto (-57), 3) := dk_167 255 199 (dk_at dksX3_countsRows_5 0 rfl rfl)
theorem dX3_countsRows_118 : decode cX3_countsRows 118 = .ok (.iinc 2 1, 3) := dk_132 2 1 (dk_at dksX3_countsRows_5 3 rfl rfl)
theorem dX3_countsRows_121 : decode cX3_countsRows 121 = .ok (.goto (-70), 3) := dk_167 255 186 (dk_at dksX3_countsRows_5 6 rfl rfl)
theorem dX3_countsRows_124 : decode cX3_countsRows 124 = .ok (.aload_n 0, 1) := dk_42 (dk_at dksX3_countsRows_5 9 rfl rfl)
theorem dX3_countsRows_125 : decode cX3_countsRows 125 = .ok (.invokevirtual 481, 3) := dk_182 1 225 (dk_at dksX3_countsRows_5 10 rfl rfl)
theorem dX3_countsRows_128 : decode cX3_countsRows 128 = .ok (.lstore_n 2, 1) := dk_65 (dk_at dksX3_countsRows_5 13 rfl rfl)
theorem dX3_countsRows_129 : decode cX3_countsRows 129 = .ok (.aload_n 0, 1) := dk_42 (dk_at dksX3_countsRows_5 14 rfl rfl)
theorem dX3_countsRows_130 : decode cX3_countsRows 130 = .ok (.dup, 1) := dk_89 (dk_at dksX3_countsRows_5 15 rfl rfl)
theorem dX3_countsRows_131 : decode cX3_countsRows 131 = .ok (.getfield 464, 3) := dk_180 1 208 (dk_at dksX3_countsRows_5 16 rfl rfl)
theorem dX3_countsRows_134 : decode cX3_countsRows 134 = .ok (.lload_n 2, 1) := dk_32 (dk_at dksX3_countsRows_5 19 rfl rfl)
theorem dX3_countsRows_135 : decode cX3_countsRows 135 = .ok (.ldiv, 1) := dk_109 (dk_at dksX3_countsRows_5 20 rfl rfl)
theorem dX3_countsRows_136 : decode cX3_countsRows 136 = .ok (.putfield 464, 3) := dk_181 1 208 (dk_at dksX3_countsRows_5 21 rfl rfl)
theorem dX3_countsRows_139 : decode cX3_countsRows 139 = .ok (.aload_n 0, 1) := dk_42 (dk_at dksX3_countsRows_6 0 rfl rfl)
theorem dX3_countsRows_140 : decode cX3_countsRows 140 = .ok (.dup, 1) := dk_89 (dk_at dksX3_countsRows_6 1 rfl rfl)
theorem dX3_countsRows_141 : decode cX3_countsRows 141 = .ok (.getfield 468, 3) := dk_180 1 212 (dk_at dksX3_countsRows_6 2 rfl rfl)
theorem dX3_countsRows_144 : decode cX3_countsRows 144 = .ok (.lload_n 2, 1) := dk_32 (dk_at dksX3_countsRows_6 5 rfl rfl)
theorem dX3_countsRows_145 : decode cX3_countsRows 145 = .ok (.ldiv, 1) := dk_109 (dk_at dksX3_countsRows_6 6 rfl rfl)
theorem dX3_countsRows_146 : decode cX3_countsRows 146 = .ok (.putfield 468, 3) := dk_181 1 212 (dk_at dksX3_countsRows_6 7 rfl rfl)
theorem dX3_countsRows_149 : decode cX3_countsRows 149 = .ok (.aload_n 0, 1) := dk_42 (dk_at dksX3_countsRows_6 10 rfl rfl)
theorem dX3_countsRows_150 : decode cX3_countsRows 150 = .ok (.dup, 1) := dk_89 (dk_at dksX3_countsRows_6 11 rfl rfl)
theorem dX3_countsRows_151 : decode cX3_countsRows 151 = .ok (.getfield 471, 3) := dk_180 1 215 (dk_at dksX3_countsRows_6 12 rfl rfl)
theorem dX3_countsRows_154 : decode cX3_countsRows 154 = .ok (.lload_n 2, 1) := dk_32 (dk_at dksX3_countsRows_6 15 rfl rfl)
theorem dX3_countsRows_155 : decode cX3_countsRows 155 = .ok (.ldiv, 1) := dk_109 (dk_at dksX3_countsRows_6 16 rfl rfl)
theorem dX3_countsRows_156 : decode cX3_countsRows 156 = .ok (.putfield 471, 3) := dk_181 1 215 (dk_at dksX3_countsRows_6 17 rfl rfl)
theorem dX3_countsRows_159 : decode cX3_countsRows 159 = .ok (.aload_n 0, 1) := dk_42 (dk_at dksX3_countsRows_6 20 rfl rfl)
theorem dX3_countsRows_160 : decode cX3_countsRows 160 = .ok (.dup, 1) := dk_89 (dk_at dksX3_countsRows_6 21 rfl rfl)
theorem dX3_countsRows_161 : decode cX3_countsRows 161 = .ok (.getfield 474, 3) := dk_180 1 218 (dk_at dksX3_countsRows_7 0 rfl rfl)
theorem dX3_countsRows_164 : decode cX3_countsRows 164 = .ok (.lload_n 2, 1) := dk_32 (dk_at dksX3_countsRows_7 3 rfl rfl)
theorem dX3_countsRows_165 : decode cX3_countsRows 165 = .ok (.ldiv, 1) := dk_109 (dk_at dksX3_countsRows_7 4 rfl rfl)
theorem dX3_countsRows_166 : decode cX3_countsRows 166 = .ok (.putfield 474, 3) := dk_181 1 218 (dk_at dksX3_countsRows_7 5 rfl rfl)
theorem dX3_countsRows_169 : decode cX3_countsRows 169 = .ok (.return_, 1) := dk_177 (dk_at dksX3_countsRows_7 8 rfl rfl)
abbrev cX3_countsRow : ByteArray := prog_21_method_107_code
def yX3_countsRow : MethodName := ⟨RX3, "countsRow", "(IIII)V"⟩
def dkwX3_countsRow_8 : List UInt8 := [181, 1, 218, 177]
abbrev dktX3_countsRow_8 : List UInt8 := dkwX3_countsRow_8 ++ []
def dkwX3_countsRow_7 : List UInt8 := [180, 0, 51, 21, 5, 47, 42, 180, 0, 55, 21, 7, 47, 105, 42, 180, 0, 55, 21, 8, 47, 105, 97]
abbrev dktX3_countsRow_7 : List UInt8 := dkwX3_countsRow_7 ++ dktX3_countsRow_8
def dkwX3_countsRow_6 : List UInt8 := [180, 0, 51, 21, 8, 47, 105, 97, 181, 1, 215, 21, 5, 21, 6, 160, 0, 35, 42, 89, 180, 1, 218, 42]
abbrev dktX3_countsRow_6 : List UInt8 := dkwX3_countsRow_6 ++ dktX3_countsRow_7
def dkwX3_countsRow_5 : List UInt8 := [160, 0, 34, 21, 6, 21, 7, 160, 0, 27, 42, 89, 180, 1, 215, 42, 180, 0, 51, 21, 5, 47, 42]
abbrev dktX3_countsRow_5 : List UInt8 := dkwX3_countsRow_5 ++ dktX3_countsRow_6
def dkwX3_countsRow_4 : List UInt8 := [180, 0, 51, 21, 5, 47, 42, 180, 0, 51, 21, 7, 47, 105, 97, 181, 1, 212, 21, 5, 21, 6]
abbrev dktX3_countsRow_4 : List UInt8 := dkwX3_countsRow_4 ++ dktX3_countsRow_5
def dkwX3_countsRow_3 : List UInt8 := [181, 1, 208, 21, 5, 21, 6, 160, 0, 34, 21, 7, 21, 8, 160, 0, 27, 42, 89, 180, 1, 212, 42]
abbrev dktX3_countsRow_3 : List UInt8 := dkwX3_countsRow_3 ++ dktX3_countsRow_4
def dkwX3_countsRow_2 : List UInt8 := [180, 0, 51, 21, 6, 47, 105, 42, 180, 0, 51, 21, 7, 47, 105, 42, 180, 0, 51, 21, 8, 47, 105, 97]
abbrev dktX3_countsRow_2 : List UInt8 := dkwX3_countsRow_2 ++ dktX3_countsRow_3
def dkwX3_countsRow_1 : List UInt8 := [42, 180, 0, 127, 21, 4, 46, 54, 8, 42, 89, 180, 1, 208, 42, 180, 0, 51, 21, 5, 47, 42]
abbrev dktX3_countsRow_1 : List UInt8 := dkwX3_countsRow_1 ++ dktX3_countsRow_2
def dkwX3_countsRow_0 : List UInt8 := [42, 180, 0, 127, 27, 46, 54, 5, 42, 180, 0, 127, 28, 46, 54, 6, 42, 180, 0, 127, 29, 46, 54, 7]
abbrev dktX3_countsRow_0 : List UInt8 := dkwX3_countsRow_0 ++ dktX3_countsRow_1
theorem dksX3_countsRow_0 : cX3_countsRow.data.toList.drop 0 = dktX3_countsRow_0 := by decide +kernel
theorem dksX3_countsRow_1 : cX3_countsRow.data.toList.drop 24 = dktX3_countsRow_1 := dk_seg dksX3_countsRow_0 24 rfl rfl
theorem dksX3_countsRow_2 : cX3_countsRow.data.toList.drop 46 = dktX3_countsRow_2 := dk_seg dksX3_countsRow_1 22 rfl rfl
theorem dksX3_countsRow_3 : cX3_countsRow.data.toList.drop 70 = dktX3_countsRow_3 := dk_seg dksX3_countsRow_2 24 rfl rfl
theorem dksX3_countsRow_4 : cX3_countsRow.data.toList.drop 93 = dktX3_countsRow_4 := dk_seg dksX3_countsRow_3 23 rfl rfl
theorem dksX3_countsRow_5 : cX3_countsRow.data.toList.drop 115 = dktX3_countsRow_5 := dk_seg dksX3_countsRow_4 22 rfl rfl
theorem dksX3_countsRow_6 : cX3_countsRow.data.toList.drop 138 = dktX3_countsRow_6 := dk_seg dksX3_countsRow_5 23 rfl rfl
theorem dksX3_countsRow_7 : cX3_countsRow.data.toList.drop 162 = dktX3_countsRow_7 := dk_seg dksX3_countsRow_6 24 rfl rfl
theorem dksX3_countsRow_8 : cX3_countsRow.data.toList.drop 185 = dktX3_countsRow_8 := dk_seg dksX3_countsRow_7 23 rfl rfl
theorem dX3_countsRow_0 : decode cX3_countsRow 0 = .ok (.aload_n 0, 1) := dk_42 (dk_at dksX3_countsRow_0 0 rfl rfl)
theorem dX3_countsRow_1 : decode cX3_countsRow 1 = .ok (.getfield 127, 3) := dk_180 0 127 (dk_at dksX3_countsRow_0 1 rfl rfl)
theorem dX3_countsRow_4 : decode cX3_countsRow 4 = .ok (.iload_n 1, 1) := dk_27 (dk_at dksX3_countsRow_0 4 rfl rfl)
theorem dX3_countsRow_5 : decode cX3_countsRow 5 = .ok (.iaload, 1) := dk_46 (dk_at dksX3_countsRow_0 5 rfl rfl)
theorem dX3_countsRow_6 : decode cX3_countsRow 6 = .ok (.istore 5, 2) := dk_54 5 (dk_at dksX3_countsRow_0 6 rfl rfl)
theorem dX3_countsRow_8 : decode cX3_countsRow 8 = .ok (.aload_n 0, 1) := dk_42 (dk_at dksX3_countsRow_0 8 rfl rfl)
theorem dX3_countsRow_9 : decode cX3_countsRow 9 = .ok (.getfield 127, 3) := dk_180 0 127 (dk_at dksX3_countsRow_0 9 rfl rfl)
theorem dX3_countsRow_12 : decode cX3_countsRow 12 = .ok (.iload_n 2, 1) := dk_28 (dk_at dksX3_countsRow_0 12 rfl rfl)
theorem dX3_countsRow_13 : decode cX3_countsRow 13 = .ok (.iaload, 1) := dk_46 (dk_at dksX3_countsRow_0 13 rfl rfl)
theorem dX3_countsRow_14 : decode cX3_countsRow 14 = .ok (.istore 6, 2) := dk_54 6 (dk_at dksX3_countsRow_0 14 rfl rfl)
theorem dX3_countsRow_16 : decode cX3_countsRow 16 = .ok (.aload_n 0, 1) := dk_42 (dk_at dksX3_countsRow_0 16 rfl rfl)
theorem dX3_countsRow_17 : decode cX3_countsRow 17 = .ok (.getfield 127, 3) := dk_180 0 127 (dk_at dksX3_countsRow_0 17 rfl rfl)
theorem dX3_countsRow_20 : decode cX3_countsRow 20 = .ok (.iload_n 3, 1) := dk_29 (dk_at dksX3_countsRow_0 20 rfl rfl)
theorem dX3_countsRow_21 : decode cX3_countsRow 21 = .ok (.iaload, 1) := dk_46 (dk_at dksX3_countsRow_0 21 rfl rfl)
theorem dX3_countsRow_22 : decode cX3_countsRow 22 = .ok (.istore 7, 2) := dk_54 7 (dk_at dksX3_countsRow_0 22 rfl rfl)
theorem dX3_countsRow_24 : decode cX3_countsRow 24 = .ok (.aload_n 0, 1) := dk_42 (dk_at dksX3_countsRow_1 0 rfl rfl)
theorem dX3_countsRow_25 : decode cX3_countsRow 25 = .ok (.getfield 127, 3) := dk_180 0 127 (dk_at dksX3_countsRow_1 1 rfl rfl)
theorem dX3_countsRow_28 : decode cX3_countsRow 28 = .ok (.iload 4, 2) := dk_21 4 (dk_at dksX3_countsRow_1 4 rfl rfl)
theorem dX3_countsRow_30 : decode cX3_countsRow 30 = .ok (.iaload, 1) := dk_46 (dk_at dksX3_countsRow_1 6 rfl rfl)
theorem dX3_countsRow_31 : decode cX3_countsRow 31 = .ok (.istore 8, 2) := dk_54 8 (dk_at dksX3_countsRow_1 7 rfl rfl)
theorem dX3_countsRow_33 : decode cX3_countsRow 33 = .ok (.aload_n 0, 1) := dk_42 (dk_at dksX3_countsRow_1 9 rfl rfl)
theorem dX3_countsRow_34 : decode cX3_countsRow 34 = .ok (.dup, 1) := dk_89 (dk_at dksX3_countsRow_1 10 rfl rfl)
theorem dX3_countsRow_35 : decode cX3_countsRow 35 = .ok (.getfield 464, 3) := dk_180 1 208 (dk_at dksX3_countsRow_1 11 rfl rfl)
theorem dX3_countsRow_38 : decode cX3_countsRow 38 = .ok (.aload_n 0, 1) := dk_42 (dk_at dksX3_countsRow_1 14 rfl rfl)
theorem dX3_countsRow_39 : decode cX3_countsRow 39 = .ok (.getfield 51, 3) := dk_180 0 51 (dk_at dksX3_countsRow_1 15 rfl rfl)
theorem dX3_countsRow_42 : decode cX3_countsRow 42 = .ok (.iload 5, 2) := dk_21 5 (dk_at dksX3_countsRow_1 18 rfl rfl)
theorem dX3_countsRow_44 : decode cX3_countsRow 44 = .ok (.laload, 1) := dk_47 (dk_at dksX3_countsRow_1 20 rfl rfl)
theorem dX3_countsRow_45 : decode cX3_countsRow 45 = .ok (.aload_n 0, 1) := dk_42 (dk_at dksX3_countsRow_1 21 rfl rfl)
theorem dX3_countsRow_46 : decode cX3_countsRow 46 = .ok (.getfield 51, 3) := dk_180 0 51 (dk_at dksX3_countsRow_2 0 rfl rfl)
theorem dX3_countsRow_49 : decode cX3_countsRow 49 = .ok (.iload 6, 2) := dk_21 6 (dk_at dksX3_countsRow_2 3 rfl rfl)
theorem dX3_countsRow_51 : decode cX3_countsRow 51 = .ok (.laload, 1) := dk_47 (dk_at dksX3_countsRow_2 5 rfl rfl)
theorem dX3_countsRow_52 : decode cX3_countsRow 52 = .ok (.lmul, 1) := dk_105 (dk_at dksX3_countsRow_2 6 rfl rfl)
theorem dX3_countsRow_53 : decode cX3_countsRow 53 = .ok (.aload_n 0, 1) := dk_42 (dk_at dksX3_countsRow_2 7 rfl rfl)
theorem dX3_countsRow_54 : decode cX3_countsRow 54 = .ok (.getfield 51, 3) := dk_180 0 51 (dk_at dksX3_countsRow_2 8 rfl rfl)
theorem dX3_countsRow_57 : decode cX3_countsRow 57 = .ok (.iload 7, 2) := dk_21 7 (dk_at dksX3_countsRow_2 11 rfl rfl)
theorem dX3_countsRow_59 : decode cX3_countsRow 59 = .ok (.laload, 1) := dk_47 (dk_at dksX3_countsRow_2 13 rfl rfl)
theorem dX3_countsRow_60 : decode cX3_countsRow 60 = .ok (.lmul, 1) := dk_105 (dk_at dksX3_countsRow_2 14 rfl rfl)
theorem dX3_countsRow_61 : decode cX3_countsRow 61 = .ok (.aload_n 0, 1) := dk_42 (dk_at dksX3_countsRow_2 15 rfl rfl)
theorem dX3_countsRow_62 : decode cX3_countsRow 62 = .ok (.getfield 51, 3) := dk_180 0 51 (dk_at dksX3_countsRow_2 16 rfl rfl)
theorem dX3_countsRow_65 : decode cX3_countsRow 65 = .ok (.iload 8, 2) := dk_21 8 (dk_at dksX3_countsRow_2 19 rfl rfl)
theorem dX3_countsRow_67 : decode cX3_countsRow 67 = .ok (.laload, 1) := dk_47 (dk_at dksX3_countsRow_2 21 rfl rfl)
theorem dX3_countsRow_68 : decode cX3_countsRow 68 = .ok (.lmul, 1) := dk_105 (dk_at dksX3_countsRow_2 22 rfl rfl)
theorem dX3_countsRow_69 : decode cX3_countsRow 69 = .ok (.ladd, 1) := dk_97 (dk_at dksX3_countsRow_2 23 rfl rfl)
theorem dX3_countsRow_70 : decode cX3_countsRow 70 = .ok (.putfield 464, 3) := dk_181 1 208 (dk_at dksX3_countsRow_3 0 rfl rfl)
theorem dX3_countsRow_73 : decode cX3_countsRow 73 = .ok (.iload 5, 2) := dk_21 5 (dk_at dksX3_countsRow_3 3 rfl rfl)
theorem dX3_countsRow_75 : decode cX3_countsRow 75 = .ok (.iload 6, 2) := dk_21 6 (dk_at dksX3_countsRow_3 5 rfl rfl)
theorem dX3_countsRow_77 : decode cX3_countsRow 77 = .ok (.if_icmp .ne 34, 3) := dk_160 0 34 (dk_at dksX3_countsRow_3 7 rfl rfl)
theorem dX3_countsRow_80 : decode cX3_countsRow 80 = .ok (.iload 7, 2) := dk_21 7 (dk_at dksX3_countsRow_3 10 rfl rfl)
theorem dX3_countsRow_82 : decode cX3_countsRow 82 = .ok (.iload 8, 2) := dk_21 8 (dk_at dksX3_countsRow_3 12 rfl rfl)
theorem dX3_countsRow_84 : decode cX3_countsRow 84 = .ok (.if_icmp .ne 27, 3) := dk_160 0 27 (dk_at dksX3_countsRow_3 14 rfl rfl)
theorem dX3_countsRow_87 : decode cX3_countsRow 87 = .ok (.aload_n 0, 1) := dk_42 (dk_at dksX3_countsRow_3 17 rfl rfl)
theorem dX3_countsRow_88 : decode cX3_countsRow 88 = .ok (.dup, 1) := dk_89 (dk_at dksX3_countsRow_3 18 rfl rfl)
theorem dX3_countsRow_89 : decode cX3_countsRow 89 = .ok (.getfield 468, 3) := dk_180 1 212 (dk_at dksX3_countsRow_3 19 rfl rfl)
theorem dX3_countsRow_92 : decode cX3_countsRow 92 = .ok (.aload_n 0, 1) := dk_42 (dk_at dksX3_countsRow_3 22 rfl rfl)
theorem dX3_countsRow_93 : decode cX3_countsRow 93 = .ok (.getfield 51, 3) := dk_180 0 51 (dk_at dksX3_countsRow_4 0 rfl rfl)
theorem dX3_countsRow_96 : decode cX3_countsRow 96 = .ok (.iload 5, 2) := dk_21 5 (dk_at dksX3_countsRow_4 3 rfl rfl)
theorem dX3_countsRow_98 : decode cX3_countsRow 98 = .ok (.laload, 1) := dk_47 (dk_at dksX3_countsRow_4 5 rfl rfl)
theorem dX3_countsRow_99 : decode cX3_countsRow 99 = .ok (.aload_n 0, 1) := dk_42 (dk_at dksX3_countsRow_4 6 rfl rfl)
theorem dX3_countsRow_100 : decode cX3_countsRow 100 = .ok (.getfield 51, 3) := dk_180 0 51 (dk_at dksX3_countsRow_4 7 rfl rfl)
theorem dX3_countsRow_103 : decode cX3_countsRow 103 = .ok (.iload 7, 2) := dk_21 7 (dk_at dksX3_countsRow_4 10 rfl rfl)
theorem dX3_countsRow_105 : decode cX3_countsRow 105 = .ok (.laload, 1) := dk_47 (dk_at dksX3_countsRow_4 12 rfl rfl)
theorem dX3_countsRow_106 : decode cX3_countsRow 106 = .ok (.lmul, 1) := dk_105 (dk_at dksX3_countsRow_4 13 rfl rfl)
theorem dX3_countsRow_107 : decode cX3_countsRow 107 = .ok (.ladd, 1) := dk_97 (dk_at dksX3_countsRow_4 14 rfl rfl)
theorem dX3_countsRow_108 : decode cX3_countsRow 108 = .ok (.putfield 468, 3) := dk_181 1 212 (dk_at dksX3_countsRow_4 15 rfl rfl)
theorem dX3_countsRow_111 : decode cX3_countsRow 111 = .ok (.iload 5, 2) := dk_21 5 (dk_at dksX3_countsRow_4 18 rfl rfl)
theorem dX3_countsRow_113 : decode cX3_countsRow 113 = .ok (.iload 6, 2) := dk_21 6 (dk_at dksX3_countsRow_4 20 rfl rfl)
theorem dX3_countsRow_115 : decode cX3_countsRow 115 = .ok (.if_icmp .ne 34, 3) := dk_160 0 34 (dk_at dksX3_countsRow_5 0 rfl rfl)
theorem dX3_countsRow_118 : decode cX3_countsRow 118 = .ok (.iload 6, 2) := dk_21 6 (dk_at dksX3_countsRow_5 3 rfl rfl)
theorem dX3_countsRow_120 : decode cX3_countsRow 120 = .ok (.iload 7, 2) := dk_21 7 (dk_at dksX3_countsRow_5 5 rfl rfl)
theorem dX3_countsRow_122 : decode cX3_countsRow 122 = .ok (.if_icmp .ne 27, 3) := dk_160 0 27 (dk_at dksX3_countsRow_5 7 rfl rfl)
theorem dX3_countsRow_125 : decode cX3_countsRow 125 = .ok (.aload_n 0, 1) := dk_42 (dk_at dksX3_countsRow_5 10 rfl rfl)
theorem dX3_countsRow_126 : decode cX3_countsRow 126 = .ok (.dup, 1) := dk_89 (dk_at dksX3_countsRow_5 11 rfl rfl)
theorem dX3_countsRow_127 : decode cX3_countsRow 127 = .ok (.getfield 471, 3) := dk_180 1 215 (dk_at dksX3_countsRow_5 12 rfl rfl)
theorem dX3_countsRow_130 : decode cX3_countsRow 130 = .ok (.aload_n 0, 1) := dk_42 (dk_at dksX3_countsRow_5 15 rfl rfl)
theorem dX3_countsRow_131 : decode cX3_countsRow 131 = .ok (.getfield 51, 3) := dk_180 0 51 (dk_at dksX3_countsRow_5 16 rfl rfl)
theorem dX3_countsRow_134 : decode cX3_countsRow 134 = .ok (.iload 5, 2) := dk_21 5 (dk_at dksX3_countsRow_5 19 rfl rfl)
theorem dX3_countsRow_136 : decode cX3_countsRow 136 = .ok (.laload, 1) := dk_47 (dk_at dksX3_countsRow_5 21 rfl rfl)
theorem dX3_countsRow_137 : decode cX3_countsRow 137 = .ok (.aload_n 0, 1) := dk_42 (dk_at dksX3_countsRow_5 22 rfl rfl)
theorem dX3_countsRow_138 : decode cX3_countsRow 138 = .ok (.getfield 51, 3) := dk_180 0 51 (dk_at dksX3_countsRow_6 0 rfl rfl)
theorem dX3_countsRow_141 : decode cX3_countsRow 141 = .ok (.iload 8, 2) := dk_21 8 (dk_at dksX3_countsRow_6 3 rfl rfl)
theorem dX3_countsRow_143 : decode cX3_countsRow 143 = .ok (.laload, 1) := dk_47 (dk_at dksX3_countsRow_6 5 rfl rfl)
theorem dX3_countsRow_144 : decode cX3_countsRow 144 = .ok (.lmul, 1) := dk_105 (dk_at dksX3_countsRow_6 6 rfl rfl)
theorem dX3_countsRow_145 : decode cX3_countsRow 145 = .ok (.ladd, 1) := dk_97 (dk_at dksX3_countsRow_6 7 rfl rfl)
theorem dX3_countsRow_146 : decode cX3_countsRow 146 = .ok (.putfield 471, 3) := dk_181 1 215 (dk_at dksX3_countsRow_6 8 rfl rfl)
theorem dX3_countsRow_149 : decode cX3_countsRow 149 = .ok (.iload 5, 2) := dk_21 5 (dk_at dksX3_countsRow_6 11 rfl rfl)
theorem dX3_countsRow_151 : decode cX3_countsRow 151 = .ok (.iload 6, 2) := dk_21 6 (dk_at dksX3_countsRow_6 13 rfl rfl)
theorem dX3_countsRow_153 : decode cX3_countsRow 153 = .ok (.if_icmp .ne 35, 3) := dk_160 0 35 (dk_at dksX3_countsRow_6 15 rfl rfl)
theorem dX3_countsRow_156 : decode cX3_countsRow 156 = .ok (.aload_n 0, 1) := dk_42 (dk_at dksX3_countsRow_6 18 rfl rfl)
theorem dX3_countsRow_157 : decode cX3_countsRow 157 = .ok (.dup, 1) := dk_89 (dk_at dksX3_countsRow_6 19 rfl rfl)
theorem dX3_countsRow_158 : decode cX3_countsRow 158 = .ok (.getfield 474, 3) := dk_180 1 218 (dk_at dksX3_countsRow_6 20 rfl rfl)
theorem dX3_countsRow_161 : decode cX3_countsRow 161 = .ok (.aload_n 0, 1) := dk_42 (dk_at dksX3_countsRow_6 23 rfl rfl)
theorem dX3_countsRow_162 : decode cX3_countsRow 162 = .ok (.getfield 51, 3) := dk_180 0 51 (dk_at dksX3_countsRow_7 0 rfl rfl)
theorem dX3_countsRow_165 : decode cX3_countsRow 165 = .ok (.iload 5, 2) := dk_21 5 (dk_at dksX3_countsRow_7 3 rfl rfl)
theorem dX3_countsRow_167 : decode cX3_countsRow 167 = .ok (.laload, 1) := dk_47 (dk_at dksX3_countsRow_7 5 rfl rfl)
theorem dX3_countsRow_168 : decode cX3_countsRow 168 = .ok (.aload_n 0, 1) := dk_42 (dk_at dksX3_countsRow_7 6 rfl rfl)
theorem dX3_countsRow_169 : decode cX3_countsRow 169 = .ok (.getfield 55, 3) := dk_180 0 55 (dk_at dksX3_countsRow_7 7 rfl rfl)
theorem dX3_countsRow_172 : decode cX3_countsRow 172 = .ok (.iload 7, 2) := dk_21 7 (dk_at dksX3_countsRow_7 10 rfl rfl)
theorem dX3_countsRow_174 : decode cX3_countsRow 174 = .ok (.laload, 1) := dk_47 (dk_at dksX3_countsRow_7 12 rfl rfl)
theorem dX3_countsRow_175 : decode cX3_countsRow 175 = .ok (.lmul, 1) := dk_105 (dk_at dksX3_countsRow_7 13 rfl rfl)
theorem dX3_countsRow_176 : decode cX3_countsRow 176 = .ok (.aload_n 0, 1) := dk_42 (dk_at dksX3_countsRow_7 14 rfl rfl)
theorem dX3_countsRow_177 : decode cX3_countsRow 177 = .ok (.getfield 55, 3) := dk_180 0 55 (dk_at dksX3_countsRow_7 15 rfl rfl)
theorem dX3_countsRow_180 : decode cX3_countsRow 180 = .ok (.iload 8, 2) := dk_21 8 (dk_at dksX3_countsRow_7 18 rfl rfl)
theorem dX3_countsRow_182 : decode cX3_countsRow 182 = .ok (.laload, 1) := dk_47 (dk_at dksX3_countsRow_7 20 rfl rfl)
theorem dX3_countsRow_183 : decode cX3_countsRow 183 = .ok (.lmul, 1) := dk_105 (dk_at dksX3_countsRow_7 21 rfl rfl)
theorem dX3_countsRow_184 : decode cX3_countsRow 184 = .ok (.ladd, 1) := dk_97 (dk_at dksX3_countsRow_7 22 rfl rfl)
theorem dX3_countsRow_185 : decode cX3_countsRow 185 = .ok (.putfield 474, 3) := dk_181 1 218 (dk_at dksX3_countsRow_8 0 rfl rfl)
theorem dX3_countsRow_188 : decode cX3_countsRow 188 = .ok (.return_, 1) := dk_177 (dk_at dksX3_countsRow_8 3 rfl rfl)
abbrev cX3_sameRows : ByteArray := prog_21_method_108_code
def yX3_sameRows : MethodName := ⟨RX3, "sameRows", "()J"⟩
def dkwX3_sameRows_2 : List UInt8 := [167, 255, 215, 31, 173]
abbrev dktX3_sameRows_2 : List UInt8 := dkwX3_sameRows_2 ++ []
def dkwX3_sameRows_1 : List UInt8 := [21, 4, 4, 100, 46, 160, 0, 9, 29, 4, 96, 167, 0, 4, 4, 62, 31, 29, 133, 105, 64, 132, 4, 1]
abbrev dktX3_sameRows_1 : List UInt8 := dkwX3_sameRows_1 ++ dktX3_sameRows_2
def dkwX3_sameRows_0 : List UInt8 := [10, 64, 4, 62, 4, 54, 4, 21, 4, 7, 162, 0, 41, 42, 180, 0, 127, 21, 4, 46, 42, 180, 0, 127]
abbrev dktX3_sameRows_0 : List UInt8 := dkwX3_sameRows_0 ++ dktX3_sameRows_1
theorem dksX3_sameRows_0 : cX3_sameRows.data.toList.drop 0 = dktX3_sameRows_0 := by decide +kernel
theorem dksX3_sameRows_1 : cX3_sameRows.data.toList.drop 24 = dktX3_sameRows_1 := dk_seg dksX3_sameRows_0 24 rfl rfl
theorem dksX3_sameRows_2 : cX3_sameRows.data.toList.drop 48 = dktX3_sameRows_2 := dk_seg dksX3_sameRows_1 24 rfl rfl
theorem dX3_sameRows_0 : decode cX3_sameRows 0 = .ok (.lconst 1, 1) := dk_10 (dk_at dksX3_sameRows_0 0 rfl rfl)
theorem dX3_sameRows_1 : decode cX3_sameRows 1 = .ok (.lstore_n 1, 1) := dk_64 (dk_at dksX3_sameRows_0 1 rfl rfl)
theorem dX3_sameRows_2 : decode cX3_sameRows 2 = .ok (.iconst 1, 1) := dk_4 (dk_at dksX3_sameRows_0 2 rfl rfl)
theorem dX3_sameRows_3 : decode cX3_sameRows 3 = .ok (.istore_n 3, 1) := dk_62 (dk_at dksX3_sameRows_0 3 rfl rfl)
theorem dX3_sameRows_4 : decode cX3_sameRows 4 = .ok (.iconst 1, 1) := dk_4 (dk_at dksX3_sameRows_0 4 rfl rfl)
theorem dX3_sameRows_5 : decode cX3_sameRows 5 = .ok (.istore 4, 2) := dk_54 4 (dk_at dksX3_sameRows_0 5 rfl rfl)
theorem dX3_sameRows_7 : decode cX3_sameRows 7 = .ok (.iload 4, 2) := dk_21 4 (dk_at dksX3_sameRows_0 7 rfl rfl)
theorem dX3_sameRows_9 : decode cX3_sameRows 9 = .ok (.iconst 4, 1) := dk_7 (dk_at dksX3_sameRows_0 9 rfl rfl)
theorem dX3_sameRows_10 : decode cX3_sameRows 10 = .ok (.if_icmp .ge 41, 3) := dk_162 0 41 (dk_at dksX3_sameRows_0 10 rfl rfl)
theorem dX3_sameRows_13 : decode cX3_sameRows 13 = .ok (.aload_n 0, 1) := dk_42 (dk_at dksX3_sameRows_0 13 rfl rfl)
theorem dX3_sameRows_14 : decode cX3_sameRows 14 = .ok (.getfield 127, 3) := dk_180 0 127 (dk_at dksX3_sameRows_0 14 rfl rfl)
theorem dX3_sameRows_17 : decode cX3_sameRows 17 = .ok (.iload 4, 2) := dk_21 4 (dk_at dksX3_sameRows_0 17 rfl rfl)
theorem dX3_sameRows_19 : decode cX3_sameRows 19 = .ok (.iaload, 1) := dk_46 (dk_at dksX3_sameRows_0 19 rfl rfl)
theorem dX3_sameRows_20 : decode cX3_sameRows 20 = .ok (.aload_n 0, 1) := dk_42 (dk_at dksX3_sameRows_0 20 rfl rfl)
theorem dX3_sameRows_21 : decode cX3_sameRows 21 = .ok (.getfield 127, 3) := dk_180 0 127 (dk_at dksX3_sameRows_0 21 rfl rfl)
theorem dX3_sameRows_24 : decode cX3_sameRows 24 = .ok (.iload 4, 2) := dk_21 4 (dk_at dksX3_sameRows_1 0 rfl rfl)
theorem dX3_sameRows_26 : decode cX3_sameRows 26 = .ok (.iconst 1, 1) := dk_4 (dk_at dksX3_sameRows_1 2 rfl rfl)
theorem dX3_sameRows_27 : decode cX3_sameRows 27 = .ok (.isub, 1) := dk_100 (dk_at dksX3_sameRows_1 3 rfl rfl)
theorem dX3_sameRows_28 : decode cX3_sameRows 28 = .ok (.iaload, 1) := dk_46 (dk_at dksX3_sameRows_1 4 rfl rfl)
theorem dX3_sameRows_29 : decode cX3_sameRows 29 = .ok (.if_icmp .ne 9, 3) := dk_160 0 9 (dk_at dksX3_sameRows_1 5 rfl rfl)
theorem dX3_sameRows_32 : decode cX3_sameRows 32 = .ok (.iload_n 3, 1) := dk_29 (dk_at dksX3_sameRows_1 8 rfl rfl)
theorem dX3_sameRows_33 : decode cX3_sameRows 33 = .ok (.iconst 1, 1) := dk_4 (dk_at dksX3_sameRows_1 9 rfl rfl)
theorem dX3_sameRows_34 : decode cX3_sameRows 34 = .ok (.iadd, 1) := dk_96 (dk_at dksX3_sameRows_1 10 rfl rfl)
theorem dX3_sameRows_35 : decode cX3_sameRows 35 = .ok (.goto 4, 3) := dk_167 0 4 (dk_at dksX3_sameRows_1 11 rfl rfl)
theorem dX3_sameRows_38 : decode cX3_sameRows 38 = .ok (.iconst 1, 1) := dk_4 (dk_at dksX3_sameRows_1 14 rfl rfl)
theorem dX3_sameRows_39 : decode cX3_sameRows 39 = .ok (.istore_n 3, 1) := dk_62 (dk_at dksX3_sameRows_1 15 rfl rfl)
theorem dX3_sameRows_40 : decode cX3_sameRows 40 = .ok (.lload_n 1, 1) := dk_31 (dk_at dksX3_sameRows_1 16 rfl rfl)
theorem dX3_sameRows_41 : decode cX3_sameRows 41 = .ok (.iload_n 3, 1) := dk_29 (dk_at dksX3_sameRows_1 17 rfl rfl)
theorem dX3_sameRows_42 : decode cX3_sameRows 42 = .ok (.i2l, 1) := dk_133 (dk_at dksX3_sameRows_1 18 rfl rfl)
theorem dX3_sameRows_43 : decode cX3_sameRows 43 = .ok (.lmul, 1) := dk_105 (dk_at dksX3_sameRows_1 19 rfl rfl)
theorem dX3_sameRows_44 : decode cX3_sameRows 44 = .ok (.lstore_n 1, 1) := dk_64 (dk_at dksX3_sameRows_1 20 rfl rfl)
theorem dX3_sameRows_45 : decode cX3_sameRows 45 = .ok (.iinc 4 1, 3) := dk_132 4 1 (dk_at dksX3_sameRows_1 21 rfl rfl)
theorem dX3_sameRows_48 : decode cX3_sameRows 48 = .ok (.goto (-41), 3) := dk_167 255 215 (dk_at dksX3_sameRows_2 0 rfl rfl)
theorem dX3_sameRows_51 : decode cX3_sameRows 51 = .ok (.lload_n 1, 1) := dk_31 (dk_at dksX3_sameRows_2 3 rfl rfl)
theorem dX3_sameRows_52 : decode cX3_sameRows 52 = .ok (.lreturn, 1) := dk_173 (dk_at dksX3_sameRows_2 4 rfl rfl)
abbrev cX3_allOwn : ByteArray := prog_21_method_111_code
def yX3_allOwn : MethodName := ⟨RX3, "allOwn", "()J"⟩
def dkwX3_allOwn_5 : List UInt8 := [47, 97, 20, 0, 156, 109, 167, 0, 17, 42, 180, 0, 55, 29, 47, 42, 180, 0, 55, 21, 4, 47, 105, 173]
abbrev dktX3_allOwn_5 : List UInt8 := dkwX3_allOwn_5 ++ []
def dkwX3_allOwn_4 : List UInt8 := [29, 21, 4, 160, 0, 30, 42, 180, 0, 55, 29, 47, 42, 180, 0, 55, 29, 47, 105, 42, 180, 0, 51, 29]
abbrev dktX3_allOwn_4 : List UInt8 := dkwX3_allOwn_4 ++ dktX3_allOwn_5
def dkwX3_allOwn_3 : List UInt8 := [180, 0, 67, 16, 16, 28, 104, 27, 96, 46, 62, 42, 180, 0, 67, 16, 16, 27, 104, 28, 96, 46, 54, 4]
abbrev dktX3_allOwn_3 : List UInt8 := dkwX3_allOwn_3 ++ dktX3_allOwn_4
def dkwX3_allOwn_2 : List UInt8 := [180, 0, 127, 3, 46, 47, 167, 0, 4, 9, 66, 42, 180, 1, 218, 33, 97, 20, 0, 156, 109, 173, 42]
abbrev dktX3_allOwn_2 : List UInt8 := dkwX3_allOwn_2 ++ dktX3_allOwn_3
def dkwX3_allOwn_1 : List UInt8 := [182, 1, 229, 42, 180, 0, 127, 3, 46, 42, 180, 0, 127, 6, 46, 160, 0, 17, 42, 180, 0, 51, 42]
abbrev dktX3_allOwn_1 : List UInt8 := dkwX3_allOwn_1 ++ dktX3_allOwn_2
def dkwX3_allOwn_0 : List UInt8 := [42, 3, 182, 1, 79, 60, 42, 4, 182, 1, 79, 61, 28, 2, 160, 0, 54, 42, 42, 27, 182, 1, 176]
abbrev dktX3_allOwn_0 : List UInt8 := dkwX3_allOwn_0 ++ dktX3_allOwn_1
theorem dksX3_allOwn_0 : cX3_allOwn.data.toList.drop 0 = dktX3_allOwn_0 := by decide +kernel
theorem dksX3_allOwn_1 : cX3_allOwn.data.toList.drop 23 = dktX3_allOwn_1 := dk_seg dksX3_allOwn_0 23 rfl rfl
theorem dksX3_allOwn_2 : cX3_allOwn.data.toList.drop 46 = dktX3_allOwn_2 := dk_seg dksX3_allOwn_1 23 rfl rfl
theorem dksX3_allOwn_3 : cX3_allOwn.data.toList.drop 69 = dktX3_allOwn_3 := dk_seg dksX3_allOwn_2 23 rfl rfl
theorem dksX3_allOwn_4 : cX3_allOwn.data.toList.drop 93 = dktX3_allOwn_4 := dk_seg dksX3_allOwn_3 24 rfl rfl
theorem dksX3_allOwn_5 : cX3_allOwn.data.toList.drop 117 = dktX3_allOwn_5 := dk_seg dksX3_allOwn_4 24 rfl rfl
theorem dX3_allOwn_0 : decode cX3_allOwn 0 = .ok (.aload_n 0, 1) := dk_42 (dk_at dksX3_allOwn_0 0 rfl rfl)
theorem dX3_allOwn_1 : decode cX3_allOwn 1 = .ok (.iconst 0, 1) := dk_3 (dk_at dksX3_allOwn_0 1 rfl rfl)
theorem dX3_allOwn_2 : decode cX3_allOwn 2 = .ok (.invokevirtual 335, 3) := dk_182 1 79 (dk_at dksX3_allOwn_0 2 rfl rfl)
theorem dX3_allOwn_5 : decode cX3_allOwn 5 = .ok (.istore_n 1, 1) := dk_60 (dk_at dksX3_allOwn_0 5 rfl rfl)
theorem dX3_allOwn_6 : decode cX3_allOwn 6 = .ok (.aload_n 0, 1) := dk_42 (dk_at dksX3_allOwn_0 6 rfl rfl)
theorem dX3_allOwn_7 : decode cX3_allOwn 7 = .ok (.iconst 1, 1) := dk_4 (dk_at dksX3_allOwn_0 7 rfl rfl)
theorem dX3_allOwn_8 : decode cX3_allOwn 8 = .ok (.invokevirtual 335, 3) := dk_182 1 79 (dk_at dksX3_allOwn_0 8 rfl rfl)
theorem dX3_allOwn_11 : decode cX3_allOwn 11 = .ok (.istore_n 2, 1) := dk_61 (dk_at dksX3_allOwn_0 11 rfl rfl)
theorem dX3_allOwn_12 : decode cX3_allOwn 12 = .ok (.iload_n 2, 1) := dk_28 (dk_at dksX3_allOwn_0 12 rfl rfl)
theorem dX3_allOwn_13 : decode cX3_allOwn 13 = .ok (.iconst (-1), 1) := dk_2 (dk_at dksX3_allOwn_0 13 rfl rfl)
theorem dX3_allOwn_14 : decode cX3_allOwn 14 = .ok (.if_icmp .ne 54, 3) := dk_160 0 54 (dk_at dksX3_allOwn_0 14 rfl rfl)
theorem dX3_allOwn_17 : decode cX3_allOwn 17 = .ok (.aload_n 0, 1) := dk_42 (dk_at dksX3_allOwn_0 17 rfl rfl)
theorem dX3_allOwn_18 : decode cX3_allOwn 18 = .ok (.aload_n 0, 1) := dk_42 (dk_at dksX3_allOwn_0 18 rfl rfl)
theorem dX3_allOwn_19 : decode cX3_allOwn 19 = .ok (.iload_n 1, 1) := dk_27 (dk_at dksX3_allOwn_0 19 rfl rfl)
theorem dX3_allOwn_20 : decode cX3_allOwn 20 = .ok (.invokevirtual 432, 3) := dk_182 1 176 (dk_at dksX3_allOwn_0 20 rfl rfl)
theorem dX3_allOwn_23 : decode cX3_allOwn 23 = .ok (.invokevirtual 485, 3) := dk_182 1 229 (dk_at dksX3_allOwn_1 0 rfl rfl)
theorem dX3_allOwn_26 : decode cX3_allOwn 26 = .ok (.aload_n 0, 1) := dk_42 (dk_at dksX3_allOwn_1 3 rfl rfl)
theorem dX3_allOwn_27 : decode cX3_allOwn 27 = .ok (.getfield 127, 3) := dk_180 0 127 (dk_at dksX3_allOwn_1 4 rfl rfl)
theorem dX3_allOwn_30 : decode cX3_allOwn 30 = .ok (.iconst 0, 1) := dk_3 (dk_at dksX3_allOwn_1 7 rfl rfl)
theorem dX3_allOwn_31 : decode cX3_allOwn 31 = .ok (.iaload, 1) := dk_46 (dk_at dksX3_allOwn_1 8 rfl rfl)
theorem dX3_allOwn_32 : decode cX3_allOwn 32 = .ok (.aload_n 0, 1) := dk_42 (dk_at dksX3_allOwn_1 9 rfl rfl)
theorem dX3_allOwn_33 : decode cX3_allOwn 33 = .ok (.getfield 127, 3) := dk_180 0 127 (dk_at dksX3_allOwn_1 10 rfl rfl)
theorem dX3_allOwn_36 : decode cX3_allOwn 36 = .ok (.iconst 3, 1) := dk_6 (dk_at dksX3_allOwn_1 13 rfl rfl)
theorem dX3_allOwn_37 : decode cX3_allOwn 37 = .ok (.iaload, 1) := dk_46 (dk_at dksX3_allOwn_1 14 rfl rfl)
theorem dX3_allOwn_38 : decode cX3_allOwn 38 = .ok (.if_icmp .ne 17, 3) := dk_160 0 17 (dk_at dksX3_allOwn_1 15 rfl rfl)
theorem dX3_allOwn_41 : decode cX3_allOwn 41 = .ok (.aload_n 0, 1) := dk_42 (dk_at dksX3_allOwn_1 18 rfl rfl)
theorem dX3_allOwn_42 : decode cX3_allOwn 42 = .ok (.getfield 51, 3) := dk_180 0 51 (dk_at dksX3_allOwn_1 19 rfl rfl)
theorem dX3_allOwn_45 : decode cX3_allOwn 45 = .ok (.aload_n 0, 1) := dk_42 (dk_at dksX3_allOwn_1 22 rfl rfl)
theorem dX3_allOwn_46 : decode cX3_allOwn 46 = .ok (.getfield 127, 3) := dk_180 0 127 (dk_at dksX3_allOwn_2 0 rfl rfl)
theorem dX3_allOwn_49 : decode cX3_allOwn 49 = .ok (.iconst 0, 1) := dk_3 (dk_at dksX3_allOwn_2 3 rfl rfl)
theorem dX3_allOwn_50 : decode cX3_allOwn 50 = .ok (.iaload, 1) := dk_46 (dk_at dksX3_allOwn_2 4 rfl rfl)
theorem dX3_allOwn_51 : decode cX3_allOwn 51 = .ok (.laload, 1) := dk_47 (dk_at dksX3_allOwn_2 5 rfl rfl)
theorem dX3_allOwn_52 : decode cX3_allOwn 52 = .ok (.goto 4, 3) := dk_167 0 4 (dk_at dksX3_allOwn_2 6 rfl rfl)
theorem dX3_allOwn_55 : decode cX3_allOwn 55 = .ok (.lconst 0, 1) := dk_9 (dk_at dksX3_allOwn_2 9 rfl rfl)
theorem dX3_allOwn_56 : decode cX3_allOwn 56 = .ok (.lstore_n 3, 1) := dk_66 (dk_at dksX3_allOwn_2 10 rfl rfl)
theorem dX3_allOwn_57 : decode cX3_allOwn 57 = .ok (.aload_n 0, 1) := dk_42 (dk_at dksX3_allOwn_2 11 rfl rfl)
theorem dX3_allOwn_58 : decode cX3_allOwn 58 = .ok (.getfield 474, 3) := dk_180 1 218 (dk_at dksX3_allOwn_2 12 rfl rfl)
theorem dX3_allOwn_61 : decode cX3_allOwn 61 = .ok (.lload_n 3, 1) := dk_33 (dk_at dksX3_allOwn_2 15 rfl rfl)
theorem dX3_allOwn_62 : decode cX3_allOwn 62 = .ok (.ladd, 1) := dk_97 (dk_at dksX3_allOwn_2 16 rfl rfl)
theorem dX3_allOwn_63 : decode cX3_allOwn 63 = .ok (.ldc2_w 156, 3) := dk_20 0 156 (dk_at dksX3_allOwn_2 17 rfl rfl)
theorem dX3_allOwn_66 : decode cX3_allOwn 66 = .ok (.ldiv, 1) := dk_109 (dk_at dksX3_allOwn_2 20 rfl rfl)
theorem dX3_allOwn_67 : decode cX3_allOwn 67 = .ok (.lreturn, 1) := dk_173 (dk_at dksX3_allOwn_2 21 rfl rfl)
theorem dX3_allOwn_68 : decode cX3_allOwn 68 = .ok (.aload_n 0, 1) := dk_42 (dk_at dksX3_allOwn_2 22 rfl rfl)
theorem dX3_allOwn_69 : decode cX3_allOwn 69 = .ok (.getfield 67, 3) := dk_180 0 67 (dk_at dksX3_allOwn_3 0 rfl rfl)
theorem dX3_allOwn_72 : decode cX3_allOwn 72 = .ok (.bipush 16, 2) := dk_16 16 (dk_at dksX3_allOwn_3 3 rfl rfl)
theorem dX3_allOwn_74 : decode cX3_allOwn 74 = .ok (.iload_n 2, 1) := dk_28 (dk_at dksX3_allOwn_3 5 rfl rfl)
theorem dX3_allOwn_75 : decode cX3_allOwn 75 = .ok (.imul, 1) := dk_104 (dk_at dksX3_allOwn_3 6 rfl rfl)
theorem dX3_allOwn_76 : decode cX3_allOwn 76 = .ok (.iload_n 1, 1) := dk_27 (dk_at dksX3_allOwn_3 7 rfl rfl)
theorem dX3_allOwn_77 : decode cX3_allOwn 77 = .ok (.iadd, 1) := dk_96 (dk_at dksX3_allOwn_3 8 rfl rfl)
theorem dX3_allOwn_78 : decode cX3_allOwn 78 = .ok (.iaload, 1) := dk_46 (dk_at dksX3_allOwn_3 9 rfl rfl)
theorem dX3_allOwn_79 : decode cX3_allOwn 79 = .ok (.istore_n 3, 1) := dk_62 (dk_at dksX3_allOwn_3 10 rfl rfl)
theorem dX3_allOwn_80 : decode cX3_allOwn 80 = .ok (.aload_n 0, 1) := dk_42 (dk_at dksX3_allOwn_3 11 rfl rfl)
theorem dX3_allOwn_81 : decode cX3_allOwn 81 = .ok (.getfield 67, 3) := dk_180 0 67 (dk_at dksX3_allOwn_3 12 rfl rfl)
theorem dX3_allOwn_84 : decode cX3_allOwn 84 = .ok (.bipush 16, 2) := dk_16 16 (dk_at dksX3_allOwn_3 15 rfl rfl)
theorem dX3_allOwn_86 : decode cX3_allOwn 86 = .ok (.iload_n 1, 1) := dk_27 (dk_at dksX3_allOwn_3 17 rfl rfl)
theorem dX3_allOwn_87 : decode cX3_allOwn 87 = .ok (.imul, 1) := dk_104 (dk_at dksX3_allOwn_3 18 rfl rfl)
theorem dX3_allOwn_88 : decode cX3_allOwn 88 = .ok (.iload_n 2, 1) := dk_28 (dk_at dksX3_allOwn_3 19 rfl rfl)
theorem dX3_allOwn_89 : decode cX3_allOwn 89 = .ok (.iadd, 1) := dk_96 (dk_at dksX3_allOwn_3 20 rfl rfl)
theorem dX3_allOwn_90 : decode cX3_allOwn 90 = .ok (.iaload, 1) := dk_46 (dk_at dksX3_allOwn_3 21 rfl rfl)
theorem dX3_allOwn_91 : decode cX3_allOwn 91 = .ok (.istore 4, 2) := dk_54 4 (dk_at dksX3_allOwn_3 22 rfl rfl)
theorem dX3_allOwn_93 : decode cX3_allOwn 93 = .ok (.iload_n 3, 1) := dk_29 (dk_at dksX3_allOwn_4 0 rfl rfl)
theorem dX3_allOwn_94 : decode cX3_allOwn 94 = .ok (.iload 4, 2) := dk_21 4 (dk_at dksX3_allOwn_4 1 rfl rfl)
theorem dX3_allOwn_96 : decode cX3_allOwn 96 = .ok (.if_icmp .ne 30, 3) := dk_160 0 30 (dk_at dksX3_allOwn_4 3 rfl rfl)
theorem dX3_allOwn_99 : decode cX3_allOwn 99 = .ok (.aload_n 0, 1) := dk_42 (dk_at dksX3_allOwn_4 6 rfl rfl)
theorem dX3_allOwn_100 : decode cX3_allOwn 100 = .ok (.getfield 55, 3) := dk_180 0 55 (dk_at dksX3_allOwn_4 7 rfl rfl)
theorem dX3_allOwn_103 : decode cX3_allOwn 103 = .ok (.iload_n 3, 1) := dk_29 (dk_at dksX3_allOwn_4 10 rfl rfl)
theorem dX3_allOwn_104 : decode cX3_allOwn 104 = .ok (.laload, 1) := dk_47 (dk_at dksX3_allOwn_4 11 rfl rfl)
theorem dX3_allOwn_105 : decode cX3_allOwn 105 = .ok (.aload_n 0, 1) := dk_42 (dk_at dksX3_allOwn_4 12 rfl rfl)
theorem dX3_allOwn_106 : decode cX3_allOwn 106 = .ok (.getfield 55, 3) := dk_180 0 55 (dk_at dksX3_allOwn_4 13 rfl rfl)
theorem dX3_allOwn_109 : decode cX3_allOwn 109 = .ok (.iload_n 3, 1) := dk_29 (dk_at dksX3_allOwn_4 16 rfl rfl)
theorem dX3_allOwn_110 : decode cX3_allOwn 110 = .ok (.laload, 1) := dk_47 (dk_at dksX3_allOwn_4 17 rfl rfl)
theorem dX3_allOwn_111 : decode cX3_allOwn 111 = .ok (.lmul, 1) := dk_105 (dk_at dksX3_allOwn_4 18 rfl rfl)
theorem dX3_allOwn_112 : decode cX3_allOwn 112 = .ok (.aload_n 0, 1) := dk_42 (dk_at dksX3_allOwn_4 19 rfl rfl)
theorem dX3_allOwn_113 : decode cX3_allOwn 113 = .ok (.getfield 51, 3) := dk_180 0 51 (dk_at dksX3_allOwn_4 20 rfl rfl)
theorem dX3_allOwn_116 : decode cX3_allOwn 116 = .ok (.iload_n 3, 1) := dk_29 (dk_at dksX3_allOwn_4 23 rfl rfl)
theorem dX3_allOwn_117 : decode cX3_allOwn 117 = .ok (.laload, 1) := dk_47 (dk_at dksX3_allOwn_5 0 rfl rfl)
theorem dX3_allOwn_118 : decode cX3_allOwn 118 = .ok (.ladd, 1) := dk_97 (dk_at dksX3_allOwn_5 1 rfl rfl)
theorem dX3_allOwn_119 : decode cX3_allOwn 119 = .ok (.ldc2_w 156, 3) := dk_20 0 156 (dk_at dksX3_allOwn_5 2 rfl rfl)
theorem dX3_allOwn_122 : decode cX3_allOwn 122 = .ok (.ldiv, 1) := dk_109 (dk_at dksX3_allOwn_5 5 rfl rfl)
theorem dX3_allOwn_123 : decode cX3_allOwn 123 = .ok (.goto 17, 3) := dk_167 0 17 (dk_at dksX3_allOwn_5 6 rfl rfl)
theorem dX3_allOwn_126 : decode cX3_allOwn 126 = .ok (.aload_n 0, 1) := dk_42 (dk_at dksX3_allOwn_5 9 rfl rfl)
theorem dX3_allOwn_127 : decode cX3_allOwn 127 = .ok (.getfield 55, 3) := dk_180 0 55 (dk_at dksX3_allOwn_5 10 rfl rfl)
theorem dX3_allOwn_130 : decode cX3_allOwn 130 = .ok (.iload_n 3, 1) := dk_29 (dk_at dksX3_allOwn_5 13 rfl rfl)
theorem dX3_allOwn_131 : decode cX3_allOwn 131 = .ok (.laload, 1) := dk_47 (dk_at dksX3_allOwn_5 14 rfl rfl)
theorem dX3_allOwn_132 : decode cX3_allOwn 132 = .ok (.aload_n 0, 1) := dk_42 (dk_at dksX3_allOwn_5 15 rfl rfl)
theorem dX3_allOwn_133 : decode cX3_allOwn 133 = .ok (.getfield 55, 3) := dk_180 0 55 (dk_at dksX3_allOwn_5 16 rfl rfl)
theorem dX3_allOwn_136 : decode cX3_allOwn 136 = .ok (.iload 4, 2) := dk_21 4 (dk_at dksX3_allOwn_5 19 rfl rfl)
theorem dX3_allOwn_138 : decode cX3_allOwn 138 = .ok (.laload, 1) := dk_47 (dk_at dksX3_allOwn_5 21 rfl rfl)
theorem dX3_allOwn_139 : decode cX3_allOwn 139 = .ok (.lmul, 1) := dk_105 (dk_at dksX3_allOwn_5 22 rfl rfl)
theorem dX3_allOwn_140 : decode cX3_allOwn 140 = .ok (.lreturn, 1) := dk_173 (dk_at dksX3_allOwn_5 23 rfl rfl)
abbrev cX3_symmetry : ByteArray := prog_21_method_113_code
def yX3_symmetry : MethodName := ⟨RX3, "symmetry", "()J"⟩
def dkwX3_symmetry_3 : List UInt8 := [47, 105, 29, 21, 4, 160, 0, 9, 20, 0, 156, 167, 0, 4, 10, 105, 173]
abbrev dktX3_symmetry_3 : List UInt8 := dkwX3_symmetry_3 ++ []
def dkwX3_symmetry_2 : List UInt8 := [180, 0, 67, 16, 16, 27, 104, 28, 96, 46, 54, 4, 42, 180, 0, 58, 29, 47, 42, 180, 0, 58, 21, 4]
abbrev dktX3_symmetry_2 : List UInt8 := dkwX3_symmetry_2 ++ dktX3_symmetry_3
def dkwX3_symmetry_1 : List UInt8 := [180, 0, 58, 42, 27, 182, 1, 176, 47, 173, 42, 180, 0, 67, 16, 16, 28, 104, 27, 96, 46, 62, 42]
abbrev dktX3_symmetry_1 : List UInt8 := dkwX3_symmetry_1 ++ dktX3_symmetry_2
def dkwX3_symmetry_0 : List UInt8 := [42, 182, 1, 118, 42, 3, 182, 1, 79, 60, 42, 4, 182, 1, 79, 61, 28, 2, 160, 0, 14, 42]
abbrev dktX3_symmetry_0 : List UInt8 := dkwX3_symmetry_0 ++ dktX3_symmetry_1
theorem dksX3_symmetry_0 : cX3_symmetry.data.toList.drop 0 = dktX3_symmetry_0 := by decide +kernel
theorem dksX3_symmetry_1 : cX3_symmetry.data.toList.drop 22 = dktX3_symmetry_1 := dk_seg dksX3_symmetry_0 22 rfl rfl
theorem dksX3_symmetry_2 : cX3_symmetry.data.toList.drop 45 = dktX3_symmetry_2 := dk_seg dksX3_symmetry_1 23 rfl rfl
theorem dksX3_symmetry_3 : cX3_symmetry.data.toList.drop 69 = dktX3_symmetry_3 := dk_seg dksX3_symmetry_2 24 rfl rfl
theorem dX3_symmetry_0 : decode cX3_symmetry 0 = .ok (.aload_n 0, 1) := dk_42 (dk_at dksX3_symmetry_0 0 rfl rfl)
theorem dX3_symmetry_1 : decode cX3_symmetry 1 = .ok (.invokevirtual 374, 3) := dk_182 1 118 (dk_at dksX3_symmetry_0 1 rfl rfl)
theorem dX3_symmetry_4 : decode cX3_symmetry 4 = .ok (.aload_n 0, 1) := dk_42 (dk_at dksX3_symmetry_0 4 rfl rfl)
theorem dX3_symmetry_5 : decode cX3_symmetry 5 = .ok (.iconst 0, 1) := dk_3 (dk_at dksX3_symmetry_0 5 rfl rfl)
theorem dX3_symmetry_6 : decode cX3_symmetry 6 = .ok (.invokevirtual 335, 3) := dk_182 1 79 (dk_at dksX3_symmetry_0 6 rfl rfl)
theorem dX3_symmetry_9 : decode cX3_symmetry 9 = .ok (.istore_n 1, 1) := dk_60 (dk_at dksX3_symmetry_0 9 rfl rfl)
theorem dX3_symmetry_10 : decode cX3_symmetry 10 = .ok (.aload_n 0, 1) := dk_42 (dk_at dksX3_symmetry_0 10 rfl rfl)
theorem dX3_symmetry_11 : decode cX3_symmetry 11 = .ok (.iconst 1, 1) := dk_4 (dk_at dksX3_symmetry_0 11 rfl rfl)
theorem dX3_symmetry_12 : decode cX3_symmetry 12 = .ok (.invokevirtual 335, 3) := dk_182 1 79 (dk_at dksX3_symmetry_0 12 rfl rfl)
theorem dX3_symmetry_15 : decode cX3_symmetry 15 = .ok (.istore_n 2, 1) := dk_61 (dk_at dksX3_symmetry_0 15 rfl rfl)
theorem dX3_symmetry_16 : decode cX3_symmetry 16 = .ok (.iload_n 2, 1) := dk_28 (dk_at dksX3_symmetry_0 16 rfl rfl)
theorem dX3_symmetry_17 : decode cX3_symmetry 17 = .ok (.iconst (-1), 1) := dk_2 (dk_at dksX3_symmetry_0 17 rfl rfl)
theorem dX3_symmetry_18 : decode cX3_symmetry 18 = .ok (.if_icmp .ne 14, 3) := dk_160 0 14 (dk_at dksX3_symmetry_0 18 rfl rfl)
theorem dX3_symmetry_21 : decode cX3_symmetry 21 = .ok (.aload_n 0, 1) := dk_42 (dk_at dksX3_symmetry_0 21 rfl rfl)
theorem dX3_symmetry_22 : decode cX3_symmetry 22 = .ok (.getfield 58, 3) := dk_180 0 58 (dk_at dksX3_symmetry_1 0 rfl rfl)
theorem dX3_symmetry_25 : decode cX3_symmetry 25 = .ok (.aload_n 0, 1) := dk_42 (dk_at dksX3_symmetry_1 3 rfl rfl)
theorem dX3_symmetry_26 : decode cX3_symmetry 26 = .ok (.iload_n 1, 1) := dk_27 (dk_at dksX3_symmetry_1 4 rfl rfl)
theorem dX3_symmetry_27 : decode cX3_symmetry 27 = .ok (.invokevirtual 432, 3) := dk_182 1 176 (dk_at dksX3_symmetry_1 5 rfl rfl)
theorem dX3_symmetry_30 : decode cX3_symmetry 30 = .ok (.laload, 1) := dk_47 (dk_at dksX3_symmetry_1 8 rfl rfl)
theorem dX3_symmetry_31 : decode cX3_symmetry 31 = .ok (.lreturn, 1) := dk_173 (dk_at dksX3_symmetry_1 9 rfl rfl)
theorem dX3_symmetry_32 : decode cX3_symmetry 32 = .ok (.aload_n 0, 1) := dk_42 (dk_at dksX3_symmetry_1 10 rfl rfl)
theorem dX3_symmetry_33 : decode cX3_symmetry 33 = .ok (.getfield 67, 3) := dk_180 0 67 (dk_at dksX3_symmetry_1 11 rfl rfl)
theorem dX3_symmetry_36 : decode cX3_symmetry 36 = .ok (.bipush 16, 2) := dk_16 16 (dk_at dksX3_symmetry_1 14 rfl rfl)
theorem dX3_symmetry_38 : decode cX3_symmetry 38 = .ok (.iload_n 2, 1) := dk_28 (dk_at dksX3_symmetry_1 16 rfl rfl)
theorem dX3_symmetry_39 : decode cX3_symmetry 39 = .ok (.imul, 1) := dk_104 (dk_at dksX3_symmetry_1 17 rfl rfl)
theorem dX3_symmetry_40 : decode cX3_symmetry 40 = .ok (.iload_n 1, 1) := dk_27 (dk_at dksX3_symmetry_1 18 rfl rfl)
theorem dX3_symmetry_41 : decode cX3_symmetry 41 = .ok (.iadd, 1) := dk_96 (dk_at dksX3_symmetry_1 19 rfl rfl)
theorem dX3_symmetry_42 : decode cX3_symmetry 42 = .ok (.iaload, 1) := dk_46 (dk_at dksX3_symmetry_1 20 rfl rfl)
theorem dX3_symmetry_43 : decode cX3_symmetry 43 = .ok (.istore_n 3, 1) := dk_62 (dk_at dksX3_symmetry_1 21 rfl rfl)
theorem dX3_symmetry_44 : decode cX3_symmetry 44 = .ok (.aload_n 0, 1) := dk_42 (dk_at dksX3_symmetry_1 22 rfl rfl)
theorem dX3_symmetry_45 : decode cX3_symmetry 45 = .ok (.getfield 67, 3) := dk_180 0 67 (dk_at dksX3_symmetry_2 0 rfl rfl)
theorem dX3_symmetry_48 : decode cX3_symmetry 48 = .ok (.bipush 16, 2) := dk_16 16 (dk_at dksX3_symmetry_2 3 rfl rfl)
theorem dX3_symmetry_50 : decode cX3_symmetry 50 = .ok (.iload_n 1, 1) := dk_27 (dk_at dksX3_symmetry_2 5 rfl rfl)
theorem dX3_symmetry_51 : decode cX3_symmetry 51 = .ok (.imul, 1) := dk_104 (dk_at dksX3_symmetry_2 6 rfl rfl)
theorem dX3_symmetry_52 : decode cX3_symmetry 52 = .ok (.iload_n 2, 1) := dk_28 (dk_at dksX3_symmetry_2 7 rfl rfl)
theorem dX3_symmetry_53 : decode cX3_symmetry 53 = .ok (.iadd, 1) := dk_96 (dk_at dksX3_symmetry_2 8 rfl rfl)
theorem dX3_symmetry_54 : decode cX3_symmetry 54 = .ok (.iaload, 1) := dk_46 (dk_at dksX3_symmetry_2 9 rfl rfl)
theorem dX3_symmetry_55 : decode cX3_symmetry 55 = .ok (.istore 4, 2) := dk_54 4 (dk_at dksX3_symmetry_2 10 rfl rfl)
theorem dX3_symmetry_57 : decode cX3_symmetry 57 = .ok (.aload_n 0, 1) := dk_42 (dk_at dksX3_symmetry_2 12 rfl rfl)
theorem dX3_symmetry_58 : decode cX3_symmetry 58 = .ok (.getfield 58, 3) := dk_180 0 58 (dk_at dksX3_symmetry_2 13 rfl rfl)
theorem dX3_symmetry_61 : decode cX3_symmetry 61 = .ok (.iload_n 3, 1) := dk_29 (dk_at dksX3_symmetry_2 16 rfl rfl)
theorem dX3_symmetry_62 : decode cX3_symmetry 62 = .ok (.laload, 1) := dk_47 (dk_at dksX3_symmetry_2 17 rfl rfl)
theorem dX3_symmetry_63 : decode cX3_symmetry 63 = .ok (.aload_n 0, 1) := dk_42 (dk_at dksX3_symmetry_2 18 rfl rfl)
theorem dX3_symmetry_64 : decode cX3_symmetry 64 = .ok (.getfield 58, 3) := dk_180 0 58 (dk_at dksX3_symmetry_2 19 rfl rfl)
theorem dX3_symmetry_67 : decode cX3_symmetry 67 = .ok (.iload 4, 2) := dk_21 4 (dk_at dksX3_symmetry_2 22 rfl rfl)
theorem dX3_symmetry_69 : decode cX3_symmetry 69 = .ok (.laload, 1) := dk_47 (dk_at dksX3_symmetry_3 0 rfl rfl)
theorem dX3_symmetry_70 : decode cX3_symmetry 70 = .ok (.lmul, 1) := dk_105 (dk_at dksX3_symmetry_3 1 rfl rfl)
theorem dX3_symmetry_71 : decode cX3_symmetry 71 = .ok (.iload_n 3, 1) := dk_29 (dk_at dksX3_symmetry_3 2 rfl rfl)
theorem dX3_symmetry_72 : decode cX3_symmetry 72 = .ok (.iload 4, 2) := dk_21 4 (dk_at dksX3_symmetry_3 3 rfl rfl)
theorem dX3_symmetry_74 : decode cX3_symmetry 74 = .ok (.if_icmp .ne 9, 3) := dk_160 0 9 (dk_at dksX3_symmetry_3 5 rfl rfl)
theorem dX3_symmetry_77 : decode cX3_symmetry 77 = .ok (.ldc2_w 156, 3) := dk_20 0 156 (dk_at dksX3_symmetry_3 8 rfl rfl)
theorem dX3_symmetry_80 : decode cX3_symmetry 80 = .ok (.goto 4, 3) := dk_167 0 4 (dk_at dksX3_symmetry_3 11 rfl rfl)
theorem dX3_symmetry_83 : decode cX3_symmetry 83 = .ok (.lconst 1, 1) := dk_10 (dk_at dksX3_symmetry_3 14 rfl rfl)
theorem dX3_symmetry_84 : decode cX3_symmetry 84 = .ok (.lmul, 1) := dk_105 (dk_at dksX3_symmetry_3 15 rfl rfl)
theorem dX3_symmetry_85 : decode cX3_symmetry 85 = .ok (.lreturn, 1) := dk_173 (dk_at dksX3_symmetry_3 16 rfl rfl)
abbrev cX3_marked : ByteArray := prog_21_method_114_code
def yX3_marked : MethodName := ⟨RX3, "marked", "(I)I"⟩
def dkwX3_marked_6 : List UInt8 := [167, 255, 223, 21, 6, 172]
abbrev dktX3_marked_6 : List UInt8 := dkwX3_marked_6 ++ []
def dkwX3_marked_5 : List UInt8 := [21, 4, 21, 7, 182, 1, 37, 42, 21, 5, 27, 21, 7, 100, 182, 1, 37, 104, 96, 54, 6, 132, 7, 1]
abbrev dktX3_marked_5 : List UInt8 := dkwX3_marked_5 ++ dktX3_marked_6
def dkwX3_marked_4 : List UInt8 := [42, 21, 4, 5, 27, 182, 1, 33, 172, 3, 54, 6, 3, 54, 7, 21, 7, 27, 163, 0, 33, 21, 6, 42]
abbrev dktX3_marked_4 : List UInt8 := dkwX3_marked_4 ++ dktX3_marked_5
def dkwX3_marked_3 : List UInt8 := [96, 46, 54, 4, 42, 180, 0, 67, 16, 16, 28, 104, 29, 96, 46, 54, 5, 21, 4, 21, 5, 160, 0, 12]
abbrev dktX3_marked_3 : List UInt8 := dkwX3_marked_3 ++ dktX3_marked_4
def dkwX3_marked_2 : List UInt8 := [182, 1, 176, 46, 100, 182, 1, 49, 42, 180, 0, 76, 27, 46, 172, 42, 180, 0, 67, 16, 16, 29, 104, 28]
abbrev dktX3_marked_2 : List UInt8 := dkwX3_marked_2 ++ dktX3_marked_3
def dkwX3_marked_1 : List UInt8 := [42, 4, 182, 1, 79, 62, 29, 2, 160, 0, 31, 42, 42, 28, 182, 1, 176, 7, 42, 180, 0, 45, 42, 28]
abbrev dktX3_marked_1 : List UInt8 := dkwX3_marked_1 ++ dktX3_marked_2
def dkwX3_marked_0 : List UInt8 := [27, 133, 10, 20, 1, 20, 184, 0, 158, 154, 0, 5, 2, 172, 42, 182, 1, 118, 42, 3, 182, 1, 79, 61]
abbrev dktX3_marked_0 : List UInt8 := dkwX3_marked_0 ++ dktX3_marked_1
theorem dksX3_marked_0 : cX3_marked.data.toList.drop 0 = dktX3_marked_0 := by decide +kernel
theorem dksX3_marked_1 : cX3_marked.data.toList.drop 24 = dktX3_marked_1 := dk_seg dksX3_marked_0 24 rfl rfl
theorem dksX3_marked_2 : cX3_marked.data.toList.drop 48 = dktX3_marked_2 := dk_seg dksX3_marked_1 24 rfl rfl
theorem dksX3_marked_3 : cX3_marked.data.toList.drop 72 = dktX3_marked_3 := dk_seg dksX3_marked_2 24 rfl rfl
theorem dksX3_marked_4 : cX3_marked.data.toList.drop 96 = dktX3_marked_4 := dk_seg dksX3_marked_3 24 rfl rfl
theorem dksX3_marked_5 : cX3_marked.data.toList.drop 120 = dktX3_marked_5 := dk_seg dksX3_marked_4 24 rfl rfl
theorem dksX3_marked_6 : cX3_marked.data.toList.drop 144 = dktX3_marked_6 := dk_seg dksX3_marked_5 24 rfl rfl
theorem dX3_marked_0 : decode cX3_marked 0 = .ok (.iload_n 1, 1) := dk_27 (dk_at dksX3_marked_0 0 rfl rfl)
theorem dX3_marked_1 : decode cX3_marked 1 = .ok (.i2l, 1) := dk_133 (dk_at dksX3_marked_0 1 rfl rfl)
theorem dX3_marked_2 : decode cX3_marked 2 = .ok (.lconst 1, 1) := dk_10 (dk_at dksX3_marked_0 2 rfl rfl)
theorem dX3_marked_3 : decode cX3_marked 3 = .ok (.ldc2_w 276, 3) := dk_20 1 20 (dk_at dksX3_marked_0 3 rfl rfl)
theorem dX3_marked_6 : decode cX3_marked 6 = .ok (.invokestatic 158, 3) := dk_184 0 158 (dk_at dksX3_marked_0 6 rfl rfl)
theorem dX3_marked_9 : decode cX3_marked 9 = .ok (.ifCond .ne 5, 3) := dk_154 0 5 (dk_at dksX3_marked_0 9 rfl rfl)
theorem dX3_marked_12 : decode cX3_marked 12 = .ok (.iconst (-1), 1) := dk_2 (dk_at dksX3_marked_0 12 rfl rfl)
theorem dX3_marked_13 : decode cX3_marked 13 = .ok (.ireturn, 1) := dk_172 (dk_at dksX3_marked_0 13 rfl rfl)
theorem dX3_marked_14 : decode cX3_marked 14 = .ok (.aload_n 0, 1) := dk_42 (dk_at dksX3_marked_0 14 rfl rfl)
theorem dX3_marked_15 : decode cX3_marked 15 = .ok (.invokevirtual 374, 3) := dk_182 1 118 (dk_at dksX3_marked_0 15 rfl rfl)
theorem dX3_marked_18 : decode cX3_marked 18 = .ok (.aload_n 0, 1) := dk_42 (dk_at dksX3_marked_0 18 rfl rfl)
theorem dX3_marked_19 : decode cX3_marked 19 = .ok (.iconst 0, 1) := dk_3 (dk_at dksX3_marked_0 19 rfl rfl)
theorem dX3_marked_20 : decode cX3_marked 20 = .ok (.invokevirtual 335, 3) := dk_182 1 79 (dk_at dksX3_marked_0 20 rfl rfl)
theorem dX3_marked_23 : decode cX3_marked 23 = .ok (.istore_n 2, 1) := dk_61 (dk_at dksX3_marked_0 23 rfl rfl)
theorem dX3_marked_24 : decode cX3_marked 24 = .ok (.aload_n 0, 1) := dk_42 (dk_at dksX3_marked_1 0 rfl rfl)
theorem dX3_marked_25 : decode cX3_marked 25 = .ok (.iconst 1, 1) := dk_4 (dk_at dksX3_marked_1 1 rfl rfl)
theorem dX3_marked_26 : decode cX3_marked 26 = .ok (.invokevirtual 335, 3) := dk_182 1 79 (dk_at dksX3_marked_1 2 rfl rfl)
theorem dX3_marked_29 : decode cX3_marked 29 = .ok (.istore_n 3, 1) := dk_62 (dk_at dksX3_marked_1 5 rfl rfl)
theorem dX3_marked_30 : decode cX3_marked 30 = .ok (.iload_n 3, 1) := dk_29 (dk_at dksX3_marked_1 6 rfl rfl)
theorem dX3_marked_31 : decode cX3_marked 31 = .ok (.iconst (-1), 1) := dk_2 (dk_at dksX3_marked_1 7 rfl rfl)
theorem dX3_marked_32 : decode cX3_marked 32 = .ok (.if_icmp .ne 31, 3) := dk_160 0 31 (dk_at dksX3_marked_1 8 rfl rfl)
theorem dX3_marked_35 : decode cX3_marked 35 = .ok (.aload_n 0, 1) := dk_42 (dk_at dksX3_marked_1 11 rfl rfl)
theorem dX3_marked_36 : decode cX3_marked 36 = .ok (.aload_n 0, 1) := dk_42 (dk_at dksX3_marked_1 12 rfl rfl)
theorem dX3_marked_37 : decode cX3_marked 37 = .ok (.iload_n 2, 1) := dk_28 (dk_at dksX3_marked_1 13 rfl rfl)
theorem dX3_marked_38 : decode cX3_marked 38 = .ok (.invokevirtual 432, 3) := dk_182 1 176 (dk_at dksX3_marked_1 14 rfl rfl)
theorem dX3_marked_41 : decode cX3_marked 41 = .ok (.iconst 4, 1) := dk_7 (dk_at dksX3_marked_1 17 rfl rfl)
theorem dX3_marked_42 : decode cX3_marked 42 = .ok (.aload_n 0, 1) := dk_42 (dk_at dksX3_marked_1 18 rfl rfl)
theorem dX3_marked_43 : decode cX3_marked 43 = .ok (.getfield 45, 3) := dk_180 0 45 (dk_at dksX3_marked_1 19 rfl rfl)
theorem dX3_marked_46 : decode cX3_marked 46 = .ok (.aload_n 0, 1) := dk_42 (dk_at dksX3_marked_1 22 rfl rfl)
theorem dX3_marked_47 : decode cX3_marked 47 = .ok (.iload_n 2, 1) := dk_28 (dk_at dksX3_marked_1 23 rfl rfl)
theorem dX3_marked_48 : decode cX3_marked 48 = .ok (.invokevirtual 432, 3) := dk_182 1 176 (dk_at dksX3_marked_2 0 rfl rfl)
theorem dX3_marked_51 : decode cX3_marked 51 = .ok (.iaload, 1) := dk_46 (dk_at dksX3_marked_2 3 rfl rfl)
theorem dX3_marked_52 : decode cX3_marked 52 = .ok (.isub, 1) := dk_100 (dk_at dksX3_marked_2 4 rfl rfl)
theorem dX3_marked_53 : decode cX3_marked 53 = .ok (.invokevirtual 305, 3) := dk_182 1 49 (dk_at dksX3_marked_2 5 rfl rfl)
theorem dX3_marked_56 : decode cX3_marked 56 = .ok (.aload_n 0, 1) := dk_42 (dk_at dksX3_marked_2 8 rfl rfl)
theorem dX3_marked_57 : decode cX3_marked 57 = .ok (.getfield 76, 3) := dk_180 0 76 (dk_at dksX3_marked_2 9 rfl rfl)
theorem dX3_marked_60 : decode cX3_marked 60 = .ok (.iload_n 1, 1) := dk_27 (dk_at dksX3_marked_2 12 rfl rfl)
theorem dX3_marked_61 : decode cX3_marked 61 = .ok (.iaload, 1) := dk_46 (dk_at dksX3_marked_2 13 rfl rfl)
theorem dX3_marked_62 : decode cX3_marked 62 = .ok (.ireturn, 1) := dk_172 (dk_at dksX3_marked_2 14 rfl rfl)
theorem dX3_marked_63 : decode cX3_marked 63 = .ok (.aload_n 0, 1) := dk_42 (dk_at dksX3_marked_2 15 rfl rfl)
theorem dX3_marked_64 : decode cX3_marked 64 = .ok (.getfield 67, 3) := dk_180 0 67 (dk_at dksX3_marked_2 16 rfl rfl)
theorem dX3_marked_67 : decode cX3_marked 67 = .ok (.bipush 16, 2) := dk_16 16 (dk_at dksX3_marked_2 19 rfl rfl)
theorem dX3_marked_69 : decode cX3_marked 69 = .ok (.iload_n 3, 1) := dk_29 (dk_at dksX3_marked_2 21 rfl rfl)
theorem dX3_marked_70 : decode cX3_marked 70 = .ok (.imul, 1) := dk_104 (dk_at dksX3_marked_2 22 rfl rfl)
theorem dX3_marked_71 : decode cX3_marked 71 = .ok (.iload_n 2, 1) := dk_28 (dk_at dksX3_marked_2 23 rfl rfl)
theorem dX3_marked_72 : decode cX3_marked 72 = .ok (.iadd, 1) := dk_96 (dk_at dksX3_marked_3 0 rfl rfl)
theorem dX3_marked_73 : decode cX3_marked 73 = .ok (.iaload, 1) := dk_46 (dk_at dksX3_marked_3 1 rfl rfl)
theorem dX3_marked_74 : decode cX3_marked 74 = .ok (.istore 4, 2) := dk_54 4 (dk_at dksX3_marked_3 2 rfl rfl)
theorem dX3_marked_76 : decode cX3_marked 76 = .ok (.aload_n 0, 1) := dk_42 (dk_at dksX3_marked_3 4 rfl rfl)
theorem dX3_marked_77 : decode cX3_marked 77 = .ok (.getfield 67, 3) := dk_180 0 67 (dk_at dksX3_marked_3 5 rfl rfl)
theorem dX3_marked_80 : decode cX3_marked 80 = .ok (.bipush 16, 2) := dk_16 16 (dk_at dksX3_marked_3 8 rfl rfl)
theorem dX3_marked_82 : decode cX3_marked 82 = .ok (.iload_n 2, 1) := dk_28 (dk_at dksX3_marked_3 10 rfl rfl)
theorem dX3_marked_83 : decode cX3_marked 83 = .ok (.imul, 1) := dk_104 (dk_at dksX3_marked_3 11 rfl rfl)
theorem dX3_marked_84 : decode cX3_marked 84 = .ok (.iload_n 3, 1) := dk_29 (dk_at dksX3_marked_3 12 rfl rfl)
theorem dX3_marked_85 : decode cX3_marked 85 = .ok (.iadd, 1) := dk_96 (dk_at dksX3_marked_3 13 rfl rfl)
theorem dX3_marked_86 : decode cX3_marked 86 = .ok (.iaload, 1) := dk_46 (dk_at dksX3_marked_3 14 rfl rfl)
theorem dX3_marked_87 : decode cX3_marked 87 = .ok (.istore 5, 2) := dk_54 5 (dk_at dksX3_marked_3 15 rfl rfl)
theorem dX3_marked_89 : decode cX3_marked 89 = .ok (.iload 4, 2) := dk_21 4 (dk_at dksX3_marked_3 17 rfl rfl)
theorem dX3_marked_91 : decode cX3_marked 91 = .ok (.iload 5, 2) := dk_21 5 (dk_at dksX3_marked_3 19 rfl rfl)
theorem dX3_marked_93 : decode cX3_marked 93 = .ok (.if_icmp .ne 12, 3) := dk_160 0 12 (dk_at dksX3_marked_3 21 rfl rfl)
theorem dX3_marked_96 : decode cX3_marked 96 = .ok (.aload_n 0, 1) := dk_42 (dk_at dksX3_marked_4 0 rfl rfl)
theorem dX3_marked_97 : decode cX3_marked 97 = .ok (.iload 4, 2) := dk_21 4 (dk_at dksX3_marked_4 1 rfl rfl)
theorem dX3_marked_99 : decode cX3_marked 99 = .ok (.iconst 2, 1) := dk_5 (dk_at dksX3_marked_4 3 rfl rfl)
theorem dX3_marked_100 : decode cX3_marked 100 = .ok (.iload_n 1, 1) := dk_27 (dk_at dksX3_marked_4 4 rfl rfl)
theorem dX3_marked_101 : decode cX3_marked 101 = .ok (.invokevirtual 289, 3) := dk_182 1 33 (dk_at dksX3_marked_4 5 rfl rfl)
theorem dX3_marked_104 : decode cX3_marked 104 = .ok (.ireturn, 1) := dk_172 (dk_at dksX3_marked_4 8 rfl rfl)
theorem dX3_marked_105 : decode cX3_marked 105 = .ok (.iconst 0, 1) := dk_3 (dk_at dksX3_marked_4 9 rfl rfl)
theorem dX3_marked_106 : decode cX3_marked 106 = .ok (.istore 6, 2) := dk_54 6 (dk_at dksX3_marked_4 10 rfl rfl)
theorem dX3_marked_108 : decode cX3_marked 108 = .ok (.iconst 0, 1) := dk_3 (dk_at dksX3_marked_4 12 rfl rfl)
theorem dX3_marked_109 : decode cX3_marked 109 = .ok (.istore 7, 2) := dk_54 7 (dk_at dksX3_marked_4 13 rfl rfl)
theorem dX3_marked_111 : decode cX3_marked 111 = .ok (.iload 7, 2) := dk_21 7 (dk_at dksX3_marked_4 15 rfl rfl)
theorem dX3_marked_113 : decode cX3_marked 113 = .ok (.iload_n 1, 1) := dk_27 (dk_at dksX3_marked_4 17 rfl rfl)
theorem dX3_marked_114 : decode cX3_marked 114 = .ok (.if_icmp .gt 33, 3) := dk_163 0 33 (dk_at dksX3_marked_4 18 rfl rfl)
theorem dX3_marked_117 : decode cX3_marked 117 = .ok (.iload 6, 2) := dk_21 6 (dk_at dksX3_marked_4 21 rfl rfl)
theorem dX3_marked_119 : decode cX3_marked 119 = .ok (.aload_n 0, 1) := dk_42 (dk_at dksX3_marked_4 23 rfl rfl)
theorem dX3_marked_120 : decode cX3_marked 120 = .ok (.iload 4, 2) := dk_21 4 (dk_at dksX3_marked_5 0 rfl rfl)
theorem dX3_marked_122 : decode cX3_marked 122 = .ok (.iload 7, 2) := dk_21 7 (dk_at dksX3_marked_5 2 rfl rfl)
theorem dX3_marked_124 : decode cX3_marked 124 = .ok (.invokevirtual 293, 3) := dk_182 1 37 (dk_at dksX3_marked_5 4 rfl rfl)
theorem dX3_marked_127 : decode cX3_marked 127 = .ok (.aload_n 0, 1) := dk_42 (dk_at dksX3_marked_5 7 rfl rfl)
theorem dX3_marked_128 : decode cX3_marked 128 = .ok (.iload 5, 2) := dk_21 5 (dk_at dksX3_marked_5 8 rfl rfl)
theorem dX3_marked_130 : decode cX3_marked 130 = .ok (.iload_n 1, 1) := dk_27 (dk_at dksX3_marked_5 10 rfl rfl)
theorem dX3_marked_131 : decode cX3_marked 131 = .ok (.iload 7, 2) := dk_21 7 (dk_at dksX3_marked_5 11 rfl rfl)
theorem dX3_marked_133 : decode cX3_marked 133 = .ok (.isub, 1) := dk_100 (dk_at dksX3_marked_5 13 rfl rfl)
theorem dX3_marked_134 : decode cX3_marked 134 = .ok (.invokevirtual 293, 3) := dk_182 1 37 (dk_at dksX3_marked_5 14 rfl rfl)
theorem dX3_marked_137 : decode cX3_marked 137 = .ok (.imul, 1) := dk_104 (dk_at dksX3_marked_5 17 rfl rfl)
theorem dX3_marked_138 : decode cX3_marked 138 = .ok (.iadd, 1) := dk_96 (dk_at dksX3_marked_5 18 rfl rfl)
theorem dX3_marked_139 : decode cX3_marked 139 = .ok (.istore 6, 2) := dk_54 6 (dk_at dksX3_marked_5 19 rfl rfl)
theorem dX3_marked_141 : decode cX3_marked 141 = .ok (.iinc 7 1, 3) := dk_132 7 1 (dk_at dksX3_marked_5 21 rfl rfl)
theorem dX3_marked_144 : decode cX3_marked 144 = .ok (.goto (-33), 3) := dk_167 255 223 (dk_at dksX3_marked_6 0 rfl rfl)
theorem dX3_marked_147 : decode cX3_marked 147 = .ok (.iload 6, 2) := dk_21 6 (dk_at dksX3_marked_6 3 rfl rfl)
theorem dX3_marked_149 : decode cX3_marked 149 = .ok (.ireturn, 1) := dk_172 (dk_at dksX3_marked_6 5 rfl rfl)
abbrev cX3_name : ByteArray := prog_21_method_125_code
def yX3_name : MethodName := ⟨RX3, "name", "(I)I"⟩
def dkwX3_name_1 : List UInt8 := [42, 180, 1, 244, 162, 0, 12, 42, 180, 0, 139, 27, 51, 167, 0, 4, 2, 172]
abbrev dktX3_name_1 : List UInt8 := dkwX3_name_1 ++ []
def dkwX3_name_0 : List UInt8 := [27, 2, 162, 0, 5, 2, 172, 42, 182, 2, 16, 27, 2, 160, 0, 10, 42, 180, 1, 244, 167, 0, 21, 27]
abbrev dktX3_name_0 : List UInt8 := dkwX3_name_0 ++ dktX3_name_1
theorem dksX3_name_0 : cX3_name.data.toList.drop 0 = dktX3_name_0 := by decide +kernel
theorem dksX3_name_1 : cX3_name.data.toList.drop 24 = dktX3_name_1 := dk_seg dksX3_name_0 24 rfl rfl
theorem dX3_name_0 : decode cX3_name 0 = .ok (.iload_n 1, 1) := dk_27 (dk_at dksX3_name_0 0 rfl rfl)
theorem dX3_name_1 : decode cX3_name 1 = .ok (.iconst (-1), 1) := dk_2 (dk_at dksX3_name_0 1 rfl rfl)
theorem dX3_name_2 : decode cX3_name 2 = .ok (.if_icmp .ge 5, 3) := dk_162 0 5 (dk_at dksX3_name_0 2 rfl rfl)
theorem dX3_name_5 : decode cX3_name 5 = .ok (.iconst (-1), 1) := dk_2 (dk_at dksX3_name_0 5 rfl rfl)
theorem dX3_name_6 : decode cX3_name 6 = .ok (.ireturn, 1) := dk_172 (dk_at dksX3_name_0 6 rfl rfl)
theorem dX3_name_7 : decode cX3_name 7 = .ok (.aload_n 0, 1) := dk_42 (dk_at dksX3_name_0 7 rfl rfl)
theorem dX3_name_8 : decode cX3_name 8 = .ok (.invokevirtual 528, 3) := dk_182 2 16 (dk_at dksX3_name_0 8 rfl rfl)
theorem dX3_name_11 : decode cX3_name 11 = .ok (.iload_n 1, 1) := dk_27 (dk_at dksX3_name_0 11 rfl rfl)
theorem dX3_name_12 : decode cX3_name 12 = .ok (.iconst (-1), 1) := dk_2 (dk_at dksX3_name_0 12 rfl rfl)
theorem dX3_name_13 : decode cX3_name 13 = .ok (.if_icmp .ne 10, 3) := dk_160 0 10 (dk_at dksX3_name_0 13 rfl rfl)
theorem dX3_name_16 : decode cX3_name 16 = .ok (.aload_n 0, 1) := dk_42 (dk_at dksX3_name_0 16 rfl rfl)
theorem dX3_name_17 : decode cX3_name 17 = .ok (.getfield 500, 3) := dk_180 1 244 (dk_at dksX3_name_0 17 rfl rfl)
theorem dX3_name_20 : decode cX3_name 20 = .ok (.goto 21, 3) := dk_167 0 21 (dk_at dksX3_name_0 20 rfl rfl)
theorem dX3_name_23 : decode cX3_name 23 = .ok (.iload_n 1, 1) := dk_27 (dk_at dksX3_name_0 23 rfl rfl)
theorem dX3_name_24 : decode cX3_name 24 = .ok (.aload_n 0, 1) := dk_42 (dk_at dksX3_name_1 0 rfl rfl)
theorem dX3_name_25 : decode cX3_name 25 = .ok (.getfield 500, 3) := dk_180 1 244 (dk_at dksX3_name_1 1 rfl rfl)
theorem dX3_name_28 : decode cX3_name 28 = .ok (.if_icmp .ge 12, 3) := dk_162 0 12 (dk_at dksX3_name_1 4 rfl rfl)
theorem dX3_name_31 : decode cX3_name 31 = .ok (.aload_n 0, 1) := dk_42 (dk_at dksX3_name_1 7 rfl rfl)
theorem dX3_name_32 : decode cX3_name 32 = .ok (.getfield 139, 3) := dk_180 0 139 (dk_at dksX3_name_1 8 rfl rfl)
theorem dX3_name_35 : decode cX3_name 35 = .ok (.iload_n 1, 1) := dk_27 (dk_at dksX3_name_1 11 rfl rfl)
theorem dX3_name_36 : decode cX3_name 36 = .ok (.baload, 1) := dk_51 (dk_at dksX3_name_1 12 rfl rfl)
theorem dX3_name_37 : decode cX3_name 37 = .ok (.goto 4, 3) := dk_167 0 4 (dk_at dksX3_name_1 13 rfl rfl)
theorem dX3_name_40 : decode cX3_name 40 = .ok (.iconst (-1), 1) := dk_2 (dk_at dksX3_name_1 16 rfl rfl)
theorem dX3_name_41 : decode cX3_name 41 = .ok (.ireturn, 1) := dk_172 (dk_at dksX3_name_1 17 rfl rfl)
abbrev cX3_names : ByteArray := prog_21_method_124_code
def yX3_names : MethodName := ⟨RX3, "names", "()V"⟩
def dkwX3_names_6 : List UInt8 := [132, 4, 1, 167, 255, 223, 132, 3, 1, 167, 255, 209, 177]
abbrev dktX3_names_6 : List UInt8 := dkwX3_names_6 ++ []
def dkwX3_names_5 : List UInt8 := [180, 0, 85, 16, 16, 29, 104, 21, 4, 96, 46, 28, 160, 0, 11, 42, 29, 21, 4, 2, 182, 2, 6]
abbrev dktX3_names_5 : List UInt8 := dkwX3_names_5 ++ dktX3_names_6
def dkwX3_names_4 : List UInt8 := [61, 42, 3, 181, 1, 244, 3, 62, 29, 27, 162, 0, 48, 3, 54, 4, 21, 4, 27, 162, 0, 33, 42]
abbrev dktX3_names_4 : List UInt8 := dkwX3_names_4 ++ dktX3_names_5
def dkwX3_names_3 : List UInt8 := [132, 4, 1, 167, 255, 213, 132, 3, 1, 167, 255, 199, 132, 2, 1, 167, 255, 186, 42, 182, 1, 191, 4, 100]
abbrev dktX3_names_3 : List UInt8 := dkwX3_names_3 ++ dktX3_names_4
def dkwX3_names_2 : List UInt8 := [184, 0, 184, 153, 0, 21, 42, 29, 21, 4, 182, 1, 64, 28, 160, 0, 10, 42, 29, 21, 4, 182, 2, 13]
abbrev dktX3_names_2 : List UInt8 := dkwX3_names_2 ++ dktX3_names_3
def dkwX3_names_1 : List UInt8 := [162, 0, 58, 3, 54, 4, 21, 4, 27, 162, 0, 43, 42, 180, 0, 64, 4, 29, 96, 46, 21, 4]
abbrev dktX3_names_1 : List UInt8 := dkwX3_names_1 ++ dktX3_names_2
def dkwX3_names_0 : List UInt8 := [42, 182, 1, 118, 42, 180, 0, 64, 3, 46, 60, 4, 61, 28, 27, 162, 0, 71, 3, 62, 29, 27]
abbrev dktX3_names_0 : List UInt8 := dkwX3_names_0 ++ dktX3_names_1
theorem dksX3_names_0 : cX3_names.data.toList.drop 0 = dktX3_names_0 := by decide +kernel
theorem dksX3_names_1 : cX3_names.data.toList.drop 22 = dktX3_names_1 := dk_seg dksX3_names_0 22 rfl rfl
theorem dksX3_names_2 : cX3_names.data.toList.drop 44 = dktX3_names_2 := dk_seg dksX3_names_1 22 rfl rfl
theorem dksX3_names_3 : cX3_names.data.toList.drop 68 = dktX3_names_3 := dk_seg dksX3_names_2 24 rfl rfl
theorem dksX3_names_4 : cX3_names.data.toList.drop 92 = dktX3_names_4 := dk_seg dksX3_names_3 24 rfl rfl
theorem dksX3_names_5 : cX3_names.data.toList.drop 115 = dktX3_names_5 := dk_seg dksX3_names_4 23 rfl rfl
theorem dksX3_names_6 : cX3_names.data.toList.drop 138 = dktX3_names_6 := dk_seg dksX3_names_5 23 rfl rfl
theorem dX3_names_0 : decode cX3_names 0 = .ok (.aload_n 0, 1) := dk_42 (dk_at dksX3_names_0 0 rfl rfl)
theorem dX3_names_1 : decode cX3_names 1 = .ok (.invokevirtual 374, 3) := dk_182 1 118 (dk_at dksX3_names_0 1 rfl rfl)
theorem dX3_names_4 : decode cX3_names 4 = .ok (.aload_n 0, 1) := dk_42 (dk_at dksX3_names_0 4 rfl rfl)
theorem dX3_names_5 : decode cX3_names 5 = .ok (.getfield 64, 3) := dk_180 0 64 (dk_at dksX3_names_0 5 rfl rfl)
theorem dX3_names_8 : decode cX3_names 8 = .ok (.iconst 0, 1) := dk_3 (dk_at dksX3_names_0 8 rfl rfl)
theorem dX3_names_9 : decode cX3_names 9 = .ok (.iaload, 1) := dk_46 (dk_at dksX3_names_0 9 rfl rfl)
theorem dX3_names_10 : decode cX3_names 10 = .ok (.istore_n 1, 1) := dk_60 (dk_at dksX3_names_0 10 rfl rfl)
theorem dX3_names_11 : decode cX3_names 11 = .ok (.iconst 1, 1) := dk_4 (dk_at dksX3_names_0 11 rfl rfl)
theorem dX3_names_12 : decode cX3_names 12 = .ok (.istore_n 2, 1) := dk_61 (dk_at dksX3_names_0 12 rfl rfl)
theorem dX3_names_13 : decode cX3_names 13 = .ok (.iload_n 2, 1) := dk_28 (dk_at dksX3_names_0 13 rfl rfl)
theorem dX3_names_14 : decode cX3_names 14 = .ok (.iload_n 1, 1) := dk_27 (dk_at dksX3_names_0 14 rfl rfl)
theorem dX3_names_15 : decode cX3_names 15 = .ok (.if_icmp .ge 71, 3) := dk_162 0 71 (dk_at dksX3_names_0 15 rfl rfl)
theorem dX3_names_18 : decode cX3_names 18 = .ok (.iconst 0, 1) := dk_3 (dk_at dksX3_names_0 18 rfl rfl)
theorem dX3_names_19 : decode cX3_names 19 = .ok (.istore_n 3, 1) := dk_62 (dk_at dksX3_names_0 19 rfl rfl)
theorem dX3_names_20 : decode cX3_names 20 = .ok (.iload_n 3, 1) := dk_29 (dk_at dksX3_names_0 20 rfl rfl)
theorem dX3_names_21 : decode cX3_names 21 = .ok (.iload_n 1, 1) := dk_27 (dk_at dksX3_names_0 21 rfl rfl)
theorem dX3_names_22 : decode cX3_names 22 = .ok (.if_icmp .ge 58, 3) := dk_162 0 58 (dk_at dksX3_names_1 0 rfl rfl)
theorem dX3_names_25 : decode cX3_names 25 = .ok (.iconst 0, 1) := dk_3 (dk_at dksX3_names_1 3 rfl rfl)
theorem dX3_names_26 : decode cX3_names 26 = .ok (.istore 4, 2) := dk_54 4 (dk_at dksX3_names_1 4 rfl rfl)
theorem dX3_names_28 : decode cX3_names 28 = .ok (.iload 4, 2) := dk_21 4 (dk_at dksX3_names_1 6 rfl rfl)
theorem dX3_names_30 : decode cX3_names 30 = .ok (.iload_n 1, 1) := dk_27 (dk_at dksX3_names_1 8 rfl rfl)
theorem dX3_names_31 : decode cX3_names 31 = .ok (.if_icmp .ge 43, 3) := dk_162 0 43 (dk_at dksX3_names_1 9 rfl rfl)
theorem dX3_names_34 : decode cX3_names 34 = .ok (.aload_n 0, 1) := dk_42 (dk_at dksX3_names_1 12 rfl rfl)
theorem dX3_names_35 : decode cX3_names 35 = .ok (.getfield 64, 3) := dk_180 0 64 (dk_at dksX3_names_1 13 rfl rfl)
theorem dX3_names_38 : decode cX3_names 38 = .ok (.iconst 1, 1) := dk_4 (dk_at dksX3_names_1 16 rfl rfl)
theorem dX3_names_39 : decode cX3_names 39 = .ok (.iload_n 3, 1) := dk_29 (dk_at dksX3_names_1 17 rfl rfl)
theorem dX3_names_40 : decode cX3_names 40 = .ok (.iadd, 1) := dk_96 (dk_at dksX3_names_1 18 rfl rfl)
theorem dX3_names_41 : decode cX3_names 41 = .ok (.iaload, 1) := dk_46 (dk_at dksX3_names_1 19 rfl rfl)
theorem dX3_names_42 : decode cX3_names 42 = .ok (.iload 4, 2) := dk_21 4 (dk_at dksX3_names_1 20 rfl rfl)
theorem dX3_names_44 : decode cX3_names 44 = .ok (.invokestatic 184, 3) := dk_184 0 184 (dk_at dksX3_names_2 0 rfl rfl)
theorem dX3_names_47 : decode cX3_names 47 = .ok (.ifCond .eq 21, 3) := dk_153 0 21 (dk_at dksX3_names_2 3 rfl rfl)
theorem dX3_names_50 : decode cX3_names 50 = .ok (.aload_n 0, 1) := dk_42 (dk_at dksX3_names_2 6 rfl rfl)
theorem dX3_names_51 : decode cX3_names 51 = .ok (.iload_n 3, 1) := dk_29 (dk_at dksX3_names_2 7 rfl rfl)
theorem dX3_names_52 : decode cX3_names 52 = .ok (.iload 4, 2) := dk_21 4 (dk_at dksX3_names_2 8 rfl rfl)
theorem dX3_names_54 : decode cX3_names 54 = .ok (.invokevirtual 320, 3) := dk_182 1 64 (dk_at dksX3_names_2 10 rfl rfl)
theorem dX3_names_57 : decode cX3_names 57 = .ok (.iload_n 2, 1) := dk_28 (dk_at dksX3_names_2 13 rfl rfl)
theorem dX3_names_58 : decode cX3_names 58 = .ok (.if_icmp .ne 10, 3) := dk_160 0 10 (dk_at dksX3_names_2 14 rfl rfl)
theorem dX3_names_61 : decode cX3_names 61 = .ok (.aload_n 0, 1) := dk_42 (dk_at dksX3_names_2 17 rfl rfl)
theorem dX3_names_62 : decode cX3_names 62 = .ok (.iload_n 3, 1) := dk_29 (dk_at dksX3_names_2 18 rfl rfl)
theorem dX3_names_63 : decode cX3_names 63 = .ok (.iload 4, 2) := dk_21 4 (dk_at dksX3_names_2 19 rfl rfl)
theorem dX3_names_65 : decode cX3_names 65 = .ok (.invokevirtual 525, 3) := dk_182 2 13 (dk_at dksX3_names_2 21 rfl rfl)
theorem dX3_names_68 : decode cX3_names 68 = .ok (.iinc 4 1, 3) := dk_132 4 1 (dk_at dksX3_names_3 0 rfl rfl)
theorem dX3_names_71 : decode cX3_names 71 = .ok (.goto (-43), 3) := dk_167 255 213 (dk_at dksX3_names_3 3 rfl rfl)
theorem dX3_names_74 : decode cX3_names 74 = .ok (.iinc 3 1, 3) := dk_132 3 1 (dk_at dksX3_names_3 6 rfl rfl)
theorem dX3_names_77 : decode cX3_names 77 = .ok (.goto (-57), 3) := dk_167 255 199 (dk_at dksX3_names_3 9 rfl rfl)
theorem dX3_names_80 : decode cX3_names 80 = .ok (.iinc 2 1, 3) := dk_132 2 1 (dk_at dksX3_names_3 12 rfl rfl)
theorem dX3_names_83 : decode cX3_names 83 = .ok (.goto (-70), 3) := dk_167 255 186 (dk_at dksX3_names_3 15 rfl rfl)
theorem dX3_names_86 : decode cX3_names 86 = .ok (.aload_n 0, 1) := dk_42 (dk_at dksX3_names_3 18 rfl rfl)
theorem dX3_names_87 : decode cX3_names 87 = .ok (.invokevirtual 447, 3) := dk_182 1 191 (dk_at dksX3_names_3 19 rfl rfl)
theorem dX3_names_90 : decode cX3_names 90 = .ok (.iconst 1, 1) := dk_4 (dk_at dksX3_names_3 22 rfl rfl)
theorem dX3_names_91 : decode cX3_names 91 = .ok (.isub, 1) := dk_100 (dk_at dksX3_names_3 23 rfl rfl)
theorem dX3_names_92 : decode cX3_names 92 = .ok (.istore_n 2, 1) := dk_61 (dk_at dksX3_names_4 0 rfl rfl)
theorem dX3_names_93 : decode cX3_names 93 = .ok (.aload_n 0, 1) := dk_42 (dk_at dksX3_names_4 1 rfl rfl)
theorem dX3_names_94 : decode cX3_names 94 = .ok (.iconst 0, 1) := dk_3 (dk_at dksX3_names_4 2 rfl rfl)
theorem dX3_names_95 : decode cX3_names 95 = .ok (.putfield 500, 3) := dk_181 1 244 (dk_at dksX3_names_4 3 rfl rfl)
theorem dX3_names_98 : decode cX3_names 98 = .ok (.iconst 0, 1) := dk_3 (dk_at dksX3_names_4 6 rfl rfl)
theorem dX3_names_99 : decode cX3_names 99 = .ok (.istore_n 3, 1) := dk_62 (dk_at dksX3_names_4 7 rfl rfl)
theorem dX3_names_100 : decode cX3_names 100 = .ok (.iload_n 3, 1) := dk_29 (dk_at dksX3_names_4 8 rfl rfl)
theorem dX3_names_101 : decode cX3_names 101 = .ok (.iload_n 1, 1) := dk_27 (dk_at dksX3_names_4 9 rfl rfl)
theorem dX3_names_102 : decode cX3_names 102 = .ok (.if_icmp .ge 48, 3) := dk_162 0 48 (dk_at dksX3_names_4 10 rfl rfl)
theorem dX3_names_105 : decode cX3_names 105 = .ok (.iconst 0, 1) := dk_3 (dk_at dksX3_names_4 13 rfl rfl)
theorem dX3_names_106 : decode cX3_names 106 = .ok (.istore 4, 2) := dk_54 4 (dk_at dksX3_names_4 14 rfl rfl)
theorem dX3_names_108 : decode cX3_names 108 = .ok (.iload 4, 2) := dk_21 4 (dk_at dksX3_names_4 16 rfl rfl)
theorem dX3_names_110 : decode cX3_names 110 = .ok (.iload_n 1, 1) := dk_27 (dk_at dksX3_names_4 18 rfl rfl)
theorem dX3_names_111 : decode cX3_names 111 = .ok (.if_icmp .ge 33, 3) := dk_162 0 33 (dk_at dksX3_names_4 19 rfl rfl)
theorem dX3_names_114 : decode cX3_names 114 = .ok (.aload_n 0, 1) := dk_42 (dk_at dksX3_names_4 22 rfl rfl)
theorem dX3_names_115 : decode cX3_names 115 = .ok (.getfield 85, 3) := dk_180 0 85 (dk_at dksX3_names_5 0 rfl rfl)
theorem dX3_names_118 : decode cX3_names 118 = .ok (.bipush 16, 2) := dk_16 16 (dk_at dksX3_names_5 3 rfl rfl)
theorem dX3_names_120 : decode cX3_names 120 = .ok (.iload_n 3, 1) := dk_29 (dk_at dksX3_names_5 5 rfl rfl)
theorem dX3_names_121 : decode cX3_names 121 = .ok (.imul, 1) := dk_104 (dk_at dksX3_names_5 6 rfl rfl)
theorem dX3_names_122 : decode cX3_names 122 = .ok (.iload 4, 2) := dk_21 4 (dk_at dksX3_names_5 7 rfl rfl)
theorem dX3_names_124 : decode cX3_names 124 = .ok (.iadd, 1) := dk_96 (dk_at dksX3_names_5 9 rfl rfl)
theorem dX3_names_125 : decode cX3_names 125 = .ok (.iaload, 1) := dk_46 (dk_at dksX3_names_5 10 rfl rfl)
theorem dX3_names_126 : decode cX3_names 126 = .ok (.iload_n 2, 1) := dk_28 (dk_at dksX3_names_5 11 rfl rfl)
theorem dX3_names_127 : decode cX3_names 127 = .ok (.if_icmp .ne 11, 3) := dk_160 0 11 (dk_at dksX3_names_5 12 rfl rfl)
theorem dX3_names_130 : decode cX3_names 130 = .ok (.aload_n 0, 1) := dk_42 (dk_at dksX3_names_5 15 rfl rfl)
theorem dX3_names_131 : decode cX3_names 131 = .ok (.iload_n 3, 1) := dk_29 (dk_at dksX3_names_5 16 rfl rfl)
theorem dX3_names_132 : decode cX3_names 132 = .ok (.iload 4, 2) := dk_21 4 (dk_at dksX3_names_5 17 rfl rfl)
theorem dX3_names_134 : decode cX3_names 134 = .ok (.iconst (-1), 1) := dk_2 (dk_at dksX3_names_5 19 rfl rfl)
theorem dX3_names_135 : decode cX3_names 135 = .ok (.invokevirtual 518, 3) := dk_182 2 6 (dk_at dksX3_names_5 20 rfl rfl)
theorem dX3_names_138 : decode cX3_names 138 = .ok (.iinc 4 1, 3) := dk_132 4 1 (dk_at dksX3_names_6 0 rfl rfl)
theorem dX3_names_141 : decode cX3_names 141 = .ok (.goto (-33), 3) := dk_167 255 223 (dk_at dksX3_names_6 3 rfl rfl)
theorem dX3_names_144 : decode cX3_names 144 = .ok (.iinc 3 1, 3) := dk_132 3 1 (dk_at dksX3_names_6 6 rfl rfl)
theorem dX3_names_147 : decode cX3_names 147 = .ok (.goto (-47), 3) := dk_167 255 209 (dk_at dksX3_names_6 9 rfl rfl)
theorem dX3_names_150 : decode cX3_names 150 = .ok (.return_, 1) := dk_177 (dk_at dksX3_names_6 12 rfl rfl)
abbrev cX3_writesBranch : ByteArray := prog_21_method_122_code
def yX3_writesBranch : MethodName := ⟨RX3, "writesBranch", "(II)V"⟩
def dkwX3_writesBranch_7 : List UInt8 := [132, 6, 1, 167, 255, 231, 21, 5, 154, 0, 11, 42, 21, 4, 16, 41, 182, 2, 10, 177]
abbrev dktX3_writesBranch_7 : List UInt8 := dkwX3_writesBranch_7 ++ []
def dkwX3_writesBranch_6 : List UInt8 := [21, 6, 42, 180, 1, 244, 162, 0, 22, 42, 21, 4, 42, 180, 0, 139, 21, 6, 51, 182, 2, 10]
abbrev dktX3_writesBranch_6 : List UInt8 := dkwX3_writesBranch_6 ++ dktX3_writesBranch_7
def dkwX3_writesBranch_5 : List UInt8 := [42, 180, 0, 133, 21, 4, 3, 79, 21, 5, 154, 0, 11, 42, 21, 4, 16, 40, 182, 2, 10, 3, 54, 6]
abbrev dktX3_writesBranch_5 : List UInt8 := dkwX3_writesBranch_5 ++ dktX3_writesBranch_6
def dkwX3_writesBranch_4 : List UInt8 := [54, 4, 42, 180, 0, 48, 29, 46, 42, 180, 0, 39, 29, 46, 160, 0, 7, 4, 167, 0, 4, 3, 54, 5]
abbrev dktX3_writesBranch_4 : List UInt8 := dkwX3_writesBranch_4 ++ dktX3_writesBranch_5
def dkwX3_writesBranch_3 : List UInt8 := [160, 0, 11, 42, 28, 21, 4, 27, 182, 2, 6, 132, 4, 1, 167, 255, 192, 16, 16, 27, 104, 28, 96]
abbrev dktX3_writesBranch_3 : List UInt8 := dkwX3_writesBranch_3 ++ dktX3_writesBranch_4
def dkwX3_writesBranch_2 : List UInt8 := [153, 0, 34, 42, 180, 0, 85, 16, 16, 28, 104, 21, 4, 96, 46, 42, 180, 0, 48, 29, 46, 4, 100]
abbrev dktX3_writesBranch_2 : List UInt8 := dkwX3_writesBranch_2 ++ dktX3_writesBranch_3
def dkwX3_writesBranch_1 : List UInt8 := [180, 0, 64, 3, 46, 162, 0, 59, 42, 180, 0, 70, 16, 16, 27, 104, 28, 96, 46, 21, 4, 184, 0, 184]
abbrev dktX3_writesBranch_1 : List UInt8 := dkwX3_writesBranch_1 ++ dktX3_writesBranch_2
def dkwX3_writesBranch_0 : List UInt8 := [42, 180, 0, 67, 16, 16, 27, 104, 28, 96, 46, 62, 42, 3, 181, 1, 244, 3, 54, 4, 21, 4, 42]
abbrev dktX3_writesBranch_0 : List UInt8 := dkwX3_writesBranch_0 ++ dktX3_writesBranch_1
theorem dksX3_writesBranch_0 : cX3_writesBranch.data.toList.drop 0 = dktX3_writesBranch_0 := by decide +kernel
theorem dksX3_writesBranch_1 : cX3_writesBranch.data.toList.drop 23 = dktX3_writesBranch_1 := dk_seg dksX3_writesBranch_0 23 rfl rfl
theorem dksX3_writesBranch_2 : cX3_writesBranch.data.toList.drop 47 = dktX3_writesBranch_2 := dk_seg dksX3_writesBranch_1 24 rfl rfl
theorem dksX3_writesBranch_3 : cX3_writesBranch.data.toList.drop 70 = dktX3_writesBranch_3 := dk_seg dksX3_writesBranch_2 23 rfl rfl
theorem dksX3_writesBranch_4 : cX3_writesBranch.data.toList.drop 93 = dktX3_writesBranch_4 := dk_seg dksX3_writesBranch_3 23 rfl rfl
theorem dksX3_writesBranch_5 : cX3_writesBranch.data.toList.drop 117 = dktX3_writesBranch_5 := dk_seg dksX3_writesBranch_4 24 rfl rfl
theorem dksX3_writesBranch_6 : cX3_writesBranch.data.toList.drop 141 = dktX3_writesBranch_6 := dk_seg dksX3_writesBranch_5 24 rfl rfl
theorem dksX3_writesBranch_7 : cX3_writesBranch.data.toList.drop 163 = dktX3_writesBranch_7 := dk_seg dksX3_writesBranch_6 22 rfl rfl
theorem dX3_writesBranch_0 : decode cX3_writesBranch 0 = .ok (.aload_n 0, 1) := dk_42 (dk_at dksX3_writesBranch_0 0 rfl rfl)
theorem dX3_writesBranch_1 : decode cX3_writesBranch 1 = .ok (.getfield 67, 3) := dk_180 0 67 (dk_at dksX3_writesBranch_0 1 rfl rfl)
theorem dX3_writesBranch_4 : decode cX3_writesBranch 4 = .ok (.bipush 16, 2) := dk_16 16 (dk_at dksX3_writesBranch_0 4 rfl rfl)
theorem dX3_writesBranch_6 : decode cX3_writesBranch 6 = .ok (.iload_n 1, 1) := dk_27 (dk_at dksX3_writesBranch_0 6 rfl rfl)
theorem dX3_writesBranch_7 : decode cX3_writesBranch 7 = .ok (.imul, 1) := dk_104 (dk_at dksX3_writesBranch_0 7 rfl rfl)
theorem dX3_writesBranch_8 : decode cX3_writesBranch 8 = .ok (.iload_n 2, 1) := dk_28 (dk_at dksX3_writesBranch_0 8 rfl rfl)
theorem dX3_writesBranch_9 : decode cX3_writesBranch 9 = .ok (.iadd, 1) := dk_96 (dk_at dksX3_writesBranch_0 9 rfl rfl)
theorem dX3_writesBranch_10 : decode cX3_writesBranch 10 = .ok (.iaload, 1) := dk_46 (dk_at dksX3_writesBranch_0 10 rfl rfl)
theorem dX3_writesBranch_11 : decode cX3_writesBranch 11 = .ok (.istore_n 3, 1) := dk_62 (dk_at dksX3_writesBranch_0 11 rfl rfl)
theorem dX3_writesBranch_12 : decode cX3_writesBranch 12 = .ok (.aload_n 0, 1) := dk_42 (dk_at dksX3_writesBranch_0 12 rfl rfl)
theorem dX3_writesBranch_13 : decode cX3_writesBranch 13 = .ok (.iconst 0, 1) := dk_3 (dk_at dksX3_writesBranch_0 13 rfl rfl)
theorem dX3_writesBranch_14 : decode cX3_writesBranch 14 = .ok (.putfield 500, 3) := dk_181 1 244 (dk_at dksX3_writesBranch_0 14 rfl rfl)
theorem dX3_writesBranch_17 : decode cX3_writesBranch 17 = .ok (.iconst 0, 1) := dk_3 (dk_at dksX3_writesBranch_0 17 rfl rfl)
theorem dX3_writesBranch_18 : decode cX3_writesBranch 18 = .ok (.istore 4, 2) := dk_54 4 (dk_at dksX3_writesBranch_0 18 rfl rfl)
theorem dX3_writesBranch_20 : decode cX3_writesBranch 20 = .ok (.iload 4, 2) := dk_21 4 (dk_at dksX3_writesBranch_0 20 rfl rfl)
theorem dX3_writesBranch_22 : decode cX3_writesBranch 22 = .ok (.aload_n 0, 1) := dk_42 (dk_at dksX3_writesBranch_0 22 rfl rfl)
theorem dX3_writesBranch_23 : decode cX3_writesBranch 23 = .ok (.getfield 64, 3) := dk_180 0 64 (dk_at dksX3_writesBranch_1 0 rfl rfl)
theorem dX3_writesBranch_26 : decode cX3_writesBranch 26 = .ok (.iconst 0, 1) := dk_3 (dk_at dksX3_writesBranch_1 3 rfl rfl)
theorem dX3_writesBranch_27 : decode cX3_writesBranch 27 = .ok (.iaload, 1) := dk_46 (dk_at dksX3_writesBranch_1 4 rfl rfl)
theorem dX3_writesBranch_28 : decode cX3_writesBranch 28 = .ok (.if_icmp .ge 59, 3) := dk_162 0 59 (dk_at dksX3_writesBranch_1 5 rfl rfl)
theorem dX3_writesBranch_31 : decode cX3_writesBranch 31 = .ok (.aload_n 0, 1) := dk_42 (dk_at dksX3_writesBranch_1 8 rfl rfl)
theorem dX3_writesBranch_32 : decode cX3_writesBranch 32 = .ok (.getfield 70, 3) := dk_180 0 70 (dk_at dksX3_writesBranch_1 9 rfl rfl)
theorem dX3_writesBranch_35 : decode cX3_writesBranch 35 = .ok (.bipush 16, 2) := dk_16 16 (dk_at dksX3_writesBranch_1 12 rfl rfl)
theorem dX3_writesBranch_37 : decode cX3_writesBranch 37 = .ok (.iload_n 1, 1) := dk_27 (dk_at dksX3_writesBranch_1 14 rfl rfl)
theorem dX3_writesBranch_38 : decode cX3_writesBranch 38 = .ok (.imul, 1) := dk_104 (dk_at dksX3_writesBranch_1 15 rfl rfl)
theorem dX3_writesBranch_39 : decode cX3_writesBranch 39 = .ok (.iload_n 2, 1) := dk_28 (dk_at dksX3_writesBranch_1 16 rfl rfl)
theorem dX3_writesBranch_40 : decode cX3_writesBranch 40 = .ok (.iadd, 1) := dk_96 (dk_at dksX3_writesBranch_1 17 rfl rfl)
theorem dX3_writesBranch_41 : decode cX3_writesBranch 41 = .ok (.iaload, 1) := dk_46 (dk_at dksX3_writesBranch_1 18 rfl rfl)
theorem dX3_writesBranch_42 : decode cX3_writesBranch 42 = .ok (.iload 4, 2) := dk_21 4 (dk_at dksX3_writesBranch_1 19 rfl rfl)
theorem dX3_writesBranch_44 : decode cX3_writesBranch 44 = .ok (.invokestatic 184, 3) := dk_184 0 184 (dk_at dksX3_writesBranch_1 21 rfl rfl)
theorem dX3_writesBranch_47 : decode cX3_writesBranch 47 = .ok (.ifCond .eq 34, 3) := dk_153 0 34 (dk_at dksX3_writesBranch_2 0 rfl rfl)
theorem dX3_writesBranch_50 : decode cX3_writesBranch 50 = .ok (.aload_n 0, 1) := dk_42 (dk_at dksX3_writesBranch_2 3 rfl rfl)
theorem dX3_writesBranch_51 : decode cX3_writesBranch 51 = .ok (.getfield 85, 3) := dk_180 0 85 (dk_at dksX3_writesBranch_2 4 rfl rfl)
theorem dX3_writesBranch_54 : decode cX3_writesBranch 54 = .ok (.bipush 16, 2) := dk_16 16 (dk_at dksX3_writesBranch_2 7 rfl rfl)
theorem dX3_writesBranch_56 : decode cX3_writesBranch 56 = .ok (.iload_n 2, 1) := dk_28 (dk_at dksX3_writesBranch_2 9 rfl rfl)
theorem dX3_writesBranch_57 : decode cX3_writesBranch 57 = .ok (.imul, 1) := dk_104 (dk_at dksX3_writesBranch_2 10 rfl rfl)
theorem dX3_writesBranch_58 : decode cX3_writesBranch 58 = .ok (.iload 4, 2) := dk_21 4 (dk_at dksX3_writesBranch_2 11 rfl rfl)
theorem dX3_writesBranch_60 : decode cX3_writesBranch 60 = .ok (.iadd, 1) := dk_96 (dk_at dksX3_writesBranch_2 13 rfl rfl)
theorem dX3_writesBranch_61 : decode cX3_writesBranch 61 = .ok (.iaload, 1) := dk_46 (dk_at dksX3_writesBranch_2 14 rfl rfl)
theorem dX3_writesBranch_62 : decode cX3_writesBranch 62 = .ok (.aload_n 0, 1) := dk_42 (dk_at dksX3_writesBranch_2 15 rfl rfl)
theorem dX3_writesBranch_63 : decode cX3_writesBranch 63 = .ok (.getfield 48, 3) := dk_180 0 48 (dk_at dksX3_writesBranch_2 16 rfl rfl)
theorem dX3_writesBranch_66 : decode cX3_writesBranch 66 = .ok (.iload_n 3, 1) := dk_29 (dk_at dksX3_writesBranch_2 19 rfl rfl)
theorem dX3_writesBranch_67 : decode cX3_writesBranch 67 = .ok (.iaload, 1) := dk_46 (dk_at dksX3_writesBranch_2 20 rfl rfl)
theorem dX3_writesBranch_68 : decode cX3_writesBranch 68 = .ok (.iconst 1, 1) := dk_4 (dk_at dksX3_writesBranch_2 21 rfl rfl)
theorem dX3_writesBranch_69 : decode cX3_writesBranch 69 = .ok (.isub, 1) := dk_100 (dk_at dksX3_writesBranch_2 22 rfl rfl)
theorem dX3_writesBranch_70 : decode cX3_writesBranch 70 = .ok (.if_icmp .ne 11, 3) := dk_160 0 11 (dk_at dksX3_writesBranch_3 0 rfl rfl)
theorem dX3_writesBranch_73 : decode cX3_writesBranch 73 = .ok (.aload_n 0, 1) := dk_42 (dk_at dksX3_writesBranch_3 3 rfl rfl)
theorem dX3_writesBranch_74 : decode cX3_writesBranch 74 = .ok (.iload_n 2, 1) := dk_28 (dk_at dksX3_writesBranch_3 4 rfl rfl)
theorem dX3_writesBranch_75 : decode cX3_writesBranch 75 = .ok (.iload 4, 2) := dk_21 4 (dk_at dksX3_writesBranch_3 5 rfl rfl)
theorem dX3_writesBranch_77 : decode cX3_writesBranch 77 = .ok (.iload_n 1, 1) := dk_27 (dk_at dksX3_writesBranch_3 7 rfl rfl)
theorem dX3_writesBranch_78 : decode cX3_writesBranch 78 = .ok (.invokevirtual 518, 3) := dk_182 2 6 (dk_at dksX3_writesBranch_3 8 rfl rfl)
theorem dX3_writesBranch_81 : decode cX3_writesBranch 81 = .ok (.iinc 4 1, 3) := dk_132 4 1 (dk_at dksX3_writesBranch_3 11 rfl rfl)
theorem dX3_writesBranch_84 : decode cX3_writesBranch 84 = .ok (.goto (-64), 3) := dk_167 255 192 (dk_at dksX3_writesBranch_3 14 rfl rfl)
theorem dX3_writesBranch_87 : decode cX3_writesBranch 87 = .ok (.bipush 16, 2) := dk_16 16 (dk_at dksX3_writesBranch_3 17 rfl rfl)
theorem dX3_writesBranch_89 : decode cX3_writesBranch 89 = .ok (.iload_n 1, 1) := dk_27 (dk_at dksX3_writesBranch_3 19 rfl rfl)
theorem dX3_writesBranch_90 : decode cX3_writesBranch 90 = .ok (.imul, 1) := dk_104 (dk_at dksX3_writesBranch_3 20 rfl rfl)
theorem dX3_writesBranch_91 : decode cX3_writesBranch 91 = .ok (.iload_n 2, 1) := dk_28 (dk_at dksX3_writesBranch_3 21 rfl rfl)
theorem dX3_writesBranch_92 : decode cX3_writesBranch 92 = .ok (.iadd, 1) := dk_96 (dk_at dksX3_writesBranch_3 22 rfl rfl)
theorem dX3_writesBranch_93 : decode cX3_writesBranch 93 = .ok (.istore 4, 2) := dk_54 4 (dk_at dksX3_writesBranch_4 0 rfl rfl)
theorem dX3_writesBranch_95 : decode cX3_writesBranch 95 = .ok (.aload_n 0, 1) := dk_42 (dk_at dksX3_writesBranch_4 2 rfl rfl)
theorem dX3_writesBranch_96 : decode cX3_writesBranch 96 = .ok (.getfield 48, 3) := dk_180 0 48 (dk_at dksX3_writesBranch_4 3 rfl rfl)
theorem dX3_writesBranch_99 : decode cX3_writesBranch 99 = .ok (.iload_n 3, 1) := dk_29 (dk_at dksX3_writesBranch_4 6 rfl rfl)
theorem dX3_writesBranch_100 : decode cX3_writesBranch 100 = .ok (.iaload, 1) := dk_46 (dk_at dksX3_writesBranch_4 7 rfl rfl)
theorem dX3_writesBranch_101 : decode cX3_writesBranch 101 = .ok (.aload_n 0, 1) := dk_42 (dk_at dksX3_writesBranch_4 8 rfl rfl)
theorem dX3_writesBranch_102 : decode cX3_writesBranch 102 = .ok (.getfield 39, 3) := dk_180 0 39 (dk_at dksX3_writesBranch_4 9 rfl rfl)
theorem dX3_writesBranch_105 : decode cX3_writesBranch 105 = .ok (.iload_n 3, 1) := dk_29 (dk_at dksX3_writesBranch_4 12 rfl rfl)
theorem dX3_writesBranch_106 : decode cX3_writesBranch 106 = .ok (.iaload, 1) := dk_46 (dk_at dksX3_writesBranch_4 13 rfl rfl)
theorem dX3_writesBranch_107 : decode cX3_writesBranch 107 = .ok (.if_icmp .ne 7, 3) := dk_160 0 7 (dk_at dksX3_writesBranch_4 14 rfl rfl)
theorem dX3_writesBranch_110 : decode cX3_writesBranch 110 = .ok (.iconst 1, 1) := dk_4 (dk_at dksX3_writesBranch_4 17 rfl rfl)
theorem dX3_writesBranch_111 : decode cX3_writesBranch 111 = .ok (.goto 4, 3) := dk_167 0 4 (dk_at dksX3_writesBranch_4 18 rfl rfl)
theorem dX3_writesBranch_114 : decode cX3_writesBranch 114 = .ok (.iconst 0, 1) := dk_3 (dk_at dksX3_writesBranch_4 21 rfl rfl)
theorem dX3_writesBranch_115 : decode cX3_writesBranch 115 = .ok (.istore 5, 2) := dk_54 5 (dk_at dksX3_writesBranch_4 22 rfl rfl)
theorem dX3_writesBranch_117 : decode cX3_writesBranch 117 = .ok (.aload_n 0, 1) := dk_42 (dk_at dksX3_writesBranch_5 0 rfl rfl)
theorem dX3_writesBranch_118 : decode cX3_writesBranch 118 = .ok (.getfield 133, 3) := dk_180 0 133 (dk_at dksX3_writesBranch_5 1 rfl rfl)
theorem dX3_writesBranch_121 : decode cX3_writesBranch 121 = .ok (.iload 4, 2) := dk_21 4 (dk_at dksX3_writesBranch_5 4 rfl rfl)
theorem dX3_writesBranch_123 : decode cX3_writesBranch 123 = .ok (.iconst 0, 1) := dk_3 (dk_at dksX3_writesBranch_5 6 rfl rfl)
theorem dX3_writesBranch_124 : decode cX3_writesBranch 124 = .ok (.iastore, 1) := dk_79 (dk_at dksX3_writesBranch_5 7 rfl rfl)
theorem dX3_writesBranch_125 : decode cX3_writesBranch 125 = .ok (.iload 5, 2) := dk_21 5 (dk_at dksX3_writesBranch_5 8 rfl rfl)
theorem dX3_writesBranch_127 : decode cX3_writesBranch 127 = .ok (.ifCond .ne 11, 3) := dk_154 0 11 (dk_at dksX3_writesBranch_5 10 rfl rfl)
theorem dX3_writesBranch_130 : decode cX3_writesBranch 130 = .ok (.aload_n 0, 1) := dk_42 (dk_at dksX3_writesBranch_5 13 rfl rfl)
theorem dX3_writesBranch_131 : decode cX3_writesBranch 131 = .ok (.iload 4, 2) := dk_21 4 (dk_at dksX3_writesBranch_5 14 rfl rfl)
theorem dX3_writesBranch_133 : decode cX3_writesBranch 133 = .ok (.bipush 40, 2) := dk_16 40 (dk_at dksX3_writesBranch_5 16 rfl rfl)
theorem dX3_writesBranch_135 : decode cX3_writesBranch 135 = .ok (.invokevirtual 522, 3) := dk_182 2 10 (dk_at dksX3_writesBranch_5 18 rfl rfl)
theorem dX3_writesBranch_138 : decode cX3_writesBranch 138 = .ok (.iconst 0, 1) := dk_3 (dk_at dksX3_writesBranch_5 21 rfl rfl)
theorem dX3_writesBranch_139 : decode cX3_writesBranch 139 = .ok (.istore 6, 2) := dk_54 6 (dk_at dksX3_writesBranch_5 22 rfl rfl)
theorem dX3_writesBranch_141 : decode cX3_writesBranch 141 = .ok (.iload 6, 2) := dk_21 6 (dk_at dksX3_writesBranch_6 0 rfl rfl)
theorem dX3_writesBranch_143 : decode cX3_writesBranch 143 = .ok (.aload_n 0, 1) := dk_42 (dk_at dksX3_writesBranch_6 2 rfl rfl)
theorem dX3_writesBranch_144 : decode cX3_writesBranch 144 = .ok (.getfield 500, 3) := dk_180 1 244 (dk_at dksX3_writesBranch_6 3 rfl rfl)
theorem dX3_writesBranch_147 : decode cX3_writesBranch 147 = .ok (.if_icmp .ge 22, 3) := dk_162 0 22 (dk_at dksX3_writesBranch_6 6 rfl rfl)
theorem dX3_writesBranch_150 : decode cX3_writesBranch 150 = .ok (.aload_n 0, 1) := dk_42 (dk_at dksX3_writesBranch_6 9 rfl rfl)
theorem dX3_writesBranch_151 : decode cX3_writesBranch 151 = .ok (.iload 4, 2) := dk_21 4 (dk_at dksX3_writesBranch_6 10 rfl rfl)
theorem dX3_writesBranch_153 : decode cX3_writesBranch 153 = .ok (.aload_n 0, 1) := dk_42 (dk_at dksX3_writesBranch_6 12 rfl rfl)
theorem dX3_writesBranch_154 : decode cX3_writesBranch 154 = .ok (.getfield 139, 3) := dk_180 0 139 (dk_at dksX3_writesBranch_6 13 rfl rfl)
theorem dX3_writesBranch_157 : decode cX3_writesBranch 157 = .ok (.iload 6, 2) := dk_21 6 (dk_at dksX3_writesBranch_6 16 rfl rfl)
theorem dX3_writesBranch_159 : decode cX3_writesBranch 159 = .ok (.baload, 1) := dk_51 (dk_at dksX3_writesBranch_6 18 rfl rfl)
theorem dX3_writesBranch_160 : decode cX3_writesBranch 160 = .ok (.invokevirtual 522, 3) := dk_182 2 10 (dk_at dksX3_writesBranch_6 19 rfl rfl)
theorem dX3_writesBranch_163 : decode cX3_writesBranch 163 = .ok (.iinc 6 1, 3) := dk_132 6 1 (dk_at dksX3_writesBranch_7 0 rfl rfl)
theorem dX3_writesBranch_166 : decode cX3_writesBranch 166 = .ok (.goto (-25), 3) := dk_167 255 231 (dk_at dksX3_writesBranch_7 3 rfl rfl)
theorem dX3_writesBranch_169 : decode cX3_writesBranch 169 = .ok (.iload 5, 2) := dk_21 5 (dk_at dksX3_writesBranch_7 6 rfl rfl)
theorem dX3_writesBranch_171 : decode cX3_writesBranch 171 = .ok (.ifCond .ne 11, 3) := dk_154 0 11 (dk_at dksX3_writesBranch_7 8 rfl rfl)
theorem dX3_writesBranch_174 : decode cX3_writesBranch 174 = .ok (.aload_n 0, 1) := dk_42 (dk_at dksX3_writesBranch_7 11 rfl rfl)
theorem dX3_writesBranch_175 : decode cX3_writesBranch 175 = .ok (.iload 4, 2) := dk_21 4 (dk_at dksX3_writesBranch_7 12 rfl rfl)
theorem dX3_writesBranch_177 : decode cX3_writesBranch 177 = .ok (.bipush 41, 2) := dk_16 41 (dk_at dksX3_writesBranch_7 14 rfl rfl)
theorem dX3_writesBranch_179 : decode cX3_writesBranch 179 = .ok (.invokevirtual 522, 3) := dk_182 2 10 (dk_at dksX3_writesBranch_7 16 rfl rfl)
theorem dX3_writesBranch_182 : decode cX3_writesBranch 182 = .ok (.return_, 1) := dk_177 (dk_at dksX3_writesBranch_7 19 rfl rfl)
abbrev cX3_writesChain : ByteArray := prog_21_method_121_code
def yX3_writesChain : MethodName := ⟨RX3, "writesChain", "(III)V"⟩
def dkwX3_writesChain_7 : List UInt8 := [42, 180, 0, 139, 21, 5, 42, 180, 0, 136, 21, 5, 51, 84, 132, 5, 1, 167, 255, 230, 177]
abbrev dktX3_writesChain_7 : List UInt8 := dkwX3_writesChain_7 ++ []
def dkwX3_writesChain_6 : List UInt8 := [155, 0, 4, 177, 42, 42, 180, 1, 238, 181, 1, 244, 3, 54, 5, 21, 5, 42, 180, 1, 238, 162, 0, 23]
abbrev dktX3_writesChain_6 : List UInt8 := dkwX3_writesChain_6 ++ dktX3_writesChain_7
def dkwX3_writesChain_5 : List UInt8 := [132, 7, 1, 167, 255, 178, 132, 5, 1, 167, 255, 151, 42, 180, 1, 244, 158, 0, 11, 42, 182, 2, 3]
abbrev dktX3_writesChain_5 : List UInt8 := dkwX3_writesChain_5 ++ dktX3_writesChain_6
def dkwX3_writesChain_4 : List UInt8 := [16, 96, 42, 180, 0, 145, 21, 7, 46, 104, 21, 8, 96, 51, 182, 1, 241, 132, 8, 1, 167, 255, 214]
abbrev dktX3_writesChain_4 : List UInt8 := dkwX3_writesChain_4 ++ dktX3_writesChain_5
def dkwX3_writesChain_3 : List UInt8 := [54, 8, 21, 8, 42, 180, 0, 133, 42, 180, 0, 145, 21, 7, 46, 46, 162, 0, 31, 42, 42, 180, 0, 130]
abbrev dktX3_writesChain_3 : List UInt8 := dkwX3_writesChain_3 ++ dktX3_writesChain_4
def dkwX3_writesChain_2 : List UInt8 := [162, 0, 77, 42, 16, 45, 182, 1, 241, 42, 21, 5, 4, 96, 182, 1, 253, 42, 16, 58, 182, 1, 241, 3]
abbrev dktX3_writesChain_2 : List UInt8 := dkwX3_writesChain_2 ++ dktX3_writesChain_3
def dkwX3_writesChain_1 : List UInt8 := [21, 4, 162, 0, 104, 42, 21, 5, 21, 4, 29, 182, 2, 0, 54, 6, 3, 54, 7, 21, 7, 21, 6]
abbrev dktX3_writesChain_1 : List UInt8 := dkwX3_writesChain_1 ++ dktX3_writesChain_2
def dkwX3_writesChain_0 : List UInt8 := [42, 27, 28, 182, 1, 250, 54, 4, 42, 3, 181, 1, 238, 42, 21, 4, 182, 1, 253, 3, 54, 5, 21, 5]
abbrev dktX3_writesChain_0 : List UInt8 := dkwX3_writesChain_0 ++ dktX3_writesChain_1
theorem dksX3_writesChain_0 : cX3_writesChain.data.toList.drop 0 = dktX3_writesChain_0 := by decide +kernel
theorem dksX3_writesChain_1 : cX3_writesChain.data.toList.drop 24 = dktX3_writesChain_1 := dk_seg dksX3_writesChain_0 24 rfl rfl
theorem dksX3_writesChain_2 : cX3_writesChain.data.toList.drop 47 = dktX3_writesChain_2 := dk_seg dksX3_writesChain_1 23 rfl rfl
theorem dksX3_writesChain_3 : cX3_writesChain.data.toList.drop 71 = dktX3_writesChain_3 := dk_seg dksX3_writesChain_2 24 rfl rfl
theorem dksX3_writesChain_4 : cX3_writesChain.data.toList.drop 95 = dktX3_writesChain_4 := dk_seg dksX3_writesChain_3 24 rfl rfl
theorem dksX3_writesChain_5 : cX3_writesChain.data.toList.drop 118 = dktX3_writesChain_5 := dk_seg dksX3_writesChain_4 23 rfl rfl
theorem dksX3_writesChain_6 : cX3_writesChain.data.toList.drop 141 = dktX3_writesChain_6 := dk_seg dksX3_writesChain_5 23 rfl rfl
theorem dksX3_writesChain_7 : cX3_writesChain.data.toList.drop 165 = dktX3_writesChain_7 := dk_seg dksX3_writesChain_6 24 rfl rfl
theorem dX3_writesChain_0 : decode cX3_writesChain 0 = .ok (.aload_n 0, 1) := dk_42 (dk_at dksX3_writesChain_0 0 rfl rfl)
theorem dX3_writesChain_1 : decode cX3_writesChain 1 = .ok (.iload_n 1, 1) := dk_27 (dk_at dksX3_writesChain_0 1 rfl rfl)
theorem dX3_writesChain_2 : decode cX3_writesChain 2 = .ok (.iload_n 2, 1) := dk_28 (dk_at dksX3_writesChain_0 2 rfl rfl)
theorem dX3_writesChain_3 : decode cX3_writesChain 3 = .ok (.invokevirtual 506, 3) := dk_182 1 250 (dk_at dksX3_writesChain_0 3 rfl rfl)
theorem dX3_writesChain_6 : decode cX3_writesChain 6 = .ok (.istore 4, 2) := dk_54 4 (dk_at dksX3_writesChain_0 6 rfl rfl)
theorem dX3_writesChain_8 : decode cX3_writesChain 8 = .ok (.aload_n 0, 1) := dk_42 (dk_at dksX3_writesChain_0 8 rfl rfl)
theorem dX3_writesChain_9 : decode cX3_writesChain 9 = .ok (.iconst 0, 1) := dk_3 (dk_at dksX3_writesChain_0 9 rfl rfl)
theorem dX3_writesChain_10 : decode cX3_writesChain 10 = .ok (.putfield 494, 3) := dk_181 1 238 (dk_at dksX3_writesChain_0 10 rfl rfl)
theorem dX3_writesChain_13 : decode cX3_writesChain 13 = .ok (.aload_n 0, 1) := dk_42 (dk_at dksX3_writesChain_0 13 rfl rfl)
theorem dX3_writesChain_14 : decode cX3_writesChain 14 = .ok (.iload 4, 2) := dk_21 4 (dk_at dksX3_writesChain_0 14 rfl rfl)
theorem dX3_writesChain_16 : decode cX3_writesChain 16 = .ok (.invokevirtual 509, 3) := dk_182 1 253 (dk_at dksX3_writesChain_0 16 rfl rfl)
theorem dX3_writesChain_19 : decode cX3_writesChain 19 = .ok (.iconst 0, 1) := dk_3 (dk_at dksX3_writesChain_0 19 rfl rfl)
theorem dX3_writesChain_20 : decode cX3_writesChain 20 = .ok (.istore 5, 2) := dk_54 5 (dk_at dksX3_writesChain_0 20 rfl rfl)
theorem dX3_writesChain_22 : decode cX3_writesChain 22 = .ok (.iload 5, 2) := dk_21 5 (dk_at dksX3_writesChain_0 22 rfl rfl)
theorem dX3_writesChain_24 : decode cX3_writesChain 24 = .ok (.iload 4, 2) := dk_21 4 (dk_at dksX3_writesChain_1 0 rfl rfl)
theorem dX3_writesChain_26 : decode cX3_writesChain 26 = .ok (.if_icmp .ge 104, 3) := dk_162 0 104 (dk_at dksX3_writesChain_1 2 rfl rfl)
theorem dX3_writesChain_29 : decode cX3_writesChain 29 = .ok (.aload_n 0, 1) := dk_42 (dk_at dksX3_writesChain_1 5 rfl rfl)
theorem dX3_writesChain_30 : decode cX3_writesChain 30 = .ok (.iload 5, 2) := dk_21 5 (dk_at dksX3_writesChain_1 6 rfl rfl)
theorem dX3_writesChain_32 : decode cX3_writesChain 32 = .ok (.iload 4, 2) := dk_21 4 (dk_at dksX3_writesChain_1 8 rfl rfl)
theorem dX3_writesChain_34 : decode cX3_writesChain 34 = .ok (.iload_n 3, 1) := dk_29 (dk_at dksX3_writesChain_1 10 rfl rfl)
theorem dX3_writesChain_35 : decode cX3_writesChain 35 = .ok (.invokevirtual 512, 3) := dk_182 2 0 (dk_at dksX3_writesChain_1 11 rfl rfl)
theorem dX3_writesChain_38 : decode cX3_writesChain 38 = .ok (.istore 6, 2) := dk_54 6 (dk_at dksX3_writesChain_1 14 rfl rfl)
theorem dX3_writesChain_40 : decode cX3_writesChain 40 = .ok (.iconst 0, 1) := dk_3 (dk_at dksX3_writesChain_1 16 rfl rfl)
theorem dX3_writesChain_41 : decode cX3_writesChain 41 = .ok (.istore 7, 2) := dk_54 7 (dk_at dksX3_writesChain_1 17 rfl rfl)
theorem dX3_writesChain_43 : decode cX3_writesChain 43 = .ok (.iload 7, 2) := dk_21 7 (dk_at dksX3_writesChain_1 19 rfl rfl)
theorem dX3_writesChain_45 : decode cX3_writesChain 45 = .ok (.iload 6, 2) := dk_21 6 (dk_at dksX3_writesChain_1 21 rfl rfl)
theorem dX3_writesChain_47 : decode cX3_writesChain 47 = .ok (.if_icmp .ge 77, 3) := dk_162 0 77 (dk_at dksX3_writesChain_2 0 rfl rfl)
theorem dX3_writesChain_50 : decode cX3_writesChain 50 = .ok (.aload_n 0, 1) := dk_42 (dk_at dksX3_writesChain_2 3 rfl rfl)
theorem dX3_writesChain_51 : decode cX3_writesChain 51 = .ok (.bipush 45, 2) := dk_16 45 (dk_at dksX3_writesChain_2 4 rfl rfl)
theorem dX3_writesChain_53 : decode cX3_writesChain 53 = .ok (.invokevirtual 497, 3) := dk_182 1 241 (dk_at dksX3_writesChain_2 6 rfl rfl)
theorem dX3_writesChain_56 : decode cX3_writesChain 56 = .ok (.aload_n 0, 1) := dk_42 (dk_at dksX3_writesChain_2 9 rfl rfl)
theorem dX3_writesChain_57 : decode cX3_writesChain 57 = .ok (.iload 5, 2) := dk_21 5 (dk_at dksX3_writesChain_2 10 rfl rfl)
theorem dX3_writesChain_59 : decode cX3_writesChain 59 = .ok (.iconst 1, 1) := dk_4 (dk_at dksX3_writesChain_2 12 rfl rfl)
theorem dX3_writesChain_60 : decode cX3_writesChain 60 = .ok (.iadd, 1) := dk_96 (dk_at dksX3_writesChain_2 13 rfl rfl)
theorem dX3_writesChain_61 : decode cX3_writesChain 61 = .ok (.invokevirtual 509, 3) := dk_182 1 253 (dk_at dksX3_writesChain_2 14 rfl rfl)
theorem dX3_writesChain_64 : decode cX3_writesChain 64 = .ok (.aload_n 0, 1) := dk_42 (dk_at dksX3_writesChain_2 17 rfl rfl)
theorem dX3_writesChain_65 : decode cX3_writesChain 65 = .ok (.bipush 58, 2) := dk_16 58 (dk_at dksX3_writesChain_2 18 rfl rfl)
theorem dX3_writesChain_67 : decode cX3_writesChain 67 = .ok (.invokevirtual 497, 3) := dk_182 1 241 (dk_at dksX3_writesChain_2 20 rfl rfl)
theorem dX3_writesChain_70 : decode cX3_writesChain 70 = .ok (.iconst 0, 1) := dk_3 (dk_at dksX3_writesChain_2 23 rfl rfl)
theorem dX3_writesChain_71 : decode cX3_writesChain 71 = .ok (.istore 8, 2) := dk_54 8 (dk_at dksX3_writesChain_3 0 rfl rfl)
theorem dX3_writesChain_73 : decode cX3_writesChain 73 = .ok (.iload 8, 2) := dk_21 8 (dk_at dksX3_writesChain_3 2 rfl rfl)
theorem dX3_writesChain_75 : decode cX3_writesChain 75 = .ok (.aload_n 0, 1) := dk_42 (dk_at dksX3_writesChain_3 4 rfl rfl)
theorem dX3_writesChain_76 : decode cX3_writesChain 76 = .ok (.getfield 133, 3) := dk_180 0 133 (dk_at dksX3_writesChain_3 5 rfl rfl)
theorem dX3_writesChain_79 : decode cX3_writesChain 79 = .ok (.aload_n 0, 1) := dk_42 (dk_at dksX3_writesChain_3 8 rfl rfl)
theorem dX3_writesChain_80 : decode cX3_writesChain 80 = .ok (.getfield 145, 3) := dk_180 0 145 (dk_at dksX3_writesChain_3 9 rfl rfl)
theorem dX3_writesChain_83 : decode cX3_writesChain 83 = .ok (.iload 7, 2) := dk_21 7 (dk_at dksX3_writesChain_3 12 rfl rfl)
theorem dX3_writesChain_85 : decode cX3_writesChain 85 = .ok (.iaload, 1) := dk_46 (dk_at dksX3_writesChain_3 14 rfl rfl)
theorem dX3_writesChain_86 : decode cX3_writesChain 86 = .ok (.iaload, 1) := dk_46 (dk_at dksX3_writesChain_3 15 rfl rfl)
theorem dX3_writesChain_87 : decode cX3_writesChain 87 = .ok (.if_icmp .ge 31, 3) := dk_162 0 31 (dk_at dksX3_writesChain_3 16 rfl rfl)
theorem dX3_writesChain_90 : decode cX3_writesChain 90 = .ok (.aload_n 0, 1) := dk_42 (dk_at dksX3_writesChain_3 19 rfl rfl)
theorem dX3_writesChain_91 : decode cX3_writesChain 91 = .ok (.aload_n 0, 1) := dk_42 (dk_at dksX3_writesChain_3 20 rfl rfl)
theorem dX3_writesChain_92 : decode cX3_writesChain 92 = .ok (.getfield 130, 3) := dk_180 0 130 (dk_at dksX3_writesChain_3 21 rfl rfl)
theorem dX3_writesChain_95 : decode cX3_writesChain 95 = .ok (.bipush 96, 2) := dk_16 96 (dk_at dksX3_writesChain_4 0 rfl rfl)
theorem dX3_writesChain_97 : decode cX3_writesChain 97 = .ok (.aload_n 0, 1) := dk_42 (dk_at dksX3_writesChain_4 2 rfl rfl)
theorem dX3_writesChain_98 : decode cX3_writesChain 98 = .ok (.getfield 145, 3) := dk_180 0 145 (dk_at dksX3_writesChain_4 3 rfl rfl)
theorem dX3_writesChain_101 : decode cX3_writesChain 101 = .ok (.iload 7, 2) := dk_21 7 (dk_at dksX3_writesChain_4 6 rfl rfl)
theorem dX3_writesChain_103 : decode cX3_writesChain 103 = .ok (.iaload, 1) := dk_46 (dk_at dksX3_writesChain_4 8 rfl rfl)
theorem dX3_writesChain_104 : decode cX3_writesChain 104 = .ok (.imul, 1) := dk_104 (dk_at dksX3_writesChain_4 9 rfl rfl)
theorem dX3_writesChain_105 : decode cX3_writesChain 105 = .ok (.iload 8, 2) := dk_21 8 (dk_at dksX3_writesChain_4 10 rfl rfl)
theorem dX3_writesChain_107 : decode cX3_writesChain 107 = .ok (.iadd, 1) := dk_96 (dk_at dksX3_writesChain_4 12 rfl rfl)
theorem dX3_writesChain_108 : decode cX3_writesChain 108 = .ok (.baload, 1) := dk_51 (dk_at dksX3_writesChain_4 13 rfl rfl)
theorem dX3_writesChain_109 : decode cX3_writesChain 109 = .ok (.invokevirtual 497, 3) := dk_182 1 241 (dk_at dksX3_writesChain_4 14 rfl rfl)
theorem dX3_writesChain_112 : decode cX3_writesChain 112 = .ok (.iinc 8 1, 3) := dk_132 8 1 (dk_at dksX3_writesChain_4 17 rfl rfl)
theorem dX3_writesChain_115 : decode cX3_writesChain 115 = .ok (.goto (-42), 3) := dk_167 255 214 (dk_at dksX3_writesChain_4 20 rfl rfl)
theorem dX3_writesChain_118 : decode cX3_writesChain 118 = .ok (.iinc 7 1, 3) := dk_132 7 1 (dk_at dksX3_writesChain_5 0 rfl rfl)
theorem dX3_writesChain_121 : decode cX3_writesChain 121 = .ok (.goto (-78), 3) := dk_167 255 178 (dk_at dksX3_writesChain_5 3 rfl rfl)
theorem dX3_writesChain_124 : decode cX3_writesChain 124 = .ok (.iinc 5 1, 3) := dk_132 5 1 (dk_at dksX3_writesChain_5 6 rfl rfl)
theorem dX3_writesChain_127 : decode cX3_writesChain 127 = .ok (.goto (-105), 3) := dk_167 255 151 (dk_at dksX3_writesChain_5 9 rfl rfl)
theorem dX3_writesChain_130 : decode cX3_writesChain 130 = .ok (.aload_n 0, 1) := dk_42 (dk_at dksX3_writesChain_5 12 rfl rfl)
theorem dX3_writesChain_131 : decode cX3_writesChain 131 = .ok (.getfield 500, 3) := dk_180 1 244 (dk_at dksX3_writesChain_5 13 rfl rfl)
theorem dX3_writesChain_134 : decode cX3_writesChain 134 = .ok (.ifCond .le 11, 3) := dk_158 0 11 (dk_at dksX3_writesChain_5 16 rfl rfl)
theorem dX3_writesChain_137 : decode cX3_writesChain 137 = .ok (.aload_n 0, 1) := dk_42 (dk_at dksX3_writesChain_5 19 rfl rfl)
theorem dX3_writesChain_138 : decode cX3_writesChain 138 = .ok (.invokevirtual 515, 3) := dk_182 2 3 (dk_at dksX3_writesChain_5 20 rfl rfl)
theorem dX3_writesChain_141 : decode cX3_writesChain 141 = .ok (.ifCond .lt 4, 3) := dk_155 0 4 (dk_at dksX3_writesChain_6 0 rfl rfl)
theorem dX3_writesChain_144 : decode cX3_writesChain 144 = .ok (.return_, 1) := dk_177 (dk_at dksX3_writesChain_6 3 rfl rfl)
theorem dX3_writesChain_145 : decode cX3_writesChain 145 = .ok (.aload_n 0, 1) := dk_42 (dk_at dksX3_writesChain_6 4 rfl rfl)
theorem dX3_writesChain_146 : decode cX3_writesChain 146 = .ok (.aload_n 0, 1) := dk_42 (dk_at dksX3_writesChain_6 5 rfl rfl)
theorem dX3_writesChain_147 : decode cX3_writesChain 147 = .ok (.getfield 494, 3) := dk_180 1 238 (dk_at dksX3_writesChain_6 6 rfl rfl)
theorem dX3_writesChain_150 : decode cX3_writesChain 150 = .ok (.putfield 500, 3) := dk_181 1 244 (dk_at dksX3_writesChain_6 9 rfl rfl)
theorem dX3_writesChain_153 : decode cX3_writesChain 153 = .ok (.iconst 0, 1) := dk_3 (dk_at dksX3_writesChain_6 12 rfl rfl)
theorem dX3_writesChain_154 : decode cX3_writesChain 154 = .ok (.istore 5, 2) := dk_54 5 (dk_at dksX3_writesChain_6 13 rfl rfl)
theorem dX3_writesChain_156 : decode cX3_writesChain 156 = .ok (.iload 5, 2) := dk_21 5 (dk_at dksX3_writesChain_6 15 rfl rfl)
theorem dX3_writesChain_158 : decode cX3_writesChain 158 = .ok (.aload_n 0, 1) := dk_42 (dk_at dksX3_writesChain_6 17 rfl rfl)
theorem dX3_writesChain_159 : decode cX3_writesChain 159 = .ok (.getfield 494, 3) := dk_180 1 238 (dk_at dksX3_writesChain_6 18 rfl rfl)
theorem dX3_writesChain_162 : decode cX3_writesChain 162 = .ok (.if_icmp .ge 23, 3) := dk_162 0 23 (dk_at dksX3_writesChain_6 21 rfl rfl)
theorem dX3_writesChain_165 : decode cX3_writesChain 165 = .ok (.aload_n 0, 1) := dk_42 (dk_at dksX3_writesChain_7 0 rfl rfl)
theorem dX3_writesChain_166 : decode cX3_writesChain 166 = .ok (.getfield 139, 3) := dk_180 0 139 (dk_at dksX3_writesChain_7 1 rfl rfl)
theorem dX3_writesChain_169 : decode cX3_writesChain 169 = .ok (.iload 5, 2) := dk_21 5 (dk_at dksX3_writesChain_7 4 rfl rfl)
theorem dX3_writesChain_171 : decode cX3_writesChain 171 = .ok (.aload_n 0, 1) := dk_42 (dk_at dksX3_writesChain_7 6 rfl rfl)
theorem dX3_writesChain_172 : decode cX3_writesChain 172 = .ok (.getfield 136, 3) := dk_180 0 136 (dk_at dksX3_writesChain_7 7 rfl rfl)
theorem dX3_writesChain_175 : decode cX3_writesChain 175 = .ok (.iload 5, 2) := dk_21 5 (dk_at dksX3_writesChain_7 10 rfl rfl)
theorem dX3_writesChain_177 : decode cX3_writesChain 177 = .ok (.baload, 1) := dk_51 (dk_at dksX3_writesChain_7 12 rfl rfl)
theorem dX3_writesChain_178 : decode cX3_writesChain 178 = .ok (.bastore, 1) := dk_84 (dk_at dksX3_writesChain_7 13 rfl rfl)
theorem dX3_writesChain_179 : decode cX3_writesChain 179 = .ok (.iinc 5 1, 3) := dk_132 5 1 (dk_at dksX3_writesChain_7 14 rfl rfl)
theorem dX3_writesChain_182 : decode cX3_writesChain 182 = .ok (.goto (-26), 3) := dk_167 255 230 (dk_at dksX3_writesChain_7 17 rfl rfl)
theorem dX3_writesChain_185 : decode cX3_writesChain 185 = .ok (.return_, 1) := dk_177 (dk_at dksX3_writesChain_7 20 rfl rfl)
abbrev cX3_laysPath : ByteArray := prog_21_method_119_code
def yX3_laysPath : MethodName := ⟨RX3, "laysPath", "(II)I"⟩
def dkwX3_laysPath_4 : List UInt8 := [172]
abbrev dktX3_laysPath_4 : List UInt8 := dkwX3_laysPath_4 ++ []
def dkwX3_laysPath_3 : List UInt8 := [167, 255, 207, 21, 5, 54, 4, 132, 3, 1, 42, 180, 0, 142, 29, 21, 4, 79, 167, 255, 180, 29, 4, 96]
abbrev dktX3_laysPath_3 : List UInt8 := dkwX3_laysPath_3 ++ dktX3_laysPath_4
def dkwX3_laysPath_2 : List UInt8 := [104, 28, 96, 46, 42, 180, 0, 85, 16, 16, 21, 4, 104, 28, 96, 46, 4, 100, 159, 0, 9, 132, 5, 1]
abbrev dktX3_laysPath_2 : List UInt8 := dkwX3_laysPath_2 ++ dktX3_laysPath_3
def dkwX3_laysPath_1 : List UInt8 := [180, 0, 64, 4, 21, 4, 96, 46, 21, 5, 184, 0, 184, 153, 0, 32, 42, 180, 0, 85, 16, 16, 21, 5]
abbrev dktX3_laysPath_1 : List UInt8 := dkwX3_laysPath_1 ++ dktX3_laysPath_2
def dkwX3_laysPath_0 : List UInt8 := [3, 62, 27, 54, 4, 42, 180, 0, 142, 3, 21, 4, 79, 21, 4, 28, 159, 0, 76, 3, 54, 5, 42]
abbrev dktX3_laysPath_0 : List UInt8 := dkwX3_laysPath_0 ++ dktX3_laysPath_1
theorem dksX3_laysPath_0 : cX3_laysPath.data.toList.drop 0 = dktX3_laysPath_0 := by decide +kernel
theorem dksX3_laysPath_1 : cX3_laysPath.data.toList.drop 23 = dktX3_laysPath_1 := dk_seg dksX3_laysPath_0 23 rfl rfl
theorem dksX3_laysPath_2 : cX3_laysPath.data.toList.drop 47 = dktX3_laysPath_2 := dk_seg dksX3_laysPath_1 24 rfl rfl
theorem dksX3_laysPath_3 : cX3_laysPath.data.toList.drop 71 = dktX3_laysPath_3 := dk_seg dksX3_laysPath_2 24 rfl rfl
theorem dksX3_laysPath_4 : cX3_laysPath.data.toList.drop 95 = dktX3_laysPath_4 := dk_seg dksX3_laysPath_3 24 rfl rfl
theorem dX3_laysPath_0 : decode cX3_laysPath 0 = .ok (.iconst 0, 1) := dk_3 (dk_at dksX3_laysPath_0 0 rfl rfl)
theorem dX3_laysPath_1 : decode cX3_laysPath 1 = .ok (.istore_n 3, 1) := dk_62 (dk_at dksX3_laysPath_0 1 rfl rfl)
theorem dX3_laysPath_2 : decode cX3_laysPath 2 = .ok (.iload_n 1, 1) := dk_27 (dk_at dksX3_laysPath_0 2 rfl rfl)
theorem dX3_laysPath_3 : decode cX3_laysPath 3 = .ok (.istore 4, 2) := dk_54 4 (dk_at dksX3_laysPath_0 3 rfl rfl)
theorem dX3_laysPath_5 : decode cX3_laysPath 5 = .ok (.aload_n 0, 1) := dk_42 (dk_at dksX3_laysPath_0 5 rfl rfl)
theorem dX3_laysPath_6 : decode cX3_laysPath 6 = .ok (.getfield 142, 3) := dk_180 0 142 (dk_at dksX3_laysPath_0 6 rfl rfl)
theorem dX3_laysPath_9 : decode cX3_laysPath 9 = .ok (.iconst 0, 1) := dk_3 (dk_at dksX3_laysPath_0 9 rfl rfl)
theorem dX3_laysPath_10 : decode cX3_laysPath 10 = .ok (.iload 4, 2) := dk_21 4 (dk_at dksX3_laysPath_0 10 rfl rfl)
theorem dX3_laysPath_12 : decode cX3_laysPath 12 = .ok (.iastore, 1) := dk_79 (dk_at dksX3_laysPath_0 12 rfl rfl)
theorem dX3_laysPath_13 : decode cX3_laysPath 13 = .ok (.iload 4, 2) := dk_21 4 (dk_at dksX3_laysPath_0 13 rfl rfl)
theorem dX3_laysPath_15 : decode cX3_laysPath 15 = .ok (.iload_n 2, 1) := dk_28 (dk_at dksX3_laysPath_0 15 rfl rfl)
theorem dX3_laysPath_16 : decode cX3_laysPath 16 = .ok (.if_icmp .eq 76, 3) := dk_159 0 76 (dk_at dksX3_laysPath_0 16 rfl rfl)
theorem dX3_laysPath_19 : decode cX3_laysPath 19 = .ok (.iconst 0, 1) := dk_3 (dk_at dksX3_laysPath_0 19 rfl rfl)
theorem dX3_laysPath_20 : decode cX3_laysPath 20 = .ok (.istore 5, 2) := dk_54 5 (dk_at dksX3_laysPath_0 20 rfl rfl)
theorem dX3_laysPath_22 : decode cX3_laysPath 22 = .ok (.aload_n 0, 1) := dk_42 (dk_at dksX3_laysPath_0 22 rfl rfl)
theorem dX3_laysPath_23 : decode cX3_laysPath 23 = .ok (.getfield 64, 3) := dk_180 0 64 (dk_at dksX3_laysPath_1 0 rfl rfl)
theorem dX3_laysPath_26 : decode cX3_laysPath 26 = .ok (.iconst 1, 1) := dk_4 (dk_at dksX3_laysPath_1 3 rfl rfl)
theorem dX3_laysPath_27 : decode cX3_laysPath 27 = .ok (.iload 4, 2) := dk_21 4 (dk_at dksX3_laysPath_1 4 rfl rfl)
theorem dX3_laysPath_29 : decode cX3_laysPath 29 = .ok (.iadd, 1) := dk_96 (dk_at dksX3_laysPath_1 6 rfl rfl)
theorem dX3_laysPath_30 : decode cX3_laysPath 30 = .ok (.iaload, 1) := dk_46 (dk_at dksX3_laysPath_1 7 rfl rfl)
theorem dX3_laysPath_31 : decode cX3_laysPath 31 = .ok (.iload 5, 2) := dk_21 5 (dk_at dksX3_laysPath_1 8 rfl rfl)
theorem dX3_laysPath_33 : decode cX3_laysPath 33 = .ok (.invokestatic 184, 3) := dk_184 0 184 (dk_at dksX3_laysPath_1 10 rfl rfl)
theorem dX3_laysPath_36 : decode cX3_laysPath 36 = .ok (.ifCond .eq 32, 3) := dk_153 0 32 (dk_at dksX3_laysPath_1 13 rfl rfl)
theorem dX3_laysPath_39 : decode cX3_laysPath 39 = .ok (.aload_n 0, 1) := dk_42 (dk_at dksX3_laysPath_1 16 rfl rfl)
theorem dX3_laysPath_40 : decode cX3_laysPath 40 = .ok (.getfield 85, 3) := dk_180 0 85 (dk_at dksX3_laysPath_1 17 rfl rfl)
theorem dX3_laysPath_43 : decode cX3_laysPath 43 = .ok (.bipush 16, 2) := dk_16 16 (dk_at dksX3_laysPath_1 20 rfl rfl)
theorem dX3_laysPath_45 : decode cX3_laysPath 45 = .ok (.iload 5, 2) := dk_21 5 (dk_at dksX3_laysPath_1 22 rfl rfl)
theorem dX3_laysPath_47 : decode cX3_laysPath 47 = .ok (.imul, 1) := dk_104 (dk_at dksX3_laysPath_2 0 rfl rfl)
theorem dX3_laysPath_48 : decode cX3_laysPath 48 = .ok (.iload_n 2, 1) := dk_28 (dk_at dksX3_laysPath_2 1 rfl rfl)
theorem dX3_laysPath_49 : decode cX3_laysPath 49 = .ok (.iadd, 1) := dk_96 (dk_at dksX3_laysPath_2 2 rfl rfl)
theorem dX3_laysPath_50 : decode cX3_laysPath 50 = .ok (.iaload, 1) := dk_46 (dk_at dksX3_laysPath_2 3 rfl rfl)
theorem dX3_laysPath_51 : decode cX3_laysPath 51 = .ok (.aload_n 0, 1) := dk_42 (dk_at dksX3_laysPath_2 4 rfl rfl)
theorem dX3_laysPath_52 : decode cX3_laysPath 52 = .ok (.getfield 85, 3) := dk_180 0 85 (dk_at dksX3_laysPath_2 5 rfl rfl)
theorem dX3_laysPath_55 : decode cX3_laysPath 55 = .ok (.bipush 16, 2) := dk_16 16 (dk_at dksX3_laysPath_2 8 rfl rfl)
theorem dX3_laysPath_57 : decode cX3_laysPath 57 = .ok (.iload 4, 2) := dk_21 4 (dk_at dksX3_laysPath_2 10 rfl rfl)
theorem dX3_laysPath_59 : decode cX3_laysPath 59 = .ok (.imul, 1) := dk_104 (dk_at dksX3_laysPath_2 12 rfl rfl)
theorem dX3_laysPath_60 : decode cX3_laysPath 60 = .ok (.iload_n 2, 1) := dk_28 (dk_at dksX3_laysPath_2 13 rfl rfl)
theorem dX3_laysPath_61 : decode cX3_laysPath 61 = .ok (.iadd, 1) := dk_96 (dk_at dksX3_laysPath_2 14 rfl rfl)
theorem dX3_laysPath_62 : decode cX3_laysPath 62 = .ok (.iaload, 1) := dk_46 (dk_at dksX3_laysPath_2 15 rfl rfl)
theorem dX3_laysPath_63 : decode cX3_laysPath 63 = .ok (.iconst 1, 1) := dk_4 (dk_at dksX3_laysPath_2 16 rfl rfl)
theorem dX3_laysPath_64 : decode cX3_laysPath 64 = .ok (.isub, 1) := dk_100 (dk_at dksX3_laysPath_2 17 rfl rfl)
theorem dX3_laysPath_65 : decode cX3_laysPath 65 = .ok (.if_icmp .eq 9, 3) := dk_159 0 9 (dk_at dksX3_laysPath_2 18 rfl rfl)
theorem dX3_laysPath_68 : decode cX3_laysPath 68 = .ok (.iinc 5 1, 3) := dk_132 5 1 (dk_at dksX3_laysPath_2 21 rfl rfl)
theorem dX3_laysPath_71 : decode cX3_laysPath 71 = .ok (.goto (-49), 3) := dk_167 255 207 (dk_at dksX3_laysPath_3 0 rfl rfl)
theorem dX3_laysPath_74 : decode cX3_laysPath 74 = .ok (.iload 5, 2) := dk_21 5 (dk_at dksX3_laysPath_3 3 rfl rfl)
theorem dX3_laysPath_76 : decode cX3_laysPath 76 = .ok (.istore 4, 2) := dk_54 4 (dk_at dksX3_laysPath_3 5 rfl rfl)
theorem dX3_laysPath_78 : decode cX3_laysPath 78 = .ok (.iinc 3 1, 3) := dk_132 3 1 (dk_at dksX3_laysPath_3 7 rfl rfl)
theorem dX3_laysPath_81 : decode cX3_laysPath 81 = .ok (.aload_n 0, 1) := dk_42 (dk_at dksX3_laysPath_3 10 rfl rfl)
theorem dX3_laysPath_82 : decode cX3_laysPath 82 = .ok (.getfield 142, 3) := dk_180 0 142 (dk_at dksX3_laysPath_3 11 rfl rfl)
theorem dX3_laysPath_85 : decode cX3_laysPath 85 = .ok (.iload_n 3, 1) := dk_29 (dk_at dksX3_laysPath_3 14 rfl rfl)
theorem dX3_laysPath_86 : decode cX3_laysPath 86 = .ok (.iload 4, 2) := dk_21 4 (dk_at dksX3_laysPath_3 15 rfl rfl)
theorem dX3_laysPath_88 : decode cX3_laysPath 88 = .ok (.iastore, 1) := dk_79 (dk_at dksX3_laysPath_3 17 rfl rfl)
theorem dX3_laysPath_89 : decode cX3_laysPath 89 = .ok (.goto (-76), 3) := dk_167 255 180 (dk_at dksX3_laysPath_3 18 rfl rfl)
theorem dX3_laysPath_92 : decode cX3_laysPath 92 = .ok (.iload_n 3, 1) := dk_29 (dk_at dksX3_laysPath_3 21 rfl rfl)
theorem dX3_laysPath_93 : decode cX3_laysPath 93 = .ok (.iconst 1, 1) := dk_4 (dk_at dksX3_laysPath_3 22 rfl rfl)
theorem dX3_laysPath_94 : decode cX3_laysPath 94 = .ok (.iadd, 1) := dk_96 (dk_at dksX3_laysPath_3 23 rfl rfl)
theorem dX3_laysPath_95 : decode cX3_laysPath 95 = .ok (.ireturn, 1) := dk_172 (dk_at dksX3_laysPath_4 0 rfl rfl)
abbrev cX3_writesNumber : ByteArray := prog_21_method_116_code
def yX3_writesNumber : MethodName := ⟨RX3, "writesNumber", "(I)V"⟩
def dkwX3_writesNumber_1 : List UInt8 := [96, 182, 1, 241, 177]
abbrev dktX3_writesNumber_1 : List UInt8 := dkwX3_writesNumber_1 ++ []
def dkwX3_writesNumber_0 : List UInt8 := [27, 16, 9, 164, 0, 14, 42, 16, 48, 27, 16, 10, 108, 96, 182, 1, 241, 42, 16, 48, 27, 16, 10, 112]
abbrev dktX3_writesNumber_0 : List UInt8 := dkwX3_writesNumber_0 ++ dktX3_writesNumber_1
theorem dksX3_writesNumber_0 : cX3_writesNumber.data.toList.drop 0 = dktX3_writesNumber_0 := by decide +kernel
theorem dksX3_writesNumber_1 : cX3_writesNumber.data.toList.drop 24 = dktX3_writesNumber_1 := dk_seg dksX3_writesNumber_0 24 rfl rfl
theorem dX3_writesNumber_0 : decode cX3_writesNumber 0 = .ok (.iload_n 1, 1) := dk_27 (dk_at dksX3_writesNumber_0 0 rfl rfl)
theorem dX3_writesNumber_1 : decode cX3_writesNumber 1 = .ok (.bipush 9, 2) := dk_16 9 (dk_at dksX3_writesNumber_0 1 rfl rfl)
theorem dX3_writesNumber_3 : decode cX3_writesNumber 3 = .ok (.if_icmp .le 14, 3) := dk_164 0 14 (dk_at dksX3_writesNumber_0 3 rfl rfl)
theorem dX3_writesNumber_6 : decode cX3_writesNumber 6 = .ok (.aload_n 0, 1) := dk_42 (dk_at dksX3_writesNumber_0 6 rfl rfl)
theorem dX3_writesNumber_7 : decode cX3_writesNumber 7 = .ok (.bipush 48, 2) := dk_16 48 (dk_at dksX3_writesNumber_0 7 rfl rfl)
theorem dX3_writesNumber_9 : decode cX3_writesNumber 9 = .ok (.iload_n 1, 1) := dk_27 (dk_at dksX3_writesNumber_0 9 rfl rfl)
theorem dX3_writesNumber_10 : decode cX3_writesNumber 10 = .ok (.bipush 10, 2) := dk_16 10 (dk_at dksX3_writesNumber_0 10 rfl rfl)
theorem dX3_writesNumber_12 : decode cX3_writesNumber 12 = .ok (.idiv, 1) := dk_108 (dk_at dksX3_writesNumber_0 12 rfl rfl)
theorem dX3_writesNumber_13 : decode cX3_writesNumber 13 = .ok (.iadd, 1) := dk_96 (dk_at dksX3_writesNumber_0 13 rfl rfl)
theorem dX3_writesNumber_14 : decode cX3_writesNumber 14 = .ok (.invokevirtual 497, 3) := dk_182 1 241 (dk_at dksX3_writesNumber_0 14 rfl rfl)
theorem dX3_writesNumber_17 : decode cX3_writesNumber 17 = .ok (.aload_n 0, 1) := dk_42 (dk_at dksX3_writesNumber_0 17 rfl rfl)
theorem dX3_writesNumber_18 : decode cX3_writesNumber 18 = .ok (.bipush 48, 2) := dk_16 48 (dk_at dksX3_writesNumber_0 18 rfl rfl)
theorem dX3_writesNumber_20 : decode cX3_writesNumber 20 = .ok (.iload_n 1, 1) := dk_27 (dk_at dksX3_writesNumber_0 20 rfl rfl)
theorem dX3_writesNumber_21 : decode cX3_writesNumber 21 = .ok (.bipush 10, 2) := dk_16 10 (dk_at dksX3_writesNumber_0 21 rfl rfl)
theorem dX3_writesNumber_23 : decode cX3_writesNumber 23 = .ok (.irem, 1) := dk_112 (dk_at dksX3_writesNumber_0 23 rfl rfl)
theorem dX3_writesNumber_24 : decode cX3_writesNumber 24 = .ok (.iadd, 1) := dk_96 (dk_at dksX3_writesNumber_1 0 rfl rfl)
theorem dX3_writesNumber_25 : decode cX3_writesNumber 25 = .ok (.invokevirtual 497, 3) := dk_182 1 241 (dk_at dksX3_writesNumber_1 1 rfl rfl)
theorem dX3_writesNumber_28 : decode cX3_writesNumber 28 = .ok (.return_, 1) := dk_177 (dk_at dksX3_writesNumber_1 4 rfl rfl)
abbrev cX3_writes : ByteArray := prog_21_method_115_code
def yX3_writes : MethodName := ⟨RX3, "writes", "(I)V"⟩
def dkwX3_writes_0 : List UInt8 := [42, 180, 0, 136, 42, 180, 1, 238, 27, 145, 84, 42, 89, 180, 1, 238, 4, 96, 181, 1, 238, 177]
abbrev dktX3_writes_0 : List UInt8 := dkwX3_writes_0 ++ []
theorem dksX3_writes_0 : cX3_writes.data.toList.drop 0 = dktX3_writes_0 := by decide +kernel
theorem dX3_writes_0 : decode cX3_writes 0 = .ok (.aload_n 0, 1) := dk_42 (dk_at dksX3_writes_0 0 rfl rfl)
theorem dX3_writes_1 : decode cX3_writes 1 = .ok (.getfield 136, 3) := dk_180 0 136 (dk_at dksX3_writes_0 1 rfl rfl)
theorem dX3_writes_4 : decode cX3_writes 4 = .ok (.aload_n 0, 1) := dk_42 (dk_at dksX3_writes_0 4 rfl rfl)
theorem dX3_writes_5 : decode cX3_writes 5 = .ok (.getfield 494, 3) := dk_180 1 238 (dk_at dksX3_writes_0 5 rfl rfl)
theorem dX3_writes_8 : decode cX3_writes 8 = .ok (.iload_n 1, 1) := dk_27 (dk_at dksX3_writes_0 8 rfl rfl)
theorem dX3_writes_9 : decode cX3_writes 9 = .ok (.i2b, 1) := dk_145 (dk_at dksX3_writes_0 9 rfl rfl)
theorem dX3_writes_10 : decode cX3_writes 10 = .ok (.bastore, 1) := dk_84 (dk_at dksX3_writes_0 10 rfl rfl)
theorem dX3_writes_11 : decode cX3_writes 11 = .ok (.aload_n 0, 1) := dk_42 (dk_at dksX3_writes_0 11 rfl rfl)
theorem dX3_writes_12 : decode cX3_writes 12 = .ok (.dup, 1) := dk_89 (dk_at dksX3_writes_0 12 rfl rfl)
theorem dX3_writes_13 : decode cX3_writes 13 = .ok (.getfield 494, 3) := dk_180 1 238 (dk_at dksX3_writes_0 13 rfl rfl)
theorem dX3_writes_16 : decode cX3_writes 16 = .ok (.iconst 1, 1) := dk_4 (dk_at dksX3_writes_0 16 rfl rfl)
theorem dX3_writes_17 : decode cX3_writes 17 = .ok (.iadd, 1) := dk_96 (dk_at dksX3_writes_0 17 rfl rfl)
theorem dX3_writes_18 : decode cX3_writes 18 = .ok (.putfield 494, 3) := dk_181 1 238 (dk_at dksX3_writes_0 18 rfl rfl)
theorem dX3_writes_21 : decode cX3_writes 21 = .ok (.return_, 1) := dk_177 (dk_at dksX3_writes_0 21 rfl rfl)
abbrev cX3_laysHung : ByteArray := prog_21_method_120_code
def yX3_laysHung : MethodName := ⟨RX3, "laysHung", "(III)I"⟩
def dkwX3_laysHung_7 : List UInt8 := [132, 6, 1, 167, 255, 106, 21, 5, 172]
abbrev dktX3_laysHung_7 : List UInt8 := dkwX3_laysHung_7 ++ []
def dkwX3_laysHung_6 : List UInt8 := [132, 7, 255, 167, 255, 208, 42, 180, 0, 145, 21, 7, 16, 16, 21, 4, 104, 21, 6, 96, 79, 132, 5, 1]
abbrev dktX3_laysHung_6 : List UInt8 := dkwX3_laysHung_6 ++ dktX3_laysHung_7
def dkwX3_laysHung_5 : List UInt8 := [182, 1, 247, 156, 0, 25, 42, 180, 0, 145, 21, 7, 42, 180, 0, 145, 21, 7, 4, 100, 46, 79]
abbrev dktX3_laysHung_5 : List UInt8 := dkwX3_laysHung_5 ++ dktX3_laysHung_6
def dkwX3_laysHung_4 : List UInt8 := [21, 7, 158, 0, 49, 42, 16, 16, 21, 4, 104, 21, 6, 96, 42, 180, 0, 145, 21, 7, 4, 100, 46]
abbrev dktX3_laysHung_4 : List UInt8 := dkwX3_laysHung_4 ++ dktX3_laysHung_5
def dkwX3_laysHung_3 : List UInt8 := [162, 0, 19, 21, 6, 42, 180, 0, 142, 27, 4, 96, 46, 160, 0, 6, 167, 0, 76, 21, 5, 54, 7]
abbrev dktX3_laysHung_3 : List UInt8 := dkwX3_laysHung_3 ++ dktX3_laysHung_4
def dkwX3_laysHung_2 : List UInt8 := [159, 0, 116, 27, 158, 0, 16, 21, 6, 42, 180, 0, 142, 27, 4, 100, 46, 159, 0, 99, 27, 4, 96, 28]
abbrev dktX3_laysHung_2 : List UInt8 := dkwX3_laysHung_2 ++ dktX3_laysHung_3
def dkwX3_laysHung_1 : List UInt8 := [162, 0, 145, 42, 180, 0, 64, 4, 21, 4, 96, 46, 21, 6, 184, 0, 184, 153, 0, 122, 21, 6, 29]
abbrev dktX3_laysHung_1 : List UInt8 := dkwX3_laysHung_1 ++ dktX3_laysHung_2
def dkwX3_laysHung_0 : List UInt8 := [42, 180, 0, 142, 27, 46, 54, 4, 3, 54, 5, 3, 54, 6, 21, 6, 42, 180, 0, 64, 3, 46]
abbrev dktX3_laysHung_0 : List UInt8 := dkwX3_laysHung_0 ++ dktX3_laysHung_1
theorem dksX3_laysHung_0 : cX3_laysHung.data.toList.drop 0 = dktX3_laysHung_0 := by decide +kernel
theorem dksX3_laysHung_1 : cX3_laysHung.data.toList.drop 22 = dktX3_laysHung_1 := dk_seg dksX3_laysHung_0 22 rfl rfl
theorem dksX3_laysHung_2 : cX3_laysHung.data.toList.drop 45 = dktX3_laysHung_2 := dk_seg dksX3_laysHung_1 23 rfl rfl
theorem dksX3_laysHung_3 : cX3_laysHung.data.toList.drop 69 = dktX3_laysHung_3 := dk_seg dksX3_laysHung_2 24 rfl rfl
theorem dksX3_laysHung_4 : cX3_laysHung.data.toList.drop 92 = dktX3_laysHung_4 := dk_seg dksX3_laysHung_3 23 rfl rfl
theorem dksX3_laysHung_5 : cX3_laysHung.data.toList.drop 115 = dktX3_laysHung_5 := dk_seg dksX3_laysHung_4 23 rfl rfl
theorem dksX3_laysHung_6 : cX3_laysHung.data.toList.drop 137 = dktX3_laysHung_6 := dk_seg dksX3_laysHung_5 22 rfl rfl
theorem dksX3_laysHung_7 : cX3_laysHung.data.toList.drop 161 = dktX3_laysHung_7 := dk_seg dksX3_laysHung_6 24 rfl rfl
theorem dX3_laysHung_0 : decode cX3_laysHung 0 = .ok (.aload_n 0, 1) := dk_42 (dk_at dksX3_laysHung_0 0 rfl rfl)
theorem dX3_laysHung_1 : decode cX3_laysHung 1 = .ok (.getfield 142, 3) := dk_180 0 142 (dk_at dksX3_laysHung_0 1 rfl rfl)
theorem dX3_laysHung_4 : decode cX3_laysHung 4 = .ok (.iload_n 1, 1) := dk_27 (dk_at dksX3_laysHung_0 4 rfl rfl)
theorem dX3_laysHung_5 : decode cX3_laysHung 5 = .ok (.iaload, 1) := dk_46 (dk_at dksX3_laysHung_0 5 rfl rfl)
theorem dX3_laysHung_6 : decode cX3_laysHung 6 = .ok (.istore 4, 2) := dk_54 4 (dk_at dksX3_laysHung_0 6 rfl rfl)
theorem dX3_laysHung_8 : decode cX3_laysHung 8 = .ok (.iconst 0, 1) := dk_3 (dk_at dksX3_laysHung_0 8 rfl rfl)
theorem dX3_laysHung_9 : decode cX3_laysHung 9 = .ok (.istore 5, 2) := dk_54 5 (dk_at dksX3_laysHung_0 9 rfl rfl)
theorem dX3_laysHung_11 : decode cX3_laysHung 11 = .ok (.iconst 0, 1) := dk_3 (dk_at dksX3_laysHung_0 11 rfl rfl)
theorem dX3_laysHung_12 : decode cX3_laysHung 12 = .ok (.istore 6, 2) := dk_54 6 (dk_at dksX3_laysHung_0 12 rfl rfl)
theorem dX3_laysHung_14 : decode cX3_laysHung 14 = .ok (.iload 6, 2) := dk_21 6 (dk_at dksX3_laysHung_0 14 rfl rfl)
theorem dX3_laysHung_16 : decode cX3_laysHung 16 = .ok (.aload_n 0, 1) := dk_42 (dk_at dksX3_laysHung_0 16 rfl rfl)
theorem dX3_laysHung_17 : decode cX3_laysHung 17 = .ok (.getfield 64, 3) := dk_180 0 64 (dk_at dksX3_laysHung_0 17 rfl rfl)
theorem dX3_laysHung_20 : decode cX3_laysHung 20 = .ok (.iconst 0, 1) := dk_3 (dk_at dksX3_laysHung_0 20 rfl rfl)
theorem dX3_laysHung_21 : decode cX3_laysHung 21 = .ok (.iaload, 1) := dk_46 (dk_at dksX3_laysHung_0 21 rfl rfl)
theorem dX3_laysHung_22 : decode cX3_laysHung 22 = .ok (.if_icmp .ge 145, 3) := dk_162 0 145 (dk_at dksX3_laysHung_1 0 rfl rfl)
theorem dX3_laysHung_25 : decode cX3_laysHung 25 = .ok (.aload_n 0, 1) := dk_42 (dk_at dksX3_laysHung_1 3 rfl rfl)
theorem dX3_laysHung_26 : decode cX3_laysHung 26 = .ok (.getfield 64, 3) := dk_180 0 64 (dk_at dksX3_laysHung_1 4 rfl rfl)
theorem dX3_laysHung_29 : decode cX3_laysHung 29 = .ok (.iconst 1, 1) := dk_4 (dk_at dksX3_laysHung_1 7 rfl rfl)
theorem dX3_laysHung_30 : decode cX3_laysHung 30 = .ok (.iload 4, 2) := dk_21 4 (dk_at dksX3_laysHung_1 8 rfl rfl)
theorem dX3_laysHung_32 : decode cX3_laysHung 32 = .ok (.iadd, 1) := dk_96 (dk_at dksX3_laysHung_1 10 rfl rfl)
theorem dX3_laysHung_33 : decode cX3_laysHung 33 = .ok (.iaload, 1) := dk_46 (dk_at dksX3_laysHung_1 11 rfl rfl)
theorem dX3_laysHung_34 : decode cX3_laysHung 34 = .ok (.iload 6, 2) := dk_21 6 (dk_at dksX3_laysHung_1 12 rfl rfl)
theorem dX3_laysHung_36 : decode cX3_laysHung 36 = .ok (.invokestatic 184, 3) := dk_184 0 184 (dk_at dksX3_laysHung_1 14 rfl rfl)
theorem dX3_laysHung_39 : decode cX3_laysHung 39 = .ok (.ifCond .eq 122, 3) := dk_153 0 122 (dk_at dksX3_laysHung_1 17 rfl rfl)
theorem dX3_laysHung_42 : decode cX3_laysHung 42 = .ok (.iload 6, 2) := dk_21 6 (dk_at dksX3_laysHung_1 20 rfl rfl)
theorem dX3_laysHung_44 : decode cX3_laysHung 44 = .ok (.iload_n 3, 1) := dk_29 (dk_at dksX3_laysHung_1 22 rfl rfl)
theorem dX3_laysHung_45 : decode cX3_laysHung 45 = .ok (.if_icmp .eq 116, 3) := dk_159 0 116 (dk_at dksX3_laysHung_2 0 rfl rfl)
theorem dX3_laysHung_48 : decode cX3_laysHung 48 = .ok (.iload_n 1, 1) := dk_27 (dk_at dksX3_laysHung_2 3 rfl rfl)
theorem dX3_laysHung_49 : decode cX3_laysHung 49 = .ok (.ifCond .le 16, 3) := dk_158 0 16 (dk_at dksX3_laysHung_2 4 rfl rfl)
theorem dX3_laysHung_52 : decode cX3_laysHung 52 = .ok (.iload 6, 2) := dk_21 6 (dk_at dksX3_laysHung_2 7 rfl rfl)
theorem dX3_laysHung_54 : decode cX3_laysHung 54 = .ok (.aload_n 0, 1) := dk_42 (dk_at dksX3_laysHung_2 9 rfl rfl)
theorem dX3_laysHung_55 : decode cX3_laysHung 55 = .ok (.getfield 142, 3) := dk_180 0 142 (dk_at dksX3_laysHung_2 10 rfl rfl)
theorem dX3_laysHung_58 : decode cX3_laysHung 58 = .ok (.iload_n 1, 1) := dk_27 (dk_at dksX3_laysHung_2 13 rfl rfl)
theorem dX3_laysHung_59 : decode cX3_laysHung 59 = .ok (.iconst 1, 1) := dk_4 (dk_at dksX3_laysHung_2 14 rfl rfl)
theorem dX3_laysHung_60 : decode cX3_laysHung 60 = .ok (.isub, 1) := dk_100 (dk_at dksX3_laysHung_2 15 rfl rfl)
theorem dX3_laysHung_61 : decode cX3_laysHung 61 = .ok (.iaload, 1) := dk_46 (dk_at dksX3_laysHung_2 16 rfl rfl)
theorem dX3_laysHung_62 : decode cX3_laysHung 62 = .ok (.if_icmp .eq 99, 3) := dk_159 0 99 (dk_at dksX3_laysHung_2 17 rfl rfl)
theorem dX3_laysHung_65 : decode cX3_laysHung 65 = .ok (.iload_n 1, 1) := dk_27 (dk_at dksX3_laysHung_2 20 rfl rfl)
theorem dX3_laysHung_66 : decode cX3_laysHung 66 = .ok (.iconst 1, 1) := dk_4 (dk_at dksX3_laysHung_2 21 rfl rfl)
theorem dX3_laysHung_67 : decode cX3_laysHung 67 = .ok (.iadd, 1) := dk_96 (dk_at dksX3_laysHung_2 22 rfl rfl)
theorem dX3_laysHung_68 : decode cX3_laysHung 68 = .ok (.iload_n 2, 1) := dk_28 (dk_at dksX3_laysHung_2 23 rfl rfl)
theorem dX3_laysHung_69 : decode cX3_laysHung 69 = .ok (.if_icmp .ge 19, 3) := dk_162 0 19 (dk_at dksX3_laysHung_3 0 rfl rfl)
theorem dX3_laysHung_72 : decode cX3_laysHung 72 = .ok (.iload 6, 2) := dk_21 6 (dk_at dksX3_laysHung_3 3 rfl rfl)
theorem dX3_laysHung_74 : decode cX3_laysHung 74 = .ok (.aload_n 0, 1) := dk_42 (dk_at dksX3_laysHung_3 5 rfl rfl)
theorem dX3_laysHung_75 : decode cX3_laysHung 75 = .ok (.getfield 142, 3) := dk_180 0 142 (dk_at dksX3_laysHung_3 6 rfl rfl)
theorem dX3_laysHung_78 : decode cX3_laysHung 78 = .ok (.iload_n 1, 1) := dk_27 (dk_at dksX3_laysHung_3 9 rfl rfl)
theorem dX3_laysHung_79 : decode cX3_laysHung 79 = .ok (.iconst 1, 1) := dk_4 (dk_at dksX3_laysHung_3 10 rfl rfl)
theorem dX3_laysHung_80 : decode cX3_laysHung 80 = .ok (.iadd, 1) := dk_96 (dk_at dksX3_laysHung_3 11 rfl rfl)
theorem dX3_laysHung_81 : decode cX3_laysHung 81 = .ok (.iaload, 1) := dk_46 (dk_at dksX3_laysHung_3 12 rfl rfl)
theorem dX3_laysHung_82 : decode cX3_laysHung 82 = .ok (.if_icmp .ne 6, 3) := dk_160 0 6 (dk_at dksX3_laysHung_3 13 rfl rfl)
theorem dX3_laysHung_85 : decode cX3_laysHung 85 = .ok (.goto 76, 3) := dk_167 0 76 (dk_at dksX3_laysHung_3 16 rfl rfl)
theorem dX3_laysHung_88 : decode cX3_laysHung 88 = .ok (.iload 5, 2) := dk_21 5 (dk_at dksX3_laysHung_3 19 rfl rfl)
theorem dX3_laysHung_90 : decode cX3_laysHung 90 = .ok (.istore 7, 2) := dk_54 7 (dk_at dksX3_laysHung_3 21 rfl rfl)
theorem dX3_laysHung_92 : decode cX3_laysHung 92 = .ok (.iload 7, 2) := dk_21 7 (dk_at dksX3_laysHung_4 0 rfl rfl)
theorem dX3_laysHung_94 : decode cX3_laysHung 94 = .ok (.ifCond .le 49, 3) := dk_158 0 49 (dk_at dksX3_laysHung_4 2 rfl rfl)
theorem dX3_laysHung_97 : decode cX3_laysHung 97 = .ok (.aload_n 0, 1) := dk_42 (dk_at dksX3_laysHung_4 5 rfl rfl)
theorem dX3_laysHung_98 : decode cX3_laysHung 98 = .ok (.bipush 16, 2) := dk_16 16 (dk_at dksX3_laysHung_4 6 rfl rfl)
theorem dX3_laysHung_100 : decode cX3_laysHung 100 = .ok (.iload 4, 2) := dk_21 4 (dk_at dksX3_laysHung_4 8 rfl rfl)
theorem dX3_laysHung_102 : decode cX3_laysHung 102 = .ok (.imul, 1) := dk_104 (dk_at dksX3_laysHung_4 10 rfl rfl)
theorem dX3_laysHung_103 : decode cX3_laysHung 103 = .ok (.iload 6, 2) := dk_21 6 (dk_at dksX3_laysHung_4 11 rfl rfl)
theorem dX3_laysHung_105 : decode cX3_laysHung 105 = .ok (.iadd, 1) := dk_96 (dk_at dksX3_laysHung_4 13 rfl rfl)
theorem dX3_laysHung_106 : decode cX3_laysHung 106 = .ok (.aload_n 0, 1) := dk_42 (dk_at dksX3_laysHung_4 14 rfl rfl)
theorem dX3_laysHung_107 : decode cX3_laysHung 107 = .ok (.getfield 145, 3) := dk_180 0 145 (dk_at dksX3_laysHung_4 15 rfl rfl)
theorem dX3_laysHung_110 : decode cX3_laysHung 110 = .ok (.iload 7, 2) := dk_21 7 (dk_at dksX3_laysHung_4 18 rfl rfl)
theorem dX3_laysHung_112 : decode cX3_laysHung 112 = .ok (.iconst 1, 1) := dk_4 (dk_at dksX3_laysHung_4 20 rfl rfl)
theorem dX3_laysHung_113 : decode cX3_laysHung 113 = .ok (.isub, 1) := dk_100 (dk_at dksX3_laysHung_4 21 rfl rfl)
theorem dX3_laysHung_114 : decode cX3_laysHung 114 = .ok (.iaload, 1) := dk_46 (dk_at dksX3_laysHung_4 22 rfl rfl)
theorem dX3_laysHung_115 : decode cX3_laysHung 115 = .ok (.invokevirtual 503, 3) := dk_182 1 247 (dk_at dksX3_laysHung_5 0 rfl rfl)
theorem dX3_laysHung_118 : decode cX3_laysHung 118 = .ok (.ifCond .ge 25, 3) := dk_156 0 25 (dk_at dksX3_laysHung_5 3 rfl rfl)
theorem dX3_laysHung_121 : decode cX3_laysHung 121 = .ok (.aload_n 0, 1) := dk_42 (dk_at dksX3_laysHung_5 6 rfl rfl)
theorem dX3_laysHung_122 : decode cX3_laysHung 122 = .ok (.getfield 145, 3) := dk_180 0 145 (dk_at dksX3_laysHung_5 7 rfl rfl)
theorem dX3_laysHung_125 : decode cX3_laysHung 125 = .ok (.iload 7, 2) := dk_21 7 (dk_at dksX3_laysHung_5 10 rfl rfl)
theorem dX3_laysHung_127 : decode cX3_laysHung 127 = .ok (.aload_n 0, 1) := dk_42 (dk_at dksX3_laysHung_5 12 rfl rfl)
theorem dX3_laysHung_128 : decode cX3_laysHung 128 = .ok (.getfield 145, 3) := dk_180 0 145 (dk_at dksX3_laysHung_5 13 rfl rfl)
theorem dX3_laysHung_131 : decode cX3_laysHung 131 = .ok (.iload 7, 2) := dk_21 7 (dk_at dksX3_laysHung_5 16 rfl rfl)
theorem dX3_laysHung_133 : decode cX3_laysHung 133 = .ok (.iconst 1, 1) := dk_4 (dk_at dksX3_laysHung_5 18 rfl rfl)
theorem dX3_laysHung_134 : decode cX3_laysHung 134 = .ok (.isub, 1) := dk_100 (dk_at dksX3_laysHung_5 19 rfl rfl)
theorem dX3_laysHung_135 : decode cX3_laysHung 135 = .ok (.iaload, 1) := dk_46 (dk_at dksX3_laysHung_5 20 rfl rfl)
theorem dX3_laysHung_136 : decode cX3_laysHung 136 = .ok (.iastore, 1) := dk_79 (dk_at dksX3_laysHung_5 21 rfl rfl)
theorem dX3_laysHung_137 : decode cX3_laysHung 137 = .ok (.iinc 7 (-1), 3) := dk_132 7 255 (dk_at dksX3_laysHung_6 0 rfl rfl)
theorem dX3_laysHung_140 : decode cX3_laysHung 140 = .ok (.goto (-48), 3) := dk_167 255 208 (dk_at dksX3_laysHung_6 3 rfl rfl)
theorem dX3_laysHung_143 : decode cX3_laysHung 143 = .ok (.aload_n 0, 1) := dk_42 (dk_at dksX3_laysHung_6 6 rfl rfl)
theorem dX3_laysHung_144 : decode cX3_laysHung 144 = .ok (.getfield 145, 3) := dk_180 0 145 (dk_at dksX3_laysHung_6 7 rfl rfl)
theorem dX3_laysHung_147 : decode cX3_laysHung 147 = .ok (.iload 7, 2) := dk_21 7 (dk_at dksX3_laysHung_6 10 rfl rfl)
theorem dX3_laysHung_149 : decode cX3_laysHung 149 = .ok (.bipush 16, 2) := dk_16 16 (dk_at dksX3_laysHung_6 12 rfl rfl)
theorem dX3_laysHung_151 : decode cX3_laysHung 151 = .ok (.iload 4, 2) := dk_21 4 (dk_at dksX3_laysHung_6 14 rfl rfl)
theorem dX3_laysHung_153 : decode cX3_laysHung 153 = .ok (.imul, 1) := dk_104 (dk_at dksX3_laysHung_6 16 rfl rfl)
theorem dX3_laysHung_154 : decode cX3_laysHung 154 = .ok (.iload 6, 2) := dk_21 6 (dk_at dksX3_laysHung_6 17 rfl rfl)
theorem dX3_laysHung_156 : decode cX3_laysHung 156 = .ok (.iadd, 1) := dk_96 (dk_at dksX3_laysHung_6 19 rfl rfl)
theorem dX3_laysHung_157 : decode cX3_laysHung 157 = .ok (.iastore, 1) := dk_79 (dk_at dksX3_laysHung_6 20 rfl rfl)
theorem dX3_laysHung_158 : decode cX3_laysHung 158 = .ok (.iinc 5 1, 3) := dk_132 5 1 (dk_at dksX3_laysHung_6 21 rfl rfl)
theorem dX3_laysHung_161 : decode cX3_laysHung 161 = .ok (.iinc 6 1, 3) := dk_132 6 1 (dk_at dksX3_laysHung_7 0 rfl rfl)
theorem dX3_laysHung_164 : decode cX3_laysHung 164 = .ok (.goto (-150), 3) := dk_167 255 106 (dk_at dksX3_laysHung_7 3 rfl rfl)
theorem dX3_laysHung_167 : decode cX3_laysHung 167 = .ok (.iload 5, 2) := dk_21 5 (dk_at dksX3_laysHung_7 6 rfl rfl)
theorem dX3_laysHung_169 : decode cX3_laysHung 169 = .ok (.ireturn, 1) := dk_172 (dk_at dksX3_laysHung_7 8 rfl rfl)
abbrev cX3_againstText : ByteArray := prog_21_method_117_code
def yX3_againstText : MethodName := ⟨RX3, "againstText", "(II)I"⟩
def dkwX3_againstText_3 : List UInt8 := [28, 46, 100, 172]
abbrev dktX3_againstText_3 : List UInt8 := dkwX3_againstText_3 ++ []
def dkwX3_againstText_2 : List UInt8 := [21, 4, 153, 0, 6, 21, 4, 172, 132, 3, 1, 167, 255, 200, 42, 180, 0, 133, 27, 46, 42, 180, 0, 133]
abbrev dktX3_againstText_2 : List UInt8 := dkwX3_againstText_2 ++ dktX3_againstText_3
def dkwX3_againstText_1 : List UInt8 := [180, 0, 130, 16, 96, 27, 104, 29, 96, 51, 42, 180, 0, 130, 16, 96, 28, 104, 29, 96, 51, 100, 54, 4]
abbrev dktX3_againstText_1 : List UInt8 := dkwX3_againstText_1 ++ dktX3_againstText_2
def dkwX3_againstText_0 : List UInt8 := [3, 62, 29, 42, 180, 0, 133, 27, 46, 162, 0, 52, 29, 42, 180, 0, 133, 28, 46, 162, 0, 42, 42]
abbrev dktX3_againstText_0 : List UInt8 := dkwX3_againstText_0 ++ dktX3_againstText_1
theorem dksX3_againstText_0 : cX3_againstText.data.toList.drop 0 = dktX3_againstText_0 := by decide +kernel
theorem dksX3_againstText_1 : cX3_againstText.data.toList.drop 23 = dktX3_againstText_1 := dk_seg dksX3_againstText_0 23 rfl rfl
theorem dksX3_againstText_2 : cX3_againstText.data.toList.drop 47 = dktX3_againstText_2 := dk_seg dksX3_againstText_1 24 rfl rfl
theorem dksX3_againstText_3 : cX3_againstText.data.toList.drop 71 = dktX3_againstText_3 := dk_seg dksX3_againstText_2 24 rfl rfl
theorem dX3_againstText_0 : decode cX3_againstText 0 = .ok (.iconst 0, 1) := dk_3 (dk_at dksX3_againstText_0 0 rfl rfl)
theorem dX3_againstText_1 : decode cX3_againstText 1 = .ok (.istore_n 3, 1) := dk_62 (dk_at dksX3_againstText_0 1 rfl rfl)
theorem dX3_againstText_2 : decode cX3_againstText 2 = .ok (.iload_n 3, 1) := dk_29 (dk_at dksX3_againstText_0 2 rfl rfl)
theorem dX3_againstText_3 : decode cX3_againstText 3 = .ok (.aload_n 0, 1) := dk_42 (dk_at dksX3_againstText_0 3 rfl rfl)
theorem dX3_againstText_4 : decode cX3_againstText 4 = .ok (.getfield 133, 3) := dk_180 0 133 (dk_at dksX3_againstText_0 4 rfl rfl)
theorem dX3_againstText_7 : decode cX3_againstText 7 = .ok (.iload_n 1, 1) := dk_27 (dk_at dksX3_againstText_0 7 rfl rfl)
theorem dX3_againstText_8 : decode cX3_againstText 8 = .ok (.iaload, 1) := dk_46 (dk_at dksX3_againstText_0 8 rfl rfl)
theorem dX3_againstText_9 : decode cX3_againstText 9 = .ok (.if_icmp .ge 52, 3) := dk_162 0 52 (dk_at dksX3_againstText_0 9 rfl rfl)
theorem dX3_againstText_12 : decode cX3_againstText 12 = .ok (.iload_n 3, 1) := dk_29 (dk_at dksX3_againstText_0 12 rfl rfl)
theorem dX3_againstText_13 : decode cX3_againstText 13 = .ok (.aload_n 0, 1) := dk_42 (dk_at dksX3_againstText_0 13 rfl rfl)
theorem dX3_againstText_14 : decode cX3_againstText 14 = .ok (.getfield 133, 3) := dk_180 0 133 (dk_at dksX3_againstText_0 14 rfl rfl)
theorem dX3_againstText_17 : decode cX3_againstText 17 = .ok (.iload_n 2, 1) := dk_28 (dk_at dksX3_againstText_0 17 rfl rfl)
theorem dX3_againstText_18 : decode cX3_againstText 18 = .ok (.iaload, 1) := dk_46 (dk_at dksX3_againstText_0 18 rfl rfl)
theorem dX3_againstText_19 : decode cX3_againstText 19 = .ok (.if_icmp .ge 42, 3) := dk_162 0 42 (dk_at dksX3_againstText_0 19 rfl rfl)
theorem dX3_againstText_22 : decode cX3_againstText 22 = .ok (.aload_n 0, 1) := dk_42 (dk_at dksX3_againstText_0 22 rfl rfl)
theorem dX3_againstText_23 : decode cX3_againstText 23 = .ok (.getfield 130, 3) := dk_180 0 130 (dk_at dksX3_againstText_1 0 rfl rfl)
theorem dX3_againstText_26 : decode cX3_againstText 26 = .ok (.bipush 96, 2) := dk_16 96 (dk_at dksX3_againstText_1 3 rfl rfl)
theorem dX3_againstText_28 : decode cX3_againstText 28 = .ok (.iload_n 1, 1) := dk_27 (dk_at dksX3_againstText_1 5 rfl rfl)
theorem dX3_againstText_29 : decode cX3_againstText 29 = .ok (.imul, 1) := dk_104 (dk_at dksX3_againstText_1 6 rfl rfl)
theorem dX3_againstText_30 : decode cX3_againstText 30 = .ok (.iload_n 3, 1) := dk_29 (dk_at dksX3_againstText_1 7 rfl rfl)
theorem dX3_againstText_31 : decode cX3_againstText 31 = .ok (.iadd, 1) := dk_96 (dk_at dksX3_againstText_1 8 rfl rfl)
theorem dX3_againstText_32 : decode cX3_againstText 32 = .ok (.baload, 1) := dk_51 (dk_at dksX3_againstText_1 9 rfl rfl)
theorem dX3_againstText_33 : decode cX3_againstText 33 = .ok (.aload_n 0, 1) := dk_42 (dk_at dksX3_againstText_1 10 rfl rfl)
theorem dX3_againstText_34 : decode cX3_againstText 34 = .ok (.getfield 130, 3) := dk_180 0 130 (dk_at dksX3_againstText_1 11 rfl rfl)
theorem dX3_againstText_37 : decode cX3_againstText 37 = .ok (.bipush 96, 2) := dk_16 96 (dk_at dksX3_againstText_1 14 rfl rfl)
theorem dX3_againstText_39 : decode cX3_againstText 39 = .ok (.iload_n 2, 1) := dk_28 (dk_at dksX3_againstText_1 16 rfl rfl)
theorem dX3_againstText_40 : decode cX3_againstText 40 = .ok (.imul, 1) := dk_104 (dk_at dksX3_againstText_1 17 rfl rfl)
theorem dX3_againstText_41 : decode cX3_againstText 41 = .ok (.iload_n 3, 1) := dk_29 (dk_at dksX3_againstText_1 18 rfl rfl)
theorem dX3_againstText_42 : decode cX3_againstText 42 = .ok (.iadd, 1) := dk_96 (dk_at dksX3_againstText_1 19 rfl rfl)
theorem dX3_againstText_43 : decode cX3_againstText 43 = .ok (.baload, 1) := dk_51 (dk_at dksX3_againstText_1 20 rfl rfl)
theorem dX3_againstText_44 : decode cX3_againstText 44 = .ok (.isub, 1) := dk_100 (dk_at dksX3_againstText_1 21 rfl rfl)
theorem dX3_againstText_45 : decode cX3_againstText 45 = .ok (.istore 4, 2) := dk_54 4 (dk_at dksX3_againstText_1 22 rfl rfl)
theorem dX3_againstText_47 : decode cX3_againstText 47 = .ok (.iload 4, 2) := dk_21 4 (dk_at dksX3_againstText_2 0 rfl rfl)
theorem dX3_againstText_49 : decode cX3_againstText 49 = .ok (.ifCond .eq 6, 3) := dk_153 0 6 (dk_at dksX3_againstText_2 2 rfl rfl)
theorem dX3_againstText_52 : decode cX3_againstText 52 = .ok (.iload 4, 2) := dk_21 4 (dk_at dksX3_againstText_2 5 rfl rfl)
theorem dX3_againstText_54 : decode cX3_againstText 54 = .ok (.ireturn, 1) := dk_172 (dk_at dksX3_againstText_2 7 rfl rfl)
theorem dX3_againstText_55 : decode cX3_againstText 55 = .ok (.iinc 3 1, 3) := dk_132 3 1 (dk_at dksX3_againstText_2 8 rfl rfl)
theorem dX3_againstText_58 : decode cX3_againstText 58 = .ok (.goto (-56), 3) := dk_167 255 200 (dk_at dksX3_againstText_2 11 rfl rfl)
theorem dX3_againstText_61 : decode cX3_againstText 61 = .ok (.aload_n 0, 1) := dk_42 (dk_at dksX3_againstText_2 14 rfl rfl)
theorem dX3_againstText_62 : decode cX3_againstText 62 = .ok (.getfield 133, 3) := dk_180 0 133 (dk_at dksX3_againstText_2 15 rfl rfl)
theorem dX3_againstText_65 : decode cX3_againstText 65 = .ok (.iload_n 1, 1) := dk_27 (dk_at dksX3_againstText_2 18 rfl rfl)
theorem dX3_againstText_66 : decode cX3_againstText 66 = .ok (.iaload, 1) := dk_46 (dk_at dksX3_againstText_2 19 rfl rfl)
theorem dX3_againstText_67 : decode cX3_againstText 67 = .ok (.aload_n 0, 1) := dk_42 (dk_at dksX3_againstText_2 20 rfl rfl)
theorem dX3_againstText_68 : decode cX3_againstText 68 = .ok (.getfield 133, 3) := dk_180 0 133 (dk_at dksX3_againstText_2 21 rfl rfl)
theorem dX3_againstText_71 : decode cX3_againstText 71 = .ok (.iload_n 2, 1) := dk_28 (dk_at dksX3_againstText_3 0 rfl rfl)
theorem dX3_againstText_72 : decode cX3_againstText 72 = .ok (.iaload, 1) := dk_46 (dk_at dksX3_againstText_3 1 rfl rfl)
theorem dX3_againstText_73 : decode cX3_againstText 73 = .ok (.isub, 1) := dk_100 (dk_at dksX3_againstText_3 2 rfl rfl)
theorem dX3_againstText_74 : decode cX3_againstText 74 = .ok (.ireturn, 1) := dk_172 (dk_at dksX3_againstText_3 3 rfl rfl)
abbrev cX3_againstLeast : ByteArray := prog_21_method_118_code
def yX3_againstLeast : MethodName := ⟨RX3, "againstLeast", "()I"⟩
def dkwX3_againstLeast_2 : List UInt8 := [132, 1, 1, 167, 255, 208, 42, 180, 1, 238, 42, 180, 1, 244, 100, 172]
abbrev dktX3_againstLeast_2 : List UInt8 := dkwX3_againstLeast_2 ++ []
def dkwX3_againstLeast_1 : List UInt8 := [42, 180, 0, 139, 27, 51, 159, 0, 17, 42, 180, 0, 136, 27, 51, 42, 180, 0, 139, 27, 51, 100, 172]
abbrev dktX3_againstLeast_1 : List UInt8 := dkwX3_againstLeast_1 ++ dktX3_againstLeast_2
def dkwX3_againstLeast_0 : List UInt8 := [3, 60, 27, 42, 180, 1, 238, 162, 0, 46, 27, 42, 180, 1, 244, 162, 0, 38, 42, 180, 0, 136, 27, 51]
abbrev dktX3_againstLeast_0 : List UInt8 := dkwX3_againstLeast_0 ++ dktX3_againstLeast_1
theorem dksX3_againstLeast_0 : cX3_againstLeast.data.toList.drop 0 = dktX3_againstLeast_0 := by decide +kernel
theorem dksX3_againstLeast_1 : cX3_againstLeast.data.toList.drop 24 = dktX3_againstLeast_1 := dk_seg dksX3_againstLeast_0 24 rfl rfl
theorem dksX3_againstLeast_2 : cX3_againstLeast.data.toList.drop 47 = dktX3_againstLeast_2 := dk_seg dksX3_againstLeast_1 23 rfl rfl
theorem dX3_againstLeast_0 : decode cX3_againstLeast 0 = .ok (.iconst 0, 1) := dk_3 (dk_at dksX3_againstLeast_0 0 rfl rfl)
theorem dX3_againstLeast_1 : decode cX3_againstLeast 1 = .ok (.istore_n 1, 1) := dk_60 (dk_at dksX3_againstLeast_0 1 rfl rfl)
theorem dX3_againstLeast_2 : decode cX3_againstLeast 2 = .ok (.iload_n 1, 1) := dk_27 (dk_at dksX3_againstLeast_0 2 rfl rfl)
theorem dX3_againstLeast_3 : decode cX3_againstLeast 3 = .ok (.aload_n 0, 1) := dk_42 (dk_at dksX3_againstLeast_0 3 rfl rfl)
theorem dX3_againstLeast_4 : decode cX3_againstLeast 4 = .ok (.getfield 494, 3) := dk_180 1 238 (dk_at dksX3_againstLeast_0 4 rfl rfl)
theorem dX3_againstLeast_7 : decode cX3_againstLeast 7 = .ok (.if_icmp .ge 46, 3) := dk_162 0 46 (dk_at dksX3_againstLeast_0 7 rfl rfl)
theorem dX3_againstLeast_10 : decode cX3_againstLeast 10 = .ok (.iload_n 1, 1) := dk_27 (dk_at dksX3_againstLeast_0 10 rfl rfl)
theorem dX3_againstLeast_11 : decode cX3_againstLeast 11 = .ok (.aload_n 0, 1) := dk_42 (dk_at dksX3_againstLeast_0 11 rfl rfl)
theorem dX3_againstLeast_12 : decode cX3_againstLeast 12 = .ok (.getfield 500, 3) := dk_180 1 244 (dk_at dksX3_againstLeast_0 12 rfl rfl)
theorem dX3_againstLeast_15 : decode cX3_againstLeast 15 = .ok (.if_icmp .ge 38, 3) := dk_162 0 38 (dk_at dksX3_againstLeast_0 15 rfl rfl)
theorem dX3_againstLeast_18 : decode cX3_againstLeast 18 = .ok (.aload_n 0, 1) := dk_42 (dk_at dksX3_againstLeast_0 18 rfl rfl)
theorem dX3_againstLeast_19 : decode cX3_againstLeast 19 = .ok (.getfield 136, 3) := dk_180 0 136 (dk_at dksX3_againstLeast_0 19 rfl rfl)
theorem dX3_againstLeast_22 : decode cX3_againstLeast 22 = .ok (.iload_n 1, 1) := dk_27 (dk_at dksX3_againstLeast_0 22 rfl rfl)
theorem dX3_againstLeast_23 : decode cX3_againstLeast 23 = .ok (.baload, 1) := dk_51 (dk_at dksX3_againstLeast_0 23 rfl rfl)
theorem dX3_againstLeast_24 : decode cX3_againstLeast 24 = .ok (.aload_n 0, 1) := dk_42 (dk_at dksX3_againstLeast_1 0 rfl rfl)
theorem dX3_againstLeast_25 : decode cX3_againstLeast 25 = .ok (.getfield 139, 3) := dk_180 0 139 (dk_at dksX3_againstLeast_1 1 rfl rfl)
theorem dX3_againstLeast_28 : decode cX3_againstLeast 28 = .ok (.iload_n 1, 1) := dk_27 (dk_at dksX3_againstLeast_1 4 rfl rfl)
theorem dX3_againstLeast_29 : decode cX3_againstLeast 29 = .ok (.baload, 1) := dk_51 (dk_at dksX3_againstLeast_1 5 rfl rfl)
theorem dX3_againstLeast_30 : decode cX3_againstLeast 30 = .ok (.if_icmp .eq 17, 3) := dk_159 0 17 (dk_at dksX3_againstLeast_1 6 rfl rfl)
theorem dX3_againstLeast_33 : decode cX3_againstLeast 33 = .ok (.aload_n 0, 1) := dk_42 (dk_at dksX3_againstLeast_1 9 rfl rfl)
theorem dX3_againstLeast_34 : decode cX3_againstLeast 34 = .ok (.getfield 136, 3) := dk_180 0 136 (dk_at dksX3_againstLeast_1 10 rfl rfl)
theorem dX3_againstLeast_37 : decode cX3_againstLeast 37 = .ok (.iload_n 1, 1) := dk_27 (dk_at dksX3_againstLeast_1 13 rfl rfl)
theorem dX3_againstLeast_38 : decode cX3_againstLeast 38 = .ok (.baload, 1) := dk_51 (dk_at dksX3_againstLeast_1 14 rfl rfl)
theorem dX3_againstLeast_39 : decode cX3_againstLeast 39 = .ok (.aload_n 0, 1) := dk_42 (dk_at dksX3_againstLeast_1 15 rfl rfl)
theorem dX3_againstLeast_40 : decode cX3_againstLeast 40 = .ok (.getfield 139, 3) := dk_180 0 139 (dk_at dksX3_againstLeast_1 16 rfl rfl)
theorem dX3_againstLeast_43 : decode cX3_againstLeast 43 = .ok (.iload_n 1, 1) := dk_27 (dk_at dksX3_againstLeast_1 19 rfl rfl)
theorem dX3_againstLeast_44 : decode cX3_againstLeast 44 = .ok (.baload, 1) := dk_51 (dk_at dksX3_againstLeast_1 20 rfl rfl)
theorem dX3_againstLeast_45 : decode cX3_againstLeast 45 = .ok (.isub, 1) := dk_100 (dk_at dksX3_againstLeast_1 21 rfl rfl)
theorem dX3_againstLeast_46 : decode cX3_againstLeast 46 = .ok (.ireturn, 1) := dk_172 (dk_at dksX3_againstLeast_1 22 rfl rfl)
theorem dX3_againstLeast_47 : decode cX3_againstLeast 47 = .ok (.iinc 1 1, 3) := dk_132 1 1 (dk_at dksX3_againstLeast_2 0 rfl rfl)
theorem dX3_againstLeast_50 : decode cX3_againstLeast 50 = .ok (.goto (-48), 3) := dk_167 255 208 (dk_at dksX3_againstLeast_2 3 rfl rfl)
theorem dX3_againstLeast_53 : decode cX3_againstLeast 53 = .ok (.aload_n 0, 1) := dk_42 (dk_at dksX3_againstLeast_2 6 rfl rfl)
theorem dX3_againstLeast_54 : decode cX3_againstLeast 54 = .ok (.getfield 494, 3) := dk_180 1 238 (dk_at dksX3_againstLeast_2 7 rfl rfl)
theorem dX3_againstLeast_57 : decode cX3_againstLeast 57 = .ok (.aload_n 0, 1) := dk_42 (dk_at dksX3_againstLeast_2 10 rfl rfl)
theorem dX3_againstLeast_58 : decode cX3_againstLeast 58 = .ok (.getfield 500, 3) := dk_180 1 244 (dk_at dksX3_againstLeast_2 11 rfl rfl)
theorem dX3_againstLeast_61 : decode cX3_againstLeast 61 = .ok (.isub, 1) := dk_100 (dk_at dksX3_againstLeast_2 14 rfl rfl)
theorem dX3_againstLeast_62 : decode cX3_againstLeast 62 = .ok (.ireturn, 1) := dk_172 (dk_at dksX3_againstLeast_2 15 rfl rfl)
abbrev cX3_laysSign : ByteArray := prog_21_method_123_code
def yX3_laysSign : MethodName := ⟨RX3, "laysSign", "(II)V"⟩
def dkwX3_laysSign_1 : List UInt8 := [46, 4, 96, 79, 177]
abbrev dktX3_laysSign_1 : List UInt8 := dkwX3_laysSign_1 ++ []
def dkwX3_laysSign_0 : List UInt8 := [42, 180, 0, 130, 16, 96, 27, 104, 42, 180, 0, 133, 27, 46, 96, 28, 145, 84, 42, 180, 0, 133, 27, 92]
abbrev dktX3_laysSign_0 : List UInt8 := dkwX3_laysSign_0 ++ dktX3_laysSign_1
theorem dksX3_laysSign_0 : cX3_laysSign.data.toList.drop 0 = dktX3_laysSign_0 := by decide +kernel
theorem dksX3_laysSign_1 : cX3_laysSign.data.toList.drop 24 = dktX3_laysSign_1 := dk_seg dksX3_laysSign_0 24 rfl rfl
theorem dX3_laysSign_0 : decode cX3_laysSign 0 = .ok (.aload_n 0, 1) := dk_42 (dk_at dksX3_laysSign_0 0 rfl rfl)
theorem dX3_laysSign_1 : decode cX3_laysSign 1 = .ok (.getfield 130, 3) := dk_180 0 130 (dk_at dksX3_laysSign_0 1 rfl rfl)
theorem dX3_laysSign_4 : decode cX3_laysSign 4 = .ok (.bipush 96, 2) := dk_16 96 (dk_at dksX3_laysSign_0 4 rfl rfl)
theorem dX3_laysSign_6 : decode cX3_laysSign 6 = .ok (.iload_n 1, 1) := dk_27 (dk_at dksX3_laysSign_0 6 rfl rfl)
theorem dX3_laysSign_7 : decode cX3_laysSign 7 = .ok (.imul, 1) := dk_104 (dk_at dksX3_laysSign_0 7 rfl rfl)
theorem dX3_laysSign_8 : decode cX3_laysSign 8 = .ok (.aload_n 0, 1) := dk_42 (dk_at dksX3_laysSign_0 8 rfl rfl)
theorem dX3_laysSign_9 : decode cX3_laysSign 9 = .ok (.getfield 133, 3) := dk_180 0 133 (dk_at dksX3_laysSign_0 9 rfl rfl)
theorem dX3_laysSign_12 : decode cX3_laysSign 12 = .ok (.iload_n 1, 1) := dk_27 (dk_at dksX3_laysSign_0 12 rfl rfl)
theorem dX3_laysSign_13 : decode cX3_laysSign 13 = .ok (.iaload, 1) := dk_46 (dk_at dksX3_laysSign_0 13 rfl rfl)
theorem dX3_laysSign_14 : decode cX3_laysSign 14 = .ok (.iadd, 1) := dk_96 (dk_at dksX3_laysSign_0 14 rfl rfl)
theorem dX3_laysSign_15 : decode cX3_laysSign 15 = .ok (.iload_n 2, 1) := dk_28 (dk_at dksX3_laysSign_0 15 rfl rfl)
theorem dX3_laysSign_16 : decode cX3_laysSign 16 = .ok (.i2b, 1) := dk_145 (dk_at dksX3_laysSign_0 16 rfl rfl)
theorem dX3_laysSign_17 : decode cX3_laysSign 17 = .ok (.bastore, 1) := dk_84 (dk_at dksX3_laysSign_0 17 rfl rfl)
theorem dX3_laysSign_18 : decode cX3_laysSign 18 = .ok (.aload_n 0, 1) := dk_42 (dk_at dksX3_laysSign_0 18 rfl rfl)
theorem dX3_laysSign_19 : decode cX3_laysSign 19 = .ok (.getfield 133, 3) := dk_180 0 133 (dk_at dksX3_laysSign_0 19 rfl rfl)
theorem dX3_laysSign_22 : decode cX3_laysSign 22 = .ok (.iload_n 1, 1) := dk_27 (dk_at dksX3_laysSign_0 22 rfl rfl)
theorem dX3_laysSign_23 : decode cX3_laysSign 23 = .ok (.dup2, 1) := dk_92 (dk_at dksX3_laysSign_0 23 rfl rfl)
theorem dX3_laysSign_24 : decode cX3_laysSign 24 = .ok (.iaload, 1) := dk_46 (dk_at dksX3_laysSign_1 0 rfl rfl)
theorem dX3_laysSign_25 : decode cX3_laysSign 25 = .ok (.iconst 1, 1) := dk_4 (dk_at dksX3_laysSign_1 1 rfl rfl)
theorem dX3_laysSign_26 : decode cX3_laysSign 26 = .ok (.iadd, 1) := dk_96 (dk_at dksX3_laysSign_1 2 rfl rfl)
theorem dX3_laysSign_27 : decode cX3_laysSign 27 = .ok (.iastore, 1) := dk_79 (dk_at dksX3_laysSign_1 3 rfl rfl)
theorem dX3_laysSign_28 : decode cX3_laysSign 28 = .ok (.return_, 1) := dk_177 (dk_at dksX3_laysSign_1 4 rfl rfl)
abbrev cX3_count : ByteArray := prog_21_method_127_code
def yX3_count : MethodName := ⟨RX3, "count", "(I)I"⟩
def dkwX3_count_5 : List UInt8 := [182, 1, 197, 172, 5, 42, 180, 0, 7, 3, 46, 104, 5, 96, 172, 2, 172]
abbrev dktX3_count_5 : List UInt8 := dkwX3_count_5 ++ []
def dkwX3_count_4 : List UInt8 := [42, 180, 0, 7, 3, 46, 172, 42, 182, 1, 191, 172, 42, 182, 2, 22, 172, 42, 182, 1, 200, 172, 42]
abbrev dktX3_count_4 : List UInt8 := dkwX3_count_4 ++ dktX3_count_5
def dkwX3_count_3 : List UInt8 := [170, 0, 0, 0, 0, 0, 0, 94, 0, 0, 0, 0, 0, 0, 0, 9, 0, 0, 0, 56, 0, 0, 0, 94, 0, 0, 0, 94, 0, 0, 0, 94, 0, 0, 0, 94, 0, 0, 0, 63, 0, 0, 0, 68, 0, 0, 0, 73, 0, 0, 0, 78, 0, 0, 0, 83]
abbrev dktX3_count_3 : List UInt8 := dkwX3_count_3 ++ dktX3_count_4
def dkwX3_count_2 : List UInt8 := [153, 0, 9, 42, 27, 182, 1, 194, 172, 27]
abbrev dktX3_count_2 : List UInt8 := dkwX3_count_2 ++ dktX3_count_3
def dkwX3_count_1 : List UInt8 := [16, 12, 160, 0, 8, 42, 182, 2, 19, 172, 42, 182, 1, 118, 27, 133, 10, 20, 1, 160, 184, 0, 158]
abbrev dktX3_count_1 : List UInt8 := dkwX3_count_1 ++ dktX3_count_2
def dkwX3_count_0 : List UInt8 := [27, 16, 10, 160, 0, 8, 42, 180, 0, 152, 172, 27, 16, 11, 160, 0, 8, 42, 180, 0, 191, 172, 27]
abbrev dktX3_count_0 : List UInt8 := dkwX3_count_0 ++ dktX3_count_1
theorem dksX3_count_0 : cX3_count.data.toList.drop 0 = dktX3_count_0 := by decide +kernel
theorem dksX3_count_1 : cX3_count.data.toList.drop 23 = dktX3_count_1 := dk_seg dksX3_count_0 23 rfl rfl
theorem dksX3_count_2 : cX3_count.data.toList.drop 46 = dktX3_count_2 := dk_seg dksX3_count_1 23 rfl rfl
theorem dksX3_count_3 : cX3_count.data.toList.drop 56 = dktX3_count_3 := dk_seg dksX3_count_2 10 rfl rfl
theorem dksX3_count_4 : cX3_count.data.toList.drop 112 = dktX3_count_4 := dk_seg dksX3_count_3 56 rfl rfl
theorem dksX3_count_5 : cX3_count.data.toList.drop 135 = dktX3_count_5 := dk_seg dksX3_count_4 23 rfl rfl
theorem dX3_count_0 : decode cX3_count 0 = .ok (.iload_n 1, 1) := dk_27 (dk_at dksX3_count_0 0 rfl rfl)
theorem dX3_count_1 : decode cX3_count 1 = .ok (.bipush 10, 2) := dk_16 10 (dk_at dksX3_count_0 1 rfl rfl)
theorem dX3_count_3 : decode cX3_count 3 = .ok (.if_icmp .ne 8, 3) := dk_160 0 8 (dk_at dksX3_count_0 3 rfl rfl)
theorem dX3_count_6 : decode cX3_count 6 = .ok (.aload_n 0, 1) := dk_42 (dk_at dksX3_count_0 6 rfl rfl)
theorem dX3_count_7 : decode cX3_count 7 = .ok (.getfield 152, 3) := dk_180 0 152 (dk_at dksX3_count_0 7 rfl rfl)
theorem dX3_count_10 : decode cX3_count 10 = .ok (.ireturn, 1) := dk_172 (dk_at dksX3_count_0 10 rfl rfl)
theorem dX3_count_11 : decode cX3_count 11 = .ok (.iload_n 1, 1) := dk_27 (dk_at dksX3_count_0 11 rfl rfl)
theorem dX3_count_12 : decode cX3_count 12 = .ok (.bipush 11, 2) := dk_16 11 (dk_at dksX3_count_0 12 rfl rfl)
theorem dX3_count_14 : decode cX3_count 14 = .ok (.if_icmp .ne 8, 3) := dk_160 0 8 (dk_at dksX3_count_0 14 rfl rfl)
theorem dX3_count_17 : decode cX3_count 17 = .ok (.aload_n 0, 1) := dk_42 (dk_at dksX3_count_0 17 rfl rfl)
theorem dX3_count_18 : decode cX3_count 18 = .ok (.getfield 191, 3) := dk_180 0 191 (dk_at dksX3_count_0 18 rfl rfl)
theorem dX3_count_21 : decode cX3_count 21 = .ok (.ireturn, 1) := dk_172 (dk_at dksX3_count_0 21 rfl rfl)
theorem dX3_count_22 : decode cX3_count 22 = .ok (.iload_n 1, 1) := dk_27 (dk_at dksX3_count_0 22 rfl rfl)
theorem dX3_count_23 : decode cX3_count 23 = .ok (.bipush 12, 2) := dk_16 12 (dk_at dksX3_count_1 0 rfl rfl)
theorem dX3_count_25 : decode cX3_count 25 = .ok (.if_icmp .ne 8, 3) := dk_160 0 8 (dk_at dksX3_count_1 2 rfl rfl)
theorem dX3_count_28 : decode cX3_count 28 = .ok (.aload_n 0, 1) := dk_42 (dk_at dksX3_count_1 5 rfl rfl)
theorem dX3_count_29 : decode cX3_count 29 = .ok (.invokevirtual 531, 3) := dk_182 2 19 (dk_at dksX3_count_1 6 rfl rfl)
theorem dX3_count_32 : decode cX3_count 32 = .ok (.ireturn, 1) := dk_172 (dk_at dksX3_count_1 9 rfl rfl)
theorem dX3_count_33 : decode cX3_count 33 = .ok (.aload_n 0, 1) := dk_42 (dk_at dksX3_count_1 10 rfl rfl)
theorem dX3_count_34 : decode cX3_count 34 = .ok (.invokevirtual 374, 3) := dk_182 1 118 (dk_at dksX3_count_1 11 rfl rfl)
theorem dX3_count_37 : decode cX3_count 37 = .ok (.iload_n 1, 1) := dk_27 (dk_at dksX3_count_1 14 rfl rfl)
theorem dX3_count_38 : decode cX3_count 38 = .ok (.i2l, 1) := dk_133 (dk_at dksX3_count_1 15 rfl rfl)
theorem dX3_count_39 : decode cX3_count 39 = .ok (.lconst 1, 1) := dk_10 (dk_at dksX3_count_1 16 rfl rfl)
theorem dX3_count_40 : decode cX3_count 40 = .ok (.ldc2_w 416, 3) := dk_20 1 160 (dk_at dksX3_count_1 17 rfl rfl)
theorem dX3_count_43 : decode cX3_count 43 = .ok (.invokestatic 158, 3) := dk_184 0 158 (dk_at dksX3_count_1 20 rfl rfl)
theorem dX3_count_46 : decode cX3_count 46 = .ok (.ifCond .eq 9, 3) := dk_153 0 9 (dk_at dksX3_count_2 0 rfl rfl)
theorem dX3_count_49 : decode cX3_count 49 = .ok (.aload_n 0, 1) := dk_42 (dk_at dksX3_count_2 3 rfl rfl)
theorem dX3_count_50 : decode cX3_count 50 = .ok (.iload_n 1, 1) := dk_27 (dk_at dksX3_count_2 4 rfl rfl)
theorem dX3_count_51 : decode cX3_count 51 = .ok (.invokevirtual 450, 3) := dk_182 1 194 (dk_at dksX3_count_2 5 rfl rfl)
theorem dX3_count_54 : decode cX3_count 54 = .ok (.ireturn, 1) := dk_172 (dk_at dksX3_count_2 8 rfl rfl)
theorem dX3_count_55 : decode cX3_count 55 = .ok (.iload_n 1, 1) := dk_27 (dk_at dksX3_count_2 9 rfl rfl)
theorem dX3_count_56 : decode cX3_count 56 = .ok (.tableswitch 94 0 9 #[56, 94, 94, 94, 94, 63, 68, 73, 78, 83], 56) := by decide +kernel
theorem dX3_count_112 : decode cX3_count 112 = .ok (.aload_n 0, 1) := dk_42 (dk_at dksX3_count_4 0 rfl rfl)
theorem dX3_count_113 : decode cX3_count 113 = .ok (.getfield 7, 3) := dk_180 0 7 (dk_at dksX3_count_4 1 rfl rfl)
theorem dX3_count_116 : decode cX3_count 116 = .ok (.iconst 0, 1) := dk_3 (dk_at dksX3_count_4 4 rfl rfl)
theorem dX3_count_117 : decode cX3_count 117 = .ok (.iaload, 1) := dk_46 (dk_at dksX3_count_4 5 rfl rfl)
theorem dX3_count_118 : decode cX3_count 118 = .ok (.ireturn, 1) := dk_172 (dk_at dksX3_count_4 6 rfl rfl)
theorem dX3_count_119 : decode cX3_count 119 = .ok (.aload_n 0, 1) := dk_42 (dk_at dksX3_count_4 7 rfl rfl)
theorem dX3_count_120 : decode cX3_count 120 = .ok (.invokevirtual 447, 3) := dk_182 1 191 (dk_at dksX3_count_4 8 rfl rfl)
theorem dX3_count_123 : decode cX3_count 123 = .ok (.ireturn, 1) := dk_172 (dk_at dksX3_count_4 11 rfl rfl)
theorem dX3_count_124 : decode cX3_count 124 = .ok (.aload_n 0, 1) := dk_42 (dk_at dksX3_count_4 12 rfl rfl)
theorem dX3_count_125 : decode cX3_count 125 = .ok (.invokevirtual 534, 3) := dk_182 2 22 (dk_at dksX3_count_4 13 rfl rfl)
theorem dX3_count_128 : decode cX3_count 128 = .ok (.ireturn, 1) := dk_172 (dk_at dksX3_count_4 16 rfl rfl)
theorem dX3_count_129 : decode cX3_count 129 = .ok (.aload_n 0, 1) := dk_42 (dk_at dksX3_count_4 17 rfl rfl)
theorem dX3_count_130 : decode cX3_count 130 = .ok (.invokevirtual 456, 3) := dk_182 1 200 (dk_at dksX3_count_4 18 rfl rfl)
theorem dX3_count_133 : decode cX3_count 133 = .ok (.ireturn, 1) := dk_172 (dk_at dksX3_count_4 21 rfl rfl)
theorem dX3_count_134 : decode cX3_count 134 = .ok (.aload_n 0, 1) := dk_42 (dk_at dksX3_count_4 22 rfl rfl)
theorem dX3_count_135 : decode cX3_count 135 = .ok (.invokevirtual 453, 3) := dk_182 1 197 (dk_at dksX3_count_5 0 rfl rfl)
theorem dX3_count_138 : decode cX3_count 138 = .ok (.ireturn, 1) := dk_172 (dk_at dksX3_count_5 3 rfl rfl)
theorem dX3_count_139 : decode cX3_count 139 = .ok (.iconst 2, 1) := dk_5 (dk_at dksX3_count_5 4 rfl rfl)
theorem dX3_count_140 : decode cX3_count 140 = .ok (.aload_n 0, 1) := dk_42 (dk_at dksX3_count_5 5 rfl rfl)
theorem dX3_count_141 : decode cX3_count 141 = .ok (.getfield 7, 3) := dk_180 0 7 (dk_at dksX3_count_5 6 rfl rfl)
theorem dX3_count_144 : decode cX3_count 144 = .ok (.iconst 0, 1) := dk_3 (dk_at dksX3_count_5 9 rfl rfl)
theorem dX3_count_145 : decode cX3_count 145 = .ok (.iaload, 1) := dk_46 (dk_at dksX3_count_5 10 rfl rfl)
theorem dX3_count_146 : decode cX3_count 146 = .ok (.imul, 1) := dk_104 (dk_at dksX3_count_5 11 rfl rfl)
theorem dX3_count_147 : decode cX3_count 147 = .ok (.iconst 2, 1) := dk_5 (dk_at dksX3_count_5 12 rfl rfl)
theorem dX3_count_148 : decode cX3_count 148 = .ok (.iadd, 1) := dk_96 (dk_at dksX3_count_5 13 rfl rfl)
theorem dX3_count_149 : decode cX3_count 149 = .ok (.ireturn, 1) := dk_172 (dk_at dksX3_count_5 14 rfl rfl)
theorem dX3_count_150 : decode cX3_count 150 = .ok (.iconst (-1), 1) := dk_2 (dk_at dksX3_count_5 15 rfl rfl)
theorem dX3_count_151 : decode cX3_count 151 = .ok (.ireturn, 1) := dk_172 (dk_at dksX3_count_5 16 rfl rfl)
abbrev cX3_keptSet : ByteArray := prog_21_method_126_code
def yX3_keptSet : MethodName := ⟨RX3, "keptSet", "()I"⟩
def dkwX3_keptSet_1 : List UInt8 := [167, 0, 4, 3, 128, 60, 132, 2, 1, 167, 255, 229, 27, 172]
abbrev dktX3_keptSet_1 : List UInt8 := dkwX3_keptSet_1 ++ []
def dkwX3_keptSet_0 : List UInt8 := [3, 60, 3, 61, 28, 6, 162, 0, 28, 27, 42, 180, 0, 19, 28, 51, 153, 0, 9, 4, 28, 120]
abbrev dktX3_keptSet_0 : List UInt8 := dkwX3_keptSet_0 ++ dktX3_keptSet_1
theorem dksX3_keptSet_0 : cX3_keptSet.data.toList.drop 0 = dktX3_keptSet_0 := by decide +kernel
theorem dksX3_keptSet_1 : cX3_keptSet.data.toList.drop 22 = dktX3_keptSet_1 := dk_seg dksX3_keptSet_0 22 rfl rfl
theorem dX3_keptSet_0 : decode cX3_keptSet 0 = .ok (.iconst 0, 1) := dk_3 (dk_at dksX3_keptSet_0 0 rfl rfl)
theorem dX3_keptSet_1 : decode cX3_keptSet 1 = .ok (.istore_n 1, 1) := dk_60 (dk_at dksX3_keptSet_0 1 rfl rfl)
theorem dX3_keptSet_2 : decode cX3_keptSet 2 = .ok (.iconst 0, 1) := dk_3 (dk_at dksX3_keptSet_0 2 rfl rfl)
theorem dX3_keptSet_3 : decode cX3_keptSet 3 = .ok (.istore_n 2, 1) := dk_61 (dk_at dksX3_keptSet_0 3 rfl rfl)
theorem dX3_keptSet_4 : decode cX3_keptSet 4 = .ok (.iload_n 2, 1) := dk_28 (dk_at dksX3_keptSet_0 4 rfl rfl)
theorem dX3_keptSet_5 : decode cX3_keptSet 5 = .ok (.iconst 3, 1) := dk_6 (dk_at dksX3_keptSet_0 5 rfl rfl)
theorem dX3_keptSet_6 : decode cX3_keptSet 6 = .ok (.if_icmp .ge 28, 3) := dk_162 0 28 (dk_at dksX3_keptSet_0 6 rfl rfl)
theorem dX3_keptSet_9 : decode cX3_keptSet 9 = .ok (.iload_n 1, 1) := dk_27 (dk_at dksX3_keptSet_0 9 rfl rfl)
theorem dX3_keptSet_10 : decode cX3_keptSet 10 = .ok (.aload_n 0, 1) := dk_42 (dk_at dksX3_keptSet_0 10 rfl rfl)
theorem dX3_keptSet_11 : decode cX3_keptSet 11 = .ok (.getfield 19, 3) := dk_180 0 19 (dk_at dksX3_keptSet_0 11 rfl rfl)
theorem dX3_keptSet_14 : decode cX3_keptSet 14 = .ok (.iload_n 2, 1) := dk_28 (dk_at dksX3_keptSet_0 14 rfl rfl)
theorem dX3_keptSet_15 : decode cX3_keptSet 15 = .ok (.baload, 1) := dk_51 (dk_at dksX3_keptSet_0 15 rfl rfl)
theorem dX3_keptSet_16 : decode cX3_keptSet 16 = .ok (.ifCond .eq 9, 3) := dk_153 0 9 (dk_at dksX3_keptSet_0 16 rfl rfl)
theorem dX3_keptSet_19 : decode cX3_keptSet 19 = .ok (.iconst 1, 1) := dk_4 (dk_at dksX3_keptSet_0 19 rfl rfl)
theorem dX3_keptSet_20 : decode cX3_keptSet 20 = .ok (.iload_n 2, 1) := dk_28 (dk_at dksX3_keptSet_0 20 rfl rfl)
theorem dX3_keptSet_21 : decode cX3_keptSet 21 = .ok (.ishl, 1) := dk_120 (dk_at dksX3_keptSet_0 21 rfl rfl)
theorem dX3_keptSet_22 : decode cX3_keptSet 22 = .ok (.goto 4, 3) := dk_167 0 4 (dk_at dksX3_keptSet_1 0 rfl rfl)
theorem dX3_keptSet_25 : decode cX3_keptSet 25 = .ok (.iconst 0, 1) := dk_3 (dk_at dksX3_keptSet_1 3 rfl rfl)
theorem dX3_keptSet_26 : decode cX3_keptSet 26 = .ok (.ior, 1) := dk_128 (dk_at dksX3_keptSet_1 4 rfl rfl)
theorem dX3_keptSet_27 : decode cX3_keptSet 27 = .ok (.istore_n 1, 1) := dk_60 (dk_at dksX3_keptSet_1 5 rfl rfl)
theorem dX3_keptSet_28 : decode cX3_keptSet 28 = .ok (.iinc 2 1, 3) := dk_132 2 1 (dk_at dksX3_keptSet_1 6 rfl rfl)
theorem dX3_keptSet_31 : decode cX3_keptSet 31 = .ok (.goto (-27), 3) := dk_167 255 229 (dk_at dksX3_keptSet_1 9 rfl rfl)
theorem dX3_keptSet_34 : decode cX3_keptSet 34 = .ok (.iload_n 1, 1) := dk_27 (dk_at dksX3_keptSet_1 12 rfl rfl)
theorem dX3_keptSet_35 : decode cX3_keptSet 35 = .ok (.ireturn, 1) := dk_172 (dk_at dksX3_keptSet_1 13 rfl rfl)
abbrev cX3_allApart : ByteArray := prog_21_method_98_code
def yX3_allApart : MethodName := ⟨RX3, "allApart", "()I"⟩
def dkwX3_allApart_1 : List UInt8 := [132, 2, 1, 167, 255, 235, 27, 5, 108, 172]
abbrev dktX3_allApart_1 : List UInt8 := dkwX3_allApart_1 ++ []
def dkwX3_allApart_0 : List UInt8 := [3, 60, 3, 61, 28, 42, 180, 0, 64, 3, 46, 162, 0, 17, 27, 42, 28, 182, 1, 188, 96, 60]
abbrev dktX3_allApart_0 : List UInt8 := dkwX3_allApart_0 ++ dktX3_allApart_1
theorem dksX3_allApart_0 : cX3_allApart.data.toList.drop 0 = dktX3_allApart_0 := by decide +kernel
theorem dksX3_allApart_1 : cX3_allApart.data.toList.drop 22 = dktX3_allApart_1 := dk_seg dksX3_allApart_0 22 rfl rfl
theorem dX3_allApart_0 : decode cX3_allApart 0 = .ok (.iconst 0, 1) := dk_3 (dk_at dksX3_allApart_0 0 rfl rfl)
theorem dX3_allApart_1 : decode cX3_allApart 1 = .ok (.istore_n 1, 1) := dk_60 (dk_at dksX3_allApart_0 1 rfl rfl)
theorem dX3_allApart_2 : decode cX3_allApart 2 = .ok (.iconst 0, 1) := dk_3 (dk_at dksX3_allApart_0 2 rfl rfl)
theorem dX3_allApart_3 : decode cX3_allApart 3 = .ok (.istore_n 2, 1) := dk_61 (dk_at dksX3_allApart_0 3 rfl rfl)
theorem dX3_allApart_4 : decode cX3_allApart 4 = .ok (.iload_n 2, 1) := dk_28 (dk_at dksX3_allApart_0 4 rfl rfl)
theorem dX3_allApart_5 : decode cX3_allApart 5 = .ok (.aload_n 0, 1) := dk_42 (dk_at dksX3_allApart_0 5 rfl rfl)
theorem dX3_allApart_6 : decode cX3_allApart 6 = .ok (.getfield 64, 3) := dk_180 0 64 (dk_at dksX3_allApart_0 6 rfl rfl)
theorem dX3_allApart_9 : decode cX3_allApart 9 = .ok (.iconst 0, 1) := dk_3 (dk_at dksX3_allApart_0 9 rfl rfl)
theorem dX3_allApart_10 : decode cX3_allApart 10 = .ok (.iaload, 1) := dk_46 (dk_at dksX3_allApart_0 10 rfl rfl)
theorem dX3_allApart_11 : decode cX3_allApart 11 = .ok (.if_icmp .ge 17, 3) := dk_162 0 17 (dk_at dksX3_allApart_0 11 rfl rfl)
theorem dX3_allApart_14 : decode cX3_allApart 14 = .ok (.iload_n 1, 1) := dk_27 (dk_at dksX3_allApart_0 14 rfl rfl)
theorem dX3_allApart_15 : decode cX3_allApart 15 = .ok (.aload_n 0, 1) := dk_42 (dk_at dksX3_allApart_0 15 rfl rfl)
theorem dX3_allApart_16 : decode cX3_allApart 16 = .ok (.iload_n 2, 1) := dk_28 (dk_at dksX3_allApart_0 16 rfl rfl)
theorem dX3_allApart_17 : decode cX3_allApart 17 = .ok (.invokevirtual 444, 3) := dk_182 1 188 (dk_at dksX3_allApart_0 17 rfl rfl)
theorem dX3_allApart_20 : decode cX3_allApart 20 = .ok (.iadd, 1) := dk_96 (dk_at dksX3_allApart_0 20 rfl rfl)
theorem dX3_allApart_21 : decode cX3_allApart 21 = .ok (.istore_n 1, 1) := dk_60 (dk_at dksX3_allApart_0 21 rfl rfl)
theorem dX3_allApart_22 : decode cX3_allApart 22 = .ok (.iinc 2 1, 3) := dk_132 2 1 (dk_at dksX3_allApart_1 0 rfl rfl)
theorem dX3_allApart_25 : decode cX3_allApart 25 = .ok (.goto (-21), 3) := dk_167 255 235 (dk_at dksX3_allApart_1 3 rfl rfl)
theorem dX3_allApart_28 : decode cX3_allApart 28 = .ok (.iload_n 1, 1) := dk_27 (dk_at dksX3_allApart_1 6 rfl rfl)
theorem dX3_allApart_29 : decode cX3_allApart 29 = .ok (.iconst 2, 1) := dk_5 (dk_at dksX3_allApart_1 7 rfl rfl)
theorem dX3_allApart_30 : decode cX3_allApart 30 = .ok (.idiv, 1) := dk_108 (dk_at dksX3_allApart_1 8 rfl rfl)
theorem dX3_allApart_31 : decode cX3_allApart 31 = .ok (.ireturn, 1) := dk_172 (dk_at dksX3_allApart_1 9 rfl rfl)
theorem q136 : (Jvm.Cond.initialized "SkeletonsModel") ∈ lw_all := lw_g (lw_at lw_m1 8 rfl) rfl
theorem q710 : (Jvm.Cond.selects "SkeletonsModel" ({ cls := "java/lang/Object", name := "getClass", desc := "()Ljava/lang/Class;" } : Jvm.MethodName) ({ cls := "java/lang/Object", name := "getClass", desc := "()Ljava/lang/Class;" } : Jvm.MethodName)) ∈ lw_all := lw_g (lw_at lw_m3 102 rfl) rfl
theorem q2058 : (Jvm.Cond.instantiable "SkeletonsModel" (60 : Nat)) ∈ lw_all := lw_g (lw_at lw_m9 10 rfl) rfl
theorem q2060 : (Jvm.Cond.instanceMethod ({ cls := "SkeletonsModel", name := "<init>", desc := "()V" } : Jvm.MethodName)) ∈ lw_all := lw_g (lw_at lw_m9 12 rfl) rfl
theorem q2061 : (Jvm.Cond.code ({ cls := "SkeletonsModel", name := "<init>", desc := "()V" } : Jvm.MethodName) prog_21_method_1_code (1 : Nat) (Option.none : Option Jvm.ClassFile.FieldType)) ∈ lw_all := lw_g (lw_at lw_m9 13 rfl) rfl
theorem q2062 : (Jvm.Cond.methodLink "SkeletonsModel" (1 : Nat) ({ cls := "java/lang/Object", name := "<init>", desc := "()V" } : Jvm.MethodName)) ∈ lw_all := lw_g (lw_at lw_m9 14 rfl) rfl
theorem q2063 : (Jvm.Cond.fieldLink "SkeletonsModel" (7 : Nat) "SkeletonsModel" "now" "[I") ∈ lw_all := lw_g (lw_at lw_m9 15 rfl) rfl
theorem q2064 : (Jvm.Cond.fieldLink "SkeletonsModel" (13 : Nat) "SkeletonsModel" "was" "[I") ∈ lw_all := lw_g (lw_at lw_m9 16 rfl) rfl
theorem q2065 : (Jvm.Cond.fieldLink "SkeletonsModel" (152 : Nat) "SkeletonsModel" "undone" "I") ∈ lw_all := lw_g (lw_at lw_m9 17 rfl) rfl
theorem q2066 : (Jvm.Cond.fieldLink "SkeletonsModel" (16 : Nat) "SkeletonsModel" "kept" "[I") ∈ lw_all := lw_g (lw_at lw_m9 18 rfl) rfl
theorem q2067 : (Jvm.Cond.fieldLink "SkeletonsModel" (19 : Nat) "SkeletonsModel" "isKept" "[Z") ∈ lw_all := lw_g (lw_at lw_m9 19 rfl) rfl
theorem q2068 : (Jvm.Cond.fieldLink "SkeletonsModel" (23 : Nat) "SkeletonsModel" "tape" "[B") ∈ lw_all := lw_g (lw_at lw_m9 20 rfl) rfl
theorem q2069 : (Jvm.Cond.fieldLink "SkeletonsModel" (191 : Nat) "SkeletonsModel" "taped" "I") ∈ lw_all := lw_g (lw_at lw_m9 21 rfl) rfl
theorem q2070 : (Jvm.Cond.fieldLink "SkeletonsModel" (194 : Nat) "SkeletonsModel" "at" "I") ∈ lw_all := lw_g (lw_at lw_m9 22 rfl) rfl
theorem q2071 : (Jvm.Cond.fieldLink "SkeletonsModel" (204 : Nat) "SkeletonsModel" "wrong" "I") ∈ lw_all := lw_g (lw_at lw_m9 23 rfl) rfl
theorem q2072 : (Jvm.Cond.fieldLink "SkeletonsModel" (27 : Nat) "SkeletonsModel" "read" "[I") ∈ lw_all := lw_g (lw_at lw_m9 24 rfl) rfl
theorem q2073 : (Jvm.Cond.fieldLink "SkeletonsModel" (30 : Nat) "SkeletonsModel" "openAt" "[I") ∈ lw_all := lw_g (lw_at lw_m9 25 rfl) rfl
theorem q2074 : (Jvm.Cond.fieldLink "SkeletonsModel" (33 : Nat) "SkeletonsModel" "openLong" "[I") ∈ lw_all := lw_g (lw_at lw_m9 26 rfl) rfl
theorem q2075 : (Jvm.Cond.fieldLink "SkeletonsModel" (36 : Nat) "SkeletonsModel" "openPlace" "[I") ∈ lw_all := lw_g (lw_at lw_m9 27 rfl) rfl
theorem q2076 : (Jvm.Cond.fieldLink "SkeletonsModel" (226 : Nat) "SkeletonsModel" "open" "I") ∈ lw_all := lw_g (lw_at lw_m9 28 rfl) rfl
theorem q2077 : (Jvm.Cond.fieldLink "SkeletonsModel" (261 : Nat) "SkeletonsModel" "shapes" "I") ∈ lw_all := lw_g (lw_at lw_m9 29 rfl) rfl
theorem q2078 : (Jvm.Cond.fieldLink "SkeletonsModel" (39 : Nat) "SkeletonsModel" "shapeSize" "[I") ∈ lw_all := lw_g (lw_at lw_m9 30 rfl) rfl
theorem q2079 : (Jvm.Cond.fieldLink "SkeletonsModel" (42 : Nat) "SkeletonsModel" "kid" "[I") ∈ lw_all := lw_g (lw_at lw_m9 31 rfl) rfl
theorem q2080 : (Jvm.Cond.fieldLink "SkeletonsModel" (45 : Nat) "SkeletonsModel" "kids" "[I") ∈ lw_all := lw_g (lw_at lw_m9 32 rfl) rfl
theorem q2081 : (Jvm.Cond.fieldLink "SkeletonsModel" (48 : Nat) "SkeletonsModel" "tall" "[I") ∈ lw_all := lw_g (lw_at lw_m9 33 rfl) rfl
theorem q2082 : (Jvm.Cond.fieldLink "SkeletonsModel" (51 : Nat) "SkeletonsModel" "formsOf" "[J") ∈ lw_all := lw_g (lw_at lw_m9 34 rfl) rfl
theorem q2083 : (Jvm.Cond.fieldLink "SkeletonsModel" (55 : Nat) "SkeletonsModel" "ownOf" "[J") ∈ lw_all := lw_g (lw_at lw_m9 35 rfl) rfl
theorem q2084 : (Jvm.Cond.fieldLink "SkeletonsModel" (58 : Nat) "SkeletonsModel" "symmetryOf" "[J") ∈ lw_all := lw_g (lw_at lw_m9 36 rfl) rfl
theorem q2085 : (Jvm.Cond.fieldLink "SkeletonsModel" (61 : Nat) "SkeletonsModel" "marksOf" "[I") ∈ lw_all := lw_g (lw_at lw_m9 37 rfl) rfl
theorem q2086 : (Jvm.Cond.fieldLink "SkeletonsModel" (64 : Nat) "SkeletonsModel" "seen" "[I") ∈ lw_all := lw_g (lw_at lw_m9 38 rfl) rfl
theorem q2087 : (Jvm.Cond.fieldLink "SkeletonsModel" (67 : Nat) "SkeletonsModel" "shapeAt" "[I") ∈ lw_all := lw_g (lw_at lw_m9 39 rfl) rfl
theorem q2088 : (Jvm.Cond.fieldLink "SkeletonsModel" (70 : Nat) "SkeletonsModel" "behindAt" "[I") ∈ lw_all := lw_g (lw_at lw_m9 40 rfl) rfl
theorem q2089 : (Jvm.Cond.fieldLink "SkeletonsModel" (73 : Nat) "SkeletonsModel" "found" "[I") ∈ lw_all := lw_g (lw_at lw_m9 41 rfl) rfl
theorem q2090 : (Jvm.Cond.fieldLink "SkeletonsModel" (255 : Nat) "SkeletonsModel" "foundMany" "I") ∈ lw_all := lw_g (lw_at lw_m9 42 rfl) rfl
theorem q2091 : (Jvm.Cond.fieldLink "SkeletonsModel" (76 : Nat) "SkeletonsModel" "product" "[I") ∈ lw_all := lw_g (lw_at lw_m9 43 rfl) rfl
theorem q2092 : (Jvm.Cond.fieldLink "SkeletonsModel" (79 : Nat) "SkeletonsModel" "factor" "[I") ∈ lw_all := lw_g (lw_at lw_m9 44 rfl) rfl
theorem q2093 : (Jvm.Cond.fieldLink "SkeletonsModel" (82 : Nat) "SkeletonsModel" "aside" "[I") ∈ lw_all := lw_g (lw_at lw_m9 45 rfl) rfl
theorem q2094 : (Jvm.Cond.fieldLink "SkeletonsModel" (85 : Nat) "SkeletonsModel" "far" "[I") ∈ lw_all := lw_g (lw_at lw_m9 46 rfl) rfl
theorem q2095 : (Jvm.Cond.fieldLink "SkeletonsModel" (88 : Nat) "SkeletonsModel" "depths" "[I") ∈ lw_all := lw_g (lw_at lw_m9 47 rfl) rfl
theorem q2096 : (Jvm.Cond.fieldLink "SkeletonsModel" (91 : Nat) "SkeletonsModel" "waitShape" "[I") ∈ lw_all := lw_g (lw_at lw_m9 48 rfl) rfl
theorem q2097 : (Jvm.Cond.fieldLink "SkeletonsModel" (94 : Nat) "SkeletonsModel" "waitDepth" "[I") ∈ lw_all := lw_g (lw_at lw_m9 49 rfl) rfl
theorem q2098 : (Jvm.Cond.fieldLink "SkeletonsModel" (97 : Nat) "SkeletonsModel" "listMany" "[I") ∈ lw_all := lw_g (lw_at lw_m9 50 rfl) rfl
theorem q2099 : (Jvm.Cond.fieldLink "SkeletonsModel" (100 : Nat) "SkeletonsModel" "listFrom" "[I") ∈ lw_all := lw_g (lw_at lw_m9 51 rfl) rfl
theorem q2100 : (Jvm.Cond.fieldLink "SkeletonsModel" (103 : Nat) "SkeletonsModel" "list" "[I") ∈ lw_all := lw_g (lw_at lw_m9 52 rfl) rfl
theorem q2101 : (Jvm.Cond.fieldLink "SkeletonsModel" (359 : Nat) "SkeletonsModel" "isListed" "Z") ∈ lw_all := lw_g (lw_at lw_m9 53 rfl) rfl
theorem q2102 : (Jvm.Cond.fieldLink "SkeletonsModel" (106 : Nat) "SkeletonsModel" "made" "[I") ∈ lw_all := lw_g (lw_at lw_m9 54 rfl) rfl
theorem q2103 : (Jvm.Cond.fieldLink "SkeletonsModel" (109 : Nat) "SkeletonsModel" "codeNow" "[I") ∈ lw_all := lw_g (lw_at lw_m9 55 rfl) rfl
theorem q2104 : (Jvm.Cond.fieldLink "SkeletonsModel" (112 : Nat) "SkeletonsModel" "radicals" "[J") ∈ lw_all := lw_g (lw_at lw_m9 56 rfl) rfl
theorem q2105 : (Jvm.Cond.fieldLink "SkeletonsModel" (115 : Nat) "SkeletonsModel" "formed" "[J") ∈ lw_all := lw_g (lw_at lw_m9 57 rfl) rfl
theorem q2106 : (Jvm.Cond.fieldLink "SkeletonsModel" (118 : Nat) "SkeletonsModel" "owned" "[J") ∈ lw_all := lw_g (lw_at lw_m9 58 rfl) rfl
theorem q2107 : (Jvm.Cond.fieldLink "SkeletonsModel" (377 : Nat) "SkeletonsModel" "isCounted" "Z") ∈ lw_all := lw_g (lw_at lw_m9 59 rfl) rfl
theorem q2108 : (Jvm.Cond.fieldLink "SkeletonsModel" (121 : Nat) "SkeletonsModel" "some" "[J") ∈ lw_all := lw_g (lw_at lw_m9 60 rfl) rfl
theorem q2109 : (Jvm.Cond.fieldLink "SkeletonsModel" (124 : Nat) "SkeletonsModel" "others" "[J") ∈ lw_all := lw_g (lw_at lw_m9 61 rfl) rfl
theorem q2110 : (Jvm.Cond.fieldLink "SkeletonsModel" (127 : Nat) "SkeletonsModel" "four" "[I") ∈ lw_all := lw_g (lw_at lw_m9 62 rfl) rfl
theorem q2111 : (Jvm.Cond.fieldLink "SkeletonsModel" (464 : Nat) "SkeletonsModel" "rowsAll" "J") ∈ lw_all := lw_g (lw_at lw_m9 63 rfl) rfl
theorem q2112 : (Jvm.Cond.fieldLink "SkeletonsModel" (468 : Nat) "SkeletonsModel" "rowsTwos" "J") ∈ lw_all := lw_g (lw_at lw_m9 64 rfl) rfl
theorem q2113 : (Jvm.Cond.fieldLink "SkeletonsModel" (471 : Nat) "SkeletonsModel" "rowsThree" "J") ∈ lw_all := lw_g (lw_at lw_m9 65 rfl) rfl
theorem q2114 : (Jvm.Cond.fieldLink "SkeletonsModel" (474 : Nat) "SkeletonsModel" "rowsMirrored" "J") ∈ lw_all := lw_g (lw_at lw_m9 66 rfl) rfl
theorem q2115 : (Jvm.Cond.fieldLink "SkeletonsModel" (130 : Nat) "SkeletonsModel" "texts" "[B") ∈ lw_all := lw_g (lw_at lw_m9 67 rfl) rfl
theorem q2116 : (Jvm.Cond.fieldLink "SkeletonsModel" (133 : Nat) "SkeletonsModel" "textLong" "[I") ∈ lw_all := lw_g (lw_at lw_m9 68 rfl) rfl
theorem q2117 : (Jvm.Cond.fieldLink "SkeletonsModel" (136 : Nat) "SkeletonsModel" "line" "[B") ∈ lw_all := lw_g (lw_at lw_m9 69 rfl) rfl
theorem q2118 : (Jvm.Cond.fieldLink "SkeletonsModel" (494 : Nat) "SkeletonsModel" "lineLong" "I") ∈ lw_all := lw_g (lw_at lw_m9 70 rfl) rfl
theorem q2119 : (Jvm.Cond.fieldLink "SkeletonsModel" (139 : Nat) "SkeletonsModel" "least" "[B") ∈ lw_all := lw_g (lw_at lw_m9 71 rfl) rfl
theorem q2120 : (Jvm.Cond.fieldLink "SkeletonsModel" (500 : Nat) "SkeletonsModel" "leastLong" "I") ∈ lw_all := lw_g (lw_at lw_m9 72 rfl) rfl
theorem q2121 : (Jvm.Cond.fieldLink "SkeletonsModel" (142 : Nat) "SkeletonsModel" "path" "[I") ∈ lw_all := lw_g (lw_at lw_m9 73 rfl) rfl
theorem q2122 : (Jvm.Cond.fieldLink "SkeletonsModel" (145 : Nat) "SkeletonsModel" "hung" "[I") ∈ lw_all := lw_g (lw_at lw_m9 74 rfl) rfl
theorem q2123 : (Jvm.Cond.laysFinal "SkeletonsModel" "SkeletonsModel" "now" "[I") ∈ lw_all := lw_g (lw_at lw_m9 75 rfl) rfl
theorem q2124 : (Jvm.Cond.soleField "SkeletonsModel" "now") ∈ lw_all := lw_g (lw_at lw_m9 76 rfl) rfl
theorem q2125 : (Jvm.Cond.laysFinal "SkeletonsModel" "SkeletonsModel" "was" "[I") ∈ lw_all := lw_g (lw_at lw_m9 77 rfl) rfl
theorem q2126 : (Jvm.Cond.soleField "SkeletonsModel" "was") ∈ lw_all := lw_g (lw_at lw_m9 78 rfl) rfl
theorem q2127 : (Jvm.Cond.lays "SkeletonsModel" "SkeletonsModel" "undone" "I") ∈ lw_all := lw_g (lw_at lw_m9 79 rfl) rfl
theorem q2128 : (Jvm.Cond.soleField "SkeletonsModel" "undone") ∈ lw_all := lw_g (lw_at lw_m9 80 rfl) rfl
theorem q2129 : (Jvm.Cond.laysFinal "SkeletonsModel" "SkeletonsModel" "kept" "[I") ∈ lw_all := lw_g (lw_at lw_m9 81 rfl) rfl
theorem q2130 : (Jvm.Cond.soleField "SkeletonsModel" "kept") ∈ lw_all := lw_g (lw_at lw_m9 82 rfl) rfl
theorem q2131 : (Jvm.Cond.laysFinal "SkeletonsModel" "SkeletonsModel" "isKept" "[Z") ∈ lw_all := lw_g (lw_at lw_m9 83 rfl) rfl
theorem q2132 : (Jvm.Cond.soleField "SkeletonsModel" "isKept") ∈ lw_all := lw_g (lw_at lw_m9 84 rfl) rfl
theorem q2133 : (Jvm.Cond.laysFinal "SkeletonsModel" "SkeletonsModel" "tape" "[B") ∈ lw_all := lw_g (lw_at lw_m9 85 rfl) rfl
theorem q2134 : (Jvm.Cond.soleField "SkeletonsModel" "tape") ∈ lw_all := lw_g (lw_at lw_m9 86 rfl) rfl
theorem q2135 : (Jvm.Cond.lays "SkeletonsModel" "SkeletonsModel" "taped" "I") ∈ lw_all := lw_g (lw_at lw_m9 87 rfl) rfl
theorem q2136 : (Jvm.Cond.soleField "SkeletonsModel" "taped") ∈ lw_all := lw_g (lw_at lw_m9 88 rfl) rfl
theorem q2137 : (Jvm.Cond.lays "SkeletonsModel" "SkeletonsModel" "at" "I") ∈ lw_all := lw_g (lw_at lw_m9 89 rfl) rfl
theorem q2138 : (Jvm.Cond.soleField "SkeletonsModel" "at") ∈ lw_all := lw_g (lw_at lw_m9 90 rfl) rfl
theorem q2139 : (Jvm.Cond.lays "SkeletonsModel" "SkeletonsModel" "wrong" "I") ∈ lw_all := lw_g (lw_at lw_m9 91 rfl) rfl
theorem q2140 : (Jvm.Cond.soleField "SkeletonsModel" "wrong") ∈ lw_all := lw_g (lw_at lw_m9 92 rfl) rfl
theorem q2141 : (Jvm.Cond.laysFinal "SkeletonsModel" "SkeletonsModel" "read" "[I") ∈ lw_all := lw_g (lw_at lw_m9 93 rfl) rfl
theorem q2142 : (Jvm.Cond.soleField "SkeletonsModel" "read") ∈ lw_all := lw_g (lw_at lw_m9 94 rfl) rfl
theorem q2143 : (Jvm.Cond.laysFinal "SkeletonsModel" "SkeletonsModel" "openAt" "[I") ∈ lw_all := lw_g (lw_at lw_m9 95 rfl) rfl
theorem q2144 : (Jvm.Cond.soleField "SkeletonsModel" "openAt") ∈ lw_all := lw_g (lw_at lw_m9 96 rfl) rfl
theorem q2145 : (Jvm.Cond.laysFinal "SkeletonsModel" "SkeletonsModel" "openLong" "[I") ∈ lw_all := lw_g (lw_at lw_m9 97 rfl) rfl
theorem q2146 : (Jvm.Cond.soleField "SkeletonsModel" "openLong") ∈ lw_all := lw_g (lw_at lw_m9 98 rfl) rfl
theorem q2147 : (Jvm.Cond.laysFinal "SkeletonsModel" "SkeletonsModel" "openPlace" "[I") ∈ lw_all := lw_g (lw_at lw_m9 99 rfl) rfl
theorem q2148 : (Jvm.Cond.soleField "SkeletonsModel" "openPlace") ∈ lw_all := lw_g (lw_at lw_m9 100 rfl) rfl
theorem q2149 : (Jvm.Cond.lays "SkeletonsModel" "SkeletonsModel" "open" "I") ∈ lw_all := lw_g (lw_at lw_m9 101 rfl) rfl
theorem q2150 : (Jvm.Cond.soleField "SkeletonsModel" "open") ∈ lw_all := lw_g (lw_at lw_m9 102 rfl) rfl
theorem q2151 : (Jvm.Cond.lays "SkeletonsModel" "SkeletonsModel" "shapes" "I") ∈ lw_all := lw_g (lw_at lw_m9 103 rfl) rfl
theorem q2152 : (Jvm.Cond.soleField "SkeletonsModel" "shapes") ∈ lw_all := lw_g (lw_at lw_m9 104 rfl) rfl
theorem q2153 : (Jvm.Cond.laysFinal "SkeletonsModel" "SkeletonsModel" "shapeSize" "[I") ∈ lw_all := lw_g (lw_at lw_m9 105 rfl) rfl
theorem q2154 : (Jvm.Cond.soleField "SkeletonsModel" "shapeSize") ∈ lw_all := lw_g (lw_at lw_m9 106 rfl) rfl
theorem q2155 : (Jvm.Cond.laysFinal "SkeletonsModel" "SkeletonsModel" "kid" "[I") ∈ lw_all := lw_g (lw_at lw_m9 107 rfl) rfl
theorem q2156 : (Jvm.Cond.soleField "SkeletonsModel" "kid") ∈ lw_all := lw_g (lw_at lw_m9 108 rfl) rfl
theorem q2157 : (Jvm.Cond.laysFinal "SkeletonsModel" "SkeletonsModel" "kids" "[I") ∈ lw_all := lw_g (lw_at lw_m9 109 rfl) rfl
theorem q2158 : (Jvm.Cond.soleField "SkeletonsModel" "kids") ∈ lw_all := lw_g (lw_at lw_m9 110 rfl) rfl
theorem q2159 : (Jvm.Cond.laysFinal "SkeletonsModel" "SkeletonsModel" "tall" "[I") ∈ lw_all := lw_g (lw_at lw_m9 111 rfl) rfl
theorem q2160 : (Jvm.Cond.soleField "SkeletonsModel" "tall") ∈ lw_all := lw_g (lw_at lw_m9 112 rfl) rfl
theorem q2161 : (Jvm.Cond.laysFinal "SkeletonsModel" "SkeletonsModel" "formsOf" "[J") ∈ lw_all := lw_g (lw_at lw_m9 113 rfl) rfl
theorem q2162 : (Jvm.Cond.soleField "SkeletonsModel" "formsOf") ∈ lw_all := lw_g (lw_at lw_m9 114 rfl) rfl
theorem q2163 : (Jvm.Cond.laysFinal "SkeletonsModel" "SkeletonsModel" "ownOf" "[J") ∈ lw_all := lw_g (lw_at lw_m9 115 rfl) rfl
theorem q2164 : (Jvm.Cond.soleField "SkeletonsModel" "ownOf") ∈ lw_all := lw_g (lw_at lw_m9 116 rfl) rfl
theorem q2165 : (Jvm.Cond.laysFinal "SkeletonsModel" "SkeletonsModel" "symmetryOf" "[J") ∈ lw_all := lw_g (lw_at lw_m9 117 rfl) rfl
theorem q2166 : (Jvm.Cond.soleField "SkeletonsModel" "symmetryOf") ∈ lw_all := lw_g (lw_at lw_m9 118 rfl) rfl
theorem q2167 : (Jvm.Cond.laysFinal "SkeletonsModel" "SkeletonsModel" "marksOf" "[I") ∈ lw_all := lw_g (lw_at lw_m9 119 rfl) rfl
theorem q2168 : (Jvm.Cond.soleField "SkeletonsModel" "marksOf") ∈ lw_all := lw_g (lw_at lw_m9 120 rfl) rfl
theorem q2169 : (Jvm.Cond.laysFinal "SkeletonsModel" "SkeletonsModel" "seen" "[I") ∈ lw_all := lw_g (lw_at lw_m9 121 rfl) rfl
theorem q2170 : (Jvm.Cond.soleField "SkeletonsModel" "seen") ∈ lw_all := lw_g (lw_at lw_m9 122 rfl) rfl
theorem q2171 : (Jvm.Cond.laysFinal "SkeletonsModel" "SkeletonsModel" "shapeAt" "[I") ∈ lw_all := lw_g (lw_at lw_m9 123 rfl) rfl
theorem q2172 : (Jvm.Cond.soleField "SkeletonsModel" "shapeAt") ∈ lw_all := lw_g (lw_at lw_m9 124 rfl) rfl
theorem q2173 : (Jvm.Cond.laysFinal "SkeletonsModel" "SkeletonsModel" "behindAt" "[I") ∈ lw_all := lw_g (lw_at lw_m9 125 rfl) rfl
theorem q2174 : (Jvm.Cond.soleField "SkeletonsModel" "behindAt") ∈ lw_all := lw_g (lw_at lw_m9 126 rfl) rfl
theorem q2175 : (Jvm.Cond.laysFinal "SkeletonsModel" "SkeletonsModel" "found" "[I") ∈ lw_all := lw_g (lw_at lw_m9 127 rfl) rfl
theorem q2176 : (Jvm.Cond.soleField "SkeletonsModel" "found") ∈ lw_all := lw_g (lw_at lw_m9 128 rfl) rfl
theorem q2177 : (Jvm.Cond.lays "SkeletonsModel" "SkeletonsModel" "foundMany" "I") ∈ lw_all := lw_g (lw_at lw_m9 129 rfl) rfl
theorem q2178 : (Jvm.Cond.soleField "SkeletonsModel" "foundMany") ∈ lw_all := lw_g (lw_at lw_m9 130 rfl) rfl
theorem q2179 : (Jvm.Cond.laysFinal "SkeletonsModel" "SkeletonsModel" "product" "[I") ∈ lw_all := lw_g (lw_at lw_m9 131 rfl) rfl
theorem q2180 : (Jvm.Cond.soleField "SkeletonsModel" "product") ∈ lw_all := lw_g (lw_at lw_m9 132 rfl) rfl
theorem q2181 : (Jvm.Cond.laysFinal "SkeletonsModel" "SkeletonsModel" "factor" "[I") ∈ lw_all := lw_g (lw_at lw_m9 133 rfl) rfl
theorem q2182 : (Jvm.Cond.soleField "SkeletonsModel" "factor") ∈ lw_all := lw_g (lw_at lw_m9 134 rfl) rfl
theorem q2183 : (Jvm.Cond.laysFinal "SkeletonsModel" "SkeletonsModel" "aside" "[I") ∈ lw_all := lw_g (lw_at lw_m9 135 rfl) rfl
theorem q2184 : (Jvm.Cond.soleField "SkeletonsModel" "aside") ∈ lw_all := lw_g (lw_at lw_m9 136 rfl) rfl
theorem q2185 : (Jvm.Cond.laysFinal "SkeletonsModel" "SkeletonsModel" "far" "[I") ∈ lw_all := lw_g (lw_at lw_m9 137 rfl) rfl
theorem q2186 : (Jvm.Cond.soleField "SkeletonsModel" "far") ∈ lw_all := lw_g (lw_at lw_m9 138 rfl) rfl
theorem q2187 : (Jvm.Cond.laysFinal "SkeletonsModel" "SkeletonsModel" "depths" "[I") ∈ lw_all := lw_g (lw_at lw_m9 139 rfl) rfl
theorem q2188 : (Jvm.Cond.soleField "SkeletonsModel" "depths") ∈ lw_all := lw_g (lw_at lw_m9 140 rfl) rfl
theorem q2189 : (Jvm.Cond.laysFinal "SkeletonsModel" "SkeletonsModel" "waitShape" "[I") ∈ lw_all := lw_g (lw_at lw_m9 141 rfl) rfl
theorem q2190 : (Jvm.Cond.soleField "SkeletonsModel" "waitShape") ∈ lw_all := lw_g (lw_at lw_m9 142 rfl) rfl
theorem q2191 : (Jvm.Cond.laysFinal "SkeletonsModel" "SkeletonsModel" "waitDepth" "[I") ∈ lw_all := lw_g (lw_at lw_m9 143 rfl) rfl
theorem q2192 : (Jvm.Cond.soleField "SkeletonsModel" "waitDepth") ∈ lw_all := lw_g (lw_at lw_m9 144 rfl) rfl
theorem q2193 : (Jvm.Cond.laysFinal "SkeletonsModel" "SkeletonsModel" "listMany" "[I") ∈ lw_all := lw_g (lw_at lw_m9 145 rfl) rfl
theorem q2194 : (Jvm.Cond.soleField "SkeletonsModel" "listMany") ∈ lw_all := lw_g (lw_at lw_m9 146 rfl) rfl
theorem q2195 : (Jvm.Cond.laysFinal "SkeletonsModel" "SkeletonsModel" "listFrom" "[I") ∈ lw_all := lw_g (lw_at lw_m9 147 rfl) rfl
theorem q2196 : (Jvm.Cond.soleField "SkeletonsModel" "listFrom") ∈ lw_all := lw_g (lw_at lw_m9 148 rfl) rfl
theorem q2197 : (Jvm.Cond.laysFinal "SkeletonsModel" "SkeletonsModel" "list" "[I") ∈ lw_all := lw_g (lw_at lw_m9 149 rfl) rfl
theorem q2198 : (Jvm.Cond.soleField "SkeletonsModel" "list") ∈ lw_all := lw_g (lw_at lw_m9 150 rfl) rfl
theorem q2199 : (Jvm.Cond.lays "SkeletonsModel" "SkeletonsModel" "isListed" "Z") ∈ lw_all := lw_g (lw_at lw_m9 151 rfl) rfl
theorem q2200 : (Jvm.Cond.soleField "SkeletonsModel" "isListed") ∈ lw_all := lw_g (lw_at lw_m9 152 rfl) rfl
theorem q2201 : (Jvm.Cond.laysFinal "SkeletonsModel" "SkeletonsModel" "made" "[I") ∈ lw_all := lw_g (lw_at lw_m9 153 rfl) rfl
theorem q2202 : (Jvm.Cond.soleField "SkeletonsModel" "made") ∈ lw_all := lw_g (lw_at lw_m9 154 rfl) rfl
theorem q2203 : (Jvm.Cond.laysFinal "SkeletonsModel" "SkeletonsModel" "codeNow" "[I") ∈ lw_all := lw_g (lw_at lw_m9 155 rfl) rfl
theorem q2204 : (Jvm.Cond.soleField "SkeletonsModel" "codeNow") ∈ lw_all := lw_g (lw_at lw_m9 156 rfl) rfl
theorem q2205 : (Jvm.Cond.laysFinal "SkeletonsModel" "SkeletonsModel" "radicals" "[J") ∈ lw_all := lw_g (lw_at lw_m9 157 rfl) rfl
theorem q2206 : (Jvm.Cond.soleField "SkeletonsModel" "radicals") ∈ lw_all := lw_g (lw_at lw_m9 158 rfl) rfl
theorem q2207 : (Jvm.Cond.laysFinal "SkeletonsModel" "SkeletonsModel" "formed" "[J") ∈ lw_all := lw_g (lw_at lw_m9 159 rfl) rfl
theorem q2208 : (Jvm.Cond.soleField "SkeletonsModel" "formed") ∈ lw_all := lw_g (lw_at lw_m9 160 rfl) rfl
theorem q2209 : (Jvm.Cond.laysFinal "SkeletonsModel" "SkeletonsModel" "owned" "[J") ∈ lw_all := lw_g (lw_at lw_m9 161 rfl) rfl
theorem q2210 : (Jvm.Cond.soleField "SkeletonsModel" "owned") ∈ lw_all := lw_g (lw_at lw_m9 162 rfl) rfl
theorem q2211 : (Jvm.Cond.lays "SkeletonsModel" "SkeletonsModel" "isCounted" "Z") ∈ lw_all := lw_g (lw_at lw_m9 163 rfl) rfl
theorem q2212 : (Jvm.Cond.soleField "SkeletonsModel" "isCounted") ∈ lw_all := lw_g (lw_at lw_m9 164 rfl) rfl
theorem q2213 : (Jvm.Cond.laysFinal "SkeletonsModel" "SkeletonsModel" "some" "[J") ∈ lw_all := lw_g (lw_at lw_m9 165 rfl) rfl
theorem q2214 : (Jvm.Cond.soleField "SkeletonsModel" "some") ∈ lw_all := lw_g (lw_at lw_m9 166 rfl) rfl
theorem q2215 : (Jvm.Cond.laysFinal "SkeletonsModel" "SkeletonsModel" "others" "[J") ∈ lw_all := lw_g (lw_at lw_m9 167 rfl) rfl
theorem q2216 : (Jvm.Cond.soleField "SkeletonsModel" "others") ∈ lw_all := lw_g (lw_at lw_m9 168 rfl) rfl
theorem q2217 : (Jvm.Cond.laysFinal "SkeletonsModel" "SkeletonsModel" "four" "[I") ∈ lw_all := lw_g (lw_at lw_m9 169 rfl) rfl
theorem q2218 : (Jvm.Cond.soleField "SkeletonsModel" "four") ∈ lw_all := lw_g (lw_at lw_m9 170 rfl) rfl
theorem q2219 : (Jvm.Cond.lays "SkeletonsModel" "SkeletonsModel" "rowsAll" "J") ∈ lw_all := lw_g (lw_at lw_m9 171 rfl) rfl
theorem q2220 : (Jvm.Cond.soleField "SkeletonsModel" "rowsAll") ∈ lw_all := lw_g (lw_at lw_m9 172 rfl) rfl
theorem q2221 : (Jvm.Cond.lays "SkeletonsModel" "SkeletonsModel" "rowsTwos" "J") ∈ lw_all := lw_g (lw_at lw_m9 173 rfl) rfl
theorem q2222 : (Jvm.Cond.soleField "SkeletonsModel" "rowsTwos") ∈ lw_all := lw_g (lw_at lw_m9 174 rfl) rfl
theorem q2223 : (Jvm.Cond.lays "SkeletonsModel" "SkeletonsModel" "rowsThree" "J") ∈ lw_all := lw_g (lw_at lw_m9 175 rfl) rfl
theorem q2224 : (Jvm.Cond.soleField "SkeletonsModel" "rowsThree") ∈ lw_all := lw_g (lw_at lw_m9 176 rfl) rfl
theorem q2225 : (Jvm.Cond.lays "SkeletonsModel" "SkeletonsModel" "rowsMirrored" "J") ∈ lw_all := lw_g (lw_at lw_m9 177 rfl) rfl
theorem q2226 : (Jvm.Cond.soleField "SkeletonsModel" "rowsMirrored") ∈ lw_all := lw_g (lw_at lw_m9 178 rfl) rfl
theorem q2227 : (Jvm.Cond.laysFinal "SkeletonsModel" "SkeletonsModel" "texts" "[B") ∈ lw_all := lw_g (lw_at lw_m9 179 rfl) rfl
theorem q2228 : (Jvm.Cond.soleField "SkeletonsModel" "texts") ∈ lw_all := lw_g (lw_at lw_m9 180 rfl) rfl
theorem q2229 : (Jvm.Cond.laysFinal "SkeletonsModel" "SkeletonsModel" "textLong" "[I") ∈ lw_all := lw_g (lw_at lw_m9 181 rfl) rfl
theorem q2230 : (Jvm.Cond.soleField "SkeletonsModel" "textLong") ∈ lw_all := lw_g (lw_at lw_m9 182 rfl) rfl
theorem q2231 : (Jvm.Cond.laysFinal "SkeletonsModel" "SkeletonsModel" "line" "[B") ∈ lw_all := lw_g (lw_at lw_m9 183 rfl) rfl
theorem q2232 : (Jvm.Cond.soleField "SkeletonsModel" "line") ∈ lw_all := lw_g (lw_at lw_m9 184 rfl) rfl
theorem q2233 : (Jvm.Cond.lays "SkeletonsModel" "SkeletonsModel" "lineLong" "I") ∈ lw_all := lw_g (lw_at lw_m9 185 rfl) rfl
theorem q2234 : (Jvm.Cond.soleField "SkeletonsModel" "lineLong") ∈ lw_all := lw_g (lw_at lw_m9 186 rfl) rfl
theorem q2235 : (Jvm.Cond.laysFinal "SkeletonsModel" "SkeletonsModel" "least" "[B") ∈ lw_all := lw_g (lw_at lw_m9 187 rfl) rfl
theorem q2236 : (Jvm.Cond.soleField "SkeletonsModel" "least") ∈ lw_all := lw_g (lw_at lw_m9 188 rfl) rfl
theorem q2237 : (Jvm.Cond.lays "SkeletonsModel" "SkeletonsModel" "leastLong" "I") ∈ lw_all := lw_g (lw_at lw_m9 189 rfl) rfl
theorem q2238 : (Jvm.Cond.soleField "SkeletonsModel" "leastLong") ∈ lw_all := lw_g (lw_at lw_m9 190 rfl) rfl
theorem q2239 : (Jvm.Cond.laysFinal "SkeletonsModel" "SkeletonsModel" "path" "[I") ∈ lw_all := lw_g (lw_at lw_m9 191 rfl) rfl
theorem q2240 : (Jvm.Cond.soleField "SkeletonsModel" "path") ∈ lw_all := lw_g (lw_at lw_m9 192 rfl) rfl
theorem q2241 : (Jvm.Cond.laysFinal "SkeletonsModel" "SkeletonsModel" "hung" "[I") ∈ lw_all := lw_g (lw_at lw_m9 193 rfl) rfl
theorem q2242 : (Jvm.Cond.soleField "SkeletonsModel" "hung") ∈ lw_all := lw_g (lw_at lw_m9 194 rfl) rfl
theorem q2243 : (Jvm.Cond.superclass "SkeletonsModel" "java/lang/Object") ∈ lw_all := lw_g (lw_at lw_m9 195 rfl) rfl
theorem q2246 : (Jvm.Cond.instanceMethod ({ cls := "SkeletonsModel", name := "undo", desc := "()I" } : Jvm.MethodName)) ∈ lw_all := lw_g (lw_at lw_m9 198 rfl) rfl
theorem q2247 : (Jvm.Cond.selects "SkeletonsModel" ({ cls := "SkeletonsModel", name := "undo", desc := "()I" } : Jvm.MethodName) ({ cls := "SkeletonsModel", name := "undo", desc := "()I" } : Jvm.MethodName)) ∈ lw_all := lw_g (lw_at lw_m9 199 rfl) rfl
theorem q2248 : (Jvm.Cond.code ({ cls := "SkeletonsModel", name := "undo", desc := "()I" } : Jvm.MethodName) prog_21_method_9_code (2 : Nat) (Option.some Jvm.ClassFile.FieldType.int)) ∈ lw_all := lw_g (lw_at lw_m9 200 rfl) rfl
theorem q2250 : (Jvm.Cond.instanceMethod ({ cls := "SkeletonsModel", name := "keep", desc := "(I)I" } : Jvm.MethodName)) ∈ lw_all := lw_g (lw_at lw_m9 202 rfl) rfl
theorem q2251 : (Jvm.Cond.selects "SkeletonsModel" ({ cls := "SkeletonsModel", name := "keep", desc := "(I)I" } : Jvm.MethodName) ({ cls := "SkeletonsModel", name := "keep", desc := "(I)I" } : Jvm.MethodName)) ∈ lw_all := lw_g (lw_at lw_m9 203 rfl) rfl
theorem q2252 : (Jvm.Cond.code ({ cls := "SkeletonsModel", name := "keep", desc := "(I)I" } : Jvm.MethodName) prog_21_method_10_code (3 : Nat) (Option.some Jvm.ClassFile.FieldType.int)) ∈ lw_all := lw_g (lw_at lw_m9 204 rfl) rfl
theorem q2253 : (Jvm.Cond.constantLong "SkeletonsModel" (156 : Nat) (2 : Int64)) ∈ lw_all := lw_g (lw_at lw_m9 205 rfl) rfl
theorem q2254 : (Jvm.Cond.methodLink "SkeletonsModel" (158 : Nat) ({ cls := "SkeletonsModel", name := "isIn", desc := "(JJJ)Z" } : Jvm.MethodName)) ∈ lw_all := lw_g (lw_at lw_m9 206 rfl) rfl
theorem q2255 : (Jvm.Cond.static ({ cls := "SkeletonsModel", name := "isIn", desc := "(JJJ)Z" } : Jvm.MethodName)) ∈ lw_all := lw_g (lw_at lw_m9 207 rfl) rfl
theorem q2256 : (Jvm.Cond.code ({ cls := "SkeletonsModel", name := "isIn", desc := "(JJJ)Z" } : Jvm.MethodName) prog_21_method_2_code (6 : Nat) (Option.some Jvm.ClassFile.FieldType.boolean)) ∈ lw_all := lw_g (lw_at lw_m9 208 rfl) rfl
theorem q2258 : (Jvm.Cond.instanceMethod ({ cls := "SkeletonsModel", name := "grow", desc := "(I)I" } : Jvm.MethodName)) ∈ lw_all := lw_g (lw_at lw_m9 210 rfl) rfl
theorem q2259 : (Jvm.Cond.selects "SkeletonsModel" ({ cls := "SkeletonsModel", name := "grow", desc := "(I)I" } : Jvm.MethodName) ({ cls := "SkeletonsModel", name := "grow", desc := "(I)I" } : Jvm.MethodName)) ∈ lw_all := lw_g (lw_at lw_m9 211 rfl) rfl
theorem q2260 : (Jvm.Cond.code ({ cls := "SkeletonsModel", name := "grow", desc := "(I)I" } : Jvm.MethodName) prog_21_method_11_code (2 : Nat) (Option.some Jvm.ClassFile.FieldType.int)) ∈ lw_all := lw_g (lw_at lw_m9 212 rfl) rfl
theorem q2261 : (Jvm.Cond.methodLink "SkeletonsModel" (162 : Nat) ({ cls := "SkeletonsModel", name := "isCarbon", desc := "(I)Z" } : Jvm.MethodName)) ∈ lw_all := lw_g (lw_at lw_m9 213 rfl) rfl
theorem q2262 : (Jvm.Cond.privateMethod ({ cls := "SkeletonsModel", name := "isCarbon", desc := "(I)Z" } : Jvm.MethodName)) ∈ lw_tbl := lw_at lw_m9 214 rfl
theorem q2263 : (Jvm.Cond.instanceMethod ({ cls := "SkeletonsModel", name := "isCarbon", desc := "(I)Z" } : Jvm.MethodName)) ∈ lw_all := lw_g (lw_at lw_m9 215 rfl) rfl
theorem q2264 : (Jvm.Cond.code ({ cls := "SkeletonsModel", name := "isCarbon", desc := "(I)Z" } : Jvm.MethodName) prog_21_method_5_code (2 : Nat) (Option.some Jvm.ClassFile.FieldType.boolean)) ∈ lw_all := lw_g (lw_at lw_m9 216 rfl) rfl
theorem q2265 : (Jvm.Cond.methodLink "SkeletonsModel" (166 : Nat) ({ cls := "SkeletonsModel", name := "degree", desc := "(I)I" } : Jvm.MethodName)) ∈ lw_all := lw_g (lw_at lw_m9 217 rfl) rfl
theorem q2266 : (Jvm.Cond.privateMethod ({ cls := "SkeletonsModel", name := "degree", desc := "(I)I" } : Jvm.MethodName)) ∈ lw_tbl := lw_at lw_m9 218 rfl
theorem q2267 : (Jvm.Cond.instanceMethod ({ cls := "SkeletonsModel", name := "degree", desc := "(I)I" } : Jvm.MethodName)) ∈ lw_all := lw_g (lw_at lw_m9 219 rfl) rfl
theorem q2268 : (Jvm.Cond.code ({ cls := "SkeletonsModel", name := "degree", desc := "(I)I" } : Jvm.MethodName) prog_21_method_6_code (2 : Nat) (Option.some Jvm.ClassFile.FieldType.int)) ∈ lw_all := lw_g (lw_at lw_m9 220 rfl) rfl
theorem q2269 : (Jvm.Cond.methodLink "SkeletonsModel" (148 : Nat) ({ cls := "SkeletonsModel", name := "size", desc := "(I)I" } : Jvm.MethodName)) ∈ lw_all := lw_g (lw_at lw_m9 221 rfl) rfl
theorem q2270 : (Jvm.Cond.static ({ cls := "SkeletonsModel", name := "size", desc := "(I)I" } : Jvm.MethodName)) ∈ lw_all := lw_g (lw_at lw_m9 222 rfl) rfl
theorem q2271 : (Jvm.Cond.code ({ cls := "SkeletonsModel", name := "size", desc := "(I)I" } : Jvm.MethodName) prog_21_method_4_code (3 : Nat) (Option.some Jvm.ClassFile.FieldType.int)) ∈ lw_all := lw_g (lw_at lw_m9 223 rfl) rfl
theorem q2272 : (Jvm.Cond.methodLink "SkeletonsModel" (169 : Nat) ({ cls := "SkeletonsModel", name := "keepsAct", desc := "()V" } : Jvm.MethodName)) ∈ lw_all := lw_g (lw_at lw_m9 224 rfl) rfl
theorem q2273 : (Jvm.Cond.privateMethod ({ cls := "SkeletonsModel", name := "keepsAct", desc := "()V" } : Jvm.MethodName)) ∈ lw_tbl := lw_at lw_m9 225 rfl
theorem q2274 : (Jvm.Cond.instanceMethod ({ cls := "SkeletonsModel", name := "keepsAct", desc := "()V" } : Jvm.MethodName)) ∈ lw_all := lw_g (lw_at lw_m9 226 rfl) rfl
theorem q2275 : (Jvm.Cond.code ({ cls := "SkeletonsModel", name := "keepsAct", desc := "()V" } : Jvm.MethodName) prog_21_method_8_code (2 : Nat) (Option.none : Option Jvm.ClassFile.FieldType)) ∈ lw_all := lw_g (lw_at lw_m9 227 rfl) rfl
theorem q2276 : (Jvm.Cond.methodLink "SkeletonsModel" (172 : Nat) ({ cls := "SkeletonsModel", name := "binds", desc := "(II)V" } : Jvm.MethodName)) ∈ lw_all := lw_g (lw_at lw_m9 228 rfl) rfl
theorem q2277 : (Jvm.Cond.privateMethod ({ cls := "SkeletonsModel", name := "binds", desc := "(II)V" } : Jvm.MethodName)) ∈ lw_tbl := lw_at lw_m9 229 rfl
theorem q2278 : (Jvm.Cond.instanceMethod ({ cls := "SkeletonsModel", name := "binds", desc := "(II)V" } : Jvm.MethodName)) ∈ lw_all := lw_g (lw_at lw_m9 230 rfl) rfl
theorem q2279 : (Jvm.Cond.code ({ cls := "SkeletonsModel", name := "binds", desc := "(II)V" } : Jvm.MethodName) prog_21_method_7_code (3 : Nat) (Option.none : Option Jvm.ClassFile.FieldType)) ∈ lw_all := lw_g (lw_at lw_m9 231 rfl) rfl
theorem q2281 : (Jvm.Cond.instanceMethod ({ cls := "SkeletonsModel", name := "prune", desc := "(I)I" } : Jvm.MethodName)) ∈ lw_all := lw_g (lw_at lw_m9 233 rfl) rfl
theorem q2282 : (Jvm.Cond.selects "SkeletonsModel" ({ cls := "SkeletonsModel", name := "prune", desc := "(I)I" } : Jvm.MethodName) ({ cls := "SkeletonsModel", name := "prune", desc := "(I)I" } : Jvm.MethodName)) ∈ lw_all := lw_g (lw_at lw_m9 234 rfl) rfl
theorem q2283 : (Jvm.Cond.code ({ cls := "SkeletonsModel", name := "prune", desc := "(I)I" } : Jvm.MethodName) prog_21_method_14_code (2 : Nat) (Option.some Jvm.ClassFile.FieldType.int)) ∈ lw_all := lw_g (lw_at lw_m9 235 rfl) rfl
theorem q2284 : (Jvm.Cond.methodLink "SkeletonsModel" (180 : Nat) ({ cls := "SkeletonsModel", name := "removes", desc := "(I)V" } : Jvm.MethodName)) ∈ lw_all := lw_g (lw_at lw_m9 236 rfl) rfl
theorem q2285 : (Jvm.Cond.privateMethod ({ cls := "SkeletonsModel", name := "removes", desc := "(I)V" } : Jvm.MethodName)) ∈ lw_tbl := lw_at lw_m9 237 rfl
theorem q2286 : (Jvm.Cond.instanceMethod ({ cls := "SkeletonsModel", name := "removes", desc := "(I)V" } : Jvm.MethodName)) ∈ lw_all := lw_g (lw_at lw_m9 238 rfl) rfl
theorem q2287 : (Jvm.Cond.code ({ cls := "SkeletonsModel", name := "removes", desc := "(I)V" } : Jvm.MethodName) prog_21_method_13_code (3 : Nat) (Option.none : Option Jvm.ClassFile.FieldType)) ∈ lw_all := lw_g (lw_at lw_m9 239 rfl) rfl
theorem q2288 : (Jvm.Cond.methodLink "SkeletonsModel" (176 : Nat) ({ cls := "SkeletonsModel", name := "closedUp", desc := "(II)I" } : Jvm.MethodName)) ∈ lw_all := lw_g (lw_at lw_m10 0 rfl) rfl
theorem q2289 : (Jvm.Cond.static ({ cls := "SkeletonsModel", name := "closedUp", desc := "(II)I" } : Jvm.MethodName)) ∈ lw_all := lw_g (lw_at lw_m10 1 rfl) rfl
theorem q2290 : (Jvm.Cond.code ({ cls := "SkeletonsModel", name := "closedUp", desc := "(II)I" } : Jvm.MethodName) prog_21_method_12_code (3 : Nat) (Option.some Jvm.ClassFile.FieldType.int)) ∈ lw_all := lw_g (lw_at lw_m10 2 rfl) rfl
theorem q2292 : (Jvm.Cond.instanceMethod ({ cls := "SkeletonsModel", name := "bind", desc := "(III)I" } : Jvm.MethodName)) ∈ lw_all := lw_g (lw_at lw_m10 4 rfl) rfl
theorem q2293 : (Jvm.Cond.selects "SkeletonsModel" ({ cls := "SkeletonsModel", name := "bind", desc := "(III)I" } : Jvm.MethodName) ({ cls := "SkeletonsModel", name := "bind", desc := "(III)I" } : Jvm.MethodName)) ∈ lw_all := lw_g (lw_at lw_m10 5 rfl) rfl
theorem q2294 : (Jvm.Cond.code ({ cls := "SkeletonsModel", name := "bind", desc := "(III)I" } : Jvm.MethodName) prog_21_method_15_code (6 : Nat) (Option.some Jvm.ClassFile.FieldType.int)) ∈ lw_all := lw_g (lw_at lw_m10 6 rfl) rfl
theorem q2296 : (Jvm.Cond.instanceMethod ({ cls := "SkeletonsModel", name := "split", desc := "(II)I" } : Jvm.MethodName)) ∈ lw_all := lw_g (lw_at lw_m10 8 rfl) rfl
theorem q2297 : (Jvm.Cond.selects "SkeletonsModel" ({ cls := "SkeletonsModel", name := "split", desc := "(II)I" } : Jvm.MethodName) ({ cls := "SkeletonsModel", name := "split", desc := "(II)I" } : Jvm.MethodName)) ∈ lw_all := lw_g (lw_at lw_m10 9 rfl) rfl
theorem q2298 : (Jvm.Cond.code ({ cls := "SkeletonsModel", name := "split", desc := "(II)I" } : Jvm.MethodName) prog_21_method_17_code (5 : Nat) (Option.some Jvm.ClassFile.FieldType.int)) ∈ lw_all := lw_g (lw_at lw_m10 10 rfl) rfl
theorem q2299 : (Jvm.Cond.methodLink "SkeletonsModel" (184 : Nat) ({ cls := "SkeletonsModel", name := "has", desc := "(II)Z" } : Jvm.MethodName)) ∈ lw_all := lw_g (lw_at lw_m10 11 rfl) rfl
theorem q2300 : (Jvm.Cond.static ({ cls := "SkeletonsModel", name := "has", desc := "(II)Z" } : Jvm.MethodName)) ∈ lw_all := lw_g (lw_at lw_m10 12 rfl) rfl
theorem q2301 : (Jvm.Cond.code ({ cls := "SkeletonsModel", name := "has", desc := "(II)Z" } : Jvm.MethodName) prog_21_method_3_code (2 : Nat) (Option.some Jvm.ClassFile.FieldType.boolean)) ∈ lw_all := lw_g (lw_at lw_m10 13 rfl) rfl
theorem q2302 : (Jvm.Cond.methodLink "SkeletonsModel" (188 : Nat) ({ cls := "SkeletonsModel", name := "behind", desc := "(II)I" } : Jvm.MethodName)) ∈ lw_all := lw_g (lw_at lw_m10 14 rfl) rfl
theorem q2303 : (Jvm.Cond.privateMethod ({ cls := "SkeletonsModel", name := "behind", desc := "(II)I" } : Jvm.MethodName)) ∈ lw_tbl := lw_at lw_m10 15 rfl
theorem q2304 : (Jvm.Cond.instanceMethod ({ cls := "SkeletonsModel", name := "behind", desc := "(II)I" } : Jvm.MethodName)) ∈ lw_all := lw_g (lw_at lw_m10 16 rfl) rfl
theorem q2305 : (Jvm.Cond.code ({ cls := "SkeletonsModel", name := "behind", desc := "(II)I" } : Jvm.MethodName) prog_21_method_16_code (7 : Nat) (Option.some Jvm.ClassFile.FieldType.int)) ∈ lw_all := lw_g (lw_at lw_m10 17 rfl) rfl
theorem q2307 : (Jvm.Cond.instanceMethod ({ cls := "SkeletonsModel", name := "feed", desc := "(IIIII)I" } : Jvm.MethodName)) ∈ lw_all := lw_g (lw_at lw_m10 19 rfl) rfl
theorem q2308 : (Jvm.Cond.selects "SkeletonsModel" ({ cls := "SkeletonsModel", name := "feed", desc := "(IIIII)I" } : Jvm.MethodName) ({ cls := "SkeletonsModel", name := "feed", desc := "(IIIII)I" } : Jvm.MethodName)) ∈ lw_all := lw_g (lw_at lw_m10 20 rfl) rfl
theorem q2309 : (Jvm.Cond.code ({ cls := "SkeletonsModel", name := "feed", desc := "(IIIII)I" } : Jvm.MethodName) prog_21_method_18_code (8 : Nat) (Option.some Jvm.ClassFile.FieldType.int)) ∈ lw_all := lw_g (lw_at lw_m10 21 rfl) rfl
theorem q2311 : (Jvm.Cond.instanceMethod ({ cls := "SkeletonsModel", name := "end", desc := "(I)I" } : Jvm.MethodName)) ∈ lw_all := lw_g (lw_at lw_m10 23 rfl) rfl
theorem q2312 : (Jvm.Cond.selects "SkeletonsModel" ({ cls := "SkeletonsModel", name := "end", desc := "(I)I" } : Jvm.MethodName) ({ cls := "SkeletonsModel", name := "end", desc := "(I)I" } : Jvm.MethodName)) ∈ lw_all := lw_g (lw_at lw_m10 24 rfl) rfl
theorem q2313 : (Jvm.Cond.code ({ cls := "SkeletonsModel", name := "end", desc := "(I)I" } : Jvm.MethodName) prog_21_method_19_code (2 : Nat) (Option.some Jvm.ClassFile.FieldType.int)) ∈ lw_all := lw_g (lw_at lw_m10 25 rfl) rfl
theorem q2315 : (Jvm.Cond.instanceMethod ({ cls := "SkeletonsModel", name := "tell", desc := "(I)I" } : Jvm.MethodName)) ∈ lw_all := lw_g (lw_at lw_m10 27 rfl) rfl
theorem q2316 : (Jvm.Cond.selects "SkeletonsModel" ({ cls := "SkeletonsModel", name := "tell", desc := "(I)I" } : Jvm.MethodName) ({ cls := "SkeletonsModel", name := "tell", desc := "(I)I" } : Jvm.MethodName)) ∈ lw_all := lw_g (lw_at lw_m10 28 rfl) rfl
theorem q2317 : (Jvm.Cond.code ({ cls := "SkeletonsModel", name := "tell", desc := "(I)I" } : Jvm.MethodName) prog_21_method_34_code (4 : Nat) (Option.some Jvm.ClassFile.FieldType.int)) ∈ lw_all := lw_g (lw_at lw_m10 29 rfl) rfl
theorem q2318 : (Jvm.Cond.methodLink "SkeletonsModel" (249 : Nat) ({ cls := "SkeletonsModel", name := "readsBonds", desc := "()Z" } : Jvm.MethodName)) ∈ lw_all := lw_g (lw_at lw_m10 30 rfl) rfl
theorem q2319 : (Jvm.Cond.privateMethod ({ cls := "SkeletonsModel", name := "readsBonds", desc := "()Z" } : Jvm.MethodName)) ∈ lw_tbl := lw_at lw_m10 31 rfl
theorem q2320 : (Jvm.Cond.instanceMethod ({ cls := "SkeletonsModel", name := "readsBonds", desc := "()Z" } : Jvm.MethodName)) ∈ lw_all := lw_g (lw_at lw_m10 32 rfl) rfl
theorem q2321 : (Jvm.Cond.code ({ cls := "SkeletonsModel", name := "readsBonds", desc := "()Z" } : Jvm.MethodName) prog_21_method_29_code (4 : Nat) (Option.some Jvm.ClassFile.FieldType.boolean)) ∈ lw_all := lw_g (lw_at lw_m10 33 rfl) rfl
theorem q2322 : (Jvm.Cond.methodLink "SkeletonsModel" (229 : Nat) ({ cls := "SkeletonsModel", name := "passesBlanks", desc := "()I" } : Jvm.MethodName)) ∈ lw_all := lw_g (lw_at lw_m10 34 rfl) rfl
theorem q2323 : (Jvm.Cond.privateMethod ({ cls := "SkeletonsModel", name := "passesBlanks", desc := "()I" } : Jvm.MethodName)) ∈ lw_tbl := lw_at lw_m10 35 rfl
theorem q2324 : (Jvm.Cond.instanceMethod ({ cls := "SkeletonsModel", name := "passesBlanks", desc := "()I" } : Jvm.MethodName)) ∈ lw_all := lw_g (lw_at lw_m10 36 rfl) rfl
theorem q2325 : (Jvm.Cond.code ({ cls := "SkeletonsModel", name := "passesBlanks", desc := "()I" } : Jvm.MethodName) prog_21_method_26_code (1 : Nat) (Option.some Jvm.ClassFile.FieldType.int)) ∈ lw_all := lw_g (lw_at lw_m10 37 rfl) rfl
theorem q2326 : (Jvm.Cond.methodLink "SkeletonsModel" (197 : Nat) ({ cls := "SkeletonsModel", name := "byteAt", desc := "(I)I" } : Jvm.MethodName)) ∈ lw_all := lw_g (lw_at lw_m10 38 rfl) rfl
theorem q2327 : (Jvm.Cond.privateMethod ({ cls := "SkeletonsModel", name := "byteAt", desc := "(I)I" } : Jvm.MethodName)) ∈ lw_tbl := lw_at lw_m10 39 rfl
theorem q2328 : (Jvm.Cond.instanceMethod ({ cls := "SkeletonsModel", name := "byteAt", desc := "(I)I" } : Jvm.MethodName)) ∈ lw_all := lw_g (lw_at lw_m10 40 rfl) rfl
theorem q2329 : (Jvm.Cond.code ({ cls := "SkeletonsModel", name := "byteAt", desc := "(I)I" } : Jvm.MethodName) prog_21_method_20_code (2 : Nat) (Option.some Jvm.ClassFile.FieldType.int)) ∈ lw_all := lw_g (lw_at lw_m10 41 rfl) rfl
theorem q2330 : (Jvm.Cond.methodLink "SkeletonsModel" (235 : Nat) ({ cls := "SkeletonsModel", name := "readsBond", desc := "(Z)Z" } : Jvm.MethodName)) ∈ lw_all := lw_g (lw_at lw_m10 42 rfl) rfl
theorem q2331 : (Jvm.Cond.privateMethod ({ cls := "SkeletonsModel", name := "readsBond", desc := "(Z)Z" } : Jvm.MethodName)) ∈ lw_tbl := lw_at lw_m10 43 rfl
theorem q2332 : (Jvm.Cond.instanceMethod ({ cls := "SkeletonsModel", name := "readsBond", desc := "(Z)Z" } : Jvm.MethodName)) ∈ lw_all := lw_g (lw_at lw_m10 44 rfl) rfl
theorem q2333 : (Jvm.Cond.code ({ cls := "SkeletonsModel", name := "readsBond", desc := "(Z)Z" } : Jvm.MethodName) prog_21_method_28_code (3 : Nat) (Option.some Jvm.ClassFile.FieldType.boolean)) ∈ lw_all := lw_g (lw_at lw_m10 45 rfl) rfl
theorem q2334 : (Jvm.Cond.methodLink "SkeletonsModel" (232 : Nat) ({ cls := "SkeletonsModel", name := "readsAtom", desc := "(I)Z" } : Jvm.MethodName)) ∈ lw_all := lw_g (lw_at lw_m10 46 rfl) rfl
theorem q2335 : (Jvm.Cond.privateMethod ({ cls := "SkeletonsModel", name := "readsAtom", desc := "(I)Z" } : Jvm.MethodName)) ∈ lw_tbl := lw_at lw_m10 47 rfl
theorem q2336 : (Jvm.Cond.instanceMethod ({ cls := "SkeletonsModel", name := "readsAtom", desc := "(I)Z" } : Jvm.MethodName)) ∈ lw_all := lw_g (lw_at lw_m10 48 rfl) rfl
theorem q2337 : (Jvm.Cond.code ({ cls := "SkeletonsModel", name := "readsAtom", desc := "(I)Z" } : Jvm.MethodName) prog_21_method_27_code (7 : Nat) (Option.some Jvm.ClassFile.FieldType.boolean)) ∈ lw_all := lw_g (lw_at lw_m10 49 rfl) rfl
theorem q2338 : (Jvm.Cond.methodLink "SkeletonsModel" (211 : Nat) ({ cls := "SkeletonsModel", name := "degreeRead", desc := "(I)I" } : Jvm.MethodName)) ∈ lw_all := lw_g (lw_at lw_m10 50 rfl) rfl
theorem q2339 : (Jvm.Cond.privateMethod ({ cls := "SkeletonsModel", name := "degreeRead", desc := "(I)I" } : Jvm.MethodName)) ∈ lw_tbl := lw_at lw_m10 51 rfl
theorem q2340 : (Jvm.Cond.instanceMethod ({ cls := "SkeletonsModel", name := "degreeRead", desc := "(I)I" } : Jvm.MethodName)) ∈ lw_all := lw_g (lw_at lw_m10 52 rfl) rfl
theorem q2341 : (Jvm.Cond.code ({ cls := "SkeletonsModel", name := "degreeRead", desc := "(I)I" } : Jvm.MethodName) prog_21_method_24_code (2 : Nat) (Option.some Jvm.ClassFile.FieldType.int)) ∈ lw_all := lw_g (lw_at lw_m10 53 rfl) rfl
theorem q2342 : (Jvm.Cond.methodLink "SkeletonsModel" (214 : Nat) ({ cls := "SkeletonsModel", name := "fails", desc := "(II)Z" } : Jvm.MethodName)) ∈ lw_all := lw_g (lw_at lw_m10 54 rfl) rfl
theorem q2343 : (Jvm.Cond.privateMethod ({ cls := "SkeletonsModel", name := "fails", desc := "(II)Z" } : Jvm.MethodName)) ∈ lw_tbl := lw_at lw_m10 55 rfl
theorem q2344 : (Jvm.Cond.instanceMethod ({ cls := "SkeletonsModel", name := "fails", desc := "(II)Z" } : Jvm.MethodName)) ∈ lw_all := lw_g (lw_at lw_m10 56 rfl) rfl
theorem q2345 : (Jvm.Cond.code ({ cls := "SkeletonsModel", name := "fails", desc := "(II)Z" } : Jvm.MethodName) prog_21_method_22_code (3 : Nat) (Option.some Jvm.ClassFile.FieldType.boolean)) ∈ lw_all := lw_g (lw_at lw_m10 57 rfl) rfl
theorem q2346 : (Jvm.Cond.methodLink "SkeletonsModel" (207 : Nat) ({ cls := "SkeletonsModel", name := "isDigit", desc := "()Z" } : Jvm.MethodName)) ∈ lw_all := lw_g (lw_at lw_m10 58 rfl) rfl
theorem q2347 : (Jvm.Cond.privateMethod ({ cls := "SkeletonsModel", name := "isDigit", desc := "()Z" } : Jvm.MethodName)) ∈ lw_tbl := lw_at lw_m10 59 rfl
theorem q2348 : (Jvm.Cond.instanceMethod ({ cls := "SkeletonsModel", name := "isDigit", desc := "()Z" } : Jvm.MethodName)) ∈ lw_all := lw_g (lw_at lw_m10 60 rfl) rfl
theorem q2349 : (Jvm.Cond.code ({ cls := "SkeletonsModel", name := "isDigit", desc := "()Z" } : Jvm.MethodName) prog_21_method_21_code (1 : Nat) (Option.some Jvm.ClassFile.FieldType.boolean)) ∈ lw_all := lw_g (lw_at lw_m10 61 rfl) rfl
theorem q2350 : (Jvm.Cond.constantLong "SkeletonsModel" (200 : Nat) (48 : Int64)) ∈ lw_all := lw_g (lw_at lw_m10 62 rfl) rfl
theorem q2351 : (Jvm.Cond.constantLong "SkeletonsModel" (202 : Nat) (57 : Int64)) ∈ lw_all := lw_g (lw_at lw_m10 63 rfl) rfl
theorem q2352 : (Jvm.Cond.methodLink "SkeletonsModel" (217 : Nat) ({ cls := "SkeletonsModel", name := "digits", desc := "()I" } : Jvm.MethodName)) ∈ lw_all := lw_g (lw_at lw_m10 64 rfl) rfl
theorem q2353 : (Jvm.Cond.privateMethod ({ cls := "SkeletonsModel", name := "digits", desc := "()I" } : Jvm.MethodName)) ∈ lw_tbl := lw_at lw_m10 65 rfl
theorem q2354 : (Jvm.Cond.instanceMethod ({ cls := "SkeletonsModel", name := "digits", desc := "()I" } : Jvm.MethodName)) ∈ lw_all := lw_g (lw_at lw_m10 66 rfl) rfl
theorem q2355 : (Jvm.Cond.code ({ cls := "SkeletonsModel", name := "digits", desc := "()I" } : Jvm.MethodName) prog_21_method_23_code (2 : Nat) (Option.some Jvm.ClassFile.FieldType.int)) ∈ lw_all := lw_g (lw_at lw_m10 67 rfl) rfl
theorem q2356 : (Jvm.Cond.constantLong "SkeletonsModel" (221 : Nat) (16 : Int64)) ∈ lw_all := lw_g (lw_at lw_m10 68 rfl) rfl
theorem q2357 : (Jvm.Cond.methodLink "SkeletonsModel" (223 : Nat) ({ cls := "SkeletonsModel", name := "adds", desc := "(II)V" } : Jvm.MethodName)) ∈ lw_all := lw_g (lw_at lw_m10 69 rfl) rfl
theorem q2358 : (Jvm.Cond.privateMethod ({ cls := "SkeletonsModel", name := "adds", desc := "(II)V" } : Jvm.MethodName)) ∈ lw_tbl := lw_at lw_m10 70 rfl
theorem q2359 : (Jvm.Cond.instanceMethod ({ cls := "SkeletonsModel", name := "adds", desc := "(II)V" } : Jvm.MethodName)) ∈ lw_all := lw_g (lw_at lw_m10 71 rfl) rfl
theorem q2360 : (Jvm.Cond.code ({ cls := "SkeletonsModel", name := "adds", desc := "(II)V" } : Jvm.MethodName) prog_21_method_25_code (6 : Nat) (Option.none : Option Jvm.ClassFile.FieldType)) ∈ lw_all := lw_g (lw_at lw_m10 72 rfl) rfl
theorem q2361 : (Jvm.Cond.methodLink "SkeletonsModel" (252 : Nat) ({ cls := "SkeletonsModel", name := "readsName", desc := "()Z" } : Jvm.MethodName)) ∈ lw_all := lw_g (lw_at lw_m10 73 rfl) rfl
theorem q2362 : (Jvm.Cond.privateMethod ({ cls := "SkeletonsModel", name := "readsName", desc := "()Z" } : Jvm.MethodName)) ∈ lw_tbl := lw_at lw_m10 74 rfl
theorem q2363 : (Jvm.Cond.instanceMethod ({ cls := "SkeletonsModel", name := "readsName", desc := "()Z" } : Jvm.MethodName)) ∈ lw_all := lw_g (lw_at lw_m10 75 rfl) rfl
theorem q2364 : (Jvm.Cond.code ({ cls := "SkeletonsModel", name := "readsName", desc := "()Z" } : Jvm.MethodName) prog_21_method_33_code (2 : Nat) (Option.some Jvm.ClassFile.FieldType.boolean)) ∈ lw_all := lw_g (lw_at lw_m10 76 rfl) rfl
theorem q2365 : (Jvm.Cond.methodLink "SkeletonsModel" (243 : Nat) ({ cls := "SkeletonsModel", name := "opensChain", desc := "(I)Z" } : Jvm.MethodName)) ∈ lw_all := lw_g (lw_at lw_m10 77 rfl) rfl
theorem q2366 : (Jvm.Cond.privateMethod ({ cls := "SkeletonsModel", name := "opensChain", desc := "(I)Z" } : Jvm.MethodName)) ∈ lw_tbl := lw_at lw_m10 78 rfl
theorem q2367 : (Jvm.Cond.instanceMethod ({ cls := "SkeletonsModel", name := "opensChain", desc := "(I)Z" } : Jvm.MethodName)) ∈ lw_all := lw_g (lw_at lw_m10 79 rfl) rfl
theorem q2368 : (Jvm.Cond.code ({ cls := "SkeletonsModel", name := "opensChain", desc := "(I)Z" } : Jvm.MethodName) prog_21_method_31_code (3 : Nat) (Option.some Jvm.ClassFile.FieldType.boolean)) ∈ lw_all := lw_g (lw_at lw_m10 80 rfl) rfl
theorem q2369 : (Jvm.Cond.methodLink "SkeletonsModel" (239 : Nat) ({ cls := "SkeletonsModel", name := "readsLength", desc := "(IZ)Z" } : Jvm.MethodName)) ∈ lw_all := lw_g (lw_at lw_m10 81 rfl) rfl
theorem q2370 : (Jvm.Cond.privateMethod ({ cls := "SkeletonsModel", name := "readsLength", desc := "(IZ)Z" } : Jvm.MethodName)) ∈ lw_tbl := lw_at lw_m10 82 rfl
theorem q2371 : (Jvm.Cond.instanceMethod ({ cls := "SkeletonsModel", name := "readsLength", desc := "(IZ)Z" } : Jvm.MethodName)) ∈ lw_all := lw_g (lw_at lw_m10 83 rfl) rfl
theorem q2372 : (Jvm.Cond.code ({ cls := "SkeletonsModel", name := "readsLength", desc := "(IZ)Z" } : Jvm.MethodName) prog_21_method_30_code (5 : Nat) (Option.some Jvm.ClassFile.FieldType.boolean)) ∈ lw_all := lw_g (lw_at lw_m10 84 rfl) rfl
theorem q2373 : (Jvm.Cond.methodLink "SkeletonsModel" (246 : Nat) ({ cls := "SkeletonsModel", name := "readsBranch", desc := "()Z" } : Jvm.MethodName)) ∈ lw_all := lw_g (lw_at lw_m10 85 rfl) rfl
theorem q2374 : (Jvm.Cond.privateMethod ({ cls := "SkeletonsModel", name := "readsBranch", desc := "()Z" } : Jvm.MethodName)) ∈ lw_tbl := lw_at lw_m10 86 rfl
theorem q2375 : (Jvm.Cond.instanceMethod ({ cls := "SkeletonsModel", name := "readsBranch", desc := "()Z" } : Jvm.MethodName)) ∈ lw_all := lw_g (lw_at lw_m10 87 rfl) rfl
theorem q2376 : (Jvm.Cond.code ({ cls := "SkeletonsModel", name := "readsBranch", desc := "()Z" } : Jvm.MethodName) prog_21_method_32_code (4 : Nat) (Option.some Jvm.ClassFile.FieldType.boolean)) ∈ lw_all := lw_g (lw_at lw_m10 88 rfl) rfl
theorem q2378 : (Jvm.Cond.instanceMethod ({ cls := "SkeletonsModel", name := "take", desc := "(II)I" } : Jvm.MethodName)) ∈ lw_all := lw_g (lw_at lw_m10 90 rfl) rfl
theorem q2379 : (Jvm.Cond.selects "SkeletonsModel" ({ cls := "SkeletonsModel", name := "take", desc := "(II)I" } : Jvm.MethodName) ({ cls := "SkeletonsModel", name := "take", desc := "(II)I" } : Jvm.MethodName)) ∈ lw_all := lw_g (lw_at lw_m10 91 rfl) rfl
theorem q2380 : (Jvm.Cond.code ({ cls := "SkeletonsModel", name := "take", desc := "(II)I" } : Jvm.MethodName) prog_21_method_69_code (4 : Nat) (Option.some Jvm.ClassFile.FieldType.int)) ∈ lw_all := lw_g (lw_at lw_m10 92 rfl) rfl
theorem q2381 : (Jvm.Cond.methodLink "SkeletonsModel" (371 : Nat) ({ cls := "SkeletonsModel", name := "isOfList", desc := "(II)Z" } : Jvm.MethodName)) ∈ lw_all := lw_g (lw_at lw_m10 93 rfl) rfl
theorem q2382 : (Jvm.Cond.privateMethod ({ cls := "SkeletonsModel", name := "isOfList", desc := "(II)Z" } : Jvm.MethodName)) ∈ lw_tbl := lw_at lw_m10 94 rfl
theorem q2383 : (Jvm.Cond.instanceMethod ({ cls := "SkeletonsModel", name := "isOfList", desc := "(II)Z" } : Jvm.MethodName)) ∈ lw_all := lw_g (lw_at lw_m10 95 rfl) rfl
theorem q2384 : (Jvm.Cond.code ({ cls := "SkeletonsModel", name := "isOfList", desc := "(II)Z" } : Jvm.MethodName) prog_21_method_68_code (3 : Nat) (Option.some Jvm.ClassFile.FieldType.boolean)) ∈ lw_all := lw_g (lw_at lw_m10 96 rfl) rfl
theorem q2385 : (Jvm.Cond.constantLong "SkeletonsModel" (366 : Nat) (11 : Int64)) ∈ lw_all := lw_g (lw_at lw_m10 97 rfl) rfl
theorem q2386 : (Jvm.Cond.methodLink "SkeletonsModel" (368 : Nat) ({ cls := "SkeletonsModel", name := "lists", desc := "()V" } : Jvm.MethodName)) ∈ lw_all := lw_g (lw_at lw_m10 98 rfl) rfl
theorem q2387 : (Jvm.Cond.privateMethod ({ cls := "SkeletonsModel", name := "lists", desc := "()V" } : Jvm.MethodName)) ∈ lw_tbl := lw_at lw_m10 99 rfl
theorem q2388 : (Jvm.Cond.instanceMethod ({ cls := "SkeletonsModel", name := "lists", desc := "()V" } : Jvm.MethodName)) ∈ lw_all := lw_g (lw_at lw_m10 100 rfl) rfl
theorem q2389 : (Jvm.Cond.code ({ cls := "SkeletonsModel", name := "lists", desc := "()V" } : Jvm.MethodName) prog_21_method_67_code (2 : Nat) (Option.none : Option Jvm.ClassFile.FieldType)) ∈ lw_all := lw_g (lw_at lw_m10 101 rfl) rfl
theorem q2390 : (Jvm.Cond.methodLink "SkeletonsModel" (363 : Nat) ({ cls := "SkeletonsModel", name := "listsOf", desc := "(I)V" } : Jvm.MethodName)) ∈ lw_all := lw_g (lw_at lw_m10 102 rfl) rfl
theorem q2391 : (Jvm.Cond.privateMethod ({ cls := "SkeletonsModel", name := "listsOf", desc := "(I)V" } : Jvm.MethodName)) ∈ lw_tbl := lw_at lw_m10 103 rfl
theorem q2392 : (Jvm.Cond.instanceMethod ({ cls := "SkeletonsModel", name := "listsOf", desc := "(I)V" } : Jvm.MethodName)) ∈ lw_all := lw_g (lw_at lw_m10 104 rfl) rfl
theorem q2393 : (Jvm.Cond.code ({ cls := "SkeletonsModel", name := "listsOf", desc := "(I)V" } : Jvm.MethodName) prog_21_method_66_code (4 : Nat) (Option.none : Option Jvm.ClassFile.FieldType)) ∈ lw_all := lw_g (lw_at lw_m10 105 rfl) rfl
theorem q2394 : (Jvm.Cond.methodLink "SkeletonsModel" (341 : Nat) ({ cls := "SkeletonsModel", name := "codeAt", desc := "(II)I" } : Jvm.MethodName)) ∈ lw_all := lw_g (lw_at lw_m10 106 rfl) rfl
theorem q2395 : (Jvm.Cond.privateMethod ({ cls := "SkeletonsModel", name := "codeAt", desc := "(II)I" } : Jvm.MethodName)) ∈ lw_tbl := lw_at lw_m10 107 rfl
theorem q2396 : (Jvm.Cond.instanceMethod ({ cls := "SkeletonsModel", name := "codeAt", desc := "(II)I" } : Jvm.MethodName)) ∈ lw_all := lw_g (lw_at lw_m10 108 rfl) rfl
theorem q2397 : (Jvm.Cond.code ({ cls := "SkeletonsModel", name := "codeAt", desc := "(II)I" } : Jvm.MethodName) prog_21_method_62_code (3 : Nat) (Option.some Jvm.ClassFile.FieldType.int)) ∈ lw_all := lw_g (lw_at lw_m10 109 rfl) rfl
theorem q2398 : (Jvm.Cond.methodLink "SkeletonsModel" (350 : Nat) ({ cls := "SkeletonsModel", name := "makes", desc := "(II)V" } : Jvm.MethodName)) ∈ lw_all := lw_g (lw_at lw_m10 110 rfl) rfl
theorem q2399 : (Jvm.Cond.privateMethod ({ cls := "SkeletonsModel", name := "makes", desc := "(II)V" } : Jvm.MethodName)) ∈ lw_tbl := lw_at lw_m10 111 rfl
theorem q2400 : (Jvm.Cond.instanceMethod ({ cls := "SkeletonsModel", name := "makes", desc := "(II)V" } : Jvm.MethodName)) ∈ lw_all := lw_g (lw_at lw_m10 112 rfl) rfl
theorem q2401 : (Jvm.Cond.code ({ cls := "SkeletonsModel", name := "makes", desc := "(II)V" } : Jvm.MethodName) prog_21_method_61_code (5 : Nat) (Option.none : Option Jvm.ClassFile.FieldType)) ∈ lw_all := lw_g (lw_at lw_m10 113 rfl) rfl
theorem q2402 : (Jvm.Cond.methodLink "SkeletonsModel" (325 : Nat) ({ cls := "SkeletonsModel", name := "looksAt", desc := "([II)V" } : Jvm.MethodName)) ∈ lw_all := lw_g (lw_at lw_m10 114 rfl) rfl
theorem q2403 : (Jvm.Cond.privateMethod ({ cls := "SkeletonsModel", name := "looksAt", desc := "([II)V" } : Jvm.MethodName)) ∈ lw_tbl := lw_at lw_m10 115 rfl
theorem q2404 : (Jvm.Cond.instanceMethod ({ cls := "SkeletonsModel", name := "looksAt", desc := "([II)V" } : Jvm.MethodName)) ∈ lw_all := lw_g (lw_at lw_m10 116 rfl) rfl
theorem q2405 : (Jvm.Cond.code ({ cls := "SkeletonsModel", name := "looksAt", desc := "([II)V" } : Jvm.MethodName) prog_21_method_54_code (7 : Nat) (Option.none : Option Jvm.ClassFile.FieldType)) ∈ lw_all := lw_g (lw_at lw_m10 117 rfl) rfl
theorem q2406 : (Jvm.Cond.methodLink "SkeletonsModel" (314 : Nat) ({ cls := "SkeletonsModel", name := "laysHydrogen", desc := "()V" } : Jvm.MethodName)) ∈ lw_all := lw_g (lw_at lw_m10 118 rfl) rfl
theorem q2407 : (Jvm.Cond.privateMethod ({ cls := "SkeletonsModel", name := "laysHydrogen", desc := "()V" } : Jvm.MethodName)) ∈ lw_tbl := lw_at lw_m10 119 rfl
theorem q2408 : (Jvm.Cond.instanceMethod ({ cls := "SkeletonsModel", name := "laysHydrogen", desc := "()V" } : Jvm.MethodName)) ∈ lw_all := lw_g (lw_at lw_m10 120 rfl) rfl
theorem q2409 : (Jvm.Cond.code ({ cls := "SkeletonsModel", name := "laysHydrogen", desc := "()V" } : Jvm.MethodName) prog_21_method_41_code (2 : Nat) (Option.none : Option Jvm.ClassFile.FieldType)) ∈ lw_all := lw_g (lw_at lw_m10 121 rfl) rfl
theorem q2410 : (Jvm.Cond.methodLink "SkeletonsModel" (317 : Nat) ({ cls := "SkeletonsModel", name := "reached", desc := "(II)I" } : Jvm.MethodName)) ∈ lw_all := lw_g (lw_at lw_m10 122 rfl) rfl
theorem q2411 : (Jvm.Cond.privateMethod ({ cls := "SkeletonsModel", name := "reached", desc := "(II)I" } : Jvm.MethodName)) ∈ lw_tbl := lw_at lw_m10 123 rfl
theorem q2412 : (Jvm.Cond.instanceMethod ({ cls := "SkeletonsModel", name := "reached", desc := "(II)I" } : Jvm.MethodName)) ∈ lw_all := lw_g (lw_at lw_m10 124 rfl) rfl
theorem q2413 : (Jvm.Cond.code ({ cls := "SkeletonsModel", name := "reached", desc := "(II)I" } : Jvm.MethodName) prog_21_method_36_code (7 : Nat) (Option.some Jvm.ClassFile.FieldType.int)) ∈ lw_all := lw_g (lw_at lw_m10 125 rfl) rfl
theorem q2414 : (Jvm.Cond.methodLink "SkeletonsModel" (320 : Nat) ({ cls := "SkeletonsModel", name := "sizeSeen", desc := "(II)I" } : Jvm.MethodName)) ∈ lw_all := lw_g (lw_at lw_m10 126 rfl) rfl
theorem q2415 : (Jvm.Cond.privateMethod ({ cls := "SkeletonsModel", name := "sizeSeen", desc := "(II)I" } : Jvm.MethodName)) ∈ lw_tbl := lw_at lw_m10 127 rfl
theorem q2416 : (Jvm.Cond.instanceMethod ({ cls := "SkeletonsModel", name := "sizeSeen", desc := "(II)I" } : Jvm.MethodName)) ∈ lw_all := lw_g (lw_at lw_m10 128 rfl) rfl
theorem q2417 : (Jvm.Cond.code ({ cls := "SkeletonsModel", name := "sizeSeen", desc := "(II)I" } : Jvm.MethodName) prog_21_method_35_code (3 : Nat) (Option.some Jvm.ClassFile.FieldType.int)) ∈ lw_all := lw_g (lw_at lw_m10 129 rfl) rfl
theorem q2418 : (Jvm.Cond.methodLink "SkeletonsModel" (323 : Nat) ({ cls := "SkeletonsModel", name := "shapes", desc := "(II)V" } : Jvm.MethodName)) ∈ lw_all := lw_g (lw_at lw_m10 130 rfl) rfl
theorem q2419 : (Jvm.Cond.privateMethod ({ cls := "SkeletonsModel", name := "shapes", desc := "(II)V" } : Jvm.MethodName)) ∈ lw_tbl := lw_at lw_m10 131 rfl
theorem q2420 : (Jvm.Cond.instanceMethod ({ cls := "SkeletonsModel", name := "shapes", desc := "(II)V" } : Jvm.MethodName)) ∈ lw_all := lw_g (lw_at lw_m10 132 rfl) rfl
theorem q2421 : (Jvm.Cond.code ({ cls := "SkeletonsModel", name := "shapes", desc := "(II)V" } : Jvm.MethodName) prog_21_method_53_code (4 : Nat) (Option.none : Option Jvm.ClassFile.FieldType)) ∈ lw_all := lw_g (lw_at lw_m10 133 rfl) rfl
theorem q2422 : (Jvm.Cond.methodLink "SkeletonsModel" (308 : Nat) ({ cls := "SkeletonsModel", name := "finds", desc := "(I)V" } : Jvm.MethodName)) ∈ lw_all := lw_g (lw_at lw_m10 134 rfl) rfl
theorem q2423 : (Jvm.Cond.privateMethod ({ cls := "SkeletonsModel", name := "finds", desc := "(I)V" } : Jvm.MethodName)) ∈ lw_tbl := lw_at lw_m10 135 rfl
theorem q2424 : (Jvm.Cond.instanceMethod ({ cls := "SkeletonsModel", name := "finds", desc := "(I)V" } : Jvm.MethodName)) ∈ lw_all := lw_g (lw_at lw_m10 136 rfl) rfl
theorem q2425 : (Jvm.Cond.code ({ cls := "SkeletonsModel", name := "finds", desc := "(I)V" } : Jvm.MethodName) prog_21_method_38_code (3 : Nat) (Option.none : Option Jvm.ClassFile.FieldType)) ∈ lw_all := lw_g (lw_at lw_m10 137 rfl) rfl
theorem q2426 : (Jvm.Cond.methodLink "SkeletonsModel" (258 : Nat) ({ cls := "SkeletonsModel", name := "compares", desc := "(II)I" } : Jvm.MethodName)) ∈ lw_all := lw_g (lw_at lw_m10 138 rfl) rfl
theorem q2427 : (Jvm.Cond.privateMethod ({ cls := "SkeletonsModel", name := "compares", desc := "(II)I" } : Jvm.MethodName)) ∈ lw_tbl := lw_at lw_m10 139 rfl
theorem q2428 : (Jvm.Cond.instanceMethod ({ cls := "SkeletonsModel", name := "compares", desc := "(II)I" } : Jvm.MethodName)) ∈ lw_all := lw_g (lw_at lw_m10 140 rfl) rfl
theorem q2429 : (Jvm.Cond.code ({ cls := "SkeletonsModel", name := "compares", desc := "(II)I" } : Jvm.MethodName) prog_21_method_37_code (8 : Nat) (Option.some Jvm.ClassFile.FieldType.int)) ∈ lw_all := lw_g (lw_at lw_m10 141 rfl) rfl
theorem q2430 : (Jvm.Cond.methodLink "SkeletonsModel" (311 : Nat) ({ cls := "SkeletonsModel", name := "shapeOfFound", desc := "()I" } : Jvm.MethodName)) ∈ lw_all := lw_g (lw_at lw_m10 142 rfl) rfl
theorem q2431 : (Jvm.Cond.privateMethod ({ cls := "SkeletonsModel", name := "shapeOfFound", desc := "()I" } : Jvm.MethodName)) ∈ lw_tbl := lw_at lw_m10 143 rfl
theorem q2432 : (Jvm.Cond.instanceMethod ({ cls := "SkeletonsModel", name := "shapeOfFound", desc := "()I" } : Jvm.MethodName)) ∈ lw_all := lw_g (lw_at lw_m10 144 rfl) rfl
theorem q2433 : (Jvm.Cond.code ({ cls := "SkeletonsModel", name := "shapeOfFound", desc := "()I" } : Jvm.MethodName) prog_21_method_39_code (4 : Nat) (Option.some Jvm.ClassFile.FieldType.int)) ∈ lw_all := lw_g (lw_at lw_m10 145 rfl) rfl
theorem q2434 : (Jvm.Cond.methodLink "SkeletonsModel" (264 : Nat) ({ cls := "SkeletonsModel", name := "lays", desc := "()V" } : Jvm.MethodName)) ∈ lw_all := lw_g (lw_at lw_m10 146 rfl) rfl
theorem q2435 : (Jvm.Cond.privateMethod ({ cls := "SkeletonsModel", name := "lays", desc := "()V" } : Jvm.MethodName)) ∈ lw_tbl := lw_at lw_m10 147 rfl
theorem q2436 : (Jvm.Cond.instanceMethod ({ cls := "SkeletonsModel", name := "lays", desc := "()V" } : Jvm.MethodName)) ∈ lw_all := lw_g (lw_at lw_m10 148 rfl) rfl
theorem q2437 : (Jvm.Cond.code ({ cls := "SkeletonsModel", name := "lays", desc := "()V" } : Jvm.MethodName) prog_21_method_40_code (3 : Nat) (Option.none : Option Jvm.ClassFile.FieldType)) ∈ lw_all := lw_g (lw_at lw_m10 149 rfl) rfl
theorem q2438 : (Jvm.Cond.methodLink "SkeletonsModel" (267 : Nat) ({ cls := "SkeletonsModel", name := "laysForms", desc := "(I)V" } : Jvm.MethodName)) ∈ lw_all := lw_g (lw_at lw_m10 150 rfl) rfl
theorem q2439 : (Jvm.Cond.privateMethod ({ cls := "SkeletonsModel", name := "laysForms", desc := "(I)V" } : Jvm.MethodName)) ∈ lw_tbl := lw_at lw_m10 151 rfl
theorem q2440 : (Jvm.Cond.instanceMethod ({ cls := "SkeletonsModel", name := "laysForms", desc := "(I)V" } : Jvm.MethodName)) ∈ lw_all := lw_g (lw_at lw_m10 152 rfl) rfl
theorem q2441 : (Jvm.Cond.code ({ cls := "SkeletonsModel", name := "laysForms", desc := "(I)V" } : Jvm.MethodName) prog_21_method_42_code (9 : Nat) (Option.none : Option Jvm.ClassFile.FieldType)) ∈ lw_all := lw_g (lw_at lw_m10 153 rfl) rfl
theorem q2442 : (Jvm.Cond.constantLong "SkeletonsModel" (276 : Nat) (3 : Int64)) ∈ lw_all := lw_g (lw_at lw_m10 154 rfl) rfl
theorem q2443 : (Jvm.Cond.methodLink "SkeletonsModel" (270 : Nat) ({ cls := "SkeletonsModel", name := "laysSymmetry", desc := "(I)V" } : Jvm.MethodName)) ∈ lw_all := lw_g (lw_at lw_m10 155 rfl) rfl
theorem q2444 : (Jvm.Cond.privateMethod ({ cls := "SkeletonsModel", name := "laysSymmetry", desc := "(I)V" } : Jvm.MethodName)) ∈ lw_tbl := lw_at lw_m10 156 rfl
theorem q2445 : (Jvm.Cond.instanceMethod ({ cls := "SkeletonsModel", name := "laysSymmetry", desc := "(I)V" } : Jvm.MethodName)) ∈ lw_all := lw_g (lw_at lw_m10 157 rfl) rfl
theorem q2446 : (Jvm.Cond.code ({ cls := "SkeletonsModel", name := "laysSymmetry", desc := "(I)V" } : Jvm.MethodName) prog_21_method_45_code (5 : Nat) (Option.none : Option Jvm.ClassFile.FieldType)) ∈ lw_all := lw_g (lw_at lw_m10 158 rfl) rfl
theorem q2447 : (Jvm.Cond.methodLink "SkeletonsModel" (282 : Nat) ({ cls := "SkeletonsModel", name := "alike", desc := "(II)I" } : Jvm.MethodName)) ∈ lw_all := lw_g (lw_at lw_m10 159 rfl) rfl
theorem q2448 : (Jvm.Cond.privateMethod ({ cls := "SkeletonsModel", name := "alike", desc := "(II)I" } : Jvm.MethodName)) ∈ lw_tbl := lw_at lw_m10 160 rfl
theorem q2449 : (Jvm.Cond.instanceMethod ({ cls := "SkeletonsModel", name := "alike", desc := "(II)I" } : Jvm.MethodName)) ∈ lw_all := lw_g (lw_at lw_m10 161 rfl) rfl
theorem q2450 : (Jvm.Cond.code ({ cls := "SkeletonsModel", name := "alike", desc := "(II)I" } : Jvm.MethodName) prog_21_method_43_code (4 : Nat) (Option.some Jvm.ClassFile.FieldType.int)) ∈ lw_all := lw_g (lw_at lw_m10 162 rfl) rfl
theorem q2451 : (Jvm.Cond.methodLink "SkeletonsModel" (285 : Nat) ({ cls := "SkeletonsModel", name := "factorial", desc := "(I)J" } : Jvm.MethodName)) ∈ lw_all := lw_g (lw_at lw_m10 163 rfl) rfl
theorem q2452 : (Jvm.Cond.static ({ cls := "SkeletonsModel", name := "factorial", desc := "(I)J" } : Jvm.MethodName)) ∈ lw_all := lw_g (lw_at lw_m10 164 rfl) rfl
theorem q2453 : (Jvm.Cond.code ({ cls := "SkeletonsModel", name := "factorial", desc := "(I)J" } : Jvm.MethodName) prog_21_method_44_code (1 : Nat) (Option.some Jvm.ClassFile.FieldType.long)) ∈ lw_all := lw_g (lw_at lw_m10 165 rfl) rfl
theorem q2454 : (Jvm.Cond.constantLong "SkeletonsModel" (278 : Nat) (6 : Int64)) ∈ lw_all := lw_g (lw_at lw_m10 166 rfl) rfl
theorem q2455 : (Jvm.Cond.constantLong "SkeletonsModel" (280 : Nat) (24 : Int64)) ∈ lw_all := lw_g (lw_at lw_m10 167 rfl) rfl
theorem q2456 : (Jvm.Cond.methodLink "SkeletonsModel" (273 : Nat) ({ cls := "SkeletonsModel", name := "laysMarks", desc := "(II)V" } : Jvm.MethodName)) ∈ lw_all := lw_g (lw_at lw_m10 168 rfl) rfl
theorem q2457 : (Jvm.Cond.privateMethod ({ cls := "SkeletonsModel", name := "laysMarks", desc := "(II)V" } : Jvm.MethodName)) ∈ lw_tbl := lw_at lw_m10 169 rfl
theorem q2458 : (Jvm.Cond.instanceMethod ({ cls := "SkeletonsModel", name := "laysMarks", desc := "(II)V" } : Jvm.MethodName)) ∈ lw_all := lw_g (lw_at lw_m10 170 rfl) rfl
theorem q2459 : (Jvm.Cond.code ({ cls := "SkeletonsModel", name := "laysMarks", desc := "(II)V" } : Jvm.MethodName) prog_21_method_52_code (4 : Nat) (Option.none : Option Jvm.ClassFile.FieldType)) ∈ lw_all := lw_g (lw_at lw_m10 171 rfl) rfl
theorem q2460 : (Jvm.Cond.methodLink "SkeletonsModel" (305 : Nat) ({ cls := "SkeletonsModel", name := "marksOn", desc := "(II)V" } : Jvm.MethodName)) ∈ lw_all := lw_g (lw_at lw_m10 172 rfl) rfl
theorem q2461 : (Jvm.Cond.privateMethod ({ cls := "SkeletonsModel", name := "marksOn", desc := "(II)V" } : Jvm.MethodName)) ∈ lw_tbl := lw_at lw_m10 173 rfl
theorem q2462 : (Jvm.Cond.instanceMethod ({ cls := "SkeletonsModel", name := "marksOn", desc := "(II)V" } : Jvm.MethodName)) ∈ lw_all := lw_g (lw_at lw_m10 174 rfl) rfl
theorem q2463 : (Jvm.Cond.code ({ cls := "SkeletonsModel", name := "marksOn", desc := "(II)V" } : Jvm.MethodName) prog_21_method_51_code (4 : Nat) (Option.none : Option Jvm.ClassFile.FieldType)) ∈ lw_all := lw_g (lw_at lw_m10 175 rfl) rfl
theorem q2464 : (Jvm.Cond.methodLink "SkeletonsModel" (299 : Nat) ({ cls := "SkeletonsModel", name := "manyLike", desc := "(II)V" } : Jvm.MethodName)) ∈ lw_all := lw_g (lw_at lw_m10 176 rfl) rfl
theorem q2465 : (Jvm.Cond.privateMethod ({ cls := "SkeletonsModel", name := "manyLike", desc := "(II)V" } : Jvm.MethodName)) ∈ lw_tbl := lw_at lw_m10 177 rfl
theorem q2466 : (Jvm.Cond.instanceMethod ({ cls := "SkeletonsModel", name := "manyLike", desc := "(II)V" } : Jvm.MethodName)) ∈ lw_all := lw_g (lw_at lw_m10 178 rfl) rfl
theorem q2467 : (Jvm.Cond.code ({ cls := "SkeletonsModel", name := "manyLike", desc := "(II)V" } : Jvm.MethodName) prog_21_method_48_code (4 : Nat) (Option.none : Option Jvm.ClassFile.FieldType)) ∈ lw_all := lw_g (lw_at lw_m10 179 rfl) rfl
theorem q2468 : (Jvm.Cond.methodLink "SkeletonsModel" (289 : Nat) ({ cls := "SkeletonsModel", name := "waysOf", desc := "(III)I" } : Jvm.MethodName)) ∈ lw_all := lw_g (lw_at lw_m10 180 rfl) rfl
theorem q2469 : (Jvm.Cond.privateMethod ({ cls := "SkeletonsModel", name := "waysOf", desc := "(III)I" } : Jvm.MethodName)) ∈ lw_tbl := lw_at lw_m10 181 rfl
theorem q2470 : (Jvm.Cond.instanceMethod ({ cls := "SkeletonsModel", name := "waysOf", desc := "(III)I" } : Jvm.MethodName)) ∈ lw_all := lw_g (lw_at lw_m10 182 rfl) rfl
theorem q2471 : (Jvm.Cond.code ({ cls := "SkeletonsModel", name := "waysOf", desc := "(III)I" } : Jvm.MethodName) prog_21_method_49_code (9 : Nat) (Option.some Jvm.ClassFile.FieldType.int)) ∈ lw_all := lw_g (lw_at lw_m10 183 rfl) rfl
theorem q2472 : (Jvm.Cond.methodLink "SkeletonsModel" (293 : Nat) ({ cls := "SkeletonsModel", name := "marksBy", desc := "(II)I" } : Jvm.MethodName)) ∈ lw_all := lw_g (lw_at lw_m10 184 rfl) rfl
theorem q2473 : (Jvm.Cond.privateMethod ({ cls := "SkeletonsModel", name := "marksBy", desc := "(II)I" } : Jvm.MethodName)) ∈ lw_tbl := lw_at lw_m10 185 rfl
theorem q2474 : (Jvm.Cond.instanceMethod ({ cls := "SkeletonsModel", name := "marksBy", desc := "(II)I" } : Jvm.MethodName)) ∈ lw_all := lw_g (lw_at lw_m10 186 rfl) rfl
theorem q2475 : (Jvm.Cond.code ({ cls := "SkeletonsModel", name := "marksBy", desc := "(II)I" } : Jvm.MethodName) prog_21_method_47_code (3 : Nat) (Option.some Jvm.ClassFile.FieldType.int)) ∈ lw_all := lw_g (lw_at lw_m10 187 rfl) rfl
theorem q2476 : (Jvm.Cond.methodLink "SkeletonsModel" (296 : Nat) ({ cls := "SkeletonsModel", name := "chosen", desc := "(II)I" } : Jvm.MethodName)) ∈ lw_all := lw_g (lw_at lw_m10 188 rfl) rfl
theorem q2477 : (Jvm.Cond.static ({ cls := "SkeletonsModel", name := "chosen", desc := "(II)I" } : Jvm.MethodName)) ∈ lw_all := lw_g (lw_at lw_m10 189 rfl) rfl
theorem q2478 : (Jvm.Cond.code ({ cls := "SkeletonsModel", name := "chosen", desc := "(II)I" } : Jvm.MethodName) prog_21_method_50_code (5 : Nat) (Option.some Jvm.ClassFile.FieldType.int)) ∈ lw_all := lw_g (lw_at lw_m10 190 rfl) rfl
theorem q2479 : (Jvm.Cond.methodLink "SkeletonsModel" (302 : Nat) ({ cls := "SkeletonsModel", name := "multiplies", desc := "()V" } : Jvm.MethodName)) ∈ lw_all := lw_g (lw_at lw_m10 191 rfl) rfl
theorem q2480 : (Jvm.Cond.privateMethod ({ cls := "SkeletonsModel", name := "multiplies", desc := "()V" } : Jvm.MethodName)) ∈ lw_tbl := lw_at lw_m10 192 rfl
theorem q2481 : (Jvm.Cond.instanceMethod ({ cls := "SkeletonsModel", name := "multiplies", desc := "()V" } : Jvm.MethodName)) ∈ lw_all := lw_g (lw_at lw_m10 193 rfl) rfl
theorem q2482 : (Jvm.Cond.code ({ cls := "SkeletonsModel", name := "multiplies", desc := "()V" } : Jvm.MethodName) prog_21_method_46_code (3 : Nat) (Option.none : Option Jvm.ClassFile.FieldType)) ∈ lw_all := lw_g (lw_at lw_m10 194 rfl) rfl
theorem q2483 : (Jvm.Cond.methodLink "SkeletonsModel" (353 : Nat) ({ cls := "SkeletonsModel", name := "codes", desc := "()V" } : Jvm.MethodName)) ∈ lw_all := lw_g (lw_at lw_m10 195 rfl) rfl
theorem q2484 : (Jvm.Cond.privateMethod ({ cls := "SkeletonsModel", name := "codes", desc := "()V" } : Jvm.MethodName)) ∈ lw_tbl := lw_at lw_m10 196 rfl
theorem q2485 : (Jvm.Cond.instanceMethod ({ cls := "SkeletonsModel", name := "codes", desc := "()V" } : Jvm.MethodName)) ∈ lw_all := lw_g (lw_at lw_m10 197 rfl) rfl
theorem q2486 : (Jvm.Cond.code ({ cls := "SkeletonsModel", name := "codes", desc := "()V" } : Jvm.MethodName) prog_21_method_60_code (6 : Nat) (Option.none : Option Jvm.ClassFile.FieldType)) ∈ lw_all := lw_g (lw_at lw_m10 198 rfl) rfl
theorem q2487 : (Jvm.Cond.methodLink "SkeletonsModel" (338 : Nat) ({ cls := "SkeletonsModel", name := "first", desc := "()I" } : Jvm.MethodName)) ∈ lw_all := lw_g (lw_at lw_m10 199 rfl) rfl
theorem q2488 : (Jvm.Cond.privateMethod ({ cls := "SkeletonsModel", name := "first", desc := "()I" } : Jvm.MethodName)) ∈ lw_tbl := lw_at lw_m10 200 rfl
theorem q2489 : (Jvm.Cond.instanceMethod ({ cls := "SkeletonsModel", name := "first", desc := "()I" } : Jvm.MethodName)) ∈ lw_all := lw_g (lw_at lw_m10 201 rfl) rfl
theorem q2490 : (Jvm.Cond.code ({ cls := "SkeletonsModel", name := "first", desc := "()I" } : Jvm.MethodName) prog_21_method_59_code (3 : Nat) (Option.some Jvm.ClassFile.FieldType.int)) ∈ lw_all := lw_g (lw_at lw_m10 202 rfl) rfl
theorem q2491 : (Jvm.Cond.methodLink "SkeletonsModel" (335 : Nat) ({ cls := "SkeletonsModel", name := "centroidAt", desc := "(I)I" } : Jvm.MethodName)) ∈ lw_all := lw_g (lw_at lw_m10 203 rfl) rfl
theorem q2492 : (Jvm.Cond.privateMethod ({ cls := "SkeletonsModel", name := "centroidAt", desc := "(I)I" } : Jvm.MethodName)) ∈ lw_tbl := lw_at lw_m10 204 rfl
theorem q2493 : (Jvm.Cond.instanceMethod ({ cls := "SkeletonsModel", name := "centroidAt", desc := "(I)I" } : Jvm.MethodName)) ∈ lw_all := lw_g (lw_at lw_m10 205 rfl) rfl
theorem q2494 : (Jvm.Cond.code ({ cls := "SkeletonsModel", name := "centroidAt", desc := "(I)I" } : Jvm.MethodName) prog_21_method_58_code (4 : Nat) (Option.some Jvm.ClassFile.FieldType.int)) ∈ lw_all := lw_g (lw_at lw_m10 206 rfl) rfl
theorem q2495 : (Jvm.Cond.methodLink "SkeletonsModel" (332 : Nat) ({ cls := "SkeletonsModel", name := "isCentroid", desc := "(I)Z" } : Jvm.MethodName)) ∈ lw_all := lw_g (lw_at lw_m10 207 rfl) rfl
theorem q2496 : (Jvm.Cond.privateMethod ({ cls := "SkeletonsModel", name := "isCentroid", desc := "(I)Z" } : Jvm.MethodName)) ∈ lw_tbl := lw_at lw_m10 208 rfl
theorem q2497 : (Jvm.Cond.instanceMethod ({ cls := "SkeletonsModel", name := "isCentroid", desc := "(I)Z" } : Jvm.MethodName)) ∈ lw_all := lw_g (lw_at lw_m10 209 rfl) rfl
theorem q2498 : (Jvm.Cond.code ({ cls := "SkeletonsModel", name := "isCentroid", desc := "(I)Z" } : Jvm.MethodName) prog_21_method_57_code (3 : Nat) (Option.some Jvm.ClassFile.FieldType.boolean)) ∈ lw_all := lw_g (lw_at lw_m10 210 rfl) rfl
theorem q2499 : (Jvm.Cond.methodLink "SkeletonsModel" (356 : Nat) ({ cls := "SkeletonsModel", name := "comesIn", desc := "(I)V" } : Jvm.MethodName)) ∈ lw_all := lw_g (lw_at lw_m10 211 rfl) rfl
theorem q2500 : (Jvm.Cond.privateMethod ({ cls := "SkeletonsModel", name := "comesIn", desc := "(I)V" } : Jvm.MethodName)) ∈ lw_tbl := lw_at lw_m10 212 rfl
theorem q2501 : (Jvm.Cond.instanceMethod ({ cls := "SkeletonsModel", name := "comesIn", desc := "(I)V" } : Jvm.MethodName)) ∈ lw_all := lw_g (lw_at lw_m10 213 rfl) rfl
theorem q2502 : (Jvm.Cond.code ({ cls := "SkeletonsModel", name := "comesIn", desc := "(I)V" } : Jvm.MethodName) prog_21_method_65_code (4 : Nat) (Option.none : Option Jvm.ClassFile.FieldType)) ∈ lw_all := lw_g (lw_at lw_m10 214 rfl) rfl
theorem q2503 : (Jvm.Cond.methodLink "SkeletonsModel" (347 : Nat) ({ cls := "SkeletonsModel", name := "placeOfDepths", desc := "(I)I" } : Jvm.MethodName)) ∈ lw_all := lw_g (lw_at lw_m10 215 rfl) rfl
theorem q2504 : (Jvm.Cond.privateMethod ({ cls := "SkeletonsModel", name := "placeOfDepths", desc := "(I)I" } : Jvm.MethodName)) ∈ lw_tbl := lw_at lw_m10 216 rfl
theorem q2505 : (Jvm.Cond.instanceMethod ({ cls := "SkeletonsModel", name := "placeOfDepths", desc := "(I)I" } : Jvm.MethodName)) ∈ lw_all := lw_g (lw_at lw_m10 217 rfl) rfl
theorem q2506 : (Jvm.Cond.code ({ cls := "SkeletonsModel", name := "placeOfDepths", desc := "(I)I" } : Jvm.MethodName) prog_21_method_64_code (3 : Nat) (Option.some Jvm.ClassFile.FieldType.int)) ∈ lw_all := lw_g (lw_at lw_m10 218 rfl) rfl
theorem q2507 : (Jvm.Cond.methodLink "SkeletonsModel" (344 : Nat) ({ cls := "SkeletonsModel", name := "againstCode", desc := "(II)I" } : Jvm.MethodName)) ∈ lw_all := lw_g (lw_at lw_m10 219 rfl) rfl
theorem q2508 : (Jvm.Cond.privateMethod ({ cls := "SkeletonsModel", name := "againstCode", desc := "(II)I" } : Jvm.MethodName)) ∈ lw_tbl := lw_at lw_m10 220 rfl
theorem q2509 : (Jvm.Cond.instanceMethod ({ cls := "SkeletonsModel", name := "againstCode", desc := "(II)I" } : Jvm.MethodName)) ∈ lw_all := lw_g (lw_at lw_m10 221 rfl) rfl
theorem q2510 : (Jvm.Cond.code ({ cls := "SkeletonsModel", name := "againstCode", desc := "(II)I" } : Jvm.MethodName) prog_21_method_63_code (4 : Nat) (Option.some Jvm.ClassFile.FieldType.int)) ∈ lw_all := lw_g (lw_at lw_m10 222 rfl) rfl
theorem q2512 : (Jvm.Cond.instanceMethod ({ cls := "SkeletonsModel", name := "listed", desc := "(III)I" } : Jvm.MethodName)) ∈ lw_all := lw_g (lw_at lw_m10 224 rfl) rfl
theorem q2513 : (Jvm.Cond.selects "SkeletonsModel" ({ cls := "SkeletonsModel", name := "listed", desc := "(III)I" } : Jvm.MethodName) ({ cls := "SkeletonsModel", name := "listed", desc := "(III)I" } : Jvm.MethodName)) ∈ lw_all := lw_g (lw_at lw_m10 225 rfl) rfl
theorem q2514 : (Jvm.Cond.code ({ cls := "SkeletonsModel", name := "listed", desc := "(III)I" } : Jvm.MethodName) prog_21_method_70_code (4 : Nat) (Option.some Jvm.ClassFile.FieldType.int)) ∈ lw_all := lw_g (lw_at lw_m10 226 rfl) rfl
theorem q2516 : (Jvm.Cond.instanceMethod ({ cls := "SkeletonsModel", name := "rank", desc := "()I" } : Jvm.MethodName)) ∈ lw_all := lw_g (lw_at lw_m10 228 rfl) rfl
theorem q2517 : (Jvm.Cond.selects "SkeletonsModel" ({ cls := "SkeletonsModel", name := "rank", desc := "()I" } : Jvm.MethodName) ({ cls := "SkeletonsModel", name := "rank", desc := "()I" } : Jvm.MethodName)) ∈ lw_all := lw_g (lw_at lw_m10 229 rfl) rfl
theorem q2518 : (Jvm.Cond.code ({ cls := "SkeletonsModel", name := "rank", desc := "()I" } : Jvm.MethodName) prog_21_method_71_code (1 : Nat) (Option.some Jvm.ClassFile.FieldType.int)) ∈ lw_all := lw_g (lw_at lw_m10 230 rfl) rfl
theorem q2519 : (Jvm.Cond.methodLink "SkeletonsModel" (374 : Nat) ({ cls := "SkeletonsModel", name := "looks", desc := "()V" } : Jvm.MethodName)) ∈ lw_all := lw_g (lw_at lw_m10 231 rfl) rfl
theorem q2520 : (Jvm.Cond.privateMethod ({ cls := "SkeletonsModel", name := "looks", desc := "()V" } : Jvm.MethodName)) ∈ lw_tbl := lw_at lw_m10 232 rfl
theorem q2521 : (Jvm.Cond.instanceMethod ({ cls := "SkeletonsModel", name := "looks", desc := "()V" } : Jvm.MethodName)) ∈ lw_all := lw_g (lw_at lw_m10 233 rfl) rfl
theorem q2522 : (Jvm.Cond.code ({ cls := "SkeletonsModel", name := "looks", desc := "()V" } : Jvm.MethodName) prog_21_method_56_code (1 : Nat) (Option.none : Option Jvm.ClassFile.FieldType)) ∈ lw_all := lw_g (lw_at lw_m10 234 rfl) rfl
theorem q2523 : (Jvm.Cond.methodLink "SkeletonsModel" (329 : Nat) ({ cls := "SkeletonsModel", name := "measures", desc := "()V" } : Jvm.MethodName)) ∈ lw_all := lw_g (lw_at lw_m10 235 rfl) rfl
theorem q2524 : (Jvm.Cond.privateMethod ({ cls := "SkeletonsModel", name := "measures", desc := "()V" } : Jvm.MethodName)) ∈ lw_tbl := lw_at lw_m10 236 rfl
theorem q2525 : (Jvm.Cond.instanceMethod ({ cls := "SkeletonsModel", name := "measures", desc := "()V" } : Jvm.MethodName)) ∈ lw_all := lw_g (lw_at lw_m10 237 rfl) rfl
theorem q2526 : (Jvm.Cond.code ({ cls := "SkeletonsModel", name := "measures", desc := "()V" } : Jvm.MethodName) prog_21_method_55_code (7 : Nat) (Option.none : Option Jvm.ClassFile.FieldType)) ∈ lw_all := lw_g (lw_at lw_m10 238 rfl) rfl
theorem q2528 : (Jvm.Cond.instanceMethod ({ cls := "SkeletonsModel", name := "code", desc := "(I)I" } : Jvm.MethodName)) ∈ lw_all := lw_g (lw_at lw_m11 0 rfl) rfl
theorem q2529 : (Jvm.Cond.selects "SkeletonsModel" ({ cls := "SkeletonsModel", name := "code", desc := "(I)I" } : Jvm.MethodName) ({ cls := "SkeletonsModel", name := "code", desc := "(I)I" } : Jvm.MethodName)) ∈ lw_all := lw_g (lw_at lw_m11 1 rfl) rfl
theorem q2530 : (Jvm.Cond.code ({ cls := "SkeletonsModel", name := "code", desc := "(I)I" } : Jvm.MethodName) prog_21_method_72_code (2 : Nat) (Option.some Jvm.ClassFile.FieldType.int)) ∈ lw_all := lw_g (lw_at lw_m11 2 rfl) rfl
theorem q2532 : (Jvm.Cond.instanceMethod ({ cls := "SkeletonsModel", name := "like", desc := "(I)I" } : Jvm.MethodName)) ∈ lw_all := lw_g (lw_at lw_m11 4 rfl) rfl
theorem q2533 : (Jvm.Cond.selects "SkeletonsModel" ({ cls := "SkeletonsModel", name := "like", desc := "(I)I" } : Jvm.MethodName) ({ cls := "SkeletonsModel", name := "like", desc := "(I)I" } : Jvm.MethodName)) ∈ lw_all := lw_g (lw_at lw_m11 5 rfl) rfl
theorem q2534 : (Jvm.Cond.code ({ cls := "SkeletonsModel", name := "like", desc := "(I)I" } : Jvm.MethodName) prog_21_method_73_code (3 : Nat) (Option.some Jvm.ClassFile.FieldType.int)) ∈ lw_all := lw_g (lw_at lw_m11 6 rfl) rfl
theorem q2536 : (Jvm.Cond.instanceMethod ({ cls := "SkeletonsModel", name := "centroid", desc := "(I)I" } : Jvm.MethodName)) ∈ lw_all := lw_g (lw_at lw_m11 8 rfl) rfl
theorem q2537 : (Jvm.Cond.selects "SkeletonsModel" ({ cls := "SkeletonsModel", name := "centroid", desc := "(I)I" } : Jvm.MethodName) ({ cls := "SkeletonsModel", name := "centroid", desc := "(I)I" } : Jvm.MethodName)) ∈ lw_all := lw_g (lw_at lw_m11 9 rfl) rfl
theorem q2538 : (Jvm.Cond.code ({ cls := "SkeletonsModel", name := "centroid", desc := "(I)I" } : Jvm.MethodName) prog_21_method_74_code (3 : Nat) (Option.some Jvm.ClassFile.FieldType.int)) ∈ lw_all := lw_g (lw_at lw_m11 10 rfl) rfl
theorem q2540 : (Jvm.Cond.instanceMethod ({ cls := "SkeletonsModel", name := "counted", desc := "(II)J" } : Jvm.MethodName)) ∈ lw_all := lw_g (lw_at lw_m11 12 rfl) rfl
theorem q2541 : (Jvm.Cond.selects "SkeletonsModel" ({ cls := "SkeletonsModel", name := "counted", desc := "(II)J" } : Jvm.MethodName) ({ cls := "SkeletonsModel", name := "counted", desc := "(II)J" } : Jvm.MethodName)) ∈ lw_all := lw_g (lw_at lw_m11 13 rfl) rfl
theorem q2542 : (Jvm.Cond.code ({ cls := "SkeletonsModel", name := "counted", desc := "(II)J" } : Jvm.MethodName) prog_21_method_88_code (3 : Nat) (Option.some Jvm.ClassFile.FieldType.long)) ∈ lw_all := lw_g (lw_at lw_m11 14 rfl) rfl
theorem q2543 : (Jvm.Cond.constantLong "SkeletonsModel" (414 : Nat) (40 : Int64)) ∈ lw_all := lw_g (lw_at lw_m11 15 rfl) rfl
theorem q2544 : (Jvm.Cond.constantLong "SkeletonsModel" (416 : Nat) (4 : Int64)) ∈ lw_all := lw_g (lw_at lw_m11 16 rfl) rfl
theorem q2545 : (Jvm.Cond.constantLong "SkeletonsModel" (418 : Nat) (-1 : Int64)) ∈ lw_all := lw_g (lw_at lw_m11 17 rfl) rfl
theorem q2546 : (Jvm.Cond.methodLink "SkeletonsModel" (420 : Nat) ({ cls := "SkeletonsModel", name := "countsAll", desc := "()V" } : Jvm.MethodName)) ∈ lw_all := lw_g (lw_at lw_m11 18 rfl) rfl
theorem q2547 : (Jvm.Cond.privateMethod ({ cls := "SkeletonsModel", name := "countsAll", desc := "()V" } : Jvm.MethodName)) ∈ lw_tbl := lw_at lw_m11 19 rfl
theorem q2548 : (Jvm.Cond.instanceMethod ({ cls := "SkeletonsModel", name := "countsAll", desc := "()V" } : Jvm.MethodName)) ∈ lw_all := lw_g (lw_at lw_m11 20 rfl) rfl
theorem q2549 : (Jvm.Cond.code ({ cls := "SkeletonsModel", name := "countsAll", desc := "()V" } : Jvm.MethodName) prog_21_method_78_code (3 : Nat) (Option.none : Option Jvm.ClassFile.FieldType)) ∈ lw_all := lw_g (lw_at lw_m11 21 rfl) rfl
theorem q2550 : (Jvm.Cond.methodLink "SkeletonsModel" (380 : Nat) ({ cls := "SkeletonsModel", name := "three", desc := "([JI)J" } : Jvm.MethodName)) ∈ lw_all := lw_g (lw_at lw_m11 22 rfl) rfl
theorem q2551 : (Jvm.Cond.static ({ cls := "SkeletonsModel", name := "three", desc := "([JI)J" } : Jvm.MethodName)) ∈ lw_all := lw_g (lw_at lw_m11 23 rfl) rfl
theorem q2552 : (Jvm.Cond.code ({ cls := "SkeletonsModel", name := "three", desc := "([JI)J" } : Jvm.MethodName) prog_21_method_75_code (6 : Nat) (Option.some Jvm.ClassFile.FieldType.long)) ∈ lw_all := lw_g (lw_at lw_m11 24 rfl) rfl
theorem q2553 : (Jvm.Cond.methodLink "SkeletonsModel" (384 : Nat) ({ cls := "SkeletonsModel", name := "twoAndOne", desc := "([J[JI)J" } : Jvm.MethodName)) ∈ lw_all := lw_g (lw_at lw_m11 25 rfl) rfl
theorem q2554 : (Jvm.Cond.static ({ cls := "SkeletonsModel", name := "twoAndOne", desc := "([J[JI)J" } : Jvm.MethodName)) ∈ lw_all := lw_g (lw_at lw_m11 26 rfl) rfl
theorem q2555 : (Jvm.Cond.code ({ cls := "SkeletonsModel", name := "twoAndOne", desc := "([J[JI)J" } : Jvm.MethodName) prog_21_method_76_code (6 : Nat) (Option.some Jvm.ClassFile.FieldType.long)) ∈ lw_all := lw_g (lw_at lw_m11 27 rfl) rfl
theorem q2556 : (Jvm.Cond.methodLink "SkeletonsModel" (388 : Nat) ({ cls := "SkeletonsModel", name := "allAlike", desc := "([JII)J" } : Jvm.MethodName)) ∈ lw_all := lw_g (lw_at lw_m11 28 rfl) rfl
theorem q2557 : (Jvm.Cond.static ({ cls := "SkeletonsModel", name := "allAlike", desc := "([JII)J" } : Jvm.MethodName)) ∈ lw_all := lw_g (lw_at lw_m11 29 rfl) rfl
theorem q2558 : (Jvm.Cond.code ({ cls := "SkeletonsModel", name := "allAlike", desc := "([JII)J" } : Jvm.MethodName) prog_21_method_77_code (3 : Nat) (Option.some Jvm.ClassFile.FieldType.long)) ∈ lw_all := lw_g (lw_at lw_m11 30 rfl) rfl
theorem q2559 : (Jvm.Cond.methodLink "SkeletonsModel" (423 : Nat) ({ cls := "SkeletonsModel", name := "skeletons", desc := "(I)J" } : Jvm.MethodName)) ∈ lw_all := lw_g (lw_at lw_m11 31 rfl) rfl
theorem q2560 : (Jvm.Cond.privateMethod ({ cls := "SkeletonsModel", name := "skeletons", desc := "(I)J" } : Jvm.MethodName)) ∈ lw_tbl := lw_at lw_m11 32 rfl
theorem q2561 : (Jvm.Cond.instanceMethod ({ cls := "SkeletonsModel", name := "skeletons", desc := "(I)J" } : Jvm.MethodName)) ∈ lw_all := lw_g (lw_at lw_m11 33 rfl) rfl
theorem q2562 : (Jvm.Cond.code ({ cls := "SkeletonsModel", name := "skeletons", desc := "(I)J" } : Jvm.MethodName) prog_21_method_85_code (7 : Nat) (Option.some Jvm.ClassFile.FieldType.long)) ∈ lw_all := lw_g (lw_at lw_m11 34 rfl) rfl
theorem q2563 : (Jvm.Cond.methodLink "SkeletonsModel" (395 : Nat) ({ cls := "SkeletonsModel", name := "takesSome", desc := "([J[JI)V" } : Jvm.MethodName)) ∈ lw_all := lw_g (lw_at lw_m11 35 rfl) rfl
theorem q2564 : (Jvm.Cond.static ({ cls := "SkeletonsModel", name := "takesSome", desc := "([J[JI)V" } : Jvm.MethodName)) ∈ lw_all := lw_g (lw_at lw_m11 36 rfl) rfl
theorem q2565 : (Jvm.Cond.code ({ cls := "SkeletonsModel", name := "takesSome", desc := "([J[JI)V" } : Jvm.MethodName) prog_21_method_79_code (4 : Nat) (Option.none : Option Jvm.ClassFile.FieldType)) ∈ lw_all := lw_g (lw_at lw_m11 37 rfl) rfl
theorem q2566 : (Jvm.Cond.methodLink "SkeletonsModel" (399 : Nat) ({ cls := "SkeletonsModel", name := "four", desc := "([JI)J" } : Jvm.MethodName)) ∈ lw_all := lw_g (lw_at lw_m11 38 rfl) rfl
theorem q2567 : (Jvm.Cond.static ({ cls := "SkeletonsModel", name := "four", desc := "([JI)J" } : Jvm.MethodName)) ∈ lw_all := lw_g (lw_at lw_m11 39 rfl) rfl
theorem q2568 : (Jvm.Cond.code ({ cls := "SkeletonsModel", name := "four", desc := "([JI)J" } : Jvm.MethodName) prog_21_method_80_code (5 : Nat) (Option.some Jvm.ClassFile.FieldType.long)) ∈ lw_all := lw_g (lw_at lw_m11 40 rfl) rfl
theorem q2569 : (Jvm.Cond.methodLink "SkeletonsModel" (392 : Nat) ({ cls := "SkeletonsModel", name := "pairs", desc := "([JI)J" } : Jvm.MethodName)) ∈ lw_all := lw_g (lw_at lw_m11 41 rfl) rfl
theorem q2570 : (Jvm.Cond.static ({ cls := "SkeletonsModel", name := "pairs", desc := "([JI)J" } : Jvm.MethodName)) ∈ lw_all := lw_g (lw_at lw_m11 42 rfl) rfl
theorem q2571 : (Jvm.Cond.code ({ cls := "SkeletonsModel", name := "pairs", desc := "([JI)J" } : Jvm.MethodName) prog_21_method_81_code (5 : Nat) (Option.some Jvm.ClassFile.FieldType.long)) ∈ lw_all := lw_g (lw_at lw_m11 43 rfl) rfl
theorem q2572 : (Jvm.Cond.methodLink "SkeletonsModel" (401 : Nat) ({ cls := "SkeletonsModel", name := "twoAndTwoMore", desc := "([J[JI)J" } : Jvm.MethodName)) ∈ lw_all := lw_g (lw_at lw_m11 44 rfl) rfl
theorem q2573 : (Jvm.Cond.static ({ cls := "SkeletonsModel", name := "twoAndTwoMore", desc := "([J[JI)J" } : Jvm.MethodName)) ∈ lw_all := lw_g (lw_at lw_m11 45 rfl) rfl
theorem q2574 : (Jvm.Cond.code ({ cls := "SkeletonsModel", name := "twoAndTwoMore", desc := "([J[JI)J" } : Jvm.MethodName) prog_21_method_84_code (6 : Nat) (Option.some Jvm.ClassFile.FieldType.long)) ∈ lw_all := lw_g (lw_at lw_m11 46 rfl) rfl
theorem q2575 : (Jvm.Cond.methodLink "SkeletonsModel" (404 : Nat) ({ cls := "SkeletonsModel", name := "twoTwos", desc := "([JI)J" } : Jvm.MethodName)) ∈ lw_all := lw_g (lw_at lw_m11 47 rfl) rfl
theorem q2576 : (Jvm.Cond.static ({ cls := "SkeletonsModel", name := "twoTwos", desc := "([JI)J" } : Jvm.MethodName)) ∈ lw_all := lw_g (lw_at lw_m11 48 rfl) rfl
theorem q2577 : (Jvm.Cond.code ({ cls := "SkeletonsModel", name := "twoTwos", desc := "([JI)J" } : Jvm.MethodName) prog_21_method_82_code (2 : Nat) (Option.some Jvm.ClassFile.FieldType.long)) ∈ lw_all := lw_g (lw_at lw_m11 49 rfl) rfl
theorem q2578 : (Jvm.Cond.constantLong "SkeletonsModel" (407 : Nat) (8 : Int64)) ∈ lw_all := lw_g (lw_at lw_m11 50 rfl) rfl
theorem q2579 : (Jvm.Cond.methodLink "SkeletonsModel" (409 : Nat) ({ cls := "SkeletonsModel", name := "threeAndOne", desc := "([JI)J" } : Jvm.MethodName)) ∈ lw_all := lw_g (lw_at lw_m11 51 rfl) rfl
theorem q2580 : (Jvm.Cond.static ({ cls := "SkeletonsModel", name := "threeAndOne", desc := "([JI)J" } : Jvm.MethodName)) ∈ lw_all := lw_g (lw_at lw_m11 52 rfl) rfl
theorem q2581 : (Jvm.Cond.code ({ cls := "SkeletonsModel", name := "threeAndOne", desc := "([JI)J" } : Jvm.MethodName) prog_21_method_83_code (5 : Nat) (Option.some Jvm.ClassFile.FieldType.long)) ∈ lw_all := lw_g (lw_at lw_m11 53 rfl) rfl
theorem q2582 : (Jvm.Cond.methodLink "SkeletonsModel" (426 : Nat) ({ cls := "SkeletonsModel", name := "formsOfAll", desc := "(I)J" } : Jvm.MethodName)) ∈ lw_all := lw_g (lw_at lw_m11 54 rfl) rfl
theorem q2583 : (Jvm.Cond.privateMethod ({ cls := "SkeletonsModel", name := "formsOfAll", desc := "(I)J" } : Jvm.MethodName)) ∈ lw_tbl := lw_at lw_m11 55 rfl
theorem q2584 : (Jvm.Cond.instanceMethod ({ cls := "SkeletonsModel", name := "formsOfAll", desc := "(I)J" } : Jvm.MethodName)) ∈ lw_all := lw_g (lw_at lw_m11 56 rfl) rfl
theorem q2585 : (Jvm.Cond.code ({ cls := "SkeletonsModel", name := "formsOfAll", desc := "(I)J" } : Jvm.MethodName) prog_21_method_86_code (7 : Nat) (Option.some Jvm.ClassFile.FieldType.long)) ∈ lw_all := lw_g (lw_at lw_m11 57 rfl) rfl
theorem q2586 : (Jvm.Cond.constantLong "SkeletonsModel" (412 : Nat) (12 : Int64)) ∈ lw_all := lw_g (lw_at lw_m11 58 rfl) rfl
theorem q2587 : (Jvm.Cond.methodLink "SkeletonsModel" (429 : Nat) ({ cls := "SkeletonsModel", name := "ownOfAll", desc := "(I)J" } : Jvm.MethodName)) ∈ lw_all := lw_g (lw_at lw_m11 59 rfl) rfl
theorem q2588 : (Jvm.Cond.privateMethod ({ cls := "SkeletonsModel", name := "ownOfAll", desc := "(I)J" } : Jvm.MethodName)) ∈ lw_tbl := lw_at lw_m11 60 rfl
theorem q2589 : (Jvm.Cond.instanceMethod ({ cls := "SkeletonsModel", name := "ownOfAll", desc := "(I)J" } : Jvm.MethodName)) ∈ lw_all := lw_g (lw_at lw_m11 61 rfl) rfl
theorem q2590 : (Jvm.Cond.code ({ cls := "SkeletonsModel", name := "ownOfAll", desc := "(I)J" } : Jvm.MethodName) prog_21_method_87_code (7 : Nat) (Option.some Jvm.ClassFile.FieldType.long)) ∈ lw_all := lw_g (lw_at lw_m11 62 rfl) rfl
theorem q2592 : (Jvm.Cond.instanceMethod ({ cls := "SkeletonsModel", name := "such", desc := "(III)I" } : Jvm.MethodName)) ∈ lw_all := lw_g (lw_at lw_m11 64 rfl) rfl
theorem q2593 : (Jvm.Cond.selects "SkeletonsModel" ({ cls := "SkeletonsModel", name := "such", desc := "(III)I" } : Jvm.MethodName) ({ cls := "SkeletonsModel", name := "such", desc := "(III)I" } : Jvm.MethodName)) ∈ lw_all := lw_g (lw_at lw_m11 65 rfl) rfl
theorem q2594 : (Jvm.Cond.code ({ cls := "SkeletonsModel", name := "such", desc := "(III)I" } : Jvm.MethodName) prog_21_method_100_code (6 : Nat) (Option.some Jvm.ClassFile.FieldType.int)) ∈ lw_all := lw_g (lw_at lw_m11 66 rfl) rfl
theorem q2595 : (Jvm.Cond.methodLink "SkeletonsModel" (459 : Nat) ({ cls := "SkeletonsModel", name := "has", desc := "(I)I" } : Jvm.MethodName)) ∈ lw_all := lw_g (lw_at lw_m11 67 rfl) rfl
theorem q2596 : (Jvm.Cond.privateMethod ({ cls := "SkeletonsModel", name := "has", desc := "(I)I" } : Jvm.MethodName)) ∈ lw_tbl := lw_at lw_m11 68 rfl
theorem q2597 : (Jvm.Cond.instanceMethod ({ cls := "SkeletonsModel", name := "has", desc := "(I)I" } : Jvm.MethodName)) ∈ lw_all := lw_g (lw_at lw_m11 69 rfl) rfl
theorem q2598 : (Jvm.Cond.code ({ cls := "SkeletonsModel", name := "has", desc := "(I)I" } : Jvm.MethodName) prog_21_method_99_code (2 : Nat) (Option.some Jvm.ClassFile.FieldType.int)) ∈ lw_all := lw_g (lw_at lw_m11 70 rfl) rfl
theorem q2599 : (Jvm.Cond.methodLink "SkeletonsModel" (447 : Nat) ({ cls := "SkeletonsModel", name := "longest", desc := "()I" } : Jvm.MethodName)) ∈ lw_all := lw_g (lw_at lw_m11 71 rfl) rfl
theorem q2600 : (Jvm.Cond.privateMethod ({ cls := "SkeletonsModel", name := "longest", desc := "()I" } : Jvm.MethodName)) ∈ lw_tbl := lw_at lw_m11 72 rfl
theorem q2601 : (Jvm.Cond.instanceMethod ({ cls := "SkeletonsModel", name := "longest", desc := "()I" } : Jvm.MethodName)) ∈ lw_all := lw_g (lw_at lw_m11 73 rfl) rfl
theorem q2602 : (Jvm.Cond.code ({ cls := "SkeletonsModel", name := "longest", desc := "()I" } : Jvm.MethodName) prog_21_method_94_code (3 : Nat) (Option.some Jvm.ClassFile.FieldType.int)) ∈ lw_all := lw_g (lw_at lw_m11 74 rfl) rfl
theorem q2603 : (Jvm.Cond.methodLink "SkeletonsModel" (435 : Nat) ({ cls := "SkeletonsModel", name := "farthest", desc := "(I)I" } : Jvm.MethodName)) ∈ lw_all := lw_g (lw_at lw_m11 75 rfl) rfl
theorem q2604 : (Jvm.Cond.privateMethod ({ cls := "SkeletonsModel", name := "farthest", desc := "(I)I" } : Jvm.MethodName)) ∈ lw_tbl := lw_at lw_m11 76 rfl
theorem q2605 : (Jvm.Cond.instanceMethod ({ cls := "SkeletonsModel", name := "farthest", desc := "(I)I" } : Jvm.MethodName)) ∈ lw_all := lw_g (lw_at lw_m11 77 rfl) rfl
theorem q2606 : (Jvm.Cond.code ({ cls := "SkeletonsModel", name := "farthest", desc := "(I)I" } : Jvm.MethodName) prog_21_method_91_code (4 : Nat) (Option.some Jvm.ClassFile.FieldType.int)) ∈ lw_all := lw_g (lw_at lw_m11 78 rfl) rfl
theorem q2607 : (Jvm.Cond.methodLink "SkeletonsModel" (450 : Nat) ({ cls := "SkeletonsModel", name := "withNeighbours", desc := "(I)I" } : Jvm.MethodName)) ∈ lw_all := lw_g (lw_at lw_m11 79 rfl) rfl
theorem q2608 : (Jvm.Cond.privateMethod ({ cls := "SkeletonsModel", name := "withNeighbours", desc := "(I)I" } : Jvm.MethodName)) ∈ lw_tbl := lw_at lw_m11 80 rfl
theorem q2609 : (Jvm.Cond.instanceMethod ({ cls := "SkeletonsModel", name := "withNeighbours", desc := "(I)I" } : Jvm.MethodName)) ∈ lw_all := lw_g (lw_at lw_m11 81 rfl) rfl
theorem q2610 : (Jvm.Cond.code ({ cls := "SkeletonsModel", name := "withNeighbours", desc := "(I)I" } : Jvm.MethodName) prog_21_method_95_code (4 : Nat) (Option.some Jvm.ClassFile.FieldType.int)) ∈ lw_all := lw_g (lw_at lw_m11 82 rfl) rfl
theorem q2611 : (Jvm.Cond.methodLink "SkeletonsModel" (453 : Nat) ({ cls := "SkeletonsModel", name := "asymmetricMany", desc := "()I" } : Jvm.MethodName)) ∈ lw_all := lw_g (lw_at lw_m11 83 rfl) rfl
theorem q2612 : (Jvm.Cond.privateMethod ({ cls := "SkeletonsModel", name := "asymmetricMany", desc := "()I" } : Jvm.MethodName)) ∈ lw_tbl := lw_at lw_m11 84 rfl
theorem q2613 : (Jvm.Cond.instanceMethod ({ cls := "SkeletonsModel", name := "asymmetricMany", desc := "()I" } : Jvm.MethodName)) ∈ lw_all := lw_g (lw_at lw_m11 85 rfl) rfl
theorem q2614 : (Jvm.Cond.code ({ cls := "SkeletonsModel", name := "asymmetricMany", desc := "()I" } : Jvm.MethodName) prog_21_method_96_code (3 : Nat) (Option.some Jvm.ClassFile.FieldType.int)) ∈ lw_all := lw_g (lw_at lw_m11 86 rfl) rfl
theorem q2615 : (Jvm.Cond.methodLink "SkeletonsModel" (438 : Nat) ({ cls := "SkeletonsModel", name := "isAsymmetric", desc := "(I)Z" } : Jvm.MethodName)) ∈ lw_all := lw_g (lw_at lw_m11 87 rfl) rfl
theorem q2616 : (Jvm.Cond.privateMethod ({ cls := "SkeletonsModel", name := "isAsymmetric", desc := "(I)Z" } : Jvm.MethodName)) ∈ lw_tbl := lw_at lw_m11 88 rfl
theorem q2617 : (Jvm.Cond.instanceMethod ({ cls := "SkeletonsModel", name := "isAsymmetric", desc := "(I)Z" } : Jvm.MethodName)) ∈ lw_all := lw_g (lw_at lw_m11 89 rfl) rfl
theorem q2618 : (Jvm.Cond.code ({ cls := "SkeletonsModel", name := "isAsymmetric", desc := "(I)Z" } : Jvm.MethodName) prog_21_method_90_code (5 : Nat) (Option.some Jvm.ClassFile.FieldType.boolean)) ∈ lw_all := lw_g (lw_at lw_m11 90 rfl) rfl
theorem q2619 : (Jvm.Cond.methodLink "SkeletonsModel" (432 : Nat) ({ cls := "SkeletonsModel", name := "rootAt", desc := "(I)I" } : Jvm.MethodName)) ∈ lw_all := lw_g (lw_at lw_m11 91 rfl) rfl
theorem q2620 : (Jvm.Cond.privateMethod ({ cls := "SkeletonsModel", name := "rootAt", desc := "(I)I" } : Jvm.MethodName)) ∈ lw_tbl := lw_at lw_m11 92 rfl
theorem q2621 : (Jvm.Cond.instanceMethod ({ cls := "SkeletonsModel", name := "rootAt", desc := "(I)I" } : Jvm.MethodName)) ∈ lw_all := lw_g (lw_at lw_m11 93 rfl) rfl
theorem q2622 : (Jvm.Cond.code ({ cls := "SkeletonsModel", name := "rootAt", desc := "(I)I" } : Jvm.MethodName) prog_21_method_89_code (2 : Nat) (Option.some Jvm.ClassFile.FieldType.int)) ∈ lw_all := lw_g (lw_at lw_m11 94 rfl) rfl
theorem q2623 : (Jvm.Cond.methodLink "SkeletonsModel" (456 : Nat) ({ cls := "SkeletonsModel", name := "unlike", desc := "()I" } : Jvm.MethodName)) ∈ lw_all := lw_g (lw_at lw_m11 95 rfl) rfl
theorem q2624 : (Jvm.Cond.privateMethod ({ cls := "SkeletonsModel", name := "unlike", desc := "()I" } : Jvm.MethodName)) ∈ lw_tbl := lw_at lw_m11 96 rfl
theorem q2625 : (Jvm.Cond.instanceMethod ({ cls := "SkeletonsModel", name := "unlike", desc := "()I" } : Jvm.MethodName)) ∈ lw_all := lw_g (lw_at lw_m11 97 rfl) rfl
theorem q2626 : (Jvm.Cond.code ({ cls := "SkeletonsModel", name := "unlike", desc := "()I" } : Jvm.MethodName) prog_21_method_97_code (3 : Nat) (Option.some Jvm.ClassFile.FieldType.int)) ∈ lw_all := lw_g (lw_at lw_m11 98 rfl) rfl
theorem q2627 : (Jvm.Cond.methodLink "SkeletonsModel" (441 : Nat) ({ cls := "SkeletonsModel", name := "leastLike", desc := "(I)I" } : Jvm.MethodName)) ∈ lw_all := lw_g (lw_at lw_m11 99 rfl) rfl
theorem q2628 : (Jvm.Cond.privateMethod ({ cls := "SkeletonsModel", name := "leastLike", desc := "(I)I" } : Jvm.MethodName)) ∈ lw_tbl := lw_at lw_m11 100 rfl
theorem q2629 : (Jvm.Cond.instanceMethod ({ cls := "SkeletonsModel", name := "leastLike", desc := "(I)I" } : Jvm.MethodName)) ∈ lw_all := lw_g (lw_at lw_m11 101 rfl) rfl
theorem q2630 : (Jvm.Cond.code ({ cls := "SkeletonsModel", name := "leastLike", desc := "(I)I" } : Jvm.MethodName) prog_21_method_93_code (3 : Nat) (Option.some Jvm.ClassFile.FieldType.int)) ∈ lw_all := lw_g (lw_at lw_m11 102 rfl) rfl
theorem q2632 : (Jvm.Cond.instanceMethod ({ cls := "SkeletonsModel", name := "about", desc := "(II)I" } : Jvm.MethodName)) ∈ lw_all := lw_g (lw_at lw_m11 104 rfl) rfl
theorem q2633 : (Jvm.Cond.selects "SkeletonsModel" ({ cls := "SkeletonsModel", name := "about", desc := "(II)I" } : Jvm.MethodName) ({ cls := "SkeletonsModel", name := "about", desc := "(II)I" } : Jvm.MethodName)) ∈ lw_all := lw_g (lw_at lw_m11 105 rfl) rfl
theorem q2634 : (Jvm.Cond.code ({ cls := "SkeletonsModel", name := "about", desc := "(II)I" } : Jvm.MethodName) prog_21_method_101_code (3 : Nat) (Option.some Jvm.ClassFile.FieldType.int)) ∈ lw_all := lw_g (lw_at lw_m11 106 rfl) rfl
theorem q2635 : (Jvm.Cond.methodLink "SkeletonsModel" (444 : Nat) ({ cls := "SkeletonsModel", name := "together", desc := "(I)I" } : Jvm.MethodName)) ∈ lw_all := lw_g (lw_at lw_m11 107 rfl) rfl
theorem q2636 : (Jvm.Cond.privateMethod ({ cls := "SkeletonsModel", name := "together", desc := "(I)I" } : Jvm.MethodName)) ∈ lw_tbl := lw_at lw_m11 108 rfl
theorem q2637 : (Jvm.Cond.instanceMethod ({ cls := "SkeletonsModel", name := "together", desc := "(I)I" } : Jvm.MethodName)) ∈ lw_all := lw_g (lw_at lw_m11 109 rfl) rfl
theorem q2638 : (Jvm.Cond.code ({ cls := "SkeletonsModel", name := "together", desc := "(I)I" } : Jvm.MethodName) prog_21_method_92_code (4 : Nat) (Option.some Jvm.ClassFile.FieldType.int)) ∈ lw_all := lw_g (lw_at lw_m11 110 rfl) rfl
theorem q2640 : (Jvm.Cond.instanceMethod ({ cls := "SkeletonsModel", name := "neighbour", desc := "(II)I" } : Jvm.MethodName)) ∈ lw_all := lw_g (lw_at lw_m11 112 rfl) rfl
theorem q2641 : (Jvm.Cond.selects "SkeletonsModel" ({ cls := "SkeletonsModel", name := "neighbour", desc := "(II)I" } : Jvm.MethodName) ({ cls := "SkeletonsModel", name := "neighbour", desc := "(II)I" } : Jvm.MethodName)) ∈ lw_all := lw_g (lw_at lw_m11 113 rfl) rfl
theorem q2642 : (Jvm.Cond.code ({ cls := "SkeletonsModel", name := "neighbour", desc := "(II)I" } : Jvm.MethodName) prog_21_method_102_code (5 : Nat) (Option.some Jvm.ClassFile.FieldType.int)) ∈ lw_all := lw_g (lw_at lw_m11 114 rfl) rfl
theorem q2644 : (Jvm.Cond.instanceMethod ({ cls := "SkeletonsModel", name := "apart", desc := "(II)I" } : Jvm.MethodName)) ∈ lw_all := lw_g (lw_at lw_m11 116 rfl) rfl
theorem q2645 : (Jvm.Cond.selects "SkeletonsModel" ({ cls := "SkeletonsModel", name := "apart", desc := "(II)I" } : Jvm.MethodName) ({ cls := "SkeletonsModel", name := "apart", desc := "(II)I" } : Jvm.MethodName)) ∈ lw_all := lw_g (lw_at lw_m11 117 rfl) rfl
theorem q2646 : (Jvm.Cond.code ({ cls := "SkeletonsModel", name := "apart", desc := "(II)I" } : Jvm.MethodName) prog_21_method_103_code (3 : Nat) (Option.some Jvm.ClassFile.FieldType.int)) ∈ lw_all := lw_g (lw_at lw_m11 118 rfl) rfl
theorem q2648 : (Jvm.Cond.instanceMethod ({ cls := "SkeletonsModel", name := "branch", desc := "(III)J" } : Jvm.MethodName)) ∈ lw_all := lw_g (lw_at lw_m11 120 rfl) rfl
theorem q2649 : (Jvm.Cond.selects "SkeletonsModel" ({ cls := "SkeletonsModel", name := "branch", desc := "(III)J" } : Jvm.MethodName) ({ cls := "SkeletonsModel", name := "branch", desc := "(III)J" } : Jvm.MethodName)) ∈ lw_all := lw_g (lw_at lw_m11 121 rfl) rfl
theorem q2650 : (Jvm.Cond.code ({ cls := "SkeletonsModel", name := "branch", desc := "(III)J" } : Jvm.MethodName) prog_21_method_105_code (5 : Nat) (Option.some Jvm.ClassFile.FieldType.long)) ∈ lw_all := lw_g (lw_at lw_m11 122 rfl) rfl
theorem q2651 : (Jvm.Cond.methodLink "SkeletonsModel" (461 : Nat) ({ cls := "SkeletonsModel", name := "areBound", desc := "(II)Z" } : Jvm.MethodName)) ∈ lw_all := lw_g (lw_at lw_m11 123 rfl) rfl
theorem q2652 : (Jvm.Cond.privateMethod ({ cls := "SkeletonsModel", name := "areBound", desc := "(II)Z" } : Jvm.MethodName)) ∈ lw_tbl := lw_at lw_m11 124 rfl
theorem q2653 : (Jvm.Cond.instanceMethod ({ cls := "SkeletonsModel", name := "areBound", desc := "(II)Z" } : Jvm.MethodName)) ∈ lw_all := lw_g (lw_at lw_m11 125 rfl) rfl
theorem q2654 : (Jvm.Cond.code ({ cls := "SkeletonsModel", name := "areBound", desc := "(II)Z" } : Jvm.MethodName) prog_21_method_104_code (3 : Nat) (Option.some Jvm.ClassFile.FieldType.boolean)) ∈ lw_all := lw_g (lw_at lw_m11 126 rfl) rfl
theorem q2656 : (Jvm.Cond.instanceMethod ({ cls := "SkeletonsModel", name := "greater", desc := "(III)I" } : Jvm.MethodName)) ∈ lw_all := lw_g (lw_at lw_m11 128 rfl) rfl
theorem q2657 : (Jvm.Cond.selects "SkeletonsModel" ({ cls := "SkeletonsModel", name := "greater", desc := "(III)I" } : Jvm.MethodName) ({ cls := "SkeletonsModel", name := "greater", desc := "(III)I" } : Jvm.MethodName)) ∈ lw_all := lw_g (lw_at lw_m11 129 rfl) rfl
theorem q2658 : (Jvm.Cond.code ({ cls := "SkeletonsModel", name := "greater", desc := "(III)I" } : Jvm.MethodName) prog_21_method_106_code (4 : Nat) (Option.some Jvm.ClassFile.FieldType.int)) ∈ lw_all := lw_g (lw_at lw_m11 130 rfl) rfl
theorem q2660 : (Jvm.Cond.instanceMethod ({ cls := "SkeletonsModel", name := "forms", desc := "(I)J" } : Jvm.MethodName)) ∈ lw_all := lw_g (lw_at lw_m11 132 rfl) rfl
theorem q2661 : (Jvm.Cond.selects "SkeletonsModel" ({ cls := "SkeletonsModel", name := "forms", desc := "(I)J" } : Jvm.MethodName) ({ cls := "SkeletonsModel", name := "forms", desc := "(I)J" } : Jvm.MethodName)) ∈ lw_all := lw_g (lw_at lw_m11 133 rfl) rfl
theorem q2662 : (Jvm.Cond.code ({ cls := "SkeletonsModel", name := "forms", desc := "(I)J" } : Jvm.MethodName) prog_21_method_112_code (2 : Nat) (Option.some Jvm.ClassFile.FieldType.long)) ∈ lw_all := lw_g (lw_at lw_m11 134 rfl) rfl
theorem q2663 : (Jvm.Cond.methodLink "SkeletonsModel" (488 : Nat) ({ cls := "SkeletonsModel", name := "allForms", desc := "()J" } : Jvm.MethodName)) ∈ lw_all := lw_g (lw_at lw_m11 135 rfl) rfl
theorem q2664 : (Jvm.Cond.privateMethod ({ cls := "SkeletonsModel", name := "allForms", desc := "()J" } : Jvm.MethodName)) ∈ lw_tbl := lw_at lw_m11 136 rfl
theorem q2665 : (Jvm.Cond.instanceMethod ({ cls := "SkeletonsModel", name := "allForms", desc := "()J" } : Jvm.MethodName)) ∈ lw_all := lw_g (lw_at lw_m11 137 rfl) rfl
theorem q2666 : (Jvm.Cond.code ({ cls := "SkeletonsModel", name := "allForms", desc := "()J" } : Jvm.MethodName) prog_21_method_110_code (5 : Nat) (Option.some Jvm.ClassFile.FieldType.long)) ∈ lw_all := lw_g (lw_at lw_m11 138 rfl) rfl
theorem q2667 : (Jvm.Cond.methodLink "SkeletonsModel" (485 : Nat) ({ cls := "SkeletonsModel", name := "countsRows", desc := "(I)V" } : Jvm.MethodName)) ∈ lw_all := lw_g (lw_at lw_m11 139 rfl) rfl
theorem q2668 : (Jvm.Cond.privateMethod ({ cls := "SkeletonsModel", name := "countsRows", desc := "(I)V" } : Jvm.MethodName)) ∈ lw_tbl := lw_at lw_m11 140 rfl
theorem q2669 : (Jvm.Cond.instanceMethod ({ cls := "SkeletonsModel", name := "countsRows", desc := "(I)V" } : Jvm.MethodName)) ∈ lw_all := lw_g (lw_at lw_m11 141 rfl) rfl
theorem q2670 : (Jvm.Cond.code ({ cls := "SkeletonsModel", name := "countsRows", desc := "(I)V" } : Jvm.MethodName) prog_21_method_109_code (5 : Nat) (Option.none : Option Jvm.ClassFile.FieldType)) ∈ lw_all := lw_g (lw_at lw_m11 142 rfl) rfl
theorem q2671 : (Jvm.Cond.methodLink "SkeletonsModel" (477 : Nat) ({ cls := "SkeletonsModel", name := "countsRow", desc := "(IIII)V" } : Jvm.MethodName)) ∈ lw_all := lw_g (lw_at lw_m11 143 rfl) rfl
theorem q2672 : (Jvm.Cond.privateMethod ({ cls := "SkeletonsModel", name := "countsRow", desc := "(IIII)V" } : Jvm.MethodName)) ∈ lw_tbl := lw_at lw_m11 144 rfl
theorem q2673 : (Jvm.Cond.instanceMethod ({ cls := "SkeletonsModel", name := "countsRow", desc := "(IIII)V" } : Jvm.MethodName)) ∈ lw_all := lw_g (lw_at lw_m11 145 rfl) rfl
theorem q2674 : (Jvm.Cond.code ({ cls := "SkeletonsModel", name := "countsRow", desc := "(IIII)V" } : Jvm.MethodName) prog_21_method_107_code (9 : Nat) (Option.none : Option Jvm.ClassFile.FieldType)) ∈ lw_all := lw_g (lw_at lw_m11 146 rfl) rfl
theorem q2675 : (Jvm.Cond.methodLink "SkeletonsModel" (481 : Nat) ({ cls := "SkeletonsModel", name := "sameRows", desc := "()J" } : Jvm.MethodName)) ∈ lw_all := lw_g (lw_at lw_m11 147 rfl) rfl
theorem q2676 : (Jvm.Cond.privateMethod ({ cls := "SkeletonsModel", name := "sameRows", desc := "()J" } : Jvm.MethodName)) ∈ lw_tbl := lw_at lw_m11 148 rfl
theorem q2677 : (Jvm.Cond.instanceMethod ({ cls := "SkeletonsModel", name := "sameRows", desc := "()J" } : Jvm.MethodName)) ∈ lw_all := lw_g (lw_at lw_m11 149 rfl) rfl
theorem q2678 : (Jvm.Cond.code ({ cls := "SkeletonsModel", name := "sameRows", desc := "()J" } : Jvm.MethodName) prog_21_method_108_code (5 : Nat) (Option.some Jvm.ClassFile.FieldType.long)) ∈ lw_all := lw_g (lw_at lw_m11 150 rfl) rfl
theorem q2679 : (Jvm.Cond.methodLink "SkeletonsModel" (491 : Nat) ({ cls := "SkeletonsModel", name := "allOwn", desc := "()J" } : Jvm.MethodName)) ∈ lw_all := lw_g (lw_at lw_m11 151 rfl) rfl
theorem q2680 : (Jvm.Cond.privateMethod ({ cls := "SkeletonsModel", name := "allOwn", desc := "()J" } : Jvm.MethodName)) ∈ lw_tbl := lw_at lw_m11 152 rfl
theorem q2681 : (Jvm.Cond.instanceMethod ({ cls := "SkeletonsModel", name := "allOwn", desc := "()J" } : Jvm.MethodName)) ∈ lw_all := lw_g (lw_at lw_m11 153 rfl) rfl
theorem q2682 : (Jvm.Cond.code ({ cls := "SkeletonsModel", name := "allOwn", desc := "()J" } : Jvm.MethodName) prog_21_method_111_code (5 : Nat) (Option.some Jvm.ClassFile.FieldType.long)) ∈ lw_all := lw_g (lw_at lw_m11 154 rfl) rfl
theorem q2684 : (Jvm.Cond.instanceMethod ({ cls := "SkeletonsModel", name := "symmetry", desc := "()J" } : Jvm.MethodName)) ∈ lw_all := lw_g (lw_at lw_m11 156 rfl) rfl
theorem q2685 : (Jvm.Cond.selects "SkeletonsModel" ({ cls := "SkeletonsModel", name := "symmetry", desc := "()J" } : Jvm.MethodName) ({ cls := "SkeletonsModel", name := "symmetry", desc := "()J" } : Jvm.MethodName)) ∈ lw_all := lw_g (lw_at lw_m11 157 rfl) rfl
theorem q2686 : (Jvm.Cond.code ({ cls := "SkeletonsModel", name := "symmetry", desc := "()J" } : Jvm.MethodName) prog_21_method_113_code (5 : Nat) (Option.some Jvm.ClassFile.FieldType.long)) ∈ lw_all := lw_g (lw_at lw_m11 158 rfl) rfl
theorem q2688 : (Jvm.Cond.instanceMethod ({ cls := "SkeletonsModel", name := "marked", desc := "(I)I" } : Jvm.MethodName)) ∈ lw_all := lw_g (lw_at lw_m11 160 rfl) rfl
theorem q2689 : (Jvm.Cond.selects "SkeletonsModel" ({ cls := "SkeletonsModel", name := "marked", desc := "(I)I" } : Jvm.MethodName) ({ cls := "SkeletonsModel", name := "marked", desc := "(I)I" } : Jvm.MethodName)) ∈ lw_all := lw_g (lw_at lw_m11 161 rfl) rfl
theorem q2690 : (Jvm.Cond.code ({ cls := "SkeletonsModel", name := "marked", desc := "(I)I" } : Jvm.MethodName) prog_21_method_114_code (8 : Nat) (Option.some Jvm.ClassFile.FieldType.int)) ∈ lw_all := lw_g (lw_at lw_m11 162 rfl) rfl
theorem q2692 : (Jvm.Cond.instanceMethod ({ cls := "SkeletonsModel", name := "name", desc := "(I)I" } : Jvm.MethodName)) ∈ lw_all := lw_g (lw_at lw_m11 164 rfl) rfl
theorem q2693 : (Jvm.Cond.selects "SkeletonsModel" ({ cls := "SkeletonsModel", name := "name", desc := "(I)I" } : Jvm.MethodName) ({ cls := "SkeletonsModel", name := "name", desc := "(I)I" } : Jvm.MethodName)) ∈ lw_all := lw_g (lw_at lw_m11 165 rfl) rfl
theorem q2694 : (Jvm.Cond.code ({ cls := "SkeletonsModel", name := "name", desc := "(I)I" } : Jvm.MethodName) prog_21_method_125_code (2 : Nat) (Option.some Jvm.ClassFile.FieldType.int)) ∈ lw_all := lw_g (lw_at lw_m11 166 rfl) rfl
theorem q2695 : (Jvm.Cond.methodLink "SkeletonsModel" (528 : Nat) ({ cls := "SkeletonsModel", name := "names", desc := "()V" } : Jvm.MethodName)) ∈ lw_all := lw_g (lw_at lw_m11 167 rfl) rfl
theorem q2696 : (Jvm.Cond.privateMethod ({ cls := "SkeletonsModel", name := "names", desc := "()V" } : Jvm.MethodName)) ∈ lw_tbl := lw_at lw_m11 168 rfl
theorem q2697 : (Jvm.Cond.instanceMethod ({ cls := "SkeletonsModel", name := "names", desc := "()V" } : Jvm.MethodName)) ∈ lw_all := lw_g (lw_at lw_m11 169 rfl) rfl
theorem q2698 : (Jvm.Cond.code ({ cls := "SkeletonsModel", name := "names", desc := "()V" } : Jvm.MethodName) prog_21_method_124_code (5 : Nat) (Option.none : Option Jvm.ClassFile.FieldType)) ∈ lw_all := lw_g (lw_at lw_m11 170 rfl) rfl
theorem q2699 : (Jvm.Cond.methodLink "SkeletonsModel" (525 : Nat) ({ cls := "SkeletonsModel", name := "writesBranch", desc := "(II)V" } : Jvm.MethodName)) ∈ lw_all := lw_g (lw_at lw_m11 171 rfl) rfl
theorem q2700 : (Jvm.Cond.privateMethod ({ cls := "SkeletonsModel", name := "writesBranch", desc := "(II)V" } : Jvm.MethodName)) ∈ lw_tbl := lw_at lw_m11 172 rfl
theorem q2701 : (Jvm.Cond.instanceMethod ({ cls := "SkeletonsModel", name := "writesBranch", desc := "(II)V" } : Jvm.MethodName)) ∈ lw_all := lw_g (lw_at lw_m11 173 rfl) rfl
theorem q2702 : (Jvm.Cond.code ({ cls := "SkeletonsModel", name := "writesBranch", desc := "(II)V" } : Jvm.MethodName) prog_21_method_122_code (7 : Nat) (Option.none : Option Jvm.ClassFile.FieldType)) ∈ lw_all := lw_g (lw_at lw_m11 174 rfl) rfl
theorem q2703 : (Jvm.Cond.methodLink "SkeletonsModel" (518 : Nat) ({ cls := "SkeletonsModel", name := "writesChain", desc := "(III)V" } : Jvm.MethodName)) ∈ lw_all := lw_g (lw_at lw_m11 175 rfl) rfl
theorem q2704 : (Jvm.Cond.privateMethod ({ cls := "SkeletonsModel", name := "writesChain", desc := "(III)V" } : Jvm.MethodName)) ∈ lw_tbl := lw_at lw_m11 176 rfl
theorem q2705 : (Jvm.Cond.instanceMethod ({ cls := "SkeletonsModel", name := "writesChain", desc := "(III)V" } : Jvm.MethodName)) ∈ lw_all := lw_g (lw_at lw_m11 177 rfl) rfl
theorem q2706 : (Jvm.Cond.code ({ cls := "SkeletonsModel", name := "writesChain", desc := "(III)V" } : Jvm.MethodName) prog_21_method_121_code (9 : Nat) (Option.none : Option Jvm.ClassFile.FieldType)) ∈ lw_all := lw_g (lw_at lw_m11 178 rfl) rfl
theorem q2707 : (Jvm.Cond.methodLink "SkeletonsModel" (506 : Nat) ({ cls := "SkeletonsModel", name := "laysPath", desc := "(II)I" } : Jvm.MethodName)) ∈ lw_all := lw_g (lw_at lw_m11 179 rfl) rfl
theorem q2708 : (Jvm.Cond.privateMethod ({ cls := "SkeletonsModel", name := "laysPath", desc := "(II)I" } : Jvm.MethodName)) ∈ lw_tbl := lw_at lw_m11 180 rfl
theorem q2709 : (Jvm.Cond.instanceMethod ({ cls := "SkeletonsModel", name := "laysPath", desc := "(II)I" } : Jvm.MethodName)) ∈ lw_all := lw_g (lw_at lw_m11 181 rfl) rfl
theorem q2710 : (Jvm.Cond.code ({ cls := "SkeletonsModel", name := "laysPath", desc := "(II)I" } : Jvm.MethodName) prog_21_method_119_code (6 : Nat) (Option.some Jvm.ClassFile.FieldType.int)) ∈ lw_all := lw_g (lw_at lw_m11 182 rfl) rfl
theorem q2711 : (Jvm.Cond.methodLink "SkeletonsModel" (509 : Nat) ({ cls := "SkeletonsModel", name := "writesNumber", desc := "(I)V" } : Jvm.MethodName)) ∈ lw_all := lw_g (lw_at lw_m11 183 rfl) rfl
theorem q2712 : (Jvm.Cond.privateMethod ({ cls := "SkeletonsModel", name := "writesNumber", desc := "(I)V" } : Jvm.MethodName)) ∈ lw_tbl := lw_at lw_m11 184 rfl
theorem q2713 : (Jvm.Cond.instanceMethod ({ cls := "SkeletonsModel", name := "writesNumber", desc := "(I)V" } : Jvm.MethodName)) ∈ lw_all := lw_g (lw_at lw_m11 185 rfl) rfl
theorem q2714 : (Jvm.Cond.code ({ cls := "SkeletonsModel", name := "writesNumber", desc := "(I)V" } : Jvm.MethodName) prog_21_method_116_code (2 : Nat) (Option.none : Option Jvm.ClassFile.FieldType)) ∈ lw_all := lw_g (lw_at lw_m11 186 rfl) rfl
theorem q2715 : (Jvm.Cond.methodLink "SkeletonsModel" (497 : Nat) ({ cls := "SkeletonsModel", name := "writes", desc := "(I)V" } : Jvm.MethodName)) ∈ lw_all := lw_g (lw_at lw_m11 187 rfl) rfl
theorem q2716 : (Jvm.Cond.privateMethod ({ cls := "SkeletonsModel", name := "writes", desc := "(I)V" } : Jvm.MethodName)) ∈ lw_tbl := lw_at lw_m11 188 rfl
theorem q2717 : (Jvm.Cond.instanceMethod ({ cls := "SkeletonsModel", name := "writes", desc := "(I)V" } : Jvm.MethodName)) ∈ lw_all := lw_g (lw_at lw_m11 189 rfl) rfl
theorem q2718 : (Jvm.Cond.code ({ cls := "SkeletonsModel", name := "writes", desc := "(I)V" } : Jvm.MethodName) prog_21_method_115_code (2 : Nat) (Option.none : Option Jvm.ClassFile.FieldType)) ∈ lw_all := lw_g (lw_at lw_m11 190 rfl) rfl
theorem q2719 : (Jvm.Cond.methodLink "SkeletonsModel" (512 : Nat) ({ cls := "SkeletonsModel", name := "laysHung", desc := "(III)I" } : Jvm.MethodName)) ∈ lw_all := lw_g (lw_at lw_m11 191 rfl) rfl
theorem q2720 : (Jvm.Cond.privateMethod ({ cls := "SkeletonsModel", name := "laysHung", desc := "(III)I" } : Jvm.MethodName)) ∈ lw_tbl := lw_at lw_m11 192 rfl
theorem q2721 : (Jvm.Cond.instanceMethod ({ cls := "SkeletonsModel", name := "laysHung", desc := "(III)I" } : Jvm.MethodName)) ∈ lw_all := lw_g (lw_at lw_m11 193 rfl) rfl
theorem q2722 : (Jvm.Cond.code ({ cls := "SkeletonsModel", name := "laysHung", desc := "(III)I" } : Jvm.MethodName) prog_21_method_120_code (8 : Nat) (Option.some Jvm.ClassFile.FieldType.int)) ∈ lw_all := lw_g (lw_at lw_m11 194 rfl) rfl
theorem q2723 : (Jvm.Cond.methodLink "SkeletonsModel" (503 : Nat) ({ cls := "SkeletonsModel", name := "againstText", desc := "(II)I" } : Jvm.MethodName)) ∈ lw_all := lw_g (lw_at lw_m11 195 rfl) rfl
theorem q2724 : (Jvm.Cond.privateMethod ({ cls := "SkeletonsModel", name := "againstText", desc := "(II)I" } : Jvm.MethodName)) ∈ lw_tbl := lw_at lw_m11 196 rfl
theorem q2725 : (Jvm.Cond.instanceMethod ({ cls := "SkeletonsModel", name := "againstText", desc := "(II)I" } : Jvm.MethodName)) ∈ lw_all := lw_g (lw_at lw_m11 197 rfl) rfl
theorem q2726 : (Jvm.Cond.code ({ cls := "SkeletonsModel", name := "againstText", desc := "(II)I" } : Jvm.MethodName) prog_21_method_117_code (5 : Nat) (Option.some Jvm.ClassFile.FieldType.int)) ∈ lw_all := lw_g (lw_at lw_m11 198 rfl) rfl
theorem q2727 : (Jvm.Cond.methodLink "SkeletonsModel" (515 : Nat) ({ cls := "SkeletonsModel", name := "againstLeast", desc := "()I" } : Jvm.MethodName)) ∈ lw_all := lw_g (lw_at lw_m11 199 rfl) rfl
theorem q2728 : (Jvm.Cond.privateMethod ({ cls := "SkeletonsModel", name := "againstLeast", desc := "()I" } : Jvm.MethodName)) ∈ lw_tbl := lw_at lw_m11 200 rfl
theorem q2729 : (Jvm.Cond.instanceMethod ({ cls := "SkeletonsModel", name := "againstLeast", desc := "()I" } : Jvm.MethodName)) ∈ lw_all := lw_g (lw_at lw_m11 201 rfl) rfl
theorem q2730 : (Jvm.Cond.code ({ cls := "SkeletonsModel", name := "againstLeast", desc := "()I" } : Jvm.MethodName) prog_21_method_118_code (2 : Nat) (Option.some Jvm.ClassFile.FieldType.int)) ∈ lw_all := lw_g (lw_at lw_m11 202 rfl) rfl
theorem q2731 : (Jvm.Cond.methodLink "SkeletonsModel" (522 : Nat) ({ cls := "SkeletonsModel", name := "laysSign", desc := "(II)V" } : Jvm.MethodName)) ∈ lw_all := lw_g (lw_at lw_m11 203 rfl) rfl
theorem q2732 : (Jvm.Cond.privateMethod ({ cls := "SkeletonsModel", name := "laysSign", desc := "(II)V" } : Jvm.MethodName)) ∈ lw_tbl := lw_at lw_m11 204 rfl
theorem q2733 : (Jvm.Cond.instanceMethod ({ cls := "SkeletonsModel", name := "laysSign", desc := "(II)V" } : Jvm.MethodName)) ∈ lw_all := lw_g (lw_at lw_m11 205 rfl) rfl
theorem q2734 : (Jvm.Cond.code ({ cls := "SkeletonsModel", name := "laysSign", desc := "(II)V" } : Jvm.MethodName) prog_21_method_123_code (3 : Nat) (Option.none : Option Jvm.ClassFile.FieldType)) ∈ lw_all := lw_g (lw_at lw_m11 206 rfl) rfl
theorem q2736 : (Jvm.Cond.instanceMethod ({ cls := "SkeletonsModel", name := "count", desc := "(I)I" } : Jvm.MethodName)) ∈ lw_all := lw_g (lw_at lw_m11 208 rfl) rfl
theorem q2737 : (Jvm.Cond.selects "SkeletonsModel" ({ cls := "SkeletonsModel", name := "count", desc := "(I)I" } : Jvm.MethodName) ({ cls := "SkeletonsModel", name := "count", desc := "(I)I" } : Jvm.MethodName)) ∈ lw_all := lw_g (lw_at lw_m11 209 rfl) rfl
theorem q2738 : (Jvm.Cond.code ({ cls := "SkeletonsModel", name := "count", desc := "(I)I" } : Jvm.MethodName) prog_21_method_127_code (2 : Nat) (Option.some Jvm.ClassFile.FieldType.int)) ∈ lw_all := lw_g (lw_at lw_m11 210 rfl) rfl
theorem q2739 : (Jvm.Cond.methodLink "SkeletonsModel" (531 : Nat) ({ cls := "SkeletonsModel", name := "keptSet", desc := "()I" } : Jvm.MethodName)) ∈ lw_all := lw_g (lw_at lw_m11 211 rfl) rfl
theorem q2740 : (Jvm.Cond.privateMethod ({ cls := "SkeletonsModel", name := "keptSet", desc := "()I" } : Jvm.MethodName)) ∈ lw_tbl := lw_at lw_m11 212 rfl
theorem q2741 : (Jvm.Cond.instanceMethod ({ cls := "SkeletonsModel", name := "keptSet", desc := "()I" } : Jvm.MethodName)) ∈ lw_all := lw_g (lw_at lw_m11 213 rfl) rfl
theorem q2742 : (Jvm.Cond.code ({ cls := "SkeletonsModel", name := "keptSet", desc := "()I" } : Jvm.MethodName) prog_21_method_126_code (3 : Nat) (Option.some Jvm.ClassFile.FieldType.int)) ∈ lw_all := lw_g (lw_at lw_m11 214 rfl) rfl
theorem q2743 : (Jvm.Cond.methodLink "SkeletonsModel" (534 : Nat) ({ cls := "SkeletonsModel", name := "allApart", desc := "()I" } : Jvm.MethodName)) ∈ lw_all := lw_g (lw_at lw_m11 215 rfl) rfl
theorem q2744 : (Jvm.Cond.privateMethod ({ cls := "SkeletonsModel", name := "allApart", desc := "()I" } : Jvm.MethodName)) ∈ lw_tbl := lw_at lw_m11 216 rfl
theorem q2745 : (Jvm.Cond.instanceMethod ({ cls := "SkeletonsModel", name := "allApart", desc := "()I" } : Jvm.MethodName)) ∈ lw_all := lw_g (lw_at lw_m11 217 rfl) rfl
theorem q2746 : (Jvm.Cond.code ({ cls := "SkeletonsModel", name := "allApart", desc := "()I" } : Jvm.MethodName) prog_21_method_98_code (3 : Nat) (Option.some Jvm.ClassFile.FieldType.int)) ∈ lw_all := lw_g (lw_at lw_m11 218 rfl) rfl
theorem q2783 : (Jvm.Cond.castable "SkeletonsModel" "java/lang/Object") ∈ lw_tbl := lw_at lw_m12 15 rfl
theorem in_X3 : ∀ w ∈ wsX30, w ∈ lw_all := lw_in wsX30 [2123, 2125, 2127, 2129, 2131, 2133, 2135, 2137, 2139, 2141, 2143, 2145, 2147, 2149, 2151, 2153, 2155, 2157, 2159, 2161, 2163, 2165, 2167, 2169, 2171, 2173, 2175, 2177, 2179, 2181, 2183, 2185, 2187, 2189, 2191, 2193, 2195, 2197, 2199, 2201, 2203, 2205, 2207, 2209, 2211, 2213, 2215, 2217, 2219, 2221, 2223, 2225, 2227, 2229, 2231, 2233, 2235, 2237, 2239, 2241] (by decide +kernel) (by decide +kernel)
