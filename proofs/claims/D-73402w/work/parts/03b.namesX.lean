/-! Skeletons -/
set_option maxRecDepth 100000
def RX0 : String := "Skeletons"
def TX0 : u_T := fun k => match k with
  | 0 => ("Skeletons", "branches", "Ljava/util/ArrayList;", true)
  | 1 => ("Skeletons", "codes", "[[[I", true)
  | 2 => ("Skeletons", "radicals", "[J", true)
  | 3 => ("Skeletons", "forms", "[J", true)
  | 4 => ("Skeletons", "own", "[J", true)
  | 5 => ("Skeletons", "laid", "I", false)
  | 6 => ("Skeletons", "now", "LSkeletons$Skeleton;", false)
  | 7 => ("Skeletons", "shelf", "[LSkeletons$Skeleton;", true)
  | 8 => ("Skeletons", "past", "Ljava/util/ArrayList;", true)
  | 9 => ("Skeletons", "whole", "LSkeletons$Whole;", false)
  | 10 => ("Skeletons", "name", "Ljava/lang/String;", false)
  | 11 => ("Skeletons", "tape", "[B", true)
  | 12 => ("Skeletons", "taped", "I", false)
  | _ => ("Skeletons", "found", "[[[I", true)
def tyX0 : Nat → FieldType := fun k => match k with
  | 0 => .object "java/util/ArrayList"
  | 1 => .array (.array (.array .int))
  | 2 => .array .long
  | 3 => .array .long
  | 4 => .array .long
  | 5 => .int
  | 6 => .object "Skeletons$Skeleton"
  | 7 => .array (.object "Skeletons$Skeleton")
  | 8 => .object "java/util/ArrayList"
  | 9 => .object "Skeletons$Whole"
  | 10 => .object "java/lang/String"
  | 11 => .array .byte
  | 12 => .int
  | _ => .array (.array (.array .int))
abbrev wsX00 : List Cond := u_ws RX0 TX0 14
set_option maxRecDepth 100000 in
theorem nmX0 : ∀ a, a < 14 → ∀ b, b < 14 → a ≠ b → (TX0 a).2.1 ≠ (TX0 b).2.1 := by decide +kernel
set_option maxRecDepth 100000 in
theorem tyX0_ok : ∀ k, k < 14 → parseFieldDescriptor (TX0 k).2.2.1 = some (tyX0 k) := by decide +kernel
abbrev cX0_counted : ByteArray := prog_1_method_12_code
def yX0_counted : MethodName := ⟨RX0, "counted", "(II)J"⟩
def dkwX0_counted_5 : List UInt8 := [182, 0, 173, 178, 0, 180, 42, 27, 182, 0, 173, 101, 20, 0, 143, 109, 173]
abbrev dktX0_counted_5 : List UInt8 := dkwX0_counted_5 ++ []
def dkwX0_counted_4 : List UInt8 := [27, 182, 0, 173, 167, 0, 35, 178, 0, 180, 42, 27, 182, 0, 173, 167, 0, 24, 178, 0, 177, 42, 27]
abbrev dktX0_counted_4 : List UInt8 := dkwX0_counted_4 ++ dktX0_counted_5
def dkwX0_counted_3 : List UInt8 := [178, 0, 167, 42, 27, 182, 0, 173, 167, 0, 55, 42, 180, 0, 128, 27, 47, 167, 0, 46, 178, 0, 177, 42]
abbrev dktX0_counted_3 : List UInt8 := dkwX0_counted_3 ++ dktX0_counted_4
def dkwX0_counted_2 : List UInt8 := [170, 0, 0, 0, 0, 72, 0, 0, 0, 0, 0, 0, 0, 3, 0, 0, 0, 30, 0, 0, 0, 41, 0, 0, 0, 50, 0, 0, 0, 61]
abbrev dktX0_counted_2 : List UInt8 := dkwX0_counted_2 ++ dktX0_counted_3
def dkwX0_counted_1 : List UInt8 := [20, 0, 161, 173, 42, 27, 182, 0, 163, 28]
abbrev dktX0_counted_1 : List UInt8 := dkwX0_counted_1 ++ dktX0_counted_2
def dkwX0_counted_0 : List UInt8 := [27, 133, 10, 20, 0, 153, 184, 0, 155, 153, 0, 15, 28, 133, 9, 20, 0, 159, 184, 0, 155, 154, 0, 7]
abbrev dktX0_counted_0 : List UInt8 := dkwX0_counted_0 ++ dktX0_counted_1
theorem dksX0_counted_0 : cX0_counted.data.toList.drop 0 = dktX0_counted_0 := by decide +kernel
theorem dksX0_counted_1 : cX0_counted.data.toList.drop 24 = dktX0_counted_1 := dk_seg dksX0_counted_0 24 rfl rfl
theorem dksX0_counted_2 : cX0_counted.data.toList.drop 34 = dktX0_counted_2 := dk_seg dksX0_counted_1 10 rfl rfl
theorem dksX0_counted_3 : cX0_counted.data.toList.drop 64 = dktX0_counted_3 := dk_seg dksX0_counted_2 30 rfl rfl
theorem dksX0_counted_4 : cX0_counted.data.toList.drop 88 = dktX0_counted_4 := dk_seg dksX0_counted_3 24 rfl rfl
theorem dksX0_counted_5 : cX0_counted.data.toList.drop 111 = dktX0_counted_5 := dk_seg dksX0_counted_4 23 rfl rfl
theorem dX0_counted_0 : decode cX0_counted 0 = .ok (.iload_n 1, 1) := dk_27 (dk_at dksX0_counted_0 0 rfl rfl)
theorem dX0_counted_1 : decode cX0_counted 1 = .ok (.i2l, 1) := dk_133 (dk_at dksX0_counted_0 1 rfl rfl)
theorem dX0_counted_2 : decode cX0_counted 2 = .ok (.lconst 1, 1) := dk_10 (dk_at dksX0_counted_0 2 rfl rfl)
theorem dX0_counted_3 : decode cX0_counted 3 = .ok (.ldc2_w 153, 3) := dk_20 0 153 (dk_at dksX0_counted_0 3 rfl rfl)
theorem dX0_counted_6 : decode cX0_counted 6 = .ok (.invokestatic 155, 3) := dk_184 0 155 (dk_at dksX0_counted_0 6 rfl rfl)
theorem dX0_counted_9 : decode cX0_counted 9 = .ok (.ifCond .eq 15, 3) := dk_153 0 15 (dk_at dksX0_counted_0 9 rfl rfl)
theorem dX0_counted_12 : decode cX0_counted 12 = .ok (.iload_n 2, 1) := dk_28 (dk_at dksX0_counted_0 12 rfl rfl)
theorem dX0_counted_13 : decode cX0_counted 13 = .ok (.i2l, 1) := dk_133 (dk_at dksX0_counted_0 13 rfl rfl)
theorem dX0_counted_14 : decode cX0_counted 14 = .ok (.lconst 0, 1) := dk_9 (dk_at dksX0_counted_0 14 rfl rfl)
theorem dX0_counted_15 : decode cX0_counted 15 = .ok (.ldc2_w 159, 3) := dk_20 0 159 (dk_at dksX0_counted_0 15 rfl rfl)
theorem dX0_counted_18 : decode cX0_counted 18 = .ok (.invokestatic 155, 3) := dk_184 0 155 (dk_at dksX0_counted_0 18 rfl rfl)
theorem dX0_counted_21 : decode cX0_counted 21 = .ok (.ifCond .ne 7, 3) := dk_154 0 7 (dk_at dksX0_counted_0 21 rfl rfl)
theorem dX0_counted_24 : decode cX0_counted 24 = .ok (.ldc2_w 161, 3) := dk_20 0 161 (dk_at dksX0_counted_1 0 rfl rfl)
theorem dX0_counted_27 : decode cX0_counted 27 = .ok (.lreturn, 1) := dk_173 (dk_at dksX0_counted_1 3 rfl rfl)
theorem dX0_counted_28 : decode cX0_counted 28 = .ok (.aload_n 0, 1) := dk_42 (dk_at dksX0_counted_1 4 rfl rfl)
theorem dX0_counted_29 : decode cX0_counted 29 = .ok (.iload_n 1, 1) := dk_27 (dk_at dksX0_counted_1 5 rfl rfl)
theorem dX0_counted_30 : decode cX0_counted 30 = .ok (.invokevirtual 163, 3) := dk_182 0 163 (dk_at dksX0_counted_1 6 rfl rfl)
theorem dX0_counted_33 : decode cX0_counted 33 = .ok (.iload_n 2, 1) := dk_28 (dk_at dksX0_counted_1 9 rfl rfl)
theorem dX0_counted_34 : decode cX0_counted 34 = .ok (.tableswitch 72 0 3 #[30, 41, 50, 61], 30) := by decide +kernel
theorem dX0_counted_64 : decode cX0_counted 64 = .ok (.getstatic 167, 3) := dk_178 0 167 (dk_at dksX0_counted_3 0 rfl rfl)
theorem dX0_counted_67 : decode cX0_counted 67 = .ok (.aload_n 0, 1) := dk_42 (dk_at dksX0_counted_3 3 rfl rfl)
theorem dX0_counted_68 : decode cX0_counted 68 = .ok (.iload_n 1, 1) := dk_27 (dk_at dksX0_counted_3 4 rfl rfl)
theorem dX0_counted_69 : decode cX0_counted 69 = .ok (.invokevirtual 173, 3) := dk_182 0 173 (dk_at dksX0_counted_3 5 rfl rfl)
theorem dX0_counted_72 : decode cX0_counted 72 = .ok (.goto 55, 3) := dk_167 0 55 (dk_at dksX0_counted_3 8 rfl rfl)
theorem dX0_counted_75 : decode cX0_counted 75 = .ok (.aload_n 0, 1) := dk_42 (dk_at dksX0_counted_3 11 rfl rfl)
theorem dX0_counted_76 : decode cX0_counted 76 = .ok (.getfield 128, 3) := dk_180 0 128 (dk_at dksX0_counted_3 12 rfl rfl)
theorem dX0_counted_79 : decode cX0_counted 79 = .ok (.iload_n 1, 1) := dk_27 (dk_at dksX0_counted_3 15 rfl rfl)
theorem dX0_counted_80 : decode cX0_counted 80 = .ok (.laload, 1) := dk_47 (dk_at dksX0_counted_3 16 rfl rfl)
theorem dX0_counted_81 : decode cX0_counted 81 = .ok (.goto 46, 3) := dk_167 0 46 (dk_at dksX0_counted_3 17 rfl rfl)
theorem dX0_counted_84 : decode cX0_counted 84 = .ok (.getstatic 177, 3) := dk_178 0 177 (dk_at dksX0_counted_3 20 rfl rfl)
theorem dX0_counted_87 : decode cX0_counted 87 = .ok (.aload_n 0, 1) := dk_42 (dk_at dksX0_counted_3 23 rfl rfl)
theorem dX0_counted_88 : decode cX0_counted 88 = .ok (.iload_n 1, 1) := dk_27 (dk_at dksX0_counted_4 0 rfl rfl)
theorem dX0_counted_89 : decode cX0_counted 89 = .ok (.invokevirtual 173, 3) := dk_182 0 173 (dk_at dksX0_counted_4 1 rfl rfl)
theorem dX0_counted_92 : decode cX0_counted 92 = .ok (.goto 35, 3) := dk_167 0 35 (dk_at dksX0_counted_4 4 rfl rfl)
theorem dX0_counted_95 : decode cX0_counted 95 = .ok (.getstatic 180, 3) := dk_178 0 180 (dk_at dksX0_counted_4 7 rfl rfl)
theorem dX0_counted_98 : decode cX0_counted 98 = .ok (.aload_n 0, 1) := dk_42 (dk_at dksX0_counted_4 10 rfl rfl)
theorem dX0_counted_99 : decode cX0_counted 99 = .ok (.iload_n 1, 1) := dk_27 (dk_at dksX0_counted_4 11 rfl rfl)
theorem dX0_counted_100 : decode cX0_counted 100 = .ok (.invokevirtual 173, 3) := dk_182 0 173 (dk_at dksX0_counted_4 12 rfl rfl)
theorem dX0_counted_103 : decode cX0_counted 103 = .ok (.goto 24, 3) := dk_167 0 24 (dk_at dksX0_counted_4 15 rfl rfl)
theorem dX0_counted_106 : decode cX0_counted 106 = .ok (.getstatic 177, 3) := dk_178 0 177 (dk_at dksX0_counted_4 18 rfl rfl)
theorem dX0_counted_109 : decode cX0_counted 109 = .ok (.aload_n 0, 1) := dk_42 (dk_at dksX0_counted_4 21 rfl rfl)
theorem dX0_counted_110 : decode cX0_counted 110 = .ok (.iload_n 1, 1) := dk_27 (dk_at dksX0_counted_4 22 rfl rfl)
theorem dX0_counted_111 : decode cX0_counted 111 = .ok (.invokevirtual 173, 3) := dk_182 0 173 (dk_at dksX0_counted_5 0 rfl rfl)
theorem dX0_counted_114 : decode cX0_counted 114 = .ok (.getstatic 180, 3) := dk_178 0 180 (dk_at dksX0_counted_5 3 rfl rfl)
theorem dX0_counted_117 : decode cX0_counted 117 = .ok (.aload_n 0, 1) := dk_42 (dk_at dksX0_counted_5 6 rfl rfl)
theorem dX0_counted_118 : decode cX0_counted 118 = .ok (.iload_n 1, 1) := dk_27 (dk_at dksX0_counted_5 7 rfl rfl)
theorem dX0_counted_119 : decode cX0_counted 119 = .ok (.invokevirtual 173, 3) := dk_182 0 173 (dk_at dksX0_counted_5 8 rfl rfl)
theorem dX0_counted_122 : decode cX0_counted 122 = .ok (.lsub, 1) := dk_101 (dk_at dksX0_counted_5 11 rfl rfl)
theorem dX0_counted_123 : decode cX0_counted 123 = .ok (.ldc2_w 143, 3) := dk_20 0 143 (dk_at dksX0_counted_5 12 rfl rfl)
theorem dX0_counted_126 : decode cX0_counted 126 = .ok (.ldiv, 1) := dk_109 (dk_at dksX0_counted_5 15 rfl rfl)
theorem dX0_counted_127 : decode cX0_counted 127 = .ok (.lreturn, 1) := dk_173 (dk_at dksX0_counted_5 16 rfl rfl)
abbrev cX0_in : ByteArray := prog_1_method_1_code
def yX0_in : MethodName := ⟨RX0, "in", "(JJJ)Z"⟩
def dkwX0_in_0 : List UInt8 := [30, 32, 148, 155, 0, 14, 30, 22, 4, 148, 157, 0, 7, 4, 167, 0, 4, 3, 172]
abbrev dktX0_in_0 : List UInt8 := dkwX0_in_0 ++ []
theorem dksX0_in_0 : cX0_in.data.toList.drop 0 = dktX0_in_0 := by decide +kernel
theorem dX0_in_0 : decode cX0_in 0 = .ok (.lload_n 0, 1) := dk_30 (dk_at dksX0_in_0 0 rfl rfl)
theorem dX0_in_1 : decode cX0_in 1 = .ok (.lload_n 2, 1) := dk_32 (dk_at dksX0_in_0 1 rfl rfl)
theorem dX0_in_2 : decode cX0_in 2 = .ok (.lcmp, 1) := dk_148 (dk_at dksX0_in_0 2 rfl rfl)
theorem dX0_in_3 : decode cX0_in 3 = .ok (.ifCond .lt 14, 3) := dk_155 0 14 (dk_at dksX0_in_0 3 rfl rfl)
theorem dX0_in_6 : decode cX0_in 6 = .ok (.lload_n 0, 1) := dk_30 (dk_at dksX0_in_0 6 rfl rfl)
theorem dX0_in_7 : decode cX0_in 7 = .ok (.lload 4, 2) := dk_22 4 (dk_at dksX0_in_0 7 rfl rfl)
theorem dX0_in_9 : decode cX0_in 9 = .ok (.lcmp, 1) := dk_148 (dk_at dksX0_in_0 9 rfl rfl)
theorem dX0_in_10 : decode cX0_in 10 = .ok (.ifCond .gt 7, 3) := dk_157 0 7 (dk_at dksX0_in_0 10 rfl rfl)
theorem dX0_in_13 : decode cX0_in 13 = .ok (.iconst 1, 1) := dk_4 (dk_at dksX0_in_0 13 rfl rfl)
theorem dX0_in_14 : decode cX0_in 14 = .ok (.goto 4, 3) := dk_167 0 4 (dk_at dksX0_in_0 14 rfl rfl)
theorem dX0_in_17 : decode cX0_in 17 = .ok (.iconst 0, 1) := dk_3 (dk_at dksX0_in_0 17 rfl rfl)
theorem dX0_in_18 : decode cX0_in 18 = .ok (.ireturn, 1) := dk_172 (dk_at dksX0_in_0 18 rfl rfl)
abbrev cX0_laysTo : ByteArray := prog_1_method_11_code
def yX0_laysTo : MethodName := ⟨RX0, "laysTo", "(I)V"⟩
def dkwX0_laysTo_13 : List UInt8 := [181, 0, 124, 167, 254, 201, 177]
abbrev dktX0_laysTo_13 : List UInt8 := dkwX0_laysTo_13 ++ []
def dkwX0_laysTo_12 : List UInt8 := [180, 0, 147, 83, 184, 0, 133, 5, 188, 10, 89, 3, 4, 79, 89, 4, 5, 79, 184, 0, 137, 80, 42, 28]
abbrev dktX0_laysTo_12 : List UInt8 := dkwX0_laysTo_12 ++ dktX0_laysTo_13
def dkwX0_laysTo_11 : List UInt8 := [154, 0, 7, 10, 167, 0, 40, 29, 29, 5, 189, 0, 132, 89, 3, 42, 180, 0, 150, 83, 89, 4, 42]
abbrev dktX0_laysTo_11 : List UInt8 := dkwX0_laysTo_11 ++ dktX0_laysTo_12
def dkwX0_laysTo_10 : List UInt8 := [188, 10, 89, 3, 6, 79, 184, 0, 137, 105, 97, 20, 0, 141, 109, 80, 42, 180, 0, 150, 28, 28]
abbrev dktX0_laysTo_10 : List UInt8 := dkwX0_laysTo_10 ++ dktX0_laysTo_11
def dkwX0_laysTo_9 : List UInt8 := [184, 0, 137, 20, 0, 143, 29, 29, 4, 189, 0, 132, 89, 3, 42, 180, 0, 147, 83, 184, 0, 133, 4]
abbrev dktX0_laysTo_9 : List UInt8 := dkwX0_laysTo_9 ++ dktX0_laysTo_10
def dkwX0_laysTo_8 : List UInt8 := [5, 42, 180, 0, 147, 83, 184, 0, 133, 6, 188, 10, 89, 3, 4, 79, 89, 4, 4, 79, 89, 5, 4, 79]
abbrev dktX0_laysTo_8 : List UInt8 := dkwX0_laysTo_8 ++ dktX0_laysTo_9
def dkwX0_laysTo_7 : List UInt8 := [167, 0, 86, 29, 29, 6, 189, 0, 132, 89, 3, 42, 180, 0, 147, 83, 89, 4, 42, 180, 0, 147, 83, 89]
abbrev dktX0_laysTo_7 : List UInt8 := dkwX0_laysTo_7 ++ dktX0_laysTo_8
def dkwX0_laysTo_6 : List UInt8 := [89, 3, 6, 79, 184, 0, 137, 105, 97, 20, 0, 145, 109, 80, 42, 180, 0, 147, 28, 28, 154, 0, 7, 10]
abbrev dktX0_laysTo_6 : List UInt8 := dkwX0_laysTo_6 ++ dktX0_laysTo_7
def dkwX0_laysTo_5 : List UInt8 := [105, 97, 20, 0, 143, 29, 29, 4, 189, 0, 132, 89, 3, 42, 180, 0, 128, 83, 184, 0, 133, 4, 188, 10]
abbrev dktX0_laysTo_5 : List UInt8 := dkwX0_laysTo_5 ++ dktX0_laysTo_6
def dkwX0_laysTo_4 : List UInt8 := [89, 4, 42, 180, 0, 128, 83, 184, 0, 133, 5, 188, 10, 89, 3, 4, 79, 89, 4, 5, 79, 184, 0, 137]
abbrev dktX0_laysTo_4 : List UInt8 := dkwX0_laysTo_4 ++ dktX0_laysTo_5
def dkwX0_laysTo_3 : List UInt8 := [79, 89, 5, 4, 79, 184, 0, 137, 20, 0, 141, 29, 29, 5, 189, 0, 132, 89, 3, 42, 180, 0, 128, 83]
abbrev dktX0_laysTo_3 : List UInt8 := dkwX0_laysTo_3 ++ dktX0_laysTo_4
def dkwX0_laysTo_2 : List UInt8 := [180, 0, 128, 83, 89, 5, 42, 180, 0, 128, 83, 184, 0, 133, 6, 188, 10, 89, 3, 4, 79, 89, 4, 4]
abbrev dktX0_laysTo_2 : List UInt8 := dkwX0_laysTo_2 ++ dktX0_laysTo_3
def dkwX0_laysTo_1 : List UInt8 := [28, 154, 0, 7, 10, 167, 0, 128, 29, 29, 6, 189, 0, 132, 89, 3, 42, 180, 0, 128, 83, 89, 4, 42]
abbrev dktX0_laysTo_1 : List UInt8 := dkwX0_laysTo_1 ++ dktX0_laysTo_2
def dkwX0_laysTo_0 : List UInt8 := [42, 180, 0, 124, 27, 162, 1, 53, 42, 180, 0, 124, 4, 96, 61, 28, 4, 100, 62, 42, 180, 0, 128, 28]
abbrev dktX0_laysTo_0 : List UInt8 := dkwX0_laysTo_0 ++ dktX0_laysTo_1
theorem dksX0_laysTo_0 : cX0_laysTo.data.toList.drop 0 = dktX0_laysTo_0 := by decide +kernel
theorem dksX0_laysTo_1 : cX0_laysTo.data.toList.drop 24 = dktX0_laysTo_1 := dk_seg dksX0_laysTo_0 24 rfl rfl
theorem dksX0_laysTo_2 : cX0_laysTo.data.toList.drop 48 = dktX0_laysTo_2 := dk_seg dksX0_laysTo_1 24 rfl rfl
theorem dksX0_laysTo_3 : cX0_laysTo.data.toList.drop 72 = dktX0_laysTo_3 := dk_seg dksX0_laysTo_2 24 rfl rfl
theorem dksX0_laysTo_4 : cX0_laysTo.data.toList.drop 96 = dktX0_laysTo_4 := dk_seg dksX0_laysTo_3 24 rfl rfl
theorem dksX0_laysTo_5 : cX0_laysTo.data.toList.drop 120 = dktX0_laysTo_5 := dk_seg dksX0_laysTo_4 24 rfl rfl
theorem dksX0_laysTo_6 : cX0_laysTo.data.toList.drop 144 = dktX0_laysTo_6 := dk_seg dksX0_laysTo_5 24 rfl rfl
theorem dksX0_laysTo_7 : cX0_laysTo.data.toList.drop 168 = dktX0_laysTo_7 := dk_seg dksX0_laysTo_6 24 rfl rfl
theorem dksX0_laysTo_8 : cX0_laysTo.data.toList.drop 192 = dktX0_laysTo_8 := dk_seg dksX0_laysTo_7 24 rfl rfl
theorem dksX0_laysTo_9 : cX0_laysTo.data.toList.drop 216 = dktX0_laysTo_9 := dk_seg dksX0_laysTo_8 24 rfl rfl
theorem dksX0_laysTo_10 : cX0_laysTo.data.toList.drop 239 = dktX0_laysTo_10 := dk_seg dksX0_laysTo_9 23 rfl rfl
theorem dksX0_laysTo_11 : cX0_laysTo.data.toList.drop 261 = dktX0_laysTo_11 := dk_seg dksX0_laysTo_10 22 rfl rfl
theorem dksX0_laysTo_12 : cX0_laysTo.data.toList.drop 284 = dktX0_laysTo_12 := dk_seg dksX0_laysTo_11 23 rfl rfl
theorem dksX0_laysTo_13 : cX0_laysTo.data.toList.drop 308 = dktX0_laysTo_13 := dk_seg dksX0_laysTo_12 24 rfl rfl
theorem dX0_laysTo_0 : decode cX0_laysTo 0 = .ok (.aload_n 0, 1) := dk_42 (dk_at dksX0_laysTo_0 0 rfl rfl)
theorem dX0_laysTo_1 : decode cX0_laysTo 1 = .ok (.getfield 124, 3) := dk_180 0 124 (dk_at dksX0_laysTo_0 1 rfl rfl)
theorem dX0_laysTo_4 : decode cX0_laysTo 4 = .ok (.iload_n 1, 1) := dk_27 (dk_at dksX0_laysTo_0 4 rfl rfl)
theorem dX0_laysTo_5 : decode cX0_laysTo 5 = .ok (.if_icmp .ge 309, 3) := dk_162 1 53 (dk_at dksX0_laysTo_0 5 rfl rfl)
theorem dX0_laysTo_8 : decode cX0_laysTo 8 = .ok (.aload_n 0, 1) := dk_42 (dk_at dksX0_laysTo_0 8 rfl rfl)
theorem dX0_laysTo_9 : decode cX0_laysTo 9 = .ok (.getfield 124, 3) := dk_180 0 124 (dk_at dksX0_laysTo_0 9 rfl rfl)
theorem dX0_laysTo_12 : decode cX0_laysTo 12 = .ok (.iconst 1, 1) := dk_4 (dk_at dksX0_laysTo_0 12 rfl rfl)
theorem dX0_laysTo_13 : decode cX0_laysTo 13 = .ok (.iadd, 1) := dk_96 (dk_at dksX0_laysTo_0 13 rfl rfl)
theorem dX0_laysTo_14 : decode cX0_laysTo 14 = .ok (.istore_n 2, 1) := dk_61 (dk_at dksX0_laysTo_0 14 rfl rfl)
theorem dX0_laysTo_15 : decode cX0_laysTo 15 = .ok (.iload_n 2, 1) := dk_28 (dk_at dksX0_laysTo_0 15 rfl rfl)
theorem dX0_laysTo_16 : decode cX0_laysTo 16 = .ok (.iconst 1, 1) := dk_4 (dk_at dksX0_laysTo_0 16 rfl rfl)
theorem dX0_laysTo_17 : decode cX0_laysTo 17 = .ok (.isub, 1) := dk_100 (dk_at dksX0_laysTo_0 17 rfl rfl)
theorem dX0_laysTo_18 : decode cX0_laysTo 18 = .ok (.istore_n 3, 1) := dk_62 (dk_at dksX0_laysTo_0 18 rfl rfl)
theorem dX0_laysTo_19 : decode cX0_laysTo 19 = .ok (.aload_n 0, 1) := dk_42 (dk_at dksX0_laysTo_0 19 rfl rfl)
theorem dX0_laysTo_20 : decode cX0_laysTo 20 = .ok (.getfield 128, 3) := dk_180 0 128 (dk_at dksX0_laysTo_0 20 rfl rfl)
theorem dX0_laysTo_23 : decode cX0_laysTo 23 = .ok (.iload_n 2, 1) := dk_28 (dk_at dksX0_laysTo_0 23 rfl rfl)
theorem dX0_laysTo_24 : decode cX0_laysTo 24 = .ok (.iload_n 2, 1) := dk_28 (dk_at dksX0_laysTo_1 0 rfl rfl)
theorem dX0_laysTo_25 : decode cX0_laysTo 25 = .ok (.ifCond .ne 7, 3) := dk_154 0 7 (dk_at dksX0_laysTo_1 1 rfl rfl)
theorem dX0_laysTo_28 : decode cX0_laysTo 28 = .ok (.lconst 1, 1) := dk_10 (dk_at dksX0_laysTo_1 4 rfl rfl)
theorem dX0_laysTo_29 : decode cX0_laysTo 29 = .ok (.goto 128, 3) := dk_167 0 128 (dk_at dksX0_laysTo_1 5 rfl rfl)
theorem dX0_laysTo_32 : decode cX0_laysTo 32 = .ok (.iload_n 3, 1) := dk_29 (dk_at dksX0_laysTo_1 8 rfl rfl)
theorem dX0_laysTo_33 : decode cX0_laysTo 33 = .ok (.iload_n 3, 1) := dk_29 (dk_at dksX0_laysTo_1 9 rfl rfl)
theorem dX0_laysTo_34 : decode cX0_laysTo 34 = .ok (.iconst 3, 1) := dk_6 (dk_at dksX0_laysTo_1 10 rfl rfl)
theorem dX0_laysTo_35 : decode cX0_laysTo 35 = .ok (.anewarray 132, 3) := dk_189 0 132 (dk_at dksX0_laysTo_1 11 rfl rfl)
theorem dX0_laysTo_38 : decode cX0_laysTo 38 = .ok (.dup, 1) := dk_89 (dk_at dksX0_laysTo_1 14 rfl rfl)
theorem dX0_laysTo_39 : decode cX0_laysTo 39 = .ok (.iconst 0, 1) := dk_3 (dk_at dksX0_laysTo_1 15 rfl rfl)
theorem dX0_laysTo_40 : decode cX0_laysTo 40 = .ok (.aload_n 0, 1) := dk_42 (dk_at dksX0_laysTo_1 16 rfl rfl)
theorem dX0_laysTo_41 : decode cX0_laysTo 41 = .ok (.getfield 128, 3) := dk_180 0 128 (dk_at dksX0_laysTo_1 17 rfl rfl)
theorem dX0_laysTo_44 : decode cX0_laysTo 44 = .ok (.aastore, 1) := dk_83 (dk_at dksX0_laysTo_1 20 rfl rfl)
theorem dX0_laysTo_45 : decode cX0_laysTo 45 = .ok (.dup, 1) := dk_89 (dk_at dksX0_laysTo_1 21 rfl rfl)
theorem dX0_laysTo_46 : decode cX0_laysTo 46 = .ok (.iconst 1, 1) := dk_4 (dk_at dksX0_laysTo_1 22 rfl rfl)
theorem dX0_laysTo_47 : decode cX0_laysTo 47 = .ok (.aload_n 0, 1) := dk_42 (dk_at dksX0_laysTo_1 23 rfl rfl)
theorem dX0_laysTo_48 : decode cX0_laysTo 48 = .ok (.getfield 128, 3) := dk_180 0 128 (dk_at dksX0_laysTo_2 0 rfl rfl)
theorem dX0_laysTo_51 : decode cX0_laysTo 51 = .ok (.aastore, 1) := dk_83 (dk_at dksX0_laysTo_2 3 rfl rfl)
theorem dX0_laysTo_52 : decode cX0_laysTo 52 = .ok (.dup, 1) := dk_89 (dk_at dksX0_laysTo_2 4 rfl rfl)
theorem dX0_laysTo_53 : decode cX0_laysTo 53 = .ok (.iconst 2, 1) := dk_5 (dk_at dksX0_laysTo_2 5 rfl rfl)
theorem dX0_laysTo_54 : decode cX0_laysTo 54 = .ok (.aload_n 0, 1) := dk_42 (dk_at dksX0_laysTo_2 6 rfl rfl)
theorem dX0_laysTo_55 : decode cX0_laysTo 55 = .ok (.getfield 128, 3) := dk_180 0 128 (dk_at dksX0_laysTo_2 7 rfl rfl)
theorem dX0_laysTo_58 : decode cX0_laysTo 58 = .ok (.aastore, 1) := dk_83 (dk_at dksX0_laysTo_2 10 rfl rfl)
theorem dX0_laysTo_59 : decode cX0_laysTo 59 = .ok (.invokestatic 133, 3) := dk_184 0 133 (dk_at dksX0_laysTo_2 11 rfl rfl)
theorem dX0_laysTo_62 : decode cX0_laysTo 62 = .ok (.iconst 3, 1) := dk_6 (dk_at dksX0_laysTo_2 14 rfl rfl)
theorem dX0_laysTo_63 : decode cX0_laysTo 63 = .ok (.newarray .int, 2) := dk_188_10 (dk_at dksX0_laysTo_2 15 rfl rfl)
theorem dX0_laysTo_65 : decode cX0_laysTo 65 = .ok (.dup, 1) := dk_89 (dk_at dksX0_laysTo_2 17 rfl rfl)
theorem dX0_laysTo_66 : decode cX0_laysTo 66 = .ok (.iconst 0, 1) := dk_3 (dk_at dksX0_laysTo_2 18 rfl rfl)
theorem dX0_laysTo_67 : decode cX0_laysTo 67 = .ok (.iconst 1, 1) := dk_4 (dk_at dksX0_laysTo_2 19 rfl rfl)
theorem dX0_laysTo_68 : decode cX0_laysTo 68 = .ok (.iastore, 1) := dk_79 (dk_at dksX0_laysTo_2 20 rfl rfl)
theorem dX0_laysTo_69 : decode cX0_laysTo 69 = .ok (.dup, 1) := dk_89 (dk_at dksX0_laysTo_2 21 rfl rfl)
theorem dX0_laysTo_70 : decode cX0_laysTo 70 = .ok (.iconst 1, 1) := dk_4 (dk_at dksX0_laysTo_2 22 rfl rfl)
theorem dX0_laysTo_71 : decode cX0_laysTo 71 = .ok (.iconst 1, 1) := dk_4 (dk_at dksX0_laysTo_2 23 rfl rfl)
theorem dX0_laysTo_72 : decode cX0_laysTo 72 = .ok (.iastore, 1) := dk_79 (dk_at dksX0_laysTo_3 0 rfl rfl)
theorem dX0_laysTo_73 : decode cX0_laysTo 73 = .ok (.dup, 1) := dk_89 (dk_at dksX0_laysTo_3 1 rfl rfl)
theorem dX0_laysTo_74 : decode cX0_laysTo 74 = .ok (.iconst 2, 1) := dk_5 (dk_at dksX0_laysTo_3 2 rfl rfl)
theorem dX0_laysTo_75 : decode cX0_laysTo 75 = .ok (.iconst 1, 1) := dk_4 (dk_at dksX0_laysTo_3 3 rfl rfl)
theorem dX0_laysTo_76 : decode cX0_laysTo 76 = .ok (.iastore, 1) := dk_79 (dk_at dksX0_laysTo_3 4 rfl rfl)
theorem dX0_laysTo_77 : decode cX0_laysTo 77 = .ok (.invokestatic 137, 3) := dk_184 0 137 (dk_at dksX0_laysTo_3 5 rfl rfl)
theorem dX0_laysTo_80 : decode cX0_laysTo 80 = .ok (.ldc2_w 141, 3) := dk_20 0 141 (dk_at dksX0_laysTo_3 8 rfl rfl)
theorem dX0_laysTo_83 : decode cX0_laysTo 83 = .ok (.iload_n 3, 1) := dk_29 (dk_at dksX0_laysTo_3 11 rfl rfl)
theorem dX0_laysTo_84 : decode cX0_laysTo 84 = .ok (.iload_n 3, 1) := dk_29 (dk_at dksX0_laysTo_3 12 rfl rfl)
theorem dX0_laysTo_85 : decode cX0_laysTo 85 = .ok (.iconst 2, 1) := dk_5 (dk_at dksX0_laysTo_3 13 rfl rfl)
theorem dX0_laysTo_86 : decode cX0_laysTo 86 = .ok (.anewarray 132, 3) := dk_189 0 132 (dk_at dksX0_laysTo_3 14 rfl rfl)
theorem dX0_laysTo_89 : decode cX0_laysTo 89 = .ok (.dup, 1) := dk_89 (dk_at dksX0_laysTo_3 17 rfl rfl)
theorem dX0_laysTo_90 : decode cX0_laysTo 90 = .ok (.iconst 0, 1) := dk_3 (dk_at dksX0_laysTo_3 18 rfl rfl)
theorem dX0_laysTo_91 : decode cX0_laysTo 91 = .ok (.aload_n 0, 1) := dk_42 (dk_at dksX0_laysTo_3 19 rfl rfl)
theorem dX0_laysTo_92 : decode cX0_laysTo 92 = .ok (.getfield 128, 3) := dk_180 0 128 (dk_at dksX0_laysTo_3 20 rfl rfl)
theorem dX0_laysTo_95 : decode cX0_laysTo 95 = .ok (.aastore, 1) := dk_83 (dk_at dksX0_laysTo_3 23 rfl rfl)
theorem dX0_laysTo_96 : decode cX0_laysTo 96 = .ok (.dup, 1) := dk_89 (dk_at dksX0_laysTo_4 0 rfl rfl)
theorem dX0_laysTo_97 : decode cX0_laysTo 97 = .ok (.iconst 1, 1) := dk_4 (dk_at dksX0_laysTo_4 1 rfl rfl)
theorem dX0_laysTo_98 : decode cX0_laysTo 98 = .ok (.aload_n 0, 1) := dk_42 (dk_at dksX0_laysTo_4 2 rfl rfl)
theorem dX0_laysTo_99 : decode cX0_laysTo 99 = .ok (.getfield 128, 3) := dk_180 0 128 (dk_at dksX0_laysTo_4 3 rfl rfl)
theorem dX0_laysTo_102 : decode cX0_laysTo 102 = .ok (.aastore, 1) := dk_83 (dk_at dksX0_laysTo_4 6 rfl rfl)
theorem dX0_laysTo_103 : decode cX0_laysTo 103 = .ok (.invokestatic 133, 3) := dk_184 0 133 (dk_at dksX0_laysTo_4 7 rfl rfl)
theorem dX0_laysTo_106 : decode cX0_laysTo 106 = .ok (.iconst 2, 1) := dk_5 (dk_at dksX0_laysTo_4 10 rfl rfl)
theorem dX0_laysTo_107 : decode cX0_laysTo 107 = .ok (.newarray .int, 2) := dk_188_10 (dk_at dksX0_laysTo_4 11 rfl rfl)
theorem dX0_laysTo_109 : decode cX0_laysTo 109 = .ok (.dup, 1) := dk_89 (dk_at dksX0_laysTo_4 13 rfl rfl)
theorem dX0_laysTo_110 : decode cX0_laysTo 110 = .ok (.iconst 0, 1) := dk_3 (dk_at dksX0_laysTo_4 14 rfl rfl)
theorem dX0_laysTo_111 : decode cX0_laysTo 111 = .ok (.iconst 1, 1) := dk_4 (dk_at dksX0_laysTo_4 15 rfl rfl)
theorem dX0_laysTo_112 : decode cX0_laysTo 112 = .ok (.iastore, 1) := dk_79 (dk_at dksX0_laysTo_4 16 rfl rfl)
theorem dX0_laysTo_113 : decode cX0_laysTo 113 = .ok (.dup, 1) := dk_89 (dk_at dksX0_laysTo_4 17 rfl rfl)
theorem dX0_laysTo_114 : decode cX0_laysTo 114 = .ok (.iconst 1, 1) := dk_4 (dk_at dksX0_laysTo_4 18 rfl rfl)
theorem dX0_laysTo_115 : decode cX0_laysTo 115 = .ok (.iconst 2, 1) := dk_5 (dk_at dksX0_laysTo_4 19 rfl rfl)
theorem dX0_laysTo_116 : decode cX0_laysTo 116 = .ok (.iastore, 1) := dk_79 (dk_at dksX0_laysTo_4 20 rfl rfl)
theorem dX0_laysTo_117 : decode cX0_laysTo 117 = .ok (.invokestatic 137, 3) := dk_184 0 137 (dk_at dksX0_laysTo_4 21 rfl rfl)
theorem dX0_laysTo_120 : decode cX0_laysTo 120 = .ok (.lmul, 1) := dk_105 (dk_at dksX0_laysTo_5 0 rfl rfl)
theorem dX0_laysTo_121 : decode cX0_laysTo 121 = .ok (.ladd, 1) := dk_97 (dk_at dksX0_laysTo_5 1 rfl rfl)
theorem dX0_laysTo_122 : decode cX0_laysTo 122 = .ok (.ldc2_w 143, 3) := dk_20 0 143 (dk_at dksX0_laysTo_5 2 rfl rfl)
theorem dX0_laysTo_125 : decode cX0_laysTo 125 = .ok (.iload_n 3, 1) := dk_29 (dk_at dksX0_laysTo_5 5 rfl rfl)
theorem dX0_laysTo_126 : decode cX0_laysTo 126 = .ok (.iload_n 3, 1) := dk_29 (dk_at dksX0_laysTo_5 6 rfl rfl)
theorem dX0_laysTo_127 : decode cX0_laysTo 127 = .ok (.iconst 1, 1) := dk_4 (dk_at dksX0_laysTo_5 7 rfl rfl)
theorem dX0_laysTo_128 : decode cX0_laysTo 128 = .ok (.anewarray 132, 3) := dk_189 0 132 (dk_at dksX0_laysTo_5 8 rfl rfl)
theorem dX0_laysTo_131 : decode cX0_laysTo 131 = .ok (.dup, 1) := dk_89 (dk_at dksX0_laysTo_5 11 rfl rfl)
theorem dX0_laysTo_132 : decode cX0_laysTo 132 = .ok (.iconst 0, 1) := dk_3 (dk_at dksX0_laysTo_5 12 rfl rfl)
theorem dX0_laysTo_133 : decode cX0_laysTo 133 = .ok (.aload_n 0, 1) := dk_42 (dk_at dksX0_laysTo_5 13 rfl rfl)
theorem dX0_laysTo_134 : decode cX0_laysTo 134 = .ok (.getfield 128, 3) := dk_180 0 128 (dk_at dksX0_laysTo_5 14 rfl rfl)
theorem dX0_laysTo_137 : decode cX0_laysTo 137 = .ok (.aastore, 1) := dk_83 (dk_at dksX0_laysTo_5 17 rfl rfl)
theorem dX0_laysTo_138 : decode cX0_laysTo 138 = .ok (.invokestatic 133, 3) := dk_184 0 133 (dk_at dksX0_laysTo_5 18 rfl rfl)
theorem dX0_laysTo_141 : decode cX0_laysTo 141 = .ok (.iconst 1, 1) := dk_4 (dk_at dksX0_laysTo_5 21 rfl rfl)
theorem dX0_laysTo_142 : decode cX0_laysTo 142 = .ok (.newarray .int, 2) := dk_188_10 (dk_at dksX0_laysTo_5 22 rfl rfl)
theorem dX0_laysTo_144 : decode cX0_laysTo 144 = .ok (.dup, 1) := dk_89 (dk_at dksX0_laysTo_6 0 rfl rfl)
theorem dX0_laysTo_145 : decode cX0_laysTo 145 = .ok (.iconst 0, 1) := dk_3 (dk_at dksX0_laysTo_6 1 rfl rfl)
theorem dX0_laysTo_146 : decode cX0_laysTo 146 = .ok (.iconst 3, 1) := dk_6 (dk_at dksX0_laysTo_6 2 rfl rfl)
theorem dX0_laysTo_147 : decode cX0_laysTo 147 = .ok (.iastore, 1) := dk_79 (dk_at dksX0_laysTo_6 3 rfl rfl)
theorem dX0_laysTo_148 : decode cX0_laysTo 148 = .ok (.invokestatic 137, 3) := dk_184 0 137 (dk_at dksX0_laysTo_6 4 rfl rfl)
theorem dX0_laysTo_151 : decode cX0_laysTo 151 = .ok (.lmul, 1) := dk_105 (dk_at dksX0_laysTo_6 7 rfl rfl)
theorem dX0_laysTo_152 : decode cX0_laysTo 152 = .ok (.ladd, 1) := dk_97 (dk_at dksX0_laysTo_6 8 rfl rfl)
theorem dX0_laysTo_153 : decode cX0_laysTo 153 = .ok (.ldc2_w 145, 3) := dk_20 0 145 (dk_at dksX0_laysTo_6 9 rfl rfl)
theorem dX0_laysTo_156 : decode cX0_laysTo 156 = .ok (.ldiv, 1) := dk_109 (dk_at dksX0_laysTo_6 12 rfl rfl)
theorem dX0_laysTo_157 : decode cX0_laysTo 157 = .ok (.lastore, 1) := dk_80 (dk_at dksX0_laysTo_6 13 rfl rfl)
theorem dX0_laysTo_158 : decode cX0_laysTo 158 = .ok (.aload_n 0, 1) := dk_42 (dk_at dksX0_laysTo_6 14 rfl rfl)
theorem dX0_laysTo_159 : decode cX0_laysTo 159 = .ok (.getfield 147, 3) := dk_180 0 147 (dk_at dksX0_laysTo_6 15 rfl rfl)
theorem dX0_laysTo_162 : decode cX0_laysTo 162 = .ok (.iload_n 2, 1) := dk_28 (dk_at dksX0_laysTo_6 18 rfl rfl)
theorem dX0_laysTo_163 : decode cX0_laysTo 163 = .ok (.iload_n 2, 1) := dk_28 (dk_at dksX0_laysTo_6 19 rfl rfl)
theorem dX0_laysTo_164 : decode cX0_laysTo 164 = .ok (.ifCond .ne 7, 3) := dk_154 0 7 (dk_at dksX0_laysTo_6 20 rfl rfl)
theorem dX0_laysTo_167 : decode cX0_laysTo 167 = .ok (.lconst 1, 1) := dk_10 (dk_at dksX0_laysTo_6 23 rfl rfl)
theorem dX0_laysTo_168 : decode cX0_laysTo 168 = .ok (.goto 86, 3) := dk_167 0 86 (dk_at dksX0_laysTo_7 0 rfl rfl)
theorem dX0_laysTo_171 : decode cX0_laysTo 171 = .ok (.iload_n 3, 1) := dk_29 (dk_at dksX0_laysTo_7 3 rfl rfl)
theorem dX0_laysTo_172 : decode cX0_laysTo 172 = .ok (.iload_n 3, 1) := dk_29 (dk_at dksX0_laysTo_7 4 rfl rfl)
theorem dX0_laysTo_173 : decode cX0_laysTo 173 = .ok (.iconst 3, 1) := dk_6 (dk_at dksX0_laysTo_7 5 rfl rfl)
theorem dX0_laysTo_174 : decode cX0_laysTo 174 = .ok (.anewarray 132, 3) := dk_189 0 132 (dk_at dksX0_laysTo_7 6 rfl rfl)
theorem dX0_laysTo_177 : decode cX0_laysTo 177 = .ok (.dup, 1) := dk_89 (dk_at dksX0_laysTo_7 9 rfl rfl)
theorem dX0_laysTo_178 : decode cX0_laysTo 178 = .ok (.iconst 0, 1) := dk_3 (dk_at dksX0_laysTo_7 10 rfl rfl)
theorem dX0_laysTo_179 : decode cX0_laysTo 179 = .ok (.aload_n 0, 1) := dk_42 (dk_at dksX0_laysTo_7 11 rfl rfl)
theorem dX0_laysTo_180 : decode cX0_laysTo 180 = .ok (.getfield 147, 3) := dk_180 0 147 (dk_at dksX0_laysTo_7 12 rfl rfl)
theorem dX0_laysTo_183 : decode cX0_laysTo 183 = .ok (.aastore, 1) := dk_83 (dk_at dksX0_laysTo_7 15 rfl rfl)
theorem dX0_laysTo_184 : decode cX0_laysTo 184 = .ok (.dup, 1) := dk_89 (dk_at dksX0_laysTo_7 16 rfl rfl)
theorem dX0_laysTo_185 : decode cX0_laysTo 185 = .ok (.iconst 1, 1) := dk_4 (dk_at dksX0_laysTo_7 17 rfl rfl)
theorem dX0_laysTo_186 : decode cX0_laysTo 186 = .ok (.aload_n 0, 1) := dk_42 (dk_at dksX0_laysTo_7 18 rfl rfl)
theorem dX0_laysTo_187 : decode cX0_laysTo 187 = .ok (.getfield 147, 3) := dk_180 0 147 (dk_at dksX0_laysTo_7 19 rfl rfl)
theorem dX0_laysTo_190 : decode cX0_laysTo 190 = .ok (.aastore, 1) := dk_83 (dk_at dksX0_laysTo_7 22 rfl rfl)
theorem dX0_laysTo_191 : decode cX0_laysTo 191 = .ok (.dup, 1) := dk_89 (dk_at dksX0_laysTo_7 23 rfl rfl)
theorem dX0_laysTo_192 : decode cX0_laysTo 192 = .ok (.iconst 2, 1) := dk_5 (dk_at dksX0_laysTo_8 0 rfl rfl)
theorem dX0_laysTo_193 : decode cX0_laysTo 193 = .ok (.aload_n 0, 1) := dk_42 (dk_at dksX0_laysTo_8 1 rfl rfl)
theorem dX0_laysTo_194 : decode cX0_laysTo 194 = .ok (.getfield 147, 3) := dk_180 0 147 (dk_at dksX0_laysTo_8 2 rfl rfl)
theorem dX0_laysTo_197 : decode cX0_laysTo 197 = .ok (.aastore, 1) := dk_83 (dk_at dksX0_laysTo_8 5 rfl rfl)
theorem dX0_laysTo_198 : decode cX0_laysTo 198 = .ok (.invokestatic 133, 3) := dk_184 0 133 (dk_at dksX0_laysTo_8 6 rfl rfl)
theorem dX0_laysTo_201 : decode cX0_laysTo 201 = .ok (.iconst 3, 1) := dk_6 (dk_at dksX0_laysTo_8 9 rfl rfl)
theorem dX0_laysTo_202 : decode cX0_laysTo 202 = .ok (.newarray .int, 2) := dk_188_10 (dk_at dksX0_laysTo_8 10 rfl rfl)
theorem dX0_laysTo_204 : decode cX0_laysTo 204 = .ok (.dup, 1) := dk_89 (dk_at dksX0_laysTo_8 12 rfl rfl)
theorem dX0_laysTo_205 : decode cX0_laysTo 205 = .ok (.iconst 0, 1) := dk_3 (dk_at dksX0_laysTo_8 13 rfl rfl)
theorem dX0_laysTo_206 : decode cX0_laysTo 206 = .ok (.iconst 1, 1) := dk_4 (dk_at dksX0_laysTo_8 14 rfl rfl)
theorem dX0_laysTo_207 : decode cX0_laysTo 207 = .ok (.iastore, 1) := dk_79 (dk_at dksX0_laysTo_8 15 rfl rfl)
theorem dX0_laysTo_208 : decode cX0_laysTo 208 = .ok (.dup, 1) := dk_89 (dk_at dksX0_laysTo_8 16 rfl rfl)
theorem dX0_laysTo_209 : decode cX0_laysTo 209 = .ok (.iconst 1, 1) := dk_4 (dk_at dksX0_laysTo_8 17 rfl rfl)
theorem dX0_laysTo_210 : decode cX0_laysTo 210 = .ok (.iconst 1, 1) := dk_4 (dk_at dksX0_laysTo_8 18 rfl rfl)
theorem dX0_laysTo_211 : decode cX0_laysTo 211 = .ok (.iastore, 1) := dk_79 (dk_at dksX0_laysTo_8 19 rfl rfl)
theorem dX0_laysTo_212 : decode cX0_laysTo 212 = .ok (.dup, 1) := dk_89 (dk_at dksX0_laysTo_8 20 rfl rfl)
theorem dX0_laysTo_213 : decode cX0_laysTo 213 = .ok (.iconst 2, 1) := dk_5 (dk_at dksX0_laysTo_8 21 rfl rfl)
theorem dX0_laysTo_214 : decode cX0_laysTo 214 = .ok (.iconst 1, 1) := dk_4 (dk_at dksX0_laysTo_8 22 rfl rfl)
theorem dX0_laysTo_215 : decode cX0_laysTo 215 = .ok (.iastore, 1) := dk_79 (dk_at dksX0_laysTo_8 23 rfl rfl)
theorem dX0_laysTo_216 : decode cX0_laysTo 216 = .ok (.invokestatic 137, 3) := dk_184 0 137 (dk_at dksX0_laysTo_9 0 rfl rfl)
theorem dX0_laysTo_219 : decode cX0_laysTo 219 = .ok (.ldc2_w 143, 3) := dk_20 0 143 (dk_at dksX0_laysTo_9 3 rfl rfl)
theorem dX0_laysTo_222 : decode cX0_laysTo 222 = .ok (.iload_n 3, 1) := dk_29 (dk_at dksX0_laysTo_9 6 rfl rfl)
theorem dX0_laysTo_223 : decode cX0_laysTo 223 = .ok (.iload_n 3, 1) := dk_29 (dk_at dksX0_laysTo_9 7 rfl rfl)
theorem dX0_laysTo_224 : decode cX0_laysTo 224 = .ok (.iconst 1, 1) := dk_4 (dk_at dksX0_laysTo_9 8 rfl rfl)
theorem dX0_laysTo_225 : decode cX0_laysTo 225 = .ok (.anewarray 132, 3) := dk_189 0 132 (dk_at dksX0_laysTo_9 9 rfl rfl)
theorem dX0_laysTo_228 : decode cX0_laysTo 228 = .ok (.dup, 1) := dk_89 (dk_at dksX0_laysTo_9 12 rfl rfl)
theorem dX0_laysTo_229 : decode cX0_laysTo 229 = .ok (.iconst 0, 1) := dk_3 (dk_at dksX0_laysTo_9 13 rfl rfl)
theorem dX0_laysTo_230 : decode cX0_laysTo 230 = .ok (.aload_n 0, 1) := dk_42 (dk_at dksX0_laysTo_9 14 rfl rfl)
theorem dX0_laysTo_231 : decode cX0_laysTo 231 = .ok (.getfield 147, 3) := dk_180 0 147 (dk_at dksX0_laysTo_9 15 rfl rfl)
theorem dX0_laysTo_234 : decode cX0_laysTo 234 = .ok (.aastore, 1) := dk_83 (dk_at dksX0_laysTo_9 18 rfl rfl)
theorem dX0_laysTo_235 : decode cX0_laysTo 235 = .ok (.invokestatic 133, 3) := dk_184 0 133 (dk_at dksX0_laysTo_9 19 rfl rfl)
theorem dX0_laysTo_238 : decode cX0_laysTo 238 = .ok (.iconst 1, 1) := dk_4 (dk_at dksX0_laysTo_9 22 rfl rfl)
theorem dX0_laysTo_239 : decode cX0_laysTo 239 = .ok (.newarray .int, 2) := dk_188_10 (dk_at dksX0_laysTo_10 0 rfl rfl)
theorem dX0_laysTo_241 : decode cX0_laysTo 241 = .ok (.dup, 1) := dk_89 (dk_at dksX0_laysTo_10 2 rfl rfl)
theorem dX0_laysTo_242 : decode cX0_laysTo 242 = .ok (.iconst 0, 1) := dk_3 (dk_at dksX0_laysTo_10 3 rfl rfl)
theorem dX0_laysTo_243 : decode cX0_laysTo 243 = .ok (.iconst 3, 1) := dk_6 (dk_at dksX0_laysTo_10 4 rfl rfl)
theorem dX0_laysTo_244 : decode cX0_laysTo 244 = .ok (.iastore, 1) := dk_79 (dk_at dksX0_laysTo_10 5 rfl rfl)
theorem dX0_laysTo_245 : decode cX0_laysTo 245 = .ok (.invokestatic 137, 3) := dk_184 0 137 (dk_at dksX0_laysTo_10 6 rfl rfl)
theorem dX0_laysTo_248 : decode cX0_laysTo 248 = .ok (.lmul, 1) := dk_105 (dk_at dksX0_laysTo_10 9 rfl rfl)
theorem dX0_laysTo_249 : decode cX0_laysTo 249 = .ok (.ladd, 1) := dk_97 (dk_at dksX0_laysTo_10 10 rfl rfl)
theorem dX0_laysTo_250 : decode cX0_laysTo 250 = .ok (.ldc2_w 141, 3) := dk_20 0 141 (dk_at dksX0_laysTo_10 11 rfl rfl)
theorem dX0_laysTo_253 : decode cX0_laysTo 253 = .ok (.ldiv, 1) := dk_109 (dk_at dksX0_laysTo_10 14 rfl rfl)
theorem dX0_laysTo_254 : decode cX0_laysTo 254 = .ok (.lastore, 1) := dk_80 (dk_at dksX0_laysTo_10 15 rfl rfl)
theorem dX0_laysTo_255 : decode cX0_laysTo 255 = .ok (.aload_n 0, 1) := dk_42 (dk_at dksX0_laysTo_10 16 rfl rfl)
theorem dX0_laysTo_256 : decode cX0_laysTo 256 = .ok (.getfield 150, 3) := dk_180 0 150 (dk_at dksX0_laysTo_10 17 rfl rfl)
theorem dX0_laysTo_259 : decode cX0_laysTo 259 = .ok (.iload_n 2, 1) := dk_28 (dk_at dksX0_laysTo_10 20 rfl rfl)
theorem dX0_laysTo_260 : decode cX0_laysTo 260 = .ok (.iload_n 2, 1) := dk_28 (dk_at dksX0_laysTo_10 21 rfl rfl)
theorem dX0_laysTo_261 : decode cX0_laysTo 261 = .ok (.ifCond .ne 7, 3) := dk_154 0 7 (dk_at dksX0_laysTo_11 0 rfl rfl)
theorem dX0_laysTo_264 : decode cX0_laysTo 264 = .ok (.lconst 1, 1) := dk_10 (dk_at dksX0_laysTo_11 3 rfl rfl)
theorem dX0_laysTo_265 : decode cX0_laysTo 265 = .ok (.goto 40, 3) := dk_167 0 40 (dk_at dksX0_laysTo_11 4 rfl rfl)
theorem dX0_laysTo_268 : decode cX0_laysTo 268 = .ok (.iload_n 3, 1) := dk_29 (dk_at dksX0_laysTo_11 7 rfl rfl)
theorem dX0_laysTo_269 : decode cX0_laysTo 269 = .ok (.iload_n 3, 1) := dk_29 (dk_at dksX0_laysTo_11 8 rfl rfl)
theorem dX0_laysTo_270 : decode cX0_laysTo 270 = .ok (.iconst 2, 1) := dk_5 (dk_at dksX0_laysTo_11 9 rfl rfl)
theorem dX0_laysTo_271 : decode cX0_laysTo 271 = .ok (.anewarray 132, 3) := dk_189 0 132 (dk_at dksX0_laysTo_11 10 rfl rfl)
theorem dX0_laysTo_274 : decode cX0_laysTo 274 = .ok (.dup, 1) := dk_89 (dk_at dksX0_laysTo_11 13 rfl rfl)
theorem dX0_laysTo_275 : decode cX0_laysTo 275 = .ok (.iconst 0, 1) := dk_3 (dk_at dksX0_laysTo_11 14 rfl rfl)
theorem dX0_laysTo_276 : decode cX0_laysTo 276 = .ok (.aload_n 0, 1) := dk_42 (dk_at dksX0_laysTo_11 15 rfl rfl)
theorem dX0_laysTo_277 : decode cX0_laysTo 277 = .ok (.getfield 150, 3) := dk_180 0 150 (dk_at dksX0_laysTo_11 16 rfl rfl)
theorem dX0_laysTo_280 : decode cX0_laysTo 280 = .ok (.aastore, 1) := dk_83 (dk_at dksX0_laysTo_11 19 rfl rfl)
theorem dX0_laysTo_281 : decode cX0_laysTo 281 = .ok (.dup, 1) := dk_89 (dk_at dksX0_laysTo_11 20 rfl rfl)
theorem dX0_laysTo_282 : decode cX0_laysTo 282 = .ok (.iconst 1, 1) := dk_4 (dk_at dksX0_laysTo_11 21 rfl rfl)
theorem dX0_laysTo_283 : decode cX0_laysTo 283 = .ok (.aload_n 0, 1) := dk_42 (dk_at dksX0_laysTo_11 22 rfl rfl)
theorem dX0_laysTo_284 : decode cX0_laysTo 284 = .ok (.getfield 147, 3) := dk_180 0 147 (dk_at dksX0_laysTo_12 0 rfl rfl)
theorem dX0_laysTo_287 : decode cX0_laysTo 287 = .ok (.aastore, 1) := dk_83 (dk_at dksX0_laysTo_12 3 rfl rfl)
theorem dX0_laysTo_288 : decode cX0_laysTo 288 = .ok (.invokestatic 133, 3) := dk_184 0 133 (dk_at dksX0_laysTo_12 4 rfl rfl)
theorem dX0_laysTo_291 : decode cX0_laysTo 291 = .ok (.iconst 2, 1) := dk_5 (dk_at dksX0_laysTo_12 7 rfl rfl)
theorem dX0_laysTo_292 : decode cX0_laysTo 292 = .ok (.newarray .int, 2) := dk_188_10 (dk_at dksX0_laysTo_12 8 rfl rfl)
theorem dX0_laysTo_294 : decode cX0_laysTo 294 = .ok (.dup, 1) := dk_89 (dk_at dksX0_laysTo_12 10 rfl rfl)
theorem dX0_laysTo_295 : decode cX0_laysTo 295 = .ok (.iconst 0, 1) := dk_3 (dk_at dksX0_laysTo_12 11 rfl rfl)
theorem dX0_laysTo_296 : decode cX0_laysTo 296 = .ok (.iconst 1, 1) := dk_4 (dk_at dksX0_laysTo_12 12 rfl rfl)
theorem dX0_laysTo_297 : decode cX0_laysTo 297 = .ok (.iastore, 1) := dk_79 (dk_at dksX0_laysTo_12 13 rfl rfl)
theorem dX0_laysTo_298 : decode cX0_laysTo 298 = .ok (.dup, 1) := dk_89 (dk_at dksX0_laysTo_12 14 rfl rfl)
theorem dX0_laysTo_299 : decode cX0_laysTo 299 = .ok (.iconst 1, 1) := dk_4 (dk_at dksX0_laysTo_12 15 rfl rfl)
theorem dX0_laysTo_300 : decode cX0_laysTo 300 = .ok (.iconst 2, 1) := dk_5 (dk_at dksX0_laysTo_12 16 rfl rfl)
theorem dX0_laysTo_301 : decode cX0_laysTo 301 = .ok (.iastore, 1) := dk_79 (dk_at dksX0_laysTo_12 17 rfl rfl)
theorem dX0_laysTo_302 : decode cX0_laysTo 302 = .ok (.invokestatic 137, 3) := dk_184 0 137 (dk_at dksX0_laysTo_12 18 rfl rfl)
theorem dX0_laysTo_305 : decode cX0_laysTo 305 = .ok (.lastore, 1) := dk_80 (dk_at dksX0_laysTo_12 21 rfl rfl)
theorem dX0_laysTo_306 : decode cX0_laysTo 306 = .ok (.aload_n 0, 1) := dk_42 (dk_at dksX0_laysTo_12 22 rfl rfl)
theorem dX0_laysTo_307 : decode cX0_laysTo 307 = .ok (.iload_n 2, 1) := dk_28 (dk_at dksX0_laysTo_12 23 rfl rfl)
theorem dX0_laysTo_308 : decode cX0_laysTo 308 = .ok (.putfield 124, 3) := dk_181 0 124 (dk_at dksX0_laysTo_13 0 rfl rfl)
theorem dX0_laysTo_311 : decode cX0_laysTo 311 = .ok (.goto (-311), 3) := dk_167 254 201 (dk_at dksX0_laysTo_13 3 rfl rfl)
theorem dX0_laysTo_314 : decode cX0_laysTo 314 = .ok (.return_, 1) := dk_177 (dk_at dksX0_laysTo_13 6 rfl rfl)
abbrev cX0_row : ByteArray := prog_1_method_10_code
def yX0_row : MethodName := ⟨RX0, "row", "([[J)[[J"⟩
theorem dX0_row_0 : decode cX0_row 0 = .ok (.aload_n 0, 1) := by decide +kernel
theorem dX0_row_1 : decode cX0_row 1 = .ok (.areturn, 1) := by decide +kernel
abbrev cX0_of : ByteArray := prog_1_method_9_code
def yX0_of : MethodName := ⟨RX0, "of", "(II[[J[I)J"⟩
def dkwX0_of_0 : List UInt8 := [26, 27, 44, 45, 3, 184, 0, 120, 173]
abbrev dktX0_of_0 : List UInt8 := dkwX0_of_0 ++ []
theorem dksX0_of_0 : cX0_of.data.toList.drop 0 = dktX0_of_0 := by decide +kernel
theorem dX0_of_0 : decode cX0_of 0 = .ok (.iload_n 0, 1) := dk_26 (dk_at dksX0_of_0 0 rfl rfl)
theorem dX0_of_1 : decode cX0_of 1 = .ok (.iload_n 1, 1) := dk_27 (dk_at dksX0_of_0 1 rfl rfl)
theorem dX0_of_2 : decode cX0_of 2 = .ok (.aload_n 2, 1) := dk_44 (dk_at dksX0_of_0 2 rfl rfl)
theorem dX0_of_3 : decode cX0_of 3 = .ok (.aload_n 3, 1) := dk_45 (dk_at dksX0_of_0 3 rfl rfl)
theorem dX0_of_4 : decode cX0_of 4 = .ok (.iconst 0, 1) := dk_3 (dk_at dksX0_of_0 4 rfl rfl)
theorem dX0_of_5 : decode cX0_of 5 = .ok (.invokestatic 120, 3) := dk_184 0 120 (dk_at dksX0_of_0 5 rfl rfl)
theorem dX0_of_8 : decode cX0_of 8 = .ok (.lreturn, 1) := dk_173 (dk_at dksX0_of_0 8 rfl rfl)
abbrev cX0_product : ByteArray := prog_1_method_8_code
def yX0_product : MethodName := ⟨RX0, "product", "(II[[J[II)J"⟩
def dkwX0_product_3 : List UInt8 := [44, 45, 21, 4, 4, 96, 184, 0, 120, 105, 97, 55, 5, 132, 7, 1, 167, 255, 192, 22, 5, 173]
abbrev dktX0_product_3 : List UInt8 := dkwX0_product_3 ++ []
def dkwX0_product_2 : List UInt8 := [9, 148, 153, 0, 35, 22, 5, 44, 21, 4, 50, 21, 7, 47, 26, 21, 7, 45, 21, 4, 46, 104, 100, 27]
abbrev dktX0_product_2 : List UInt8 := dkwX0_product_2 ++ dktX0_product_3
def dkwX0_product_1 : List UInt8 := [21, 7, 27, 163, 0, 64, 21, 7, 45, 21, 4, 46, 104, 26, 163, 0, 53, 44, 21, 4, 50, 21, 7, 47]
abbrev dktX0_product_1 : List UInt8 := dkwX0_product_1 ++ dktX0_product_2
def dkwX0_product_0 : List UInt8 := [21, 4, 44, 190, 160, 0, 13, 26, 154, 0, 7, 10, 167, 0, 4, 9, 173, 9, 55, 5, 3, 54, 7]
abbrev dktX0_product_0 : List UInt8 := dkwX0_product_0 ++ dktX0_product_1
theorem dksX0_product_0 : cX0_product.data.toList.drop 0 = dktX0_product_0 := by decide +kernel
theorem dksX0_product_1 : cX0_product.data.toList.drop 23 = dktX0_product_1 := dk_seg dksX0_product_0 23 rfl rfl
theorem dksX0_product_2 : cX0_product.data.toList.drop 47 = dktX0_product_2 := dk_seg dksX0_product_1 24 rfl rfl
theorem dksX0_product_3 : cX0_product.data.toList.drop 71 = dktX0_product_3 := dk_seg dksX0_product_2 24 rfl rfl
theorem dX0_product_0 : decode cX0_product 0 = .ok (.iload 4, 2) := dk_21 4 (dk_at dksX0_product_0 0 rfl rfl)
theorem dX0_product_2 : decode cX0_product 2 = .ok (.aload_n 2, 1) := dk_44 (dk_at dksX0_product_0 2 rfl rfl)
theorem dX0_product_3 : decode cX0_product 3 = .ok (.arraylength, 1) := dk_190 (dk_at dksX0_product_0 3 rfl rfl)
theorem dX0_product_4 : decode cX0_product 4 = .ok (.if_icmp .ne 13, 3) := dk_160 0 13 (dk_at dksX0_product_0 4 rfl rfl)
theorem dX0_product_7 : decode cX0_product 7 = .ok (.iload_n 0, 1) := dk_26 (dk_at dksX0_product_0 7 rfl rfl)
theorem dX0_product_8 : decode cX0_product 8 = .ok (.ifCond .ne 7, 3) := dk_154 0 7 (dk_at dksX0_product_0 8 rfl rfl)
theorem dX0_product_11 : decode cX0_product 11 = .ok (.lconst 1, 1) := dk_10 (dk_at dksX0_product_0 11 rfl rfl)
theorem dX0_product_12 : decode cX0_product 12 = .ok (.goto 4, 3) := dk_167 0 4 (dk_at dksX0_product_0 12 rfl rfl)
theorem dX0_product_15 : decode cX0_product 15 = .ok (.lconst 0, 1) := dk_9 (dk_at dksX0_product_0 15 rfl rfl)
theorem dX0_product_16 : decode cX0_product 16 = .ok (.lreturn, 1) := dk_173 (dk_at dksX0_product_0 16 rfl rfl)
theorem dX0_product_17 : decode cX0_product 17 = .ok (.lconst 0, 1) := dk_9 (dk_at dksX0_product_0 17 rfl rfl)
theorem dX0_product_18 : decode cX0_product 18 = .ok (.lstore 5, 2) := dk_55 5 (dk_at dksX0_product_0 18 rfl rfl)
theorem dX0_product_20 : decode cX0_product 20 = .ok (.iconst 0, 1) := dk_3 (dk_at dksX0_product_0 20 rfl rfl)
theorem dX0_product_21 : decode cX0_product 21 = .ok (.istore 7, 2) := dk_54 7 (dk_at dksX0_product_0 21 rfl rfl)
theorem dX0_product_23 : decode cX0_product 23 = .ok (.iload 7, 2) := dk_21 7 (dk_at dksX0_product_1 0 rfl rfl)
theorem dX0_product_25 : decode cX0_product 25 = .ok (.iload_n 1, 1) := dk_27 (dk_at dksX0_product_1 2 rfl rfl)
theorem dX0_product_26 : decode cX0_product 26 = .ok (.if_icmp .gt 64, 3) := dk_163 0 64 (dk_at dksX0_product_1 3 rfl rfl)
theorem dX0_product_29 : decode cX0_product 29 = .ok (.iload 7, 2) := dk_21 7 (dk_at dksX0_product_1 6 rfl rfl)
theorem dX0_product_31 : decode cX0_product 31 = .ok (.aload_n 3, 1) := dk_45 (dk_at dksX0_product_1 8 rfl rfl)
theorem dX0_product_32 : decode cX0_product 32 = .ok (.iload 4, 2) := dk_21 4 (dk_at dksX0_product_1 9 rfl rfl)
theorem dX0_product_34 : decode cX0_product 34 = .ok (.iaload, 1) := dk_46 (dk_at dksX0_product_1 11 rfl rfl)
theorem dX0_product_35 : decode cX0_product 35 = .ok (.imul, 1) := dk_104 (dk_at dksX0_product_1 12 rfl rfl)
theorem dX0_product_36 : decode cX0_product 36 = .ok (.iload_n 0, 1) := dk_26 (dk_at dksX0_product_1 13 rfl rfl)
theorem dX0_product_37 : decode cX0_product 37 = .ok (.if_icmp .gt 53, 3) := dk_163 0 53 (dk_at dksX0_product_1 14 rfl rfl)
theorem dX0_product_40 : decode cX0_product 40 = .ok (.aload_n 2, 1) := dk_44 (dk_at dksX0_product_1 17 rfl rfl)
theorem dX0_product_41 : decode cX0_product 41 = .ok (.iload 4, 2) := dk_21 4 (dk_at dksX0_product_1 18 rfl rfl)
theorem dX0_product_43 : decode cX0_product 43 = .ok (.aaload, 1) := dk_50 (dk_at dksX0_product_1 20 rfl rfl)
theorem dX0_product_44 : decode cX0_product 44 = .ok (.iload 7, 2) := dk_21 7 (dk_at dksX0_product_1 21 rfl rfl)
theorem dX0_product_46 : decode cX0_product 46 = .ok (.laload, 1) := dk_47 (dk_at dksX0_product_1 23 rfl rfl)
theorem dX0_product_47 : decode cX0_product 47 = .ok (.lconst 0, 1) := dk_9 (dk_at dksX0_product_2 0 rfl rfl)
theorem dX0_product_48 : decode cX0_product 48 = .ok (.lcmp, 1) := dk_148 (dk_at dksX0_product_2 1 rfl rfl)
theorem dX0_product_49 : decode cX0_product 49 = .ok (.ifCond .eq 35, 3) := dk_153 0 35 (dk_at dksX0_product_2 2 rfl rfl)
theorem dX0_product_52 : decode cX0_product 52 = .ok (.lload 5, 2) := dk_22 5 (dk_at dksX0_product_2 5 rfl rfl)
theorem dX0_product_54 : decode cX0_product 54 = .ok (.aload_n 2, 1) := dk_44 (dk_at dksX0_product_2 7 rfl rfl)
theorem dX0_product_55 : decode cX0_product 55 = .ok (.iload 4, 2) := dk_21 4 (dk_at dksX0_product_2 8 rfl rfl)
theorem dX0_product_57 : decode cX0_product 57 = .ok (.aaload, 1) := dk_50 (dk_at dksX0_product_2 10 rfl rfl)
theorem dX0_product_58 : decode cX0_product 58 = .ok (.iload 7, 2) := dk_21 7 (dk_at dksX0_product_2 11 rfl rfl)
theorem dX0_product_60 : decode cX0_product 60 = .ok (.laload, 1) := dk_47 (dk_at dksX0_product_2 13 rfl rfl)
theorem dX0_product_61 : decode cX0_product 61 = .ok (.iload_n 0, 1) := dk_26 (dk_at dksX0_product_2 14 rfl rfl)
theorem dX0_product_62 : decode cX0_product 62 = .ok (.iload 7, 2) := dk_21 7 (dk_at dksX0_product_2 15 rfl rfl)
theorem dX0_product_64 : decode cX0_product 64 = .ok (.aload_n 3, 1) := dk_45 (dk_at dksX0_product_2 17 rfl rfl)
theorem dX0_product_65 : decode cX0_product 65 = .ok (.iload 4, 2) := dk_21 4 (dk_at dksX0_product_2 18 rfl rfl)
theorem dX0_product_67 : decode cX0_product 67 = .ok (.iaload, 1) := dk_46 (dk_at dksX0_product_2 20 rfl rfl)
theorem dX0_product_68 : decode cX0_product 68 = .ok (.imul, 1) := dk_104 (dk_at dksX0_product_2 21 rfl rfl)
theorem dX0_product_69 : decode cX0_product 69 = .ok (.isub, 1) := dk_100 (dk_at dksX0_product_2 22 rfl rfl)
theorem dX0_product_70 : decode cX0_product 70 = .ok (.iload_n 1, 1) := dk_27 (dk_at dksX0_product_2 23 rfl rfl)
theorem dX0_product_71 : decode cX0_product 71 = .ok (.aload_n 2, 1) := dk_44 (dk_at dksX0_product_3 0 rfl rfl)
theorem dX0_product_72 : decode cX0_product 72 = .ok (.aload_n 3, 1) := dk_45 (dk_at dksX0_product_3 1 rfl rfl)
theorem dX0_product_73 : decode cX0_product 73 = .ok (.iload 4, 2) := dk_21 4 (dk_at dksX0_product_3 2 rfl rfl)
theorem dX0_product_75 : decode cX0_product 75 = .ok (.iconst 1, 1) := dk_4 (dk_at dksX0_product_3 4 rfl rfl)
theorem dX0_product_76 : decode cX0_product 76 = .ok (.iadd, 1) := dk_96 (dk_at dksX0_product_3 5 rfl rfl)
theorem dX0_product_77 : decode cX0_product 77 = .ok (.invokestatic 120, 3) := dk_184 0 120 (dk_at dksX0_product_3 6 rfl rfl)
theorem dX0_product_80 : decode cX0_product 80 = .ok (.lmul, 1) := dk_105 (dk_at dksX0_product_3 9 rfl rfl)
theorem dX0_product_81 : decode cX0_product 81 = .ok (.ladd, 1) := dk_97 (dk_at dksX0_product_3 10 rfl rfl)
theorem dX0_product_82 : decode cX0_product 82 = .ok (.lstore 5, 2) := dk_55 5 (dk_at dksX0_product_3 11 rfl rfl)
theorem dX0_product_84 : decode cX0_product 84 = .ok (.iinc 7 1, 3) := dk_132 7 1 (dk_at dksX0_product_3 13 rfl rfl)
theorem dX0_product_87 : decode cX0_product 87 = .ok (.goto (-64), 3) := dk_167 255 192 (dk_at dksX0_product_3 16 rfl rfl)
theorem dX0_product_90 : decode cX0_product 90 = .ok (.lload 5, 2) := dk_22 5 (dk_at dksX0_product_3 19 rfl rfl)
theorem dX0_product_92 : decode cX0_product 92 = .ok (.lreturn, 1) := dk_173 (dk_at dksX0_product_3 21 rfl rfl)
abbrev cX0_init : ByteArray := prog_1_method_13_code
def yX0_init : MethodName := ⟨RX0, "<init>", "()V"⟩
def dkwX0_init_4 : List UInt8 := [16, 12, 184, 0, 210, 190, 197, 0, 215, 2, 181, 0, 216, 177]
abbrev dktX0_init_4 : List UInt8 := dkwX0_init_4 ++ []
def dkwX0_init_3 : List UInt8 := [181, 0, 199, 42, 187, 0, 8, 89, 183, 0, 13, 181, 0, 203, 42, 16, 120, 188, 8, 181, 0, 206, 42]
abbrev dktX0_init_3 : List UInt8 := dkwX0_init_3 ++ dktX0_init_4
def dkwX0_init_2 : List UInt8 := [42, 2, 181, 0, 124, 42, 187, 0, 188, 89, 183, 0, 190, 182, 0, 191, 181, 0, 195, 42, 6, 189, 0, 188]
abbrev dktX0_init_2 : List UInt8 := dkwX0_init_2 ++ dktX0_init_3
def dkwX0_init_1 : List UInt8 := [42, 16, 41, 188, 11, 181, 0, 128, 42, 16, 41, 188, 11, 181, 0, 147, 42, 16, 41, 188, 11, 181, 0, 150]
abbrev dktX0_init_1 : List UInt8 := dkwX0_init_1 ++ dktX0_init_2
def dkwX0_init_0 : List UInt8 := [42, 183, 0, 183, 42, 187, 0, 8, 89, 183, 0, 13, 181, 0, 1, 42, 16, 12, 189, 0, 186, 181, 0, 68]
abbrev dktX0_init_0 : List UInt8 := dkwX0_init_0 ++ dktX0_init_1
theorem dksX0_init_0 : cX0_init.data.toList.drop 0 = dktX0_init_0 := by decide +kernel
theorem dksX0_init_1 : cX0_init.data.toList.drop 24 = dktX0_init_1 := dk_seg dksX0_init_0 24 rfl rfl
theorem dksX0_init_2 : cX0_init.data.toList.drop 48 = dktX0_init_2 := dk_seg dksX0_init_1 24 rfl rfl
theorem dksX0_init_3 : cX0_init.data.toList.drop 72 = dktX0_init_3 := dk_seg dksX0_init_2 24 rfl rfl
theorem dksX0_init_4 : cX0_init.data.toList.drop 95 = dktX0_init_4 := dk_seg dksX0_init_3 23 rfl rfl
theorem dX0_init_0 : decode cX0_init 0 = .ok (.aload_n 0, 1) := dk_42 (dk_at dksX0_init_0 0 rfl rfl)
theorem dX0_init_1 : decode cX0_init 1 = .ok (.invokespecial 183, 3) := dk_183 0 183 (dk_at dksX0_init_0 1 rfl rfl)
theorem dX0_init_4 : decode cX0_init 4 = .ok (.aload_n 0, 1) := dk_42 (dk_at dksX0_init_0 4 rfl rfl)
theorem dX0_init_5 : decode cX0_init 5 = .ok (.new 8, 3) := dk_187 0 8 (dk_at dksX0_init_0 5 rfl rfl)
theorem dX0_init_8 : decode cX0_init 8 = .ok (.dup, 1) := dk_89 (dk_at dksX0_init_0 8 rfl rfl)
theorem dX0_init_9 : decode cX0_init 9 = .ok (.invokespecial 13, 3) := dk_183 0 13 (dk_at dksX0_init_0 9 rfl rfl)
theorem dX0_init_12 : decode cX0_init 12 = .ok (.putfield 1, 3) := dk_181 0 1 (dk_at dksX0_init_0 12 rfl rfl)
theorem dX0_init_15 : decode cX0_init 15 = .ok (.aload_n 0, 1) := dk_42 (dk_at dksX0_init_0 15 rfl rfl)
theorem dX0_init_16 : decode cX0_init 16 = .ok (.bipush 12, 2) := dk_16 12 (dk_at dksX0_init_0 16 rfl rfl)
theorem dX0_init_18 : decode cX0_init 18 = .ok (.anewarray 186, 3) := dk_189 0 186 (dk_at dksX0_init_0 18 rfl rfl)
theorem dX0_init_21 : decode cX0_init 21 = .ok (.putfield 68, 3) := dk_181 0 68 (dk_at dksX0_init_0 21 rfl rfl)
theorem dX0_init_24 : decode cX0_init 24 = .ok (.aload_n 0, 1) := dk_42 (dk_at dksX0_init_1 0 rfl rfl)
theorem dX0_init_25 : decode cX0_init 25 = .ok (.bipush 41, 2) := dk_16 41 (dk_at dksX0_init_1 1 rfl rfl)
theorem dX0_init_27 : decode cX0_init 27 = .ok (.newarray .long, 2) := dk_188_11 (dk_at dksX0_init_1 3 rfl rfl)
theorem dX0_init_29 : decode cX0_init 29 = .ok (.putfield 128, 3) := dk_181 0 128 (dk_at dksX0_init_1 5 rfl rfl)
theorem dX0_init_32 : decode cX0_init 32 = .ok (.aload_n 0, 1) := dk_42 (dk_at dksX0_init_1 8 rfl rfl)
theorem dX0_init_33 : decode cX0_init 33 = .ok (.bipush 41, 2) := dk_16 41 (dk_at dksX0_init_1 9 rfl rfl)
theorem dX0_init_35 : decode cX0_init 35 = .ok (.newarray .long, 2) := dk_188_11 (dk_at dksX0_init_1 11 rfl rfl)
theorem dX0_init_37 : decode cX0_init 37 = .ok (.putfield 147, 3) := dk_181 0 147 (dk_at dksX0_init_1 13 rfl rfl)
theorem dX0_init_40 : decode cX0_init 40 = .ok (.aload_n 0, 1) := dk_42 (dk_at dksX0_init_1 16 rfl rfl)
theorem dX0_init_41 : decode cX0_init 41 = .ok (.bipush 41, 2) := dk_16 41 (dk_at dksX0_init_1 17 rfl rfl)
theorem dX0_init_43 : decode cX0_init 43 = .ok (.newarray .long, 2) := dk_188_11 (dk_at dksX0_init_1 19 rfl rfl)
theorem dX0_init_45 : decode cX0_init 45 = .ok (.putfield 150, 3) := dk_181 0 150 (dk_at dksX0_init_1 21 rfl rfl)
theorem dX0_init_48 : decode cX0_init 48 = .ok (.aload_n 0, 1) := dk_42 (dk_at dksX0_init_2 0 rfl rfl)
theorem dX0_init_49 : decode cX0_init 49 = .ok (.iconst (-1), 1) := dk_2 (dk_at dksX0_init_2 1 rfl rfl)
theorem dX0_init_50 : decode cX0_init 50 = .ok (.putfield 124, 3) := dk_181 0 124 (dk_at dksX0_init_2 2 rfl rfl)
theorem dX0_init_53 : decode cX0_init 53 = .ok (.aload_n 0, 1) := dk_42 (dk_at dksX0_init_2 5 rfl rfl)
theorem dX0_init_54 : decode cX0_init 54 = .ok (.new 188, 3) := dk_187 0 188 (dk_at dksX0_init_2 6 rfl rfl)
theorem dX0_init_57 : decode cX0_init 57 = .ok (.dup, 1) := dk_89 (dk_at dksX0_init_2 9 rfl rfl)
theorem dX0_init_58 : decode cX0_init 58 = .ok (.invokespecial 190, 3) := dk_183 0 190 (dk_at dksX0_init_2 10 rfl rfl)
theorem dX0_init_61 : decode cX0_init 61 = .ok (.invokevirtual 191, 3) := dk_182 0 191 (dk_at dksX0_init_2 13 rfl rfl)
theorem dX0_init_64 : decode cX0_init 64 = .ok (.putfield 195, 3) := dk_181 0 195 (dk_at dksX0_init_2 16 rfl rfl)
theorem dX0_init_67 : decode cX0_init 67 = .ok (.aload_n 0, 1) := dk_42 (dk_at dksX0_init_2 19 rfl rfl)
theorem dX0_init_68 : decode cX0_init 68 = .ok (.iconst 3, 1) := dk_6 (dk_at dksX0_init_2 20 rfl rfl)
theorem dX0_init_69 : decode cX0_init 69 = .ok (.anewarray 188, 3) := dk_189 0 188 (dk_at dksX0_init_2 21 rfl rfl)
theorem dX0_init_72 : decode cX0_init 72 = .ok (.putfield 199, 3) := dk_181 0 199 (dk_at dksX0_init_3 0 rfl rfl)
theorem dX0_init_75 : decode cX0_init 75 = .ok (.aload_n 0, 1) := dk_42 (dk_at dksX0_init_3 3 rfl rfl)
theorem dX0_init_76 : decode cX0_init 76 = .ok (.new 8, 3) := dk_187 0 8 (dk_at dksX0_init_3 4 rfl rfl)
theorem dX0_init_79 : decode cX0_init 79 = .ok (.dup, 1) := dk_89 (dk_at dksX0_init_3 7 rfl rfl)
theorem dX0_init_80 : decode cX0_init 80 = .ok (.invokespecial 13, 3) := dk_183 0 13 (dk_at dksX0_init_3 8 rfl rfl)
theorem dX0_init_83 : decode cX0_init 83 = .ok (.putfield 203, 3) := dk_181 0 203 (dk_at dksX0_init_3 11 rfl rfl)
theorem dX0_init_86 : decode cX0_init 86 = .ok (.aload_n 0, 1) := dk_42 (dk_at dksX0_init_3 14 rfl rfl)
theorem dX0_init_87 : decode cX0_init 87 = .ok (.bipush 120, 2) := dk_16 120 (dk_at dksX0_init_3 15 rfl rfl)
theorem dX0_init_89 : decode cX0_init 89 = .ok (.newarray .byte, 2) := dk_188_8 (dk_at dksX0_init_3 17 rfl rfl)
theorem dX0_init_91 : decode cX0_init 91 = .ok (.putfield 206, 3) := dk_181 0 206 (dk_at dksX0_init_3 19 rfl rfl)
theorem dX0_init_94 : decode cX0_init 94 = .ok (.aload_n 0, 1) := dk_42 (dk_at dksX0_init_3 22 rfl rfl)
theorem dX0_init_95 : decode cX0_init 95 = .ok (.bipush 12, 2) := dk_16 12 (dk_at dksX0_init_4 0 rfl rfl)
theorem dX0_init_97 : decode cX0_init 97 = .ok (.invokestatic 210, 3) := dk_184 0 210 (dk_at dksX0_init_4 2 rfl rfl)
theorem dX0_init_100 : decode cX0_init 100 = .ok (.arraylength, 1) := dk_190 (dk_at dksX0_init_4 5 rfl rfl)
theorem dX0_init_101 : decode cX0_init 101 = .ok (.multianewarray 215 2, 4) := by decide +kernel
theorem dX0_init_105 : decode cX0_init 105 = .ok (.putfield 216, 3) := dk_181 0 216 (dk_at dksX0_init_4 10 rfl rfl)
theorem dX0_init_108 : decode cX0_init 108 = .ok (.return_, 1) := dk_177 (dk_at dksX0_init_4 13 rfl rfl)
abbrev cX0_undo : ByteArray := prog_1_method_17_code
def yX0_undo : MethodName := ⟨RX0, "undo", "()I"⟩
def dkwX0_undo_1 : List UInt8 := [182, 0, 219, 192, 0, 188, 182, 0, 222, 27, 172]
abbrev dktX0_undo_1 : List UInt8 := dkwX0_undo_1 ++ []
def dkwX0_undo_0 : List UInt8 := [42, 180, 0, 203, 182, 0, 7, 4, 100, 60, 27, 156, 0, 5, 2, 172, 42, 42, 180, 0, 203, 27]
abbrev dktX0_undo_0 : List UInt8 := dkwX0_undo_0 ++ dktX0_undo_1
theorem dksX0_undo_0 : cX0_undo.data.toList.drop 0 = dktX0_undo_0 := by decide +kernel
theorem dksX0_undo_1 : cX0_undo.data.toList.drop 22 = dktX0_undo_1 := dk_seg dksX0_undo_0 22 rfl rfl
theorem dX0_undo_0 : decode cX0_undo 0 = .ok (.aload_n 0, 1) := dk_42 (dk_at dksX0_undo_0 0 rfl rfl)
theorem dX0_undo_1 : decode cX0_undo 1 = .ok (.getfield 203, 3) := dk_180 0 203 (dk_at dksX0_undo_0 1 rfl rfl)
theorem dX0_undo_4 : decode cX0_undo 4 = .ok (.invokevirtual 7, 3) := dk_182 0 7 (dk_at dksX0_undo_0 4 rfl rfl)
theorem dX0_undo_7 : decode cX0_undo 7 = .ok (.iconst 1, 1) := dk_4 (dk_at dksX0_undo_0 7 rfl rfl)
theorem dX0_undo_8 : decode cX0_undo 8 = .ok (.isub, 1) := dk_100 (dk_at dksX0_undo_0 8 rfl rfl)
theorem dX0_undo_9 : decode cX0_undo 9 = .ok (.istore_n 1, 1) := dk_60 (dk_at dksX0_undo_0 9 rfl rfl)
theorem dX0_undo_10 : decode cX0_undo 10 = .ok (.iload_n 1, 1) := dk_27 (dk_at dksX0_undo_0 10 rfl rfl)
theorem dX0_undo_11 : decode cX0_undo 11 = .ok (.ifCond .ge 5, 3) := dk_156 0 5 (dk_at dksX0_undo_0 11 rfl rfl)
theorem dX0_undo_14 : decode cX0_undo 14 = .ok (.iconst (-1), 1) := dk_2 (dk_at dksX0_undo_0 14 rfl rfl)
theorem dX0_undo_15 : decode cX0_undo 15 = .ok (.ireturn, 1) := dk_172 (dk_at dksX0_undo_0 15 rfl rfl)
theorem dX0_undo_16 : decode cX0_undo 16 = .ok (.aload_n 0, 1) := dk_42 (dk_at dksX0_undo_0 16 rfl rfl)
theorem dX0_undo_17 : decode cX0_undo 17 = .ok (.aload_n 0, 1) := dk_42 (dk_at dksX0_undo_0 17 rfl rfl)
theorem dX0_undo_18 : decode cX0_undo 18 = .ok (.getfield 203, 3) := dk_180 0 203 (dk_at dksX0_undo_0 18 rfl rfl)
theorem dX0_undo_21 : decode cX0_undo 21 = .ok (.iload_n 1, 1) := dk_27 (dk_at dksX0_undo_0 21 rfl rfl)
theorem dX0_undo_22 : decode cX0_undo 22 = .ok (.invokevirtual 219, 3) := dk_182 0 219 (dk_at dksX0_undo_1 0 rfl rfl)
theorem dX0_undo_25 : decode cX0_undo 25 = .ok (.checkcast 188, 3) := dk_192 0 188 (dk_at dksX0_undo_1 3 rfl rfl)
theorem dX0_undo_28 : decode cX0_undo 28 = .ok (.invokevirtual 222, 3) := dk_182 0 222 (dk_at dksX0_undo_1 6 rfl rfl)
theorem dX0_undo_31 : decode cX0_undo 31 = .ok (.iload_n 1, 1) := dk_27 (dk_at dksX0_undo_1 9 rfl rfl)
theorem dX0_undo_32 : decode cX0_undo 32 = .ok (.ireturn, 1) := dk_172 (dk_at dksX0_undo_1 10 rfl rfl)
abbrev cX0_is : ByteArray := prog_1_method_15_code
def yX0_is : MethodName := ⟨RX0, "is", "(LSkeletons$Skeleton;)V"⟩
def dkwX0_is_0 : List UInt8 := [42, 43, 181, 0, 195, 42, 1, 181, 0, 228, 42, 1, 181, 0, 232, 177]
abbrev dktX0_is_0 : List UInt8 := dkwX0_is_0 ++ []
theorem dksX0_is_0 : cX0_is.data.toList.drop 0 = dktX0_is_0 := by decide +kernel
theorem dX0_is_0 : decode cX0_is 0 = .ok (.aload_n 0, 1) := dk_42 (dk_at dksX0_is_0 0 rfl rfl)
theorem dX0_is_1 : decode cX0_is 1 = .ok (.aload_n 1, 1) := dk_43 (dk_at dksX0_is_0 1 rfl rfl)
theorem dX0_is_2 : decode cX0_is 2 = .ok (.putfield 195, 3) := dk_181 0 195 (dk_at dksX0_is_0 2 rfl rfl)
theorem dX0_is_5 : decode cX0_is 5 = .ok (.aload_n 0, 1) := dk_42 (dk_at dksX0_is_0 5 rfl rfl)
theorem dX0_is_6 : decode cX0_is 6 = .ok (.aconst_null, 1) := dk_1 (dk_at dksX0_is_0 6 rfl rfl)
theorem dX0_is_7 : decode cX0_is 7 = .ok (.putfield 228, 3) := dk_181 0 228 (dk_at dksX0_is_0 7 rfl rfl)
theorem dX0_is_10 : decode cX0_is 10 = .ok (.aload_n 0, 1) := dk_42 (dk_at dksX0_is_0 10 rfl rfl)
theorem dX0_is_11 : decode cX0_is 11 = .ok (.aconst_null, 1) := dk_1 (dk_at dksX0_is_0 11 rfl rfl)
theorem dX0_is_12 : decode cX0_is 12 = .ok (.putfield 232, 3) := dk_181 0 232 (dk_at dksX0_is_0 12 rfl rfl)
theorem dX0_is_15 : decode cX0_is 15 = .ok (.return_, 1) := dk_177 (dk_at dksX0_is_0 15 rfl rfl)
abbrev cX0_feed : ByteArray := prog_1_method_20_code
def yX0_feed : MethodName := ⟨RX0, "feed", "(IIIII)I"⟩
def dkwX0_feed_1 : List UInt8 := [42, 29, 182, 0, 250, 42, 21, 4, 182, 0, 250, 42, 21, 5, 182, 0, 250, 42, 180, 0, 247, 172]
abbrev dktX0_feed_1 : List UInt8 := dkwX0_feed_1 ++ []
def dkwX0_feed_0 : List UInt8 := [42, 180, 0, 247, 16, 20, 96, 16, 120, 164, 0, 5, 2, 172, 42, 27, 182, 0, 250, 42, 28, 182, 0, 250]
abbrev dktX0_feed_0 : List UInt8 := dkwX0_feed_0 ++ dktX0_feed_1
theorem dksX0_feed_0 : cX0_feed.data.toList.drop 0 = dktX0_feed_0 := by decide +kernel
theorem dksX0_feed_1 : cX0_feed.data.toList.drop 24 = dktX0_feed_1 := dk_seg dksX0_feed_0 24 rfl rfl
theorem dX0_feed_0 : decode cX0_feed 0 = .ok (.aload_n 0, 1) := dk_42 (dk_at dksX0_feed_0 0 rfl rfl)
theorem dX0_feed_1 : decode cX0_feed 1 = .ok (.getfield 247, 3) := dk_180 0 247 (dk_at dksX0_feed_0 1 rfl rfl)
theorem dX0_feed_4 : decode cX0_feed 4 = .ok (.bipush 20, 2) := dk_16 20 (dk_at dksX0_feed_0 4 rfl rfl)
theorem dX0_feed_6 : decode cX0_feed 6 = .ok (.iadd, 1) := dk_96 (dk_at dksX0_feed_0 6 rfl rfl)
theorem dX0_feed_7 : decode cX0_feed 7 = .ok (.bipush 120, 2) := dk_16 120 (dk_at dksX0_feed_0 7 rfl rfl)
theorem dX0_feed_9 : decode cX0_feed 9 = .ok (.if_icmp .le 5, 3) := dk_164 0 5 (dk_at dksX0_feed_0 9 rfl rfl)
theorem dX0_feed_12 : decode cX0_feed 12 = .ok (.iconst (-1), 1) := dk_2 (dk_at dksX0_feed_0 12 rfl rfl)
theorem dX0_feed_13 : decode cX0_feed 13 = .ok (.ireturn, 1) := dk_172 (dk_at dksX0_feed_0 13 rfl rfl)
theorem dX0_feed_14 : decode cX0_feed 14 = .ok (.aload_n 0, 1) := dk_42 (dk_at dksX0_feed_0 14 rfl rfl)
theorem dX0_feed_15 : decode cX0_feed 15 = .ok (.iload_n 1, 1) := dk_27 (dk_at dksX0_feed_0 15 rfl rfl)
theorem dX0_feed_16 : decode cX0_feed 16 = .ok (.invokevirtual 250, 3) := dk_182 0 250 (dk_at dksX0_feed_0 16 rfl rfl)
theorem dX0_feed_19 : decode cX0_feed 19 = .ok (.aload_n 0, 1) := dk_42 (dk_at dksX0_feed_0 19 rfl rfl)
theorem dX0_feed_20 : decode cX0_feed 20 = .ok (.iload_n 2, 1) := dk_28 (dk_at dksX0_feed_0 20 rfl rfl)
theorem dX0_feed_21 : decode cX0_feed 21 = .ok (.invokevirtual 250, 3) := dk_182 0 250 (dk_at dksX0_feed_0 21 rfl rfl)
theorem dX0_feed_24 : decode cX0_feed 24 = .ok (.aload_n 0, 1) := dk_42 (dk_at dksX0_feed_1 0 rfl rfl)
theorem dX0_feed_25 : decode cX0_feed 25 = .ok (.iload_n 3, 1) := dk_29 (dk_at dksX0_feed_1 1 rfl rfl)
theorem dX0_feed_26 : decode cX0_feed 26 = .ok (.invokevirtual 250, 3) := dk_182 0 250 (dk_at dksX0_feed_1 2 rfl rfl)
theorem dX0_feed_29 : decode cX0_feed 29 = .ok (.aload_n 0, 1) := dk_42 (dk_at dksX0_feed_1 5 rfl rfl)
theorem dX0_feed_30 : decode cX0_feed 30 = .ok (.iload 4, 2) := dk_21 4 (dk_at dksX0_feed_1 6 rfl rfl)
theorem dX0_feed_32 : decode cX0_feed 32 = .ok (.invokevirtual 250, 3) := dk_182 0 250 (dk_at dksX0_feed_1 8 rfl rfl)
theorem dX0_feed_35 : decode cX0_feed 35 = .ok (.aload_n 0, 1) := dk_42 (dk_at dksX0_feed_1 11 rfl rfl)
theorem dX0_feed_36 : decode cX0_feed 36 = .ok (.iload 5, 2) := dk_21 5 (dk_at dksX0_feed_1 12 rfl rfl)
theorem dX0_feed_38 : decode cX0_feed 38 = .ok (.invokevirtual 250, 3) := dk_182 0 250 (dk_at dksX0_feed_1 14 rfl rfl)
theorem dX0_feed_41 : decode cX0_feed 41 = .ok (.aload_n 0, 1) := dk_42 (dk_at dksX0_feed_1 17 rfl rfl)
theorem dX0_feed_42 : decode cX0_feed 42 = .ok (.getfield 247, 3) := dk_180 0 247 (dk_at dksX0_feed_1 18 rfl rfl)
theorem dX0_feed_45 : decode cX0_feed 45 = .ok (.ireturn, 1) := dk_172 (dk_at dksX0_feed_1 21 rfl rfl)
abbrev cX0_four : ByteArray := prog_1_method_21_code
def yX0_four : MethodName := ⟨RX0, "four", "(I)V"⟩
def dkwX0_four_1 : List UInt8 := [180, 0, 247, 4, 96, 181, 0, 247, 132, 2, 248, 167, 255, 226, 177]
abbrev dktX0_four_1 : List UInt8 := dkwX0_four_1 ++ []
def dkwX0_four_0 : List UInt8 := [16, 24, 61, 28, 155, 0, 32, 42, 180, 0, 206, 42, 180, 0, 247, 27, 28, 122, 145, 84, 42, 89]
abbrev dktX0_four_0 : List UInt8 := dkwX0_four_0 ++ dktX0_four_1
theorem dksX0_four_0 : cX0_four.data.toList.drop 0 = dktX0_four_0 := by decide +kernel
theorem dksX0_four_1 : cX0_four.data.toList.drop 22 = dktX0_four_1 := dk_seg dksX0_four_0 22 rfl rfl
theorem dX0_four_0 : decode cX0_four 0 = .ok (.bipush 24, 2) := dk_16 24 (dk_at dksX0_four_0 0 rfl rfl)
theorem dX0_four_2 : decode cX0_four 2 = .ok (.istore_n 2, 1) := dk_61 (dk_at dksX0_four_0 2 rfl rfl)
theorem dX0_four_3 : decode cX0_four 3 = .ok (.iload_n 2, 1) := dk_28 (dk_at dksX0_four_0 3 rfl rfl)
theorem dX0_four_4 : decode cX0_four 4 = .ok (.ifCond .lt 32, 3) := dk_155 0 32 (dk_at dksX0_four_0 4 rfl rfl)
theorem dX0_four_7 : decode cX0_four 7 = .ok (.aload_n 0, 1) := dk_42 (dk_at dksX0_four_0 7 rfl rfl)
theorem dX0_four_8 : decode cX0_four 8 = .ok (.getfield 206, 3) := dk_180 0 206 (dk_at dksX0_four_0 8 rfl rfl)
theorem dX0_four_11 : decode cX0_four 11 = .ok (.aload_n 0, 1) := dk_42 (dk_at dksX0_four_0 11 rfl rfl)
theorem dX0_four_12 : decode cX0_four 12 = .ok (.getfield 247, 3) := dk_180 0 247 (dk_at dksX0_four_0 12 rfl rfl)
theorem dX0_four_15 : decode cX0_four 15 = .ok (.iload_n 1, 1) := dk_27 (dk_at dksX0_four_0 15 rfl rfl)
theorem dX0_four_16 : decode cX0_four 16 = .ok (.iload_n 2, 1) := dk_28 (dk_at dksX0_four_0 16 rfl rfl)
theorem dX0_four_17 : decode cX0_four 17 = .ok (.ishr, 1) := dk_122 (dk_at dksX0_four_0 17 rfl rfl)
theorem dX0_four_18 : decode cX0_four 18 = .ok (.i2b, 1) := dk_145 (dk_at dksX0_four_0 18 rfl rfl)
theorem dX0_four_19 : decode cX0_four 19 = .ok (.bastore, 1) := dk_84 (dk_at dksX0_four_0 19 rfl rfl)
theorem dX0_four_20 : decode cX0_four 20 = .ok (.aload_n 0, 1) := dk_42 (dk_at dksX0_four_0 20 rfl rfl)
theorem dX0_four_21 : decode cX0_four 21 = .ok (.dup, 1) := dk_89 (dk_at dksX0_four_0 21 rfl rfl)
theorem dX0_four_22 : decode cX0_four 22 = .ok (.getfield 247, 3) := dk_180 0 247 (dk_at dksX0_four_1 0 rfl rfl)
theorem dX0_four_25 : decode cX0_four 25 = .ok (.iconst 1, 1) := dk_4 (dk_at dksX0_four_1 3 rfl rfl)
theorem dX0_four_26 : decode cX0_four 26 = .ok (.iadd, 1) := dk_96 (dk_at dksX0_four_1 4 rfl rfl)
theorem dX0_four_27 : decode cX0_four 27 = .ok (.putfield 247, 3) := dk_181 0 247 (dk_at dksX0_four_1 5 rfl rfl)
theorem dX0_four_30 : decode cX0_four 30 = .ok (.iinc 2 (-8), 3) := dk_132 2 248 (dk_at dksX0_four_1 8 rfl rfl)
theorem dX0_four_33 : decode cX0_four 33 = .ok (.goto (-30), 3) := dk_167 255 226 (dk_at dksX0_four_1 11 rfl rfl)
theorem dX0_four_36 : decode cX0_four 36 = .ok (.return_, 1) := dk_177 (dk_at dksX0_four_1 14 rfl rfl)
abbrev cX0_end : ByteArray := prog_1_method_22_code
def yX0_end : MethodName := ⟨RX0, "end", "(I)I"⟩
def dkwX0_end_0 : List UInt8 := [27, 133, 9, 42, 180, 0, 247, 133, 184, 0, 155, 154, 0, 5, 2, 172, 42, 27, 181, 0, 247, 27, 172]
abbrev dktX0_end_0 : List UInt8 := dkwX0_end_0 ++ []
theorem dksX0_end_0 : cX0_end.data.toList.drop 0 = dktX0_end_0 := by decide +kernel
theorem dX0_end_0 : decode cX0_end 0 = .ok (.iload_n 1, 1) := dk_27 (dk_at dksX0_end_0 0 rfl rfl)
theorem dX0_end_1 : decode cX0_end 1 = .ok (.i2l, 1) := dk_133 (dk_at dksX0_end_0 1 rfl rfl)
theorem dX0_end_2 : decode cX0_end 2 = .ok (.lconst 0, 1) := dk_9 (dk_at dksX0_end_0 2 rfl rfl)
theorem dX0_end_3 : decode cX0_end 3 = .ok (.aload_n 0, 1) := dk_42 (dk_at dksX0_end_0 3 rfl rfl)
theorem dX0_end_4 : decode cX0_end 4 = .ok (.getfield 247, 3) := dk_180 0 247 (dk_at dksX0_end_0 4 rfl rfl)
theorem dX0_end_7 : decode cX0_end 7 = .ok (.i2l, 1) := dk_133 (dk_at dksX0_end_0 7 rfl rfl)
theorem dX0_end_8 : decode cX0_end 8 = .ok (.invokestatic 155, 3) := dk_184 0 155 (dk_at dksX0_end_0 8 rfl rfl)
theorem dX0_end_11 : decode cX0_end 11 = .ok (.ifCond .ne 5, 3) := dk_154 0 5 (dk_at dksX0_end_0 11 rfl rfl)
theorem dX0_end_14 : decode cX0_end 14 = .ok (.iconst (-1), 1) := dk_2 (dk_at dksX0_end_0 14 rfl rfl)
theorem dX0_end_15 : decode cX0_end 15 = .ok (.ireturn, 1) := dk_172 (dk_at dksX0_end_0 15 rfl rfl)
theorem dX0_end_16 : decode cX0_end 16 = .ok (.aload_n 0, 1) := dk_42 (dk_at dksX0_end_0 16 rfl rfl)
theorem dX0_end_17 : decode cX0_end 17 = .ok (.iload_n 1, 1) := dk_27 (dk_at dksX0_end_0 17 rfl rfl)
theorem dX0_end_18 : decode cX0_end 18 = .ok (.putfield 247, 3) := dk_181 0 247 (dk_at dksX0_end_0 18 rfl rfl)
theorem dX0_end_21 : decode cX0_end 21 = .ok (.iload_n 1, 1) := dk_27 (dk_at dksX0_end_0 21 rfl rfl)
theorem dX0_end_22 : decode cX0_end 22 = .ok (.ireturn, 1) := dk_172 (dk_at dksX0_end_0 22 rfl rfl)
abbrev cX0_tell : ByteArray := prog_1_method_23_code
def yX0_tell : MethodName := ⟨RX0, "tell", "(I)I"⟩
def dkwX0_tell_3 : List UInt8 := [21, 4, 172, 58, 5, 42, 3, 181, 0, 247, 25, 5, 191]
abbrev dktX0_tell_3 : List UInt8 := dkwX0_tell_3 ++ []
def dkwX0_tell_2 : List UInt8 := [62, 42, 3, 181, 0, 247, 29, 172, 78, 16, 254, 45, 180, 1, 19, 100, 54, 4, 42, 3, 181, 0, 247]
abbrev dktX0_tell_2 : List UInt8 := dkwX0_tell_2 ++ dktX0_tell_3
def dkwX0_tell_1 : List UInt8 := [167, 0, 11, 187, 1, 2, 89, 42, 183, 1, 4, 77, 44, 182, 1, 5, 42, 44, 180, 1, 10, 182, 1, 13]
abbrev dktX0_tell_1 : List UInt8 := dkwX0_tell_1 ++ dktX0_tell_2
def dkwX0_tell_0 : List UInt8 := [27, 133, 9, 10, 184, 0, 155, 154, 0, 5, 2, 172, 27, 154, 0, 14, 187, 0, 253, 89, 42, 183, 0, 255]
abbrev dktX0_tell_0 : List UInt8 := dkwX0_tell_0 ++ dktX0_tell_1
theorem dksX0_tell_0 : cX0_tell.data.toList.drop 0 = dktX0_tell_0 := by decide +kernel
theorem dksX0_tell_1 : cX0_tell.data.toList.drop 24 = dktX0_tell_1 := dk_seg dksX0_tell_0 24 rfl rfl
theorem dksX0_tell_2 : cX0_tell.data.toList.drop 48 = dktX0_tell_2 := dk_seg dksX0_tell_1 24 rfl rfl
theorem dksX0_tell_3 : cX0_tell.data.toList.drop 71 = dktX0_tell_3 := dk_seg dksX0_tell_2 23 rfl rfl
theorem dX0_tell_0 : decode cX0_tell 0 = .ok (.iload_n 1, 1) := dk_27 (dk_at dksX0_tell_0 0 rfl rfl)
theorem dX0_tell_1 : decode cX0_tell 1 = .ok (.i2l, 1) := dk_133 (dk_at dksX0_tell_0 1 rfl rfl)
theorem dX0_tell_2 : decode cX0_tell 2 = .ok (.lconst 0, 1) := dk_9 (dk_at dksX0_tell_0 2 rfl rfl)
theorem dX0_tell_3 : decode cX0_tell 3 = .ok (.lconst 1, 1) := dk_10 (dk_at dksX0_tell_0 3 rfl rfl)
theorem dX0_tell_4 : decode cX0_tell 4 = .ok (.invokestatic 155, 3) := dk_184 0 155 (dk_at dksX0_tell_0 4 rfl rfl)
theorem dX0_tell_7 : decode cX0_tell 7 = .ok (.ifCond .ne 5, 3) := dk_154 0 5 (dk_at dksX0_tell_0 7 rfl rfl)
theorem dX0_tell_10 : decode cX0_tell 10 = .ok (.iconst (-1), 1) := dk_2 (dk_at dksX0_tell_0 10 rfl rfl)
theorem dX0_tell_11 : decode cX0_tell 11 = .ok (.ireturn, 1) := dk_172 (dk_at dksX0_tell_0 11 rfl rfl)
theorem dX0_tell_12 : decode cX0_tell 12 = .ok (.iload_n 1, 1) := dk_27 (dk_at dksX0_tell_0 12 rfl rfl)
theorem dX0_tell_13 : decode cX0_tell 13 = .ok (.ifCond .ne 14, 3) := dk_154 0 14 (dk_at dksX0_tell_0 13 rfl rfl)
theorem dX0_tell_16 : decode cX0_tell 16 = .ok (.new 253, 3) := dk_187 0 253 (dk_at dksX0_tell_0 16 rfl rfl)
theorem dX0_tell_19 : decode cX0_tell 19 = .ok (.dup, 1) := dk_89 (dk_at dksX0_tell_0 19 rfl rfl)
theorem dX0_tell_20 : decode cX0_tell 20 = .ok (.aload_n 0, 1) := dk_42 (dk_at dksX0_tell_0 20 rfl rfl)
theorem dX0_tell_21 : decode cX0_tell 21 = .ok (.invokespecial 255, 3) := dk_183 0 255 (dk_at dksX0_tell_0 21 rfl rfl)
theorem dX0_tell_24 : decode cX0_tell 24 = .ok (.goto 11, 3) := dk_167 0 11 (dk_at dksX0_tell_1 0 rfl rfl)
theorem dX0_tell_27 : decode cX0_tell 27 = .ok (.new 258, 3) := dk_187 1 2 (dk_at dksX0_tell_1 3 rfl rfl)
theorem dX0_tell_30 : decode cX0_tell 30 = .ok (.dup, 1) := dk_89 (dk_at dksX0_tell_1 6 rfl rfl)
theorem dX0_tell_31 : decode cX0_tell 31 = .ok (.aload_n 0, 1) := dk_42 (dk_at dksX0_tell_1 7 rfl rfl)
theorem dX0_tell_32 : decode cX0_tell 32 = .ok (.invokespecial 260, 3) := dk_183 1 4 (dk_at dksX0_tell_1 8 rfl rfl)
theorem dX0_tell_35 : decode cX0_tell 35 = .ok (.astore_n 2, 1) := dk_77 (dk_at dksX0_tell_1 11 rfl rfl)
theorem dX0_tell_36 : decode cX0_tell 36 = .ok (.aload_n 2, 1) := dk_44 (dk_at dksX0_tell_1 12 rfl rfl)
theorem dX0_tell_37 : decode cX0_tell 37 = .ok (.invokevirtual 261, 3) := dk_182 1 5 (dk_at dksX0_tell_1 13 rfl rfl)
theorem dX0_tell_40 : decode cX0_tell 40 = .ok (.aload_n 0, 1) := dk_42 (dk_at dksX0_tell_1 16 rfl rfl)
theorem dX0_tell_41 : decode cX0_tell 41 = .ok (.aload_n 2, 1) := dk_44 (dk_at dksX0_tell_1 17 rfl rfl)
theorem dX0_tell_42 : decode cX0_tell 42 = .ok (.getfield 266, 3) := dk_180 1 10 (dk_at dksX0_tell_1 18 rfl rfl)
theorem dX0_tell_45 : decode cX0_tell 45 = .ok (.invokevirtual 269, 3) := dk_182 1 13 (dk_at dksX0_tell_1 21 rfl rfl)
theorem dX0_tell_48 : decode cX0_tell 48 = .ok (.istore_n 3, 1) := dk_62 (dk_at dksX0_tell_2 0 rfl rfl)
theorem dX0_tell_49 : decode cX0_tell 49 = .ok (.aload_n 0, 1) := dk_42 (dk_at dksX0_tell_2 1 rfl rfl)
theorem dX0_tell_50 : decode cX0_tell 50 = .ok (.iconst 0, 1) := dk_3 (dk_at dksX0_tell_2 2 rfl rfl)
theorem dX0_tell_51 : decode cX0_tell 51 = .ok (.putfield 247, 3) := dk_181 0 247 (dk_at dksX0_tell_2 3 rfl rfl)
theorem dX0_tell_54 : decode cX0_tell 54 = .ok (.iload_n 3, 1) := dk_29 (dk_at dksX0_tell_2 6 rfl rfl)
theorem dX0_tell_55 : decode cX0_tell 55 = .ok (.ireturn, 1) := dk_172 (dk_at dksX0_tell_2 7 rfl rfl)
theorem dX0_tell_56 : decode cX0_tell 56 = .ok (.astore_n 3, 1) := dk_78 (dk_at dksX0_tell_2 8 rfl rfl)
theorem dX0_tell_57 : decode cX0_tell 57 = .ok (.bipush (-2), 2) := dk_16 254 (dk_at dksX0_tell_2 9 rfl rfl)
theorem dX0_tell_59 : decode cX0_tell 59 = .ok (.aload_n 3, 1) := dk_45 (dk_at dksX0_tell_2 11 rfl rfl)
theorem dX0_tell_60 : decode cX0_tell 60 = .ok (.getfield 275, 3) := dk_180 1 19 (dk_at dksX0_tell_2 12 rfl rfl)
theorem dX0_tell_63 : decode cX0_tell 63 = .ok (.isub, 1) := dk_100 (dk_at dksX0_tell_2 15 rfl rfl)
theorem dX0_tell_64 : decode cX0_tell 64 = .ok (.istore 4, 2) := dk_54 4 (dk_at dksX0_tell_2 16 rfl rfl)
theorem dX0_tell_66 : decode cX0_tell 66 = .ok (.aload_n 0, 1) := dk_42 (dk_at dksX0_tell_2 18 rfl rfl)
theorem dX0_tell_67 : decode cX0_tell 67 = .ok (.iconst 0, 1) := dk_3 (dk_at dksX0_tell_2 19 rfl rfl)
theorem dX0_tell_68 : decode cX0_tell 68 = .ok (.putfield 247, 3) := dk_181 0 247 (dk_at dksX0_tell_2 20 rfl rfl)
theorem dX0_tell_71 : decode cX0_tell 71 = .ok (.iload 4, 2) := dk_21 4 (dk_at dksX0_tell_3 0 rfl rfl)
theorem dX0_tell_73 : decode cX0_tell 73 = .ok (.ireturn, 1) := dk_172 (dk_at dksX0_tell_3 2 rfl rfl)
theorem dX0_tell_74 : decode cX0_tell 74 = .ok (.astore 5, 2) := dk_58 5 (dk_at dksX0_tell_3 3 rfl rfl)
theorem dX0_tell_76 : decode cX0_tell 76 = .ok (.aload_n 0, 1) := dk_42 (dk_at dksX0_tell_3 5 rfl rfl)
theorem dX0_tell_77 : decode cX0_tell 77 = .ok (.iconst 0, 1) := dk_3 (dk_at dksX0_tell_3 6 rfl rfl)
theorem dX0_tell_78 : decode cX0_tell 78 = .ok (.putfield 247, 3) := dk_181 0 247 (dk_at dksX0_tell_3 7 rfl rfl)
theorem dX0_tell_81 : decode cX0_tell 81 = .ok (.aload 5, 2) := dk_25 5 (dk_at dksX0_tell_3 10 rfl rfl)
theorem dX0_tell_83 : decode cX0_tell 83 = .ok (.athrow, 1) := dk_191 (dk_at dksX0_tell_3 12 rfl rfl)
abbrev cX0_becomes : ByteArray := prog_1_method_14_code
def yX0_becomes : MethodName := ⟨RX0, "becomes", "(LSkeletons$Skeleton;)I"⟩
def dkwX0_becomes_1 : List UInt8 := [180, 0, 203, 42, 180, 0, 195, 182, 0, 17, 87, 42, 43, 182, 0, 222, 43, 180, 0, 226, 172]
abbrev dktX0_becomes_1 : List UInt8 := dkwX0_becomes_1 ++ []
def dkwX0_becomes_0 : List UInt8 := [42, 180, 0, 203, 182, 0, 7, 16, 12, 160, 0, 12, 42, 180, 0, 203, 3, 182, 0, 219, 87, 42]
abbrev dktX0_becomes_0 : List UInt8 := dkwX0_becomes_0 ++ dktX0_becomes_1
theorem dksX0_becomes_0 : cX0_becomes.data.toList.drop 0 = dktX0_becomes_0 := by decide +kernel
theorem dksX0_becomes_1 : cX0_becomes.data.toList.drop 22 = dktX0_becomes_1 := dk_seg dksX0_becomes_0 22 rfl rfl
theorem dX0_becomes_0 : decode cX0_becomes 0 = .ok (.aload_n 0, 1) := dk_42 (dk_at dksX0_becomes_0 0 rfl rfl)
theorem dX0_becomes_1 : decode cX0_becomes 1 = .ok (.getfield 203, 3) := dk_180 0 203 (dk_at dksX0_becomes_0 1 rfl rfl)
theorem dX0_becomes_4 : decode cX0_becomes 4 = .ok (.invokevirtual 7, 3) := dk_182 0 7 (dk_at dksX0_becomes_0 4 rfl rfl)
theorem dX0_becomes_7 : decode cX0_becomes 7 = .ok (.bipush 12, 2) := dk_16 12 (dk_at dksX0_becomes_0 7 rfl rfl)
theorem dX0_becomes_9 : decode cX0_becomes 9 = .ok (.if_icmp .ne 12, 3) := dk_160 0 12 (dk_at dksX0_becomes_0 9 rfl rfl)
theorem dX0_becomes_12 : decode cX0_becomes 12 = .ok (.aload_n 0, 1) := dk_42 (dk_at dksX0_becomes_0 12 rfl rfl)
theorem dX0_becomes_13 : decode cX0_becomes 13 = .ok (.getfield 203, 3) := dk_180 0 203 (dk_at dksX0_becomes_0 13 rfl rfl)
theorem dX0_becomes_16 : decode cX0_becomes 16 = .ok (.iconst 0, 1) := dk_3 (dk_at dksX0_becomes_0 16 rfl rfl)
theorem dX0_becomes_17 : decode cX0_becomes 17 = .ok (.invokevirtual 219, 3) := dk_182 0 219 (dk_at dksX0_becomes_0 17 rfl rfl)
theorem dX0_becomes_20 : decode cX0_becomes 20 = .ok (.pop, 1) := dk_87 (dk_at dksX0_becomes_0 20 rfl rfl)
theorem dX0_becomes_21 : decode cX0_becomes 21 = .ok (.aload_n 0, 1) := dk_42 (dk_at dksX0_becomes_0 21 rfl rfl)
theorem dX0_becomes_22 : decode cX0_becomes 22 = .ok (.getfield 203, 3) := dk_180 0 203 (dk_at dksX0_becomes_1 0 rfl rfl)
theorem dX0_becomes_25 : decode cX0_becomes 25 = .ok (.aload_n 0, 1) := dk_42 (dk_at dksX0_becomes_1 3 rfl rfl)
theorem dX0_becomes_26 : decode cX0_becomes 26 = .ok (.getfield 195, 3) := dk_180 0 195 (dk_at dksX0_becomes_1 4 rfl rfl)
theorem dX0_becomes_29 : decode cX0_becomes 29 = .ok (.invokevirtual 17, 3) := dk_182 0 17 (dk_at dksX0_becomes_1 7 rfl rfl)
theorem dX0_becomes_32 : decode cX0_becomes 32 = .ok (.pop, 1) := dk_87 (dk_at dksX0_becomes_1 10 rfl rfl)
theorem dX0_becomes_33 : decode cX0_becomes 33 = .ok (.aload_n 0, 1) := dk_42 (dk_at dksX0_becomes_1 11 rfl rfl)
theorem dX0_becomes_34 : decode cX0_becomes 34 = .ok (.aload_n 1, 1) := dk_43 (dk_at dksX0_becomes_1 12 rfl rfl)
theorem dX0_becomes_35 : decode cX0_becomes 35 = .ok (.invokevirtual 222, 3) := dk_182 0 222 (dk_at dksX0_becomes_1 13 rfl rfl)
theorem dX0_becomes_38 : decode cX0_becomes 38 = .ok (.aload_n 1, 1) := dk_43 (dk_at dksX0_becomes_1 16 rfl rfl)
theorem dX0_becomes_39 : decode cX0_becomes 39 = .ok (.getfield 226, 3) := dk_180 0 226 (dk_at dksX0_becomes_1 17 rfl rfl)
theorem dX0_becomes_42 : decode cX0_becomes 42 = .ok (.ireturn, 1) := dk_172 (dk_at dksX0_becomes_1 20 rfl rfl)
abbrev cX0_take : ByteArray := prog_1_method_25_code
def yX0_take : MethodName := ⟨RX0, "take", "(II)I"⟩
def dkwX0_take_1 : List UInt8 := [167, 0, 4, 2, 172]
abbrev dktX0_take_1 : List UInt8 := dkwX0_take_1 ++ []
def dkwX0_take_0 : List UInt8 := [42, 27, 28, 182, 1, 28, 153, 0, 20, 42, 42, 27, 182, 1, 24, 28, 50, 184, 1, 31, 182, 1, 13]
abbrev dktX0_take_0 : List UInt8 := dkwX0_take_0 ++ dktX0_take_1
theorem dksX0_take_0 : cX0_take.data.toList.drop 0 = dktX0_take_0 := by decide +kernel
theorem dksX0_take_1 : cX0_take.data.toList.drop 23 = dktX0_take_1 := dk_seg dksX0_take_0 23 rfl rfl
theorem dX0_take_0 : decode cX0_take 0 = .ok (.aload_n 0, 1) := dk_42 (dk_at dksX0_take_0 0 rfl rfl)
theorem dX0_take_1 : decode cX0_take 1 = .ok (.iload_n 1, 1) := dk_27 (dk_at dksX0_take_0 1 rfl rfl)
theorem dX0_take_2 : decode cX0_take 2 = .ok (.iload_n 2, 1) := dk_28 (dk_at dksX0_take_0 2 rfl rfl)
theorem dX0_take_3 : decode cX0_take 3 = .ok (.invokevirtual 284, 3) := dk_182 1 28 (dk_at dksX0_take_0 3 rfl rfl)
theorem dX0_take_6 : decode cX0_take 6 = .ok (.ifCond .eq 20, 3) := dk_153 0 20 (dk_at dksX0_take_0 6 rfl rfl)
theorem dX0_take_9 : decode cX0_take 9 = .ok (.aload_n 0, 1) := dk_42 (dk_at dksX0_take_0 9 rfl rfl)
theorem dX0_take_10 : decode cX0_take 10 = .ok (.aload_n 0, 1) := dk_42 (dk_at dksX0_take_0 10 rfl rfl)
theorem dX0_take_11 : decode cX0_take 11 = .ok (.iload_n 1, 1) := dk_27 (dk_at dksX0_take_0 11 rfl rfl)
theorem dX0_take_12 : decode cX0_take 12 = .ok (.invokevirtual 280, 3) := dk_182 1 24 (dk_at dksX0_take_0 12 rfl rfl)
theorem dX0_take_15 : decode cX0_take 15 = .ok (.iload_n 2, 1) := dk_28 (dk_at dksX0_take_0 15 rfl rfl)
theorem dX0_take_16 : decode cX0_take 16 = .ok (.aaload, 1) := dk_50 (dk_at dksX0_take_0 16 rfl rfl)
theorem dX0_take_17 : decode cX0_take 17 = .ok (.invokestatic 287, 3) := dk_184 1 31 (dk_at dksX0_take_0 17 rfl rfl)
theorem dX0_take_20 : decode cX0_take 20 = .ok (.invokevirtual 269, 3) := dk_182 1 13 (dk_at dksX0_take_0 20 rfl rfl)
theorem dX0_take_23 : decode cX0_take 23 = .ok (.goto 4, 3) := dk_167 0 4 (dk_at dksX0_take_1 0 rfl rfl)
theorem dX0_take_26 : decode cX0_take 26 = .ok (.iconst (-1), 1) := dk_2 (dk_at dksX0_take_1 3 rfl rfl)
theorem dX0_take_27 : decode cX0_take 27 = .ok (.ireturn, 1) := dk_172 (dk_at dksX0_take_1 4 rfl rfl)
abbrev cX0_isListed : ByteArray := prog_1_method_24_code
def yX0_isListed : MethodName := ⟨RX0, "isListed", "(II)Z"⟩
def dkwX0_isListed_1 : List UInt8 := [184, 0, 155, 153, 0, 7, 4, 167, 0, 4, 3, 172]
abbrev dktX0_isListed_1 : List UInt8 := dkwX0_isListed_1 ++ []
def dkwX0_isListed_0 : List UInt8 := [27, 133, 10, 20, 1, 22, 184, 0, 155, 153, 0, 25, 28, 133, 9, 42, 27, 182, 1, 24, 190, 4, 100, 133]
abbrev dktX0_isListed_0 : List UInt8 := dkwX0_isListed_0 ++ dktX0_isListed_1
theorem dksX0_isListed_0 : cX0_isListed.data.toList.drop 0 = dktX0_isListed_0 := by decide +kernel
theorem dksX0_isListed_1 : cX0_isListed.data.toList.drop 24 = dktX0_isListed_1 := dk_seg dksX0_isListed_0 24 rfl rfl
theorem dX0_isListed_0 : decode cX0_isListed 0 = .ok (.iload_n 1, 1) := dk_27 (dk_at dksX0_isListed_0 0 rfl rfl)
theorem dX0_isListed_1 : decode cX0_isListed 1 = .ok (.i2l, 1) := dk_133 (dk_at dksX0_isListed_0 1 rfl rfl)
theorem dX0_isListed_2 : decode cX0_isListed 2 = .ok (.lconst 1, 1) := dk_10 (dk_at dksX0_isListed_0 2 rfl rfl)
theorem dX0_isListed_3 : decode cX0_isListed 3 = .ok (.ldc2_w 278, 3) := dk_20 1 22 (dk_at dksX0_isListed_0 3 rfl rfl)
theorem dX0_isListed_6 : decode cX0_isListed 6 = .ok (.invokestatic 155, 3) := dk_184 0 155 (dk_at dksX0_isListed_0 6 rfl rfl)
theorem dX0_isListed_9 : decode cX0_isListed 9 = .ok (.ifCond .eq 25, 3) := dk_153 0 25 (dk_at dksX0_isListed_0 9 rfl rfl)
theorem dX0_isListed_12 : decode cX0_isListed 12 = .ok (.iload_n 2, 1) := dk_28 (dk_at dksX0_isListed_0 12 rfl rfl)
theorem dX0_isListed_13 : decode cX0_isListed 13 = .ok (.i2l, 1) := dk_133 (dk_at dksX0_isListed_0 13 rfl rfl)
theorem dX0_isListed_14 : decode cX0_isListed 14 = .ok (.lconst 0, 1) := dk_9 (dk_at dksX0_isListed_0 14 rfl rfl)
theorem dX0_isListed_15 : decode cX0_isListed 15 = .ok (.aload_n 0, 1) := dk_42 (dk_at dksX0_isListed_0 15 rfl rfl)
theorem dX0_isListed_16 : decode cX0_isListed 16 = .ok (.iload_n 1, 1) := dk_27 (dk_at dksX0_isListed_0 16 rfl rfl)
theorem dX0_isListed_17 : decode cX0_isListed 17 = .ok (.invokevirtual 280, 3) := dk_182 1 24 (dk_at dksX0_isListed_0 17 rfl rfl)
theorem dX0_isListed_20 : decode cX0_isListed 20 = .ok (.arraylength, 1) := dk_190 (dk_at dksX0_isListed_0 20 rfl rfl)
theorem dX0_isListed_21 : decode cX0_isListed 21 = .ok (.iconst 1, 1) := dk_4 (dk_at dksX0_isListed_0 21 rfl rfl)
theorem dX0_isListed_22 : decode cX0_isListed 22 = .ok (.isub, 1) := dk_100 (dk_at dksX0_isListed_0 22 rfl rfl)
theorem dX0_isListed_23 : decode cX0_isListed 23 = .ok (.i2l, 1) := dk_133 (dk_at dksX0_isListed_0 23 rfl rfl)
theorem dX0_isListed_24 : decode cX0_isListed 24 = .ok (.invokestatic 155, 3) := dk_184 0 155 (dk_at dksX0_isListed_1 0 rfl rfl)
theorem dX0_isListed_27 : decode cX0_isListed 27 = .ok (.ifCond .eq 7, 3) := dk_153 0 7 (dk_at dksX0_isListed_1 3 rfl rfl)
theorem dX0_isListed_30 : decode cX0_isListed 30 = .ok (.iconst 1, 1) := dk_4 (dk_at dksX0_isListed_1 6 rfl rfl)
theorem dX0_isListed_31 : decode cX0_isListed 31 = .ok (.goto 4, 3) := dk_167 0 4 (dk_at dksX0_isListed_1 7 rfl rfl)
theorem dX0_isListed_34 : decode cX0_isListed 34 = .ok (.iconst 0, 1) := dk_3 (dk_at dksX0_isListed_1 10 rfl rfl)
theorem dX0_isListed_35 : decode cX0_isListed 35 = .ok (.ireturn, 1) := dk_172 (dk_at dksX0_isListed_1 11 rfl rfl)
abbrev cX0_codesOf : ByteArray := prog_1_method_6_code
def yX0_codesOf : MethodName := ⟨RX0, "codesOf", "(I)[[I"⟩
def dkwX0_codesOf_11 : List UInt8 := [27, 50, 21, 4, 25, 6, 83, 132, 4, 1, 167, 255, 220, 42, 180, 0, 68, 27, 50, 176]
abbrev dktX0_codesOf_11 : List UInt8 := dkwX0_codesOf_11 ++ []
def dkwX0_codesOf_10 : List UInt8 := [185, 0, 54, 1, 0, 153, 0, 32, 25, 5, 185, 0, 60, 1, 0, 192, 0, 90, 58, 6, 42, 180, 0, 68]
abbrev dktX0_codesOf_10 : List UInt8 := dkwX0_codesOf_10 ++ dktX0_codesOf_11
def dkwX0_codesOf_9 : List UInt8 := [182, 0, 89, 189, 0, 90, 83, 3, 54, 4, 45, 182, 0, 92, 185, 0, 96, 1, 0, 58, 5, 25, 5]
abbrev dktX0_codesOf_9 : List UInt8 := dkwX0_codesOf_9 ++ dktX0_codesOf_10
def dkwX0_codesOf_8 : List UInt8 := [89, 25, 5, 25, 7, 183, 0, 86, 184, 0, 80, 167, 255, 209, 167, 255, 172, 42, 180, 0, 68, 27, 45]
abbrev dktX0_codesOf_8 : List UInt8 := dkwX0_codesOf_8 ++ dktX0_codesOf_9
def dkwX0_codesOf_7 : List UInt8 := [185, 0, 60, 1, 0, 192, 0, 21, 58, 7, 25, 5, 25, 7, 182, 0, 64, 155, 0, 18, 45, 187, 0, 84]
abbrev dktX0_codesOf_7 : List UInt8 := dkwX0_codesOf_7 ++ dktX0_codesOf_8
def dkwX0_codesOf_6 : List UInt8 := [182, 0, 46, 182, 0, 50, 58, 6, 25, 6, 185, 0, 54, 1, 0, 153, 0, 43, 25, 6]
abbrev dktX0_codesOf_6 : List UInt8 := dkwX0_codesOf_6 ++ dktX0_codesOf_7
def dkwX0_codesOf_5 : List UInt8 := [185, 0, 54, 1, 0, 153, 0, 80, 25, 4, 185, 0, 60, 1, 0, 192, 0, 21, 58, 5, 42, 27, 5, 108]
abbrev dktX0_codesOf_5 : List UInt8 := dkwX0_codesOf_5 ++ dktX0_codesOf_6
def dkwX0_codesOf_4 : List UInt8 := [167, 255, 221, 27, 5, 112, 154, 0, 102, 42, 27, 5, 108, 182, 0, 46, 182, 0, 50, 58, 4, 25, 4]
abbrev dktX0_codesOf_4 : List UInt8 := dkwX0_codesOf_4 ++ dktX0_codesOf_5
def dkwX0_codesOf_3 : List UInt8 := [185, 0, 60, 1, 0, 192, 0, 21, 58, 5, 45, 187, 0, 75, 89, 25, 5, 183, 0, 77, 184, 0, 80]
abbrev dktX0_codesOf_3 : List UInt8 := dkwX0_codesOf_3 ++ dktX0_codesOf_4
def dkwX0_codesOf_2 : List UInt8 := [183, 0, 74, 78, 44, 182, 0, 50, 58, 4, 25, 4, 185, 0, 54, 1, 0, 153, 0, 31, 25, 4]
abbrev dktX0_codesOf_2 : List UInt8 := dkwX0_codesOf_2 ++ dktX0_codesOf_3
def dkwX0_codesOf_1 : List UInt8 := [42, 27, 4, 100, 7, 27, 4, 100, 5, 108, 1, 7, 189, 0, 21, 3, 44, 182, 0, 23, 187, 0, 72, 89]
abbrev dktX0_codesOf_1 : List UInt8 := dkwX0_codesOf_1 ++ dktX0_codesOf_2
def dkwX0_codesOf_0 : List UInt8 := [42, 180, 0, 68, 27, 50, 198, 0, 10, 42, 180, 0, 68, 27, 50, 176, 187, 0, 8, 89, 183, 0, 13, 77]
abbrev dktX0_codesOf_0 : List UInt8 := dkwX0_codesOf_0 ++ dktX0_codesOf_1
theorem dksX0_codesOf_0 : cX0_codesOf.data.toList.drop 0 = dktX0_codesOf_0 := by decide +kernel
theorem dksX0_codesOf_1 : cX0_codesOf.data.toList.drop 24 = dktX0_codesOf_1 := dk_seg dksX0_codesOf_0 24 rfl rfl
theorem dksX0_codesOf_2 : cX0_codesOf.data.toList.drop 48 = dktX0_codesOf_2 := dk_seg dksX0_codesOf_1 24 rfl rfl
theorem dksX0_codesOf_3 : cX0_codesOf.data.toList.drop 70 = dktX0_codesOf_3 := dk_seg dksX0_codesOf_2 22 rfl rfl
theorem dksX0_codesOf_4 : cX0_codesOf.data.toList.drop 93 = dktX0_codesOf_4 := dk_seg dksX0_codesOf_3 23 rfl rfl
theorem dksX0_codesOf_5 : cX0_codesOf.data.toList.drop 116 = dktX0_codesOf_5 := dk_seg dksX0_codesOf_4 23 rfl rfl
theorem dksX0_codesOf_6 : cX0_codesOf.data.toList.drop 140 = dktX0_codesOf_6 := dk_seg dksX0_codesOf_5 24 rfl rfl
theorem dksX0_codesOf_7 : cX0_codesOf.data.toList.drop 160 = dktX0_codesOf_7 := dk_seg dksX0_codesOf_6 20 rfl rfl
theorem dksX0_codesOf_8 : cX0_codesOf.data.toList.drop 184 = dktX0_codesOf_8 := dk_seg dksX0_codesOf_7 24 rfl rfl
theorem dksX0_codesOf_9 : cX0_codesOf.data.toList.drop 207 = dktX0_codesOf_9 := dk_seg dksX0_codesOf_8 23 rfl rfl
theorem dksX0_codesOf_10 : cX0_codesOf.data.toList.drop 230 = dktX0_codesOf_10 := dk_seg dksX0_codesOf_9 23 rfl rfl
theorem dksX0_codesOf_11 : cX0_codesOf.data.toList.drop 254 = dktX0_codesOf_11 := dk_seg dksX0_codesOf_10 24 rfl rfl
theorem dX0_codesOf_0 : decode cX0_codesOf 0 = .ok (.aload_n 0, 1) := dk_42 (dk_at dksX0_codesOf_0 0 rfl rfl)
theorem dX0_codesOf_1 : decode cX0_codesOf 1 = .ok (.getfield 68, 3) := dk_180 0 68 (dk_at dksX0_codesOf_0 1 rfl rfl)
theorem dX0_codesOf_4 : decode cX0_codesOf 4 = .ok (.iload_n 1, 1) := dk_27 (dk_at dksX0_codesOf_0 4 rfl rfl)
theorem dX0_codesOf_5 : decode cX0_codesOf 5 = .ok (.aaload, 1) := dk_50 (dk_at dksX0_codesOf_0 5 rfl rfl)
theorem dX0_codesOf_6 : decode cX0_codesOf 6 = .ok (.ifnull 10, 3) := dk_198 0 10 (dk_at dksX0_codesOf_0 6 rfl rfl)
theorem dX0_codesOf_9 : decode cX0_codesOf 9 = .ok (.aload_n 0, 1) := dk_42 (dk_at dksX0_codesOf_0 9 rfl rfl)
theorem dX0_codesOf_10 : decode cX0_codesOf 10 = .ok (.getfield 68, 3) := dk_180 0 68 (dk_at dksX0_codesOf_0 10 rfl rfl)
theorem dX0_codesOf_13 : decode cX0_codesOf 13 = .ok (.iload_n 1, 1) := dk_27 (dk_at dksX0_codesOf_0 13 rfl rfl)
theorem dX0_codesOf_14 : decode cX0_codesOf 14 = .ok (.aaload, 1) := dk_50 (dk_at dksX0_codesOf_0 14 rfl rfl)
theorem dX0_codesOf_15 : decode cX0_codesOf 15 = .ok (.areturn, 1) := dk_176 (dk_at dksX0_codesOf_0 15 rfl rfl)
theorem dX0_codesOf_16 : decode cX0_codesOf 16 = .ok (.new 8, 3) := dk_187 0 8 (dk_at dksX0_codesOf_0 16 rfl rfl)
theorem dX0_codesOf_19 : decode cX0_codesOf 19 = .ok (.dup, 1) := dk_89 (dk_at dksX0_codesOf_0 19 rfl rfl)
theorem dX0_codesOf_20 : decode cX0_codesOf 20 = .ok (.invokespecial 13, 3) := dk_183 0 13 (dk_at dksX0_codesOf_0 20 rfl rfl)
theorem dX0_codesOf_23 : decode cX0_codesOf 23 = .ok (.astore_n 2, 1) := dk_77 (dk_at dksX0_codesOf_0 23 rfl rfl)
theorem dX0_codesOf_24 : decode cX0_codesOf 24 = .ok (.aload_n 0, 1) := dk_42 (dk_at dksX0_codesOf_1 0 rfl rfl)
theorem dX0_codesOf_25 : decode cX0_codesOf 25 = .ok (.iload_n 1, 1) := dk_27 (dk_at dksX0_codesOf_1 1 rfl rfl)
theorem dX0_codesOf_26 : decode cX0_codesOf 26 = .ok (.iconst 1, 1) := dk_4 (dk_at dksX0_codesOf_1 2 rfl rfl)
theorem dX0_codesOf_27 : decode cX0_codesOf 27 = .ok (.isub, 1) := dk_100 (dk_at dksX0_codesOf_1 3 rfl rfl)
theorem dX0_codesOf_28 : decode cX0_codesOf 28 = .ok (.iconst 4, 1) := dk_7 (dk_at dksX0_codesOf_1 4 rfl rfl)
theorem dX0_codesOf_29 : decode cX0_codesOf 29 = .ok (.iload_n 1, 1) := dk_27 (dk_at dksX0_codesOf_1 5 rfl rfl)
theorem dX0_codesOf_30 : decode cX0_codesOf 30 = .ok (.iconst 1, 1) := dk_4 (dk_at dksX0_codesOf_1 6 rfl rfl)
theorem dX0_codesOf_31 : decode cX0_codesOf 31 = .ok (.isub, 1) := dk_100 (dk_at dksX0_codesOf_1 7 rfl rfl)
theorem dX0_codesOf_32 : decode cX0_codesOf 32 = .ok (.iconst 2, 1) := dk_5 (dk_at dksX0_codesOf_1 8 rfl rfl)
theorem dX0_codesOf_33 : decode cX0_codesOf 33 = .ok (.idiv, 1) := dk_108 (dk_at dksX0_codesOf_1 9 rfl rfl)
theorem dX0_codesOf_34 : decode cX0_codesOf 34 = .ok (.aconst_null, 1) := dk_1 (dk_at dksX0_codesOf_1 10 rfl rfl)
theorem dX0_codesOf_35 : decode cX0_codesOf 35 = .ok (.iconst 4, 1) := dk_7 (dk_at dksX0_codesOf_1 11 rfl rfl)
theorem dX0_codesOf_36 : decode cX0_codesOf 36 = .ok (.anewarray 21, 3) := dk_189 0 21 (dk_at dksX0_codesOf_1 12 rfl rfl)
theorem dX0_codesOf_39 : decode cX0_codesOf 39 = .ok (.iconst 0, 1) := dk_3 (dk_at dksX0_codesOf_1 15 rfl rfl)
theorem dX0_codesOf_40 : decode cX0_codesOf 40 = .ok (.aload_n 2, 1) := dk_44 (dk_at dksX0_codesOf_1 16 rfl rfl)
theorem dX0_codesOf_41 : decode cX0_codesOf 41 = .ok (.invokevirtual 23, 3) := dk_182 0 23 (dk_at dksX0_codesOf_1 17 rfl rfl)
theorem dX0_codesOf_44 : decode cX0_codesOf 44 = .ok (.new 72, 3) := dk_187 0 72 (dk_at dksX0_codesOf_1 20 rfl rfl)
theorem dX0_codesOf_47 : decode cX0_codesOf 47 = .ok (.dup, 1) := dk_89 (dk_at dksX0_codesOf_1 23 rfl rfl)
theorem dX0_codesOf_48 : decode cX0_codesOf 48 = .ok (.invokespecial 74, 3) := dk_183 0 74 (dk_at dksX0_codesOf_2 0 rfl rfl)
theorem dX0_codesOf_51 : decode cX0_codesOf 51 = .ok (.astore_n 3, 1) := dk_78 (dk_at dksX0_codesOf_2 3 rfl rfl)
theorem dX0_codesOf_52 : decode cX0_codesOf 52 = .ok (.aload_n 2, 1) := dk_44 (dk_at dksX0_codesOf_2 4 rfl rfl)
theorem dX0_codesOf_53 : decode cX0_codesOf 53 = .ok (.invokevirtual 50, 3) := dk_182 0 50 (dk_at dksX0_codesOf_2 5 rfl rfl)
theorem dX0_codesOf_56 : decode cX0_codesOf 56 = .ok (.astore 4, 2) := dk_58 4 (dk_at dksX0_codesOf_2 8 rfl rfl)
theorem dX0_codesOf_58 : decode cX0_codesOf 58 = .ok (.aload 4, 2) := dk_25 4 (dk_at dksX0_codesOf_2 10 rfl rfl)
theorem dX0_codesOf_60 : decode cX0_codesOf 60 = .ok (.invokeinterface 54 1, 5) := by decide +kernel
theorem dX0_codesOf_65 : decode cX0_codesOf 65 = .ok (.ifCond .eq 31, 3) := dk_153 0 31 (dk_at dksX0_codesOf_2 17 rfl rfl)
theorem dX0_codesOf_68 : decode cX0_codesOf 68 = .ok (.aload 4, 2) := dk_25 4 (dk_at dksX0_codesOf_2 20 rfl rfl)
theorem dX0_codesOf_70 : decode cX0_codesOf 70 = .ok (.invokeinterface 60 1, 5) := by decide +kernel
theorem dX0_codesOf_75 : decode cX0_codesOf 75 = .ok (.checkcast 21, 3) := dk_192 0 21 (dk_at dksX0_codesOf_3 5 rfl rfl)
theorem dX0_codesOf_78 : decode cX0_codesOf 78 = .ok (.astore 5, 2) := dk_58 5 (dk_at dksX0_codesOf_3 8 rfl rfl)
theorem dX0_codesOf_80 : decode cX0_codesOf 80 = .ok (.aload_n 3, 1) := dk_45 (dk_at dksX0_codesOf_3 10 rfl rfl)
theorem dX0_codesOf_81 : decode cX0_codesOf 81 = .ok (.new 75, 3) := dk_187 0 75 (dk_at dksX0_codesOf_3 11 rfl rfl)
theorem dX0_codesOf_84 : decode cX0_codesOf 84 = .ok (.dup, 1) := dk_89 (dk_at dksX0_codesOf_3 14 rfl rfl)
theorem dX0_codesOf_85 : decode cX0_codesOf 85 = .ok (.aload 5, 2) := dk_25 5 (dk_at dksX0_codesOf_3 15 rfl rfl)
theorem dX0_codesOf_87 : decode cX0_codesOf 87 = .ok (.invokespecial 77, 3) := dk_183 0 77 (dk_at dksX0_codesOf_3 17 rfl rfl)
theorem dX0_codesOf_90 : decode cX0_codesOf 90 = .ok (.invokestatic 80, 3) := dk_184 0 80 (dk_at dksX0_codesOf_3 20 rfl rfl)
theorem dX0_codesOf_93 : decode cX0_codesOf 93 = .ok (.goto (-35), 3) := dk_167 255 221 (dk_at dksX0_codesOf_4 0 rfl rfl)
theorem dX0_codesOf_96 : decode cX0_codesOf 96 = .ok (.iload_n 1, 1) := dk_27 (dk_at dksX0_codesOf_4 3 rfl rfl)
theorem dX0_codesOf_97 : decode cX0_codesOf 97 = .ok (.iconst 2, 1) := dk_5 (dk_at dksX0_codesOf_4 4 rfl rfl)
theorem dX0_codesOf_98 : decode cX0_codesOf 98 = .ok (.irem, 1) := dk_112 (dk_at dksX0_codesOf_4 5 rfl rfl)
theorem dX0_codesOf_99 : decode cX0_codesOf 99 = .ok (.ifCond .ne 102, 3) := dk_154 0 102 (dk_at dksX0_codesOf_4 6 rfl rfl)
theorem dX0_codesOf_102 : decode cX0_codesOf 102 = .ok (.aload_n 0, 1) := dk_42 (dk_at dksX0_codesOf_4 9 rfl rfl)
theorem dX0_codesOf_103 : decode cX0_codesOf 103 = .ok (.iload_n 1, 1) := dk_27 (dk_at dksX0_codesOf_4 10 rfl rfl)
theorem dX0_codesOf_104 : decode cX0_codesOf 104 = .ok (.iconst 2, 1) := dk_5 (dk_at dksX0_codesOf_4 11 rfl rfl)
theorem dX0_codesOf_105 : decode cX0_codesOf 105 = .ok (.idiv, 1) := dk_108 (dk_at dksX0_codesOf_4 12 rfl rfl)
theorem dX0_codesOf_106 : decode cX0_codesOf 106 = .ok (.invokevirtual 46, 3) := dk_182 0 46 (dk_at dksX0_codesOf_4 13 rfl rfl)
theorem dX0_codesOf_109 : decode cX0_codesOf 109 = .ok (.invokevirtual 50, 3) := dk_182 0 50 (dk_at dksX0_codesOf_4 16 rfl rfl)
theorem dX0_codesOf_112 : decode cX0_codesOf 112 = .ok (.astore 4, 2) := dk_58 4 (dk_at dksX0_codesOf_4 19 rfl rfl)
theorem dX0_codesOf_114 : decode cX0_codesOf 114 = .ok (.aload 4, 2) := dk_25 4 (dk_at dksX0_codesOf_4 21 rfl rfl)
theorem dX0_codesOf_116 : decode cX0_codesOf 116 = .ok (.invokeinterface 54 1, 5) := by decide +kernel
theorem dX0_codesOf_121 : decode cX0_codesOf 121 = .ok (.ifCond .eq 80, 3) := dk_153 0 80 (dk_at dksX0_codesOf_5 5 rfl rfl)
theorem dX0_codesOf_124 : decode cX0_codesOf 124 = .ok (.aload 4, 2) := dk_25 4 (dk_at dksX0_codesOf_5 8 rfl rfl)
theorem dX0_codesOf_126 : decode cX0_codesOf 126 = .ok (.invokeinterface 60 1, 5) := by decide +kernel
theorem dX0_codesOf_131 : decode cX0_codesOf 131 = .ok (.checkcast 21, 3) := dk_192 0 21 (dk_at dksX0_codesOf_5 15 rfl rfl)
theorem dX0_codesOf_134 : decode cX0_codesOf 134 = .ok (.astore 5, 2) := dk_58 5 (dk_at dksX0_codesOf_5 18 rfl rfl)
theorem dX0_codesOf_136 : decode cX0_codesOf 136 = .ok (.aload_n 0, 1) := dk_42 (dk_at dksX0_codesOf_5 20 rfl rfl)
theorem dX0_codesOf_137 : decode cX0_codesOf 137 = .ok (.iload_n 1, 1) := dk_27 (dk_at dksX0_codesOf_5 21 rfl rfl)
theorem dX0_codesOf_138 : decode cX0_codesOf 138 = .ok (.iconst 2, 1) := dk_5 (dk_at dksX0_codesOf_5 22 rfl rfl)
theorem dX0_codesOf_139 : decode cX0_codesOf 139 = .ok (.idiv, 1) := dk_108 (dk_at dksX0_codesOf_5 23 rfl rfl)
theorem dX0_codesOf_140 : decode cX0_codesOf 140 = .ok (.invokevirtual 46, 3) := dk_182 0 46 (dk_at dksX0_codesOf_6 0 rfl rfl)
theorem dX0_codesOf_143 : decode cX0_codesOf 143 = .ok (.invokevirtual 50, 3) := dk_182 0 50 (dk_at dksX0_codesOf_6 3 rfl rfl)
theorem dX0_codesOf_146 : decode cX0_codesOf 146 = .ok (.astore 6, 2) := dk_58 6 (dk_at dksX0_codesOf_6 6 rfl rfl)
theorem dX0_codesOf_148 : decode cX0_codesOf 148 = .ok (.aload 6, 2) := dk_25 6 (dk_at dksX0_codesOf_6 8 rfl rfl)
theorem dX0_codesOf_150 : decode cX0_codesOf 150 = .ok (.invokeinterface 54 1, 5) := by decide +kernel
theorem dX0_codesOf_155 : decode cX0_codesOf 155 = .ok (.ifCond .eq 43, 3) := dk_153 0 43 (dk_at dksX0_codesOf_6 15 rfl rfl)
theorem dX0_codesOf_158 : decode cX0_codesOf 158 = .ok (.aload 6, 2) := dk_25 6 (dk_at dksX0_codesOf_6 18 rfl rfl)
theorem dX0_codesOf_160 : decode cX0_codesOf 160 = .ok (.invokeinterface 60 1, 5) := by decide +kernel
theorem dX0_codesOf_165 : decode cX0_codesOf 165 = .ok (.checkcast 21, 3) := dk_192 0 21 (dk_at dksX0_codesOf_7 5 rfl rfl)
theorem dX0_codesOf_168 : decode cX0_codesOf 168 = .ok (.astore 7, 2) := dk_58 7 (dk_at dksX0_codesOf_7 8 rfl rfl)
theorem dX0_codesOf_170 : decode cX0_codesOf 170 = .ok (.aload 5, 2) := dk_25 5 (dk_at dksX0_codesOf_7 10 rfl rfl)
theorem dX0_codesOf_172 : decode cX0_codesOf 172 = .ok (.aload 7, 2) := dk_25 7 (dk_at dksX0_codesOf_7 12 rfl rfl)
theorem dX0_codesOf_174 : decode cX0_codesOf 174 = .ok (.invokevirtual 64, 3) := dk_182 0 64 (dk_at dksX0_codesOf_7 14 rfl rfl)
theorem dX0_codesOf_177 : decode cX0_codesOf 177 = .ok (.ifCond .lt 18, 3) := dk_155 0 18 (dk_at dksX0_codesOf_7 17 rfl rfl)
theorem dX0_codesOf_180 : decode cX0_codesOf 180 = .ok (.aload_n 3, 1) := dk_45 (dk_at dksX0_codesOf_7 20 rfl rfl)
theorem dX0_codesOf_181 : decode cX0_codesOf 181 = .ok (.new 84, 3) := dk_187 0 84 (dk_at dksX0_codesOf_7 21 rfl rfl)
theorem dX0_codesOf_184 : decode cX0_codesOf 184 = .ok (.dup, 1) := dk_89 (dk_at dksX0_codesOf_8 0 rfl rfl)
theorem dX0_codesOf_185 : decode cX0_codesOf 185 = .ok (.aload 5, 2) := dk_25 5 (dk_at dksX0_codesOf_8 1 rfl rfl)
theorem dX0_codesOf_187 : decode cX0_codesOf 187 = .ok (.aload 7, 2) := dk_25 7 (dk_at dksX0_codesOf_8 3 rfl rfl)
theorem dX0_codesOf_189 : decode cX0_codesOf 189 = .ok (.invokespecial 86, 3) := dk_183 0 86 (dk_at dksX0_codesOf_8 5 rfl rfl)
theorem dX0_codesOf_192 : decode cX0_codesOf 192 = .ok (.invokestatic 80, 3) := dk_184 0 80 (dk_at dksX0_codesOf_8 8 rfl rfl)
theorem dX0_codesOf_195 : decode cX0_codesOf 195 = .ok (.goto (-47), 3) := dk_167 255 209 (dk_at dksX0_codesOf_8 11 rfl rfl)
theorem dX0_codesOf_198 : decode cX0_codesOf 198 = .ok (.goto (-84), 3) := dk_167 255 172 (dk_at dksX0_codesOf_8 14 rfl rfl)
theorem dX0_codesOf_201 : decode cX0_codesOf 201 = .ok (.aload_n 0, 1) := dk_42 (dk_at dksX0_codesOf_8 17 rfl rfl)
theorem dX0_codesOf_202 : decode cX0_codesOf 202 = .ok (.getfield 68, 3) := dk_180 0 68 (dk_at dksX0_codesOf_8 18 rfl rfl)
theorem dX0_codesOf_205 : decode cX0_codesOf 205 = .ok (.iload_n 1, 1) := dk_27 (dk_at dksX0_codesOf_8 21 rfl rfl)
theorem dX0_codesOf_206 : decode cX0_codesOf 206 = .ok (.aload_n 3, 1) := dk_45 (dk_at dksX0_codesOf_8 22 rfl rfl)
theorem dX0_codesOf_207 : decode cX0_codesOf 207 = .ok (.invokevirtual 89, 3) := dk_182 0 89 (dk_at dksX0_codesOf_9 0 rfl rfl)
theorem dX0_codesOf_210 : decode cX0_codesOf 210 = .ok (.anewarray 90, 3) := dk_189 0 90 (dk_at dksX0_codesOf_9 3 rfl rfl)
theorem dX0_codesOf_213 : decode cX0_codesOf 213 = .ok (.aastore, 1) := dk_83 (dk_at dksX0_codesOf_9 6 rfl rfl)
theorem dX0_codesOf_214 : decode cX0_codesOf 214 = .ok (.iconst 0, 1) := dk_3 (dk_at dksX0_codesOf_9 7 rfl rfl)
theorem dX0_codesOf_215 : decode cX0_codesOf 215 = .ok (.istore 4, 2) := dk_54 4 (dk_at dksX0_codesOf_9 8 rfl rfl)
theorem dX0_codesOf_217 : decode cX0_codesOf 217 = .ok (.aload_n 3, 1) := dk_45 (dk_at dksX0_codesOf_9 10 rfl rfl)
theorem dX0_codesOf_218 : decode cX0_codesOf 218 = .ok (.invokevirtual 92, 3) := dk_182 0 92 (dk_at dksX0_codesOf_9 11 rfl rfl)
theorem dX0_codesOf_221 : decode cX0_codesOf 221 = .ok (.invokeinterface 96 1, 5) := by decide +kernel
theorem dX0_codesOf_226 : decode cX0_codesOf 226 = .ok (.astore 5, 2) := dk_58 5 (dk_at dksX0_codesOf_9 19 rfl rfl)
theorem dX0_codesOf_228 : decode cX0_codesOf 228 = .ok (.aload 5, 2) := dk_25 5 (dk_at dksX0_codesOf_9 21 rfl rfl)
theorem dX0_codesOf_230 : decode cX0_codesOf 230 = .ok (.invokeinterface 54 1, 5) := by decide +kernel
theorem dX0_codesOf_235 : decode cX0_codesOf 235 = .ok (.ifCond .eq 32, 3) := dk_153 0 32 (dk_at dksX0_codesOf_10 5 rfl rfl)
theorem dX0_codesOf_238 : decode cX0_codesOf 238 = .ok (.aload 5, 2) := dk_25 5 (dk_at dksX0_codesOf_10 8 rfl rfl)
theorem dX0_codesOf_240 : decode cX0_codesOf 240 = .ok (.invokeinterface 60 1, 5) := by decide +kernel
theorem dX0_codesOf_245 : decode cX0_codesOf 245 = .ok (.checkcast 90, 3) := dk_192 0 90 (dk_at dksX0_codesOf_10 15 rfl rfl)
theorem dX0_codesOf_248 : decode cX0_codesOf 248 = .ok (.astore 6, 2) := dk_58 6 (dk_at dksX0_codesOf_10 18 rfl rfl)
theorem dX0_codesOf_250 : decode cX0_codesOf 250 = .ok (.aload_n 0, 1) := dk_42 (dk_at dksX0_codesOf_10 20 rfl rfl)
theorem dX0_codesOf_251 : decode cX0_codesOf 251 = .ok (.getfield 68, 3) := dk_180 0 68 (dk_at dksX0_codesOf_10 21 rfl rfl)
theorem dX0_codesOf_254 : decode cX0_codesOf 254 = .ok (.iload_n 1, 1) := dk_27 (dk_at dksX0_codesOf_11 0 rfl rfl)
theorem dX0_codesOf_255 : decode cX0_codesOf 255 = .ok (.aaload, 1) := dk_50 (dk_at dksX0_codesOf_11 1 rfl rfl)
theorem dX0_codesOf_256 : decode cX0_codesOf 256 = .ok (.iload 4, 2) := dk_21 4 (dk_at dksX0_codesOf_11 2 rfl rfl)
theorem dX0_codesOf_258 : decode cX0_codesOf 258 = .ok (.aload 6, 2) := dk_25 6 (dk_at dksX0_codesOf_11 4 rfl rfl)
theorem dX0_codesOf_260 : decode cX0_codesOf 260 = .ok (.aastore, 1) := dk_83 (dk_at dksX0_codesOf_11 6 rfl rfl)
theorem dX0_codesOf_261 : decode cX0_codesOf 261 = .ok (.iinc 4 1, 3) := dk_132 4 1 (dk_at dksX0_codesOf_11 7 rfl rfl)
theorem dX0_codesOf_264 : decode cX0_codesOf 264 = .ok (.goto (-36), 3) := dk_167 255 220 (dk_at dksX0_codesOf_11 10 rfl rfl)
theorem dX0_codesOf_267 : decode cX0_codesOf 267 = .ok (.aload_n 0, 1) := dk_42 (dk_at dksX0_codesOf_11 13 rfl rfl)
theorem dX0_codesOf_268 : decode cX0_codesOf 268 = .ok (.getfield 68, 3) := dk_180 0 68 (dk_at dksX0_codesOf_11 14 rfl rfl)
theorem dX0_codesOf_271 : decode cX0_codesOf 271 = .ok (.iload_n 1, 1) := dk_27 (dk_at dksX0_codesOf_11 17 rfl rfl)
theorem dX0_codesOf_272 : decode cX0_codesOf 272 = .ok (.aaload, 1) := dk_50 (dk_at dksX0_codesOf_11 18 rfl rfl)
theorem dX0_codesOf_273 : decode cX0_codesOf 273 = .ok (.areturn, 1) := dk_176 (dk_at dksX0_codesOf_11 19 rfl rfl)
abbrev cX0_hangs : ByteArray := prog_1_method_4_code
def yX0_hangs : MethodName := ⟨RX0, "hangs", "(IIILSkeletons$Branch;[LSkeletons$Branch;ILjava/util/ArrayList;)V"⟩
def dkwX0_hangs_6 : List UInt8 := [167, 255, 186, 132, 8, 255, 167, 255, 164, 177]
abbrev dktX0_hangs_6 : List UInt8 := dkwX0_hangs_6 ++ []
def dkwX0_hangs_5 : List UInt8 := [27, 21, 8, 100, 28, 4, 100, 21, 8, 25, 10, 25, 5, 21, 6, 4, 96, 25, 7, 182, 0, 23]
abbrev dktX0_hangs_5 : List UInt8 := dkwX0_hangs_5 ++ dktX0_hangs_6
def dkwX0_hangs_4 : List UInt8 := [198, 0, 16, 25, 10, 25, 4, 182, 0, 64, 158, 0, 6, 167, 255, 219, 25, 5, 21, 6, 25, 10, 83, 42]
abbrev dktX0_hangs_4 : List UInt8 := dkwX0_hangs_4 ++ dktX0_hangs_5
def dkwX0_hangs_3 : List UInt8 := [185, 0, 54, 1, 0, 153, 0, 66, 25, 9, 185, 0, 60, 1, 0, 192, 0, 21, 58, 10, 25, 4]
abbrev dktX0_hangs_3 : List UInt8 := dkwX0_hangs_3 ++ dktX0_hangs_4
def dkwX0_hangs_2 : List UInt8 := [54, 8, 21, 8, 158, 0, 93, 42, 21, 8, 182, 0, 46, 182, 0, 50, 58, 9, 25, 9]
abbrev dktX0_hangs_2 : List UInt8 := dkwX0_hangs_2 ++ dktX0_hangs_3
def dkwX0_hangs_1 : List UInt8 := [187, 0, 21, 89, 25, 8, 183, 0, 37, 182, 0, 17, 87, 177, 28, 154, 0, 4, 177, 27, 29, 184, 0, 40]
abbrev dktX0_hangs_1 : List UInt8 := dkwX0_hangs_1 ++ dktX0_hangs_2
def dkwX0_hangs_0 : List UInt8 := [27, 154, 0, 37, 21, 6, 189, 0, 21, 58, 8, 25, 5, 3, 25, 8, 3, 21, 6, 184, 0, 31, 25, 7]
abbrev dktX0_hangs_0 : List UInt8 := dkwX0_hangs_0 ++ dktX0_hangs_1
theorem dksX0_hangs_0 : cX0_hangs.data.toList.drop 0 = dktX0_hangs_0 := by decide +kernel
theorem dksX0_hangs_1 : cX0_hangs.data.toList.drop 24 = dktX0_hangs_1 := dk_seg dksX0_hangs_0 24 rfl rfl
theorem dksX0_hangs_2 : cX0_hangs.data.toList.drop 48 = dktX0_hangs_2 := dk_seg dksX0_hangs_1 24 rfl rfl
theorem dksX0_hangs_3 : cX0_hangs.data.toList.drop 68 = dktX0_hangs_3 := dk_seg dksX0_hangs_2 20 rfl rfl
theorem dksX0_hangs_4 : cX0_hangs.data.toList.drop 90 = dktX0_hangs_4 := dk_seg dksX0_hangs_3 22 rfl rfl
theorem dksX0_hangs_5 : cX0_hangs.data.toList.drop 114 = dktX0_hangs_5 := dk_seg dksX0_hangs_4 24 rfl rfl
theorem dksX0_hangs_6 : cX0_hangs.data.toList.drop 136 = dktX0_hangs_6 := dk_seg dksX0_hangs_5 22 rfl rfl
theorem dX0_hangs_0 : decode cX0_hangs 0 = .ok (.iload_n 1, 1) := dk_27 (dk_at dksX0_hangs_0 0 rfl rfl)
theorem dX0_hangs_1 : decode cX0_hangs 1 = .ok (.ifCond .ne 37, 3) := dk_154 0 37 (dk_at dksX0_hangs_0 1 rfl rfl)
theorem dX0_hangs_4 : decode cX0_hangs 4 = .ok (.iload 6, 2) := dk_21 6 (dk_at dksX0_hangs_0 4 rfl rfl)
theorem dX0_hangs_6 : decode cX0_hangs 6 = .ok (.anewarray 21, 3) := dk_189 0 21 (dk_at dksX0_hangs_0 6 rfl rfl)
theorem dX0_hangs_9 : decode cX0_hangs 9 = .ok (.astore 8, 2) := dk_58 8 (dk_at dksX0_hangs_0 9 rfl rfl)
theorem dX0_hangs_11 : decode cX0_hangs 11 = .ok (.aload 5, 2) := dk_25 5 (dk_at dksX0_hangs_0 11 rfl rfl)
theorem dX0_hangs_13 : decode cX0_hangs 13 = .ok (.iconst 0, 1) := dk_3 (dk_at dksX0_hangs_0 13 rfl rfl)
theorem dX0_hangs_14 : decode cX0_hangs 14 = .ok (.aload 8, 2) := dk_25 8 (dk_at dksX0_hangs_0 14 rfl rfl)
theorem dX0_hangs_16 : decode cX0_hangs 16 = .ok (.iconst 0, 1) := dk_3 (dk_at dksX0_hangs_0 16 rfl rfl)
theorem dX0_hangs_17 : decode cX0_hangs 17 = .ok (.iload 6, 2) := dk_21 6 (dk_at dksX0_hangs_0 17 rfl rfl)
theorem dX0_hangs_19 : decode cX0_hangs 19 = .ok (.invokestatic 31, 3) := dk_184 0 31 (dk_at dksX0_hangs_0 19 rfl rfl)
theorem dX0_hangs_22 : decode cX0_hangs 22 = .ok (.aload 7, 2) := dk_25 7 (dk_at dksX0_hangs_0 22 rfl rfl)
theorem dX0_hangs_24 : decode cX0_hangs 24 = .ok (.new 21, 3) := dk_187 0 21 (dk_at dksX0_hangs_1 0 rfl rfl)
theorem dX0_hangs_27 : decode cX0_hangs 27 = .ok (.dup, 1) := dk_89 (dk_at dksX0_hangs_1 3 rfl rfl)
theorem dX0_hangs_28 : decode cX0_hangs 28 = .ok (.aload 8, 2) := dk_25 8 (dk_at dksX0_hangs_1 4 rfl rfl)
theorem dX0_hangs_30 : decode cX0_hangs 30 = .ok (.invokespecial 37, 3) := dk_183 0 37 (dk_at dksX0_hangs_1 6 rfl rfl)
theorem dX0_hangs_33 : decode cX0_hangs 33 = .ok (.invokevirtual 17, 3) := dk_182 0 17 (dk_at dksX0_hangs_1 9 rfl rfl)
theorem dX0_hangs_36 : decode cX0_hangs 36 = .ok (.pop, 1) := dk_87 (dk_at dksX0_hangs_1 12 rfl rfl)
theorem dX0_hangs_37 : decode cX0_hangs 37 = .ok (.return_, 1) := dk_177 (dk_at dksX0_hangs_1 13 rfl rfl)
theorem dX0_hangs_38 : decode cX0_hangs 38 = .ok (.iload_n 2, 1) := dk_28 (dk_at dksX0_hangs_1 14 rfl rfl)
theorem dX0_hangs_39 : decode cX0_hangs 39 = .ok (.ifCond .ne 4, 3) := dk_154 0 4 (dk_at dksX0_hangs_1 15 rfl rfl)
theorem dX0_hangs_42 : decode cX0_hangs 42 = .ok (.return_, 1) := dk_177 (dk_at dksX0_hangs_1 18 rfl rfl)
theorem dX0_hangs_43 : decode cX0_hangs 43 = .ok (.iload_n 1, 1) := dk_27 (dk_at dksX0_hangs_1 19 rfl rfl)
theorem dX0_hangs_44 : decode cX0_hangs 44 = .ok (.iload_n 3, 1) := dk_29 (dk_at dksX0_hangs_1 20 rfl rfl)
theorem dX0_hangs_45 : decode cX0_hangs 45 = .ok (.invokestatic 40, 3) := dk_184 0 40 (dk_at dksX0_hangs_1 21 rfl rfl)
theorem dX0_hangs_48 : decode cX0_hangs 48 = .ok (.istore 8, 2) := dk_54 8 (dk_at dksX0_hangs_2 0 rfl rfl)
theorem dX0_hangs_50 : decode cX0_hangs 50 = .ok (.iload 8, 2) := dk_21 8 (dk_at dksX0_hangs_2 2 rfl rfl)
theorem dX0_hangs_52 : decode cX0_hangs 52 = .ok (.ifCond .le 93, 3) := dk_158 0 93 (dk_at dksX0_hangs_2 4 rfl rfl)
theorem dX0_hangs_55 : decode cX0_hangs 55 = .ok (.aload_n 0, 1) := dk_42 (dk_at dksX0_hangs_2 7 rfl rfl)
theorem dX0_hangs_56 : decode cX0_hangs 56 = .ok (.iload 8, 2) := dk_21 8 (dk_at dksX0_hangs_2 8 rfl rfl)
theorem dX0_hangs_58 : decode cX0_hangs 58 = .ok (.invokevirtual 46, 3) := dk_182 0 46 (dk_at dksX0_hangs_2 10 rfl rfl)
theorem dX0_hangs_61 : decode cX0_hangs 61 = .ok (.invokevirtual 50, 3) := dk_182 0 50 (dk_at dksX0_hangs_2 13 rfl rfl)
theorem dX0_hangs_64 : decode cX0_hangs 64 = .ok (.astore 9, 2) := dk_58 9 (dk_at dksX0_hangs_2 16 rfl rfl)
theorem dX0_hangs_66 : decode cX0_hangs 66 = .ok (.aload 9, 2) := dk_25 9 (dk_at dksX0_hangs_2 18 rfl rfl)
theorem dX0_hangs_68 : decode cX0_hangs 68 = .ok (.invokeinterface 54 1, 5) := by decide +kernel
theorem dX0_hangs_73 : decode cX0_hangs 73 = .ok (.ifCond .eq 66, 3) := dk_153 0 66 (dk_at dksX0_hangs_3 5 rfl rfl)
theorem dX0_hangs_76 : decode cX0_hangs 76 = .ok (.aload 9, 2) := dk_25 9 (dk_at dksX0_hangs_3 8 rfl rfl)
theorem dX0_hangs_78 : decode cX0_hangs 78 = .ok (.invokeinterface 60 1, 5) := by decide +kernel
theorem dX0_hangs_83 : decode cX0_hangs 83 = .ok (.checkcast 21, 3) := dk_192 0 21 (dk_at dksX0_hangs_3 15 rfl rfl)
theorem dX0_hangs_86 : decode cX0_hangs 86 = .ok (.astore 10, 2) := dk_58 10 (dk_at dksX0_hangs_3 18 rfl rfl)
theorem dX0_hangs_88 : decode cX0_hangs 88 = .ok (.aload 4, 2) := dk_25 4 (dk_at dksX0_hangs_3 20 rfl rfl)
theorem dX0_hangs_90 : decode cX0_hangs 90 = .ok (.ifnull 16, 3) := dk_198 0 16 (dk_at dksX0_hangs_4 0 rfl rfl)
theorem dX0_hangs_93 : decode cX0_hangs 93 = .ok (.aload 10, 2) := dk_25 10 (dk_at dksX0_hangs_4 3 rfl rfl)
theorem dX0_hangs_95 : decode cX0_hangs 95 = .ok (.aload 4, 2) := dk_25 4 (dk_at dksX0_hangs_4 5 rfl rfl)
theorem dX0_hangs_97 : decode cX0_hangs 97 = .ok (.invokevirtual 64, 3) := dk_182 0 64 (dk_at dksX0_hangs_4 7 rfl rfl)
theorem dX0_hangs_100 : decode cX0_hangs 100 = .ok (.ifCond .le 6, 3) := dk_158 0 6 (dk_at dksX0_hangs_4 10 rfl rfl)
theorem dX0_hangs_103 : decode cX0_hangs 103 = .ok (.goto (-37), 3) := dk_167 255 219 (dk_at dksX0_hangs_4 13 rfl rfl)
theorem dX0_hangs_106 : decode cX0_hangs 106 = .ok (.aload 5, 2) := dk_25 5 (dk_at dksX0_hangs_4 16 rfl rfl)
theorem dX0_hangs_108 : decode cX0_hangs 108 = .ok (.iload 6, 2) := dk_21 6 (dk_at dksX0_hangs_4 18 rfl rfl)
theorem dX0_hangs_110 : decode cX0_hangs 110 = .ok (.aload 10, 2) := dk_25 10 (dk_at dksX0_hangs_4 20 rfl rfl)
theorem dX0_hangs_112 : decode cX0_hangs 112 = .ok (.aastore, 1) := dk_83 (dk_at dksX0_hangs_4 22 rfl rfl)
theorem dX0_hangs_113 : decode cX0_hangs 113 = .ok (.aload_n 0, 1) := dk_42 (dk_at dksX0_hangs_4 23 rfl rfl)
theorem dX0_hangs_114 : decode cX0_hangs 114 = .ok (.iload_n 1, 1) := dk_27 (dk_at dksX0_hangs_5 0 rfl rfl)
theorem dX0_hangs_115 : decode cX0_hangs 115 = .ok (.iload 8, 2) := dk_21 8 (dk_at dksX0_hangs_5 1 rfl rfl)
theorem dX0_hangs_117 : decode cX0_hangs 117 = .ok (.isub, 1) := dk_100 (dk_at dksX0_hangs_5 3 rfl rfl)
theorem dX0_hangs_118 : decode cX0_hangs 118 = .ok (.iload_n 2, 1) := dk_28 (dk_at dksX0_hangs_5 4 rfl rfl)
theorem dX0_hangs_119 : decode cX0_hangs 119 = .ok (.iconst 1, 1) := dk_4 (dk_at dksX0_hangs_5 5 rfl rfl)
theorem dX0_hangs_120 : decode cX0_hangs 120 = .ok (.isub, 1) := dk_100 (dk_at dksX0_hangs_5 6 rfl rfl)
theorem dX0_hangs_121 : decode cX0_hangs 121 = .ok (.iload 8, 2) := dk_21 8 (dk_at dksX0_hangs_5 7 rfl rfl)
theorem dX0_hangs_123 : decode cX0_hangs 123 = .ok (.aload 10, 2) := dk_25 10 (dk_at dksX0_hangs_5 9 rfl rfl)
theorem dX0_hangs_125 : decode cX0_hangs 125 = .ok (.aload 5, 2) := dk_25 5 (dk_at dksX0_hangs_5 11 rfl rfl)
theorem dX0_hangs_127 : decode cX0_hangs 127 = .ok (.iload 6, 2) := dk_21 6 (dk_at dksX0_hangs_5 13 rfl rfl)
theorem dX0_hangs_129 : decode cX0_hangs 129 = .ok (.iconst 1, 1) := dk_4 (dk_at dksX0_hangs_5 15 rfl rfl)
theorem dX0_hangs_130 : decode cX0_hangs 130 = .ok (.iadd, 1) := dk_96 (dk_at dksX0_hangs_5 16 rfl rfl)
theorem dX0_hangs_131 : decode cX0_hangs 131 = .ok (.aload 7, 2) := dk_25 7 (dk_at dksX0_hangs_5 17 rfl rfl)
theorem dX0_hangs_133 : decode cX0_hangs 133 = .ok (.invokevirtual 23, 3) := dk_182 0 23 (dk_at dksX0_hangs_5 19 rfl rfl)
theorem dX0_hangs_136 : decode cX0_hangs 136 = .ok (.goto (-70), 3) := dk_167 255 186 (dk_at dksX0_hangs_6 0 rfl rfl)
theorem dX0_hangs_139 : decode cX0_hangs 139 = .ok (.iinc 8 (-1), 3) := dk_132 8 255 (dk_at dksX0_hangs_6 3 rfl rfl)
theorem dX0_hangs_142 : decode cX0_hangs 142 = .ok (.goto (-92), 3) := dk_167 255 164 (dk_at dksX0_hangs_6 6 rfl rfl)
theorem dX0_hangs_145 : decode cX0_hangs 145 = .ok (.return_, 1) := dk_177 (dk_at dksX0_hangs_6 9 rfl rfl)
abbrev cX0_branchesOf : ByteArray := prog_1_method_3_code
def yX0_branchesOf : MethodName := ⟨RX0, "branchesOf", "(I)Ljava/util/ArrayList;"⟩
def dkwX0_branchesOf_3 : List UInt8 := [42, 180, 0, 1, 27, 182, 0, 27, 192, 0, 8, 176]
abbrev dktX0_branchesOf_3 : List UInt8 := dkwX0_branchesOf_3 ++ []
def dkwX0_branchesOf_2 : List UInt8 := [100, 6, 42, 180, 0, 1, 182, 0, 7, 5, 100, 1, 6, 189, 0, 21, 3, 44, 182, 0, 23, 167, 255, 187]
abbrev dktX0_branchesOf_2 : List UInt8 := dkwX0_branchesOf_2 ++ dktX0_branchesOf_3
def dkwX0_branchesOf_1 : List UInt8 := [182, 0, 17, 87, 42, 180, 0, 1, 182, 0, 7, 4, 164, 0, 33, 42, 42, 180, 0, 1, 182, 0, 7, 5]
abbrev dktX0_branchesOf_1 : List UInt8 := dkwX0_branchesOf_1 ++ dktX0_branchesOf_2
def dkwX0_branchesOf_0 : List UInt8 := [42, 180, 0, 1, 182, 0, 7, 27, 163, 0, 64, 187, 0, 8, 89, 183, 0, 13, 77, 42, 180, 0, 1, 44]
abbrev dktX0_branchesOf_0 : List UInt8 := dkwX0_branchesOf_0 ++ dktX0_branchesOf_1
theorem dksX0_branchesOf_0 : cX0_branchesOf.data.toList.drop 0 = dktX0_branchesOf_0 := by decide +kernel
theorem dksX0_branchesOf_1 : cX0_branchesOf.data.toList.drop 24 = dktX0_branchesOf_1 := dk_seg dksX0_branchesOf_0 24 rfl rfl
theorem dksX0_branchesOf_2 : cX0_branchesOf.data.toList.drop 48 = dktX0_branchesOf_2 := dk_seg dksX0_branchesOf_1 24 rfl rfl
theorem dksX0_branchesOf_3 : cX0_branchesOf.data.toList.drop 72 = dktX0_branchesOf_3 := dk_seg dksX0_branchesOf_2 24 rfl rfl
theorem dX0_branchesOf_0 : decode cX0_branchesOf 0 = .ok (.aload_n 0, 1) := dk_42 (dk_at dksX0_branchesOf_0 0 rfl rfl)
theorem dX0_branchesOf_1 : decode cX0_branchesOf 1 = .ok (.getfield 1, 3) := dk_180 0 1 (dk_at dksX0_branchesOf_0 1 rfl rfl)
theorem dX0_branchesOf_4 : decode cX0_branchesOf 4 = .ok (.invokevirtual 7, 3) := dk_182 0 7 (dk_at dksX0_branchesOf_0 4 rfl rfl)
theorem dX0_branchesOf_7 : decode cX0_branchesOf 7 = .ok (.iload_n 1, 1) := dk_27 (dk_at dksX0_branchesOf_0 7 rfl rfl)
theorem dX0_branchesOf_8 : decode cX0_branchesOf 8 = .ok (.if_icmp .gt 64, 3) := dk_163 0 64 (dk_at dksX0_branchesOf_0 8 rfl rfl)
theorem dX0_branchesOf_11 : decode cX0_branchesOf 11 = .ok (.new 8, 3) := dk_187 0 8 (dk_at dksX0_branchesOf_0 11 rfl rfl)
theorem dX0_branchesOf_14 : decode cX0_branchesOf 14 = .ok (.dup, 1) := dk_89 (dk_at dksX0_branchesOf_0 14 rfl rfl)
theorem dX0_branchesOf_15 : decode cX0_branchesOf 15 = .ok (.invokespecial 13, 3) := dk_183 0 13 (dk_at dksX0_branchesOf_0 15 rfl rfl)
theorem dX0_branchesOf_18 : decode cX0_branchesOf 18 = .ok (.astore_n 2, 1) := dk_77 (dk_at dksX0_branchesOf_0 18 rfl rfl)
theorem dX0_branchesOf_19 : decode cX0_branchesOf 19 = .ok (.aload_n 0, 1) := dk_42 (dk_at dksX0_branchesOf_0 19 rfl rfl)
theorem dX0_branchesOf_20 : decode cX0_branchesOf 20 = .ok (.getfield 1, 3) := dk_180 0 1 (dk_at dksX0_branchesOf_0 20 rfl rfl)
theorem dX0_branchesOf_23 : decode cX0_branchesOf 23 = .ok (.aload_n 2, 1) := dk_44 (dk_at dksX0_branchesOf_0 23 rfl rfl)
theorem dX0_branchesOf_24 : decode cX0_branchesOf 24 = .ok (.invokevirtual 17, 3) := dk_182 0 17 (dk_at dksX0_branchesOf_1 0 rfl rfl)
theorem dX0_branchesOf_27 : decode cX0_branchesOf 27 = .ok (.pop, 1) := dk_87 (dk_at dksX0_branchesOf_1 3 rfl rfl)
theorem dX0_branchesOf_28 : decode cX0_branchesOf 28 = .ok (.aload_n 0, 1) := dk_42 (dk_at dksX0_branchesOf_1 4 rfl rfl)
theorem dX0_branchesOf_29 : decode cX0_branchesOf 29 = .ok (.getfield 1, 3) := dk_180 0 1 (dk_at dksX0_branchesOf_1 5 rfl rfl)
theorem dX0_branchesOf_32 : decode cX0_branchesOf 32 = .ok (.invokevirtual 7, 3) := dk_182 0 7 (dk_at dksX0_branchesOf_1 8 rfl rfl)
theorem dX0_branchesOf_35 : decode cX0_branchesOf 35 = .ok (.iconst 1, 1) := dk_4 (dk_at dksX0_branchesOf_1 11 rfl rfl)
theorem dX0_branchesOf_36 : decode cX0_branchesOf 36 = .ok (.if_icmp .le 33, 3) := dk_164 0 33 (dk_at dksX0_branchesOf_1 12 rfl rfl)
theorem dX0_branchesOf_39 : decode cX0_branchesOf 39 = .ok (.aload_n 0, 1) := dk_42 (dk_at dksX0_branchesOf_1 15 rfl rfl)
theorem dX0_branchesOf_40 : decode cX0_branchesOf 40 = .ok (.aload_n 0, 1) := dk_42 (dk_at dksX0_branchesOf_1 16 rfl rfl)
theorem dX0_branchesOf_41 : decode cX0_branchesOf 41 = .ok (.getfield 1, 3) := dk_180 0 1 (dk_at dksX0_branchesOf_1 17 rfl rfl)
theorem dX0_branchesOf_44 : decode cX0_branchesOf 44 = .ok (.invokevirtual 7, 3) := dk_182 0 7 (dk_at dksX0_branchesOf_1 20 rfl rfl)
theorem dX0_branchesOf_47 : decode cX0_branchesOf 47 = .ok (.iconst 2, 1) := dk_5 (dk_at dksX0_branchesOf_1 23 rfl rfl)
theorem dX0_branchesOf_48 : decode cX0_branchesOf 48 = .ok (.isub, 1) := dk_100 (dk_at dksX0_branchesOf_2 0 rfl rfl)
theorem dX0_branchesOf_49 : decode cX0_branchesOf 49 = .ok (.iconst 3, 1) := dk_6 (dk_at dksX0_branchesOf_2 1 rfl rfl)
theorem dX0_branchesOf_50 : decode cX0_branchesOf 50 = .ok (.aload_n 0, 1) := dk_42 (dk_at dksX0_branchesOf_2 2 rfl rfl)
theorem dX0_branchesOf_51 : decode cX0_branchesOf 51 = .ok (.getfield 1, 3) := dk_180 0 1 (dk_at dksX0_branchesOf_2 3 rfl rfl)
theorem dX0_branchesOf_54 : decode cX0_branchesOf 54 = .ok (.invokevirtual 7, 3) := dk_182 0 7 (dk_at dksX0_branchesOf_2 6 rfl rfl)
theorem dX0_branchesOf_57 : decode cX0_branchesOf 57 = .ok (.iconst 2, 1) := dk_5 (dk_at dksX0_branchesOf_2 9 rfl rfl)
theorem dX0_branchesOf_58 : decode cX0_branchesOf 58 = .ok (.isub, 1) := dk_100 (dk_at dksX0_branchesOf_2 10 rfl rfl)
theorem dX0_branchesOf_59 : decode cX0_branchesOf 59 = .ok (.aconst_null, 1) := dk_1 (dk_at dksX0_branchesOf_2 11 rfl rfl)
theorem dX0_branchesOf_60 : decode cX0_branchesOf 60 = .ok (.iconst 3, 1) := dk_6 (dk_at dksX0_branchesOf_2 12 rfl rfl)
theorem dX0_branchesOf_61 : decode cX0_branchesOf 61 = .ok (.anewarray 21, 3) := dk_189 0 21 (dk_at dksX0_branchesOf_2 13 rfl rfl)
theorem dX0_branchesOf_64 : decode cX0_branchesOf 64 = .ok (.iconst 0, 1) := dk_3 (dk_at dksX0_branchesOf_2 16 rfl rfl)
theorem dX0_branchesOf_65 : decode cX0_branchesOf 65 = .ok (.aload_n 2, 1) := dk_44 (dk_at dksX0_branchesOf_2 17 rfl rfl)
theorem dX0_branchesOf_66 : decode cX0_branchesOf 66 = .ok (.invokevirtual 23, 3) := dk_182 0 23 (dk_at dksX0_branchesOf_2 18 rfl rfl)
theorem dX0_branchesOf_69 : decode cX0_branchesOf 69 = .ok (.goto (-69), 3) := dk_167 255 187 (dk_at dksX0_branchesOf_2 21 rfl rfl)
theorem dX0_branchesOf_72 : decode cX0_branchesOf 72 = .ok (.aload_n 0, 1) := dk_42 (dk_at dksX0_branchesOf_3 0 rfl rfl)
theorem dX0_branchesOf_73 : decode cX0_branchesOf 73 = .ok (.getfield 1, 3) := dk_180 0 1 (dk_at dksX0_branchesOf_3 1 rfl rfl)
theorem dX0_branchesOf_76 : decode cX0_branchesOf 76 = .ok (.iload_n 1, 1) := dk_27 (dk_at dksX0_branchesOf_3 4 rfl rfl)
theorem dX0_branchesOf_77 : decode cX0_branchesOf 77 = .ok (.invokevirtual 27, 3) := dk_182 0 27 (dk_at dksX0_branchesOf_3 5 rfl rfl)
theorem dX0_branchesOf_80 : decode cX0_branchesOf 80 = .ok (.checkcast 8, 3) := dk_192 0 8 (dk_at dksX0_branchesOf_3 8 rfl rfl)
theorem dX0_branchesOf_83 : decode cX0_branchesOf 83 = .ok (.areturn, 1) := dk_176 (dk_at dksX0_branchesOf_3 11 rfl rfl)
abbrev cX0_puts : ByteArray := prog_1_method_7_code
def yX0_puts : MethodName := ⟨RX0, "puts", "(Ljava/util/TreeMap;LSkeletons$Whole;)V"⟩
def dkwX0_puts_2 : List UInt8 := [182, 0, 108, 87, 132, 6, 1, 167, 255, 228, 42, 45, 182, 0, 112, 44, 182, 0, 116, 87, 177]
abbrev dktX0_puts_2 : List UInt8 := dkwX0_puts_2 ++ []
def dkwX0_puts_1 : List UInt8 := [54, 6, 21, 6, 21, 5, 162, 0, 27, 25, 4, 21, 6, 46, 54, 7, 45, 16, 97, 21, 7, 96, 146]
abbrev dktX0_puts_1 : List UInt8 := dkwX0_puts_1 ++ dktX0_puts_2
def dkwX0_puts_0 : List UInt8 := [43, 185, 0, 99, 1, 0, 77, 187, 0, 105, 89, 183, 0, 107, 78, 44, 58, 4, 25, 4, 190, 54, 5, 3]
abbrev dktX0_puts_0 : List UInt8 := dkwX0_puts_0 ++ dktX0_puts_1
theorem dksX0_puts_0 : cX0_puts.data.toList.drop 0 = dktX0_puts_0 := by decide +kernel
theorem dksX0_puts_1 : cX0_puts.data.toList.drop 24 = dktX0_puts_1 := dk_seg dksX0_puts_0 24 rfl rfl
theorem dksX0_puts_2 : cX0_puts.data.toList.drop 47 = dktX0_puts_2 := dk_seg dksX0_puts_1 23 rfl rfl
theorem dX0_puts_0 : decode cX0_puts 0 = .ok (.aload_n 1, 1) := dk_43 (dk_at dksX0_puts_0 0 rfl rfl)
theorem dX0_puts_1 : decode cX0_puts 1 = .ok (.invokeinterface 99 1, 5) := by decide +kernel
theorem dX0_puts_6 : decode cX0_puts 6 = .ok (.astore_n 2, 1) := dk_77 (dk_at dksX0_puts_0 6 rfl rfl)
theorem dX0_puts_7 : decode cX0_puts 7 = .ok (.new 105, 3) := dk_187 0 105 (dk_at dksX0_puts_0 7 rfl rfl)
theorem dX0_puts_10 : decode cX0_puts 10 = .ok (.dup, 1) := dk_89 (dk_at dksX0_puts_0 10 rfl rfl)
theorem dX0_puts_11 : decode cX0_puts 11 = .ok (.invokespecial 107, 3) := dk_183 0 107 (dk_at dksX0_puts_0 11 rfl rfl)
theorem dX0_puts_14 : decode cX0_puts 14 = .ok (.astore_n 3, 1) := dk_78 (dk_at dksX0_puts_0 14 rfl rfl)
theorem dX0_puts_15 : decode cX0_puts 15 = .ok (.aload_n 2, 1) := dk_44 (dk_at dksX0_puts_0 15 rfl rfl)
theorem dX0_puts_16 : decode cX0_puts 16 = .ok (.astore 4, 2) := dk_58 4 (dk_at dksX0_puts_0 16 rfl rfl)
theorem dX0_puts_18 : decode cX0_puts 18 = .ok (.aload 4, 2) := dk_25 4 (dk_at dksX0_puts_0 18 rfl rfl)
theorem dX0_puts_20 : decode cX0_puts 20 = .ok (.arraylength, 1) := dk_190 (dk_at dksX0_puts_0 20 rfl rfl)
theorem dX0_puts_21 : decode cX0_puts 21 = .ok (.istore 5, 2) := dk_54 5 (dk_at dksX0_puts_0 21 rfl rfl)
theorem dX0_puts_23 : decode cX0_puts 23 = .ok (.iconst 0, 1) := dk_3 (dk_at dksX0_puts_0 23 rfl rfl)
theorem dX0_puts_24 : decode cX0_puts 24 = .ok (.istore 6, 2) := dk_54 6 (dk_at dksX0_puts_1 0 rfl rfl)
theorem dX0_puts_26 : decode cX0_puts 26 = .ok (.iload 6, 2) := dk_21 6 (dk_at dksX0_puts_1 2 rfl rfl)
theorem dX0_puts_28 : decode cX0_puts 28 = .ok (.iload 5, 2) := dk_21 5 (dk_at dksX0_puts_1 4 rfl rfl)
theorem dX0_puts_30 : decode cX0_puts 30 = .ok (.if_icmp .ge 27, 3) := dk_162 0 27 (dk_at dksX0_puts_1 6 rfl rfl)
theorem dX0_puts_33 : decode cX0_puts 33 = .ok (.aload 4, 2) := dk_25 4 (dk_at dksX0_puts_1 9 rfl rfl)
theorem dX0_puts_35 : decode cX0_puts 35 = .ok (.iload 6, 2) := dk_21 6 (dk_at dksX0_puts_1 11 rfl rfl)
theorem dX0_puts_37 : decode cX0_puts 37 = .ok (.iaload, 1) := dk_46 (dk_at dksX0_puts_1 13 rfl rfl)
theorem dX0_puts_38 : decode cX0_puts 38 = .ok (.istore 7, 2) := dk_54 7 (dk_at dksX0_puts_1 14 rfl rfl)
theorem dX0_puts_40 : decode cX0_puts 40 = .ok (.aload_n 3, 1) := dk_45 (dk_at dksX0_puts_1 16 rfl rfl)
theorem dX0_puts_41 : decode cX0_puts 41 = .ok (.bipush 97, 2) := dk_16 97 (dk_at dksX0_puts_1 17 rfl rfl)
theorem dX0_puts_43 : decode cX0_puts 43 = .ok (.iload 7, 2) := dk_21 7 (dk_at dksX0_puts_1 19 rfl rfl)
theorem dX0_puts_45 : decode cX0_puts 45 = .ok (.iadd, 1) := dk_96 (dk_at dksX0_puts_1 21 rfl rfl)
theorem dX0_puts_46 : decode cX0_puts 46 = .ok (.i2c, 1) := dk_146 (dk_at dksX0_puts_1 22 rfl rfl)
theorem dX0_puts_47 : decode cX0_puts 47 = .ok (.invokevirtual 108, 3) := dk_182 0 108 (dk_at dksX0_puts_2 0 rfl rfl)
theorem dX0_puts_50 : decode cX0_puts 50 = .ok (.pop, 1) := dk_87 (dk_at dksX0_puts_2 3 rfl rfl)
theorem dX0_puts_51 : decode cX0_puts 51 = .ok (.iinc 6 1, 3) := dk_132 6 1 (dk_at dksX0_puts_2 4 rfl rfl)
theorem dX0_puts_54 : decode cX0_puts 54 = .ok (.goto (-28), 3) := dk_167 255 228 (dk_at dksX0_puts_2 7 rfl rfl)
theorem dX0_puts_57 : decode cX0_puts 57 = .ok (.aload_n 0, 1) := dk_42 (dk_at dksX0_puts_2 10 rfl rfl)
theorem dX0_puts_58 : decode cX0_puts 58 = .ok (.aload_n 3, 1) := dk_45 (dk_at dksX0_puts_2 11 rfl rfl)
theorem dX0_puts_59 : decode cX0_puts 59 = .ok (.invokevirtual 112, 3) := dk_182 0 112 (dk_at dksX0_puts_2 12 rfl rfl)
theorem dX0_puts_62 : decode cX0_puts 62 = .ok (.aload_n 2, 1) := dk_44 (dk_at dksX0_puts_2 15 rfl rfl)
theorem dX0_puts_63 : decode cX0_puts 63 = .ok (.invokevirtual 116, 3) := dk_182 0 116 (dk_at dksX0_puts_2 16 rfl rfl)
theorem dX0_puts_66 : decode cX0_puts 66 = .ok (.pop, 1) := dk_87 (dk_at dksX0_puts_2 19 rfl rfl)
theorem dX0_puts_67 : decode cX0_puts 67 = .ok (.return_, 1) := dk_177 (dk_at dksX0_puts_2 20 rfl rfl)
abbrev cX0_grow : ByteArray := prog_1_method_26_code
def yX0_grow : MethodName := ⟨RX0, "grow", "(I)I"⟩
def dkwX0_grow_2 : List UInt8 := [182, 0, 191, 77, 44, 27, 44, 180, 0, 226, 4, 100, 182, 1, 41, 42, 44, 182, 1, 13, 172]
abbrev dktX0_grow_2 : List UInt8 := dkwX0_grow_2 ++ []
def dkwX0_grow_1 : List UInt8 := [42, 180, 0, 195, 180, 0, 226, 16, 16, 160, 0, 6, 16, 253, 172, 42, 180, 0, 195, 182, 1, 38]
abbrev dktX0_grow_1 : List UInt8 := dkwX0_grow_1 ++ dktX0_grow_2
def dkwX0_grow_0 : List UInt8 := [42, 27, 182, 0, 239, 154, 0, 5, 2, 172, 42, 180, 0, 195, 27, 182, 1, 35, 153, 0, 6, 16, 254, 172]
abbrev dktX0_grow_0 : List UInt8 := dkwX0_grow_0 ++ dktX0_grow_1
theorem dksX0_grow_0 : cX0_grow.data.toList.drop 0 = dktX0_grow_0 := by decide +kernel
theorem dksX0_grow_1 : cX0_grow.data.toList.drop 24 = dktX0_grow_1 := dk_seg dksX0_grow_0 24 rfl rfl
theorem dksX0_grow_2 : cX0_grow.data.toList.drop 46 = dktX0_grow_2 := dk_seg dksX0_grow_1 22 rfl rfl
theorem dX0_grow_0 : decode cX0_grow 0 = .ok (.aload_n 0, 1) := dk_42 (dk_at dksX0_grow_0 0 rfl rfl)
theorem dX0_grow_1 : decode cX0_grow 1 = .ok (.iload_n 1, 1) := dk_27 (dk_at dksX0_grow_0 1 rfl rfl)
theorem dX0_grow_2 : decode cX0_grow 2 = .ok (.invokevirtual 239, 3) := dk_182 0 239 (dk_at dksX0_grow_0 2 rfl rfl)
theorem dX0_grow_5 : decode cX0_grow 5 = .ok (.ifCond .ne 5, 3) := dk_154 0 5 (dk_at dksX0_grow_0 5 rfl rfl)
theorem dX0_grow_8 : decode cX0_grow 8 = .ok (.iconst (-1), 1) := dk_2 (dk_at dksX0_grow_0 8 rfl rfl)
theorem dX0_grow_9 : decode cX0_grow 9 = .ok (.ireturn, 1) := dk_172 (dk_at dksX0_grow_0 9 rfl rfl)
theorem dX0_grow_10 : decode cX0_grow 10 = .ok (.aload_n 0, 1) := dk_42 (dk_at dksX0_grow_0 10 rfl rfl)
theorem dX0_grow_11 : decode cX0_grow 11 = .ok (.getfield 195, 3) := dk_180 0 195 (dk_at dksX0_grow_0 11 rfl rfl)
theorem dX0_grow_14 : decode cX0_grow 14 = .ok (.iload_n 1, 1) := dk_27 (dk_at dksX0_grow_0 14 rfl rfl)
theorem dX0_grow_15 : decode cX0_grow 15 = .ok (.invokevirtual 291, 3) := dk_182 1 35 (dk_at dksX0_grow_0 15 rfl rfl)
theorem dX0_grow_18 : decode cX0_grow 18 = .ok (.ifCond .eq 6, 3) := dk_153 0 6 (dk_at dksX0_grow_0 18 rfl rfl)
theorem dX0_grow_21 : decode cX0_grow 21 = .ok (.bipush (-2), 2) := dk_16 254 (dk_at dksX0_grow_0 21 rfl rfl)
theorem dX0_grow_23 : decode cX0_grow 23 = .ok (.ireturn, 1) := dk_172 (dk_at dksX0_grow_0 23 rfl rfl)
theorem dX0_grow_24 : decode cX0_grow 24 = .ok (.aload_n 0, 1) := dk_42 (dk_at dksX0_grow_1 0 rfl rfl)
theorem dX0_grow_25 : decode cX0_grow 25 = .ok (.getfield 195, 3) := dk_180 0 195 (dk_at dksX0_grow_1 1 rfl rfl)
theorem dX0_grow_28 : decode cX0_grow 28 = .ok (.getfield 226, 3) := dk_180 0 226 (dk_at dksX0_grow_1 4 rfl rfl)
theorem dX0_grow_31 : decode cX0_grow 31 = .ok (.bipush 16, 2) := dk_16 16 (dk_at dksX0_grow_1 7 rfl rfl)
theorem dX0_grow_33 : decode cX0_grow 33 = .ok (.if_icmp .ne 6, 3) := dk_160 0 6 (dk_at dksX0_grow_1 9 rfl rfl)
theorem dX0_grow_36 : decode cX0_grow 36 = .ok (.bipush (-3), 2) := dk_16 253 (dk_at dksX0_grow_1 12 rfl rfl)
theorem dX0_grow_38 : decode cX0_grow 38 = .ok (.ireturn, 1) := dk_172 (dk_at dksX0_grow_1 14 rfl rfl)
theorem dX0_grow_39 : decode cX0_grow 39 = .ok (.aload_n 0, 1) := dk_42 (dk_at dksX0_grow_1 15 rfl rfl)
theorem dX0_grow_40 : decode cX0_grow 40 = .ok (.getfield 195, 3) := dk_180 0 195 (dk_at dksX0_grow_1 16 rfl rfl)
theorem dX0_grow_43 : decode cX0_grow 43 = .ok (.invokevirtual 294, 3) := dk_182 1 38 (dk_at dksX0_grow_1 19 rfl rfl)
theorem dX0_grow_46 : decode cX0_grow 46 = .ok (.invokevirtual 191, 3) := dk_182 0 191 (dk_at dksX0_grow_2 0 rfl rfl)
theorem dX0_grow_49 : decode cX0_grow 49 = .ok (.astore_n 2, 1) := dk_77 (dk_at dksX0_grow_2 3 rfl rfl)
theorem dX0_grow_50 : decode cX0_grow 50 = .ok (.aload_n 2, 1) := dk_44 (dk_at dksX0_grow_2 4 rfl rfl)
theorem dX0_grow_51 : decode cX0_grow 51 = .ok (.iload_n 1, 1) := dk_27 (dk_at dksX0_grow_2 5 rfl rfl)
theorem dX0_grow_52 : decode cX0_grow 52 = .ok (.aload_n 2, 1) := dk_44 (dk_at dksX0_grow_2 6 rfl rfl)
theorem dX0_grow_53 : decode cX0_grow 53 = .ok (.getfield 226, 3) := dk_180 0 226 (dk_at dksX0_grow_2 7 rfl rfl)
theorem dX0_grow_56 : decode cX0_grow 56 = .ok (.iconst 1, 1) := dk_4 (dk_at dksX0_grow_2 10 rfl rfl)
theorem dX0_grow_57 : decode cX0_grow 57 = .ok (.isub, 1) := dk_100 (dk_at dksX0_grow_2 11 rfl rfl)
theorem dX0_grow_58 : decode cX0_grow 58 = .ok (.invokevirtual 297, 3) := dk_182 1 41 (dk_at dksX0_grow_2 12 rfl rfl)
theorem dX0_grow_61 : decode cX0_grow 61 = .ok (.aload_n 0, 1) := dk_42 (dk_at dksX0_grow_2 15 rfl rfl)
theorem dX0_grow_62 : decode cX0_grow 62 = .ok (.aload_n 2, 1) := dk_44 (dk_at dksX0_grow_2 16 rfl rfl)
theorem dX0_grow_63 : decode cX0_grow 63 = .ok (.invokevirtual 269, 3) := dk_182 1 13 (dk_at dksX0_grow_2 17 rfl rfl)
theorem dX0_grow_66 : decode cX0_grow 66 = .ok (.ireturn, 1) := dk_172 (dk_at dksX0_grow_2 20 rfl rfl)
abbrev cX0_isCarbon : ByteArray := prog_1_method_18_code
def yX0_isCarbon : MethodName := ⟨RX0, "isCarbon", "(I)Z"⟩
def dkwX0_isCarbon_0 : List UInt8 := [27, 133, 9, 42, 180, 0, 195, 180, 0, 226, 4, 100, 133, 184, 0, 155, 172]
abbrev dktX0_isCarbon_0 : List UInt8 := dkwX0_isCarbon_0 ++ []
theorem dksX0_isCarbon_0 : cX0_isCarbon.data.toList.drop 0 = dktX0_isCarbon_0 := by decide +kernel
theorem dX0_isCarbon_0 : decode cX0_isCarbon 0 = .ok (.iload_n 1, 1) := dk_27 (dk_at dksX0_isCarbon_0 0 rfl rfl)
theorem dX0_isCarbon_1 : decode cX0_isCarbon 1 = .ok (.i2l, 1) := dk_133 (dk_at dksX0_isCarbon_0 1 rfl rfl)
theorem dX0_isCarbon_2 : decode cX0_isCarbon 2 = .ok (.lconst 0, 1) := dk_9 (dk_at dksX0_isCarbon_0 2 rfl rfl)
theorem dX0_isCarbon_3 : decode cX0_isCarbon 3 = .ok (.aload_n 0, 1) := dk_42 (dk_at dksX0_isCarbon_0 3 rfl rfl)
theorem dX0_isCarbon_4 : decode cX0_isCarbon 4 = .ok (.getfield 195, 3) := dk_180 0 195 (dk_at dksX0_isCarbon_0 4 rfl rfl)
theorem dX0_isCarbon_7 : decode cX0_isCarbon 7 = .ok (.getfield 226, 3) := dk_180 0 226 (dk_at dksX0_isCarbon_0 7 rfl rfl)
theorem dX0_isCarbon_10 : decode cX0_isCarbon 10 = .ok (.iconst 1, 1) := dk_4 (dk_at dksX0_isCarbon_0 10 rfl rfl)
theorem dX0_isCarbon_11 : decode cX0_isCarbon 11 = .ok (.isub, 1) := dk_100 (dk_at dksX0_isCarbon_0 11 rfl rfl)
theorem dX0_isCarbon_12 : decode cX0_isCarbon 12 = .ok (.i2l, 1) := dk_133 (dk_at dksX0_isCarbon_0 12 rfl rfl)
theorem dX0_isCarbon_13 : decode cX0_isCarbon 13 = .ok (.invokestatic 155, 3) := dk_184 0 155 (dk_at dksX0_isCarbon_0 13 rfl rfl)
theorem dX0_isCarbon_16 : decode cX0_isCarbon 16 = .ok (.ireturn, 1) := dk_172 (dk_at dksX0_isCarbon_0 16 rfl rfl)
abbrev cX0_prune : ByteArray := prog_1_method_27_code
def yX0_prune : MethodName := ⟨RX0, "prune", "(I)I"⟩
def dkwX0_prune_2 : List UInt8 := [126, 182, 1, 48, 182, 1, 13, 172]
abbrev dktX0_prune_2 : List UInt8 := dkwX0_prune_2 ++ []
def dkwX0_prune_1 : List UInt8 := [16, 254, 172, 42, 42, 180, 0, 195, 4, 42, 180, 0, 195, 180, 0, 226, 120, 4, 100, 4, 27, 120, 2, 130]
abbrev dktX0_prune_1 : List UInt8 := dkwX0_prune_1 ++ dktX0_prune_2
def dkwX0_prune_0 : List UInt8 := [42, 27, 182, 0, 239, 154, 0, 5, 2, 172, 42, 180, 0, 195, 180, 1, 45, 27, 46, 4, 159, 0, 6]
abbrev dktX0_prune_0 : List UInt8 := dkwX0_prune_0 ++ dktX0_prune_1
theorem dksX0_prune_0 : cX0_prune.data.toList.drop 0 = dktX0_prune_0 := by decide +kernel
theorem dksX0_prune_1 : cX0_prune.data.toList.drop 23 = dktX0_prune_1 := dk_seg dksX0_prune_0 23 rfl rfl
theorem dksX0_prune_2 : cX0_prune.data.toList.drop 47 = dktX0_prune_2 := dk_seg dksX0_prune_1 24 rfl rfl
theorem dX0_prune_0 : decode cX0_prune 0 = .ok (.aload_n 0, 1) := dk_42 (dk_at dksX0_prune_0 0 rfl rfl)
theorem dX0_prune_1 : decode cX0_prune 1 = .ok (.iload_n 1, 1) := dk_27 (dk_at dksX0_prune_0 1 rfl rfl)
theorem dX0_prune_2 : decode cX0_prune 2 = .ok (.invokevirtual 239, 3) := dk_182 0 239 (dk_at dksX0_prune_0 2 rfl rfl)
theorem dX0_prune_5 : decode cX0_prune 5 = .ok (.ifCond .ne 5, 3) := dk_154 0 5 (dk_at dksX0_prune_0 5 rfl rfl)
theorem dX0_prune_8 : decode cX0_prune 8 = .ok (.iconst (-1), 1) := dk_2 (dk_at dksX0_prune_0 8 rfl rfl)
theorem dX0_prune_9 : decode cX0_prune 9 = .ok (.ireturn, 1) := dk_172 (dk_at dksX0_prune_0 9 rfl rfl)
theorem dX0_prune_10 : decode cX0_prune 10 = .ok (.aload_n 0, 1) := dk_42 (dk_at dksX0_prune_0 10 rfl rfl)
theorem dX0_prune_11 : decode cX0_prune 11 = .ok (.getfield 195, 3) := dk_180 0 195 (dk_at dksX0_prune_0 11 rfl rfl)
theorem dX0_prune_14 : decode cX0_prune 14 = .ok (.getfield 301, 3) := dk_180 1 45 (dk_at dksX0_prune_0 14 rfl rfl)
theorem dX0_prune_17 : decode cX0_prune 17 = .ok (.iload_n 1, 1) := dk_27 (dk_at dksX0_prune_0 17 rfl rfl)
theorem dX0_prune_18 : decode cX0_prune 18 = .ok (.iaload, 1) := dk_46 (dk_at dksX0_prune_0 18 rfl rfl)
theorem dX0_prune_19 : decode cX0_prune 19 = .ok (.iconst 1, 1) := dk_4 (dk_at dksX0_prune_0 19 rfl rfl)
theorem dX0_prune_20 : decode cX0_prune 20 = .ok (.if_icmp .eq 6, 3) := dk_159 0 6 (dk_at dksX0_prune_0 20 rfl rfl)
theorem dX0_prune_23 : decode cX0_prune 23 = .ok (.bipush (-2), 2) := dk_16 254 (dk_at dksX0_prune_1 0 rfl rfl)
theorem dX0_prune_25 : decode cX0_prune 25 = .ok (.ireturn, 1) := dk_172 (dk_at dksX0_prune_1 2 rfl rfl)
theorem dX0_prune_26 : decode cX0_prune 26 = .ok (.aload_n 0, 1) := dk_42 (dk_at dksX0_prune_1 3 rfl rfl)
theorem dX0_prune_27 : decode cX0_prune 27 = .ok (.aload_n 0, 1) := dk_42 (dk_at dksX0_prune_1 4 rfl rfl)
theorem dX0_prune_28 : decode cX0_prune 28 = .ok (.getfield 195, 3) := dk_180 0 195 (dk_at dksX0_prune_1 5 rfl rfl)
theorem dX0_prune_31 : decode cX0_prune 31 = .ok (.iconst 1, 1) := dk_4 (dk_at dksX0_prune_1 8 rfl rfl)
theorem dX0_prune_32 : decode cX0_prune 32 = .ok (.aload_n 0, 1) := dk_42 (dk_at dksX0_prune_1 9 rfl rfl)
theorem dX0_prune_33 : decode cX0_prune 33 = .ok (.getfield 195, 3) := dk_180 0 195 (dk_at dksX0_prune_1 10 rfl rfl)
theorem dX0_prune_36 : decode cX0_prune 36 = .ok (.getfield 226, 3) := dk_180 0 226 (dk_at dksX0_prune_1 13 rfl rfl)
theorem dX0_prune_39 : decode cX0_prune 39 = .ok (.ishl, 1) := dk_120 (dk_at dksX0_prune_1 16 rfl rfl)
theorem dX0_prune_40 : decode cX0_prune 40 = .ok (.iconst 1, 1) := dk_4 (dk_at dksX0_prune_1 17 rfl rfl)
theorem dX0_prune_41 : decode cX0_prune 41 = .ok (.isub, 1) := dk_100 (dk_at dksX0_prune_1 18 rfl rfl)
theorem dX0_prune_42 : decode cX0_prune 42 = .ok (.iconst 1, 1) := dk_4 (dk_at dksX0_prune_1 19 rfl rfl)
theorem dX0_prune_43 : decode cX0_prune 43 = .ok (.iload_n 1, 1) := dk_27 (dk_at dksX0_prune_1 20 rfl rfl)
theorem dX0_prune_44 : decode cX0_prune 44 = .ok (.ishl, 1) := dk_120 (dk_at dksX0_prune_1 21 rfl rfl)
theorem dX0_prune_45 : decode cX0_prune 45 = .ok (.iconst (-1), 1) := dk_2 (dk_at dksX0_prune_1 22 rfl rfl)
theorem dX0_prune_46 : decode cX0_prune 46 = .ok (.ixor, 1) := dk_130 (dk_at dksX0_prune_1 23 rfl rfl)
theorem dX0_prune_47 : decode cX0_prune 47 = .ok (.iand, 1) := dk_126 (dk_at dksX0_prune_2 0 rfl rfl)
theorem dX0_prune_48 : decode cX0_prune 48 = .ok (.invokevirtual 304, 3) := dk_182 1 48 (dk_at dksX0_prune_2 1 rfl rfl)
theorem dX0_prune_51 : decode cX0_prune 51 = .ok (.invokevirtual 269, 3) := dk_182 1 13 (dk_at dksX0_prune_2 4 rfl rfl)
theorem dX0_prune_54 : decode cX0_prune 54 = .ok (.ireturn, 1) := dk_172 (dk_at dksX0_prune_2 7 rfl rfl)
abbrev cX0_bind : ByteArray := prog_1_method_28_code
def yX0_bind : MethodName := ⟨RX0, "bind", "(III)I"⟩
def dkwX0_bind_6 : List UInt8 := [96, 182, 1, 41, 42, 25, 4, 182, 1, 13, 172]
abbrev dktX0_bind_6 : List UInt8 := dkwX0_bind_6 ++ []
def dkwX0_bind_5 : List UInt8 := [180, 0, 226, 54, 5, 25, 4, 42, 180, 0, 199, 28, 50, 21, 5, 182, 1, 52, 25, 4, 27, 21, 5, 29]
abbrev dktX0_bind_5 : List UInt8 := dkwX0_bind_5 ++ dktX0_bind_6
def dkwX0_bind_4 : List UInt8 := [180, 0, 226, 96, 16, 16, 164, 0, 6, 16, 253, 172, 42, 180, 0, 195, 182, 1, 38, 58, 4, 25, 4]
abbrev dktX0_bind_4 : List UInt8 := dkwX0_bind_4 ++ dktX0_bind_5
def dkwX0_bind_3 : List UInt8 := [182, 1, 35, 153, 0, 6, 16, 254, 172, 42, 180, 0, 195, 180, 0, 226, 42, 180, 0, 199, 28, 50]
abbrev dktX0_bind_3 : List UInt8 := dkwX0_bind_3 ++ dktX0_bind_4
def dkwX0_bind_2 : List UInt8 := [154, 0, 5, 2, 172, 42, 180, 0, 195, 27, 182, 1, 35, 154, 0, 16, 42, 180, 0, 199, 28, 50, 29]
abbrev dktX0_bind_2 : List UInt8 := dkwX0_bind_2 ++ dktX0_bind_3
def dkwX0_bind_1 : List UInt8 := [28, 50, 198, 0, 24, 29, 133, 9, 42, 180, 0, 199, 28, 50, 180, 0, 226, 4, 100, 133, 184, 0, 155]
abbrev dktX0_bind_1 : List UInt8 := dkwX0_bind_1 ++ dktX0_bind_2
def dkwX0_bind_0 : List UInt8 := [42, 27, 182, 0, 239, 153, 0, 45, 28, 133, 9, 20, 0, 143, 184, 0, 155, 153, 0, 33, 42, 180, 0, 199]
abbrev dktX0_bind_0 : List UInt8 := dkwX0_bind_0 ++ dktX0_bind_1
theorem dksX0_bind_0 : cX0_bind.data.toList.drop 0 = dktX0_bind_0 := by decide +kernel
theorem dksX0_bind_1 : cX0_bind.data.toList.drop 24 = dktX0_bind_1 := dk_seg dksX0_bind_0 24 rfl rfl
theorem dksX0_bind_2 : cX0_bind.data.toList.drop 47 = dktX0_bind_2 := dk_seg dksX0_bind_1 23 rfl rfl
theorem dksX0_bind_3 : cX0_bind.data.toList.drop 70 = dktX0_bind_3 := dk_seg dksX0_bind_2 23 rfl rfl
theorem dksX0_bind_4 : cX0_bind.data.toList.drop 92 = dktX0_bind_4 := dk_seg dksX0_bind_3 22 rfl rfl
theorem dksX0_bind_5 : cX0_bind.data.toList.drop 115 = dktX0_bind_5 := dk_seg dksX0_bind_4 23 rfl rfl
theorem dksX0_bind_6 : cX0_bind.data.toList.drop 139 = dktX0_bind_6 := dk_seg dksX0_bind_5 24 rfl rfl
theorem dX0_bind_0 : decode cX0_bind 0 = .ok (.aload_n 0, 1) := dk_42 (dk_at dksX0_bind_0 0 rfl rfl)
theorem dX0_bind_1 : decode cX0_bind 1 = .ok (.iload_n 1, 1) := dk_27 (dk_at dksX0_bind_0 1 rfl rfl)
theorem dX0_bind_2 : decode cX0_bind 2 = .ok (.invokevirtual 239, 3) := dk_182 0 239 (dk_at dksX0_bind_0 2 rfl rfl)
theorem dX0_bind_5 : decode cX0_bind 5 = .ok (.ifCond .eq 45, 3) := dk_153 0 45 (dk_at dksX0_bind_0 5 rfl rfl)
theorem dX0_bind_8 : decode cX0_bind 8 = .ok (.iload_n 2, 1) := dk_28 (dk_at dksX0_bind_0 8 rfl rfl)
theorem dX0_bind_9 : decode cX0_bind 9 = .ok (.i2l, 1) := dk_133 (dk_at dksX0_bind_0 9 rfl rfl)
theorem dX0_bind_10 : decode cX0_bind 10 = .ok (.lconst 0, 1) := dk_9 (dk_at dksX0_bind_0 10 rfl rfl)
theorem dX0_bind_11 : decode cX0_bind 11 = .ok (.ldc2_w 143, 3) := dk_20 0 143 (dk_at dksX0_bind_0 11 rfl rfl)
theorem dX0_bind_14 : decode cX0_bind 14 = .ok (.invokestatic 155, 3) := dk_184 0 155 (dk_at dksX0_bind_0 14 rfl rfl)
theorem dX0_bind_17 : decode cX0_bind 17 = .ok (.ifCond .eq 33, 3) := dk_153 0 33 (dk_at dksX0_bind_0 17 rfl rfl)
theorem dX0_bind_20 : decode cX0_bind 20 = .ok (.aload_n 0, 1) := dk_42 (dk_at dksX0_bind_0 20 rfl rfl)
theorem dX0_bind_21 : decode cX0_bind 21 = .ok (.getfield 199, 3) := dk_180 0 199 (dk_at dksX0_bind_0 21 rfl rfl)
theorem dX0_bind_24 : decode cX0_bind 24 = .ok (.iload_n 2, 1) := dk_28 (dk_at dksX0_bind_1 0 rfl rfl)
theorem dX0_bind_25 : decode cX0_bind 25 = .ok (.aaload, 1) := dk_50 (dk_at dksX0_bind_1 1 rfl rfl)
theorem dX0_bind_26 : decode cX0_bind 26 = .ok (.ifnull 24, 3) := dk_198 0 24 (dk_at dksX0_bind_1 2 rfl rfl)
theorem dX0_bind_29 : decode cX0_bind 29 = .ok (.iload_n 3, 1) := dk_29 (dk_at dksX0_bind_1 5 rfl rfl)
theorem dX0_bind_30 : decode cX0_bind 30 = .ok (.i2l, 1) := dk_133 (dk_at dksX0_bind_1 6 rfl rfl)
theorem dX0_bind_31 : decode cX0_bind 31 = .ok (.lconst 0, 1) := dk_9 (dk_at dksX0_bind_1 7 rfl rfl)
theorem dX0_bind_32 : decode cX0_bind 32 = .ok (.aload_n 0, 1) := dk_42 (dk_at dksX0_bind_1 8 rfl rfl)
theorem dX0_bind_33 : decode cX0_bind 33 = .ok (.getfield 199, 3) := dk_180 0 199 (dk_at dksX0_bind_1 9 rfl rfl)
theorem dX0_bind_36 : decode cX0_bind 36 = .ok (.iload_n 2, 1) := dk_28 (dk_at dksX0_bind_1 12 rfl rfl)
theorem dX0_bind_37 : decode cX0_bind 37 = .ok (.aaload, 1) := dk_50 (dk_at dksX0_bind_1 13 rfl rfl)
theorem dX0_bind_38 : decode cX0_bind 38 = .ok (.getfield 226, 3) := dk_180 0 226 (dk_at dksX0_bind_1 14 rfl rfl)
theorem dX0_bind_41 : decode cX0_bind 41 = .ok (.iconst 1, 1) := dk_4 (dk_at dksX0_bind_1 17 rfl rfl)
theorem dX0_bind_42 : decode cX0_bind 42 = .ok (.isub, 1) := dk_100 (dk_at dksX0_bind_1 18 rfl rfl)
theorem dX0_bind_43 : decode cX0_bind 43 = .ok (.i2l, 1) := dk_133 (dk_at dksX0_bind_1 19 rfl rfl)
theorem dX0_bind_44 : decode cX0_bind 44 = .ok (.invokestatic 155, 3) := dk_184 0 155 (dk_at dksX0_bind_1 20 rfl rfl)
theorem dX0_bind_47 : decode cX0_bind 47 = .ok (.ifCond .ne 5, 3) := dk_154 0 5 (dk_at dksX0_bind_2 0 rfl rfl)
theorem dX0_bind_50 : decode cX0_bind 50 = .ok (.iconst (-1), 1) := dk_2 (dk_at dksX0_bind_2 3 rfl rfl)
theorem dX0_bind_51 : decode cX0_bind 51 = .ok (.ireturn, 1) := dk_172 (dk_at dksX0_bind_2 4 rfl rfl)
theorem dX0_bind_52 : decode cX0_bind 52 = .ok (.aload_n 0, 1) := dk_42 (dk_at dksX0_bind_2 5 rfl rfl)
theorem dX0_bind_53 : decode cX0_bind 53 = .ok (.getfield 195, 3) := dk_180 0 195 (dk_at dksX0_bind_2 6 rfl rfl)
theorem dX0_bind_56 : decode cX0_bind 56 = .ok (.iload_n 1, 1) := dk_27 (dk_at dksX0_bind_2 9 rfl rfl)
theorem dX0_bind_57 : decode cX0_bind 57 = .ok (.invokevirtual 291, 3) := dk_182 1 35 (dk_at dksX0_bind_2 10 rfl rfl)
theorem dX0_bind_60 : decode cX0_bind 60 = .ok (.ifCond .ne 16, 3) := dk_154 0 16 (dk_at dksX0_bind_2 13 rfl rfl)
theorem dX0_bind_63 : decode cX0_bind 63 = .ok (.aload_n 0, 1) := dk_42 (dk_at dksX0_bind_2 16 rfl rfl)
theorem dX0_bind_64 : decode cX0_bind 64 = .ok (.getfield 199, 3) := dk_180 0 199 (dk_at dksX0_bind_2 17 rfl rfl)
theorem dX0_bind_67 : decode cX0_bind 67 = .ok (.iload_n 2, 1) := dk_28 (dk_at dksX0_bind_2 20 rfl rfl)
theorem dX0_bind_68 : decode cX0_bind 68 = .ok (.aaload, 1) := dk_50 (dk_at dksX0_bind_2 21 rfl rfl)
theorem dX0_bind_69 : decode cX0_bind 69 = .ok (.iload_n 3, 1) := dk_29 (dk_at dksX0_bind_2 22 rfl rfl)
theorem dX0_bind_70 : decode cX0_bind 70 = .ok (.invokevirtual 291, 3) := dk_182 1 35 (dk_at dksX0_bind_3 0 rfl rfl)
theorem dX0_bind_73 : decode cX0_bind 73 = .ok (.ifCond .eq 6, 3) := dk_153 0 6 (dk_at dksX0_bind_3 3 rfl rfl)
theorem dX0_bind_76 : decode cX0_bind 76 = .ok (.bipush (-2), 2) := dk_16 254 (dk_at dksX0_bind_3 6 rfl rfl)
theorem dX0_bind_78 : decode cX0_bind 78 = .ok (.ireturn, 1) := dk_172 (dk_at dksX0_bind_3 8 rfl rfl)
theorem dX0_bind_79 : decode cX0_bind 79 = .ok (.aload_n 0, 1) := dk_42 (dk_at dksX0_bind_3 9 rfl rfl)
theorem dX0_bind_80 : decode cX0_bind 80 = .ok (.getfield 195, 3) := dk_180 0 195 (dk_at dksX0_bind_3 10 rfl rfl)
theorem dX0_bind_83 : decode cX0_bind 83 = .ok (.getfield 226, 3) := dk_180 0 226 (dk_at dksX0_bind_3 13 rfl rfl)
theorem dX0_bind_86 : decode cX0_bind 86 = .ok (.aload_n 0, 1) := dk_42 (dk_at dksX0_bind_3 16 rfl rfl)
theorem dX0_bind_87 : decode cX0_bind 87 = .ok (.getfield 199, 3) := dk_180 0 199 (dk_at dksX0_bind_3 17 rfl rfl)
theorem dX0_bind_90 : decode cX0_bind 90 = .ok (.iload_n 2, 1) := dk_28 (dk_at dksX0_bind_3 20 rfl rfl)
theorem dX0_bind_91 : decode cX0_bind 91 = .ok (.aaload, 1) := dk_50 (dk_at dksX0_bind_3 21 rfl rfl)
theorem dX0_bind_92 : decode cX0_bind 92 = .ok (.getfield 226, 3) := dk_180 0 226 (dk_at dksX0_bind_4 0 rfl rfl)
theorem dX0_bind_95 : decode cX0_bind 95 = .ok (.iadd, 1) := dk_96 (dk_at dksX0_bind_4 3 rfl rfl)
theorem dX0_bind_96 : decode cX0_bind 96 = .ok (.bipush 16, 2) := dk_16 16 (dk_at dksX0_bind_4 4 rfl rfl)
theorem dX0_bind_98 : decode cX0_bind 98 = .ok (.if_icmp .le 6, 3) := dk_164 0 6 (dk_at dksX0_bind_4 6 rfl rfl)
theorem dX0_bind_101 : decode cX0_bind 101 = .ok (.bipush (-3), 2) := dk_16 253 (dk_at dksX0_bind_4 9 rfl rfl)
theorem dX0_bind_103 : decode cX0_bind 103 = .ok (.ireturn, 1) := dk_172 (dk_at dksX0_bind_4 11 rfl rfl)
theorem dX0_bind_104 : decode cX0_bind 104 = .ok (.aload_n 0, 1) := dk_42 (dk_at dksX0_bind_4 12 rfl rfl)
theorem dX0_bind_105 : decode cX0_bind 105 = .ok (.getfield 195, 3) := dk_180 0 195 (dk_at dksX0_bind_4 13 rfl rfl)
theorem dX0_bind_108 : decode cX0_bind 108 = .ok (.invokevirtual 294, 3) := dk_182 1 38 (dk_at dksX0_bind_4 16 rfl rfl)
theorem dX0_bind_111 : decode cX0_bind 111 = .ok (.astore 4, 2) := dk_58 4 (dk_at dksX0_bind_4 19 rfl rfl)
theorem dX0_bind_113 : decode cX0_bind 113 = .ok (.aload 4, 2) := dk_25 4 (dk_at dksX0_bind_4 21 rfl rfl)
theorem dX0_bind_115 : decode cX0_bind 115 = .ok (.getfield 226, 3) := dk_180 0 226 (dk_at dksX0_bind_5 0 rfl rfl)
theorem dX0_bind_118 : decode cX0_bind 118 = .ok (.istore 5, 2) := dk_54 5 (dk_at dksX0_bind_5 3 rfl rfl)
theorem dX0_bind_120 : decode cX0_bind 120 = .ok (.aload 4, 2) := dk_25 4 (dk_at dksX0_bind_5 5 rfl rfl)
theorem dX0_bind_122 : decode cX0_bind 122 = .ok (.aload_n 0, 1) := dk_42 (dk_at dksX0_bind_5 7 rfl rfl)
theorem dX0_bind_123 : decode cX0_bind 123 = .ok (.getfield 199, 3) := dk_180 0 199 (dk_at dksX0_bind_5 8 rfl rfl)
theorem dX0_bind_126 : decode cX0_bind 126 = .ok (.iload_n 2, 1) := dk_28 (dk_at dksX0_bind_5 11 rfl rfl)
theorem dX0_bind_127 : decode cX0_bind 127 = .ok (.aaload, 1) := dk_50 (dk_at dksX0_bind_5 12 rfl rfl)
theorem dX0_bind_128 : decode cX0_bind 128 = .ok (.iload 5, 2) := dk_21 5 (dk_at dksX0_bind_5 13 rfl rfl)
theorem dX0_bind_130 : decode cX0_bind 130 = .ok (.invokevirtual 308, 3) := dk_182 1 52 (dk_at dksX0_bind_5 15 rfl rfl)
theorem dX0_bind_133 : decode cX0_bind 133 = .ok (.aload 4, 2) := dk_25 4 (dk_at dksX0_bind_5 18 rfl rfl)
theorem dX0_bind_135 : decode cX0_bind 135 = .ok (.iload_n 1, 1) := dk_27 (dk_at dksX0_bind_5 20 rfl rfl)
theorem dX0_bind_136 : decode cX0_bind 136 = .ok (.iload 5, 2) := dk_21 5 (dk_at dksX0_bind_5 21 rfl rfl)
theorem dX0_bind_138 : decode cX0_bind 138 = .ok (.iload_n 3, 1) := dk_29 (dk_at dksX0_bind_5 23 rfl rfl)
theorem dX0_bind_139 : decode cX0_bind 139 = .ok (.iadd, 1) := dk_96 (dk_at dksX0_bind_6 0 rfl rfl)
theorem dX0_bind_140 : decode cX0_bind 140 = .ok (.invokevirtual 297, 3) := dk_182 1 41 (dk_at dksX0_bind_6 1 rfl rfl)
theorem dX0_bind_143 : decode cX0_bind 143 = .ok (.aload_n 0, 1) := dk_42 (dk_at dksX0_bind_6 4 rfl rfl)
theorem dX0_bind_144 : decode cX0_bind 144 = .ok (.aload 4, 2) := dk_25 4 (dk_at dksX0_bind_6 5 rfl rfl)
theorem dX0_bind_146 : decode cX0_bind 146 = .ok (.invokevirtual 269, 3) := dk_182 1 13 (dk_at dksX0_bind_6 7 rfl rfl)
theorem dX0_bind_149 : decode cX0_bind 149 = .ok (.ireturn, 1) := dk_172 (dk_at dksX0_bind_6 10 rfl rfl)
abbrev cX0_split : ByteArray := prog_1_method_29_code
def yX0_split : MethodName := ⟨RX0, "split", "(II)I"⟩
def dkwX0_split_1 : List UInt8 := [182, 1, 48, 182, 1, 13, 167, 0, 4, 2, 172]
abbrev dktX0_split_1 : List UInt8 := dkwX0_split_1 ++ []
def dkwX0_split_0 : List UInt8 := [42, 27, 28, 182, 1, 56, 153, 0, 26, 42, 42, 180, 0, 195, 42, 180, 0, 195, 27, 28, 182, 1, 59]
abbrev dktX0_split_0 : List UInt8 := dkwX0_split_0 ++ dktX0_split_1
theorem dksX0_split_0 : cX0_split.data.toList.drop 0 = dktX0_split_0 := by decide +kernel
theorem dksX0_split_1 : cX0_split.data.toList.drop 23 = dktX0_split_1 := dk_seg dksX0_split_0 23 rfl rfl
theorem dX0_split_0 : decode cX0_split 0 = .ok (.aload_n 0, 1) := dk_42 (dk_at dksX0_split_0 0 rfl rfl)
theorem dX0_split_1 : decode cX0_split 1 = .ok (.iload_n 1, 1) := dk_27 (dk_at dksX0_split_0 1 rfl rfl)
theorem dX0_split_2 : decode cX0_split 2 = .ok (.iload_n 2, 1) := dk_28 (dk_at dksX0_split_0 2 rfl rfl)
theorem dX0_split_3 : decode cX0_split 3 = .ok (.invokevirtual 312, 3) := dk_182 1 56 (dk_at dksX0_split_0 3 rfl rfl)
theorem dX0_split_6 : decode cX0_split 6 = .ok (.ifCond .eq 26, 3) := dk_153 0 26 (dk_at dksX0_split_0 6 rfl rfl)
theorem dX0_split_9 : decode cX0_split 9 = .ok (.aload_n 0, 1) := dk_42 (dk_at dksX0_split_0 9 rfl rfl)
theorem dX0_split_10 : decode cX0_split 10 = .ok (.aload_n 0, 1) := dk_42 (dk_at dksX0_split_0 10 rfl rfl)
theorem dX0_split_11 : decode cX0_split 11 = .ok (.getfield 195, 3) := dk_180 0 195 (dk_at dksX0_split_0 11 rfl rfl)
theorem dX0_split_14 : decode cX0_split 14 = .ok (.aload_n 0, 1) := dk_42 (dk_at dksX0_split_0 14 rfl rfl)
theorem dX0_split_15 : decode cX0_split 15 = .ok (.getfield 195, 3) := dk_180 0 195 (dk_at dksX0_split_0 15 rfl rfl)
theorem dX0_split_18 : decode cX0_split 18 = .ok (.iload_n 1, 1) := dk_27 (dk_at dksX0_split_0 18 rfl rfl)
theorem dX0_split_19 : decode cX0_split 19 = .ok (.iload_n 2, 1) := dk_28 (dk_at dksX0_split_0 19 rfl rfl)
theorem dX0_split_20 : decode cX0_split 20 = .ok (.invokevirtual 315, 3) := dk_182 1 59 (dk_at dksX0_split_0 20 rfl rfl)
theorem dX0_split_23 : decode cX0_split 23 = .ok (.invokevirtual 304, 3) := dk_182 1 48 (dk_at dksX0_split_1 0 rfl rfl)
theorem dX0_split_26 : decode cX0_split 26 = .ok (.invokevirtual 269, 3) := dk_182 1 13 (dk_at dksX0_split_1 3 rfl rfl)
theorem dX0_split_29 : decode cX0_split 29 = .ok (.goto 4, 3) := dk_167 0 4 (dk_at dksX0_split_1 6 rfl rfl)
theorem dX0_split_32 : decode cX0_split 32 = .ok (.iconst (-1), 1) := dk_2 (dk_at dksX0_split_1 9 rfl rfl)
theorem dX0_split_33 : decode cX0_split 33 = .ok (.ireturn, 1) := dk_172 (dk_at dksX0_split_1 10 rfl rfl)
abbrev cX0_areBound : ByteArray := prog_1_method_19_code
def yX0_areBound : MethodName := ⟨RX0, "areBound", "(II)Z"⟩
def dkwX0_areBound_1 : List UInt8 := [182, 0, 243, 153, 0, 7, 4, 167, 0, 4, 3, 172]
abbrev dktX0_areBound_1 : List UInt8 := dkwX0_areBound_1 ++ []
def dkwX0_areBound_0 : List UInt8 := [42, 27, 182, 0, 239, 153, 0, 27, 42, 28, 182, 0, 239, 153, 0, 19, 42, 180, 0, 195, 27, 28]
abbrev dktX0_areBound_0 : List UInt8 := dkwX0_areBound_0 ++ dktX0_areBound_1
theorem dksX0_areBound_0 : cX0_areBound.data.toList.drop 0 = dktX0_areBound_0 := by decide +kernel
theorem dksX0_areBound_1 : cX0_areBound.data.toList.drop 22 = dktX0_areBound_1 := dk_seg dksX0_areBound_0 22 rfl rfl
theorem dX0_areBound_0 : decode cX0_areBound 0 = .ok (.aload_n 0, 1) := dk_42 (dk_at dksX0_areBound_0 0 rfl rfl)
theorem dX0_areBound_1 : decode cX0_areBound 1 = .ok (.iload_n 1, 1) := dk_27 (dk_at dksX0_areBound_0 1 rfl rfl)
theorem dX0_areBound_2 : decode cX0_areBound 2 = .ok (.invokevirtual 239, 3) := dk_182 0 239 (dk_at dksX0_areBound_0 2 rfl rfl)
theorem dX0_areBound_5 : decode cX0_areBound 5 = .ok (.ifCond .eq 27, 3) := dk_153 0 27 (dk_at dksX0_areBound_0 5 rfl rfl)
theorem dX0_areBound_8 : decode cX0_areBound 8 = .ok (.aload_n 0, 1) := dk_42 (dk_at dksX0_areBound_0 8 rfl rfl)
theorem dX0_areBound_9 : decode cX0_areBound 9 = .ok (.iload_n 2, 1) := dk_28 (dk_at dksX0_areBound_0 9 rfl rfl)
theorem dX0_areBound_10 : decode cX0_areBound 10 = .ok (.invokevirtual 239, 3) := dk_182 0 239 (dk_at dksX0_areBound_0 10 rfl rfl)
theorem dX0_areBound_13 : decode cX0_areBound 13 = .ok (.ifCond .eq 19, 3) := dk_153 0 19 (dk_at dksX0_areBound_0 13 rfl rfl)
theorem dX0_areBound_16 : decode cX0_areBound 16 = .ok (.aload_n 0, 1) := dk_42 (dk_at dksX0_areBound_0 16 rfl rfl)
theorem dX0_areBound_17 : decode cX0_areBound 17 = .ok (.getfield 195, 3) := dk_180 0 195 (dk_at dksX0_areBound_0 17 rfl rfl)
theorem dX0_areBound_20 : decode cX0_areBound 20 = .ok (.iload_n 1, 1) := dk_27 (dk_at dksX0_areBound_0 20 rfl rfl)
theorem dX0_areBound_21 : decode cX0_areBound 21 = .ok (.iload_n 2, 1) := dk_28 (dk_at dksX0_areBound_0 21 rfl rfl)
theorem dX0_areBound_22 : decode cX0_areBound 22 = .ok (.invokevirtual 243, 3) := dk_182 0 243 (dk_at dksX0_areBound_1 0 rfl rfl)
theorem dX0_areBound_25 : decode cX0_areBound 25 = .ok (.ifCond .eq 7, 3) := dk_153 0 7 (dk_at dksX0_areBound_1 3 rfl rfl)
theorem dX0_areBound_28 : decode cX0_areBound 28 = .ok (.iconst 1, 1) := dk_4 (dk_at dksX0_areBound_1 6 rfl rfl)
theorem dX0_areBound_29 : decode cX0_areBound 29 = .ok (.goto 4, 3) := dk_167 0 4 (dk_at dksX0_areBound_1 7 rfl rfl)
theorem dX0_areBound_32 : decode cX0_areBound 32 = .ok (.iconst 0, 1) := dk_3 (dk_at dksX0_areBound_1 10 rfl rfl)
theorem dX0_areBound_33 : decode cX0_areBound 33 = .ok (.ireturn, 1) := dk_172 (dk_at dksX0_areBound_1 11 rfl rfl)
abbrev cX0_keep : ByteArray := prog_1_method_30_code
def yX0_keep : MethodName := ⟨RX0, "keep", "(I)I"⟩
def dkwX0_keep_1 : List UInt8 := [42, 180, 0, 195, 180, 0, 226, 172]
abbrev dktX0_keep_1 : List UInt8 := dkwX0_keep_1 ++ []
def dkwX0_keep_0 : List UInt8 := [27, 133, 9, 20, 0, 143, 184, 0, 155, 154, 0, 5, 2, 172, 42, 180, 0, 199, 27, 42, 180, 0, 195, 83]
abbrev dktX0_keep_0 : List UInt8 := dkwX0_keep_0 ++ dktX0_keep_1
theorem dksX0_keep_0 : cX0_keep.data.toList.drop 0 = dktX0_keep_0 := by decide +kernel
theorem dksX0_keep_1 : cX0_keep.data.toList.drop 24 = dktX0_keep_1 := dk_seg dksX0_keep_0 24 rfl rfl
theorem dX0_keep_0 : decode cX0_keep 0 = .ok (.iload_n 1, 1) := dk_27 (dk_at dksX0_keep_0 0 rfl rfl)
theorem dX0_keep_1 : decode cX0_keep 1 = .ok (.i2l, 1) := dk_133 (dk_at dksX0_keep_0 1 rfl rfl)
theorem dX0_keep_2 : decode cX0_keep 2 = .ok (.lconst 0, 1) := dk_9 (dk_at dksX0_keep_0 2 rfl rfl)
theorem dX0_keep_3 : decode cX0_keep 3 = .ok (.ldc2_w 143, 3) := dk_20 0 143 (dk_at dksX0_keep_0 3 rfl rfl)
theorem dX0_keep_6 : decode cX0_keep 6 = .ok (.invokestatic 155, 3) := dk_184 0 155 (dk_at dksX0_keep_0 6 rfl rfl)
theorem dX0_keep_9 : decode cX0_keep 9 = .ok (.ifCond .ne 5, 3) := dk_154 0 5 (dk_at dksX0_keep_0 9 rfl rfl)
theorem dX0_keep_12 : decode cX0_keep 12 = .ok (.iconst (-1), 1) := dk_2 (dk_at dksX0_keep_0 12 rfl rfl)
theorem dX0_keep_13 : decode cX0_keep 13 = .ok (.ireturn, 1) := dk_172 (dk_at dksX0_keep_0 13 rfl rfl)
theorem dX0_keep_14 : decode cX0_keep 14 = .ok (.aload_n 0, 1) := dk_42 (dk_at dksX0_keep_0 14 rfl rfl)
theorem dX0_keep_15 : decode cX0_keep 15 = .ok (.getfield 199, 3) := dk_180 0 199 (dk_at dksX0_keep_0 15 rfl rfl)
theorem dX0_keep_18 : decode cX0_keep 18 = .ok (.iload_n 1, 1) := dk_27 (dk_at dksX0_keep_0 18 rfl rfl)
theorem dX0_keep_19 : decode cX0_keep 19 = .ok (.aload_n 0, 1) := dk_42 (dk_at dksX0_keep_0 19 rfl rfl)
theorem dX0_keep_20 : decode cX0_keep 20 = .ok (.getfield 195, 3) := dk_180 0 195 (dk_at dksX0_keep_0 20 rfl rfl)
theorem dX0_keep_23 : decode cX0_keep 23 = .ok (.aastore, 1) := dk_83 (dk_at dksX0_keep_0 23 rfl rfl)
theorem dX0_keep_24 : decode cX0_keep 24 = .ok (.aload_n 0, 1) := dk_42 (dk_at dksX0_keep_1 0 rfl rfl)
theorem dX0_keep_25 : decode cX0_keep 25 = .ok (.getfield 195, 3) := dk_180 0 195 (dk_at dksX0_keep_1 1 rfl rfl)
theorem dX0_keep_28 : decode cX0_keep 28 = .ok (.getfield 226, 3) := dk_180 0 226 (dk_at dksX0_keep_1 4 rfl rfl)
theorem dX0_keep_31 : decode cX0_keep 31 = .ok (.ireturn, 1) := dk_172 (dk_at dksX0_keep_1 7 rfl rfl)
abbrev cX0_like : ByteArray := prog_1_method_31_code
def yX0_like : MethodName := ⟨RX0, "like", "(I)I"⟩
def dkwX0_like_3 : List UInt8 := [184, 1, 63, 154, 0, 7, 4, 167, 0, 4, 3, 184, 1, 67, 172]
abbrev dktX0_like_3 : List UInt8 := dkwX0_like_3 ++ []
def dkwX0_like_2 : List UInt8 := [180, 0, 199, 27, 50, 182, 0, 236, 185, 0, 99, 1, 0, 42, 182, 1, 62, 185, 0, 99, 1, 0]
abbrev dktX0_like_2 : List UInt8 := dkwX0_like_2 ++ dktX0_like_3
def dkwX0_like_1 : List UInt8 := [16, 254, 172, 42, 180, 0, 199, 27, 50, 180, 0, 226, 42, 180, 0, 195, 180, 0, 226, 160, 0, 36, 42]
abbrev dktX0_like_1 : List UInt8 := dkwX0_like_1 ++ dktX0_like_2
def dkwX0_like_0 : List UInt8 := [27, 133, 9, 20, 0, 143, 184, 0, 155, 154, 0, 5, 2, 172, 42, 180, 0, 199, 27, 50, 199, 0, 6]
abbrev dktX0_like_0 : List UInt8 := dkwX0_like_0 ++ dktX0_like_1
theorem dksX0_like_0 : cX0_like.data.toList.drop 0 = dktX0_like_0 := by decide +kernel
theorem dksX0_like_1 : cX0_like.data.toList.drop 23 = dktX0_like_1 := dk_seg dksX0_like_0 23 rfl rfl
theorem dksX0_like_2 : cX0_like.data.toList.drop 46 = dktX0_like_2 := dk_seg dksX0_like_1 23 rfl rfl
theorem dksX0_like_3 : cX0_like.data.toList.drop 68 = dktX0_like_3 := dk_seg dksX0_like_2 22 rfl rfl
theorem dX0_like_0 : decode cX0_like 0 = .ok (.iload_n 1, 1) := dk_27 (dk_at dksX0_like_0 0 rfl rfl)
theorem dX0_like_1 : decode cX0_like 1 = .ok (.i2l, 1) := dk_133 (dk_at dksX0_like_0 1 rfl rfl)
theorem dX0_like_2 : decode cX0_like 2 = .ok (.lconst 0, 1) := dk_9 (dk_at dksX0_like_0 2 rfl rfl)
theorem dX0_like_3 : decode cX0_like 3 = .ok (.ldc2_w 143, 3) := dk_20 0 143 (dk_at dksX0_like_0 3 rfl rfl)
theorem dX0_like_6 : decode cX0_like 6 = .ok (.invokestatic 155, 3) := dk_184 0 155 (dk_at dksX0_like_0 6 rfl rfl)
theorem dX0_like_9 : decode cX0_like 9 = .ok (.ifCond .ne 5, 3) := dk_154 0 5 (dk_at dksX0_like_0 9 rfl rfl)
theorem dX0_like_12 : decode cX0_like 12 = .ok (.iconst (-1), 1) := dk_2 (dk_at dksX0_like_0 12 rfl rfl)
theorem dX0_like_13 : decode cX0_like 13 = .ok (.ireturn, 1) := dk_172 (dk_at dksX0_like_0 13 rfl rfl)
theorem dX0_like_14 : decode cX0_like 14 = .ok (.aload_n 0, 1) := dk_42 (dk_at dksX0_like_0 14 rfl rfl)
theorem dX0_like_15 : decode cX0_like 15 = .ok (.getfield 199, 3) := dk_180 0 199 (dk_at dksX0_like_0 15 rfl rfl)
theorem dX0_like_18 : decode cX0_like 18 = .ok (.iload_n 1, 1) := dk_27 (dk_at dksX0_like_0 18 rfl rfl)
theorem dX0_like_19 : decode cX0_like 19 = .ok (.aaload, 1) := dk_50 (dk_at dksX0_like_0 19 rfl rfl)
theorem dX0_like_20 : decode cX0_like 20 = .ok (.ifnonnull 6, 3) := dk_199 0 6 (dk_at dksX0_like_0 20 rfl rfl)
theorem dX0_like_23 : decode cX0_like 23 = .ok (.bipush (-2), 2) := dk_16 254 (dk_at dksX0_like_1 0 rfl rfl)
theorem dX0_like_25 : decode cX0_like 25 = .ok (.ireturn, 1) := dk_172 (dk_at dksX0_like_1 2 rfl rfl)
theorem dX0_like_26 : decode cX0_like 26 = .ok (.aload_n 0, 1) := dk_42 (dk_at dksX0_like_1 3 rfl rfl)
theorem dX0_like_27 : decode cX0_like 27 = .ok (.getfield 199, 3) := dk_180 0 199 (dk_at dksX0_like_1 4 rfl rfl)
theorem dX0_like_30 : decode cX0_like 30 = .ok (.iload_n 1, 1) := dk_27 (dk_at dksX0_like_1 7 rfl rfl)
theorem dX0_like_31 : decode cX0_like 31 = .ok (.aaload, 1) := dk_50 (dk_at dksX0_like_1 8 rfl rfl)
theorem dX0_like_32 : decode cX0_like 32 = .ok (.getfield 226, 3) := dk_180 0 226 (dk_at dksX0_like_1 9 rfl rfl)
theorem dX0_like_35 : decode cX0_like 35 = .ok (.aload_n 0, 1) := dk_42 (dk_at dksX0_like_1 12 rfl rfl)
theorem dX0_like_36 : decode cX0_like 36 = .ok (.getfield 195, 3) := dk_180 0 195 (dk_at dksX0_like_1 13 rfl rfl)
theorem dX0_like_39 : decode cX0_like 39 = .ok (.getfield 226, 3) := dk_180 0 226 (dk_at dksX0_like_1 16 rfl rfl)
theorem dX0_like_42 : decode cX0_like 42 = .ok (.if_icmp .ne 36, 3) := dk_160 0 36 (dk_at dksX0_like_1 19 rfl rfl)
theorem dX0_like_45 : decode cX0_like 45 = .ok (.aload_n 0, 1) := dk_42 (dk_at dksX0_like_1 22 rfl rfl)
theorem dX0_like_46 : decode cX0_like 46 = .ok (.getfield 199, 3) := dk_180 0 199 (dk_at dksX0_like_2 0 rfl rfl)
theorem dX0_like_49 : decode cX0_like 49 = .ok (.iload_n 1, 1) := dk_27 (dk_at dksX0_like_2 3 rfl rfl)
theorem dX0_like_50 : decode cX0_like 50 = .ok (.aaload, 1) := dk_50 (dk_at dksX0_like_2 4 rfl rfl)
theorem dX0_like_51 : decode cX0_like 51 = .ok (.invokevirtual 236, 3) := dk_182 0 236 (dk_at dksX0_like_2 5 rfl rfl)
theorem dX0_like_54 : decode cX0_like 54 = .ok (.invokeinterface 99 1, 5) := by decide +kernel
theorem dX0_like_59 : decode cX0_like 59 = .ok (.aload_n 0, 1) := dk_42 (dk_at dksX0_like_2 13 rfl rfl)
theorem dX0_like_60 : decode cX0_like 60 = .ok (.invokevirtual 318, 3) := dk_182 1 62 (dk_at dksX0_like_2 14 rfl rfl)
theorem dX0_like_63 : decode cX0_like 63 = .ok (.invokeinterface 99 1, 5) := by decide +kernel
theorem dX0_like_68 : decode cX0_like 68 = .ok (.invokestatic 319, 3) := dk_184 1 63 (dk_at dksX0_like_3 0 rfl rfl)
theorem dX0_like_71 : decode cX0_like 71 = .ok (.ifCond .ne 7, 3) := dk_154 0 7 (dk_at dksX0_like_3 3 rfl rfl)
theorem dX0_like_74 : decode cX0_like 74 = .ok (.iconst 1, 1) := dk_4 (dk_at dksX0_like_3 6 rfl rfl)
theorem dX0_like_75 : decode cX0_like 75 = .ok (.goto 4, 3) := dk_167 0 4 (dk_at dksX0_like_3 7 rfl rfl)
theorem dX0_like_78 : decode cX0_like 78 = .ok (.iconst 0, 1) := dk_3 (dk_at dksX0_like_3 10 rfl rfl)
theorem dX0_like_79 : decode cX0_like 79 = .ok (.invokestatic 323, 3) := dk_184 1 67 (dk_at dksX0_like_3 11 rfl rfl)
theorem dX0_like_82 : decode cX0_like 82 = .ok (.ireturn, 1) := dk_172 (dk_at dksX0_like_3 14 rfl rfl)
abbrev cX0_bit : ByteArray := prog_1_method_2_code
def yX0_bit : MethodName := ⟨RX0, "bit", "(Z)I"⟩
def dkwX0_bit_0 : List UInt8 := [26, 153, 0, 7, 4, 167, 0, 4, 3, 172]
abbrev dktX0_bit_0 : List UInt8 := dkwX0_bit_0 ++ []
theorem dksX0_bit_0 : cX0_bit.data.toList.drop 0 = dktX0_bit_0 := by decide +kernel
theorem dX0_bit_0 : decode cX0_bit 0 = .ok (.iload_n 0, 1) := dk_26 (dk_at dksX0_bit_0 0 rfl rfl)
theorem dX0_bit_1 : decode cX0_bit 1 = .ok (.ifCond .eq 7, 3) := dk_153 0 7 (dk_at dksX0_bit_0 1 rfl rfl)
theorem dX0_bit_4 : decode cX0_bit 4 = .ok (.iconst 1, 1) := dk_4 (dk_at dksX0_bit_0 4 rfl rfl)
theorem dX0_bit_5 : decode cX0_bit 5 = .ok (.goto 4, 3) := dk_167 0 4 (dk_at dksX0_bit_0 5 rfl rfl)
theorem dX0_bit_8 : decode cX0_bit 8 = .ok (.iconst 0, 1) := dk_3 (dk_at dksX0_bit_0 8 rfl rfl)
theorem dX0_bit_9 : decode cX0_bit 9 = .ok (.ireturn, 1) := dk_172 (dk_at dksX0_bit_0 9 rfl rfl)
abbrev cX0_whole : ByteArray := prog_1_method_16_code
def yX0_whole : MethodName := ⟨RX0, "whole", "()LSkeletons$Whole;"⟩
def dkwX0_whole_0 : List UInt8 := [42, 180, 0, 228, 199, 0, 14, 42, 42, 180, 0, 195, 182, 0, 236, 181, 0, 228, 42, 180, 0, 228, 176]
abbrev dktX0_whole_0 : List UInt8 := dkwX0_whole_0 ++ []
theorem dksX0_whole_0 : cX0_whole.data.toList.drop 0 = dktX0_whole_0 := by decide +kernel
theorem dX0_whole_0 : decode cX0_whole 0 = .ok (.aload_n 0, 1) := dk_42 (dk_at dksX0_whole_0 0 rfl rfl)
theorem dX0_whole_1 : decode cX0_whole 1 = .ok (.getfield 228, 3) := dk_180 0 228 (dk_at dksX0_whole_0 1 rfl rfl)
theorem dX0_whole_4 : decode cX0_whole 4 = .ok (.ifnonnull 14, 3) := dk_199 0 14 (dk_at dksX0_whole_0 4 rfl rfl)
theorem dX0_whole_7 : decode cX0_whole 7 = .ok (.aload_n 0, 1) := dk_42 (dk_at dksX0_whole_0 7 rfl rfl)
theorem dX0_whole_8 : decode cX0_whole 8 = .ok (.aload_n 0, 1) := dk_42 (dk_at dksX0_whole_0 8 rfl rfl)
theorem dX0_whole_9 : decode cX0_whole 9 = .ok (.getfield 195, 3) := dk_180 0 195 (dk_at dksX0_whole_0 9 rfl rfl)
theorem dX0_whole_12 : decode cX0_whole 12 = .ok (.invokevirtual 236, 3) := dk_182 0 236 (dk_at dksX0_whole_0 12 rfl rfl)
theorem dX0_whole_15 : decode cX0_whole 15 = .ok (.putfield 228, 3) := dk_181 0 228 (dk_at dksX0_whole_0 15 rfl rfl)
theorem dX0_whole_18 : decode cX0_whole 18 = .ok (.aload_n 0, 1) := dk_42 (dk_at dksX0_whole_0 18 rfl rfl)
theorem dX0_whole_19 : decode cX0_whole 19 = .ok (.getfield 228, 3) := dk_180 0 228 (dk_at dksX0_whole_0 19 rfl rfl)
theorem dX0_whole_22 : decode cX0_whole 22 = .ok (.areturn, 1) := dk_176 (dk_at dksX0_whole_0 22 rfl rfl)
abbrev cX0_compare : ByteArray := prog_1_method_5_code
def yX0_compare : MethodName := ⟨RX0, "compare", "([I[I)I"⟩
def dkwX0_compare_1 : List UInt8 := [162, 0, 7, 2, 167, 0, 4, 4, 172, 132, 2, 1, 167, 255, 223, 3, 172]
abbrev dktX0_compare_1 : List UInt8 := dkwX0_compare_1 ++ []
def dkwX0_compare_0 : List UInt8 := [3, 61, 28, 42, 190, 162, 0, 33, 42, 28, 46, 43, 28, 46, 159, 0, 18, 42, 28, 46, 43, 28, 46]
abbrev dktX0_compare_0 : List UInt8 := dkwX0_compare_0 ++ dktX0_compare_1
theorem dksX0_compare_0 : cX0_compare.data.toList.drop 0 = dktX0_compare_0 := by decide +kernel
theorem dksX0_compare_1 : cX0_compare.data.toList.drop 23 = dktX0_compare_1 := dk_seg dksX0_compare_0 23 rfl rfl
theorem dX0_compare_0 : decode cX0_compare 0 = .ok (.iconst 0, 1) := dk_3 (dk_at dksX0_compare_0 0 rfl rfl)
theorem dX0_compare_1 : decode cX0_compare 1 = .ok (.istore_n 2, 1) := dk_61 (dk_at dksX0_compare_0 1 rfl rfl)
theorem dX0_compare_2 : decode cX0_compare 2 = .ok (.iload_n 2, 1) := dk_28 (dk_at dksX0_compare_0 2 rfl rfl)
theorem dX0_compare_3 : decode cX0_compare 3 = .ok (.aload_n 0, 1) := dk_42 (dk_at dksX0_compare_0 3 rfl rfl)
theorem dX0_compare_4 : decode cX0_compare 4 = .ok (.arraylength, 1) := dk_190 (dk_at dksX0_compare_0 4 rfl rfl)
theorem dX0_compare_5 : decode cX0_compare 5 = .ok (.if_icmp .ge 33, 3) := dk_162 0 33 (dk_at dksX0_compare_0 5 rfl rfl)
theorem dX0_compare_8 : decode cX0_compare 8 = .ok (.aload_n 0, 1) := dk_42 (dk_at dksX0_compare_0 8 rfl rfl)
theorem dX0_compare_9 : decode cX0_compare 9 = .ok (.iload_n 2, 1) := dk_28 (dk_at dksX0_compare_0 9 rfl rfl)
theorem dX0_compare_10 : decode cX0_compare 10 = .ok (.iaload, 1) := dk_46 (dk_at dksX0_compare_0 10 rfl rfl)
theorem dX0_compare_11 : decode cX0_compare 11 = .ok (.aload_n 1, 1) := dk_43 (dk_at dksX0_compare_0 11 rfl rfl)
theorem dX0_compare_12 : decode cX0_compare 12 = .ok (.iload_n 2, 1) := dk_28 (dk_at dksX0_compare_0 12 rfl rfl)
theorem dX0_compare_13 : decode cX0_compare 13 = .ok (.iaload, 1) := dk_46 (dk_at dksX0_compare_0 13 rfl rfl)
theorem dX0_compare_14 : decode cX0_compare 14 = .ok (.if_icmp .eq 18, 3) := dk_159 0 18 (dk_at dksX0_compare_0 14 rfl rfl)
theorem dX0_compare_17 : decode cX0_compare 17 = .ok (.aload_n 0, 1) := dk_42 (dk_at dksX0_compare_0 17 rfl rfl)
theorem dX0_compare_18 : decode cX0_compare 18 = .ok (.iload_n 2, 1) := dk_28 (dk_at dksX0_compare_0 18 rfl rfl)
theorem dX0_compare_19 : decode cX0_compare 19 = .ok (.iaload, 1) := dk_46 (dk_at dksX0_compare_0 19 rfl rfl)
theorem dX0_compare_20 : decode cX0_compare 20 = .ok (.aload_n 1, 1) := dk_43 (dk_at dksX0_compare_0 20 rfl rfl)
theorem dX0_compare_21 : decode cX0_compare 21 = .ok (.iload_n 2, 1) := dk_28 (dk_at dksX0_compare_0 21 rfl rfl)
theorem dX0_compare_22 : decode cX0_compare 22 = .ok (.iaload, 1) := dk_46 (dk_at dksX0_compare_0 22 rfl rfl)
theorem dX0_compare_23 : decode cX0_compare 23 = .ok (.if_icmp .ge 7, 3) := dk_162 0 7 (dk_at dksX0_compare_1 0 rfl rfl)
theorem dX0_compare_26 : decode cX0_compare 26 = .ok (.iconst (-1), 1) := dk_2 (dk_at dksX0_compare_1 3 rfl rfl)
theorem dX0_compare_27 : decode cX0_compare 27 = .ok (.goto 4, 3) := dk_167 0 4 (dk_at dksX0_compare_1 4 rfl rfl)
theorem dX0_compare_30 : decode cX0_compare 30 = .ok (.iconst 1, 1) := dk_4 (dk_at dksX0_compare_1 7 rfl rfl)
theorem dX0_compare_31 : decode cX0_compare 31 = .ok (.ireturn, 1) := dk_172 (dk_at dksX0_compare_1 8 rfl rfl)
theorem dX0_compare_32 : decode cX0_compare 32 = .ok (.iinc 2 1, 3) := dk_132 2 1 (dk_at dksX0_compare_1 9 rfl rfl)
theorem dX0_compare_35 : decode cX0_compare 35 = .ok (.goto (-33), 3) := dk_167 255 223 (dk_at dksX0_compare_1 12 rfl rfl)
theorem dX0_compare_38 : decode cX0_compare 38 = .ok (.iconst 0, 1) := dk_3 (dk_at dksX0_compare_1 15 rfl rfl)
theorem dX0_compare_39 : decode cX0_compare 39 = .ok (.ireturn, 1) := dk_172 (dk_at dksX0_compare_1 16 rfl rfl)
abbrev cX0_neighbour : ByteArray := prog_1_method_32_code
def yX0_neighbour : MethodName := ⟨RX0, "neighbour", "(II)I"⟩
def dkwX0_neighbour_2 : List UInt8 := [167, 0, 14, 42, 180, 0, 195, 180, 1, 71, 27, 50, 28, 46, 172]
abbrev dktX0_neighbour_2 : List UInt8 := dkwX0_neighbour_2 ++ []
def dkwX0_neighbour_1 : List UInt8 := [133, 184, 0, 155, 154, 0, 5, 2, 172, 28, 2, 160, 0, 15, 42, 180, 0, 195, 180, 1, 45, 27, 46]
abbrev dktX0_neighbour_1 : List UInt8 := dkwX0_neighbour_1 ++ dktX0_neighbour_2
def dkwX0_neighbour_0 : List UInt8 := [42, 27, 182, 0, 239, 153, 0, 26, 28, 133, 20, 0, 161, 42, 180, 0, 195, 180, 1, 45, 27, 46, 4, 100]
abbrev dktX0_neighbour_0 : List UInt8 := dkwX0_neighbour_0 ++ dktX0_neighbour_1
theorem dksX0_neighbour_0 : cX0_neighbour.data.toList.drop 0 = dktX0_neighbour_0 := by decide +kernel
theorem dksX0_neighbour_1 : cX0_neighbour.data.toList.drop 24 = dktX0_neighbour_1 := dk_seg dksX0_neighbour_0 24 rfl rfl
theorem dksX0_neighbour_2 : cX0_neighbour.data.toList.drop 47 = dktX0_neighbour_2 := dk_seg dksX0_neighbour_1 23 rfl rfl
theorem dX0_neighbour_0 : decode cX0_neighbour 0 = .ok (.aload_n 0, 1) := dk_42 (dk_at dksX0_neighbour_0 0 rfl rfl)
theorem dX0_neighbour_1 : decode cX0_neighbour 1 = .ok (.iload_n 1, 1) := dk_27 (dk_at dksX0_neighbour_0 1 rfl rfl)
theorem dX0_neighbour_2 : decode cX0_neighbour 2 = .ok (.invokevirtual 239, 3) := dk_182 0 239 (dk_at dksX0_neighbour_0 2 rfl rfl)
theorem dX0_neighbour_5 : decode cX0_neighbour 5 = .ok (.ifCond .eq 26, 3) := dk_153 0 26 (dk_at dksX0_neighbour_0 5 rfl rfl)
theorem dX0_neighbour_8 : decode cX0_neighbour 8 = .ok (.iload_n 2, 1) := dk_28 (dk_at dksX0_neighbour_0 8 rfl rfl)
theorem dX0_neighbour_9 : decode cX0_neighbour 9 = .ok (.i2l, 1) := dk_133 (dk_at dksX0_neighbour_0 9 rfl rfl)
theorem dX0_neighbour_10 : decode cX0_neighbour 10 = .ok (.ldc2_w 161, 3) := dk_20 0 161 (dk_at dksX0_neighbour_0 10 rfl rfl)
theorem dX0_neighbour_13 : decode cX0_neighbour 13 = .ok (.aload_n 0, 1) := dk_42 (dk_at dksX0_neighbour_0 13 rfl rfl)
theorem dX0_neighbour_14 : decode cX0_neighbour 14 = .ok (.getfield 195, 3) := dk_180 0 195 (dk_at dksX0_neighbour_0 14 rfl rfl)
theorem dX0_neighbour_17 : decode cX0_neighbour 17 = .ok (.getfield 301, 3) := dk_180 1 45 (dk_at dksX0_neighbour_0 17 rfl rfl)
theorem dX0_neighbour_20 : decode cX0_neighbour 20 = .ok (.iload_n 1, 1) := dk_27 (dk_at dksX0_neighbour_0 20 rfl rfl)
theorem dX0_neighbour_21 : decode cX0_neighbour 21 = .ok (.iaload, 1) := dk_46 (dk_at dksX0_neighbour_0 21 rfl rfl)
theorem dX0_neighbour_22 : decode cX0_neighbour 22 = .ok (.iconst 1, 1) := dk_4 (dk_at dksX0_neighbour_0 22 rfl rfl)
theorem dX0_neighbour_23 : decode cX0_neighbour 23 = .ok (.isub, 1) := dk_100 (dk_at dksX0_neighbour_0 23 rfl rfl)
theorem dX0_neighbour_24 : decode cX0_neighbour 24 = .ok (.i2l, 1) := dk_133 (dk_at dksX0_neighbour_1 0 rfl rfl)
theorem dX0_neighbour_25 : decode cX0_neighbour 25 = .ok (.invokestatic 155, 3) := dk_184 0 155 (dk_at dksX0_neighbour_1 1 rfl rfl)
theorem dX0_neighbour_28 : decode cX0_neighbour 28 = .ok (.ifCond .ne 5, 3) := dk_154 0 5 (dk_at dksX0_neighbour_1 4 rfl rfl)
theorem dX0_neighbour_31 : decode cX0_neighbour 31 = .ok (.iconst (-1), 1) := dk_2 (dk_at dksX0_neighbour_1 7 rfl rfl)
theorem dX0_neighbour_32 : decode cX0_neighbour 32 = .ok (.ireturn, 1) := dk_172 (dk_at dksX0_neighbour_1 8 rfl rfl)
theorem dX0_neighbour_33 : decode cX0_neighbour 33 = .ok (.iload_n 2, 1) := dk_28 (dk_at dksX0_neighbour_1 9 rfl rfl)
theorem dX0_neighbour_34 : decode cX0_neighbour 34 = .ok (.iconst (-1), 1) := dk_2 (dk_at dksX0_neighbour_1 10 rfl rfl)
theorem dX0_neighbour_35 : decode cX0_neighbour 35 = .ok (.if_icmp .ne 15, 3) := dk_160 0 15 (dk_at dksX0_neighbour_1 11 rfl rfl)
theorem dX0_neighbour_38 : decode cX0_neighbour 38 = .ok (.aload_n 0, 1) := dk_42 (dk_at dksX0_neighbour_1 14 rfl rfl)
theorem dX0_neighbour_39 : decode cX0_neighbour 39 = .ok (.getfield 195, 3) := dk_180 0 195 (dk_at dksX0_neighbour_1 15 rfl rfl)
theorem dX0_neighbour_42 : decode cX0_neighbour 42 = .ok (.getfield 301, 3) := dk_180 1 45 (dk_at dksX0_neighbour_1 18 rfl rfl)
theorem dX0_neighbour_45 : decode cX0_neighbour 45 = .ok (.iload_n 1, 1) := dk_27 (dk_at dksX0_neighbour_1 21 rfl rfl)
theorem dX0_neighbour_46 : decode cX0_neighbour 46 = .ok (.iaload, 1) := dk_46 (dk_at dksX0_neighbour_1 22 rfl rfl)
theorem dX0_neighbour_47 : decode cX0_neighbour 47 = .ok (.goto 14, 3) := dk_167 0 14 (dk_at dksX0_neighbour_2 0 rfl rfl)
theorem dX0_neighbour_50 : decode cX0_neighbour 50 = .ok (.aload_n 0, 1) := dk_42 (dk_at dksX0_neighbour_2 3 rfl rfl)
theorem dX0_neighbour_51 : decode cX0_neighbour 51 = .ok (.getfield 195, 3) := dk_180 0 195 (dk_at dksX0_neighbour_2 4 rfl rfl)
theorem dX0_neighbour_54 : decode cX0_neighbour 54 = .ok (.getfield 327, 3) := dk_180 1 71 (dk_at dksX0_neighbour_2 7 rfl rfl)
theorem dX0_neighbour_57 : decode cX0_neighbour 57 = .ok (.iload_n 1, 1) := dk_27 (dk_at dksX0_neighbour_2 10 rfl rfl)
theorem dX0_neighbour_58 : decode cX0_neighbour 58 = .ok (.aaload, 1) := dk_50 (dk_at dksX0_neighbour_2 11 rfl rfl)
theorem dX0_neighbour_59 : decode cX0_neighbour 59 = .ok (.iload_n 2, 1) := dk_28 (dk_at dksX0_neighbour_2 12 rfl rfl)
theorem dX0_neighbour_60 : decode cX0_neighbour 60 = .ok (.iaload, 1) := dk_46 (dk_at dksX0_neighbour_2 13 rfl rfl)
theorem dX0_neighbour_61 : decode cX0_neighbour 61 = .ok (.ireturn, 1) := dk_172 (dk_at dksX0_neighbour_2 14 rfl rfl)
abbrev cX0_apart : ByteArray := prog_1_method_33_code
def yX0_apart : MethodName := ⟨RX0, "apart", "(II)I"⟩
def dkwX0_apart_1 : List UInt8 := [28, 46, 167, 0, 4, 2, 172]
abbrev dktX0_apart_1 : List UInt8 := dkwX0_apart_1 ++ []
def dkwX0_apart_0 : List UInt8 := [42, 27, 182, 0, 239, 153, 0, 24, 42, 28, 182, 0, 239, 153, 0, 16, 42, 180, 0, 195, 27, 182, 1, 74]
abbrev dktX0_apart_0 : List UInt8 := dkwX0_apart_0 ++ dktX0_apart_1
theorem dksX0_apart_0 : cX0_apart.data.toList.drop 0 = dktX0_apart_0 := by decide +kernel
theorem dksX0_apart_1 : cX0_apart.data.toList.drop 24 = dktX0_apart_1 := dk_seg dksX0_apart_0 24 rfl rfl
theorem dX0_apart_0 : decode cX0_apart 0 = .ok (.aload_n 0, 1) := dk_42 (dk_at dksX0_apart_0 0 rfl rfl)
theorem dX0_apart_1 : decode cX0_apart 1 = .ok (.iload_n 1, 1) := dk_27 (dk_at dksX0_apart_0 1 rfl rfl)
theorem dX0_apart_2 : decode cX0_apart 2 = .ok (.invokevirtual 239, 3) := dk_182 0 239 (dk_at dksX0_apart_0 2 rfl rfl)
theorem dX0_apart_5 : decode cX0_apart 5 = .ok (.ifCond .eq 24, 3) := dk_153 0 24 (dk_at dksX0_apart_0 5 rfl rfl)
theorem dX0_apart_8 : decode cX0_apart 8 = .ok (.aload_n 0, 1) := dk_42 (dk_at dksX0_apart_0 8 rfl rfl)
theorem dX0_apart_9 : decode cX0_apart 9 = .ok (.iload_n 2, 1) := dk_28 (dk_at dksX0_apart_0 9 rfl rfl)
theorem dX0_apart_10 : decode cX0_apart 10 = .ok (.invokevirtual 239, 3) := dk_182 0 239 (dk_at dksX0_apart_0 10 rfl rfl)
theorem dX0_apart_13 : decode cX0_apart 13 = .ok (.ifCond .eq 16, 3) := dk_153 0 16 (dk_at dksX0_apart_0 13 rfl rfl)
theorem dX0_apart_16 : decode cX0_apart 16 = .ok (.aload_n 0, 1) := dk_42 (dk_at dksX0_apart_0 16 rfl rfl)
theorem dX0_apart_17 : decode cX0_apart 17 = .ok (.getfield 195, 3) := dk_180 0 195 (dk_at dksX0_apart_0 17 rfl rfl)
theorem dX0_apart_20 : decode cX0_apart 20 = .ok (.iload_n 1, 1) := dk_27 (dk_at dksX0_apart_0 20 rfl rfl)
theorem dX0_apart_21 : decode cX0_apart 21 = .ok (.invokevirtual 330, 3) := dk_182 1 74 (dk_at dksX0_apart_0 21 rfl rfl)
theorem dX0_apart_24 : decode cX0_apart 24 = .ok (.iload_n 2, 1) := dk_28 (dk_at dksX0_apart_1 0 rfl rfl)
theorem dX0_apart_25 : decode cX0_apart 25 = .ok (.iaload, 1) := dk_46 (dk_at dksX0_apart_1 1 rfl rfl)
theorem dX0_apart_26 : decode cX0_apart 26 = .ok (.goto 4, 3) := dk_167 0 4 (dk_at dksX0_apart_1 2 rfl rfl)
theorem dX0_apart_29 : decode cX0_apart 29 = .ok (.iconst (-1), 1) := dk_2 (dk_at dksX0_apart_1 5 rfl rfl)
theorem dX0_apart_30 : decode cX0_apart 30 = .ok (.ireturn, 1) := dk_172 (dk_at dksX0_apart_1 6 rfl rfl)
abbrev cX0_centroid : ByteArray := prog_1_method_34_code
def yX0_centroid : MethodName := ⟨RX0, "centroid", "(I)I"⟩
def dkwX0_centroid_2 : List UInt8 := [132, 3, 1, 167, 255, 218, 27, 2, 160, 0, 7, 28, 167, 0, 5, 16, 254, 172]
abbrev dktX0_centroid_2 : List UInt8 := dkwX0_centroid_2 ++ []
def dkwX0_centroid_1 : List UInt8 := [180, 0, 195, 29, 182, 1, 78, 154, 0, 6, 167, 0, 13, 28, 27, 160, 0, 5, 29, 172, 132, 2, 1]
abbrev dktX0_centroid_1 : List UInt8 := dkwX0_centroid_1 ++ dktX0_centroid_2
def dkwX0_centroid_0 : List UInt8 := [27, 2, 162, 0, 5, 2, 172, 3, 61, 3, 62, 29, 42, 180, 0, 195, 180, 0, 226, 162, 0, 33, 42]
abbrev dktX0_centroid_0 : List UInt8 := dkwX0_centroid_0 ++ dktX0_centroid_1
theorem dksX0_centroid_0 : cX0_centroid.data.toList.drop 0 = dktX0_centroid_0 := by decide +kernel
theorem dksX0_centroid_1 : cX0_centroid.data.toList.drop 23 = dktX0_centroid_1 := dk_seg dksX0_centroid_0 23 rfl rfl
theorem dksX0_centroid_2 : cX0_centroid.data.toList.drop 46 = dktX0_centroid_2 := dk_seg dksX0_centroid_1 23 rfl rfl
theorem dX0_centroid_0 : decode cX0_centroid 0 = .ok (.iload_n 1, 1) := dk_27 (dk_at dksX0_centroid_0 0 rfl rfl)
theorem dX0_centroid_1 : decode cX0_centroid 1 = .ok (.iconst (-1), 1) := dk_2 (dk_at dksX0_centroid_0 1 rfl rfl)
theorem dX0_centroid_2 : decode cX0_centroid 2 = .ok (.if_icmp .ge 5, 3) := dk_162 0 5 (dk_at dksX0_centroid_0 2 rfl rfl)
theorem dX0_centroid_5 : decode cX0_centroid 5 = .ok (.iconst (-1), 1) := dk_2 (dk_at dksX0_centroid_0 5 rfl rfl)
theorem dX0_centroid_6 : decode cX0_centroid 6 = .ok (.ireturn, 1) := dk_172 (dk_at dksX0_centroid_0 6 rfl rfl)
theorem dX0_centroid_7 : decode cX0_centroid 7 = .ok (.iconst 0, 1) := dk_3 (dk_at dksX0_centroid_0 7 rfl rfl)
theorem dX0_centroid_8 : decode cX0_centroid 8 = .ok (.istore_n 2, 1) := dk_61 (dk_at dksX0_centroid_0 8 rfl rfl)
theorem dX0_centroid_9 : decode cX0_centroid 9 = .ok (.iconst 0, 1) := dk_3 (dk_at dksX0_centroid_0 9 rfl rfl)
theorem dX0_centroid_10 : decode cX0_centroid 10 = .ok (.istore_n 3, 1) := dk_62 (dk_at dksX0_centroid_0 10 rfl rfl)
theorem dX0_centroid_11 : decode cX0_centroid 11 = .ok (.iload_n 3, 1) := dk_29 (dk_at dksX0_centroid_0 11 rfl rfl)
theorem dX0_centroid_12 : decode cX0_centroid 12 = .ok (.aload_n 0, 1) := dk_42 (dk_at dksX0_centroid_0 12 rfl rfl)
theorem dX0_centroid_13 : decode cX0_centroid 13 = .ok (.getfield 195, 3) := dk_180 0 195 (dk_at dksX0_centroid_0 13 rfl rfl)
theorem dX0_centroid_16 : decode cX0_centroid 16 = .ok (.getfield 226, 3) := dk_180 0 226 (dk_at dksX0_centroid_0 16 rfl rfl)
theorem dX0_centroid_19 : decode cX0_centroid 19 = .ok (.if_icmp .ge 33, 3) := dk_162 0 33 (dk_at dksX0_centroid_0 19 rfl rfl)
theorem dX0_centroid_22 : decode cX0_centroid 22 = .ok (.aload_n 0, 1) := dk_42 (dk_at dksX0_centroid_0 22 rfl rfl)
theorem dX0_centroid_23 : decode cX0_centroid 23 = .ok (.getfield 195, 3) := dk_180 0 195 (dk_at dksX0_centroid_1 0 rfl rfl)
theorem dX0_centroid_26 : decode cX0_centroid 26 = .ok (.iload_n 3, 1) := dk_29 (dk_at dksX0_centroid_1 3 rfl rfl)
theorem dX0_centroid_27 : decode cX0_centroid 27 = .ok (.invokevirtual 334, 3) := dk_182 1 78 (dk_at dksX0_centroid_1 4 rfl rfl)
theorem dX0_centroid_30 : decode cX0_centroid 30 = .ok (.ifCond .ne 6, 3) := dk_154 0 6 (dk_at dksX0_centroid_1 7 rfl rfl)
theorem dX0_centroid_33 : decode cX0_centroid 33 = .ok (.goto 13, 3) := dk_167 0 13 (dk_at dksX0_centroid_1 10 rfl rfl)
theorem dX0_centroid_36 : decode cX0_centroid 36 = .ok (.iload_n 2, 1) := dk_28 (dk_at dksX0_centroid_1 13 rfl rfl)
theorem dX0_centroid_37 : decode cX0_centroid 37 = .ok (.iload_n 1, 1) := dk_27 (dk_at dksX0_centroid_1 14 rfl rfl)
theorem dX0_centroid_38 : decode cX0_centroid 38 = .ok (.if_icmp .ne 5, 3) := dk_160 0 5 (dk_at dksX0_centroid_1 15 rfl rfl)
theorem dX0_centroid_41 : decode cX0_centroid 41 = .ok (.iload_n 3, 1) := dk_29 (dk_at dksX0_centroid_1 18 rfl rfl)
theorem dX0_centroid_42 : decode cX0_centroid 42 = .ok (.ireturn, 1) := dk_172 (dk_at dksX0_centroid_1 19 rfl rfl)
theorem dX0_centroid_43 : decode cX0_centroid 43 = .ok (.iinc 2 1, 3) := dk_132 2 1 (dk_at dksX0_centroid_1 20 rfl rfl)
theorem dX0_centroid_46 : decode cX0_centroid 46 = .ok (.iinc 3 1, 3) := dk_132 3 1 (dk_at dksX0_centroid_2 0 rfl rfl)
theorem dX0_centroid_49 : decode cX0_centroid 49 = .ok (.goto (-38), 3) := dk_167 255 218 (dk_at dksX0_centroid_2 3 rfl rfl)
theorem dX0_centroid_52 : decode cX0_centroid 52 = .ok (.iload_n 1, 1) := dk_27 (dk_at dksX0_centroid_2 6 rfl rfl)
theorem dX0_centroid_53 : decode cX0_centroid 53 = .ok (.iconst (-1), 1) := dk_2 (dk_at dksX0_centroid_2 7 rfl rfl)
theorem dX0_centroid_54 : decode cX0_centroid 54 = .ok (.if_icmp .ne 7, 3) := dk_160 0 7 (dk_at dksX0_centroid_2 8 rfl rfl)
theorem dX0_centroid_57 : decode cX0_centroid 57 = .ok (.iload_n 2, 1) := dk_28 (dk_at dksX0_centroid_2 11 rfl rfl)
theorem dX0_centroid_58 : decode cX0_centroid 58 = .ok (.goto 5, 3) := dk_167 0 5 (dk_at dksX0_centroid_2 12 rfl rfl)
theorem dX0_centroid_61 : decode cX0_centroid 61 = .ok (.bipush (-2), 2) := dk_16 254 (dk_at dksX0_centroid_2 15 rfl rfl)
theorem dX0_centroid_63 : decode cX0_centroid 63 = .ok (.ireturn, 1) := dk_172 (dk_at dksX0_centroid_2 17 rfl rfl)
abbrev cX0_code : ByteArray := prog_1_method_35_code
def yX0_code : MethodName := ⟨RX0, "code", "(I)I"⟩
def dkwX0_code_1 : List UInt8 := [185, 0, 99, 1, 0, 27, 46, 167, 0, 4, 2, 172]
abbrev dktX0_code_1 : List UInt8 := dkwX0_code_1 ++ []
def dkwX0_code_0 : List UInt8 := [27, 133, 9, 42, 180, 0, 195, 180, 0, 226, 4, 100, 133, 184, 0, 155, 153, 0, 17, 42, 182, 1, 62]
abbrev dktX0_code_0 : List UInt8 := dkwX0_code_0 ++ dktX0_code_1
theorem dksX0_code_0 : cX0_code.data.toList.drop 0 = dktX0_code_0 := by decide +kernel
theorem dksX0_code_1 : cX0_code.data.toList.drop 23 = dktX0_code_1 := dk_seg dksX0_code_0 23 rfl rfl
theorem dX0_code_0 : decode cX0_code 0 = .ok (.iload_n 1, 1) := dk_27 (dk_at dksX0_code_0 0 rfl rfl)
theorem dX0_code_1 : decode cX0_code 1 = .ok (.i2l, 1) := dk_133 (dk_at dksX0_code_0 1 rfl rfl)
theorem dX0_code_2 : decode cX0_code 2 = .ok (.lconst 0, 1) := dk_9 (dk_at dksX0_code_0 2 rfl rfl)
theorem dX0_code_3 : decode cX0_code 3 = .ok (.aload_n 0, 1) := dk_42 (dk_at dksX0_code_0 3 rfl rfl)
theorem dX0_code_4 : decode cX0_code 4 = .ok (.getfield 195, 3) := dk_180 0 195 (dk_at dksX0_code_0 4 rfl rfl)
theorem dX0_code_7 : decode cX0_code 7 = .ok (.getfield 226, 3) := dk_180 0 226 (dk_at dksX0_code_0 7 rfl rfl)
theorem dX0_code_10 : decode cX0_code 10 = .ok (.iconst 1, 1) := dk_4 (dk_at dksX0_code_0 10 rfl rfl)
theorem dX0_code_11 : decode cX0_code 11 = .ok (.isub, 1) := dk_100 (dk_at dksX0_code_0 11 rfl rfl)
theorem dX0_code_12 : decode cX0_code 12 = .ok (.i2l, 1) := dk_133 (dk_at dksX0_code_0 12 rfl rfl)
theorem dX0_code_13 : decode cX0_code 13 = .ok (.invokestatic 155, 3) := dk_184 0 155 (dk_at dksX0_code_0 13 rfl rfl)
theorem dX0_code_16 : decode cX0_code 16 = .ok (.ifCond .eq 17, 3) := dk_153 0 17 (dk_at dksX0_code_0 16 rfl rfl)
theorem dX0_code_19 : decode cX0_code 19 = .ok (.aload_n 0, 1) := dk_42 (dk_at dksX0_code_0 19 rfl rfl)
theorem dX0_code_20 : decode cX0_code 20 = .ok (.invokevirtual 318, 3) := dk_182 1 62 (dk_at dksX0_code_0 20 rfl rfl)
theorem dX0_code_23 : decode cX0_code 23 = .ok (.invokeinterface 99 1, 5) := by decide +kernel
theorem dX0_code_28 : decode cX0_code 28 = .ok (.iload_n 1, 1) := dk_27 (dk_at dksX0_code_1 5 rfl rfl)
theorem dX0_code_29 : decode cX0_code 29 = .ok (.iaload, 1) := dk_46 (dk_at dksX0_code_1 6 rfl rfl)
theorem dX0_code_30 : decode cX0_code 30 = .ok (.goto 4, 3) := dk_167 0 4 (dk_at dksX0_code_1 7 rfl rfl)
theorem dX0_code_33 : decode cX0_code 33 = .ok (.iconst (-1), 1) := dk_2 (dk_at dksX0_code_1 10 rfl rfl)
theorem dX0_code_34 : decode cX0_code 34 = .ok (.ireturn, 1) := dk_172 (dk_at dksX0_code_1 11 rfl rfl)
abbrev cX0_rank : ByteArray := prog_1_method_36_code
def yX0_rank : MethodName := ⟨RX0, "rank", "()I"⟩
def dkwX0_rank_3 : List UInt8 := [4, 96, 62, 167, 0, 7, 21, 5, 54, 4, 167, 255, 219, 29, 172]
abbrev dktX0_rank_3 : List UInt8 := dkwX0_rank_3 ++ []
def dkwX0_rank_2 : List UInt8 := [162, 0, 37, 29, 21, 4, 96, 5, 108, 54, 5, 44, 21, 5, 50, 43, 184, 1, 63, 156, 0, 11, 21, 5]
abbrev dktX0_rank_2 : List UInt8 := dkwX0_rank_2 ++ dktX0_rank_3
def dkwX0_rank_1 : List UInt8 := [76, 42, 42, 180, 0, 195, 180, 0, 226, 182, 1, 24, 77, 3, 62, 44, 190, 4, 100, 54, 4, 29, 21, 4]
abbrev dktX0_rank_1 : List UInt8 := dkwX0_rank_1 ++ dktX0_rank_2
def dkwX0_rank_0 : List UInt8 := [42, 180, 0, 195, 180, 0, 226, 16, 11, 164, 0, 6, 16, 254, 172, 42, 182, 1, 62, 185, 0, 99, 1, 0]
abbrev dktX0_rank_0 : List UInt8 := dkwX0_rank_0 ++ dktX0_rank_1
theorem dksX0_rank_0 : cX0_rank.data.toList.drop 0 = dktX0_rank_0 := by decide +kernel
theorem dksX0_rank_1 : cX0_rank.data.toList.drop 24 = dktX0_rank_1 := dk_seg dksX0_rank_0 24 rfl rfl
theorem dksX0_rank_2 : cX0_rank.data.toList.drop 48 = dktX0_rank_2 := dk_seg dksX0_rank_1 24 rfl rfl
theorem dksX0_rank_3 : cX0_rank.data.toList.drop 72 = dktX0_rank_3 := dk_seg dksX0_rank_2 24 rfl rfl
theorem dX0_rank_0 : decode cX0_rank 0 = .ok (.aload_n 0, 1) := dk_42 (dk_at dksX0_rank_0 0 rfl rfl)
theorem dX0_rank_1 : decode cX0_rank 1 = .ok (.getfield 195, 3) := dk_180 0 195 (dk_at dksX0_rank_0 1 rfl rfl)
theorem dX0_rank_4 : decode cX0_rank 4 = .ok (.getfield 226, 3) := dk_180 0 226 (dk_at dksX0_rank_0 4 rfl rfl)
theorem dX0_rank_7 : decode cX0_rank 7 = .ok (.bipush 11, 2) := dk_16 11 (dk_at dksX0_rank_0 7 rfl rfl)
theorem dX0_rank_9 : decode cX0_rank 9 = .ok (.if_icmp .le 6, 3) := dk_164 0 6 (dk_at dksX0_rank_0 9 rfl rfl)
theorem dX0_rank_12 : decode cX0_rank 12 = .ok (.bipush (-2), 2) := dk_16 254 (dk_at dksX0_rank_0 12 rfl rfl)
theorem dX0_rank_14 : decode cX0_rank 14 = .ok (.ireturn, 1) := dk_172 (dk_at dksX0_rank_0 14 rfl rfl)
theorem dX0_rank_15 : decode cX0_rank 15 = .ok (.aload_n 0, 1) := dk_42 (dk_at dksX0_rank_0 15 rfl rfl)
theorem dX0_rank_16 : decode cX0_rank 16 = .ok (.invokevirtual 318, 3) := dk_182 1 62 (dk_at dksX0_rank_0 16 rfl rfl)
theorem dX0_rank_19 : decode cX0_rank 19 = .ok (.invokeinterface 99 1, 5) := by decide +kernel
theorem dX0_rank_24 : decode cX0_rank 24 = .ok (.astore_n 1, 1) := dk_76 (dk_at dksX0_rank_1 0 rfl rfl)
theorem dX0_rank_25 : decode cX0_rank 25 = .ok (.aload_n 0, 1) := dk_42 (dk_at dksX0_rank_1 1 rfl rfl)
theorem dX0_rank_26 : decode cX0_rank 26 = .ok (.aload_n 0, 1) := dk_42 (dk_at dksX0_rank_1 2 rfl rfl)
theorem dX0_rank_27 : decode cX0_rank 27 = .ok (.getfield 195, 3) := dk_180 0 195 (dk_at dksX0_rank_1 3 rfl rfl)
theorem dX0_rank_30 : decode cX0_rank 30 = .ok (.getfield 226, 3) := dk_180 0 226 (dk_at dksX0_rank_1 6 rfl rfl)
theorem dX0_rank_33 : decode cX0_rank 33 = .ok (.invokevirtual 280, 3) := dk_182 1 24 (dk_at dksX0_rank_1 9 rfl rfl)
theorem dX0_rank_36 : decode cX0_rank 36 = .ok (.astore_n 2, 1) := dk_77 (dk_at dksX0_rank_1 12 rfl rfl)
theorem dX0_rank_37 : decode cX0_rank 37 = .ok (.iconst 0, 1) := dk_3 (dk_at dksX0_rank_1 13 rfl rfl)
theorem dX0_rank_38 : decode cX0_rank 38 = .ok (.istore_n 3, 1) := dk_62 (dk_at dksX0_rank_1 14 rfl rfl)
theorem dX0_rank_39 : decode cX0_rank 39 = .ok (.aload_n 2, 1) := dk_44 (dk_at dksX0_rank_1 15 rfl rfl)
theorem dX0_rank_40 : decode cX0_rank 40 = .ok (.arraylength, 1) := dk_190 (dk_at dksX0_rank_1 16 rfl rfl)
theorem dX0_rank_41 : decode cX0_rank 41 = .ok (.iconst 1, 1) := dk_4 (dk_at dksX0_rank_1 17 rfl rfl)
theorem dX0_rank_42 : decode cX0_rank 42 = .ok (.isub, 1) := dk_100 (dk_at dksX0_rank_1 18 rfl rfl)
theorem dX0_rank_43 : decode cX0_rank 43 = .ok (.istore 4, 2) := dk_54 4 (dk_at dksX0_rank_1 19 rfl rfl)
theorem dX0_rank_45 : decode cX0_rank 45 = .ok (.iload_n 3, 1) := dk_29 (dk_at dksX0_rank_1 21 rfl rfl)
theorem dX0_rank_46 : decode cX0_rank 46 = .ok (.iload 4, 2) := dk_21 4 (dk_at dksX0_rank_1 22 rfl rfl)
theorem dX0_rank_48 : decode cX0_rank 48 = .ok (.if_icmp .ge 37, 3) := dk_162 0 37 (dk_at dksX0_rank_2 0 rfl rfl)
theorem dX0_rank_51 : decode cX0_rank 51 = .ok (.iload_n 3, 1) := dk_29 (dk_at dksX0_rank_2 3 rfl rfl)
theorem dX0_rank_52 : decode cX0_rank 52 = .ok (.iload 4, 2) := dk_21 4 (dk_at dksX0_rank_2 4 rfl rfl)
theorem dX0_rank_54 : decode cX0_rank 54 = .ok (.iadd, 1) := dk_96 (dk_at dksX0_rank_2 6 rfl rfl)
theorem dX0_rank_55 : decode cX0_rank 55 = .ok (.iconst 2, 1) := dk_5 (dk_at dksX0_rank_2 7 rfl rfl)
theorem dX0_rank_56 : decode cX0_rank 56 = .ok (.idiv, 1) := dk_108 (dk_at dksX0_rank_2 8 rfl rfl)
theorem dX0_rank_57 : decode cX0_rank 57 = .ok (.istore 5, 2) := dk_54 5 (dk_at dksX0_rank_2 9 rfl rfl)
theorem dX0_rank_59 : decode cX0_rank 59 = .ok (.aload_n 2, 1) := dk_44 (dk_at dksX0_rank_2 11 rfl rfl)
theorem dX0_rank_60 : decode cX0_rank 60 = .ok (.iload 5, 2) := dk_21 5 (dk_at dksX0_rank_2 12 rfl rfl)
theorem dX0_rank_62 : decode cX0_rank 62 = .ok (.aaload, 1) := dk_50 (dk_at dksX0_rank_2 14 rfl rfl)
theorem dX0_rank_63 : decode cX0_rank 63 = .ok (.aload_n 1, 1) := dk_43 (dk_at dksX0_rank_2 15 rfl rfl)
theorem dX0_rank_64 : decode cX0_rank 64 = .ok (.invokestatic 319, 3) := dk_184 1 63 (dk_at dksX0_rank_2 16 rfl rfl)
theorem dX0_rank_67 : decode cX0_rank 67 = .ok (.ifCond .ge 11, 3) := dk_156 0 11 (dk_at dksX0_rank_2 19 rfl rfl)
theorem dX0_rank_70 : decode cX0_rank 70 = .ok (.iload 5, 2) := dk_21 5 (dk_at dksX0_rank_2 22 rfl rfl)
theorem dX0_rank_72 : decode cX0_rank 72 = .ok (.iconst 1, 1) := dk_4 (dk_at dksX0_rank_3 0 rfl rfl)
theorem dX0_rank_73 : decode cX0_rank 73 = .ok (.iadd, 1) := dk_96 (dk_at dksX0_rank_3 1 rfl rfl)
theorem dX0_rank_74 : decode cX0_rank 74 = .ok (.istore_n 3, 1) := dk_62 (dk_at dksX0_rank_3 2 rfl rfl)
theorem dX0_rank_75 : decode cX0_rank 75 = .ok (.goto 7, 3) := dk_167 0 7 (dk_at dksX0_rank_3 3 rfl rfl)
theorem dX0_rank_78 : decode cX0_rank 78 = .ok (.iload 5, 2) := dk_21 5 (dk_at dksX0_rank_3 6 rfl rfl)
theorem dX0_rank_80 : decode cX0_rank 80 = .ok (.istore 4, 2) := dk_54 4 (dk_at dksX0_rank_3 8 rfl rfl)
theorem dX0_rank_82 : decode cX0_rank 82 = .ok (.goto (-37), 3) := dk_167 255 219 (dk_at dksX0_rank_3 10 rfl rfl)
theorem dX0_rank_85 : decode cX0_rank 85 = .ok (.iload_n 3, 1) := dk_29 (dk_at dksX0_rank_3 13 rfl rfl)
theorem dX0_rank_86 : decode cX0_rank 86 = .ok (.ireturn, 1) := dk_172 (dk_at dksX0_rank_3 14 rfl rfl)
abbrev cX0_listed : ByteArray := prog_1_method_37_code
def yX0_listed : MethodName := ⟨RX0, "listed", "(III)I"⟩
def dkwX0_listed_1 : List UInt8 := [182, 1, 24, 28, 50, 29, 46, 167, 0, 4, 2, 172]
abbrev dktX0_listed_1 : List UInt8 := dkwX0_listed_1 ++ []
def dkwX0_listed_0 : List UInt8 := [42, 27, 28, 182, 1, 28, 153, 0, 28, 29, 133, 9, 27, 4, 100, 133, 184, 0, 155, 153, 0, 15, 42, 27]
abbrev dktX0_listed_0 : List UInt8 := dkwX0_listed_0 ++ dktX0_listed_1
theorem dksX0_listed_0 : cX0_listed.data.toList.drop 0 = dktX0_listed_0 := by decide +kernel
theorem dksX0_listed_1 : cX0_listed.data.toList.drop 24 = dktX0_listed_1 := dk_seg dksX0_listed_0 24 rfl rfl
theorem dX0_listed_0 : decode cX0_listed 0 = .ok (.aload_n 0, 1) := dk_42 (dk_at dksX0_listed_0 0 rfl rfl)
theorem dX0_listed_1 : decode cX0_listed 1 = .ok (.iload_n 1, 1) := dk_27 (dk_at dksX0_listed_0 1 rfl rfl)
theorem dX0_listed_2 : decode cX0_listed 2 = .ok (.iload_n 2, 1) := dk_28 (dk_at dksX0_listed_0 2 rfl rfl)
theorem dX0_listed_3 : decode cX0_listed 3 = .ok (.invokevirtual 284, 3) := dk_182 1 28 (dk_at dksX0_listed_0 3 rfl rfl)
theorem dX0_listed_6 : decode cX0_listed 6 = .ok (.ifCond .eq 28, 3) := dk_153 0 28 (dk_at dksX0_listed_0 6 rfl rfl)
theorem dX0_listed_9 : decode cX0_listed 9 = .ok (.iload_n 3, 1) := dk_29 (dk_at dksX0_listed_0 9 rfl rfl)
theorem dX0_listed_10 : decode cX0_listed 10 = .ok (.i2l, 1) := dk_133 (dk_at dksX0_listed_0 10 rfl rfl)
theorem dX0_listed_11 : decode cX0_listed 11 = .ok (.lconst 0, 1) := dk_9 (dk_at dksX0_listed_0 11 rfl rfl)
theorem dX0_listed_12 : decode cX0_listed 12 = .ok (.iload_n 1, 1) := dk_27 (dk_at dksX0_listed_0 12 rfl rfl)
theorem dX0_listed_13 : decode cX0_listed 13 = .ok (.iconst 1, 1) := dk_4 (dk_at dksX0_listed_0 13 rfl rfl)
theorem dX0_listed_14 : decode cX0_listed 14 = .ok (.isub, 1) := dk_100 (dk_at dksX0_listed_0 14 rfl rfl)
theorem dX0_listed_15 : decode cX0_listed 15 = .ok (.i2l, 1) := dk_133 (dk_at dksX0_listed_0 15 rfl rfl)
theorem dX0_listed_16 : decode cX0_listed 16 = .ok (.invokestatic 155, 3) := dk_184 0 155 (dk_at dksX0_listed_0 16 rfl rfl)
theorem dX0_listed_19 : decode cX0_listed 19 = .ok (.ifCond .eq 15, 3) := dk_153 0 15 (dk_at dksX0_listed_0 19 rfl rfl)
theorem dX0_listed_22 : decode cX0_listed 22 = .ok (.aload_n 0, 1) := dk_42 (dk_at dksX0_listed_0 22 rfl rfl)
theorem dX0_listed_23 : decode cX0_listed 23 = .ok (.iload_n 1, 1) := dk_27 (dk_at dksX0_listed_0 23 rfl rfl)
theorem dX0_listed_24 : decode cX0_listed 24 = .ok (.invokevirtual 280, 3) := dk_182 1 24 (dk_at dksX0_listed_1 0 rfl rfl)
theorem dX0_listed_27 : decode cX0_listed 27 = .ok (.iload_n 2, 1) := dk_28 (dk_at dksX0_listed_1 3 rfl rfl)
theorem dX0_listed_28 : decode cX0_listed 28 = .ok (.aaload, 1) := dk_50 (dk_at dksX0_listed_1 4 rfl rfl)
theorem dX0_listed_29 : decode cX0_listed 29 = .ok (.iload_n 3, 1) := dk_29 (dk_at dksX0_listed_1 5 rfl rfl)
theorem dX0_listed_30 : decode cX0_listed 30 = .ok (.iaload, 1) := dk_46 (dk_at dksX0_listed_1 6 rfl rfl)
theorem dX0_listed_31 : decode cX0_listed 31 = .ok (.goto 4, 3) := dk_167 0 4 (dk_at dksX0_listed_1 7 rfl rfl)
theorem dX0_listed_34 : decode cX0_listed 34 = .ok (.iconst (-1), 1) := dk_2 (dk_at dksX0_listed_1 10 rfl rfl)
theorem dX0_listed_35 : decode cX0_listed 35 = .ok (.ireturn, 1) := dk_172 (dk_at dksX0_listed_1 11 rfl rfl)
abbrev cX0_such : ByteArray := prog_1_method_38_code
def yX0_such : MethodName := ⟨RX0, "such", "(III)I"⟩
def dkwX0_such_7 : List UInt8 := [132, 8, 1, 167, 255, 220, 21, 5, 172]
abbrev dktX0_such_7 : List UInt8 := dkwX0_such_7 ++ []
def dkwX0_such_6 : List UInt8 := [46, 54, 9, 21, 5, 21, 9, 29, 160, 0, 7, 4, 167, 0, 4, 3, 184, 1, 67, 96, 54, 5]
abbrev dktX0_such_6 : List UInt8 := dkwX0_such_6 ++ dktX0_such_7
def dkwX0_such_5 : List UInt8 := [50, 28, 50, 58, 6, 25, 6, 190, 54, 7, 3, 54, 8, 21, 8, 21, 7, 162, 0, 35, 25, 6, 21, 8]
abbrev dktX0_such_5 : List UInt8 := dkwX0_such_5 ++ dktX0_such_6
def dkwX0_such_4 : List UInt8 := [21, 5, 50, 184, 1, 31, 182, 1, 81, 79, 132, 5, 1, 167, 255, 218, 3, 54, 5, 42, 180, 0, 216, 27]
abbrev dktX0_such_4 : List UInt8 := dkwX0_such_4 ++ dktX0_such_5
def dkwX0_such_3 : List UInt8 := [25, 4, 190, 162, 0, 36, 42, 180, 0, 216, 27, 50, 28, 50, 21, 5, 184, 0, 210, 28, 50, 25, 4]
abbrev dktX0_such_3 : List UInt8 := dkwX0_such_3 ++ dktX0_such_4
def dkwX0_such_2 : List UInt8 := [50, 28, 50, 199, 0, 60, 42, 180, 0, 216, 27, 50, 28, 25, 4, 190, 188, 10, 83, 3, 54, 5, 21, 5]
abbrev dktX0_such_2 : List UInt8 := dkwX0_such_2 ++ dktX0_such_3
def dkwX0_such_1 : List UInt8 := [184, 0, 155, 153, 0, 7, 29, 156, 0, 5, 2, 172, 42, 27, 182, 1, 24, 58, 4, 42, 180, 0, 216, 27]
abbrev dktX0_such_1 : List UInt8 := dkwX0_such_1 ++ dktX0_such_2
def dkwX0_such_0 : List UInt8 := [27, 133, 10, 20, 1, 22, 184, 0, 155, 153, 0, 23, 28, 133, 9, 184, 0, 210, 190, 4, 100, 133]
abbrev dktX0_such_0 : List UInt8 := dkwX0_such_0 ++ dktX0_such_1
theorem dksX0_such_0 : cX0_such.data.toList.drop 0 = dktX0_such_0 := by decide +kernel
theorem dksX0_such_1 : cX0_such.data.toList.drop 22 = dktX0_such_1 := dk_seg dksX0_such_0 22 rfl rfl
theorem dksX0_such_2 : cX0_such.data.toList.drop 46 = dktX0_such_2 := dk_seg dksX0_such_1 24 rfl rfl
theorem dksX0_such_3 : cX0_such.data.toList.drop 70 = dktX0_such_3 := dk_seg dksX0_such_2 24 rfl rfl
theorem dksX0_such_4 : cX0_such.data.toList.drop 93 = dktX0_such_4 := dk_seg dksX0_such_3 23 rfl rfl
theorem dksX0_such_5 : cX0_such.data.toList.drop 117 = dktX0_such_5 := dk_seg dksX0_such_4 24 rfl rfl
theorem dksX0_such_6 : cX0_such.data.toList.drop 141 = dktX0_such_6 := dk_seg dksX0_such_5 24 rfl rfl
theorem dksX0_such_7 : cX0_such.data.toList.drop 163 = dktX0_such_7 := dk_seg dksX0_such_6 22 rfl rfl
theorem dX0_such_0 : decode cX0_such 0 = .ok (.iload_n 1, 1) := dk_27 (dk_at dksX0_such_0 0 rfl rfl)
theorem dX0_such_1 : decode cX0_such 1 = .ok (.i2l, 1) := dk_133 (dk_at dksX0_such_0 1 rfl rfl)
theorem dX0_such_2 : decode cX0_such 2 = .ok (.lconst 1, 1) := dk_10 (dk_at dksX0_such_0 2 rfl rfl)
theorem dX0_such_3 : decode cX0_such 3 = .ok (.ldc2_w 278, 3) := dk_20 1 22 (dk_at dksX0_such_0 3 rfl rfl)
theorem dX0_such_6 : decode cX0_such 6 = .ok (.invokestatic 155, 3) := dk_184 0 155 (dk_at dksX0_such_0 6 rfl rfl)
theorem dX0_such_9 : decode cX0_such 9 = .ok (.ifCond .eq 23, 3) := dk_153 0 23 (dk_at dksX0_such_0 9 rfl rfl)
theorem dX0_such_12 : decode cX0_such 12 = .ok (.iload_n 2, 1) := dk_28 (dk_at dksX0_such_0 12 rfl rfl)
theorem dX0_such_13 : decode cX0_such 13 = .ok (.i2l, 1) := dk_133 (dk_at dksX0_such_0 13 rfl rfl)
theorem dX0_such_14 : decode cX0_such 14 = .ok (.lconst 0, 1) := dk_9 (dk_at dksX0_such_0 14 rfl rfl)
theorem dX0_such_15 : decode cX0_such 15 = .ok (.invokestatic 210, 3) := dk_184 0 210 (dk_at dksX0_such_0 15 rfl rfl)
theorem dX0_such_18 : decode cX0_such 18 = .ok (.arraylength, 1) := dk_190 (dk_at dksX0_such_0 18 rfl rfl)
theorem dX0_such_19 : decode cX0_such 19 = .ok (.iconst 1, 1) := dk_4 (dk_at dksX0_such_0 19 rfl rfl)
theorem dX0_such_20 : decode cX0_such 20 = .ok (.isub, 1) := dk_100 (dk_at dksX0_such_0 20 rfl rfl)
theorem dX0_such_21 : decode cX0_such 21 = .ok (.i2l, 1) := dk_133 (dk_at dksX0_such_0 21 rfl rfl)
theorem dX0_such_22 : decode cX0_such 22 = .ok (.invokestatic 155, 3) := dk_184 0 155 (dk_at dksX0_such_1 0 rfl rfl)
theorem dX0_such_25 : decode cX0_such 25 = .ok (.ifCond .eq 7, 3) := dk_153 0 7 (dk_at dksX0_such_1 3 rfl rfl)
theorem dX0_such_28 : decode cX0_such 28 = .ok (.iload_n 3, 1) := dk_29 (dk_at dksX0_such_1 6 rfl rfl)
theorem dX0_such_29 : decode cX0_such 29 = .ok (.ifCond .ge 5, 3) := dk_156 0 5 (dk_at dksX0_such_1 7 rfl rfl)
theorem dX0_such_32 : decode cX0_such 32 = .ok (.iconst (-1), 1) := dk_2 (dk_at dksX0_such_1 10 rfl rfl)
theorem dX0_such_33 : decode cX0_such 33 = .ok (.ireturn, 1) := dk_172 (dk_at dksX0_such_1 11 rfl rfl)
theorem dX0_such_34 : decode cX0_such 34 = .ok (.aload_n 0, 1) := dk_42 (dk_at dksX0_such_1 12 rfl rfl)
theorem dX0_such_35 : decode cX0_such 35 = .ok (.iload_n 1, 1) := dk_27 (dk_at dksX0_such_1 13 rfl rfl)
theorem dX0_such_36 : decode cX0_such 36 = .ok (.invokevirtual 280, 3) := dk_182 1 24 (dk_at dksX0_such_1 14 rfl rfl)
theorem dX0_such_39 : decode cX0_such 39 = .ok (.astore 4, 2) := dk_58 4 (dk_at dksX0_such_1 17 rfl rfl)
theorem dX0_such_41 : decode cX0_such 41 = .ok (.aload_n 0, 1) := dk_42 (dk_at dksX0_such_1 19 rfl rfl)
theorem dX0_such_42 : decode cX0_such 42 = .ok (.getfield 216, 3) := dk_180 0 216 (dk_at dksX0_such_1 20 rfl rfl)
theorem dX0_such_45 : decode cX0_such 45 = .ok (.iload_n 1, 1) := dk_27 (dk_at dksX0_such_1 23 rfl rfl)
theorem dX0_such_46 : decode cX0_such 46 = .ok (.aaload, 1) := dk_50 (dk_at dksX0_such_2 0 rfl rfl)
theorem dX0_such_47 : decode cX0_such 47 = .ok (.iload_n 2, 1) := dk_28 (dk_at dksX0_such_2 1 rfl rfl)
theorem dX0_such_48 : decode cX0_such 48 = .ok (.aaload, 1) := dk_50 (dk_at dksX0_such_2 2 rfl rfl)
theorem dX0_such_49 : decode cX0_such 49 = .ok (.ifnonnull 60, 3) := dk_199 0 60 (dk_at dksX0_such_2 3 rfl rfl)
theorem dX0_such_52 : decode cX0_such 52 = .ok (.aload_n 0, 1) := dk_42 (dk_at dksX0_such_2 6 rfl rfl)
theorem dX0_such_53 : decode cX0_such 53 = .ok (.getfield 216, 3) := dk_180 0 216 (dk_at dksX0_such_2 7 rfl rfl)
theorem dX0_such_56 : decode cX0_such 56 = .ok (.iload_n 1, 1) := dk_27 (dk_at dksX0_such_2 10 rfl rfl)
theorem dX0_such_57 : decode cX0_such 57 = .ok (.aaload, 1) := dk_50 (dk_at dksX0_such_2 11 rfl rfl)
theorem dX0_such_58 : decode cX0_such 58 = .ok (.iload_n 2, 1) := dk_28 (dk_at dksX0_such_2 12 rfl rfl)
theorem dX0_such_59 : decode cX0_such 59 = .ok (.aload 4, 2) := dk_25 4 (dk_at dksX0_such_2 13 rfl rfl)
theorem dX0_such_61 : decode cX0_such 61 = .ok (.arraylength, 1) := dk_190 (dk_at dksX0_such_2 15 rfl rfl)
theorem dX0_such_62 : decode cX0_such 62 = .ok (.newarray .int, 2) := dk_188_10 (dk_at dksX0_such_2 16 rfl rfl)
theorem dX0_such_64 : decode cX0_such 64 = .ok (.aastore, 1) := dk_83 (dk_at dksX0_such_2 18 rfl rfl)
theorem dX0_such_65 : decode cX0_such 65 = .ok (.iconst 0, 1) := dk_3 (dk_at dksX0_such_2 19 rfl rfl)
theorem dX0_such_66 : decode cX0_such 66 = .ok (.istore 5, 2) := dk_54 5 (dk_at dksX0_such_2 20 rfl rfl)
theorem dX0_such_68 : decode cX0_such 68 = .ok (.iload 5, 2) := dk_21 5 (dk_at dksX0_such_2 22 rfl rfl)
theorem dX0_such_70 : decode cX0_such 70 = .ok (.aload 4, 2) := dk_25 4 (dk_at dksX0_such_3 0 rfl rfl)
theorem dX0_such_72 : decode cX0_such 72 = .ok (.arraylength, 1) := dk_190 (dk_at dksX0_such_3 2 rfl rfl)
theorem dX0_such_73 : decode cX0_such 73 = .ok (.if_icmp .ge 36, 3) := dk_162 0 36 (dk_at dksX0_such_3 3 rfl rfl)
theorem dX0_such_76 : decode cX0_such 76 = .ok (.aload_n 0, 1) := dk_42 (dk_at dksX0_such_3 6 rfl rfl)
theorem dX0_such_77 : decode cX0_such 77 = .ok (.getfield 216, 3) := dk_180 0 216 (dk_at dksX0_such_3 7 rfl rfl)
theorem dX0_such_80 : decode cX0_such 80 = .ok (.iload_n 1, 1) := dk_27 (dk_at dksX0_such_3 10 rfl rfl)
theorem dX0_such_81 : decode cX0_such 81 = .ok (.aaload, 1) := dk_50 (dk_at dksX0_such_3 11 rfl rfl)
theorem dX0_such_82 : decode cX0_such 82 = .ok (.iload_n 2, 1) := dk_28 (dk_at dksX0_such_3 12 rfl rfl)
theorem dX0_such_83 : decode cX0_such 83 = .ok (.aaload, 1) := dk_50 (dk_at dksX0_such_3 13 rfl rfl)
theorem dX0_such_84 : decode cX0_such 84 = .ok (.iload 5, 2) := dk_21 5 (dk_at dksX0_such_3 14 rfl rfl)
theorem dX0_such_86 : decode cX0_such 86 = .ok (.invokestatic 210, 3) := dk_184 0 210 (dk_at dksX0_such_3 16 rfl rfl)
theorem dX0_such_89 : decode cX0_such 89 = .ok (.iload_n 2, 1) := dk_28 (dk_at dksX0_such_3 19 rfl rfl)
theorem dX0_such_90 : decode cX0_such 90 = .ok (.aaload, 1) := dk_50 (dk_at dksX0_such_3 20 rfl rfl)
theorem dX0_such_91 : decode cX0_such 91 = .ok (.aload 4, 2) := dk_25 4 (dk_at dksX0_such_3 21 rfl rfl)
theorem dX0_such_93 : decode cX0_such 93 = .ok (.iload 5, 2) := dk_21 5 (dk_at dksX0_such_4 0 rfl rfl)
theorem dX0_such_95 : decode cX0_such 95 = .ok (.aaload, 1) := dk_50 (dk_at dksX0_such_4 2 rfl rfl)
theorem dX0_such_96 : decode cX0_such 96 = .ok (.invokestatic 287, 3) := dk_184 1 31 (dk_at dksX0_such_4 3 rfl rfl)
theorem dX0_such_99 : decode cX0_such 99 = .ok (.invokevirtual 337, 3) := dk_182 1 81 (dk_at dksX0_such_4 6 rfl rfl)
theorem dX0_such_102 : decode cX0_such 102 = .ok (.iastore, 1) := dk_79 (dk_at dksX0_such_4 9 rfl rfl)
theorem dX0_such_103 : decode cX0_such 103 = .ok (.iinc 5 1, 3) := dk_132 5 1 (dk_at dksX0_such_4 10 rfl rfl)
theorem dX0_such_106 : decode cX0_such 106 = .ok (.goto (-38), 3) := dk_167 255 218 (dk_at dksX0_such_4 13 rfl rfl)
theorem dX0_such_109 : decode cX0_such 109 = .ok (.iconst 0, 1) := dk_3 (dk_at dksX0_such_4 16 rfl rfl)
theorem dX0_such_110 : decode cX0_such 110 = .ok (.istore 5, 2) := dk_54 5 (dk_at dksX0_such_4 17 rfl rfl)
theorem dX0_such_112 : decode cX0_such 112 = .ok (.aload_n 0, 1) := dk_42 (dk_at dksX0_such_4 19 rfl rfl)
theorem dX0_such_113 : decode cX0_such 113 = .ok (.getfield 216, 3) := dk_180 0 216 (dk_at dksX0_such_4 20 rfl rfl)
theorem dX0_such_116 : decode cX0_such 116 = .ok (.iload_n 1, 1) := dk_27 (dk_at dksX0_such_4 23 rfl rfl)
theorem dX0_such_117 : decode cX0_such 117 = .ok (.aaload, 1) := dk_50 (dk_at dksX0_such_5 0 rfl rfl)
theorem dX0_such_118 : decode cX0_such 118 = .ok (.iload_n 2, 1) := dk_28 (dk_at dksX0_such_5 1 rfl rfl)
theorem dX0_such_119 : decode cX0_such 119 = .ok (.aaload, 1) := dk_50 (dk_at dksX0_such_5 2 rfl rfl)
theorem dX0_such_120 : decode cX0_such 120 = .ok (.astore 6, 2) := dk_58 6 (dk_at dksX0_such_5 3 rfl rfl)
theorem dX0_such_122 : decode cX0_such 122 = .ok (.aload 6, 2) := dk_25 6 (dk_at dksX0_such_5 5 rfl rfl)
theorem dX0_such_124 : decode cX0_such 124 = .ok (.arraylength, 1) := dk_190 (dk_at dksX0_such_5 7 rfl rfl)
theorem dX0_such_125 : decode cX0_such 125 = .ok (.istore 7, 2) := dk_54 7 (dk_at dksX0_such_5 8 rfl rfl)
theorem dX0_such_127 : decode cX0_such 127 = .ok (.iconst 0, 1) := dk_3 (dk_at dksX0_such_5 10 rfl rfl)
theorem dX0_such_128 : decode cX0_such 128 = .ok (.istore 8, 2) := dk_54 8 (dk_at dksX0_such_5 11 rfl rfl)
theorem dX0_such_130 : decode cX0_such 130 = .ok (.iload 8, 2) := dk_21 8 (dk_at dksX0_such_5 13 rfl rfl)
theorem dX0_such_132 : decode cX0_such 132 = .ok (.iload 7, 2) := dk_21 7 (dk_at dksX0_such_5 15 rfl rfl)
theorem dX0_such_134 : decode cX0_such 134 = .ok (.if_icmp .ge 35, 3) := dk_162 0 35 (dk_at dksX0_such_5 17 rfl rfl)
theorem dX0_such_137 : decode cX0_such 137 = .ok (.aload 6, 2) := dk_25 6 (dk_at dksX0_such_5 20 rfl rfl)
theorem dX0_such_139 : decode cX0_such 139 = .ok (.iload 8, 2) := dk_21 8 (dk_at dksX0_such_5 22 rfl rfl)
theorem dX0_such_141 : decode cX0_such 141 = .ok (.iaload, 1) := dk_46 (dk_at dksX0_such_6 0 rfl rfl)
theorem dX0_such_142 : decode cX0_such 142 = .ok (.istore 9, 2) := dk_54 9 (dk_at dksX0_such_6 1 rfl rfl)
theorem dX0_such_144 : decode cX0_such 144 = .ok (.iload 5, 2) := dk_21 5 (dk_at dksX0_such_6 3 rfl rfl)
theorem dX0_such_146 : decode cX0_such 146 = .ok (.iload 9, 2) := dk_21 9 (dk_at dksX0_such_6 5 rfl rfl)
theorem dX0_such_148 : decode cX0_such 148 = .ok (.iload_n 3, 1) := dk_29 (dk_at dksX0_such_6 7 rfl rfl)
theorem dX0_such_149 : decode cX0_such 149 = .ok (.if_icmp .ne 7, 3) := dk_160 0 7 (dk_at dksX0_such_6 8 rfl rfl)
theorem dX0_such_152 : decode cX0_such 152 = .ok (.iconst 1, 1) := dk_4 (dk_at dksX0_such_6 11 rfl rfl)
theorem dX0_such_153 : decode cX0_such 153 = .ok (.goto 4, 3) := dk_167 0 4 (dk_at dksX0_such_6 12 rfl rfl)
theorem dX0_such_156 : decode cX0_such 156 = .ok (.iconst 0, 1) := dk_3 (dk_at dksX0_such_6 15 rfl rfl)
theorem dX0_such_157 : decode cX0_such 157 = .ok (.invokestatic 323, 3) := dk_184 1 67 (dk_at dksX0_such_6 16 rfl rfl)
theorem dX0_such_160 : decode cX0_such 160 = .ok (.iadd, 1) := dk_96 (dk_at dksX0_such_6 19 rfl rfl)
theorem dX0_such_161 : decode cX0_such 161 = .ok (.istore 5, 2) := dk_54 5 (dk_at dksX0_such_6 20 rfl rfl)
theorem dX0_such_163 : decode cX0_such 163 = .ok (.iinc 8 1, 3) := dk_132 8 1 (dk_at dksX0_such_7 0 rfl rfl)
theorem dX0_such_166 : decode cX0_such 166 = .ok (.goto (-36), 3) := dk_167 255 220 (dk_at dksX0_such_7 3 rfl rfl)
theorem dX0_such_169 : decode cX0_such 169 = .ok (.iload 5, 2) := dk_21 5 (dk_at dksX0_such_7 6 rfl rfl)
theorem dX0_such_171 : decode cX0_such 171 = .ok (.ireturn, 1) := dk_172 (dk_at dksX0_such_7 8 rfl rfl)
abbrev cX0_about : ByteArray := prog_1_method_39_code
def yX0_about : MethodName := ⟨RX0, "about", "(II)I"⟩
def dkwX0_about_7 : List UInt8 := [172]
abbrev dktX0_about_7 : List UInt8 := dkwX0_about_7 ++ []
def dkwX0_about_6 : List UInt8 := [167, 0, 24, 21, 4, 167, 0, 19, 21, 5, 167, 0, 14, 7, 42, 180, 0, 195, 180, 1, 45, 27, 46, 100]
abbrev dktX0_about_6 : List UInt8 := dkwX0_about_6 ++ dktX0_about_7
def dkwX0_about_5 : List UInt8 := [42, 180, 0, 195, 182, 1, 86, 27, 46, 167, 0, 38, 42, 180, 0, 195, 27, 182, 1, 89, 184, 1, 67]
abbrev dktX0_about_5 : List UInt8 := dkwX0_about_5 ++ dktX0_about_6
def dkwX0_about_4 : List UInt8 := [170, 0, 0, 0, 0, 0, 67, 0, 0, 0, 0, 0, 0, 0, 3, 0, 0, 0, 31, 0, 0, 0, 43, 0, 0, 0, 57, 0, 0, 0, 62]
abbrev dktX0_about_4 : List UInt8 := dkwX0_about_4 ++ dktX0_about_5
def dkwX0_about_3 : List UInt8 := [54, 4, 21, 5, 21, 9, 96, 54, 5, 132, 8, 1, 167, 255, 223, 28]
abbrev dktX0_about_3 : List UInt8 := dkwX0_about_3 ++ dktX0_about_4
def dkwX0_about_2 : List UInt8 := [54, 8, 21, 8, 21, 7, 162, 0, 32, 25, 6, 21, 8, 46, 54, 9, 21, 4, 21, 9, 184, 1, 83]
abbrev dktX0_about_2 : List UInt8 := dkwX0_about_2 ++ dktX0_about_3
def dkwX0_about_1 : List UInt8 := [180, 0, 195, 27, 182, 1, 74, 78, 3, 54, 4, 3, 54, 5, 45, 58, 6, 25, 6, 190, 54, 7, 3]
abbrev dktX0_about_1 : List UInt8 := dkwX0_about_1 ++ dktX0_about_2
def dkwX0_about_0 : List UInt8 := [42, 27, 182, 0, 239, 153, 0, 15, 28, 133, 9, 20, 0, 159, 184, 0, 155, 154, 0, 5, 2, 172, 42]
abbrev dktX0_about_0 : List UInt8 := dkwX0_about_0 ++ dktX0_about_1
theorem dksX0_about_0 : cX0_about.data.toList.drop 0 = dktX0_about_0 := by decide +kernel
theorem dksX0_about_1 : cX0_about.data.toList.drop 23 = dktX0_about_1 := dk_seg dksX0_about_0 23 rfl rfl
theorem dksX0_about_2 : cX0_about.data.toList.drop 46 = dktX0_about_2 := dk_seg dksX0_about_1 23 rfl rfl
theorem dksX0_about_3 : cX0_about.data.toList.drop 69 = dktX0_about_3 := dk_seg dksX0_about_2 23 rfl rfl
theorem dksX0_about_4 : cX0_about.data.toList.drop 85 = dktX0_about_4 := dk_seg dksX0_about_3 16 rfl rfl
theorem dksX0_about_5 : cX0_about.data.toList.drop 116 = dktX0_about_5 := dk_seg dksX0_about_4 31 rfl rfl
theorem dksX0_about_6 : cX0_about.data.toList.drop 139 = dktX0_about_6 := dk_seg dksX0_about_5 23 rfl rfl
theorem dksX0_about_7 : cX0_about.data.toList.drop 163 = dktX0_about_7 := dk_seg dksX0_about_6 24 rfl rfl
theorem dX0_about_0 : decode cX0_about 0 = .ok (.aload_n 0, 1) := dk_42 (dk_at dksX0_about_0 0 rfl rfl)
theorem dX0_about_1 : decode cX0_about 1 = .ok (.iload_n 1, 1) := dk_27 (dk_at dksX0_about_0 1 rfl rfl)
theorem dX0_about_2 : decode cX0_about 2 = .ok (.invokevirtual 239, 3) := dk_182 0 239 (dk_at dksX0_about_0 2 rfl rfl)
theorem dX0_about_5 : decode cX0_about 5 = .ok (.ifCond .eq 15, 3) := dk_153 0 15 (dk_at dksX0_about_0 5 rfl rfl)
theorem dX0_about_8 : decode cX0_about 8 = .ok (.iload_n 2, 1) := dk_28 (dk_at dksX0_about_0 8 rfl rfl)
theorem dX0_about_9 : decode cX0_about 9 = .ok (.i2l, 1) := dk_133 (dk_at dksX0_about_0 9 rfl rfl)
theorem dX0_about_10 : decode cX0_about 10 = .ok (.lconst 0, 1) := dk_9 (dk_at dksX0_about_0 10 rfl rfl)
theorem dX0_about_11 : decode cX0_about 11 = .ok (.ldc2_w 159, 3) := dk_20 0 159 (dk_at dksX0_about_0 11 rfl rfl)
theorem dX0_about_14 : decode cX0_about 14 = .ok (.invokestatic 155, 3) := dk_184 0 155 (dk_at dksX0_about_0 14 rfl rfl)
theorem dX0_about_17 : decode cX0_about 17 = .ok (.ifCond .ne 5, 3) := dk_154 0 5 (dk_at dksX0_about_0 17 rfl rfl)
theorem dX0_about_20 : decode cX0_about 20 = .ok (.iconst (-1), 1) := dk_2 (dk_at dksX0_about_0 20 rfl rfl)
theorem dX0_about_21 : decode cX0_about 21 = .ok (.ireturn, 1) := dk_172 (dk_at dksX0_about_0 21 rfl rfl)
theorem dX0_about_22 : decode cX0_about 22 = .ok (.aload_n 0, 1) := dk_42 (dk_at dksX0_about_0 22 rfl rfl)
theorem dX0_about_23 : decode cX0_about 23 = .ok (.getfield 195, 3) := dk_180 0 195 (dk_at dksX0_about_1 0 rfl rfl)
theorem dX0_about_26 : decode cX0_about 26 = .ok (.iload_n 1, 1) := dk_27 (dk_at dksX0_about_1 3 rfl rfl)
theorem dX0_about_27 : decode cX0_about 27 = .ok (.invokevirtual 330, 3) := dk_182 1 74 (dk_at dksX0_about_1 4 rfl rfl)
theorem dX0_about_30 : decode cX0_about 30 = .ok (.astore_n 3, 1) := dk_78 (dk_at dksX0_about_1 7 rfl rfl)
theorem dX0_about_31 : decode cX0_about 31 = .ok (.iconst 0, 1) := dk_3 (dk_at dksX0_about_1 8 rfl rfl)
theorem dX0_about_32 : decode cX0_about 32 = .ok (.istore 4, 2) := dk_54 4 (dk_at dksX0_about_1 9 rfl rfl)
theorem dX0_about_34 : decode cX0_about 34 = .ok (.iconst 0, 1) := dk_3 (dk_at dksX0_about_1 11 rfl rfl)
theorem dX0_about_35 : decode cX0_about 35 = .ok (.istore 5, 2) := dk_54 5 (dk_at dksX0_about_1 12 rfl rfl)
theorem dX0_about_37 : decode cX0_about 37 = .ok (.aload_n 3, 1) := dk_45 (dk_at dksX0_about_1 14 rfl rfl)
theorem dX0_about_38 : decode cX0_about 38 = .ok (.astore 6, 2) := dk_58 6 (dk_at dksX0_about_1 15 rfl rfl)
theorem dX0_about_40 : decode cX0_about 40 = .ok (.aload 6, 2) := dk_25 6 (dk_at dksX0_about_1 17 rfl rfl)
theorem dX0_about_42 : decode cX0_about 42 = .ok (.arraylength, 1) := dk_190 (dk_at dksX0_about_1 19 rfl rfl)
theorem dX0_about_43 : decode cX0_about 43 = .ok (.istore 7, 2) := dk_54 7 (dk_at dksX0_about_1 20 rfl rfl)
theorem dX0_about_45 : decode cX0_about 45 = .ok (.iconst 0, 1) := dk_3 (dk_at dksX0_about_1 22 rfl rfl)
theorem dX0_about_46 : decode cX0_about 46 = .ok (.istore 8, 2) := dk_54 8 (dk_at dksX0_about_2 0 rfl rfl)
theorem dX0_about_48 : decode cX0_about 48 = .ok (.iload 8, 2) := dk_21 8 (dk_at dksX0_about_2 2 rfl rfl)
theorem dX0_about_50 : decode cX0_about 50 = .ok (.iload 7, 2) := dk_21 7 (dk_at dksX0_about_2 4 rfl rfl)
theorem dX0_about_52 : decode cX0_about 52 = .ok (.if_icmp .ge 32, 3) := dk_162 0 32 (dk_at dksX0_about_2 6 rfl rfl)
theorem dX0_about_55 : decode cX0_about 55 = .ok (.aload 6, 2) := dk_25 6 (dk_at dksX0_about_2 9 rfl rfl)
theorem dX0_about_57 : decode cX0_about 57 = .ok (.iload 8, 2) := dk_21 8 (dk_at dksX0_about_2 11 rfl rfl)
theorem dX0_about_59 : decode cX0_about 59 = .ok (.iaload, 1) := dk_46 (dk_at dksX0_about_2 13 rfl rfl)
theorem dX0_about_60 : decode cX0_about 60 = .ok (.istore 9, 2) := dk_54 9 (dk_at dksX0_about_2 14 rfl rfl)
theorem dX0_about_62 : decode cX0_about 62 = .ok (.iload 4, 2) := dk_21 4 (dk_at dksX0_about_2 16 rfl rfl)
theorem dX0_about_64 : decode cX0_about 64 = .ok (.iload 9, 2) := dk_21 9 (dk_at dksX0_about_2 18 rfl rfl)
theorem dX0_about_66 : decode cX0_about 66 = .ok (.invokestatic 339, 3) := dk_184 1 83 (dk_at dksX0_about_2 20 rfl rfl)
theorem dX0_about_69 : decode cX0_about 69 = .ok (.istore 4, 2) := dk_54 4 (dk_at dksX0_about_3 0 rfl rfl)
theorem dX0_about_71 : decode cX0_about 71 = .ok (.iload 5, 2) := dk_21 5 (dk_at dksX0_about_3 2 rfl rfl)
theorem dX0_about_73 : decode cX0_about 73 = .ok (.iload 9, 2) := dk_21 9 (dk_at dksX0_about_3 4 rfl rfl)
theorem dX0_about_75 : decode cX0_about 75 = .ok (.iadd, 1) := dk_96 (dk_at dksX0_about_3 6 rfl rfl)
theorem dX0_about_76 : decode cX0_about 76 = .ok (.istore 5, 2) := dk_54 5 (dk_at dksX0_about_3 7 rfl rfl)
theorem dX0_about_78 : decode cX0_about 78 = .ok (.iinc 8 1, 3) := dk_132 8 1 (dk_at dksX0_about_3 9 rfl rfl)
theorem dX0_about_81 : decode cX0_about 81 = .ok (.goto (-33), 3) := dk_167 255 223 (dk_at dksX0_about_3 12 rfl rfl)
theorem dX0_about_84 : decode cX0_about 84 = .ok (.iload_n 2, 1) := dk_28 (dk_at dksX0_about_3 15 rfl rfl)
theorem dX0_about_85 : decode cX0_about 85 = .ok (.tableswitch 67 0 3 #[31, 43, 57, 62], 31) := by decide +kernel
theorem dX0_about_116 : decode cX0_about 116 = .ok (.aload_n 0, 1) := dk_42 (dk_at dksX0_about_5 0 rfl rfl)
theorem dX0_about_117 : decode cX0_about 117 = .ok (.getfield 195, 3) := dk_180 0 195 (dk_at dksX0_about_5 1 rfl rfl)
theorem dX0_about_120 : decode cX0_about 120 = .ok (.invokevirtual 342, 3) := dk_182 1 86 (dk_at dksX0_about_5 4 rfl rfl)
theorem dX0_about_123 : decode cX0_about 123 = .ok (.iload_n 1, 1) := dk_27 (dk_at dksX0_about_5 7 rfl rfl)
theorem dX0_about_124 : decode cX0_about 124 = .ok (.iaload, 1) := dk_46 (dk_at dksX0_about_5 8 rfl rfl)
theorem dX0_about_125 : decode cX0_about 125 = .ok (.goto 38, 3) := dk_167 0 38 (dk_at dksX0_about_5 9 rfl rfl)
theorem dX0_about_128 : decode cX0_about 128 = .ok (.aload_n 0, 1) := dk_42 (dk_at dksX0_about_5 12 rfl rfl)
theorem dX0_about_129 : decode cX0_about 129 = .ok (.getfield 195, 3) := dk_180 0 195 (dk_at dksX0_about_5 13 rfl rfl)
theorem dX0_about_132 : decode cX0_about 132 = .ok (.iload_n 1, 1) := dk_27 (dk_at dksX0_about_5 16 rfl rfl)
theorem dX0_about_133 : decode cX0_about 133 = .ok (.invokevirtual 345, 3) := dk_182 1 89 (dk_at dksX0_about_5 17 rfl rfl)
theorem dX0_about_136 : decode cX0_about 136 = .ok (.invokestatic 323, 3) := dk_184 1 67 (dk_at dksX0_about_5 20 rfl rfl)
theorem dX0_about_139 : decode cX0_about 139 = .ok (.goto 24, 3) := dk_167 0 24 (dk_at dksX0_about_6 0 rfl rfl)
theorem dX0_about_142 : decode cX0_about 142 = .ok (.iload 4, 2) := dk_21 4 (dk_at dksX0_about_6 3 rfl rfl)
theorem dX0_about_144 : decode cX0_about 144 = .ok (.goto 19, 3) := dk_167 0 19 (dk_at dksX0_about_6 5 rfl rfl)
theorem dX0_about_147 : decode cX0_about 147 = .ok (.iload 5, 2) := dk_21 5 (dk_at dksX0_about_6 8 rfl rfl)
theorem dX0_about_149 : decode cX0_about 149 = .ok (.goto 14, 3) := dk_167 0 14 (dk_at dksX0_about_6 10 rfl rfl)
theorem dX0_about_152 : decode cX0_about 152 = .ok (.iconst 4, 1) := dk_7 (dk_at dksX0_about_6 13 rfl rfl)
theorem dX0_about_153 : decode cX0_about 153 = .ok (.aload_n 0, 1) := dk_42 (dk_at dksX0_about_6 14 rfl rfl)
theorem dX0_about_154 : decode cX0_about 154 = .ok (.getfield 195, 3) := dk_180 0 195 (dk_at dksX0_about_6 15 rfl rfl)
theorem dX0_about_157 : decode cX0_about 157 = .ok (.getfield 301, 3) := dk_180 1 45 (dk_at dksX0_about_6 18 rfl rfl)
theorem dX0_about_160 : decode cX0_about 160 = .ok (.iload_n 1, 1) := dk_27 (dk_at dksX0_about_6 21 rfl rfl)
theorem dX0_about_161 : decode cX0_about 161 = .ok (.iaload, 1) := dk_46 (dk_at dksX0_about_6 22 rfl rfl)
theorem dX0_about_162 : decode cX0_about 162 = .ok (.isub, 1) := dk_100 (dk_at dksX0_about_6 23 rfl rfl)
theorem dX0_about_163 : decode cX0_about 163 = .ok (.ireturn, 1) := dk_172 (dk_at dksX0_about_7 0 rfl rfl)
abbrev cX0_branch : ByteArray := prog_1_method_40_code
def yX0_branch : MethodName := ⟨RX0, "branch", "(III)J"⟩
def dkwX0_branch_4 : List UInt8 := [167, 0, 8, 25, 4, 180, 1, 103, 173]
abbrev dktX0_branch_4 : List UInt8 := dkwX0_branch_4 ++ []
def dkwX0_branch_3 : List UInt8 := [25, 4, 180, 1, 96, 133, 167, 0, 25, 25, 4, 180, 1, 97, 133, 167, 0, 16, 25, 4, 180, 1, 100]
abbrev dktX0_branch_3 : List UInt8 := dkwX0_branch_3 ++ dktX0_branch_4
def dkwX0_branch_2 : List UInt8 := [170, 0, 0, 0, 0, 0, 53, 0, 0, 0, 0, 0, 0, 0, 2, 0, 0, 0, 27, 0, 0, 0, 36, 0, 0, 0, 45]
abbrev dktX0_branch_2 : List UInt8 := dkwX0_branch_2 ++ dktX0_branch_3
def dkwX0_branch_1 : List UInt8 := [173, 42, 180, 0, 195, 28, 27, 182, 1, 92, 58, 4, 29]
abbrev dktX0_branch_1 : List UInt8 := dkwX0_branch_1 ++ dktX0_branch_2
def dkwX0_branch_0 : List UInt8 := [42, 27, 28, 182, 1, 56, 153, 0, 15, 29, 133, 9, 20, 0, 141, 184, 0, 155, 154, 0, 7, 20, 0, 161]
abbrev dktX0_branch_0 : List UInt8 := dkwX0_branch_0 ++ dktX0_branch_1
theorem dksX0_branch_0 : cX0_branch.data.toList.drop 0 = dktX0_branch_0 := by decide +kernel
theorem dksX0_branch_1 : cX0_branch.data.toList.drop 24 = dktX0_branch_1 := dk_seg dksX0_branch_0 24 rfl rfl
theorem dksX0_branch_2 : cX0_branch.data.toList.drop 37 = dktX0_branch_2 := dk_seg dksX0_branch_1 13 rfl rfl
theorem dksX0_branch_3 : cX0_branch.data.toList.drop 64 = dktX0_branch_3 := dk_seg dksX0_branch_2 27 rfl rfl
theorem dksX0_branch_4 : cX0_branch.data.toList.drop 87 = dktX0_branch_4 := dk_seg dksX0_branch_3 23 rfl rfl
theorem dX0_branch_0 : decode cX0_branch 0 = .ok (.aload_n 0, 1) := dk_42 (dk_at dksX0_branch_0 0 rfl rfl)
theorem dX0_branch_1 : decode cX0_branch 1 = .ok (.iload_n 1, 1) := dk_27 (dk_at dksX0_branch_0 1 rfl rfl)
theorem dX0_branch_2 : decode cX0_branch 2 = .ok (.iload_n 2, 1) := dk_28 (dk_at dksX0_branch_0 2 rfl rfl)
theorem dX0_branch_3 : decode cX0_branch 3 = .ok (.invokevirtual 312, 3) := dk_182 1 56 (dk_at dksX0_branch_0 3 rfl rfl)
theorem dX0_branch_6 : decode cX0_branch 6 = .ok (.ifCond .eq 15, 3) := dk_153 0 15 (dk_at dksX0_branch_0 6 rfl rfl)
theorem dX0_branch_9 : decode cX0_branch 9 = .ok (.iload_n 3, 1) := dk_29 (dk_at dksX0_branch_0 9 rfl rfl)
theorem dX0_branch_10 : decode cX0_branch 10 = .ok (.i2l, 1) := dk_133 (dk_at dksX0_branch_0 10 rfl rfl)
theorem dX0_branch_11 : decode cX0_branch 11 = .ok (.lconst 0, 1) := dk_9 (dk_at dksX0_branch_0 11 rfl rfl)
theorem dX0_branch_12 : decode cX0_branch 12 = .ok (.ldc2_w 141, 3) := dk_20 0 141 (dk_at dksX0_branch_0 12 rfl rfl)
theorem dX0_branch_15 : decode cX0_branch 15 = .ok (.invokestatic 155, 3) := dk_184 0 155 (dk_at dksX0_branch_0 15 rfl rfl)
theorem dX0_branch_18 : decode cX0_branch 18 = .ok (.ifCond .ne 7, 3) := dk_154 0 7 (dk_at dksX0_branch_0 18 rfl rfl)
theorem dX0_branch_21 : decode cX0_branch 21 = .ok (.ldc2_w 161, 3) := dk_20 0 161 (dk_at dksX0_branch_0 21 rfl rfl)
theorem dX0_branch_24 : decode cX0_branch 24 = .ok (.lreturn, 1) := dk_173 (dk_at dksX0_branch_1 0 rfl rfl)
theorem dX0_branch_25 : decode cX0_branch 25 = .ok (.aload_n 0, 1) := dk_42 (dk_at dksX0_branch_1 1 rfl rfl)
theorem dX0_branch_26 : decode cX0_branch 26 = .ok (.getfield 195, 3) := dk_180 0 195 (dk_at dksX0_branch_1 2 rfl rfl)
theorem dX0_branch_29 : decode cX0_branch 29 = .ok (.iload_n 2, 1) := dk_28 (dk_at dksX0_branch_1 5 rfl rfl)
theorem dX0_branch_30 : decode cX0_branch 30 = .ok (.iload_n 1, 1) := dk_27 (dk_at dksX0_branch_1 6 rfl rfl)
theorem dX0_branch_31 : decode cX0_branch 31 = .ok (.invokevirtual 348, 3) := dk_182 1 92 (dk_at dksX0_branch_1 7 rfl rfl)
theorem dX0_branch_34 : decode cX0_branch 34 = .ok (.astore 4, 2) := dk_58 4 (dk_at dksX0_branch_1 10 rfl rfl)
theorem dX0_branch_36 : decode cX0_branch 36 = .ok (.iload_n 3, 1) := dk_29 (dk_at dksX0_branch_1 12 rfl rfl)
theorem dX0_branch_37 : decode cX0_branch 37 = .ok (.tableswitch 53 0 2 #[27, 36, 45], 27) := by decide +kernel
theorem dX0_branch_64 : decode cX0_branch 64 = .ok (.aload 4, 2) := dk_25 4 (dk_at dksX0_branch_3 0 rfl rfl)
theorem dX0_branch_66 : decode cX0_branch 66 = .ok (.getfield 352, 3) := dk_180 1 96 (dk_at dksX0_branch_3 2 rfl rfl)
theorem dX0_branch_69 : decode cX0_branch 69 = .ok (.i2l, 1) := dk_133 (dk_at dksX0_branch_3 5 rfl rfl)
theorem dX0_branch_70 : decode cX0_branch 70 = .ok (.goto 25, 3) := dk_167 0 25 (dk_at dksX0_branch_3 6 rfl rfl)
theorem dX0_branch_73 : decode cX0_branch 73 = .ok (.aload 4, 2) := dk_25 4 (dk_at dksX0_branch_3 9 rfl rfl)
theorem dX0_branch_75 : decode cX0_branch 75 = .ok (.getfield 353, 3) := dk_180 1 97 (dk_at dksX0_branch_3 11 rfl rfl)
theorem dX0_branch_78 : decode cX0_branch 78 = .ok (.i2l, 1) := dk_133 (dk_at dksX0_branch_3 14 rfl rfl)
theorem dX0_branch_79 : decode cX0_branch 79 = .ok (.goto 16, 3) := dk_167 0 16 (dk_at dksX0_branch_3 15 rfl rfl)
theorem dX0_branch_82 : decode cX0_branch 82 = .ok (.aload 4, 2) := dk_25 4 (dk_at dksX0_branch_3 18 rfl rfl)
theorem dX0_branch_84 : decode cX0_branch 84 = .ok (.getfield 356, 3) := dk_180 1 100 (dk_at dksX0_branch_3 20 rfl rfl)
theorem dX0_branch_87 : decode cX0_branch 87 = .ok (.goto 8, 3) := dk_167 0 8 (dk_at dksX0_branch_4 0 rfl rfl)
theorem dX0_branch_90 : decode cX0_branch 90 = .ok (.aload 4, 2) := dk_25 4 (dk_at dksX0_branch_4 3 rfl rfl)
theorem dX0_branch_92 : decode cX0_branch 92 = .ok (.getfield 359, 3) := dk_180 1 103 (dk_at dksX0_branch_4 5 rfl rfl)
theorem dX0_branch_95 : decode cX0_branch 95 = .ok (.lreturn, 1) := dk_173 (dk_at dksX0_branch_4 8 rfl rfl)
abbrev cX0_greater : ByteArray := prog_1_method_41_code
def yX0_greater : MethodName := ⟨RX0, "greater", "(III)I"⟩
def dkwX0_greater_2 : List UInt8 := [184, 1, 105, 172]
abbrev dktX0_greater_2 : List UInt8 := dkwX0_greater_2 ++ []
def dkwX0_greater_1 : List UInt8 := [16, 254, 172, 42, 180, 0, 195, 28, 27, 182, 1, 92, 42, 180, 0, 195, 29, 27, 182, 1, 92, 182, 0, 64]
abbrev dktX0_greater_1 : List UInt8 := dkwX0_greater_1 ++ dktX0_greater_2
def dkwX0_greater_0 : List UInt8 := [42, 27, 28, 182, 1, 56, 153, 0, 17, 42, 27, 29, 182, 1, 56, 153, 0, 8, 28, 29, 160, 0, 6]
abbrev dktX0_greater_0 : List UInt8 := dkwX0_greater_0 ++ dktX0_greater_1
theorem dksX0_greater_0 : cX0_greater.data.toList.drop 0 = dktX0_greater_0 := by decide +kernel
theorem dksX0_greater_1 : cX0_greater.data.toList.drop 23 = dktX0_greater_1 := dk_seg dksX0_greater_0 23 rfl rfl
theorem dksX0_greater_2 : cX0_greater.data.toList.drop 47 = dktX0_greater_2 := dk_seg dksX0_greater_1 24 rfl rfl
theorem dX0_greater_0 : decode cX0_greater 0 = .ok (.aload_n 0, 1) := dk_42 (dk_at dksX0_greater_0 0 rfl rfl)
theorem dX0_greater_1 : decode cX0_greater 1 = .ok (.iload_n 1, 1) := dk_27 (dk_at dksX0_greater_0 1 rfl rfl)
theorem dX0_greater_2 : decode cX0_greater 2 = .ok (.iload_n 2, 1) := dk_28 (dk_at dksX0_greater_0 2 rfl rfl)
theorem dX0_greater_3 : decode cX0_greater 3 = .ok (.invokevirtual 312, 3) := dk_182 1 56 (dk_at dksX0_greater_0 3 rfl rfl)
theorem dX0_greater_6 : decode cX0_greater 6 = .ok (.ifCond .eq 17, 3) := dk_153 0 17 (dk_at dksX0_greater_0 6 rfl rfl)
theorem dX0_greater_9 : decode cX0_greater 9 = .ok (.aload_n 0, 1) := dk_42 (dk_at dksX0_greater_0 9 rfl rfl)
theorem dX0_greater_10 : decode cX0_greater 10 = .ok (.iload_n 1, 1) := dk_27 (dk_at dksX0_greater_0 10 rfl rfl)
theorem dX0_greater_11 : decode cX0_greater 11 = .ok (.iload_n 3, 1) := dk_29 (dk_at dksX0_greater_0 11 rfl rfl)
theorem dX0_greater_12 : decode cX0_greater 12 = .ok (.invokevirtual 312, 3) := dk_182 1 56 (dk_at dksX0_greater_0 12 rfl rfl)
theorem dX0_greater_15 : decode cX0_greater 15 = .ok (.ifCond .eq 8, 3) := dk_153 0 8 (dk_at dksX0_greater_0 15 rfl rfl)
theorem dX0_greater_18 : decode cX0_greater 18 = .ok (.iload_n 2, 1) := dk_28 (dk_at dksX0_greater_0 18 rfl rfl)
theorem dX0_greater_19 : decode cX0_greater 19 = .ok (.iload_n 3, 1) := dk_29 (dk_at dksX0_greater_0 19 rfl rfl)
theorem dX0_greater_20 : decode cX0_greater 20 = .ok (.if_icmp .ne 6, 3) := dk_160 0 6 (dk_at dksX0_greater_0 20 rfl rfl)
theorem dX0_greater_23 : decode cX0_greater 23 = .ok (.bipush (-2), 2) := dk_16 254 (dk_at dksX0_greater_1 0 rfl rfl)
theorem dX0_greater_25 : decode cX0_greater 25 = .ok (.ireturn, 1) := dk_172 (dk_at dksX0_greater_1 2 rfl rfl)
theorem dX0_greater_26 : decode cX0_greater 26 = .ok (.aload_n 0, 1) := dk_42 (dk_at dksX0_greater_1 3 rfl rfl)
theorem dX0_greater_27 : decode cX0_greater 27 = .ok (.getfield 195, 3) := dk_180 0 195 (dk_at dksX0_greater_1 4 rfl rfl)
theorem dX0_greater_30 : decode cX0_greater 30 = .ok (.iload_n 2, 1) := dk_28 (dk_at dksX0_greater_1 7 rfl rfl)
theorem dX0_greater_31 : decode cX0_greater 31 = .ok (.iload_n 1, 1) := dk_27 (dk_at dksX0_greater_1 8 rfl rfl)
theorem dX0_greater_32 : decode cX0_greater 32 = .ok (.invokevirtual 348, 3) := dk_182 1 92 (dk_at dksX0_greater_1 9 rfl rfl)
theorem dX0_greater_35 : decode cX0_greater 35 = .ok (.aload_n 0, 1) := dk_42 (dk_at dksX0_greater_1 12 rfl rfl)
theorem dX0_greater_36 : decode cX0_greater 36 = .ok (.getfield 195, 3) := dk_180 0 195 (dk_at dksX0_greater_1 13 rfl rfl)
theorem dX0_greater_39 : decode cX0_greater 39 = .ok (.iload_n 3, 1) := dk_29 (dk_at dksX0_greater_1 16 rfl rfl)
theorem dX0_greater_40 : decode cX0_greater 40 = .ok (.iload_n 1, 1) := dk_27 (dk_at dksX0_greater_1 17 rfl rfl)
theorem dX0_greater_41 : decode cX0_greater 41 = .ok (.invokevirtual 348, 3) := dk_182 1 92 (dk_at dksX0_greater_1 18 rfl rfl)
theorem dX0_greater_44 : decode cX0_greater 44 = .ok (.invokevirtual 64, 3) := dk_182 0 64 (dk_at dksX0_greater_1 21 rfl rfl)
theorem dX0_greater_47 : decode cX0_greater 47 = .ok (.invokestatic 361, 3) := dk_184 1 105 (dk_at dksX0_greater_2 0 rfl rfl)
theorem dX0_greater_50 : decode cX0_greater 50 = .ok (.ireturn, 1) := dk_172 (dk_at dksX0_greater_2 3 rfl rfl)
abbrev cX0_forms : ByteArray := prog_1_method_42_code
def yX0_forms : MethodName := ⟨RX0, "forms", "(I)J"⟩
def dkwX0_forms_2 : List UInt8 := [167, 0, 21, 27, 4, 160, 0, 8, 22, 4, 167, 0, 11, 32, 22, 4, 101, 20, 0, 143, 109, 173]
abbrev dktX0_forms_2 : List UInt8 := dkwX0_forms_2 ++ []
def dkwX0_forms_1 : List UInt8 := [185, 1, 111, 1, 0, 65, 42, 182, 1, 62, 185, 1, 114, 1, 0, 55, 4, 27, 154, 0, 7, 32]
abbrev dktX0_forms_1 : List UInt8 := dkwX0_forms_1 ++ dktX0_forms_2
def dkwX0_forms_0 : List UInt8 := [27, 133, 9, 20, 0, 143, 184, 0, 155, 154, 0, 7, 20, 0, 161, 173, 42, 182, 1, 62]
abbrev dktX0_forms_0 : List UInt8 := dkwX0_forms_0 ++ dktX0_forms_1
theorem dksX0_forms_0 : cX0_forms.data.toList.drop 0 = dktX0_forms_0 := by decide +kernel
theorem dksX0_forms_1 : cX0_forms.data.toList.drop 20 = dktX0_forms_1 := dk_seg dksX0_forms_0 20 rfl rfl
theorem dksX0_forms_2 : cX0_forms.data.toList.drop 42 = dktX0_forms_2 := dk_seg dksX0_forms_1 22 rfl rfl
theorem dX0_forms_0 : decode cX0_forms 0 = .ok (.iload_n 1, 1) := dk_27 (dk_at dksX0_forms_0 0 rfl rfl)
theorem dX0_forms_1 : decode cX0_forms 1 = .ok (.i2l, 1) := dk_133 (dk_at dksX0_forms_0 1 rfl rfl)
theorem dX0_forms_2 : decode cX0_forms 2 = .ok (.lconst 0, 1) := dk_9 (dk_at dksX0_forms_0 2 rfl rfl)
theorem dX0_forms_3 : decode cX0_forms 3 = .ok (.ldc2_w 143, 3) := dk_20 0 143 (dk_at dksX0_forms_0 3 rfl rfl)
theorem dX0_forms_6 : decode cX0_forms 6 = .ok (.invokestatic 155, 3) := dk_184 0 155 (dk_at dksX0_forms_0 6 rfl rfl)
theorem dX0_forms_9 : decode cX0_forms 9 = .ok (.ifCond .ne 7, 3) := dk_154 0 7 (dk_at dksX0_forms_0 9 rfl rfl)
theorem dX0_forms_12 : decode cX0_forms 12 = .ok (.ldc2_w 161, 3) := dk_20 0 161 (dk_at dksX0_forms_0 12 rfl rfl)
theorem dX0_forms_15 : decode cX0_forms 15 = .ok (.lreturn, 1) := dk_173 (dk_at dksX0_forms_0 15 rfl rfl)
theorem dX0_forms_16 : decode cX0_forms 16 = .ok (.aload_n 0, 1) := dk_42 (dk_at dksX0_forms_0 16 rfl rfl)
theorem dX0_forms_17 : decode cX0_forms 17 = .ok (.invokevirtual 318, 3) := dk_182 1 62 (dk_at dksX0_forms_0 17 rfl rfl)
theorem dX0_forms_20 : decode cX0_forms 20 = .ok (.invokeinterface 367 1, 5) := by decide +kernel
theorem dX0_forms_25 : decode cX0_forms 25 = .ok (.lstore_n 2, 1) := dk_65 (dk_at dksX0_forms_1 5 rfl rfl)
theorem dX0_forms_26 : decode cX0_forms 26 = .ok (.aload_n 0, 1) := dk_42 (dk_at dksX0_forms_1 6 rfl rfl)
theorem dX0_forms_27 : decode cX0_forms 27 = .ok (.invokevirtual 318, 3) := dk_182 1 62 (dk_at dksX0_forms_1 7 rfl rfl)
theorem dX0_forms_30 : decode cX0_forms 30 = .ok (.invokeinterface 370 1, 5) := by decide +kernel
theorem dX0_forms_35 : decode cX0_forms 35 = .ok (.lstore 4, 2) := dk_55 4 (dk_at dksX0_forms_1 15 rfl rfl)
theorem dX0_forms_37 : decode cX0_forms 37 = .ok (.iload_n 1, 1) := dk_27 (dk_at dksX0_forms_1 17 rfl rfl)
theorem dX0_forms_38 : decode cX0_forms 38 = .ok (.ifCond .ne 7, 3) := dk_154 0 7 (dk_at dksX0_forms_1 18 rfl rfl)
theorem dX0_forms_41 : decode cX0_forms 41 = .ok (.lload_n 2, 1) := dk_32 (dk_at dksX0_forms_1 21 rfl rfl)
theorem dX0_forms_42 : decode cX0_forms 42 = .ok (.goto 21, 3) := dk_167 0 21 (dk_at dksX0_forms_2 0 rfl rfl)
theorem dX0_forms_45 : decode cX0_forms 45 = .ok (.iload_n 1, 1) := dk_27 (dk_at dksX0_forms_2 3 rfl rfl)
theorem dX0_forms_46 : decode cX0_forms 46 = .ok (.iconst 1, 1) := dk_4 (dk_at dksX0_forms_2 4 rfl rfl)
theorem dX0_forms_47 : decode cX0_forms 47 = .ok (.if_icmp .ne 8, 3) := dk_160 0 8 (dk_at dksX0_forms_2 5 rfl rfl)
theorem dX0_forms_50 : decode cX0_forms 50 = .ok (.lload 4, 2) := dk_22 4 (dk_at dksX0_forms_2 8 rfl rfl)
theorem dX0_forms_52 : decode cX0_forms 52 = .ok (.goto 11, 3) := dk_167 0 11 (dk_at dksX0_forms_2 10 rfl rfl)
theorem dX0_forms_55 : decode cX0_forms 55 = .ok (.lload_n 2, 1) := dk_32 (dk_at dksX0_forms_2 13 rfl rfl)
theorem dX0_forms_56 : decode cX0_forms 56 = .ok (.lload 4, 2) := dk_22 4 (dk_at dksX0_forms_2 14 rfl rfl)
theorem dX0_forms_58 : decode cX0_forms 58 = .ok (.lsub, 1) := dk_101 (dk_at dksX0_forms_2 16 rfl rfl)
theorem dX0_forms_59 : decode cX0_forms 59 = .ok (.ldc2_w 143, 3) := dk_20 0 143 (dk_at dksX0_forms_2 17 rfl rfl)
theorem dX0_forms_62 : decode cX0_forms 62 = .ok (.ldiv, 1) := dk_109 (dk_at dksX0_forms_2 20 rfl rfl)
theorem dX0_forms_63 : decode cX0_forms 63 = .ok (.lreturn, 1) := dk_173 (dk_at dksX0_forms_2 21 rfl rfl)
abbrev cX0_symmetry : ByteArray := prog_1_method_43_code
def yX0_symmetry : MethodName := ⟨RX0, "symmetry", "()J"⟩
def dkwX0_symmetry_0 : List UInt8 := [42, 182, 1, 62, 185, 1, 116, 1, 0, 173]
abbrev dktX0_symmetry_0 : List UInt8 := dkwX0_symmetry_0 ++ []
theorem dksX0_symmetry_0 : cX0_symmetry.data.toList.drop 0 = dktX0_symmetry_0 := by decide +kernel
theorem dX0_symmetry_0 : decode cX0_symmetry 0 = .ok (.aload_n 0, 1) := dk_42 (dk_at dksX0_symmetry_0 0 rfl rfl)
theorem dX0_symmetry_1 : decode cX0_symmetry 1 = .ok (.invokevirtual 318, 3) := dk_182 1 62 (dk_at dksX0_symmetry_0 1 rfl rfl)
theorem dX0_symmetry_4 : decode cX0_symmetry 4 = .ok (.invokeinterface 372 1, 5) := by decide +kernel
theorem dX0_symmetry_9 : decode cX0_symmetry 9 = .ok (.lreturn, 1) := dk_173 (dk_at dksX0_symmetry_0 9 rfl rfl)
abbrev cX0_marked : ByteArray := prog_1_method_44_code
def yX0_marked : MethodName := ⟨RX0, "marked", "(I)I"⟩
def dkwX0_marked_1 : List UInt8 := [167, 0, 4, 2, 172]
abbrev dktX0_marked_1 : List UInt8 := dkwX0_marked_1 ++ []
def dkwX0_marked_0 : List UInt8 := [27, 133, 10, 20, 0, 141, 184, 0, 155, 153, 0, 18, 42, 182, 1, 62, 185, 1, 119, 1, 0, 27, 47, 136]
abbrev dktX0_marked_0 : List UInt8 := dkwX0_marked_0 ++ dktX0_marked_1
theorem dksX0_marked_0 : cX0_marked.data.toList.drop 0 = dktX0_marked_0 := by decide +kernel
theorem dksX0_marked_1 : cX0_marked.data.toList.drop 24 = dktX0_marked_1 := dk_seg dksX0_marked_0 24 rfl rfl
theorem dX0_marked_0 : decode cX0_marked 0 = .ok (.iload_n 1, 1) := dk_27 (dk_at dksX0_marked_0 0 rfl rfl)
theorem dX0_marked_1 : decode cX0_marked 1 = .ok (.i2l, 1) := dk_133 (dk_at dksX0_marked_0 1 rfl rfl)
theorem dX0_marked_2 : decode cX0_marked 2 = .ok (.lconst 1, 1) := dk_10 (dk_at dksX0_marked_0 2 rfl rfl)
theorem dX0_marked_3 : decode cX0_marked 3 = .ok (.ldc2_w 141, 3) := dk_20 0 141 (dk_at dksX0_marked_0 3 rfl rfl)
theorem dX0_marked_6 : decode cX0_marked 6 = .ok (.invokestatic 155, 3) := dk_184 0 155 (dk_at dksX0_marked_0 6 rfl rfl)
theorem dX0_marked_9 : decode cX0_marked 9 = .ok (.ifCond .eq 18, 3) := dk_153 0 18 (dk_at dksX0_marked_0 9 rfl rfl)
theorem dX0_marked_12 : decode cX0_marked 12 = .ok (.aload_n 0, 1) := dk_42 (dk_at dksX0_marked_0 12 rfl rfl)
theorem dX0_marked_13 : decode cX0_marked 13 = .ok (.invokevirtual 318, 3) := dk_182 1 62 (dk_at dksX0_marked_0 13 rfl rfl)
theorem dX0_marked_16 : decode cX0_marked 16 = .ok (.invokeinterface 375 1, 5) := by decide +kernel
theorem dX0_marked_21 : decode cX0_marked 21 = .ok (.iload_n 1, 1) := dk_27 (dk_at dksX0_marked_0 21 rfl rfl)
theorem dX0_marked_22 : decode cX0_marked 22 = .ok (.laload, 1) := dk_47 (dk_at dksX0_marked_0 22 rfl rfl)
theorem dX0_marked_23 : decode cX0_marked 23 = .ok (.l2i, 1) := dk_136 (dk_at dksX0_marked_0 23 rfl rfl)
theorem dX0_marked_24 : decode cX0_marked 24 = .ok (.goto 4, 3) := dk_167 0 4 (dk_at dksX0_marked_1 0 rfl rfl)
theorem dX0_marked_27 : decode cX0_marked 27 = .ok (.iconst (-1), 1) := dk_2 (dk_at dksX0_marked_1 3 rfl rfl)
theorem dX0_marked_28 : decode cX0_marked 28 = .ok (.ireturn, 1) := dk_172 (dk_at dksX0_marked_1 4 rfl rfl)
abbrev cX0_name : ByteArray := prog_1_method_45_code
def yX0_name : MethodName := ⟨RX0, "name", "(I)I"⟩
def dkwX0_name_2 : List UInt8 := [153, 0, 14, 42, 180, 0, 232, 27, 182, 1, 130, 167, 0, 4, 2, 172]
abbrev dktX0_name_2 : List UInt8 := dkwX0_name_2 ++ []
def dkwX0_name_1 : List UInt8 := [180, 0, 232, 182, 1, 125, 172, 27, 133, 9, 42, 180, 0, 232, 182, 1, 125, 4, 100, 133, 184, 0, 155]
abbrev dktX0_name_1 : List UInt8 := dkwX0_name_1 ++ dktX0_name_2
def dkwX0_name_0 : List UInt8 := [42, 180, 0, 232, 199, 0, 14, 42, 42, 180, 0, 195, 182, 1, 123, 181, 0, 232, 27, 2, 160, 0, 11, 42]
abbrev dktX0_name_0 : List UInt8 := dkwX0_name_0 ++ dktX0_name_1
theorem dksX0_name_0 : cX0_name.data.toList.drop 0 = dktX0_name_0 := by decide +kernel
theorem dksX0_name_1 : cX0_name.data.toList.drop 24 = dktX0_name_1 := dk_seg dksX0_name_0 24 rfl rfl
theorem dksX0_name_2 : cX0_name.data.toList.drop 47 = dktX0_name_2 := dk_seg dksX0_name_1 23 rfl rfl
theorem dX0_name_0 : decode cX0_name 0 = .ok (.aload_n 0, 1) := dk_42 (dk_at dksX0_name_0 0 rfl rfl)
theorem dX0_name_1 : decode cX0_name 1 = .ok (.getfield 232, 3) := dk_180 0 232 (dk_at dksX0_name_0 1 rfl rfl)
theorem dX0_name_4 : decode cX0_name 4 = .ok (.ifnonnull 14, 3) := dk_199 0 14 (dk_at dksX0_name_0 4 rfl rfl)
theorem dX0_name_7 : decode cX0_name 7 = .ok (.aload_n 0, 1) := dk_42 (dk_at dksX0_name_0 7 rfl rfl)
theorem dX0_name_8 : decode cX0_name 8 = .ok (.aload_n 0, 1) := dk_42 (dk_at dksX0_name_0 8 rfl rfl)
theorem dX0_name_9 : decode cX0_name 9 = .ok (.getfield 195, 3) := dk_180 0 195 (dk_at dksX0_name_0 9 rfl rfl)
theorem dX0_name_12 : decode cX0_name 12 = .ok (.invokevirtual 379, 3) := dk_182 1 123 (dk_at dksX0_name_0 12 rfl rfl)
theorem dX0_name_15 : decode cX0_name 15 = .ok (.putfield 232, 3) := dk_181 0 232 (dk_at dksX0_name_0 15 rfl rfl)
theorem dX0_name_18 : decode cX0_name 18 = .ok (.iload_n 1, 1) := dk_27 (dk_at dksX0_name_0 18 rfl rfl)
theorem dX0_name_19 : decode cX0_name 19 = .ok (.iconst (-1), 1) := dk_2 (dk_at dksX0_name_0 19 rfl rfl)
theorem dX0_name_20 : decode cX0_name 20 = .ok (.if_icmp .ne 11, 3) := dk_160 0 11 (dk_at dksX0_name_0 20 rfl rfl)
theorem dX0_name_23 : decode cX0_name 23 = .ok (.aload_n 0, 1) := dk_42 (dk_at dksX0_name_0 23 rfl rfl)
theorem dX0_name_24 : decode cX0_name 24 = .ok (.getfield 232, 3) := dk_180 0 232 (dk_at dksX0_name_1 0 rfl rfl)
theorem dX0_name_27 : decode cX0_name 27 = .ok (.invokevirtual 381, 3) := dk_182 1 125 (dk_at dksX0_name_1 3 rfl rfl)
theorem dX0_name_30 : decode cX0_name 30 = .ok (.ireturn, 1) := dk_172 (dk_at dksX0_name_1 6 rfl rfl)
theorem dX0_name_31 : decode cX0_name 31 = .ok (.iload_n 1, 1) := dk_27 (dk_at dksX0_name_1 7 rfl rfl)
theorem dX0_name_32 : decode cX0_name 32 = .ok (.i2l, 1) := dk_133 (dk_at dksX0_name_1 8 rfl rfl)
theorem dX0_name_33 : decode cX0_name 33 = .ok (.lconst 0, 1) := dk_9 (dk_at dksX0_name_1 9 rfl rfl)
theorem dX0_name_34 : decode cX0_name 34 = .ok (.aload_n 0, 1) := dk_42 (dk_at dksX0_name_1 10 rfl rfl)
theorem dX0_name_35 : decode cX0_name 35 = .ok (.getfield 232, 3) := dk_180 0 232 (dk_at dksX0_name_1 11 rfl rfl)
theorem dX0_name_38 : decode cX0_name 38 = .ok (.invokevirtual 381, 3) := dk_182 1 125 (dk_at dksX0_name_1 14 rfl rfl)
theorem dX0_name_41 : decode cX0_name 41 = .ok (.iconst 1, 1) := dk_4 (dk_at dksX0_name_1 17 rfl rfl)
theorem dX0_name_42 : decode cX0_name 42 = .ok (.isub, 1) := dk_100 (dk_at dksX0_name_1 18 rfl rfl)
theorem dX0_name_43 : decode cX0_name 43 = .ok (.i2l, 1) := dk_133 (dk_at dksX0_name_1 19 rfl rfl)
theorem dX0_name_44 : decode cX0_name 44 = .ok (.invokestatic 155, 3) := dk_184 0 155 (dk_at dksX0_name_1 20 rfl rfl)
theorem dX0_name_47 : decode cX0_name 47 = .ok (.ifCond .eq 14, 3) := dk_153 0 14 (dk_at dksX0_name_2 0 rfl rfl)
theorem dX0_name_50 : decode cX0_name 50 = .ok (.aload_n 0, 1) := dk_42 (dk_at dksX0_name_2 3 rfl rfl)
theorem dX0_name_51 : decode cX0_name 51 = .ok (.getfield 232, 3) := dk_180 0 232 (dk_at dksX0_name_2 4 rfl rfl)
theorem dX0_name_54 : decode cX0_name 54 = .ok (.iload_n 1, 1) := dk_27 (dk_at dksX0_name_2 7 rfl rfl)
theorem dX0_name_55 : decode cX0_name 55 = .ok (.invokevirtual 386, 3) := dk_182 1 130 (dk_at dksX0_name_2 8 rfl rfl)
theorem dX0_name_58 : decode cX0_name 58 = .ok (.goto 4, 3) := dk_167 0 4 (dk_at dksX0_name_2 11 rfl rfl)
theorem dX0_name_61 : decode cX0_name 61 = .ok (.iconst (-1), 1) := dk_2 (dk_at dksX0_name_2 14 rfl rfl)
theorem dX0_name_62 : decode cX0_name 62 = .ok (.ireturn, 1) := dk_172 (dk_at dksX0_name_2 15 rfl rfl)
abbrev cX0_count : ByteArray := prog_1_method_47_code
def yX0_count : MethodName := ⟨RX0, "count", "(I)I"⟩
def dkwX0_count_8 : List UInt8 := [184, 1, 67, 5, 120, 128, 167, 0, 4, 2, 172]
abbrev dktX0_count_8 : List UInt8 := dkwX0_count_8 ++ []
def dkwX0_count_7 : List UInt8 := [167, 0, 4, 3, 184, 1, 67, 4, 120, 128, 42, 180, 0, 199, 5, 50, 198, 0, 7, 4, 167, 0, 4, 3]
abbrev dktX0_count_7 : List UInt8 := dkwX0_count_7 ++ dktX0_count_8
def dkwX0_count_6 : List UInt8 := [3, 50, 198, 0, 7, 4, 167, 0, 4, 3, 184, 1, 67, 42, 180, 0, 199, 4, 50, 198, 0, 7, 4]
abbrev dktX0_count_6 : List UInt8 := dkwX0_count_6 ++ dktX0_count_7
def dkwX0_count_5 : List UInt8 := [167, 0, 81, 42, 180, 0, 203, 182, 0, 7, 167, 0, 71, 42, 180, 0, 247, 167, 0, 64, 42, 180, 0, 199]
abbrev dktX0_count_5 : List UInt8 := dkwX0_count_5 ++ dktX0_count_6
def dkwX0_count_4 : List UInt8 := [167, 0, 105, 42, 180, 0, 195, 182, 1, 145, 167, 0, 95, 5, 42, 180, 0, 195, 180, 0, 226, 104, 5, 96]
abbrev dktX0_count_4 : List UInt8 := dkwX0_count_4 ++ dktX0_count_5
def dkwX0_count_3 : List UInt8 := [180, 0, 195, 182, 1, 137, 167, 0, 122, 42, 182, 1, 139, 167, 0, 115, 42, 180, 0, 195, 182, 1, 142]
abbrev dktX0_count_3 : List UInt8 := dkwX0_count_3 ++ dktX0_count_4
def dkwX0_count_2 : List UInt8 := [42, 180, 0, 195, 180, 0, 226, 167, 0, 143, 42, 180, 0, 195, 27, 182, 1, 134, 167, 0, 132, 42]
abbrev dktX0_count_2 : List UInt8 := dkwX0_count_2 ++ dktX0_count_3
def dkwX0_count_1 : List UInt8 := [170, 0, 0, 0, 0, 0, 216, 0, 0, 0, 0, 0, 0, 0, 12, 0, 0, 0, 67, 0, 0, 0, 77, 0, 0, 0, 77, 0, 0, 0, 77, 0, 0, 0, 77, 0, 0, 0, 88, 0, 0, 0, 98, 0, 0, 0, 105, 0, 0, 0, 115, 0, 0, 0, 125, 0, 0, 0, 139, 0, 0, 0, 149, 0, 0, 0, 156]
abbrev dktX0_count_1 : List UInt8 := dkwX0_count_1 ++ dktX0_count_2
def dkwX0_count_0 : List UInt8 := [27]
abbrev dktX0_count_0 : List UInt8 := dkwX0_count_0 ++ dktX0_count_1
theorem dksX0_count_0 : cX0_count.data.toList.drop 0 = dktX0_count_0 := by decide +kernel
theorem dksX0_count_1 : cX0_count.data.toList.drop 1 = dktX0_count_1 := dk_seg dksX0_count_0 1 rfl rfl
theorem dksX0_count_2 : cX0_count.data.toList.drop 68 = dktX0_count_2 := dk_seg dksX0_count_1 67 rfl rfl
theorem dksX0_count_3 : cX0_count.data.toList.drop 90 = dktX0_count_3 := dk_seg dksX0_count_2 22 rfl rfl
theorem dksX0_count_4 : cX0_count.data.toList.drop 113 = dktX0_count_4 := dk_seg dksX0_count_3 23 rfl rfl
theorem dksX0_count_5 : cX0_count.data.toList.drop 137 = dktX0_count_5 := dk_seg dksX0_count_4 24 rfl rfl
theorem dksX0_count_6 : cX0_count.data.toList.drop 161 = dktX0_count_6 := dk_seg dksX0_count_5 24 rfl rfl
theorem dksX0_count_7 : cX0_count.data.toList.drop 184 = dktX0_count_7 := dk_seg dksX0_count_6 23 rfl rfl
theorem dksX0_count_8 : cX0_count.data.toList.drop 208 = dktX0_count_8 := dk_seg dksX0_count_7 24 rfl rfl
theorem dX0_count_0 : decode cX0_count 0 = .ok (.iload_n 1, 1) := dk_27 (dk_at dksX0_count_0 0 rfl rfl)
theorem dX0_count_1 : decode cX0_count 1 = .ok (.tableswitch 216 0 12 #[67, 77, 77, 77, 77, 88, 98, 105, 115, 125, 139, 149, 156], 67) := by decide +kernel
theorem dX0_count_68 : decode cX0_count 68 = .ok (.aload_n 0, 1) := dk_42 (dk_at dksX0_count_2 0 rfl rfl)
theorem dX0_count_69 : decode cX0_count 69 = .ok (.getfield 195, 3) := dk_180 0 195 (dk_at dksX0_count_2 1 rfl rfl)
theorem dX0_count_72 : decode cX0_count 72 = .ok (.getfield 226, 3) := dk_180 0 226 (dk_at dksX0_count_2 4 rfl rfl)
theorem dX0_count_75 : decode cX0_count 75 = .ok (.goto 143, 3) := dk_167 0 143 (dk_at dksX0_count_2 7 rfl rfl)
theorem dX0_count_78 : decode cX0_count 78 = .ok (.aload_n 0, 1) := dk_42 (dk_at dksX0_count_2 10 rfl rfl)
theorem dX0_count_79 : decode cX0_count 79 = .ok (.getfield 195, 3) := dk_180 0 195 (dk_at dksX0_count_2 11 rfl rfl)
theorem dX0_count_82 : decode cX0_count 82 = .ok (.iload_n 1, 1) := dk_27 (dk_at dksX0_count_2 14 rfl rfl)
theorem dX0_count_83 : decode cX0_count 83 = .ok (.invokevirtual 390, 3) := dk_182 1 134 (dk_at dksX0_count_2 15 rfl rfl)
theorem dX0_count_86 : decode cX0_count 86 = .ok (.goto 132, 3) := dk_167 0 132 (dk_at dksX0_count_2 18 rfl rfl)
theorem dX0_count_89 : decode cX0_count 89 = .ok (.aload_n 0, 1) := dk_42 (dk_at dksX0_count_2 21 rfl rfl)
theorem dX0_count_90 : decode cX0_count 90 = .ok (.getfield 195, 3) := dk_180 0 195 (dk_at dksX0_count_3 0 rfl rfl)
theorem dX0_count_93 : decode cX0_count 93 = .ok (.invokevirtual 393, 3) := dk_182 1 137 (dk_at dksX0_count_3 3 rfl rfl)
theorem dX0_count_96 : decode cX0_count 96 = .ok (.goto 122, 3) := dk_167 0 122 (dk_at dksX0_count_3 6 rfl rfl)
theorem dX0_count_99 : decode cX0_count 99 = .ok (.aload_n 0, 1) := dk_42 (dk_at dksX0_count_3 9 rfl rfl)
theorem dX0_count_100 : decode cX0_count 100 = .ok (.invokevirtual 395, 3) := dk_182 1 139 (dk_at dksX0_count_3 10 rfl rfl)
theorem dX0_count_103 : decode cX0_count 103 = .ok (.goto 115, 3) := dk_167 0 115 (dk_at dksX0_count_3 13 rfl rfl)
theorem dX0_count_106 : decode cX0_count 106 = .ok (.aload_n 0, 1) := dk_42 (dk_at dksX0_count_3 16 rfl rfl)
theorem dX0_count_107 : decode cX0_count 107 = .ok (.getfield 195, 3) := dk_180 0 195 (dk_at dksX0_count_3 17 rfl rfl)
theorem dX0_count_110 : decode cX0_count 110 = .ok (.invokevirtual 398, 3) := dk_182 1 142 (dk_at dksX0_count_3 20 rfl rfl)
theorem dX0_count_113 : decode cX0_count 113 = .ok (.goto 105, 3) := dk_167 0 105 (dk_at dksX0_count_4 0 rfl rfl)
theorem dX0_count_116 : decode cX0_count 116 = .ok (.aload_n 0, 1) := dk_42 (dk_at dksX0_count_4 3 rfl rfl)
theorem dX0_count_117 : decode cX0_count 117 = .ok (.getfield 195, 3) := dk_180 0 195 (dk_at dksX0_count_4 4 rfl rfl)
theorem dX0_count_120 : decode cX0_count 120 = .ok (.invokevirtual 401, 3) := dk_182 1 145 (dk_at dksX0_count_4 7 rfl rfl)
theorem dX0_count_123 : decode cX0_count 123 = .ok (.goto 95, 3) := dk_167 0 95 (dk_at dksX0_count_4 10 rfl rfl)
theorem dX0_count_126 : decode cX0_count 126 = .ok (.iconst 2, 1) := dk_5 (dk_at dksX0_count_4 13 rfl rfl)
theorem dX0_count_127 : decode cX0_count 127 = .ok (.aload_n 0, 1) := dk_42 (dk_at dksX0_count_4 14 rfl rfl)
theorem dX0_count_128 : decode cX0_count 128 = .ok (.getfield 195, 3) := dk_180 0 195 (dk_at dksX0_count_4 15 rfl rfl)
theorem dX0_count_131 : decode cX0_count 131 = .ok (.getfield 226, 3) := dk_180 0 226 (dk_at dksX0_count_4 18 rfl rfl)
theorem dX0_count_134 : decode cX0_count 134 = .ok (.imul, 1) := dk_104 (dk_at dksX0_count_4 21 rfl rfl)
theorem dX0_count_135 : decode cX0_count 135 = .ok (.iconst 2, 1) := dk_5 (dk_at dksX0_count_4 22 rfl rfl)
theorem dX0_count_136 : decode cX0_count 136 = .ok (.iadd, 1) := dk_96 (dk_at dksX0_count_4 23 rfl rfl)
theorem dX0_count_137 : decode cX0_count 137 = .ok (.goto 81, 3) := dk_167 0 81 (dk_at dksX0_count_5 0 rfl rfl)
theorem dX0_count_140 : decode cX0_count 140 = .ok (.aload_n 0, 1) := dk_42 (dk_at dksX0_count_5 3 rfl rfl)
theorem dX0_count_141 : decode cX0_count 141 = .ok (.getfield 203, 3) := dk_180 0 203 (dk_at dksX0_count_5 4 rfl rfl)
theorem dX0_count_144 : decode cX0_count 144 = .ok (.invokevirtual 7, 3) := dk_182 0 7 (dk_at dksX0_count_5 7 rfl rfl)
theorem dX0_count_147 : decode cX0_count 147 = .ok (.goto 71, 3) := dk_167 0 71 (dk_at dksX0_count_5 10 rfl rfl)
theorem dX0_count_150 : decode cX0_count 150 = .ok (.aload_n 0, 1) := dk_42 (dk_at dksX0_count_5 13 rfl rfl)
theorem dX0_count_151 : decode cX0_count 151 = .ok (.getfield 247, 3) := dk_180 0 247 (dk_at dksX0_count_5 14 rfl rfl)
theorem dX0_count_154 : decode cX0_count 154 = .ok (.goto 64, 3) := dk_167 0 64 (dk_at dksX0_count_5 17 rfl rfl)
theorem dX0_count_157 : decode cX0_count 157 = .ok (.aload_n 0, 1) := dk_42 (dk_at dksX0_count_5 20 rfl rfl)
theorem dX0_count_158 : decode cX0_count 158 = .ok (.getfield 199, 3) := dk_180 0 199 (dk_at dksX0_count_5 21 rfl rfl)
theorem dX0_count_161 : decode cX0_count 161 = .ok (.iconst 0, 1) := dk_3 (dk_at dksX0_count_6 0 rfl rfl)
theorem dX0_count_162 : decode cX0_count 162 = .ok (.aaload, 1) := dk_50 (dk_at dksX0_count_6 1 rfl rfl)
theorem dX0_count_163 : decode cX0_count 163 = .ok (.ifnull 7, 3) := dk_198 0 7 (dk_at dksX0_count_6 2 rfl rfl)
theorem dX0_count_166 : decode cX0_count 166 = .ok (.iconst 1, 1) := dk_4 (dk_at dksX0_count_6 5 rfl rfl)
theorem dX0_count_167 : decode cX0_count 167 = .ok (.goto 4, 3) := dk_167 0 4 (dk_at dksX0_count_6 6 rfl rfl)
theorem dX0_count_170 : decode cX0_count 170 = .ok (.iconst 0, 1) := dk_3 (dk_at dksX0_count_6 9 rfl rfl)
theorem dX0_count_171 : decode cX0_count 171 = .ok (.invokestatic 323, 3) := dk_184 1 67 (dk_at dksX0_count_6 10 rfl rfl)
theorem dX0_count_174 : decode cX0_count 174 = .ok (.aload_n 0, 1) := dk_42 (dk_at dksX0_count_6 13 rfl rfl)
theorem dX0_count_175 : decode cX0_count 175 = .ok (.getfield 199, 3) := dk_180 0 199 (dk_at dksX0_count_6 14 rfl rfl)
theorem dX0_count_178 : decode cX0_count 178 = .ok (.iconst 1, 1) := dk_4 (dk_at dksX0_count_6 17 rfl rfl)
theorem dX0_count_179 : decode cX0_count 179 = .ok (.aaload, 1) := dk_50 (dk_at dksX0_count_6 18 rfl rfl)
theorem dX0_count_180 : decode cX0_count 180 = .ok (.ifnull 7, 3) := dk_198 0 7 (dk_at dksX0_count_6 19 rfl rfl)
theorem dX0_count_183 : decode cX0_count 183 = .ok (.iconst 1, 1) := dk_4 (dk_at dksX0_count_6 22 rfl rfl)
theorem dX0_count_184 : decode cX0_count 184 = .ok (.goto 4, 3) := dk_167 0 4 (dk_at dksX0_count_7 0 rfl rfl)
theorem dX0_count_187 : decode cX0_count 187 = .ok (.iconst 0, 1) := dk_3 (dk_at dksX0_count_7 3 rfl rfl)
theorem dX0_count_188 : decode cX0_count 188 = .ok (.invokestatic 323, 3) := dk_184 1 67 (dk_at dksX0_count_7 4 rfl rfl)
theorem dX0_count_191 : decode cX0_count 191 = .ok (.iconst 1, 1) := dk_4 (dk_at dksX0_count_7 7 rfl rfl)
theorem dX0_count_192 : decode cX0_count 192 = .ok (.ishl, 1) := dk_120 (dk_at dksX0_count_7 8 rfl rfl)
theorem dX0_count_193 : decode cX0_count 193 = .ok (.ior, 1) := dk_128 (dk_at dksX0_count_7 9 rfl rfl)
theorem dX0_count_194 : decode cX0_count 194 = .ok (.aload_n 0, 1) := dk_42 (dk_at dksX0_count_7 10 rfl rfl)
theorem dX0_count_195 : decode cX0_count 195 = .ok (.getfield 199, 3) := dk_180 0 199 (dk_at dksX0_count_7 11 rfl rfl)
theorem dX0_count_198 : decode cX0_count 198 = .ok (.iconst 2, 1) := dk_5 (dk_at dksX0_count_7 14 rfl rfl)
theorem dX0_count_199 : decode cX0_count 199 = .ok (.aaload, 1) := dk_50 (dk_at dksX0_count_7 15 rfl rfl)
theorem dX0_count_200 : decode cX0_count 200 = .ok (.ifnull 7, 3) := dk_198 0 7 (dk_at dksX0_count_7 16 rfl rfl)
theorem dX0_count_203 : decode cX0_count 203 = .ok (.iconst 1, 1) := dk_4 (dk_at dksX0_count_7 19 rfl rfl)
theorem dX0_count_204 : decode cX0_count 204 = .ok (.goto 4, 3) := dk_167 0 4 (dk_at dksX0_count_7 20 rfl rfl)
theorem dX0_count_207 : decode cX0_count 207 = .ok (.iconst 0, 1) := dk_3 (dk_at dksX0_count_7 23 rfl rfl)
theorem dX0_count_208 : decode cX0_count 208 = .ok (.invokestatic 323, 3) := dk_184 1 67 (dk_at dksX0_count_8 0 rfl rfl)
theorem dX0_count_211 : decode cX0_count 211 = .ok (.iconst 2, 1) := dk_5 (dk_at dksX0_count_8 3 rfl rfl)
theorem dX0_count_212 : decode cX0_count 212 = .ok (.ishl, 1) := dk_120 (dk_at dksX0_count_8 4 rfl rfl)
theorem dX0_count_213 : decode cX0_count 213 = .ok (.ior, 1) := dk_128 (dk_at dksX0_count_8 5 rfl rfl)
theorem dX0_count_214 : decode cX0_count 214 = .ok (.goto 4, 3) := dk_167 0 4 (dk_at dksX0_count_8 6 rfl rfl)
theorem dX0_count_217 : decode cX0_count 217 = .ok (.iconst (-1), 1) := dk_2 (dk_at dksX0_count_8 9 rfl rfl)
theorem dX0_count_218 : decode cX0_count 218 = .ok (.ireturn, 1) := dk_172 (dk_at dksX0_count_8 10 rfl rfl)
abbrev cX0_apartAll : ByteArray := prog_1_method_46_code
def yX0_apartAll : MethodName := ⟨RX0, "apartAll", "()I"⟩
def dkwX0_apartAll_2 : List UInt8 := [60, 132, 5, 1, 167, 255, 235, 132, 2, 1, 167, 255, 202, 27, 5, 108, 172]
abbrev dktX0_apartAll_2 : List UInt8 := dkwX0_apartAll_2 ++ []
def dkwX0_apartAll_1 : List UInt8 := [45, 190, 54, 4, 3, 54, 5, 21, 5, 21, 4, 162, 0, 20, 45, 21, 5, 46, 54, 6, 27, 21, 6, 96]
abbrev dktX0_apartAll_1 : List UInt8 := dkwX0_apartAll_1 ++ dktX0_apartAll_2
def dkwX0_apartAll_0 : List UInt8 := [3, 60, 3, 61, 28, 42, 180, 0, 195, 180, 0, 226, 162, 0, 49, 42, 180, 0, 195, 28, 182, 1, 74, 78]
abbrev dktX0_apartAll_0 : List UInt8 := dkwX0_apartAll_0 ++ dktX0_apartAll_1
theorem dksX0_apartAll_0 : cX0_apartAll.data.toList.drop 0 = dktX0_apartAll_0 := by decide +kernel
theorem dksX0_apartAll_1 : cX0_apartAll.data.toList.drop 24 = dktX0_apartAll_1 := dk_seg dksX0_apartAll_0 24 rfl rfl
theorem dksX0_apartAll_2 : cX0_apartAll.data.toList.drop 48 = dktX0_apartAll_2 := dk_seg dksX0_apartAll_1 24 rfl rfl
theorem dX0_apartAll_0 : decode cX0_apartAll 0 = .ok (.iconst 0, 1) := dk_3 (dk_at dksX0_apartAll_0 0 rfl rfl)
theorem dX0_apartAll_1 : decode cX0_apartAll 1 = .ok (.istore_n 1, 1) := dk_60 (dk_at dksX0_apartAll_0 1 rfl rfl)
theorem dX0_apartAll_2 : decode cX0_apartAll 2 = .ok (.iconst 0, 1) := dk_3 (dk_at dksX0_apartAll_0 2 rfl rfl)
theorem dX0_apartAll_3 : decode cX0_apartAll 3 = .ok (.istore_n 2, 1) := dk_61 (dk_at dksX0_apartAll_0 3 rfl rfl)
theorem dX0_apartAll_4 : decode cX0_apartAll 4 = .ok (.iload_n 2, 1) := dk_28 (dk_at dksX0_apartAll_0 4 rfl rfl)
theorem dX0_apartAll_5 : decode cX0_apartAll 5 = .ok (.aload_n 0, 1) := dk_42 (dk_at dksX0_apartAll_0 5 rfl rfl)
theorem dX0_apartAll_6 : decode cX0_apartAll 6 = .ok (.getfield 195, 3) := dk_180 0 195 (dk_at dksX0_apartAll_0 6 rfl rfl)
theorem dX0_apartAll_9 : decode cX0_apartAll 9 = .ok (.getfield 226, 3) := dk_180 0 226 (dk_at dksX0_apartAll_0 9 rfl rfl)
theorem dX0_apartAll_12 : decode cX0_apartAll 12 = .ok (.if_icmp .ge 49, 3) := dk_162 0 49 (dk_at dksX0_apartAll_0 12 rfl rfl)
theorem dX0_apartAll_15 : decode cX0_apartAll 15 = .ok (.aload_n 0, 1) := dk_42 (dk_at dksX0_apartAll_0 15 rfl rfl)
theorem dX0_apartAll_16 : decode cX0_apartAll 16 = .ok (.getfield 195, 3) := dk_180 0 195 (dk_at dksX0_apartAll_0 16 rfl rfl)
theorem dX0_apartAll_19 : decode cX0_apartAll 19 = .ok (.iload_n 2, 1) := dk_28 (dk_at dksX0_apartAll_0 19 rfl rfl)
theorem dX0_apartAll_20 : decode cX0_apartAll 20 = .ok (.invokevirtual 330, 3) := dk_182 1 74 (dk_at dksX0_apartAll_0 20 rfl rfl)
theorem dX0_apartAll_23 : decode cX0_apartAll 23 = .ok (.astore_n 3, 1) := dk_78 (dk_at dksX0_apartAll_0 23 rfl rfl)
theorem dX0_apartAll_24 : decode cX0_apartAll 24 = .ok (.aload_n 3, 1) := dk_45 (dk_at dksX0_apartAll_1 0 rfl rfl)
theorem dX0_apartAll_25 : decode cX0_apartAll 25 = .ok (.arraylength, 1) := dk_190 (dk_at dksX0_apartAll_1 1 rfl rfl)
theorem dX0_apartAll_26 : decode cX0_apartAll 26 = .ok (.istore 4, 2) := dk_54 4 (dk_at dksX0_apartAll_1 2 rfl rfl)
theorem dX0_apartAll_28 : decode cX0_apartAll 28 = .ok (.iconst 0, 1) := dk_3 (dk_at dksX0_apartAll_1 4 rfl rfl)
theorem dX0_apartAll_29 : decode cX0_apartAll 29 = .ok (.istore 5, 2) := dk_54 5 (dk_at dksX0_apartAll_1 5 rfl rfl)
theorem dX0_apartAll_31 : decode cX0_apartAll 31 = .ok (.iload 5, 2) := dk_21 5 (dk_at dksX0_apartAll_1 7 rfl rfl)
theorem dX0_apartAll_33 : decode cX0_apartAll 33 = .ok (.iload 4, 2) := dk_21 4 (dk_at dksX0_apartAll_1 9 rfl rfl)
theorem dX0_apartAll_35 : decode cX0_apartAll 35 = .ok (.if_icmp .ge 20, 3) := dk_162 0 20 (dk_at dksX0_apartAll_1 11 rfl rfl)
theorem dX0_apartAll_38 : decode cX0_apartAll 38 = .ok (.aload_n 3, 1) := dk_45 (dk_at dksX0_apartAll_1 14 rfl rfl)
theorem dX0_apartAll_39 : decode cX0_apartAll 39 = .ok (.iload 5, 2) := dk_21 5 (dk_at dksX0_apartAll_1 15 rfl rfl)
theorem dX0_apartAll_41 : decode cX0_apartAll 41 = .ok (.iaload, 1) := dk_46 (dk_at dksX0_apartAll_1 17 rfl rfl)
theorem dX0_apartAll_42 : decode cX0_apartAll 42 = .ok (.istore 6, 2) := dk_54 6 (dk_at dksX0_apartAll_1 18 rfl rfl)
theorem dX0_apartAll_44 : decode cX0_apartAll 44 = .ok (.iload_n 1, 1) := dk_27 (dk_at dksX0_apartAll_1 20 rfl rfl)
theorem dX0_apartAll_45 : decode cX0_apartAll 45 = .ok (.iload 6, 2) := dk_21 6 (dk_at dksX0_apartAll_1 21 rfl rfl)
theorem dX0_apartAll_47 : decode cX0_apartAll 47 = .ok (.iadd, 1) := dk_96 (dk_at dksX0_apartAll_1 23 rfl rfl)
theorem dX0_apartAll_48 : decode cX0_apartAll 48 = .ok (.istore_n 1, 1) := dk_60 (dk_at dksX0_apartAll_2 0 rfl rfl)
theorem dX0_apartAll_49 : decode cX0_apartAll 49 = .ok (.iinc 5 1, 3) := dk_132 5 1 (dk_at dksX0_apartAll_2 1 rfl rfl)
theorem dX0_apartAll_52 : decode cX0_apartAll 52 = .ok (.goto (-21), 3) := dk_167 255 235 (dk_at dksX0_apartAll_2 4 rfl rfl)
theorem dX0_apartAll_55 : decode cX0_apartAll 55 = .ok (.iinc 2 1, 3) := dk_132 2 1 (dk_at dksX0_apartAll_2 7 rfl rfl)
theorem dX0_apartAll_58 : decode cX0_apartAll 58 = .ok (.goto (-54), 3) := dk_167 255 202 (dk_at dksX0_apartAll_2 10 rfl rfl)
theorem dX0_apartAll_61 : decode cX0_apartAll 61 = .ok (.iload_n 1, 1) := dk_27 (dk_at dksX0_apartAll_2 13 rfl rfl)
theorem dX0_apartAll_62 : decode cX0_apartAll 62 = .ok (.iconst 2, 1) := dk_5 (dk_at dksX0_apartAll_2 14 rfl rfl)
theorem dX0_apartAll_63 : decode cX0_apartAll 63 = .ok (.idiv, 1) := dk_108 (dk_at dksX0_apartAll_2 15 rfl rfl)
theorem dX0_apartAll_64 : decode cX0_apartAll 64 = .ok (.ireturn, 1) := dk_172 (dk_at dksX0_apartAll_2 16 rfl rfl)
theorem q129 : (Jvm.Cond.initialized "Skeletons") ∈ lw_all := lw_g (lw_at lw_m1 1 rfl) rfl
theorem q173 : (Jvm.Cond.instanceMethod ({ cls := "Skeletons", name := "counted", desc := "(II)J" } : Jvm.MethodName)) ∈ lw_all := lw_g (lw_at lw_m1 45 rfl) rfl
theorem q174 : (Jvm.Cond.selects "Skeletons" ({ cls := "Skeletons", name := "counted", desc := "(II)J" } : Jvm.MethodName) ({ cls := "Skeletons", name := "counted", desc := "(II)J" } : Jvm.MethodName)) ∈ lw_all := lw_g (lw_at lw_m1 46 rfl) rfl
theorem q175 : (Jvm.Cond.code ({ cls := "Skeletons", name := "counted", desc := "(II)J" } : Jvm.MethodName) prog_1_method_12_code (3 : Nat) (Option.some Jvm.ClassFile.FieldType.long)) ∈ lw_all := lw_g (lw_at lw_m1 47 rfl) rfl
theorem q176 : (Jvm.Cond.constantLong "Skeletons" (153 : Nat) (40 : Int64)) ∈ lw_all := lw_g (lw_at lw_m1 48 rfl) rfl
theorem q177 : (Jvm.Cond.methodLink "Skeletons" (155 : Nat) ({ cls := "Skeletons", name := "in", desc := "(JJJ)Z" } : Jvm.MethodName)) ∈ lw_all := lw_g (lw_at lw_m1 49 rfl) rfl
theorem q178 : (Jvm.Cond.static ({ cls := "Skeletons", name := "in", desc := "(JJJ)Z" } : Jvm.MethodName)) ∈ lw_all := lw_g (lw_at lw_m1 50 rfl) rfl
theorem q179 : (Jvm.Cond.code ({ cls := "Skeletons", name := "in", desc := "(JJJ)Z" } : Jvm.MethodName) prog_1_method_1_code (6 : Nat) (Option.some Jvm.ClassFile.FieldType.boolean)) ∈ lw_all := lw_g (lw_at lw_m1 51 rfl) rfl
theorem q180 : (Jvm.Cond.constantLong "Skeletons" (159 : Nat) (4 : Int64)) ∈ lw_all := lw_g (lw_at lw_m1 52 rfl) rfl
theorem q181 : (Jvm.Cond.constantLong "Skeletons" (161 : Nat) (-1 : Int64)) ∈ lw_all := lw_g (lw_at lw_m1 53 rfl) rfl
theorem q182 : (Jvm.Cond.methodLink "Skeletons" (163 : Nat) ({ cls := "Skeletons", name := "laysTo", desc := "(I)V" } : Jvm.MethodName)) ∈ lw_all := lw_g (lw_at lw_m1 54 rfl) rfl
theorem q183 : (Jvm.Cond.privateMethod ({ cls := "Skeletons", name := "laysTo", desc := "(I)V" } : Jvm.MethodName)) ∈ lw_tbl := lw_at lw_m1 55 rfl
theorem q184 : (Jvm.Cond.instanceMethod ({ cls := "Skeletons", name := "laysTo", desc := "(I)V" } : Jvm.MethodName)) ∈ lw_all := lw_g (lw_at lw_m1 56 rfl) rfl
theorem q185 : (Jvm.Cond.instantiable "Skeletons" (14 : Nat)) ∈ lw_all := lw_g (lw_at lw_m1 57 rfl) rfl
theorem q186 : (Jvm.Cond.code ({ cls := "Skeletons", name := "laysTo", desc := "(I)V" } : Jvm.MethodName) prog_1_method_11_code (4 : Nat) (Option.none : Option Jvm.ClassFile.FieldType)) ∈ lw_all := lw_g (lw_at lw_m1 58 rfl) rfl
theorem q187 : (Jvm.Cond.classLink "Skeletons" (132 : Nat) "[J") ∈ lw_all := lw_g (lw_at lw_m1 59 rfl) rfl
theorem q189 : (Jvm.Cond.methodLink "Skeletons" (133 : Nat) ({ cls := "Skeletons", name := "row", desc := "([[J)[[J" } : Jvm.MethodName)) ∈ lw_all := lw_g (lw_at lw_m1 61 rfl) rfl
theorem q190 : (Jvm.Cond.static ({ cls := "Skeletons", name := "row", desc := "([[J)[[J" } : Jvm.MethodName)) ∈ lw_all := lw_g (lw_at lw_m1 62 rfl) rfl
theorem q191 : (Jvm.Cond.code ({ cls := "Skeletons", name := "row", desc := "([[J)[[J" } : Jvm.MethodName) prog_1_method_10_code (1 : Nat) (Option.some (Jvm.ClassFile.FieldType.array (Jvm.ClassFile.FieldType.array Jvm.ClassFile.FieldType.long)))) ∈ lw_all := lw_g (lw_at lw_m1 63 rfl) rfl
theorem q192 : (Jvm.Cond.methodLink "Skeletons" (137 : Nat) ({ cls := "Skeletons", name := "of", desc := "(II[[J[I)J" } : Jvm.MethodName)) ∈ lw_all := lw_g (lw_at lw_m1 64 rfl) rfl
theorem q193 : (Jvm.Cond.static ({ cls := "Skeletons", name := "of", desc := "(II[[J[I)J" } : Jvm.MethodName)) ∈ lw_all := lw_g (lw_at lw_m1 65 rfl) rfl
theorem q194 : (Jvm.Cond.code ({ cls := "Skeletons", name := "of", desc := "(II[[J[I)J" } : Jvm.MethodName) prog_1_method_9_code (4 : Nat) (Option.some Jvm.ClassFile.FieldType.long)) ∈ lw_all := lw_g (lw_at lw_m1 66 rfl) rfl
theorem q195 : (Jvm.Cond.methodLink "Skeletons" (120 : Nat) ({ cls := "Skeletons", name := "product", desc := "(II[[J[II)J" } : Jvm.MethodName)) ∈ lw_all := lw_g (lw_at lw_m1 67 rfl) rfl
theorem q196 : (Jvm.Cond.static ({ cls := "Skeletons", name := "product", desc := "(II[[J[II)J" } : Jvm.MethodName)) ∈ lw_all := lw_g (lw_at lw_m1 68 rfl) rfl
theorem q197 : (Jvm.Cond.code ({ cls := "Skeletons", name := "product", desc := "(II[[J[II)J" } : Jvm.MethodName) prog_1_method_8_code (8 : Nat) (Option.some Jvm.ClassFile.FieldType.long)) ∈ lw_all := lw_g (lw_at lw_m1 69 rfl) rfl
theorem q198 : (Jvm.Cond.constantLong "Skeletons" (141 : Nat) (3 : Int64)) ∈ lw_all := lw_g (lw_at lw_m1 70 rfl) rfl
theorem q199 : (Jvm.Cond.constantLong "Skeletons" (143 : Nat) (2 : Int64)) ∈ lw_all := lw_g (lw_at lw_m1 71 rfl) rfl
theorem q200 : (Jvm.Cond.constantLong "Skeletons" (145 : Nat) (6 : Int64)) ∈ lw_all := lw_g (lw_at lw_m1 72 rfl) rfl
theorem q201 : (Jvm.Cond.fieldLink "Skeletons" (167 : Nat) "Skeletons$Count" "SKELETONS" "LSkeletons$Count;") ∈ lw_all := lw_g (lw_at lw_m1 73 rfl) rfl
theorem q203 : (Jvm.Cond.methodLink "Skeletons" (173 : Nat) ({ cls := "Skeletons$Count", name := "all", desc := "(LSkeletons;I)J" } : Jvm.MethodName)) ∈ lw_all := lw_g (lw_at lw_m1 75 rfl) rfl
theorem q253 : (Jvm.Cond.fieldLink "Skeletons" (177 : Nat) "Skeletons$Count" "FORMS" "LSkeletons$Count;") ∈ lw_all := lw_g (lw_at lw_m1 125 rfl) rfl
theorem q255 : (Jvm.Cond.fieldLink "Skeletons" (180 : Nat) "Skeletons$Count" "OWN" "LSkeletons$Count;") ∈ lw_all := lw_g (lw_at lw_m1 127 rfl) rfl
theorem q260 : (Jvm.Cond.instanceMethod ({ cls := "Skeletons", name := "<init>", desc := "()V" } : Jvm.MethodName)) ∈ lw_all := lw_g (lw_at lw_m1 132 rfl) rfl
theorem q261 : (Jvm.Cond.code ({ cls := "Skeletons", name := "<init>", desc := "()V" } : Jvm.MethodName) prog_1_method_13_code (1 : Nat) (Option.none : Option Jvm.ClassFile.FieldType)) ∈ lw_all := lw_g (lw_at lw_m1 133 rfl) rfl
theorem q262 : (Jvm.Cond.methodLink "Skeletons" (183 : Nat) ({ cls := "java/lang/Object", name := "<init>", desc := "()V" } : Jvm.MethodName)) ∈ lw_all := lw_g (lw_at lw_m1 134 rfl) rfl
theorem q265 : (Jvm.Cond.classLink "Skeletons" (8 : Nat) "java/util/ArrayList") ∈ lw_all := lw_g (lw_at lw_m1 137 rfl) rfl
theorem q267 : (Jvm.Cond.methodLink "Skeletons" (13 : Nat) ({ cls := "java/util/ArrayList", name := "<init>", desc := "()V" } : Jvm.MethodName)) ∈ lw_all := lw_g (lw_at lw_m1 139 rfl) rfl
theorem q294 : (Jvm.Cond.classLink "Skeletons" (186 : Nat) "[[I") ∈ lw_all := lw_g (lw_at lw_m1 166 rfl) rfl
theorem q297 : (Jvm.Cond.classLink "Skeletons" (188 : Nat) "Skeletons$Skeleton") ∈ lw_all := lw_g (lw_at lw_m1 169 rfl) rfl
theorem q299 : (Jvm.Cond.methodLinkNest "Skeletons" (190 : Nat) ({ cls := "Skeletons$Skeleton", name := "<init>", desc := "()V" } : Jvm.MethodName) "Skeletons") ∈ lw_tbl := lw_at lw_m1 171 rfl
theorem q305 : (Jvm.Cond.fieldLinkNest "Skeletons" (327 : Nat) "Skeletons$Skeleton" "bound" "[[I" "Skeletons") ∈ lw_tbl := lw_at lw_m1 177 rfl
theorem q307 : (Jvm.Cond.fieldLinkNest "Skeletons" (301 : Nat) "Skeletons$Skeleton" "many" "[I" "Skeletons") ∈ lw_tbl := lw_at lw_m1 179 rfl
theorem q312 : (Jvm.Cond.fieldLinkNest "Skeletons" (226 : Nat) "Skeletons$Skeleton" "size" "I" "Skeletons") ∈ lw_tbl := lw_at lw_m1 184 rfl
theorem q321 : (Jvm.Cond.methodLink "Skeletons" (191 : Nat) ({ cls := "Skeletons$Skeleton", name := "adds", desc := "()LSkeletons$Skeleton;" } : Jvm.MethodName)) ∈ lw_all := lw_g (lw_at lw_m1 193 rfl) rfl
theorem q326 : (Jvm.Cond.methodLink "Skeletons" (210 : Nat) ({ cls := "Skeletons$Such", name := "values", desc := "()[LSkeletons$Such;" } : Jvm.MethodName)) ∈ lw_all := lw_g (lw_at lw_m1 198 rfl) rfl
theorem q339 : (Jvm.Cond.classLink "Skeletons" (215 : Nat) "[[[I") ∈ lw_all := lw_g (lw_at lw_m1 211 rfl) rfl
theorem q340 : (Jvm.Cond.fieldLink "Skeletons" (1 : Nat) "Skeletons" "branches" "Ljava/util/ArrayList;") ∈ lw_all := lw_g (lw_at lw_m1 212 rfl) rfl
theorem q341 : (Jvm.Cond.fieldLink "Skeletons" (68 : Nat) "Skeletons" "codes" "[[[I") ∈ lw_all := lw_g (lw_at lw_m1 213 rfl) rfl
theorem q343 : (Jvm.Cond.fieldLink "Skeletons" (128 : Nat) "Skeletons" "radicals" "[J") ∈ lw_all := lw_g (lw_at lw_m1 215 rfl) rfl
theorem q346 : (Jvm.Cond.fieldLink "Skeletons" (147 : Nat) "Skeletons" "forms" "[J") ∈ lw_all := lw_g (lw_at lw_m1 218 rfl) rfl
theorem q348 : (Jvm.Cond.fieldLink "Skeletons" (150 : Nat) "Skeletons" "own" "[J") ∈ lw_all := lw_g (lw_at lw_m1 220 rfl) rfl
theorem q349 : (Jvm.Cond.fieldLink "Skeletons" (124 : Nat) "Skeletons" "laid" "I") ∈ lw_all := lw_g (lw_at lw_m1 221 rfl) rfl
theorem q350 : (Jvm.Cond.fieldLink "Skeletons" (195 : Nat) "Skeletons" "now" "LSkeletons$Skeleton;") ∈ lw_all := lw_g (lw_at lw_m1 222 rfl) rfl
theorem q351 : (Jvm.Cond.fieldLink "Skeletons" (199 : Nat) "Skeletons" "shelf" "[LSkeletons$Skeleton;") ∈ lw_all := lw_g (lw_at lw_m1 223 rfl) rfl
theorem q352 : (Jvm.Cond.fieldLink "Skeletons" (203 : Nat) "Skeletons" "past" "Ljava/util/ArrayList;") ∈ lw_all := lw_g (lw_at lw_m1 224 rfl) rfl
theorem q353 : (Jvm.Cond.fieldLink "Skeletons" (228 : Nat) "Skeletons" "whole" "LSkeletons$Whole;") ∈ lw_all := lw_g (lw_at lw_m1 225 rfl) rfl
theorem q354 : (Jvm.Cond.fieldLink "Skeletons" (232 : Nat) "Skeletons" "name" "Ljava/lang/String;") ∈ lw_all := lw_g (lw_at lw_m1 226 rfl) rfl
theorem q357 : (Jvm.Cond.fieldLink "Skeletons" (206 : Nat) "Skeletons" "tape" "[B") ∈ lw_all := lw_g (lw_at lw_m1 229 rfl) rfl
theorem q360 : (Jvm.Cond.fieldLink "Skeletons" (247 : Nat) "Skeletons" "taped" "I") ∈ lw_all := lw_g (lw_at lw_m1 232 rfl) rfl
theorem q361 : (Jvm.Cond.fieldLink "Skeletons" (216 : Nat) "Skeletons" "found" "[[[I") ∈ lw_all := lw_g (lw_at lw_m1 233 rfl) rfl
theorem q362 : (Jvm.Cond.laysFinal "Skeletons" "Skeletons" "branches" "Ljava/util/ArrayList;") ∈ lw_all := lw_g (lw_at lw_m1 234 rfl) rfl
theorem q363 : (Jvm.Cond.soleField "Skeletons" "branches") ∈ lw_all := lw_g (lw_at lw_m1 235 rfl) rfl
theorem q364 : (Jvm.Cond.laysFinal "Skeletons" "Skeletons" "codes" "[[[I") ∈ lw_all := lw_g (lw_at lw_m1 236 rfl) rfl
theorem q365 : (Jvm.Cond.soleField "Skeletons" "codes") ∈ lw_all := lw_g (lw_at lw_m1 237 rfl) rfl
theorem q366 : (Jvm.Cond.laysFinal "Skeletons" "Skeletons" "radicals" "[J") ∈ lw_all := lw_g (lw_at lw_m1 238 rfl) rfl
theorem q367 : (Jvm.Cond.soleField "Skeletons" "radicals") ∈ lw_all := lw_g (lw_at lw_m1 239 rfl) rfl
theorem q368 : (Jvm.Cond.laysFinal "Skeletons" "Skeletons" "forms" "[J") ∈ lw_all := lw_g (lw_at lw_m2 0 rfl) rfl
theorem q369 : (Jvm.Cond.soleField "Skeletons" "forms") ∈ lw_all := lw_g (lw_at lw_m2 1 rfl) rfl
theorem q370 : (Jvm.Cond.laysFinal "Skeletons" "Skeletons" "own" "[J") ∈ lw_all := lw_g (lw_at lw_m2 2 rfl) rfl
theorem q371 : (Jvm.Cond.soleField "Skeletons" "own") ∈ lw_all := lw_g (lw_at lw_m2 3 rfl) rfl
theorem q372 : (Jvm.Cond.lays "Skeletons" "Skeletons" "laid" "I") ∈ lw_all := lw_g (lw_at lw_m2 4 rfl) rfl
theorem q373 : (Jvm.Cond.soleField "Skeletons" "laid") ∈ lw_all := lw_g (lw_at lw_m2 5 rfl) rfl
theorem q374 : (Jvm.Cond.lays "Skeletons" "Skeletons" "now" "LSkeletons$Skeleton;") ∈ lw_all := lw_g (lw_at lw_m2 6 rfl) rfl
theorem q375 : (Jvm.Cond.soleField "Skeletons" "now") ∈ lw_all := lw_g (lw_at lw_m2 7 rfl) rfl
theorem q376 : (Jvm.Cond.laysFinal "Skeletons" "Skeletons" "shelf" "[LSkeletons$Skeleton;") ∈ lw_all := lw_g (lw_at lw_m2 8 rfl) rfl
theorem q377 : (Jvm.Cond.soleField "Skeletons" "shelf") ∈ lw_all := lw_g (lw_at lw_m2 9 rfl) rfl
theorem q378 : (Jvm.Cond.laysFinal "Skeletons" "Skeletons" "past" "Ljava/util/ArrayList;") ∈ lw_all := lw_g (lw_at lw_m2 10 rfl) rfl
theorem q379 : (Jvm.Cond.soleField "Skeletons" "past") ∈ lw_all := lw_g (lw_at lw_m2 11 rfl) rfl
theorem q380 : (Jvm.Cond.lays "Skeletons" "Skeletons" "whole" "LSkeletons$Whole;") ∈ lw_all := lw_g (lw_at lw_m2 12 rfl) rfl
theorem q381 : (Jvm.Cond.soleField "Skeletons" "whole") ∈ lw_all := lw_g (lw_at lw_m2 13 rfl) rfl
theorem q382 : (Jvm.Cond.lays "Skeletons" "Skeletons" "name" "Ljava/lang/String;") ∈ lw_all := lw_g (lw_at lw_m2 14 rfl) rfl
theorem q383 : (Jvm.Cond.soleField "Skeletons" "name") ∈ lw_all := lw_g (lw_at lw_m2 15 rfl) rfl
theorem q384 : (Jvm.Cond.laysFinal "Skeletons" "Skeletons" "tape" "[B") ∈ lw_all := lw_g (lw_at lw_m2 16 rfl) rfl
theorem q385 : (Jvm.Cond.soleField "Skeletons" "tape") ∈ lw_all := lw_g (lw_at lw_m2 17 rfl) rfl
theorem q386 : (Jvm.Cond.lays "Skeletons" "Skeletons" "taped" "I") ∈ lw_all := lw_g (lw_at lw_m2 18 rfl) rfl
theorem q387 : (Jvm.Cond.soleField "Skeletons" "taped") ∈ lw_all := lw_g (lw_at lw_m2 19 rfl) rfl
theorem q388 : (Jvm.Cond.laysFinal "Skeletons" "Skeletons" "found" "[[[I") ∈ lw_all := lw_g (lw_at lw_m2 20 rfl) rfl
theorem q389 : (Jvm.Cond.soleField "Skeletons" "found") ∈ lw_all := lw_g (lw_at lw_m2 21 rfl) rfl
theorem q390 : (Jvm.Cond.superclass "Skeletons" "java/lang/Object") ∈ lw_all := lw_g (lw_at lw_m2 22 rfl) rfl
theorem q393 : (Jvm.Cond.instanceMethod ({ cls := "Skeletons", name := "undo", desc := "()I" } : Jvm.MethodName)) ∈ lw_all := lw_g (lw_at lw_m2 25 rfl) rfl
theorem q394 : (Jvm.Cond.selects "Skeletons" ({ cls := "Skeletons", name := "undo", desc := "()I" } : Jvm.MethodName) ({ cls := "Skeletons", name := "undo", desc := "()I" } : Jvm.MethodName)) ∈ lw_all := lw_g (lw_at lw_m2 26 rfl) rfl
theorem q395 : (Jvm.Cond.code ({ cls := "Skeletons", name := "undo", desc := "()I" } : Jvm.MethodName) prog_1_method_17_code (2 : Nat) (Option.some Jvm.ClassFile.FieldType.int)) ∈ lw_all := lw_g (lw_at lw_m2 27 rfl) rfl
theorem q396 : (Jvm.Cond.methodLink "Skeletons" (7 : Nat) ({ cls := "java/util/ArrayList", name := "size", desc := "()I" } : Jvm.MethodName)) ∈ lw_all := lw_g (lw_at lw_m2 28 rfl) rfl
theorem q400 : (Jvm.Cond.methodLink "Skeletons" (219 : Nat) ({ cls := "java/util/ArrayList", name := "remove", desc := "(I)Ljava/lang/Object;" } : Jvm.MethodName)) ∈ lw_all := lw_g (lw_at lw_m2 32 rfl) rfl
theorem q417 : (Jvm.Cond.methodLink "Skeletons" (222 : Nat) ({ cls := "Skeletons", name := "is", desc := "(LSkeletons$Skeleton;)V" } : Jvm.MethodName)) ∈ lw_all := lw_g (lw_at lw_m2 49 rfl) rfl
theorem q418 : (Jvm.Cond.privateMethod ({ cls := "Skeletons", name := "is", desc := "(LSkeletons$Skeleton;)V" } : Jvm.MethodName)) ∈ lw_tbl := lw_at lw_m2 50 rfl
theorem q419 : (Jvm.Cond.instanceMethod ({ cls := "Skeletons", name := "is", desc := "(LSkeletons$Skeleton;)V" } : Jvm.MethodName)) ∈ lw_all := lw_g (lw_at lw_m2 51 rfl) rfl
theorem q420 : (Jvm.Cond.code ({ cls := "Skeletons", name := "is", desc := "(LSkeletons$Skeleton;)V" } : Jvm.MethodName) prog_1_method_15_code (2 : Nat) (Option.none : Option Jvm.ClassFile.FieldType)) ∈ lw_all := lw_g (lw_at lw_m2 52 rfl) rfl
theorem q422 : (Jvm.Cond.instanceMethod ({ cls := "Skeletons", name := "feed", desc := "(IIIII)I" } : Jvm.MethodName)) ∈ lw_all := lw_g (lw_at lw_m2 54 rfl) rfl
theorem q423 : (Jvm.Cond.selects "Skeletons" ({ cls := "Skeletons", name := "feed", desc := "(IIIII)I" } : Jvm.MethodName) ({ cls := "Skeletons", name := "feed", desc := "(IIIII)I" } : Jvm.MethodName)) ∈ lw_all := lw_g (lw_at lw_m2 55 rfl) rfl
theorem q424 : (Jvm.Cond.code ({ cls := "Skeletons", name := "feed", desc := "(IIIII)I" } : Jvm.MethodName) prog_1_method_20_code (6 : Nat) (Option.some Jvm.ClassFile.FieldType.int)) ∈ lw_all := lw_g (lw_at lw_m2 56 rfl) rfl
theorem q425 : (Jvm.Cond.methodLink "Skeletons" (250 : Nat) ({ cls := "Skeletons", name := "four", desc := "(I)V" } : Jvm.MethodName)) ∈ lw_all := lw_g (lw_at lw_m2 57 rfl) rfl
theorem q426 : (Jvm.Cond.privateMethod ({ cls := "Skeletons", name := "four", desc := "(I)V" } : Jvm.MethodName)) ∈ lw_tbl := lw_at lw_m2 58 rfl
theorem q427 : (Jvm.Cond.instanceMethod ({ cls := "Skeletons", name := "four", desc := "(I)V" } : Jvm.MethodName)) ∈ lw_all := lw_g (lw_at lw_m2 59 rfl) rfl
theorem q428 : (Jvm.Cond.code ({ cls := "Skeletons", name := "four", desc := "(I)V" } : Jvm.MethodName) prog_1_method_21_code (3 : Nat) (Option.none : Option Jvm.ClassFile.FieldType)) ∈ lw_all := lw_g (lw_at lw_m2 60 rfl) rfl
theorem q430 : (Jvm.Cond.instanceMethod ({ cls := "Skeletons", name := "end", desc := "(I)I" } : Jvm.MethodName)) ∈ lw_all := lw_g (lw_at lw_m2 62 rfl) rfl
theorem q431 : (Jvm.Cond.selects "Skeletons" ({ cls := "Skeletons", name := "end", desc := "(I)I" } : Jvm.MethodName) ({ cls := "Skeletons", name := "end", desc := "(I)I" } : Jvm.MethodName)) ∈ lw_all := lw_g (lw_at lw_m2 63 rfl) rfl
theorem q432 : (Jvm.Cond.code ({ cls := "Skeletons", name := "end", desc := "(I)I" } : Jvm.MethodName) prog_1_method_22_code (2 : Nat) (Option.some Jvm.ClassFile.FieldType.int)) ∈ lw_all := lw_g (lw_at lw_m2 64 rfl) rfl
theorem q434 : (Jvm.Cond.instanceMethod ({ cls := "Skeletons", name := "tell", desc := "(I)I" } : Jvm.MethodName)) ∈ lw_all := lw_g (lw_at lw_m2 66 rfl) rfl
theorem q435 : (Jvm.Cond.selects "Skeletons" ({ cls := "Skeletons", name := "tell", desc := "(I)I" } : Jvm.MethodName) ({ cls := "Skeletons", name := "tell", desc := "(I)I" } : Jvm.MethodName)) ∈ lw_all := lw_g (lw_at lw_m2 67 rfl) rfl
theorem q436 : (Jvm.Cond.codeWith ({ cls := "Skeletons", name := "tell", desc := "(I)I" } : Jvm.MethodName) prog_1_method_23_code (6 : Nat) (Option.some Jvm.ClassFile.FieldType.int) [((36 : Nat), (49 : Nat), (56 : Nat), (273 : Nat)), ((36 : Nat), (49 : Nat), (74 : Nat), (0 : Nat)), ((56 : Nat), (66 : Nat), (74 : Nat), (0 : Nat)), ((74 : Nat), (76 : Nat), (74 : Nat), (0 : Nat))]) ∈ lw_all := lw_g (lw_at lw_m2 68 rfl) rfl
theorem q437 : (Jvm.Cond.classLink "Skeletons" (273 : Nat) "Skeletons$Wrong") ∈ lw_all := lw_g (lw_at lw_m2 69 rfl) rfl
theorem q438 : (Jvm.Cond.classLink "Skeletons" (253 : Nat) "Skeletons$Bonds") ∈ lw_all := lw_g (lw_at lw_m2 70 rfl) rfl
theorem q440 : (Jvm.Cond.methodLinkNest "Skeletons" (255 : Nat) ({ cls := "Skeletons$Bonds", name := "<init>", desc := "(LSkeletons;)V" } : Jvm.MethodName) "Skeletons") ∈ lw_tbl := lw_at lw_m2 72 rfl
theorem q455 : (Jvm.Cond.fieldLink "Skeletons" (266 : Nat) "Skeletons$Reader" "its" "LSkeletons$Skeleton;") ∈ lw_all := lw_g (lw_at lw_m2 87 rfl) rfl
theorem q471 : (Jvm.Cond.classLink "Skeletons" (258 : Nat) "Skeletons$Names") ∈ lw_all := lw_g (lw_at lw_m2 103 rfl) rfl
theorem q473 : (Jvm.Cond.methodLinkNest "Skeletons" (260 : Nat) ({ cls := "Skeletons$Names", name := "<init>", desc := "(LSkeletons;)V" } : Jvm.MethodName) "Skeletons") ∈ lw_tbl := lw_at lw_m2 105 rfl
theorem q484 : (Jvm.Cond.methodLink "Skeletons" (261 : Nat) ({ cls := "Skeletons$Reader", name := "reads", desc := "()V" } : Jvm.MethodName)) ∈ lw_all := lw_g (lw_at lw_m2 116 rfl) rfl
theorem q561 : (Jvm.Cond.fieldLinkNest "Skeletons" (275 : Nat) "Skeletons$Wrong" "number" "I" "Skeletons") ∈ lw_tbl := lw_at lw_m2 193 rfl
theorem q659 : (Jvm.Cond.methodLink "Skeletons" (269 : Nat) ({ cls := "Skeletons", name := "becomes", desc := "(LSkeletons$Skeleton;)I" } : Jvm.MethodName)) ∈ lw_all := lw_g (lw_at lw_m3 51 rfl) rfl
theorem q660 : (Jvm.Cond.privateMethod ({ cls := "Skeletons", name := "becomes", desc := "(LSkeletons$Skeleton;)I" } : Jvm.MethodName)) ∈ lw_tbl := lw_at lw_m3 52 rfl
theorem q661 : (Jvm.Cond.instanceMethod ({ cls := "Skeletons", name := "becomes", desc := "(LSkeletons$Skeleton;)I" } : Jvm.MethodName)) ∈ lw_all := lw_g (lw_at lw_m3 53 rfl) rfl
theorem q662 : (Jvm.Cond.code ({ cls := "Skeletons", name := "becomes", desc := "(LSkeletons$Skeleton;)I" } : Jvm.MethodName) prog_1_method_14_code (2 : Nat) (Option.some Jvm.ClassFile.FieldType.int)) ∈ lw_all := lw_g (lw_at lw_m3 54 rfl) rfl
theorem q663 : (Jvm.Cond.methodLink "Skeletons" (17 : Nat) ({ cls := "java/util/ArrayList", name := "add", desc := "(Ljava/lang/Object;)Z" } : Jvm.MethodName)) ∈ lw_all := lw_g (lw_at lw_m3 55 rfl) rfl
theorem q695 : (Jvm.Cond.selects "Skeletons" ({ cls := "java/lang/Object", name := "getClass", desc := "()Ljava/lang/Class;" } : Jvm.MethodName) ({ cls := "java/lang/Object", name := "getClass", desc := "()Ljava/lang/Class;" } : Jvm.MethodName)) ∈ lw_all := lw_g (lw_at lw_m3 87 rfl) rfl
theorem q732 : (Jvm.Cond.instanceMethod ({ cls := "Skeletons", name := "take", desc := "(II)I" } : Jvm.MethodName)) ∈ lw_all := lw_g (lw_at lw_m3 124 rfl) rfl
theorem q733 : (Jvm.Cond.selects "Skeletons" ({ cls := "Skeletons", name := "take", desc := "(II)I" } : Jvm.MethodName) ({ cls := "Skeletons", name := "take", desc := "(II)I" } : Jvm.MethodName)) ∈ lw_all := lw_g (lw_at lw_m3 125 rfl) rfl
theorem q734 : (Jvm.Cond.code ({ cls := "Skeletons", name := "take", desc := "(II)I" } : Jvm.MethodName) prog_1_method_25_code (3 : Nat) (Option.some Jvm.ClassFile.FieldType.int)) ∈ lw_all := lw_g (lw_at lw_m3 126 rfl) rfl
theorem q735 : (Jvm.Cond.methodLink "Skeletons" (284 : Nat) ({ cls := "Skeletons", name := "isListed", desc := "(II)Z" } : Jvm.MethodName)) ∈ lw_all := lw_g (lw_at lw_m3 127 rfl) rfl
theorem q736 : (Jvm.Cond.privateMethod ({ cls := "Skeletons", name := "isListed", desc := "(II)Z" } : Jvm.MethodName)) ∈ lw_tbl := lw_at lw_m3 128 rfl
theorem q737 : (Jvm.Cond.instanceMethod ({ cls := "Skeletons", name := "isListed", desc := "(II)Z" } : Jvm.MethodName)) ∈ lw_all := lw_g (lw_at lw_m3 129 rfl) rfl
theorem q738 : (Jvm.Cond.code ({ cls := "Skeletons", name := "isListed", desc := "(II)Z" } : Jvm.MethodName) prog_1_method_24_code (3 : Nat) (Option.some Jvm.ClassFile.FieldType.boolean)) ∈ lw_all := lw_g (lw_at lw_m3 130 rfl) rfl
theorem q739 : (Jvm.Cond.constantLong "Skeletons" (278 : Nat) (11 : Int64)) ∈ lw_all := lw_g (lw_at lw_m3 131 rfl) rfl
theorem q740 : (Jvm.Cond.methodLink "Skeletons" (280 : Nat) ({ cls := "Skeletons", name := "codesOf", desc := "(I)[[I" } : Jvm.MethodName)) ∈ lw_all := lw_g (lw_at lw_m3 132 rfl) rfl
theorem q741 : (Jvm.Cond.privateMethod ({ cls := "Skeletons", name := "codesOf", desc := "(I)[[I" } : Jvm.MethodName)) ∈ lw_tbl := lw_at lw_m3 133 rfl
theorem q742 : (Jvm.Cond.instanceMethod ({ cls := "Skeletons", name := "codesOf", desc := "(I)[[I" } : Jvm.MethodName)) ∈ lw_all := lw_g (lw_at lw_m3 134 rfl) rfl
theorem q743 : (Jvm.Cond.code ({ cls := "Skeletons", name := "codesOf", desc := "(I)[[I" } : Jvm.MethodName) prog_1_method_6_code (8 : Nat) (Option.some (Jvm.ClassFile.FieldType.array (Jvm.ClassFile.FieldType.array Jvm.ClassFile.FieldType.int)))) ∈ lw_all := lw_g (lw_at lw_m3 135 rfl) rfl
theorem q744 : (Jvm.Cond.classLink "Skeletons" (21 : Nat) "Skeletons$Branch") ∈ lw_all := lw_g (lw_at lw_m3 136 rfl) rfl
theorem q746 : (Jvm.Cond.methodLink "Skeletons" (23 : Nat) ({ cls := "Skeletons", name := "hangs", desc := "(IIILSkeletons$Branch;[LSkeletons$Branch;ILjava/util/ArrayList;)V" } : Jvm.MethodName)) ∈ lw_all := lw_g (lw_at lw_m3 138 rfl) rfl
theorem q747 : (Jvm.Cond.privateMethod ({ cls := "Skeletons", name := "hangs", desc := "(IIILSkeletons$Branch;[LSkeletons$Branch;ILjava/util/ArrayList;)V" } : Jvm.MethodName)) ∈ lw_tbl := lw_at lw_m3 139 rfl
theorem q748 : (Jvm.Cond.instanceMethod ({ cls := "Skeletons", name := "hangs", desc := "(IIILSkeletons$Branch;[LSkeletons$Branch;ILjava/util/ArrayList;)V" } : Jvm.MethodName)) ∈ lw_all := lw_g (lw_at lw_m3 140 rfl) rfl
theorem q749 : (Jvm.Cond.code ({ cls := "Skeletons", name := "hangs", desc := "(IIILSkeletons$Branch;[LSkeletons$Branch;ILjava/util/ArrayList;)V" } : Jvm.MethodName) prog_1_method_4_code (11 : Nat) (Option.none : Option Jvm.ClassFile.FieldType)) ∈ lw_all := lw_g (lw_at lw_m3 141 rfl) rfl
theorem q750 : (Jvm.Cond.methodLink "Skeletons" (31 : Nat) ({ cls := "java/lang/System", name := "arraycopy", desc := "(Ljava/lang/Object;ILjava/lang/Object;II)V" } : Jvm.MethodName)) ∈ lw_all := lw_g (lw_at lw_m3 142 rfl) rfl
theorem q752 : (Jvm.Cond.methodLink "Skeletons" (37 : Nat) ({ cls := "Skeletons$Branch", name := "<init>", desc := "([LSkeletons$Branch;)V" } : Jvm.MethodName)) ∈ lw_all := lw_g (lw_at lw_m3 144 rfl) rfl
theorem q795 : (Jvm.Cond.fieldLinkNest "Skeletons" (352 : Nat) "Skeletons$Branch" "size" "I" "Skeletons") ∈ lw_tbl := lw_at lw_m3 187 rfl
theorem q797 : (Jvm.Cond.fieldLinkNest "Skeletons" (353 : Nat) "Skeletons$Branch" "longest" "I" "Skeletons") ∈ lw_tbl := lw_at lw_m3 189 rfl
theorem q803 : (Jvm.Cond.fieldLinkNest "Skeletons" (356 : Nat) "Skeletons$Branch" "forms" "J" "Skeletons") ∈ lw_tbl := lw_at lw_m3 195 rfl
theorem q806 : (Jvm.Cond.fieldLinkNest "Skeletons" (359 : Nat) "Skeletons$Branch" "own" "J" "Skeletons") ∈ lw_tbl := lw_at lw_m3 198 rfl
theorem q820 : (Jvm.Cond.methodLink "Skeletons" (40 : Nat) ({ cls := "java/lang/Math", name := "min", desc := "(II)I" } : Jvm.MethodName)) ∈ lw_all := lw_g (lw_at lw_m3 212 rfl) rfl
theorem q821 : (Jvm.Cond.methodLink "Skeletons" (46 : Nat) ({ cls := "Skeletons", name := "branchesOf", desc := "(I)Ljava/util/ArrayList;" } : Jvm.MethodName)) ∈ lw_all := lw_g (lw_at lw_m3 213 rfl) rfl
theorem q822 : (Jvm.Cond.privateMethod ({ cls := "Skeletons", name := "branchesOf", desc := "(I)Ljava/util/ArrayList;" } : Jvm.MethodName)) ∈ lw_tbl := lw_at lw_m3 214 rfl
theorem q823 : (Jvm.Cond.instanceMethod ({ cls := "Skeletons", name := "branchesOf", desc := "(I)Ljava/util/ArrayList;" } : Jvm.MethodName)) ∈ lw_all := lw_g (lw_at lw_m3 215 rfl) rfl
theorem q824 : (Jvm.Cond.code ({ cls := "Skeletons", name := "branchesOf", desc := "(I)Ljava/util/ArrayList;" } : Jvm.MethodName) prog_1_method_3_code (3 : Nat) (Option.some (Jvm.ClassFile.FieldType.object "java/util/ArrayList"))) ∈ lw_all := lw_g (lw_at lw_m3 216 rfl) rfl
theorem q825 : (Jvm.Cond.methodLink "Skeletons" (27 : Nat) ({ cls := "java/util/ArrayList", name := "get", desc := "(I)Ljava/lang/Object;" } : Jvm.MethodName)) ∈ lw_all := lw_g (lw_at lw_m3 217 rfl) rfl
theorem q833 : (Jvm.Cond.methodLink "Skeletons" (50 : Nat) ({ cls := "java/util/ArrayList", name := "iterator", desc := "()Ljava/util/Iterator;" } : Jvm.MethodName)) ∈ lw_all := lw_g (lw_at lw_m3 225 rfl) rfl
theorem q856 : (Jvm.Cond.interfaceEntry "Skeletons" (54 : Nat)) ∈ lw_tbl := lw_at lw_m4 8 rfl
theorem q857 : (Jvm.Cond.methodLink "Skeletons" (54 : Nat) ({ cls := "java/util/Iterator", name := "hasNext", desc := "()Z" } : Jvm.MethodName)) ∈ lw_all := lw_g (lw_at lw_m4 9 rfl) rfl
theorem q872 : (Jvm.Cond.interfaceEntry "Skeletons" (60 : Nat)) ∈ lw_tbl := lw_at lw_m4 24 rfl
theorem q873 : (Jvm.Cond.methodLink "Skeletons" (60 : Nat) ({ cls := "java/util/Iterator", name := "next", desc := "()Ljava/lang/Object;" } : Jvm.MethodName)) ∈ lw_all := lw_g (lw_at lw_m4 25 rfl) rfl
theorem q899 : (Jvm.Cond.methodLink "Skeletons" (64 : Nat) ({ cls := "Skeletons$Branch", name := "compareTo", desc := "(LSkeletons$Branch;)I" } : Jvm.MethodName)) ∈ lw_all := lw_g (lw_at lw_m4 51 rfl) rfl
theorem q900 : (Jvm.Cond.classLink "Skeletons" (72 : Nat) "java/util/TreeMap") ∈ lw_all := lw_g (lw_at lw_m4 52 rfl) rfl
theorem q902 : (Jvm.Cond.methodLink "Skeletons" (74 : Nat) ({ cls := "java/util/TreeMap", name := "<init>", desc := "()V" } : Jvm.MethodName)) ∈ lw_all := lw_g (lw_at lw_m4 54 rfl) rfl
theorem q935 : (Jvm.Cond.classLink "Skeletons" (75 : Nat) "Skeletons$One") ∈ lw_all := lw_g (lw_at lw_m4 87 rfl) rfl
theorem q937 : (Jvm.Cond.methodLinkNest "Skeletons" (77 : Nat) ({ cls := "Skeletons$One", name := "<init>", desc := "(LSkeletons$Branch;)V" } : Jvm.MethodName) "Skeletons") ∈ lw_tbl := lw_at lw_m4 89 rfl
theorem q948 : (Jvm.Cond.methodLink "Skeletons" (80 : Nat) ({ cls := "Skeletons", name := "puts", desc := "(Ljava/util/TreeMap;LSkeletons$Whole;)V" } : Jvm.MethodName)) ∈ lw_all := lw_g (lw_at lw_m4 100 rfl) rfl
theorem q949 : (Jvm.Cond.static ({ cls := "Skeletons", name := "puts", desc := "(Ljava/util/TreeMap;LSkeletons$Whole;)V" } : Jvm.MethodName)) ∈ lw_all := lw_g (lw_at lw_m4 101 rfl) rfl
theorem q950 : (Jvm.Cond.code ({ cls := "Skeletons", name := "puts", desc := "(Ljava/util/TreeMap;LSkeletons$Whole;)V" } : Jvm.MethodName) prog_1_method_7_code (8 : Nat) (Option.none : Option Jvm.ClassFile.FieldType)) ∈ lw_all := lw_g (lw_at lw_m4 102 rfl) rfl
theorem q951 : (Jvm.Cond.interfaceEntry "Skeletons" (99 : Nat)) ∈ lw_tbl := lw_at lw_m4 103 rfl
theorem q952 : (Jvm.Cond.methodLink "Skeletons" (99 : Nat) ({ cls := "Skeletons$Whole", name := "code", desc := "()[I" } : Jvm.MethodName)) ∈ lw_all := lw_g (lw_at lw_m4 104 rfl) rfl
theorem q984 : (Jvm.Cond.classLink "Skeletons" (105 : Nat) "java/lang/StringBuilder") ∈ lw_all := lw_g (lw_at lw_m4 136 rfl) rfl
theorem q986 : (Jvm.Cond.methodLink "Skeletons" (107 : Nat) ({ cls := "java/lang/StringBuilder", name := "<init>", desc := "()V" } : Jvm.MethodName)) ∈ lw_all := lw_g (lw_at lw_m4 138 rfl) rfl
theorem q1015 : (Jvm.Cond.methodLink "Skeletons" (108 : Nat) ({ cls := "java/lang/StringBuilder", name := "append", desc := "(C)Ljava/lang/StringBuilder;" } : Jvm.MethodName)) ∈ lw_all := lw_g (lw_at lw_m4 167 rfl) rfl
theorem q1091 : (Jvm.Cond.methodLink "Skeletons" (112 : Nat) ({ cls := "java/lang/StringBuilder", name := "toString", desc := "()Ljava/lang/String;" } : Jvm.MethodName)) ∈ lw_all := lw_g (lw_at lw_m5 3 rfl) rfl
theorem q1152 : (Jvm.Cond.methodLink "Skeletons" (116 : Nat) ({ cls := "java/util/TreeMap", name := "put", desc := "(Ljava/lang/Object;Ljava/lang/Object;)Ljava/lang/Object;" } : Jvm.MethodName)) ∈ lw_all := lw_g (lw_at lw_m5 64 rfl) rfl
theorem q1482 : (Jvm.Cond.classLink "Skeletons" (84 : Nat) "Skeletons$Two") ∈ lw_all := lw_g (lw_at lw_m6 154 rfl) rfl
theorem q1484 : (Jvm.Cond.methodLinkNest "Skeletons" (86 : Nat) ({ cls := "Skeletons$Two", name := "<init>", desc := "(LSkeletons$Branch;LSkeletons$Branch;)V" } : Jvm.MethodName) "Skeletons") ∈ lw_tbl := lw_at lw_m6 156 rfl
theorem q1495 : (Jvm.Cond.methodLink "Skeletons" (89 : Nat) ({ cls := "java/util/TreeMap", name := "size", desc := "()I" } : Jvm.MethodName)) ∈ lw_all := lw_g (lw_at lw_m6 167 rfl) rfl
theorem q1499 : (Jvm.Cond.classLink "Skeletons" (90 : Nat) "[I") ∈ lw_all := lw_g (lw_at lw_m6 171 rfl) rfl
theorem q1500 : (Jvm.Cond.methodLink "Skeletons" (92 : Nat) ({ cls := "java/util/TreeMap", name := "values", desc := "()Ljava/util/Collection;" } : Jvm.MethodName)) ∈ lw_all := lw_g (lw_at lw_m6 172 rfl) rfl
theorem q1514 : (Jvm.Cond.interfaceEntry "Skeletons" (96 : Nat)) ∈ lw_tbl := lw_at lw_m6 186 rfl
theorem q1515 : (Jvm.Cond.methodLink "Skeletons" (96 : Nat) ({ cls := "java/util/Collection", name := "iterator", desc := "()Ljava/util/Iterator;" } : Jvm.MethodName)) ∈ lw_all := lw_g (lw_at lw_m6 187 rfl) rfl
theorem q1554 : (Jvm.Cond.methodLink "Skeletons" (287 : Nat) ({ cls := "Skeletons$Skeleton", name := "by", desc := "([I)LSkeletons$Skeleton;" } : Jvm.MethodName)) ∈ lw_all := lw_g (lw_at lw_m6 226 rfl) rfl
theorem q1562 : (Jvm.Cond.instanceMethod ({ cls := "Skeletons", name := "grow", desc := "(I)I" } : Jvm.MethodName)) ∈ lw_all := lw_g (lw_at lw_m6 234 rfl) rfl
theorem q1563 : (Jvm.Cond.selects "Skeletons" ({ cls := "Skeletons", name := "grow", desc := "(I)I" } : Jvm.MethodName) ({ cls := "Skeletons", name := "grow", desc := "(I)I" } : Jvm.MethodName)) ∈ lw_all := lw_g (lw_at lw_m6 235 rfl) rfl
theorem q1564 : (Jvm.Cond.code ({ cls := "Skeletons", name := "grow", desc := "(I)I" } : Jvm.MethodName) prog_1_method_26_code (3 : Nat) (Option.some Jvm.ClassFile.FieldType.int)) ∈ lw_all := lw_g (lw_at lw_m6 236 rfl) rfl
theorem q1565 : (Jvm.Cond.methodLink "Skeletons" (239 : Nat) ({ cls := "Skeletons", name := "isCarbon", desc := "(I)Z" } : Jvm.MethodName)) ∈ lw_all := lw_g (lw_at lw_m6 237 rfl) rfl
theorem q1566 : (Jvm.Cond.privateMethod ({ cls := "Skeletons", name := "isCarbon", desc := "(I)Z" } : Jvm.MethodName)) ∈ lw_tbl := lw_at lw_m6 238 rfl
theorem q1567 : (Jvm.Cond.instanceMethod ({ cls := "Skeletons", name := "isCarbon", desc := "(I)Z" } : Jvm.MethodName)) ∈ lw_all := lw_g (lw_at lw_m6 239 rfl) rfl
theorem q1568 : (Jvm.Cond.code ({ cls := "Skeletons", name := "isCarbon", desc := "(I)Z" } : Jvm.MethodName) prog_1_method_18_code (2 : Nat) (Option.some Jvm.ClassFile.FieldType.boolean)) ∈ lw_all := lw_g (lw_at lw_m7 0 rfl) rfl
theorem q1569 : (Jvm.Cond.methodLink "Skeletons" (291 : Nat) ({ cls := "Skeletons$Skeleton", name := "isFull", desc := "(I)Z" } : Jvm.MethodName)) ∈ lw_all := lw_g (lw_at lw_m7 1 rfl) rfl
theorem q1570 : (Jvm.Cond.methodLink "Skeletons" (294 : Nat) ({ cls := "Skeletons$Skeleton", name := "copy", desc := "()LSkeletons$Skeleton;" } : Jvm.MethodName)) ∈ lw_all := lw_g (lw_at lw_m7 2 rfl) rfl
theorem q1578 : (Jvm.Cond.methodLink "Skeletons" (297 : Nat) ({ cls := "Skeletons$Skeleton", name := "binds", desc := "(II)V" } : Jvm.MethodName)) ∈ lw_all := lw_g (lw_at lw_m7 10 rfl) rfl
theorem q1580 : (Jvm.Cond.instanceMethod ({ cls := "Skeletons", name := "prune", desc := "(I)I" } : Jvm.MethodName)) ∈ lw_all := lw_g (lw_at lw_m7 12 rfl) rfl
theorem q1581 : (Jvm.Cond.selects "Skeletons" ({ cls := "Skeletons", name := "prune", desc := "(I)I" } : Jvm.MethodName) ({ cls := "Skeletons", name := "prune", desc := "(I)I" } : Jvm.MethodName)) ∈ lw_all := lw_g (lw_at lw_m7 13 rfl) rfl
theorem q1582 : (Jvm.Cond.code ({ cls := "Skeletons", name := "prune", desc := "(I)I" } : Jvm.MethodName) prog_1_method_27_code (2 : Nat) (Option.some Jvm.ClassFile.FieldType.int)) ∈ lw_all := lw_g (lw_at lw_m7 14 rfl) rfl
theorem q1583 : (Jvm.Cond.methodLink "Skeletons" (304 : Nat) ({ cls := "Skeletons$Skeleton", name := "only", desc := "(I)LSkeletons$Skeleton;" } : Jvm.MethodName)) ∈ lw_all := lw_g (lw_at lw_m7 15 rfl) rfl
theorem q1588 : (Jvm.Cond.instanceMethod ({ cls := "Skeletons", name := "bind", desc := "(III)I" } : Jvm.MethodName)) ∈ lw_all := lw_g (lw_at lw_m7 20 rfl) rfl
theorem q1589 : (Jvm.Cond.selects "Skeletons" ({ cls := "Skeletons", name := "bind", desc := "(III)I" } : Jvm.MethodName) ({ cls := "Skeletons", name := "bind", desc := "(III)I" } : Jvm.MethodName)) ∈ lw_all := lw_g (lw_at lw_m7 21 rfl) rfl
theorem q1590 : (Jvm.Cond.code ({ cls := "Skeletons", name := "bind", desc := "(III)I" } : Jvm.MethodName) prog_1_method_28_code (6 : Nat) (Option.some Jvm.ClassFile.FieldType.int)) ∈ lw_all := lw_g (lw_at lw_m7 22 rfl) rfl
theorem q1591 : (Jvm.Cond.methodLink "Skeletons" (308 : Nat) ({ cls := "Skeletons$Skeleton", name := "takes", desc := "(LSkeletons$Skeleton;I)V" } : Jvm.MethodName)) ∈ lw_all := lw_g (lw_at lw_m7 23 rfl) rfl
theorem q1593 : (Jvm.Cond.instanceMethod ({ cls := "Skeletons", name := "split", desc := "(II)I" } : Jvm.MethodName)) ∈ lw_all := lw_g (lw_at lw_m7 25 rfl) rfl
theorem q1594 : (Jvm.Cond.selects "Skeletons" ({ cls := "Skeletons", name := "split", desc := "(II)I" } : Jvm.MethodName) ({ cls := "Skeletons", name := "split", desc := "(II)I" } : Jvm.MethodName)) ∈ lw_all := lw_g (lw_at lw_m7 26 rfl) rfl
theorem q1595 : (Jvm.Cond.code ({ cls := "Skeletons", name := "split", desc := "(II)I" } : Jvm.MethodName) prog_1_method_29_code (3 : Nat) (Option.some Jvm.ClassFile.FieldType.int)) ∈ lw_all := lw_g (lw_at lw_m7 27 rfl) rfl
theorem q1596 : (Jvm.Cond.methodLink "Skeletons" (312 : Nat) ({ cls := "Skeletons", name := "areBound", desc := "(II)Z" } : Jvm.MethodName)) ∈ lw_all := lw_g (lw_at lw_m7 28 rfl) rfl
theorem q1597 : (Jvm.Cond.privateMethod ({ cls := "Skeletons", name := "areBound", desc := "(II)Z" } : Jvm.MethodName)) ∈ lw_tbl := lw_at lw_m7 29 rfl
theorem q1598 : (Jvm.Cond.instanceMethod ({ cls := "Skeletons", name := "areBound", desc := "(II)Z" } : Jvm.MethodName)) ∈ lw_all := lw_g (lw_at lw_m7 30 rfl) rfl
theorem q1599 : (Jvm.Cond.code ({ cls := "Skeletons", name := "areBound", desc := "(II)Z" } : Jvm.MethodName) prog_1_method_19_code (3 : Nat) (Option.some Jvm.ClassFile.FieldType.boolean)) ∈ lw_all := lw_g (lw_at lw_m7 31 rfl) rfl
theorem q1600 : (Jvm.Cond.methodLink "Skeletons" (243 : Nat) ({ cls := "Skeletons$Skeleton", name := "isBound", desc := "(II)Z" } : Jvm.MethodName)) ∈ lw_all := lw_g (lw_at lw_m7 32 rfl) rfl
theorem q1604 : (Jvm.Cond.methodLink "Skeletons" (315 : Nat) ({ cls := "Skeletons$Skeleton", name := "hanging", desc := "(II)I" } : Jvm.MethodName)) ∈ lw_all := lw_g (lw_at lw_m7 36 rfl) rfl
theorem q1610 : (Jvm.Cond.instanceMethod ({ cls := "Skeletons", name := "keep", desc := "(I)I" } : Jvm.MethodName)) ∈ lw_all := lw_g (lw_at lw_m7 42 rfl) rfl
theorem q1611 : (Jvm.Cond.selects "Skeletons" ({ cls := "Skeletons", name := "keep", desc := "(I)I" } : Jvm.MethodName) ({ cls := "Skeletons", name := "keep", desc := "(I)I" } : Jvm.MethodName)) ∈ lw_all := lw_g (lw_at lw_m7 43 rfl) rfl
theorem q1612 : (Jvm.Cond.code ({ cls := "Skeletons", name := "keep", desc := "(I)I" } : Jvm.MethodName) prog_1_method_30_code (2 : Nat) (Option.some Jvm.ClassFile.FieldType.int)) ∈ lw_all := lw_g (lw_at lw_m7 44 rfl) rfl
theorem q1614 : (Jvm.Cond.instanceMethod ({ cls := "Skeletons", name := "like", desc := "(I)I" } : Jvm.MethodName)) ∈ lw_all := lw_g (lw_at lw_m7 46 rfl) rfl
theorem q1615 : (Jvm.Cond.selects "Skeletons" ({ cls := "Skeletons", name := "like", desc := "(I)I" } : Jvm.MethodName) ({ cls := "Skeletons", name := "like", desc := "(I)I" } : Jvm.MethodName)) ∈ lw_all := lw_g (lw_at lw_m7 47 rfl) rfl
theorem q1616 : (Jvm.Cond.code ({ cls := "Skeletons", name := "like", desc := "(I)I" } : Jvm.MethodName) prog_1_method_31_code (2 : Nat) (Option.some Jvm.ClassFile.FieldType.int)) ∈ lw_all := lw_g (lw_at lw_m7 48 rfl) rfl
theorem q1617 : (Jvm.Cond.methodLink "Skeletons" (236 : Nat) ({ cls := "Skeletons$Skeleton", name := "whole", desc := "()LSkeletons$Whole;" } : Jvm.MethodName)) ∈ lw_all := lw_g (lw_at lw_m7 49 rfl) rfl
theorem q1641 : (Jvm.Cond.static ({ cls := "Skeletons", name := "bit", desc := "(Z)I" } : Jvm.MethodName)) ∈ lw_all := lw_g (lw_at lw_m7 73 rfl) rfl
theorem q1642 : (Jvm.Cond.code ({ cls := "Skeletons", name := "bit", desc := "(Z)I" } : Jvm.MethodName) prog_1_method_2_code (1 : Nat) (Option.some Jvm.ClassFile.FieldType.int)) ∈ lw_all := lw_g (lw_at lw_m7 74 rfl) rfl
theorem q1649 : (Jvm.Cond.methodLink "Skeletons" (318 : Nat) ({ cls := "Skeletons", name := "whole", desc := "()LSkeletons$Whole;" } : Jvm.MethodName)) ∈ lw_all := lw_g (lw_at lw_m7 81 rfl) rfl
theorem q1650 : (Jvm.Cond.privateMethod ({ cls := "Skeletons", name := "whole", desc := "()LSkeletons$Whole;" } : Jvm.MethodName)) ∈ lw_tbl := lw_at lw_m7 82 rfl
theorem q1651 : (Jvm.Cond.instanceMethod ({ cls := "Skeletons", name := "whole", desc := "()LSkeletons$Whole;" } : Jvm.MethodName)) ∈ lw_all := lw_g (lw_at lw_m7 83 rfl) rfl
theorem q1652 : (Jvm.Cond.code ({ cls := "Skeletons", name := "whole", desc := "()LSkeletons$Whole;" } : Jvm.MethodName) prog_1_method_16_code (1 : Nat) (Option.some (Jvm.ClassFile.FieldType.object "Skeletons$Whole"))) ∈ lw_all := lw_g (lw_at lw_m7 84 rfl) rfl
theorem q1653 : (Jvm.Cond.methodLink "Skeletons" (319 : Nat) ({ cls := "Skeletons", name := "compare", desc := "([I[I)I" } : Jvm.MethodName)) ∈ lw_all := lw_g (lw_at lw_m7 85 rfl) rfl
theorem q1654 : (Jvm.Cond.static ({ cls := "Skeletons", name := "compare", desc := "([I[I)I" } : Jvm.MethodName)) ∈ lw_all := lw_g (lw_at lw_m7 86 rfl) rfl
theorem q1655 : (Jvm.Cond.code ({ cls := "Skeletons", name := "compare", desc := "([I[I)I" } : Jvm.MethodName) prog_1_method_5_code (3 : Nat) (Option.some Jvm.ClassFile.FieldType.int)) ∈ lw_all := lw_g (lw_at lw_m7 87 rfl) rfl
theorem q1656 : (Jvm.Cond.methodLink "Skeletons" (323 : Nat) ({ cls := "Skeletons", name := "bit", desc := "(Z)I" } : Jvm.MethodName)) ∈ lw_all := lw_g (lw_at lw_m7 88 rfl) rfl
theorem q1658 : (Jvm.Cond.instanceMethod ({ cls := "Skeletons", name := "neighbour", desc := "(II)I" } : Jvm.MethodName)) ∈ lw_all := lw_g (lw_at lw_m7 90 rfl) rfl
theorem q1659 : (Jvm.Cond.selects "Skeletons" ({ cls := "Skeletons", name := "neighbour", desc := "(II)I" } : Jvm.MethodName) ({ cls := "Skeletons", name := "neighbour", desc := "(II)I" } : Jvm.MethodName)) ∈ lw_all := lw_g (lw_at lw_m7 91 rfl) rfl
theorem q1660 : (Jvm.Cond.code ({ cls := "Skeletons", name := "neighbour", desc := "(II)I" } : Jvm.MethodName) prog_1_method_32_code (3 : Nat) (Option.some Jvm.ClassFile.FieldType.int)) ∈ lw_all := lw_g (lw_at lw_m7 92 rfl) rfl
theorem q1662 : (Jvm.Cond.instanceMethod ({ cls := "Skeletons", name := "apart", desc := "(II)I" } : Jvm.MethodName)) ∈ lw_all := lw_g (lw_at lw_m7 94 rfl) rfl
theorem q1663 : (Jvm.Cond.selects "Skeletons" ({ cls := "Skeletons", name := "apart", desc := "(II)I" } : Jvm.MethodName) ({ cls := "Skeletons", name := "apart", desc := "(II)I" } : Jvm.MethodName)) ∈ lw_all := lw_g (lw_at lw_m7 95 rfl) rfl
theorem q1664 : (Jvm.Cond.code ({ cls := "Skeletons", name := "apart", desc := "(II)I" } : Jvm.MethodName) prog_1_method_33_code (3 : Nat) (Option.some Jvm.ClassFile.FieldType.int)) ∈ lw_all := lw_g (lw_at lw_m7 96 rfl) rfl
theorem q1665 : (Jvm.Cond.methodLink "Skeletons" (330 : Nat) ({ cls := "Skeletons$Skeleton", name := "far", desc := "(I)[I" } : Jvm.MethodName)) ∈ lw_all := lw_g (lw_at lw_m7 97 rfl) rfl
theorem q1674 : (Jvm.Cond.instanceMethod ({ cls := "Skeletons", name := "centroid", desc := "(I)I" } : Jvm.MethodName)) ∈ lw_all := lw_g (lw_at lw_m7 106 rfl) rfl
theorem q1675 : (Jvm.Cond.selects "Skeletons" ({ cls := "Skeletons", name := "centroid", desc := "(I)I" } : Jvm.MethodName) ({ cls := "Skeletons", name := "centroid", desc := "(I)I" } : Jvm.MethodName)) ∈ lw_all := lw_g (lw_at lw_m7 107 rfl) rfl
theorem q1676 : (Jvm.Cond.code ({ cls := "Skeletons", name := "centroid", desc := "(I)I" } : Jvm.MethodName) prog_1_method_34_code (4 : Nat) (Option.some Jvm.ClassFile.FieldType.int)) ∈ lw_all := lw_g (lw_at lw_m7 108 rfl) rfl
theorem q1677 : (Jvm.Cond.methodLink "Skeletons" (334 : Nat) ({ cls := "Skeletons$Skeleton", name := "isCentroid", desc := "(I)Z" } : Jvm.MethodName)) ∈ lw_all := lw_g (lw_at lw_m7 109 rfl) rfl
theorem q1679 : (Jvm.Cond.instanceMethod ({ cls := "Skeletons", name := "code", desc := "(I)I" } : Jvm.MethodName)) ∈ lw_all := lw_g (lw_at lw_m7 111 rfl) rfl
theorem q1680 : (Jvm.Cond.selects "Skeletons" ({ cls := "Skeletons", name := "code", desc := "(I)I" } : Jvm.MethodName) ({ cls := "Skeletons", name := "code", desc := "(I)I" } : Jvm.MethodName)) ∈ lw_all := lw_g (lw_at lw_m7 112 rfl) rfl
theorem q1681 : (Jvm.Cond.code ({ cls := "Skeletons", name := "code", desc := "(I)I" } : Jvm.MethodName) prog_1_method_35_code (2 : Nat) (Option.some Jvm.ClassFile.FieldType.int)) ∈ lw_all := lw_g (lw_at lw_m7 113 rfl) rfl
theorem q1683 : (Jvm.Cond.instanceMethod ({ cls := "Skeletons", name := "rank", desc := "()I" } : Jvm.MethodName)) ∈ lw_all := lw_g (lw_at lw_m7 115 rfl) rfl
theorem q1684 : (Jvm.Cond.selects "Skeletons" ({ cls := "Skeletons", name := "rank", desc := "()I" } : Jvm.MethodName) ({ cls := "Skeletons", name := "rank", desc := "()I" } : Jvm.MethodName)) ∈ lw_all := lw_g (lw_at lw_m7 116 rfl) rfl
theorem q1685 : (Jvm.Cond.code ({ cls := "Skeletons", name := "rank", desc := "()I" } : Jvm.MethodName) prog_1_method_36_code (6 : Nat) (Option.some Jvm.ClassFile.FieldType.int)) ∈ lw_all := lw_g (lw_at lw_m7 117 rfl) rfl
theorem q1687 : (Jvm.Cond.instanceMethod ({ cls := "Skeletons", name := "listed", desc := "(III)I" } : Jvm.MethodName)) ∈ lw_all := lw_g (lw_at lw_m7 119 rfl) rfl
theorem q1688 : (Jvm.Cond.selects "Skeletons" ({ cls := "Skeletons", name := "listed", desc := "(III)I" } : Jvm.MethodName) ({ cls := "Skeletons", name := "listed", desc := "(III)I" } : Jvm.MethodName)) ∈ lw_all := lw_g (lw_at lw_m7 120 rfl) rfl
theorem q1689 : (Jvm.Cond.code ({ cls := "Skeletons", name := "listed", desc := "(III)I" } : Jvm.MethodName) prog_1_method_37_code (4 : Nat) (Option.some Jvm.ClassFile.FieldType.int)) ∈ lw_all := lw_g (lw_at lw_m7 121 rfl) rfl
theorem q1691 : (Jvm.Cond.instanceMethod ({ cls := "Skeletons", name := "such", desc := "(III)I" } : Jvm.MethodName)) ∈ lw_all := lw_g (lw_at lw_m7 123 rfl) rfl
theorem q1692 : (Jvm.Cond.selects "Skeletons" ({ cls := "Skeletons", name := "such", desc := "(III)I" } : Jvm.MethodName) ({ cls := "Skeletons", name := "such", desc := "(III)I" } : Jvm.MethodName)) ∈ lw_all := lw_g (lw_at lw_m7 124 rfl) rfl
theorem q1693 : (Jvm.Cond.code ({ cls := "Skeletons", name := "such", desc := "(III)I" } : Jvm.MethodName) prog_1_method_38_code (10 : Nat) (Option.some Jvm.ClassFile.FieldType.int)) ∈ lw_all := lw_g (lw_at lw_m7 125 rfl) rfl
theorem q1694 : (Jvm.Cond.methodLink "Skeletons" (337 : Nat) ({ cls := "Skeletons$Such", name := "of", desc := "(LSkeletons$Skeleton;)I" } : Jvm.MethodName)) ∈ lw_all := lw_g (lw_at lw_m7 126 rfl) rfl
theorem q1737 : (Jvm.Cond.instanceMethod ({ cls := "Skeletons", name := "about", desc := "(II)I" } : Jvm.MethodName)) ∈ lw_all := lw_g (lw_at lw_m7 169 rfl) rfl
theorem q1738 : (Jvm.Cond.selects "Skeletons" ({ cls := "Skeletons", name := "about", desc := "(II)I" } : Jvm.MethodName) ({ cls := "Skeletons", name := "about", desc := "(II)I" } : Jvm.MethodName)) ∈ lw_all := lw_g (lw_at lw_m7 170 rfl) rfl
theorem q1739 : (Jvm.Cond.code ({ cls := "Skeletons", name := "about", desc := "(II)I" } : Jvm.MethodName) prog_1_method_39_code (10 : Nat) (Option.some Jvm.ClassFile.FieldType.int)) ∈ lw_all := lw_g (lw_at lw_m7 171 rfl) rfl
theorem q1740 : (Jvm.Cond.methodLink "Skeletons" (339 : Nat) ({ cls := "java/lang/Math", name := "max", desc := "(II)I" } : Jvm.MethodName)) ∈ lw_all := lw_g (lw_at lw_m7 172 rfl) rfl
theorem q1741 : (Jvm.Cond.methodLink "Skeletons" (342 : Nat) ({ cls := "Skeletons$Skeleton", name := "like", desc := "()[I" } : Jvm.MethodName)) ∈ lw_all := lw_g (lw_at lw_m7 173 rfl) rfl
theorem q1742 : (Jvm.Cond.methodLink "Skeletons" (345 : Nat) ({ cls := "Skeletons$Skeleton", name := "isAsymmetric", desc := "(I)Z" } : Jvm.MethodName)) ∈ lw_all := lw_g (lw_at lw_m7 174 rfl) rfl
theorem q1744 : (Jvm.Cond.instanceMethod ({ cls := "Skeletons", name := "branch", desc := "(III)J" } : Jvm.MethodName)) ∈ lw_all := lw_g (lw_at lw_m7 176 rfl) rfl
theorem q1745 : (Jvm.Cond.selects "Skeletons" ({ cls := "Skeletons", name := "branch", desc := "(III)J" } : Jvm.MethodName) ({ cls := "Skeletons", name := "branch", desc := "(III)J" } : Jvm.MethodName)) ∈ lw_all := lw_g (lw_at lw_m7 177 rfl) rfl
theorem q1746 : (Jvm.Cond.code ({ cls := "Skeletons", name := "branch", desc := "(III)J" } : Jvm.MethodName) prog_1_method_40_code (5 : Nat) (Option.some Jvm.ClassFile.FieldType.long)) ∈ lw_all := lw_g (lw_at lw_m7 178 rfl) rfl
theorem q1747 : (Jvm.Cond.methodLink "Skeletons" (348 : Nat) ({ cls := "Skeletons$Skeleton", name := "branch", desc := "(II)LSkeletons$Branch;" } : Jvm.MethodName)) ∈ lw_all := lw_g (lw_at lw_m7 179 rfl) rfl
theorem q1749 : (Jvm.Cond.instanceMethod ({ cls := "Skeletons", name := "greater", desc := "(III)I" } : Jvm.MethodName)) ∈ lw_all := lw_g (lw_at lw_m7 181 rfl) rfl
theorem q1750 : (Jvm.Cond.selects "Skeletons" ({ cls := "Skeletons", name := "greater", desc := "(III)I" } : Jvm.MethodName) ({ cls := "Skeletons", name := "greater", desc := "(III)I" } : Jvm.MethodName)) ∈ lw_all := lw_g (lw_at lw_m7 182 rfl) rfl
theorem q1751 : (Jvm.Cond.code ({ cls := "Skeletons", name := "greater", desc := "(III)I" } : Jvm.MethodName) prog_1_method_41_code (4 : Nat) (Option.some Jvm.ClassFile.FieldType.int)) ∈ lw_all := lw_g (lw_at lw_m7 183 rfl) rfl
theorem q1752 : (Jvm.Cond.methodLink "Skeletons" (361 : Nat) ({ cls := "java/lang/Integer", name := "signum", desc := "(I)I" } : Jvm.MethodName)) ∈ lw_all := lw_g (lw_at lw_m7 184 rfl) rfl
theorem q1756 : (Jvm.Cond.instanceMethod ({ cls := "Skeletons", name := "forms", desc := "(I)J" } : Jvm.MethodName)) ∈ lw_all := lw_g (lw_at lw_m7 188 rfl) rfl
theorem q1757 : (Jvm.Cond.selects "Skeletons" ({ cls := "Skeletons", name := "forms", desc := "(I)J" } : Jvm.MethodName) ({ cls := "Skeletons", name := "forms", desc := "(I)J" } : Jvm.MethodName)) ∈ lw_all := lw_g (lw_at lw_m7 189 rfl) rfl
theorem q1758 : (Jvm.Cond.code ({ cls := "Skeletons", name := "forms", desc := "(I)J" } : Jvm.MethodName) prog_1_method_42_code (6 : Nat) (Option.some Jvm.ClassFile.FieldType.long)) ∈ lw_all := lw_g (lw_at lw_m7 190 rfl) rfl
theorem q1759 : (Jvm.Cond.interfaceEntry "Skeletons" (367 : Nat)) ∈ lw_tbl := lw_at lw_m7 191 rfl
theorem q1760 : (Jvm.Cond.methodLink "Skeletons" (367 : Nat) ({ cls := "Skeletons$Whole", name := "forms", desc := "()J" } : Jvm.MethodName)) ∈ lw_all := lw_g (lw_at lw_m7 192 rfl) rfl
theorem q1806 : (Jvm.Cond.interfaceEntry "Skeletons" (370 : Nat)) ∈ lw_tbl := lw_at lw_m7 238 rfl
theorem q1807 : (Jvm.Cond.methodLink "Skeletons" (370 : Nat) ({ cls := "Skeletons$Whole", name := "own", desc := "()J" } : Jvm.MethodName)) ∈ lw_all := lw_g (lw_at lw_m7 239 rfl) rfl
theorem q1830 : (Jvm.Cond.instanceMethod ({ cls := "Skeletons", name := "symmetry", desc := "()J" } : Jvm.MethodName)) ∈ lw_all := lw_g (lw_at lw_m8 22 rfl) rfl
theorem q1831 : (Jvm.Cond.selects "Skeletons" ({ cls := "Skeletons", name := "symmetry", desc := "()J" } : Jvm.MethodName) ({ cls := "Skeletons", name := "symmetry", desc := "()J" } : Jvm.MethodName)) ∈ lw_all := lw_g (lw_at lw_m8 23 rfl) rfl
theorem q1832 : (Jvm.Cond.code ({ cls := "Skeletons", name := "symmetry", desc := "()J" } : Jvm.MethodName) prog_1_method_43_code (1 : Nat) (Option.some Jvm.ClassFile.FieldType.long)) ∈ lw_all := lw_g (lw_at lw_m8 24 rfl) rfl
theorem q1833 : (Jvm.Cond.interfaceEntry "Skeletons" (372 : Nat)) ∈ lw_tbl := lw_at lw_m8 25 rfl
theorem q1834 : (Jvm.Cond.methodLink "Skeletons" (372 : Nat) ({ cls := "Skeletons$Whole", name := "symmetry", desc := "()J" } : Jvm.MethodName)) ∈ lw_all := lw_g (lw_at lw_m8 26 rfl) rfl
theorem q1848 : (Jvm.Cond.instanceMethod ({ cls := "Skeletons", name := "marked", desc := "(I)I" } : Jvm.MethodName)) ∈ lw_all := lw_g (lw_at lw_m8 40 rfl) rfl
theorem q1849 : (Jvm.Cond.selects "Skeletons" ({ cls := "Skeletons", name := "marked", desc := "(I)I" } : Jvm.MethodName) ({ cls := "Skeletons", name := "marked", desc := "(I)I" } : Jvm.MethodName)) ∈ lw_all := lw_g (lw_at lw_m8 41 rfl) rfl
theorem q1850 : (Jvm.Cond.code ({ cls := "Skeletons", name := "marked", desc := "(I)I" } : Jvm.MethodName) prog_1_method_44_code (2 : Nat) (Option.some Jvm.ClassFile.FieldType.int)) ∈ lw_all := lw_g (lw_at lw_m8 42 rfl) rfl
theorem q1851 : (Jvm.Cond.interfaceEntry "Skeletons" (375 : Nat)) ∈ lw_tbl := lw_at lw_m8 43 rfl
theorem q1852 : (Jvm.Cond.methodLink "Skeletons" (375 : Nat) ({ cls := "Skeletons$Whole", name := "marked", desc := "()[J" } : Jvm.MethodName)) ∈ lw_all := lw_g (lw_at lw_m8 44 rfl) rfl
theorem q1886 : (Jvm.Cond.instanceMethod ({ cls := "Skeletons", name := "name", desc := "(I)I" } : Jvm.MethodName)) ∈ lw_all := lw_g (lw_at lw_m8 78 rfl) rfl
theorem q1887 : (Jvm.Cond.selects "Skeletons" ({ cls := "Skeletons", name := "name", desc := "(I)I" } : Jvm.MethodName) ({ cls := "Skeletons", name := "name", desc := "(I)I" } : Jvm.MethodName)) ∈ lw_all := lw_g (lw_at lw_m8 79 rfl) rfl
theorem q1888 : (Jvm.Cond.code ({ cls := "Skeletons", name := "name", desc := "(I)I" } : Jvm.MethodName) prog_1_method_45_code (2 : Nat) (Option.some Jvm.ClassFile.FieldType.int)) ∈ lw_all := lw_g (lw_at lw_m8 80 rfl) rfl
theorem q1889 : (Jvm.Cond.methodLink "Skeletons" (379 : Nat) ({ cls := "Skeletons$Skeleton", name := "name", desc := "()Ljava/lang/String;" } : Jvm.MethodName)) ∈ lw_all := lw_g (lw_at lw_m8 81 rfl) rfl
theorem q2033 : (Jvm.Cond.methodLink "Skeletons" (381 : Nat) ({ cls := "java/lang/String", name := "length", desc := "()I" } : Jvm.MethodName)) ∈ lw_all := lw_g (lw_at lw_m8 225 rfl) rfl
theorem q2034 : (Jvm.Cond.methodLink "Skeletons" (386 : Nat) ({ cls := "java/lang/String", name := "charAt", desc := "(I)C" } : Jvm.MethodName)) ∈ lw_all := lw_g (lw_at lw_m8 226 rfl) rfl
theorem q2046 : (Jvm.Cond.instanceMethod ({ cls := "Skeletons", name := "count", desc := "(I)I" } : Jvm.MethodName)) ∈ lw_all := lw_g (lw_at lw_m8 238 rfl) rfl
theorem q2047 : (Jvm.Cond.selects "Skeletons" ({ cls := "Skeletons", name := "count", desc := "(I)I" } : Jvm.MethodName) ({ cls := "Skeletons", name := "count", desc := "(I)I" } : Jvm.MethodName)) ∈ lw_all := lw_g (lw_at lw_m8 239 rfl) rfl
theorem q2048 : (Jvm.Cond.code ({ cls := "Skeletons", name := "count", desc := "(I)I" } : Jvm.MethodName) prog_1_method_47_code (2 : Nat) (Option.some Jvm.ClassFile.FieldType.int)) ∈ lw_all := lw_g (lw_at lw_m9 0 rfl) rfl
theorem q2049 : (Jvm.Cond.methodLink "Skeletons" (390 : Nat) ({ cls := "Skeletons$Skeleton", name := "withNeighbours", desc := "(I)I" } : Jvm.MethodName)) ∈ lw_all := lw_g (lw_at lw_m9 1 rfl) rfl
theorem q2050 : (Jvm.Cond.methodLink "Skeletons" (393 : Nat) ({ cls := "Skeletons$Skeleton", name := "longest", desc := "()I" } : Jvm.MethodName)) ∈ lw_all := lw_g (lw_at lw_m9 2 rfl) rfl
theorem q2051 : (Jvm.Cond.methodLink "Skeletons" (395 : Nat) ({ cls := "Skeletons", name := "apartAll", desc := "()I" } : Jvm.MethodName)) ∈ lw_all := lw_g (lw_at lw_m9 3 rfl) rfl
theorem q2052 : (Jvm.Cond.privateMethod ({ cls := "Skeletons", name := "apartAll", desc := "()I" } : Jvm.MethodName)) ∈ lw_tbl := lw_at lw_m9 4 rfl
theorem q2053 : (Jvm.Cond.instanceMethod ({ cls := "Skeletons", name := "apartAll", desc := "()I" } : Jvm.MethodName)) ∈ lw_all := lw_g (lw_at lw_m9 5 rfl) rfl
theorem q2054 : (Jvm.Cond.code ({ cls := "Skeletons", name := "apartAll", desc := "()I" } : Jvm.MethodName) prog_1_method_46_code (7 : Nat) (Option.some Jvm.ClassFile.FieldType.int)) ∈ lw_all := lw_g (lw_at lw_m9 6 rfl) rfl
theorem q2055 : (Jvm.Cond.methodLink "Skeletons" (398 : Nat) ({ cls := "Skeletons$Skeleton", name := "unlike", desc := "()I" } : Jvm.MethodName)) ∈ lw_all := lw_g (lw_at lw_m9 7 rfl) rfl
theorem q2056 : (Jvm.Cond.methodLink "Skeletons" (401 : Nat) ({ cls := "Skeletons$Skeleton", name := "asymmetric", desc := "()I" } : Jvm.MethodName)) ∈ lw_all := lw_g (lw_at lw_m9 8 rfl) rfl
theorem q2777 : (Jvm.Cond.castable "Skeletons" "java/lang/Object") ∈ lw_tbl := lw_at lw_m12 9 rfl
theorem in_X0 : ∀ w ∈ wsX00, w ∈ lw_all := lw_in wsX00 [362, 364, 366, 368, 370, 372, 374, 376, 378, 380, 382, 384, 386, 388] (by decide +kernel) (by decide +kernel)
/-! Skeletons$Skeleton -/
set_option maxRecDepth 100000
def RX1 : String := "Skeletons$Skeleton"
def TX1 : u_T := fun k => match k with
  | 0 => ("Skeletons$Skeleton", "bound", "[[I", true)
  | 1 => ("Skeletons$Skeleton", "many", "[I", true)
  | _ => ("Skeletons$Skeleton", "size", "I", false)
def tyX1 : Nat → FieldType := fun k => match k with
  | 0 => .array (.array .int)
  | 1 => .array .int
  | _ => .int
abbrev wsX10 : List Cond := u_ws RX1 TX1 3
theorem nmX1 : ∀ a, a < 3 → ∀ b, b < 3 → a ≠ b → (TX1 a).2.1 ≠ (TX1 b).2.1 := by decide +kernel
theorem tyX1_ok : ∀ k, k < 3 → parseFieldDescriptor (TX1 k).2.2.1 = some (tyX1 k) := by decide +kernel
abbrev cX1_init : ByteArray := prog_11_method_1_code
def yX1_init : MethodName := ⟨RX1, "<init>", "()V"⟩
def dkwX1_init_0 : List UInt8 := [42, 183, 0, 3, 42, 16, 16, 7, 197, 0, 9, 2, 181, 0, 11, 42, 16, 16, 188, 10, 181, 0, 16, 177]
abbrev dktX1_init_0 : List UInt8 := dkwX1_init_0 ++ []
theorem dksX1_init_0 : cX1_init.data.toList.drop 0 = dktX1_init_0 := by decide +kernel
theorem dX1_init_0 : decode cX1_init 0 = .ok (.aload_n 0, 1) := dk_42 (dk_at dksX1_init_0 0 rfl rfl)
theorem dX1_init_1 : decode cX1_init 1 = .ok (.invokespecial 3, 3) := dk_183 0 3 (dk_at dksX1_init_0 1 rfl rfl)
theorem dX1_init_4 : decode cX1_init 4 = .ok (.aload_n 0, 1) := dk_42 (dk_at dksX1_init_0 4 rfl rfl)
theorem dX1_init_5 : decode cX1_init 5 = .ok (.bipush 16, 2) := dk_16 16 (dk_at dksX1_init_0 5 rfl rfl)
theorem dX1_init_7 : decode cX1_init 7 = .ok (.iconst 4, 1) := dk_7 (dk_at dksX1_init_0 7 rfl rfl)
theorem dX1_init_8 : decode cX1_init 8 = .ok (.multianewarray 9 2, 4) := by decide +kernel
theorem dX1_init_12 : decode cX1_init 12 = .ok (.putfield 11, 3) := dk_181 0 11 (dk_at dksX1_init_0 12 rfl rfl)
theorem dX1_init_15 : decode cX1_init 15 = .ok (.aload_n 0, 1) := dk_42 (dk_at dksX1_init_0 15 rfl rfl)
theorem dX1_init_16 : decode cX1_init 16 = .ok (.bipush 16, 2) := dk_16 16 (dk_at dksX1_init_0 16 rfl rfl)
theorem dX1_init_18 : decode cX1_init 18 = .ok (.newarray .int, 2) := dk_188_10 (dk_at dksX1_init_0 18 rfl rfl)
theorem dX1_init_20 : decode cX1_init 20 = .ok (.putfield 16, 3) := dk_181 0 16 (dk_at dksX1_init_0 20 rfl rfl)
theorem dX1_init_23 : decode cX1_init 23 = .ok (.return_, 1) := dk_177 (dk_at dksX1_init_0 23 rfl rfl)
abbrev cX1_adds : ByteArray := prog_11_method_2_code
def yX1_adds : MethodName := ⟨RX1, "adds", "()LSkeletons$Skeleton;"⟩
def dkwX1_adds_0 : List UInt8 := [42, 180, 0, 16, 42, 180, 0, 20, 3, 79, 42, 89, 180, 0, 20, 4, 96, 181, 0, 20, 42, 176]
abbrev dktX1_adds_0 : List UInt8 := dkwX1_adds_0 ++ []
theorem dksX1_adds_0 : cX1_adds.data.toList.drop 0 = dktX1_adds_0 := by decide +kernel
theorem dX1_adds_0 : decode cX1_adds 0 = .ok (.aload_n 0, 1) := dk_42 (dk_at dksX1_adds_0 0 rfl rfl)
theorem dX1_adds_1 : decode cX1_adds 1 = .ok (.getfield 16, 3) := dk_180 0 16 (dk_at dksX1_adds_0 1 rfl rfl)
theorem dX1_adds_4 : decode cX1_adds 4 = .ok (.aload_n 0, 1) := dk_42 (dk_at dksX1_adds_0 4 rfl rfl)
theorem dX1_adds_5 : decode cX1_adds 5 = .ok (.getfield 20, 3) := dk_180 0 20 (dk_at dksX1_adds_0 5 rfl rfl)
theorem dX1_adds_8 : decode cX1_adds 8 = .ok (.iconst 0, 1) := dk_3 (dk_at dksX1_adds_0 8 rfl rfl)
theorem dX1_adds_9 : decode cX1_adds 9 = .ok (.iastore, 1) := dk_79 (dk_at dksX1_adds_0 9 rfl rfl)
theorem dX1_adds_10 : decode cX1_adds 10 = .ok (.aload_n 0, 1) := dk_42 (dk_at dksX1_adds_0 10 rfl rfl)
theorem dX1_adds_11 : decode cX1_adds 11 = .ok (.dup, 1) := dk_89 (dk_at dksX1_adds_0 11 rfl rfl)
theorem dX1_adds_12 : decode cX1_adds 12 = .ok (.getfield 20, 3) := dk_180 0 20 (dk_at dksX1_adds_0 12 rfl rfl)
theorem dX1_adds_15 : decode cX1_adds 15 = .ok (.iconst 1, 1) := dk_4 (dk_at dksX1_adds_0 15 rfl rfl)
theorem dX1_adds_16 : decode cX1_adds 16 = .ok (.iadd, 1) := dk_96 (dk_at dksX1_adds_0 16 rfl rfl)
theorem dX1_adds_17 : decode cX1_adds 17 = .ok (.putfield 20, 3) := dk_181 0 20 (dk_at dksX1_adds_0 17 rfl rfl)
theorem dX1_adds_20 : decode cX1_adds 20 = .ok (.aload_n 0, 1) := dk_42 (dk_at dksX1_adds_0 20 rfl rfl)
theorem dX1_adds_21 : decode cX1_adds 21 = .ok (.areturn, 1) := dk_176 (dk_at dksX1_adds_0 21 rfl rfl)
abbrev cX1_isFull : ByteArray := prog_11_method_3_code
def yX1_isFull : MethodName := ⟨RX1, "isFull", "(I)Z"⟩
def dkwX1_isFull_0 : List UInt8 := [42, 180, 0, 16, 27, 46, 7, 160, 0, 7, 4, 167, 0, 4, 3, 172]
abbrev dktX1_isFull_0 : List UInt8 := dkwX1_isFull_0 ++ []
theorem dksX1_isFull_0 : cX1_isFull.data.toList.drop 0 = dktX1_isFull_0 := by decide +kernel
theorem dX1_isFull_0 : decode cX1_isFull 0 = .ok (.aload_n 0, 1) := dk_42 (dk_at dksX1_isFull_0 0 rfl rfl)
theorem dX1_isFull_1 : decode cX1_isFull 1 = .ok (.getfield 16, 3) := dk_180 0 16 (dk_at dksX1_isFull_0 1 rfl rfl)
theorem dX1_isFull_4 : decode cX1_isFull 4 = .ok (.iload_n 1, 1) := dk_27 (dk_at dksX1_isFull_0 4 rfl rfl)
theorem dX1_isFull_5 : decode cX1_isFull 5 = .ok (.iaload, 1) := dk_46 (dk_at dksX1_isFull_0 5 rfl rfl)
theorem dX1_isFull_6 : decode cX1_isFull 6 = .ok (.iconst 4, 1) := dk_7 (dk_at dksX1_isFull_0 6 rfl rfl)
theorem dX1_isFull_7 : decode cX1_isFull 7 = .ok (.if_icmp .ne 7, 3) := dk_160 0 7 (dk_at dksX1_isFull_0 7 rfl rfl)
theorem dX1_isFull_10 : decode cX1_isFull 10 = .ok (.iconst 1, 1) := dk_4 (dk_at dksX1_isFull_0 10 rfl rfl)
theorem dX1_isFull_11 : decode cX1_isFull 11 = .ok (.goto 4, 3) := dk_167 0 4 (dk_at dksX1_isFull_0 11 rfl rfl)
theorem dX1_isFull_14 : decode cX1_isFull 14 = .ok (.iconst 0, 1) := dk_3 (dk_at dksX1_isFull_0 14 rfl rfl)
theorem dX1_isFull_15 : decode cX1_isFull 15 = .ok (.ireturn, 1) := dk_172 (dk_at dksX1_isFull_0 15 rfl rfl)
abbrev cX1_binds : ByteArray := prog_11_method_4_code
def yX1_binds : MethodName := ⟨RX1, "binds", "(II)V"⟩
def dkwX1_binds_0 : List UInt8 := [42, 27, 28, 182, 0, 24, 42, 28, 27, 182, 0, 24, 177]
abbrev dktX1_binds_0 : List UInt8 := dkwX1_binds_0 ++ []
theorem dksX1_binds_0 : cX1_binds.data.toList.drop 0 = dktX1_binds_0 := by decide +kernel
theorem dX1_binds_0 : decode cX1_binds 0 = .ok (.aload_n 0, 1) := dk_42 (dk_at dksX1_binds_0 0 rfl rfl)
theorem dX1_binds_1 : decode cX1_binds 1 = .ok (.iload_n 1, 1) := dk_27 (dk_at dksX1_binds_0 1 rfl rfl)
theorem dX1_binds_2 : decode cX1_binds 2 = .ok (.iload_n 2, 1) := dk_28 (dk_at dksX1_binds_0 2 rfl rfl)
theorem dX1_binds_3 : decode cX1_binds 3 = .ok (.invokevirtual 24, 3) := dk_182 0 24 (dk_at dksX1_binds_0 3 rfl rfl)
theorem dX1_binds_6 : decode cX1_binds 6 = .ok (.aload_n 0, 1) := dk_42 (dk_at dksX1_binds_0 6 rfl rfl)
theorem dX1_binds_7 : decode cX1_binds 7 = .ok (.iload_n 2, 1) := dk_28 (dk_at dksX1_binds_0 7 rfl rfl)
theorem dX1_binds_8 : decode cX1_binds 8 = .ok (.iload_n 1, 1) := dk_27 (dk_at dksX1_binds_0 8 rfl rfl)
theorem dX1_binds_9 : decode cX1_binds 9 = .ok (.invokevirtual 24, 3) := dk_182 0 24 (dk_at dksX1_binds_0 9 rfl rfl)
theorem dX1_binds_12 : decode cX1_binds 12 = .ok (.return_, 1) := dk_177 (dk_at dksX1_binds_0 12 rfl rfl)
abbrev cX1_puts : ByteArray := prog_11_method_5_code
def yX1_puts : MethodName := ⟨RX1, "puts", "(II)V"⟩
def dkwX1_puts_2 : List UInt8 := [167, 255, 217, 42, 180, 0, 11, 27, 50, 29, 28, 79, 42, 180, 0, 16, 27, 92, 46, 4, 96, 79, 177]
abbrev dktX1_puts_2 : List UInt8 := dkwX1_puts_2 ++ []
def dkwX1_puts_1 : List UInt8 := [164, 0, 27, 42, 180, 0, 11, 27, 50, 29, 42, 180, 0, 11, 27, 50, 29, 4, 100, 46, 79, 132, 3, 255]
abbrev dktX1_puts_1 : List UInt8 := dkwX1_puts_1 ++ dktX1_puts_2
def dkwX1_puts_0 : List UInt8 := [42, 180, 0, 16, 27, 46, 62, 29, 158, 0, 41, 42, 180, 0, 11, 27, 50, 29, 4, 100, 46, 28]
abbrev dktX1_puts_0 : List UInt8 := dkwX1_puts_0 ++ dktX1_puts_1
theorem dksX1_puts_0 : cX1_puts.data.toList.drop 0 = dktX1_puts_0 := by decide +kernel
theorem dksX1_puts_1 : cX1_puts.data.toList.drop 22 = dktX1_puts_1 := dk_seg dksX1_puts_0 22 rfl rfl
theorem dksX1_puts_2 : cX1_puts.data.toList.drop 46 = dktX1_puts_2 := dk_seg dksX1_puts_1 24 rfl rfl
theorem dX1_puts_0 : decode cX1_puts 0 = .ok (.aload_n 0, 1) := dk_42 (dk_at dksX1_puts_0 0 rfl rfl)
theorem dX1_puts_1 : decode cX1_puts 1 = .ok (.getfield 16, 3) := dk_180 0 16 (dk_at dksX1_puts_0 1 rfl rfl)
theorem dX1_puts_4 : decode cX1_puts 4 = .ok (.iload_n 1, 1) := dk_27 (dk_at dksX1_puts_0 4 rfl rfl)
theorem dX1_puts_5 : decode cX1_puts 5 = .ok (.iaload, 1) := dk_46 (dk_at dksX1_puts_0 5 rfl rfl)
theorem dX1_puts_6 : decode cX1_puts 6 = .ok (.istore_n 3, 1) := dk_62 (dk_at dksX1_puts_0 6 rfl rfl)
theorem dX1_puts_7 : decode cX1_puts 7 = .ok (.iload_n 3, 1) := dk_29 (dk_at dksX1_puts_0 7 rfl rfl)
theorem dX1_puts_8 : decode cX1_puts 8 = .ok (.ifCond .le 41, 3) := dk_158 0 41 (dk_at dksX1_puts_0 8 rfl rfl)
theorem dX1_puts_11 : decode cX1_puts 11 = .ok (.aload_n 0, 1) := dk_42 (dk_at dksX1_puts_0 11 rfl rfl)
theorem dX1_puts_12 : decode cX1_puts 12 = .ok (.getfield 11, 3) := dk_180 0 11 (dk_at dksX1_puts_0 12 rfl rfl)
theorem dX1_puts_15 : decode cX1_puts 15 = .ok (.iload_n 1, 1) := dk_27 (dk_at dksX1_puts_0 15 rfl rfl)
theorem dX1_puts_16 : decode cX1_puts 16 = .ok (.aaload, 1) := dk_50 (dk_at dksX1_puts_0 16 rfl rfl)
theorem dX1_puts_17 : decode cX1_puts 17 = .ok (.iload_n 3, 1) := dk_29 (dk_at dksX1_puts_0 17 rfl rfl)
theorem dX1_puts_18 : decode cX1_puts 18 = .ok (.iconst 1, 1) := dk_4 (dk_at dksX1_puts_0 18 rfl rfl)
theorem dX1_puts_19 : decode cX1_puts 19 = .ok (.isub, 1) := dk_100 (dk_at dksX1_puts_0 19 rfl rfl)
theorem dX1_puts_20 : decode cX1_puts 20 = .ok (.iaload, 1) := dk_46 (dk_at dksX1_puts_0 20 rfl rfl)
theorem dX1_puts_21 : decode cX1_puts 21 = .ok (.iload_n 2, 1) := dk_28 (dk_at dksX1_puts_0 21 rfl rfl)
theorem dX1_puts_22 : decode cX1_puts 22 = .ok (.if_icmp .le 27, 3) := dk_164 0 27 (dk_at dksX1_puts_1 0 rfl rfl)
theorem dX1_puts_25 : decode cX1_puts 25 = .ok (.aload_n 0, 1) := dk_42 (dk_at dksX1_puts_1 3 rfl rfl)
theorem dX1_puts_26 : decode cX1_puts 26 = .ok (.getfield 11, 3) := dk_180 0 11 (dk_at dksX1_puts_1 4 rfl rfl)
theorem dX1_puts_29 : decode cX1_puts 29 = .ok (.iload_n 1, 1) := dk_27 (dk_at dksX1_puts_1 7 rfl rfl)
theorem dX1_puts_30 : decode cX1_puts 30 = .ok (.aaload, 1) := dk_50 (dk_at dksX1_puts_1 8 rfl rfl)
theorem dX1_puts_31 : decode cX1_puts 31 = .ok (.iload_n 3, 1) := dk_29 (dk_at dksX1_puts_1 9 rfl rfl)
theorem dX1_puts_32 : decode cX1_puts 32 = .ok (.aload_n 0, 1) := dk_42 (dk_at dksX1_puts_1 10 rfl rfl)
theorem dX1_puts_33 : decode cX1_puts 33 = .ok (.getfield 11, 3) := dk_180 0 11 (dk_at dksX1_puts_1 11 rfl rfl)
theorem dX1_puts_36 : decode cX1_puts 36 = .ok (.iload_n 1, 1) := dk_27 (dk_at dksX1_puts_1 14 rfl rfl)
theorem dX1_puts_37 : decode cX1_puts 37 = .ok (.aaload, 1) := dk_50 (dk_at dksX1_puts_1 15 rfl rfl)
theorem dX1_puts_38 : decode cX1_puts 38 = .ok (.iload_n 3, 1) := dk_29 (dk_at dksX1_puts_1 16 rfl rfl)
theorem dX1_puts_39 : decode cX1_puts 39 = .ok (.iconst 1, 1) := dk_4 (dk_at dksX1_puts_1 17 rfl rfl)
theorem dX1_puts_40 : decode cX1_puts 40 = .ok (.isub, 1) := dk_100 (dk_at dksX1_puts_1 18 rfl rfl)
theorem dX1_puts_41 : decode cX1_puts 41 = .ok (.iaload, 1) := dk_46 (dk_at dksX1_puts_1 19 rfl rfl)
theorem dX1_puts_42 : decode cX1_puts 42 = .ok (.iastore, 1) := dk_79 (dk_at dksX1_puts_1 20 rfl rfl)
theorem dX1_puts_43 : decode cX1_puts 43 = .ok (.iinc 3 (-1), 3) := dk_132 3 255 (dk_at dksX1_puts_1 21 rfl rfl)
theorem dX1_puts_46 : decode cX1_puts 46 = .ok (.goto (-39), 3) := dk_167 255 217 (dk_at dksX1_puts_2 0 rfl rfl)
theorem dX1_puts_49 : decode cX1_puts 49 = .ok (.aload_n 0, 1) := dk_42 (dk_at dksX1_puts_2 3 rfl rfl)
theorem dX1_puts_50 : decode cX1_puts 50 = .ok (.getfield 11, 3) := dk_180 0 11 (dk_at dksX1_puts_2 4 rfl rfl)
theorem dX1_puts_53 : decode cX1_puts 53 = .ok (.iload_n 1, 1) := dk_27 (dk_at dksX1_puts_2 7 rfl rfl)
theorem dX1_puts_54 : decode cX1_puts 54 = .ok (.aaload, 1) := dk_50 (dk_at dksX1_puts_2 8 rfl rfl)
theorem dX1_puts_55 : decode cX1_puts 55 = .ok (.iload_n 3, 1) := dk_29 (dk_at dksX1_puts_2 9 rfl rfl)
theorem dX1_puts_56 : decode cX1_puts 56 = .ok (.iload_n 2, 1) := dk_28 (dk_at dksX1_puts_2 10 rfl rfl)
theorem dX1_puts_57 : decode cX1_puts 57 = .ok (.iastore, 1) := dk_79 (dk_at dksX1_puts_2 11 rfl rfl)
theorem dX1_puts_58 : decode cX1_puts 58 = .ok (.aload_n 0, 1) := dk_42 (dk_at dksX1_puts_2 12 rfl rfl)
theorem dX1_puts_59 : decode cX1_puts 59 = .ok (.getfield 16, 3) := dk_180 0 16 (dk_at dksX1_puts_2 13 rfl rfl)
theorem dX1_puts_62 : decode cX1_puts 62 = .ok (.iload_n 1, 1) := dk_27 (dk_at dksX1_puts_2 16 rfl rfl)
theorem dX1_puts_63 : decode cX1_puts 63 = .ok (.dup2, 1) := dk_92 (dk_at dksX1_puts_2 17 rfl rfl)
theorem dX1_puts_64 : decode cX1_puts 64 = .ok (.iaload, 1) := dk_46 (dk_at dksX1_puts_2 18 rfl rfl)
theorem dX1_puts_65 : decode cX1_puts 65 = .ok (.iconst 1, 1) := dk_4 (dk_at dksX1_puts_2 19 rfl rfl)
theorem dX1_puts_66 : decode cX1_puts 66 = .ok (.iadd, 1) := dk_96 (dk_at dksX1_puts_2 20 rfl rfl)
theorem dX1_puts_67 : decode cX1_puts 67 = .ok (.iastore, 1) := dk_79 (dk_at dksX1_puts_2 21 rfl rfl)
theorem dX1_puts_68 : decode cX1_puts 68 = .ok (.return_, 1) := dk_177 (dk_at dksX1_puts_2 22 rfl rfl)
abbrev cX1_by : ByteArray := prog_11_method_23_code
def yX1_by : MethodName := ⟨RX1, "by", "([I)LSkeletons$Skeleton;"⟩
def dkwX1_by_2 : List UInt8 := [182, 0, 37, 132, 3, 1, 167, 255, 220, 43, 176]
abbrev dktX1_by_2 : List UInt8 := dkwX1_by_2 ++ []
def dkwX1_by_1 : List UInt8 := [182, 0, 33, 87, 44, 42, 29, 46, 29, 79, 29, 158, 0, 15, 43, 44, 42, 29, 46, 4, 100, 46, 29]
abbrev dktX1_by_1 : List UInt8 := dkwX1_by_1 ++ dktX1_by_2
def dkwX1_by_0 : List UInt8 := [187, 0, 12, 89, 183, 0, 28, 76, 16, 16, 188, 10, 77, 3, 62, 29, 42, 190, 162, 0, 36, 43]
abbrev dktX1_by_0 : List UInt8 := dkwX1_by_0 ++ dktX1_by_1
theorem dksX1_by_0 : cX1_by.data.toList.drop 0 = dktX1_by_0 := by decide +kernel
theorem dksX1_by_1 : cX1_by.data.toList.drop 22 = dktX1_by_1 := dk_seg dksX1_by_0 22 rfl rfl
theorem dksX1_by_2 : cX1_by.data.toList.drop 45 = dktX1_by_2 := dk_seg dksX1_by_1 23 rfl rfl
theorem dX1_by_0 : decode cX1_by 0 = .ok (.new 12, 3) := dk_187 0 12 (dk_at dksX1_by_0 0 rfl rfl)
theorem dX1_by_3 : decode cX1_by 3 = .ok (.dup, 1) := dk_89 (dk_at dksX1_by_0 3 rfl rfl)
theorem dX1_by_4 : decode cX1_by 4 = .ok (.invokespecial 28, 3) := dk_183 0 28 (dk_at dksX1_by_0 4 rfl rfl)
theorem dX1_by_7 : decode cX1_by 7 = .ok (.astore_n 1, 1) := dk_76 (dk_at dksX1_by_0 7 rfl rfl)
theorem dX1_by_8 : decode cX1_by 8 = .ok (.bipush 16, 2) := dk_16 16 (dk_at dksX1_by_0 8 rfl rfl)
theorem dX1_by_10 : decode cX1_by 10 = .ok (.newarray .int, 2) := dk_188_10 (dk_at dksX1_by_0 10 rfl rfl)
theorem dX1_by_12 : decode cX1_by 12 = .ok (.astore_n 2, 1) := dk_77 (dk_at dksX1_by_0 12 rfl rfl)
theorem dX1_by_13 : decode cX1_by 13 = .ok (.iconst 0, 1) := dk_3 (dk_at dksX1_by_0 13 rfl rfl)
theorem dX1_by_14 : decode cX1_by 14 = .ok (.istore_n 3, 1) := dk_62 (dk_at dksX1_by_0 14 rfl rfl)
theorem dX1_by_15 : decode cX1_by 15 = .ok (.iload_n 3, 1) := dk_29 (dk_at dksX1_by_0 15 rfl rfl)
theorem dX1_by_16 : decode cX1_by 16 = .ok (.aload_n 0, 1) := dk_42 (dk_at dksX1_by_0 16 rfl rfl)
theorem dX1_by_17 : decode cX1_by 17 = .ok (.arraylength, 1) := dk_190 (dk_at dksX1_by_0 17 rfl rfl)
theorem dX1_by_18 : decode cX1_by 18 = .ok (.if_icmp .ge 36, 3) := dk_162 0 36 (dk_at dksX1_by_0 18 rfl rfl)
theorem dX1_by_21 : decode cX1_by 21 = .ok (.aload_n 1, 1) := dk_43 (dk_at dksX1_by_0 21 rfl rfl)
theorem dX1_by_22 : decode cX1_by 22 = .ok (.invokevirtual 33, 3) := dk_182 0 33 (dk_at dksX1_by_1 0 rfl rfl)
theorem dX1_by_25 : decode cX1_by 25 = .ok (.pop, 1) := dk_87 (dk_at dksX1_by_1 3 rfl rfl)
theorem dX1_by_26 : decode cX1_by 26 = .ok (.aload_n 2, 1) := dk_44 (dk_at dksX1_by_1 4 rfl rfl)
theorem dX1_by_27 : decode cX1_by 27 = .ok (.aload_n 0, 1) := dk_42 (dk_at dksX1_by_1 5 rfl rfl)
theorem dX1_by_28 : decode cX1_by 28 = .ok (.iload_n 3, 1) := dk_29 (dk_at dksX1_by_1 6 rfl rfl)
theorem dX1_by_29 : decode cX1_by 29 = .ok (.iaload, 1) := dk_46 (dk_at dksX1_by_1 7 rfl rfl)
theorem dX1_by_30 : decode cX1_by 30 = .ok (.iload_n 3, 1) := dk_29 (dk_at dksX1_by_1 8 rfl rfl)
theorem dX1_by_31 : decode cX1_by 31 = .ok (.iastore, 1) := dk_79 (dk_at dksX1_by_1 9 rfl rfl)
theorem dX1_by_32 : decode cX1_by 32 = .ok (.iload_n 3, 1) := dk_29 (dk_at dksX1_by_1 10 rfl rfl)
theorem dX1_by_33 : decode cX1_by 33 = .ok (.ifCond .le 15, 3) := dk_158 0 15 (dk_at dksX1_by_1 11 rfl rfl)
theorem dX1_by_36 : decode cX1_by 36 = .ok (.aload_n 1, 1) := dk_43 (dk_at dksX1_by_1 14 rfl rfl)
theorem dX1_by_37 : decode cX1_by 37 = .ok (.aload_n 2, 1) := dk_44 (dk_at dksX1_by_1 15 rfl rfl)
theorem dX1_by_38 : decode cX1_by 38 = .ok (.aload_n 0, 1) := dk_42 (dk_at dksX1_by_1 16 rfl rfl)
theorem dX1_by_39 : decode cX1_by 39 = .ok (.iload_n 3, 1) := dk_29 (dk_at dksX1_by_1 17 rfl rfl)
theorem dX1_by_40 : decode cX1_by 40 = .ok (.iaload, 1) := dk_46 (dk_at dksX1_by_1 18 rfl rfl)
theorem dX1_by_41 : decode cX1_by 41 = .ok (.iconst 1, 1) := dk_4 (dk_at dksX1_by_1 19 rfl rfl)
theorem dX1_by_42 : decode cX1_by 42 = .ok (.isub, 1) := dk_100 (dk_at dksX1_by_1 20 rfl rfl)
theorem dX1_by_43 : decode cX1_by 43 = .ok (.iaload, 1) := dk_46 (dk_at dksX1_by_1 21 rfl rfl)
theorem dX1_by_44 : decode cX1_by 44 = .ok (.iload_n 3, 1) := dk_29 (dk_at dksX1_by_1 22 rfl rfl)
theorem dX1_by_45 : decode cX1_by 45 = .ok (.invokevirtual 37, 3) := dk_182 0 37 (dk_at dksX1_by_2 0 rfl rfl)
theorem dX1_by_48 : decode cX1_by 48 = .ok (.iinc 3 1, 3) := dk_132 3 1 (dk_at dksX1_by_2 3 rfl rfl)
theorem dX1_by_51 : decode cX1_by 51 = .ok (.goto (-36), 3) := dk_167 255 220 (dk_at dksX1_by_2 6 rfl rfl)
theorem dX1_by_54 : decode cX1_by 54 = .ok (.aload_n 1, 1) := dk_43 (dk_at dksX1_by_2 9 rfl rfl)
theorem dX1_by_55 : decode cX1_by 55 = .ok (.areturn, 1) := dk_176 (dk_at dksX1_by_2 10 rfl rfl)
abbrev cX1_copy : ByteArray := prog_11_method_7_code
def yX1_copy : MethodName := ⟨RX1, "copy", "()LSkeletons$Skeleton;"⟩
def dkwX1_copy_0 : List UInt8 := [187, 0, 12, 89, 183, 0, 28, 76, 43, 42, 3, 182, 0, 29, 43, 176]
abbrev dktX1_copy_0 : List UInt8 := dkwX1_copy_0 ++ []
theorem dksX1_copy_0 : cX1_copy.data.toList.drop 0 = dktX1_copy_0 := by decide +kernel
theorem dX1_copy_0 : decode cX1_copy 0 = .ok (.new 12, 3) := dk_187 0 12 (dk_at dksX1_copy_0 0 rfl rfl)
theorem dX1_copy_3 : decode cX1_copy 3 = .ok (.dup, 1) := dk_89 (dk_at dksX1_copy_0 3 rfl rfl)
theorem dX1_copy_4 : decode cX1_copy 4 = .ok (.invokespecial 28, 3) := dk_183 0 28 (dk_at dksX1_copy_0 4 rfl rfl)
theorem dX1_copy_7 : decode cX1_copy 7 = .ok (.astore_n 1, 1) := dk_76 (dk_at dksX1_copy_0 7 rfl rfl)
theorem dX1_copy_8 : decode cX1_copy 8 = .ok (.aload_n 1, 1) := dk_43 (dk_at dksX1_copy_0 8 rfl rfl)
theorem dX1_copy_9 : decode cX1_copy 9 = .ok (.aload_n 0, 1) := dk_42 (dk_at dksX1_copy_0 9 rfl rfl)
theorem dX1_copy_10 : decode cX1_copy 10 = .ok (.iconst 0, 1) := dk_3 (dk_at dksX1_copy_0 10 rfl rfl)
theorem dX1_copy_11 : decode cX1_copy 11 = .ok (.invokevirtual 29, 3) := dk_182 0 29 (dk_at dksX1_copy_0 11 rfl rfl)
theorem dX1_copy_14 : decode cX1_copy 14 = .ok (.aload_n 1, 1) := dk_43 (dk_at dksX1_copy_0 14 rfl rfl)
theorem dX1_copy_15 : decode cX1_copy 15 = .ok (.areturn, 1) := dk_176 (dk_at dksX1_copy_0 15 rfl rfl)
abbrev cX1_takes : ByteArray := prog_11_method_8_code
def yX1_takes : MethodName := ⟨RX1, "takes", "(LSkeletons$Skeleton;I)V"⟩
def dkwX1_takes_3 : List UInt8 := [21, 4, 46, 96, 182, 0, 37, 132, 4, 1, 167, 255, 211, 132, 3, 1, 167, 255, 194, 177]
abbrev dktX1_takes_3 : List UInt8 := dkwX1_takes_3 ++ []
def dkwX1_takes_2 : List UInt8 := [180, 0, 11, 29, 50, 21, 4, 46, 29, 164, 0, 21, 42, 28, 29, 96, 28, 43, 180, 0, 11, 29, 50]
abbrev dktX1_takes_2 : List UInt8 := dkwX1_takes_2 ++ dktX1_takes_3
def dkwX1_takes_1 : List UInt8 := [43, 180, 0, 20, 162, 0, 60, 3, 54, 4, 21, 4, 43, 180, 0, 16, 29, 46, 162, 0, 40, 43]
abbrev dktX1_takes_1 : List UInt8 := dkwX1_takes_1 ++ dktX1_takes_2
def dkwX1_takes_0 : List UInt8 := [3, 62, 29, 43, 180, 0, 20, 162, 0, 14, 42, 182, 0, 33, 87, 132, 3, 1, 167, 255, 240, 3, 62, 29]
abbrev dktX1_takes_0 : List UInt8 := dkwX1_takes_0 ++ dktX1_takes_1
theorem dksX1_takes_0 : cX1_takes.data.toList.drop 0 = dktX1_takes_0 := by decide +kernel
theorem dksX1_takes_1 : cX1_takes.data.toList.drop 24 = dktX1_takes_1 := dk_seg dksX1_takes_0 24 rfl rfl
theorem dksX1_takes_2 : cX1_takes.data.toList.drop 46 = dktX1_takes_2 := dk_seg dksX1_takes_1 22 rfl rfl
theorem dksX1_takes_3 : cX1_takes.data.toList.drop 69 = dktX1_takes_3 := dk_seg dksX1_takes_2 23 rfl rfl
theorem dX1_takes_0 : decode cX1_takes 0 = .ok (.iconst 0, 1) := dk_3 (dk_at dksX1_takes_0 0 rfl rfl)
theorem dX1_takes_1 : decode cX1_takes 1 = .ok (.istore_n 3, 1) := dk_62 (dk_at dksX1_takes_0 1 rfl rfl)
theorem dX1_takes_2 : decode cX1_takes 2 = .ok (.iload_n 3, 1) := dk_29 (dk_at dksX1_takes_0 2 rfl rfl)
theorem dX1_takes_3 : decode cX1_takes 3 = .ok (.aload_n 1, 1) := dk_43 (dk_at dksX1_takes_0 3 rfl rfl)
theorem dX1_takes_4 : decode cX1_takes 4 = .ok (.getfield 20, 3) := dk_180 0 20 (dk_at dksX1_takes_0 4 rfl rfl)
theorem dX1_takes_7 : decode cX1_takes 7 = .ok (.if_icmp .ge 14, 3) := dk_162 0 14 (dk_at dksX1_takes_0 7 rfl rfl)
theorem dX1_takes_10 : decode cX1_takes 10 = .ok (.aload_n 0, 1) := dk_42 (dk_at dksX1_takes_0 10 rfl rfl)
theorem dX1_takes_11 : decode cX1_takes 11 = .ok (.invokevirtual 33, 3) := dk_182 0 33 (dk_at dksX1_takes_0 11 rfl rfl)
theorem dX1_takes_14 : decode cX1_takes 14 = .ok (.pop, 1) := dk_87 (dk_at dksX1_takes_0 14 rfl rfl)
theorem dX1_takes_15 : decode cX1_takes 15 = .ok (.iinc 3 1, 3) := dk_132 3 1 (dk_at dksX1_takes_0 15 rfl rfl)
theorem dX1_takes_18 : decode cX1_takes 18 = .ok (.goto (-16), 3) := dk_167 255 240 (dk_at dksX1_takes_0 18 rfl rfl)
theorem dX1_takes_21 : decode cX1_takes 21 = .ok (.iconst 0, 1) := dk_3 (dk_at dksX1_takes_0 21 rfl rfl)
theorem dX1_takes_22 : decode cX1_takes 22 = .ok (.istore_n 3, 1) := dk_62 (dk_at dksX1_takes_0 22 rfl rfl)
theorem dX1_takes_23 : decode cX1_takes 23 = .ok (.iload_n 3, 1) := dk_29 (dk_at dksX1_takes_0 23 rfl rfl)
theorem dX1_takes_24 : decode cX1_takes 24 = .ok (.aload_n 1, 1) := dk_43 (dk_at dksX1_takes_1 0 rfl rfl)
theorem dX1_takes_25 : decode cX1_takes 25 = .ok (.getfield 20, 3) := dk_180 0 20 (dk_at dksX1_takes_1 1 rfl rfl)
theorem dX1_takes_28 : decode cX1_takes 28 = .ok (.if_icmp .ge 60, 3) := dk_162 0 60 (dk_at dksX1_takes_1 4 rfl rfl)
theorem dX1_takes_31 : decode cX1_takes 31 = .ok (.iconst 0, 1) := dk_3 (dk_at dksX1_takes_1 7 rfl rfl)
theorem dX1_takes_32 : decode cX1_takes 32 = .ok (.istore 4, 2) := dk_54 4 (dk_at dksX1_takes_1 8 rfl rfl)
theorem dX1_takes_34 : decode cX1_takes 34 = .ok (.iload 4, 2) := dk_21 4 (dk_at dksX1_takes_1 10 rfl rfl)
theorem dX1_takes_36 : decode cX1_takes 36 = .ok (.aload_n 1, 1) := dk_43 (dk_at dksX1_takes_1 12 rfl rfl)
theorem dX1_takes_37 : decode cX1_takes 37 = .ok (.getfield 16, 3) := dk_180 0 16 (dk_at dksX1_takes_1 13 rfl rfl)
theorem dX1_takes_40 : decode cX1_takes 40 = .ok (.iload_n 3, 1) := dk_29 (dk_at dksX1_takes_1 16 rfl rfl)
theorem dX1_takes_41 : decode cX1_takes 41 = .ok (.iaload, 1) := dk_46 (dk_at dksX1_takes_1 17 rfl rfl)
theorem dX1_takes_42 : decode cX1_takes 42 = .ok (.if_icmp .ge 40, 3) := dk_162 0 40 (dk_at dksX1_takes_1 18 rfl rfl)
theorem dX1_takes_45 : decode cX1_takes 45 = .ok (.aload_n 1, 1) := dk_43 (dk_at dksX1_takes_1 21 rfl rfl)
theorem dX1_takes_46 : decode cX1_takes 46 = .ok (.getfield 11, 3) := dk_180 0 11 (dk_at dksX1_takes_2 0 rfl rfl)
theorem dX1_takes_49 : decode cX1_takes 49 = .ok (.iload_n 3, 1) := dk_29 (dk_at dksX1_takes_2 3 rfl rfl)
theorem dX1_takes_50 : decode cX1_takes 50 = .ok (.aaload, 1) := dk_50 (dk_at dksX1_takes_2 4 rfl rfl)
theorem dX1_takes_51 : decode cX1_takes 51 = .ok (.iload 4, 2) := dk_21 4 (dk_at dksX1_takes_2 5 rfl rfl)
theorem dX1_takes_53 : decode cX1_takes 53 = .ok (.iaload, 1) := dk_46 (dk_at dksX1_takes_2 7 rfl rfl)
theorem dX1_takes_54 : decode cX1_takes 54 = .ok (.iload_n 3, 1) := dk_29 (dk_at dksX1_takes_2 8 rfl rfl)
theorem dX1_takes_55 : decode cX1_takes 55 = .ok (.if_icmp .le 21, 3) := dk_164 0 21 (dk_at dksX1_takes_2 9 rfl rfl)
theorem dX1_takes_58 : decode cX1_takes 58 = .ok (.aload_n 0, 1) := dk_42 (dk_at dksX1_takes_2 12 rfl rfl)
theorem dX1_takes_59 : decode cX1_takes 59 = .ok (.iload_n 2, 1) := dk_28 (dk_at dksX1_takes_2 13 rfl rfl)
theorem dX1_takes_60 : decode cX1_takes 60 = .ok (.iload_n 3, 1) := dk_29 (dk_at dksX1_takes_2 14 rfl rfl)
theorem dX1_takes_61 : decode cX1_takes 61 = .ok (.iadd, 1) := dk_96 (dk_at dksX1_takes_2 15 rfl rfl)
theorem dX1_takes_62 : decode cX1_takes 62 = .ok (.iload_n 2, 1) := dk_28 (dk_at dksX1_takes_2 16 rfl rfl)
theorem dX1_takes_63 : decode cX1_takes 63 = .ok (.aload_n 1, 1) := dk_43 (dk_at dksX1_takes_2 17 rfl rfl)
theorem dX1_takes_64 : decode cX1_takes 64 = .ok (.getfield 11, 3) := dk_180 0 11 (dk_at dksX1_takes_2 18 rfl rfl)
theorem dX1_takes_67 : decode cX1_takes 67 = .ok (.iload_n 3, 1) := dk_29 (dk_at dksX1_takes_2 21 rfl rfl)
theorem dX1_takes_68 : decode cX1_takes 68 = .ok (.aaload, 1) := dk_50 (dk_at dksX1_takes_2 22 rfl rfl)
theorem dX1_takes_69 : decode cX1_takes 69 = .ok (.iload 4, 2) := dk_21 4 (dk_at dksX1_takes_3 0 rfl rfl)
theorem dX1_takes_71 : decode cX1_takes 71 = .ok (.iaload, 1) := dk_46 (dk_at dksX1_takes_3 2 rfl rfl)
theorem dX1_takes_72 : decode cX1_takes 72 = .ok (.iadd, 1) := dk_96 (dk_at dksX1_takes_3 3 rfl rfl)
theorem dX1_takes_73 : decode cX1_takes 73 = .ok (.invokevirtual 37, 3) := dk_182 0 37 (dk_at dksX1_takes_3 4 rfl rfl)
theorem dX1_takes_76 : decode cX1_takes 76 = .ok (.iinc 4 1, 3) := dk_132 4 1 (dk_at dksX1_takes_3 7 rfl rfl)
theorem dX1_takes_79 : decode cX1_takes 79 = .ok (.goto (-45), 3) := dk_167 255 211 (dk_at dksX1_takes_3 10 rfl rfl)
theorem dX1_takes_82 : decode cX1_takes 82 = .ok (.iinc 3 1, 3) := dk_132 3 1 (dk_at dksX1_takes_3 13 rfl rfl)
theorem dX1_takes_85 : decode cX1_takes 85 = .ok (.goto (-62), 3) := dk_167 255 194 (dk_at dksX1_takes_3 16 rfl rfl)
theorem dX1_takes_88 : decode cX1_takes 88 = .ok (.return_, 1) := dk_177 (dk_at dksX1_takes_3 19 rfl rfl)
abbrev cX1_only : ByteArray := prog_11_method_10_code
def yX1_only : MethodName := ⟨RX1, "only", "(I)LSkeletons$Skeleton;"⟩
def dkwX1_only_5 : List UInt8 := [182, 0, 37, 132, 5, 1, 167, 255, 188, 132, 4, 1, 167, 255, 145, 44, 176]
abbrev dktX1_only_5 : List UInt8 := dkwX1_only_5 ++ []
def dkwX1_only_4 : List UInt8 := [126, 4, 160, 0, 23, 44, 45, 42, 180, 0, 11, 21, 4, 50, 21, 5, 46, 46, 45, 21, 4, 46]
abbrev dktX1_only_4 : List UInt8 := dkwX1_only_4 ++ dktX1_only_5
def dkwX1_only_3 : List UInt8 := [21, 4, 50, 21, 5, 46, 21, 4, 162, 0, 41, 27, 42, 180, 0, 11, 21, 4, 50, 21, 5, 46, 122, 4]
abbrev dktX1_only_3 : List UInt8 := dkwX1_only_3 ++ dktX1_only_4
def dkwX1_only_2 : List UInt8 := [182, 0, 33, 87, 3, 54, 5, 21, 5, 42, 180, 0, 16, 21, 4, 46, 162, 0, 62, 42, 180, 0, 11]
abbrev dktX1_only_2 : List UInt8 := dkwX1_only_2 ++ dktX1_only_3
def dkwX1_only_1 : List UInt8 := [162, 0, 108, 27, 21, 4, 122, 4, 126, 154, 0, 6, 167, 0, 90, 45, 21, 4, 44, 180, 0, 20, 79, 44]
abbrev dktX1_only_1 : List UInt8 := dkwX1_only_1 ++ dktX1_only_2
def dkwX1_only_0 : List UInt8 := [187, 0, 12, 89, 183, 0, 28, 77, 16, 16, 188, 10, 78, 3, 54, 4, 21, 4, 42, 180, 0, 20]
abbrev dktX1_only_0 : List UInt8 := dkwX1_only_0 ++ dktX1_only_1
theorem dksX1_only_0 : cX1_only.data.toList.drop 0 = dktX1_only_0 := by decide +kernel
theorem dksX1_only_1 : cX1_only.data.toList.drop 22 = dktX1_only_1 := dk_seg dksX1_only_0 22 rfl rfl
theorem dksX1_only_2 : cX1_only.data.toList.drop 46 = dktX1_only_2 := dk_seg dksX1_only_1 24 rfl rfl
theorem dksX1_only_3 : cX1_only.data.toList.drop 69 = dktX1_only_3 := dk_seg dksX1_only_2 23 rfl rfl
theorem dksX1_only_4 : cX1_only.data.toList.drop 93 = dktX1_only_4 := dk_seg dksX1_only_3 24 rfl rfl
theorem dksX1_only_5 : cX1_only.data.toList.drop 115 = dktX1_only_5 := dk_seg dksX1_only_4 22 rfl rfl
theorem dX1_only_0 : decode cX1_only 0 = .ok (.new 12, 3) := dk_187 0 12 (dk_at dksX1_only_0 0 rfl rfl)
theorem dX1_only_3 : decode cX1_only 3 = .ok (.dup, 1) := dk_89 (dk_at dksX1_only_0 3 rfl rfl)
theorem dX1_only_4 : decode cX1_only 4 = .ok (.invokespecial 28, 3) := dk_183 0 28 (dk_at dksX1_only_0 4 rfl rfl)
theorem dX1_only_7 : decode cX1_only 7 = .ok (.astore_n 2, 1) := dk_77 (dk_at dksX1_only_0 7 rfl rfl)
theorem dX1_only_8 : decode cX1_only 8 = .ok (.bipush 16, 2) := dk_16 16 (dk_at dksX1_only_0 8 rfl rfl)
theorem dX1_only_10 : decode cX1_only 10 = .ok (.newarray .int, 2) := dk_188_10 (dk_at dksX1_only_0 10 rfl rfl)
theorem dX1_only_12 : decode cX1_only 12 = .ok (.astore_n 3, 1) := dk_78 (dk_at dksX1_only_0 12 rfl rfl)
theorem dX1_only_13 : decode cX1_only 13 = .ok (.iconst 0, 1) := dk_3 (dk_at dksX1_only_0 13 rfl rfl)
theorem dX1_only_14 : decode cX1_only 14 = .ok (.istore 4, 2) := dk_54 4 (dk_at dksX1_only_0 14 rfl rfl)
theorem dX1_only_16 : decode cX1_only 16 = .ok (.iload 4, 2) := dk_21 4 (dk_at dksX1_only_0 16 rfl rfl)
theorem dX1_only_18 : decode cX1_only 18 = .ok (.aload_n 0, 1) := dk_42 (dk_at dksX1_only_0 18 rfl rfl)
theorem dX1_only_19 : decode cX1_only 19 = .ok (.getfield 20, 3) := dk_180 0 20 (dk_at dksX1_only_0 19 rfl rfl)
theorem dX1_only_22 : decode cX1_only 22 = .ok (.if_icmp .ge 108, 3) := dk_162 0 108 (dk_at dksX1_only_1 0 rfl rfl)
theorem dX1_only_25 : decode cX1_only 25 = .ok (.iload_n 1, 1) := dk_27 (dk_at dksX1_only_1 3 rfl rfl)
theorem dX1_only_26 : decode cX1_only 26 = .ok (.iload 4, 2) := dk_21 4 (dk_at dksX1_only_1 4 rfl rfl)
theorem dX1_only_28 : decode cX1_only 28 = .ok (.ishr, 1) := dk_122 (dk_at dksX1_only_1 6 rfl rfl)
theorem dX1_only_29 : decode cX1_only 29 = .ok (.iconst 1, 1) := dk_4 (dk_at dksX1_only_1 7 rfl rfl)
theorem dX1_only_30 : decode cX1_only 30 = .ok (.iand, 1) := dk_126 (dk_at dksX1_only_1 8 rfl rfl)
theorem dX1_only_31 : decode cX1_only 31 = .ok (.ifCond .ne 6, 3) := dk_154 0 6 (dk_at dksX1_only_1 9 rfl rfl)
theorem dX1_only_34 : decode cX1_only 34 = .ok (.goto 90, 3) := dk_167 0 90 (dk_at dksX1_only_1 12 rfl rfl)
theorem dX1_only_37 : decode cX1_only 37 = .ok (.aload_n 3, 1) := dk_45 (dk_at dksX1_only_1 15 rfl rfl)
theorem dX1_only_38 : decode cX1_only 38 = .ok (.iload 4, 2) := dk_21 4 (dk_at dksX1_only_1 16 rfl rfl)
theorem dX1_only_40 : decode cX1_only 40 = .ok (.aload_n 2, 1) := dk_44 (dk_at dksX1_only_1 18 rfl rfl)
theorem dX1_only_41 : decode cX1_only 41 = .ok (.getfield 20, 3) := dk_180 0 20 (dk_at dksX1_only_1 19 rfl rfl)
theorem dX1_only_44 : decode cX1_only 44 = .ok (.iastore, 1) := dk_79 (dk_at dksX1_only_1 22 rfl rfl)
theorem dX1_only_45 : decode cX1_only 45 = .ok (.aload_n 2, 1) := dk_44 (dk_at dksX1_only_1 23 rfl rfl)
theorem dX1_only_46 : decode cX1_only 46 = .ok (.invokevirtual 33, 3) := dk_182 0 33 (dk_at dksX1_only_2 0 rfl rfl)
theorem dX1_only_49 : decode cX1_only 49 = .ok (.pop, 1) := dk_87 (dk_at dksX1_only_2 3 rfl rfl)
theorem dX1_only_50 : decode cX1_only 50 = .ok (.iconst 0, 1) := dk_3 (dk_at dksX1_only_2 4 rfl rfl)
theorem dX1_only_51 : decode cX1_only 51 = .ok (.istore 5, 2) := dk_54 5 (dk_at dksX1_only_2 5 rfl rfl)
theorem dX1_only_53 : decode cX1_only 53 = .ok (.iload 5, 2) := dk_21 5 (dk_at dksX1_only_2 7 rfl rfl)
theorem dX1_only_55 : decode cX1_only 55 = .ok (.aload_n 0, 1) := dk_42 (dk_at dksX1_only_2 9 rfl rfl)
theorem dX1_only_56 : decode cX1_only 56 = .ok (.getfield 16, 3) := dk_180 0 16 (dk_at dksX1_only_2 10 rfl rfl)
theorem dX1_only_59 : decode cX1_only 59 = .ok (.iload 4, 2) := dk_21 4 (dk_at dksX1_only_2 13 rfl rfl)
theorem dX1_only_61 : decode cX1_only 61 = .ok (.iaload, 1) := dk_46 (dk_at dksX1_only_2 15 rfl rfl)
theorem dX1_only_62 : decode cX1_only 62 = .ok (.if_icmp .ge 62, 3) := dk_162 0 62 (dk_at dksX1_only_2 16 rfl rfl)
theorem dX1_only_65 : decode cX1_only 65 = .ok (.aload_n 0, 1) := dk_42 (dk_at dksX1_only_2 19 rfl rfl)
theorem dX1_only_66 : decode cX1_only 66 = .ok (.getfield 11, 3) := dk_180 0 11 (dk_at dksX1_only_2 20 rfl rfl)
theorem dX1_only_69 : decode cX1_only 69 = .ok (.iload 4, 2) := dk_21 4 (dk_at dksX1_only_3 0 rfl rfl)
theorem dX1_only_71 : decode cX1_only 71 = .ok (.aaload, 1) := dk_50 (dk_at dksX1_only_3 2 rfl rfl)
theorem dX1_only_72 : decode cX1_only 72 = .ok (.iload 5, 2) := dk_21 5 (dk_at dksX1_only_3 3 rfl rfl)
theorem dX1_only_74 : decode cX1_only 74 = .ok (.iaload, 1) := dk_46 (dk_at dksX1_only_3 5 rfl rfl)
theorem dX1_only_75 : decode cX1_only 75 = .ok (.iload 4, 2) := dk_21 4 (dk_at dksX1_only_3 6 rfl rfl)
theorem dX1_only_77 : decode cX1_only 77 = .ok (.if_icmp .ge 41, 3) := dk_162 0 41 (dk_at dksX1_only_3 8 rfl rfl)
theorem dX1_only_80 : decode cX1_only 80 = .ok (.iload_n 1, 1) := dk_27 (dk_at dksX1_only_3 11 rfl rfl)
theorem dX1_only_81 : decode cX1_only 81 = .ok (.aload_n 0, 1) := dk_42 (dk_at dksX1_only_3 12 rfl rfl)
theorem dX1_only_82 : decode cX1_only 82 = .ok (.getfield 11, 3) := dk_180 0 11 (dk_at dksX1_only_3 13 rfl rfl)
theorem dX1_only_85 : decode cX1_only 85 = .ok (.iload 4, 2) := dk_21 4 (dk_at dksX1_only_3 16 rfl rfl)
theorem dX1_only_87 : decode cX1_only 87 = .ok (.aaload, 1) := dk_50 (dk_at dksX1_only_3 18 rfl rfl)
theorem dX1_only_88 : decode cX1_only 88 = .ok (.iload 5, 2) := dk_21 5 (dk_at dksX1_only_3 19 rfl rfl)
theorem dX1_only_90 : decode cX1_only 90 = .ok (.iaload, 1) := dk_46 (dk_at dksX1_only_3 21 rfl rfl)
theorem dX1_only_91 : decode cX1_only 91 = .ok (.ishr, 1) := dk_122 (dk_at dksX1_only_3 22 rfl rfl)
theorem dX1_only_92 : decode cX1_only 92 = .ok (.iconst 1, 1) := dk_4 (dk_at dksX1_only_3 23 rfl rfl)
theorem dX1_only_93 : decode cX1_only 93 = .ok (.iand, 1) := dk_126 (dk_at dksX1_only_4 0 rfl rfl)
theorem dX1_only_94 : decode cX1_only 94 = .ok (.iconst 1, 1) := dk_4 (dk_at dksX1_only_4 1 rfl rfl)
theorem dX1_only_95 : decode cX1_only 95 = .ok (.if_icmp .ne 23, 3) := dk_160 0 23 (dk_at dksX1_only_4 2 rfl rfl)
theorem dX1_only_98 : decode cX1_only 98 = .ok (.aload_n 2, 1) := dk_44 (dk_at dksX1_only_4 5 rfl rfl)
theorem dX1_only_99 : decode cX1_only 99 = .ok (.aload_n 3, 1) := dk_45 (dk_at dksX1_only_4 6 rfl rfl)
theorem dX1_only_100 : decode cX1_only 100 = .ok (.aload_n 0, 1) := dk_42 (dk_at dksX1_only_4 7 rfl rfl)
theorem dX1_only_101 : decode cX1_only 101 = .ok (.getfield 11, 3) := dk_180 0 11 (dk_at dksX1_only_4 8 rfl rfl)
theorem dX1_only_104 : decode cX1_only 104 = .ok (.iload 4, 2) := dk_21 4 (dk_at dksX1_only_4 11 rfl rfl)
theorem dX1_only_106 : decode cX1_only 106 = .ok (.aaload, 1) := dk_50 (dk_at dksX1_only_4 13 rfl rfl)
theorem dX1_only_107 : decode cX1_only 107 = .ok (.iload 5, 2) := dk_21 5 (dk_at dksX1_only_4 14 rfl rfl)
theorem dX1_only_109 : decode cX1_only 109 = .ok (.iaload, 1) := dk_46 (dk_at dksX1_only_4 16 rfl rfl)
theorem dX1_only_110 : decode cX1_only 110 = .ok (.iaload, 1) := dk_46 (dk_at dksX1_only_4 17 rfl rfl)
theorem dX1_only_111 : decode cX1_only 111 = .ok (.aload_n 3, 1) := dk_45 (dk_at dksX1_only_4 18 rfl rfl)
theorem dX1_only_112 : decode cX1_only 112 = .ok (.iload 4, 2) := dk_21 4 (dk_at dksX1_only_4 19 rfl rfl)
theorem dX1_only_114 : decode cX1_only 114 = .ok (.iaload, 1) := dk_46 (dk_at dksX1_only_4 21 rfl rfl)
theorem dX1_only_115 : decode cX1_only 115 = .ok (.invokevirtual 37, 3) := dk_182 0 37 (dk_at dksX1_only_5 0 rfl rfl)
theorem dX1_only_118 : decode cX1_only 118 = .ok (.iinc 5 1, 3) := dk_132 5 1 (dk_at dksX1_only_5 3 rfl rfl)
theorem dX1_only_121 : decode cX1_only 121 = .ok (.goto (-68), 3) := dk_167 255 188 (dk_at dksX1_only_5 6 rfl rfl)
theorem dX1_only_124 : decode cX1_only 124 = .ok (.iinc 4 1, 3) := dk_132 4 1 (dk_at dksX1_only_5 9 rfl rfl)
theorem dX1_only_127 : decode cX1_only 127 = .ok (.goto (-111), 3) := dk_167 255 145 (dk_at dksX1_only_5 12 rfl rfl)
theorem dX1_only_130 : decode cX1_only 130 = .ok (.aload_n 2, 1) := dk_44 (dk_at dksX1_only_5 15 rfl rfl)
theorem dX1_only_131 : decode cX1_only 131 = .ok (.areturn, 1) := dk_176 (dk_at dksX1_only_5 16 rfl rfl)
abbrev cX1_isBound : ByteArray := prog_11_method_6_code
def yX1_isBound : MethodName := ⟨RX1, "isBound", "(II)Z"⟩
def dkwX1_isBound_1 : List UInt8 := [4, 172, 132, 3, 1, 167, 255, 229, 3, 172]
abbrev dktX1_isBound_1 : List UInt8 := dkwX1_isBound_1 ++ []
def dkwX1_isBound_0 : List UInt8 := [3, 62, 29, 42, 180, 0, 16, 27, 46, 162, 0, 23, 42, 180, 0, 11, 27, 50, 29, 46, 28, 160, 0, 5]
abbrev dktX1_isBound_0 : List UInt8 := dkwX1_isBound_0 ++ dktX1_isBound_1
theorem dksX1_isBound_0 : cX1_isBound.data.toList.drop 0 = dktX1_isBound_0 := by decide +kernel
theorem dksX1_isBound_1 : cX1_isBound.data.toList.drop 24 = dktX1_isBound_1 := dk_seg dksX1_isBound_0 24 rfl rfl
theorem dX1_isBound_0 : decode cX1_isBound 0 = .ok (.iconst 0, 1) := dk_3 (dk_at dksX1_isBound_0 0 rfl rfl)
theorem dX1_isBound_1 : decode cX1_isBound 1 = .ok (.istore_n 3, 1) := dk_62 (dk_at dksX1_isBound_0 1 rfl rfl)
theorem dX1_isBound_2 : decode cX1_isBound 2 = .ok (.iload_n 3, 1) := dk_29 (dk_at dksX1_isBound_0 2 rfl rfl)
theorem dX1_isBound_3 : decode cX1_isBound 3 = .ok (.aload_n 0, 1) := dk_42 (dk_at dksX1_isBound_0 3 rfl rfl)
theorem dX1_isBound_4 : decode cX1_isBound 4 = .ok (.getfield 16, 3) := dk_180 0 16 (dk_at dksX1_isBound_0 4 rfl rfl)
theorem dX1_isBound_7 : decode cX1_isBound 7 = .ok (.iload_n 1, 1) := dk_27 (dk_at dksX1_isBound_0 7 rfl rfl)
theorem dX1_isBound_8 : decode cX1_isBound 8 = .ok (.iaload, 1) := dk_46 (dk_at dksX1_isBound_0 8 rfl rfl)
theorem dX1_isBound_9 : decode cX1_isBound 9 = .ok (.if_icmp .ge 23, 3) := dk_162 0 23 (dk_at dksX1_isBound_0 9 rfl rfl)
theorem dX1_isBound_12 : decode cX1_isBound 12 = .ok (.aload_n 0, 1) := dk_42 (dk_at dksX1_isBound_0 12 rfl rfl)
theorem dX1_isBound_13 : decode cX1_isBound 13 = .ok (.getfield 11, 3) := dk_180 0 11 (dk_at dksX1_isBound_0 13 rfl rfl)
theorem dX1_isBound_16 : decode cX1_isBound 16 = .ok (.iload_n 1, 1) := dk_27 (dk_at dksX1_isBound_0 16 rfl rfl)
theorem dX1_isBound_17 : decode cX1_isBound 17 = .ok (.aaload, 1) := dk_50 (dk_at dksX1_isBound_0 17 rfl rfl)
theorem dX1_isBound_18 : decode cX1_isBound 18 = .ok (.iload_n 3, 1) := dk_29 (dk_at dksX1_isBound_0 18 rfl rfl)
theorem dX1_isBound_19 : decode cX1_isBound 19 = .ok (.iaload, 1) := dk_46 (dk_at dksX1_isBound_0 19 rfl rfl)
theorem dX1_isBound_20 : decode cX1_isBound 20 = .ok (.iload_n 2, 1) := dk_28 (dk_at dksX1_isBound_0 20 rfl rfl)
theorem dX1_isBound_21 : decode cX1_isBound 21 = .ok (.if_icmp .ne 5, 3) := dk_160 0 5 (dk_at dksX1_isBound_0 21 rfl rfl)
theorem dX1_isBound_24 : decode cX1_isBound 24 = .ok (.iconst 1, 1) := dk_4 (dk_at dksX1_isBound_1 0 rfl rfl)
theorem dX1_isBound_25 : decode cX1_isBound 25 = .ok (.ireturn, 1) := dk_172 (dk_at dksX1_isBound_1 1 rfl rfl)
theorem dX1_isBound_26 : decode cX1_isBound 26 = .ok (.iinc 3 1, 3) := dk_132 3 1 (dk_at dksX1_isBound_1 2 rfl rfl)
theorem dX1_isBound_29 : decode cX1_isBound 29 = .ok (.goto (-27), 3) := dk_167 255 229 (dk_at dksX1_isBound_1 5 rfl rfl)
theorem dX1_isBound_32 : decode cX1_isBound 32 = .ok (.iconst 0, 1) := dk_3 (dk_at dksX1_isBound_1 8 rfl rfl)
theorem dX1_isBound_33 : decode cX1_isBound 33 = .ok (.ireturn, 1) := dk_172 (dk_at dksX1_isBound_1 9 rfl rfl)
abbrev cX1_hanging : ByteArray := prog_11_method_9_code
def yX1_hanging : MethodName := ⟨RX1, "hanging", "(II)I"⟩
def dkwX1_hanging_2 : List UInt8 := [132, 4, 1, 167, 255, 212, 29, 172]
abbrev dktX1_hanging_2 : List UInt8 := dkwX1_hanging_2 ++ []
def dkwX1_hanging_1 : List UInt8 := [21, 4, 46, 28, 159, 0, 20, 29, 42, 42, 180, 0, 11, 27, 50, 21, 4, 46, 27, 182, 0, 40, 128, 62]
abbrev dktX1_hanging_1 : List UInt8 := dkwX1_hanging_1 ++ dktX1_hanging_2
def dkwX1_hanging_0 : List UInt8 := [4, 27, 120, 62, 3, 54, 4, 21, 4, 42, 180, 0, 16, 27, 46, 162, 0, 39, 42, 180, 0, 11, 27, 50]
abbrev dktX1_hanging_0 : List UInt8 := dkwX1_hanging_0 ++ dktX1_hanging_1
theorem dksX1_hanging_0 : cX1_hanging.data.toList.drop 0 = dktX1_hanging_0 := by decide +kernel
theorem dksX1_hanging_1 : cX1_hanging.data.toList.drop 24 = dktX1_hanging_1 := dk_seg dksX1_hanging_0 24 rfl rfl
theorem dksX1_hanging_2 : cX1_hanging.data.toList.drop 48 = dktX1_hanging_2 := dk_seg dksX1_hanging_1 24 rfl rfl
theorem dX1_hanging_0 : decode cX1_hanging 0 = .ok (.iconst 1, 1) := dk_4 (dk_at dksX1_hanging_0 0 rfl rfl)
theorem dX1_hanging_1 : decode cX1_hanging 1 = .ok (.iload_n 1, 1) := dk_27 (dk_at dksX1_hanging_0 1 rfl rfl)
theorem dX1_hanging_2 : decode cX1_hanging 2 = .ok (.ishl, 1) := dk_120 (dk_at dksX1_hanging_0 2 rfl rfl)
theorem dX1_hanging_3 : decode cX1_hanging 3 = .ok (.istore_n 3, 1) := dk_62 (dk_at dksX1_hanging_0 3 rfl rfl)
theorem dX1_hanging_4 : decode cX1_hanging 4 = .ok (.iconst 0, 1) := dk_3 (dk_at dksX1_hanging_0 4 rfl rfl)
theorem dX1_hanging_5 : decode cX1_hanging 5 = .ok (.istore 4, 2) := dk_54 4 (dk_at dksX1_hanging_0 5 rfl rfl)
theorem dX1_hanging_7 : decode cX1_hanging 7 = .ok (.iload 4, 2) := dk_21 4 (dk_at dksX1_hanging_0 7 rfl rfl)
theorem dX1_hanging_9 : decode cX1_hanging 9 = .ok (.aload_n 0, 1) := dk_42 (dk_at dksX1_hanging_0 9 rfl rfl)
theorem dX1_hanging_10 : decode cX1_hanging 10 = .ok (.getfield 16, 3) := dk_180 0 16 (dk_at dksX1_hanging_0 10 rfl rfl)
theorem dX1_hanging_13 : decode cX1_hanging 13 = .ok (.iload_n 1, 1) := dk_27 (dk_at dksX1_hanging_0 13 rfl rfl)
theorem dX1_hanging_14 : decode cX1_hanging 14 = .ok (.iaload, 1) := dk_46 (dk_at dksX1_hanging_0 14 rfl rfl)
theorem dX1_hanging_15 : decode cX1_hanging 15 = .ok (.if_icmp .ge 39, 3) := dk_162 0 39 (dk_at dksX1_hanging_0 15 rfl rfl)
theorem dX1_hanging_18 : decode cX1_hanging 18 = .ok (.aload_n 0, 1) := dk_42 (dk_at dksX1_hanging_0 18 rfl rfl)
theorem dX1_hanging_19 : decode cX1_hanging 19 = .ok (.getfield 11, 3) := dk_180 0 11 (dk_at dksX1_hanging_0 19 rfl rfl)
theorem dX1_hanging_22 : decode cX1_hanging 22 = .ok (.iload_n 1, 1) := dk_27 (dk_at dksX1_hanging_0 22 rfl rfl)
theorem dX1_hanging_23 : decode cX1_hanging 23 = .ok (.aaload, 1) := dk_50 (dk_at dksX1_hanging_0 23 rfl rfl)
theorem dX1_hanging_24 : decode cX1_hanging 24 = .ok (.iload 4, 2) := dk_21 4 (dk_at dksX1_hanging_1 0 rfl rfl)
theorem dX1_hanging_26 : decode cX1_hanging 26 = .ok (.iaload, 1) := dk_46 (dk_at dksX1_hanging_1 2 rfl rfl)
theorem dX1_hanging_27 : decode cX1_hanging 27 = .ok (.iload_n 2, 1) := dk_28 (dk_at dksX1_hanging_1 3 rfl rfl)
theorem dX1_hanging_28 : decode cX1_hanging 28 = .ok (.if_icmp .eq 20, 3) := dk_159 0 20 (dk_at dksX1_hanging_1 4 rfl rfl)
theorem dX1_hanging_31 : decode cX1_hanging 31 = .ok (.iload_n 3, 1) := dk_29 (dk_at dksX1_hanging_1 7 rfl rfl)
theorem dX1_hanging_32 : decode cX1_hanging 32 = .ok (.aload_n 0, 1) := dk_42 (dk_at dksX1_hanging_1 8 rfl rfl)
theorem dX1_hanging_33 : decode cX1_hanging 33 = .ok (.aload_n 0, 1) := dk_42 (dk_at dksX1_hanging_1 9 rfl rfl)
theorem dX1_hanging_34 : decode cX1_hanging 34 = .ok (.getfield 11, 3) := dk_180 0 11 (dk_at dksX1_hanging_1 10 rfl rfl)
theorem dX1_hanging_37 : decode cX1_hanging 37 = .ok (.iload_n 1, 1) := dk_27 (dk_at dksX1_hanging_1 13 rfl rfl)
theorem dX1_hanging_38 : decode cX1_hanging 38 = .ok (.aaload, 1) := dk_50 (dk_at dksX1_hanging_1 14 rfl rfl)
theorem dX1_hanging_39 : decode cX1_hanging 39 = .ok (.iload 4, 2) := dk_21 4 (dk_at dksX1_hanging_1 15 rfl rfl)
theorem dX1_hanging_41 : decode cX1_hanging 41 = .ok (.iaload, 1) := dk_46 (dk_at dksX1_hanging_1 17 rfl rfl)
theorem dX1_hanging_42 : decode cX1_hanging 42 = .ok (.iload_n 1, 1) := dk_27 (dk_at dksX1_hanging_1 18 rfl rfl)
theorem dX1_hanging_43 : decode cX1_hanging 43 = .ok (.invokevirtual 40, 3) := dk_182 0 40 (dk_at dksX1_hanging_1 19 rfl rfl)
theorem dX1_hanging_46 : decode cX1_hanging 46 = .ok (.ior, 1) := dk_128 (dk_at dksX1_hanging_1 22 rfl rfl)
theorem dX1_hanging_47 : decode cX1_hanging 47 = .ok (.istore_n 3, 1) := dk_62 (dk_at dksX1_hanging_1 23 rfl rfl)
theorem dX1_hanging_48 : decode cX1_hanging 48 = .ok (.iinc 4 1, 3) := dk_132 4 1 (dk_at dksX1_hanging_2 0 rfl rfl)
theorem dX1_hanging_51 : decode cX1_hanging 51 = .ok (.goto (-44), 3) := dk_167 255 212 (dk_at dksX1_hanging_2 3 rfl rfl)
theorem dX1_hanging_54 : decode cX1_hanging 54 = .ok (.iload_n 3, 1) := dk_29 (dk_at dksX1_hanging_2 6 rfl rfl)
theorem dX1_hanging_55 : decode cX1_hanging 55 = .ok (.ireturn, 1) := dk_172 (dk_at dksX1_hanging_2 7 rfl rfl)
abbrev cX1_whole : ByteArray := prog_11_method_14_code
def yX1_whole : MethodName := ⟨RX1, "whole", "()LSkeletons$Whole;"⟩
def dkwX1_whole_4 : List UInt8 := [89, 45, 25, 4, 183, 0, 81, 167, 0, 13, 187, 0, 79, 89, 25, 4, 45, 183, 0, 81, 176]
abbrev dktX1_whole_4 : List UInt8 := dkwX1_whole_4 ++ []
def dkwX1_whole_3 : List UInt8 := [182, 0, 50, 78, 42, 28, 27, 182, 0, 50, 58, 4, 45, 25, 4, 182, 0, 75, 155, 0, 16, 187, 0, 79]
abbrev dktX1_whole_3 : List UInt8 := dkwX1_whole_3 ++ dktX1_whole_4
def dkwX1_whole_2 : List UInt8 := [180, 0, 20, 160, 0, 17, 187, 0, 70, 89, 42, 27, 2, 182, 0, 50, 183, 0, 72, 176, 42, 27, 28]
abbrev dktX1_whole_2 : List UInt8 := dkwX1_whole_2 ++ dktX1_whole_3
def dkwX1_whole_1 : List UInt8 := [180, 0, 20, 162, 0, 17, 42, 28, 182, 0, 66, 154, 0, 9, 132, 2, 1, 167, 255, 237, 28, 42]
abbrev dktX1_whole_1 : List UInt8 := dkwX1_whole_1 ++ dktX1_whole_2
def dkwX1_whole_0 : List UInt8 := [3, 60, 42, 27, 182, 0, 66, 154, 0, 9, 132, 1, 1, 167, 255, 245, 27, 4, 96, 61, 28, 42]
abbrev dktX1_whole_0 : List UInt8 := dkwX1_whole_0 ++ dktX1_whole_1
theorem dksX1_whole_0 : cX1_whole.data.toList.drop 0 = dktX1_whole_0 := by decide +kernel
theorem dksX1_whole_1 : cX1_whole.data.toList.drop 22 = dktX1_whole_1 := dk_seg dksX1_whole_0 22 rfl rfl
theorem dksX1_whole_2 : cX1_whole.data.toList.drop 44 = dktX1_whole_2 := dk_seg dksX1_whole_1 22 rfl rfl
theorem dksX1_whole_3 : cX1_whole.data.toList.drop 67 = dktX1_whole_3 := dk_seg dksX1_whole_2 23 rfl rfl
theorem dksX1_whole_4 : cX1_whole.data.toList.drop 91 = dktX1_whole_4 := dk_seg dksX1_whole_3 24 rfl rfl
theorem dX1_whole_0 : decode cX1_whole 0 = .ok (.iconst 0, 1) := dk_3 (dk_at dksX1_whole_0 0 rfl rfl)
theorem dX1_whole_1 : decode cX1_whole 1 = .ok (.istore_n 1, 1) := dk_60 (dk_at dksX1_whole_0 1 rfl rfl)
theorem dX1_whole_2 : decode cX1_whole 2 = .ok (.aload_n 0, 1) := dk_42 (dk_at dksX1_whole_0 2 rfl rfl)
theorem dX1_whole_3 : decode cX1_whole 3 = .ok (.iload_n 1, 1) := dk_27 (dk_at dksX1_whole_0 3 rfl rfl)
theorem dX1_whole_4 : decode cX1_whole 4 = .ok (.invokevirtual 66, 3) := dk_182 0 66 (dk_at dksX1_whole_0 4 rfl rfl)
theorem dX1_whole_7 : decode cX1_whole 7 = .ok (.ifCond .ne 9, 3) := dk_154 0 9 (dk_at dksX1_whole_0 7 rfl rfl)
theorem dX1_whole_10 : decode cX1_whole 10 = .ok (.iinc 1 1, 3) := dk_132 1 1 (dk_at dksX1_whole_0 10 rfl rfl)
theorem dX1_whole_13 : decode cX1_whole 13 = .ok (.goto (-11), 3) := dk_167 255 245 (dk_at dksX1_whole_0 13 rfl rfl)
theorem dX1_whole_16 : decode cX1_whole 16 = .ok (.iload_n 1, 1) := dk_27 (dk_at dksX1_whole_0 16 rfl rfl)
theorem dX1_whole_17 : decode cX1_whole 17 = .ok (.iconst 1, 1) := dk_4 (dk_at dksX1_whole_0 17 rfl rfl)
theorem dX1_whole_18 : decode cX1_whole 18 = .ok (.iadd, 1) := dk_96 (dk_at dksX1_whole_0 18 rfl rfl)
theorem dX1_whole_19 : decode cX1_whole 19 = .ok (.istore_n 2, 1) := dk_61 (dk_at dksX1_whole_0 19 rfl rfl)
theorem dX1_whole_20 : decode cX1_whole 20 = .ok (.iload_n 2, 1) := dk_28 (dk_at dksX1_whole_0 20 rfl rfl)
theorem dX1_whole_21 : decode cX1_whole 21 = .ok (.aload_n 0, 1) := dk_42 (dk_at dksX1_whole_0 21 rfl rfl)
theorem dX1_whole_22 : decode cX1_whole 22 = .ok (.getfield 20, 3) := dk_180 0 20 (dk_at dksX1_whole_1 0 rfl rfl)
theorem dX1_whole_25 : decode cX1_whole 25 = .ok (.if_icmp .ge 17, 3) := dk_162 0 17 (dk_at dksX1_whole_1 3 rfl rfl)
theorem dX1_whole_28 : decode cX1_whole 28 = .ok (.aload_n 0, 1) := dk_42 (dk_at dksX1_whole_1 6 rfl rfl)
theorem dX1_whole_29 : decode cX1_whole 29 = .ok (.iload_n 2, 1) := dk_28 (dk_at dksX1_whole_1 7 rfl rfl)
theorem dX1_whole_30 : decode cX1_whole 30 = .ok (.invokevirtual 66, 3) := dk_182 0 66 (dk_at dksX1_whole_1 8 rfl rfl)
theorem dX1_whole_33 : decode cX1_whole 33 = .ok (.ifCond .ne 9, 3) := dk_154 0 9 (dk_at dksX1_whole_1 11 rfl rfl)
theorem dX1_whole_36 : decode cX1_whole 36 = .ok (.iinc 2 1, 3) := dk_132 2 1 (dk_at dksX1_whole_1 14 rfl rfl)
theorem dX1_whole_39 : decode cX1_whole 39 = .ok (.goto (-19), 3) := dk_167 255 237 (dk_at dksX1_whole_1 17 rfl rfl)
theorem dX1_whole_42 : decode cX1_whole 42 = .ok (.iload_n 2, 1) := dk_28 (dk_at dksX1_whole_1 20 rfl rfl)
theorem dX1_whole_43 : decode cX1_whole 43 = .ok (.aload_n 0, 1) := dk_42 (dk_at dksX1_whole_1 21 rfl rfl)
theorem dX1_whole_44 : decode cX1_whole 44 = .ok (.getfield 20, 3) := dk_180 0 20 (dk_at dksX1_whole_2 0 rfl rfl)
theorem dX1_whole_47 : decode cX1_whole 47 = .ok (.if_icmp .ne 17, 3) := dk_160 0 17 (dk_at dksX1_whole_2 3 rfl rfl)
theorem dX1_whole_50 : decode cX1_whole 50 = .ok (.new 70, 3) := dk_187 0 70 (dk_at dksX1_whole_2 6 rfl rfl)
theorem dX1_whole_53 : decode cX1_whole 53 = .ok (.dup, 1) := dk_89 (dk_at dksX1_whole_2 9 rfl rfl)
theorem dX1_whole_54 : decode cX1_whole 54 = .ok (.aload_n 0, 1) := dk_42 (dk_at dksX1_whole_2 10 rfl rfl)
theorem dX1_whole_55 : decode cX1_whole 55 = .ok (.iload_n 1, 1) := dk_27 (dk_at dksX1_whole_2 11 rfl rfl)
theorem dX1_whole_56 : decode cX1_whole 56 = .ok (.iconst (-1), 1) := dk_2 (dk_at dksX1_whole_2 12 rfl rfl)
theorem dX1_whole_57 : decode cX1_whole 57 = .ok (.invokevirtual 50, 3) := dk_182 0 50 (dk_at dksX1_whole_2 13 rfl rfl)
theorem dX1_whole_60 : decode cX1_whole 60 = .ok (.invokespecial 72, 3) := dk_183 0 72 (dk_at dksX1_whole_2 16 rfl rfl)
theorem dX1_whole_63 : decode cX1_whole 63 = .ok (.areturn, 1) := dk_176 (dk_at dksX1_whole_2 19 rfl rfl)
theorem dX1_whole_64 : decode cX1_whole 64 = .ok (.aload_n 0, 1) := dk_42 (dk_at dksX1_whole_2 20 rfl rfl)
theorem dX1_whole_65 : decode cX1_whole 65 = .ok (.iload_n 1, 1) := dk_27 (dk_at dksX1_whole_2 21 rfl rfl)
theorem dX1_whole_66 : decode cX1_whole 66 = .ok (.iload_n 2, 1) := dk_28 (dk_at dksX1_whole_2 22 rfl rfl)
theorem dX1_whole_67 : decode cX1_whole 67 = .ok (.invokevirtual 50, 3) := dk_182 0 50 (dk_at dksX1_whole_3 0 rfl rfl)
theorem dX1_whole_70 : decode cX1_whole 70 = .ok (.astore_n 3, 1) := dk_78 (dk_at dksX1_whole_3 3 rfl rfl)
theorem dX1_whole_71 : decode cX1_whole 71 = .ok (.aload_n 0, 1) := dk_42 (dk_at dksX1_whole_3 4 rfl rfl)
theorem dX1_whole_72 : decode cX1_whole 72 = .ok (.iload_n 2, 1) := dk_28 (dk_at dksX1_whole_3 5 rfl rfl)
theorem dX1_whole_73 : decode cX1_whole 73 = .ok (.iload_n 1, 1) := dk_27 (dk_at dksX1_whole_3 6 rfl rfl)
theorem dX1_whole_74 : decode cX1_whole 74 = .ok (.invokevirtual 50, 3) := dk_182 0 50 (dk_at dksX1_whole_3 7 rfl rfl)
theorem dX1_whole_77 : decode cX1_whole 77 = .ok (.astore 4, 2) := dk_58 4 (dk_at dksX1_whole_3 10 rfl rfl)
theorem dX1_whole_79 : decode cX1_whole 79 = .ok (.aload_n 3, 1) := dk_45 (dk_at dksX1_whole_3 12 rfl rfl)
theorem dX1_whole_80 : decode cX1_whole 80 = .ok (.aload 4, 2) := dk_25 4 (dk_at dksX1_whole_3 13 rfl rfl)
theorem dX1_whole_82 : decode cX1_whole 82 = .ok (.invokevirtual 75, 3) := dk_182 0 75 (dk_at dksX1_whole_3 15 rfl rfl)
theorem dX1_whole_85 : decode cX1_whole 85 = .ok (.ifCond .lt 16, 3) := dk_155 0 16 (dk_at dksX1_whole_3 18 rfl rfl)
theorem dX1_whole_88 : decode cX1_whole 88 = .ok (.new 79, 3) := dk_187 0 79 (dk_at dksX1_whole_3 21 rfl rfl)
theorem dX1_whole_91 : decode cX1_whole 91 = .ok (.dup, 1) := dk_89 (dk_at dksX1_whole_4 0 rfl rfl)
theorem dX1_whole_92 : decode cX1_whole 92 = .ok (.aload_n 3, 1) := dk_45 (dk_at dksX1_whole_4 1 rfl rfl)
theorem dX1_whole_93 : decode cX1_whole 93 = .ok (.aload 4, 2) := dk_25 4 (dk_at dksX1_whole_4 2 rfl rfl)
theorem dX1_whole_95 : decode cX1_whole 95 = .ok (.invokespecial 81, 3) := dk_183 0 81 (dk_at dksX1_whole_4 4 rfl rfl)
theorem dX1_whole_98 : decode cX1_whole 98 = .ok (.goto 13, 3) := dk_167 0 13 (dk_at dksX1_whole_4 7 rfl rfl)
theorem dX1_whole_101 : decode cX1_whole 101 = .ok (.new 79, 3) := dk_187 0 79 (dk_at dksX1_whole_4 10 rfl rfl)
theorem dX1_whole_104 : decode cX1_whole 104 = .ok (.dup, 1) := dk_89 (dk_at dksX1_whole_4 13 rfl rfl)
theorem dX1_whole_105 : decode cX1_whole 105 = .ok (.aload 4, 2) := dk_25 4 (dk_at dksX1_whole_4 14 rfl rfl)
theorem dX1_whole_107 : decode cX1_whole 107 = .ok (.aload_n 3, 1) := dk_45 (dk_at dksX1_whole_4 16 rfl rfl)
theorem dX1_whole_108 : decode cX1_whole 108 = .ok (.invokespecial 81, 3) := dk_183 0 81 (dk_at dksX1_whole_4 17 rfl rfl)
theorem dX1_whole_111 : decode cX1_whole 111 = .ok (.areturn, 1) := dk_176 (dk_at dksX1_whole_4 20 rfl rfl)
abbrev cX1_isCentroid : ByteArray := prog_11_method_13_code
def yX1_isCentroid : MethodName := ⟨RX1, "isCentroid", "(I)Z"⟩
def dkwX1_isCentroid_1 : List UInt8 := [182, 0, 63, 104, 42, 180, 0, 20, 164, 0, 5, 3, 172, 132, 2, 1, 167, 255, 219, 4, 172]
abbrev dktX1_isCentroid_1 : List UInt8 := dkwX1_isCentroid_1 ++ []
def dkwX1_isCentroid_0 : List UInt8 := [3, 61, 28, 42, 180, 0, 16, 27, 46, 162, 0, 33, 5, 42, 42, 180, 0, 11, 27, 50, 28, 46, 27]
abbrev dktX1_isCentroid_0 : List UInt8 := dkwX1_isCentroid_0 ++ dktX1_isCentroid_1
theorem dksX1_isCentroid_0 : cX1_isCentroid.data.toList.drop 0 = dktX1_isCentroid_0 := by decide +kernel
theorem dksX1_isCentroid_1 : cX1_isCentroid.data.toList.drop 23 = dktX1_isCentroid_1 := dk_seg dksX1_isCentroid_0 23 rfl rfl
theorem dX1_isCentroid_0 : decode cX1_isCentroid 0 = .ok (.iconst 0, 1) := dk_3 (dk_at dksX1_isCentroid_0 0 rfl rfl)
theorem dX1_isCentroid_1 : decode cX1_isCentroid 1 = .ok (.istore_n 2, 1) := dk_61 (dk_at dksX1_isCentroid_0 1 rfl rfl)
theorem dX1_isCentroid_2 : decode cX1_isCentroid 2 = .ok (.iload_n 2, 1) := dk_28 (dk_at dksX1_isCentroid_0 2 rfl rfl)
theorem dX1_isCentroid_3 : decode cX1_isCentroid 3 = .ok (.aload_n 0, 1) := dk_42 (dk_at dksX1_isCentroid_0 3 rfl rfl)
theorem dX1_isCentroid_4 : decode cX1_isCentroid 4 = .ok (.getfield 16, 3) := dk_180 0 16 (dk_at dksX1_isCentroid_0 4 rfl rfl)
theorem dX1_isCentroid_7 : decode cX1_isCentroid 7 = .ok (.iload_n 1, 1) := dk_27 (dk_at dksX1_isCentroid_0 7 rfl rfl)
theorem dX1_isCentroid_8 : decode cX1_isCentroid 8 = .ok (.iaload, 1) := dk_46 (dk_at dksX1_isCentroid_0 8 rfl rfl)
theorem dX1_isCentroid_9 : decode cX1_isCentroid 9 = .ok (.if_icmp .ge 33, 3) := dk_162 0 33 (dk_at dksX1_isCentroid_0 9 rfl rfl)
theorem dX1_isCentroid_12 : decode cX1_isCentroid 12 = .ok (.iconst 2, 1) := dk_5 (dk_at dksX1_isCentroid_0 12 rfl rfl)
theorem dX1_isCentroid_13 : decode cX1_isCentroid 13 = .ok (.aload_n 0, 1) := dk_42 (dk_at dksX1_isCentroid_0 13 rfl rfl)
theorem dX1_isCentroid_14 : decode cX1_isCentroid 14 = .ok (.aload_n 0, 1) := dk_42 (dk_at dksX1_isCentroid_0 14 rfl rfl)
theorem dX1_isCentroid_15 : decode cX1_isCentroid 15 = .ok (.getfield 11, 3) := dk_180 0 11 (dk_at dksX1_isCentroid_0 15 rfl rfl)
theorem dX1_isCentroid_18 : decode cX1_isCentroid 18 = .ok (.iload_n 1, 1) := dk_27 (dk_at dksX1_isCentroid_0 18 rfl rfl)
theorem dX1_isCentroid_19 : decode cX1_isCentroid 19 = .ok (.aaload, 1) := dk_50 (dk_at dksX1_isCentroid_0 19 rfl rfl)
theorem dX1_isCentroid_20 : decode cX1_isCentroid 20 = .ok (.iload_n 2, 1) := dk_28 (dk_at dksX1_isCentroid_0 20 rfl rfl)
theorem dX1_isCentroid_21 : decode cX1_isCentroid 21 = .ok (.iaload, 1) := dk_46 (dk_at dksX1_isCentroid_0 21 rfl rfl)
theorem dX1_isCentroid_22 : decode cX1_isCentroid 22 = .ok (.iload_n 1, 1) := dk_27 (dk_at dksX1_isCentroid_0 22 rfl rfl)
theorem dX1_isCentroid_23 : decode cX1_isCentroid 23 = .ok (.invokevirtual 63, 3) := dk_182 0 63 (dk_at dksX1_isCentroid_1 0 rfl rfl)
theorem dX1_isCentroid_26 : decode cX1_isCentroid 26 = .ok (.imul, 1) := dk_104 (dk_at dksX1_isCentroid_1 3 rfl rfl)
theorem dX1_isCentroid_27 : decode cX1_isCentroid 27 = .ok (.aload_n 0, 1) := dk_42 (dk_at dksX1_isCentroid_1 4 rfl rfl)
theorem dX1_isCentroid_28 : decode cX1_isCentroid 28 = .ok (.getfield 20, 3) := dk_180 0 20 (dk_at dksX1_isCentroid_1 5 rfl rfl)
theorem dX1_isCentroid_31 : decode cX1_isCentroid 31 = .ok (.if_icmp .le 5, 3) := dk_164 0 5 (dk_at dksX1_isCentroid_1 8 rfl rfl)
theorem dX1_isCentroid_34 : decode cX1_isCentroid 34 = .ok (.iconst 0, 1) := dk_3 (dk_at dksX1_isCentroid_1 11 rfl rfl)
theorem dX1_isCentroid_35 : decode cX1_isCentroid 35 = .ok (.ireturn, 1) := dk_172 (dk_at dksX1_isCentroid_1 12 rfl rfl)
theorem dX1_isCentroid_36 : decode cX1_isCentroid 36 = .ok (.iinc 2 1, 3) := dk_132 2 1 (dk_at dksX1_isCentroid_1 13 rfl rfl)
theorem dX1_isCentroid_39 : decode cX1_isCentroid 39 = .ok (.goto (-37), 3) := dk_167 255 219 (dk_at dksX1_isCentroid_1 16 rfl rfl)
theorem dX1_isCentroid_42 : decode cX1_isCentroid 42 = .ok (.iconst 1, 1) := dk_4 (dk_at dksX1_isCentroid_1 19 rfl rfl)
theorem dX1_isCentroid_43 : decode cX1_isCentroid 43 = .ok (.ireturn, 1) := dk_172 (dk_at dksX1_isCentroid_1 20 rfl rfl)
abbrev cX1_sizeFrom : ByteArray := prog_11_method_12_code
def yX1_sizeFrom : MethodName := ⟨RX1, "sizeFrom", "(II)I"⟩
def dkwX1_sizeFrom_0 : List UInt8 := [42, 27, 28, 182, 0, 40, 184, 0, 57, 172]
abbrev dktX1_sizeFrom_0 : List UInt8 := dkwX1_sizeFrom_0 ++ []
theorem dksX1_sizeFrom_0 : cX1_sizeFrom.data.toList.drop 0 = dktX1_sizeFrom_0 := by decide +kernel
theorem dX1_sizeFrom_0 : decode cX1_sizeFrom 0 = .ok (.aload_n 0, 1) := dk_42 (dk_at dksX1_sizeFrom_0 0 rfl rfl)
theorem dX1_sizeFrom_1 : decode cX1_sizeFrom 1 = .ok (.iload_n 1, 1) := dk_27 (dk_at dksX1_sizeFrom_0 1 rfl rfl)
theorem dX1_sizeFrom_2 : decode cX1_sizeFrom 2 = .ok (.iload_n 2, 1) := dk_28 (dk_at dksX1_sizeFrom_0 2 rfl rfl)
theorem dX1_sizeFrom_3 : decode cX1_sizeFrom 3 = .ok (.invokevirtual 40, 3) := dk_182 0 40 (dk_at dksX1_sizeFrom_0 3 rfl rfl)
theorem dX1_sizeFrom_6 : decode cX1_sizeFrom 6 = .ok (.invokestatic 57, 3) := dk_184 0 57 (dk_at dksX1_sizeFrom_0 6 rfl rfl)
theorem dX1_sizeFrom_9 : decode cX1_sizeFrom 9 = .ok (.ireturn, 1) := dk_172 (dk_at dksX1_sizeFrom_0 9 rfl rfl)
abbrev cX1_branch : ByteArray := prog_11_method_11_code
def yX1_branch : MethodName := ⟨RX1, "branch", "(II)LSkeletons$Branch;"⟩
def dkwX1_branch_3 : List UInt8 := [182, 0, 50, 83, 132, 5, 1, 167, 255, 208, 187, 0, 48, 89, 45, 183, 0, 54, 176]
abbrev dktX1_branch_3 : List UInt8 := dkwX1_branch_3 ++ []
def dkwX1_branch_2 : List UInt8 := [21, 5, 46, 28, 159, 0, 24, 45, 21, 4, 132, 4, 1, 42, 42, 180, 0, 11, 27, 50, 21, 5, 46, 27]
abbrev dktX1_branch_2 : List UInt8 := dkwX1_branch_2 ++ dktX1_branch_3
def dkwX1_branch_1 : List UInt8 := [3, 54, 4, 3, 54, 5, 21, 5, 42, 180, 0, 16, 27, 46, 162, 0, 43, 42, 180, 0, 11, 27, 50]
abbrev dktX1_branch_1 : List UInt8 := dkwX1_branch_1 ++ dktX1_branch_2
def dkwX1_branch_0 : List UInt8 := [42, 180, 0, 16, 27, 46, 28, 2, 159, 0, 7, 4, 167, 0, 4, 3, 184, 0, 44, 100, 189, 0, 48, 78]
abbrev dktX1_branch_0 : List UInt8 := dkwX1_branch_0 ++ dktX1_branch_1
theorem dksX1_branch_0 : cX1_branch.data.toList.drop 0 = dktX1_branch_0 := by decide +kernel
theorem dksX1_branch_1 : cX1_branch.data.toList.drop 24 = dktX1_branch_1 := dk_seg dksX1_branch_0 24 rfl rfl
theorem dksX1_branch_2 : cX1_branch.data.toList.drop 47 = dktX1_branch_2 := dk_seg dksX1_branch_1 23 rfl rfl
theorem dksX1_branch_3 : cX1_branch.data.toList.drop 71 = dktX1_branch_3 := dk_seg dksX1_branch_2 24 rfl rfl
theorem dX1_branch_0 : decode cX1_branch 0 = .ok (.aload_n 0, 1) := dk_42 (dk_at dksX1_branch_0 0 rfl rfl)
theorem dX1_branch_1 : decode cX1_branch 1 = .ok (.getfield 16, 3) := dk_180 0 16 (dk_at dksX1_branch_0 1 rfl rfl)
theorem dX1_branch_4 : decode cX1_branch 4 = .ok (.iload_n 1, 1) := dk_27 (dk_at dksX1_branch_0 4 rfl rfl)
theorem dX1_branch_5 : decode cX1_branch 5 = .ok (.iaload, 1) := dk_46 (dk_at dksX1_branch_0 5 rfl rfl)
theorem dX1_branch_6 : decode cX1_branch 6 = .ok (.iload_n 2, 1) := dk_28 (dk_at dksX1_branch_0 6 rfl rfl)
theorem dX1_branch_7 : decode cX1_branch 7 = .ok (.iconst (-1), 1) := dk_2 (dk_at dksX1_branch_0 7 rfl rfl)
theorem dX1_branch_8 : decode cX1_branch 8 = .ok (.if_icmp .eq 7, 3) := dk_159 0 7 (dk_at dksX1_branch_0 8 rfl rfl)
theorem dX1_branch_11 : decode cX1_branch 11 = .ok (.iconst 1, 1) := dk_4 (dk_at dksX1_branch_0 11 rfl rfl)
theorem dX1_branch_12 : decode cX1_branch 12 = .ok (.goto 4, 3) := dk_167 0 4 (dk_at dksX1_branch_0 12 rfl rfl)
theorem dX1_branch_15 : decode cX1_branch 15 = .ok (.iconst 0, 1) := dk_3 (dk_at dksX1_branch_0 15 rfl rfl)
theorem dX1_branch_16 : decode cX1_branch 16 = .ok (.invokestatic 44, 3) := dk_184 0 44 (dk_at dksX1_branch_0 16 rfl rfl)
theorem dX1_branch_19 : decode cX1_branch 19 = .ok (.isub, 1) := dk_100 (dk_at dksX1_branch_0 19 rfl rfl)
theorem dX1_branch_20 : decode cX1_branch 20 = .ok (.anewarray 48, 3) := dk_189 0 48 (dk_at dksX1_branch_0 20 rfl rfl)
theorem dX1_branch_23 : decode cX1_branch 23 = .ok (.astore_n 3, 1) := dk_78 (dk_at dksX1_branch_0 23 rfl rfl)
theorem dX1_branch_24 : decode cX1_branch 24 = .ok (.iconst 0, 1) := dk_3 (dk_at dksX1_branch_1 0 rfl rfl)
theorem dX1_branch_25 : decode cX1_branch 25 = .ok (.istore 4, 2) := dk_54 4 (dk_at dksX1_branch_1 1 rfl rfl)
theorem dX1_branch_27 : decode cX1_branch 27 = .ok (.iconst 0, 1) := dk_3 (dk_at dksX1_branch_1 3 rfl rfl)
theorem dX1_branch_28 : decode cX1_branch 28 = .ok (.istore 5, 2) := dk_54 5 (dk_at dksX1_branch_1 4 rfl rfl)
theorem dX1_branch_30 : decode cX1_branch 30 = .ok (.iload 5, 2) := dk_21 5 (dk_at dksX1_branch_1 6 rfl rfl)
theorem dX1_branch_32 : decode cX1_branch 32 = .ok (.aload_n 0, 1) := dk_42 (dk_at dksX1_branch_1 8 rfl rfl)
theorem dX1_branch_33 : decode cX1_branch 33 = .ok (.getfield 16, 3) := dk_180 0 16 (dk_at dksX1_branch_1 9 rfl rfl)
theorem dX1_branch_36 : decode cX1_branch 36 = .ok (.iload_n 1, 1) := dk_27 (dk_at dksX1_branch_1 12 rfl rfl)
theorem dX1_branch_37 : decode cX1_branch 37 = .ok (.iaload, 1) := dk_46 (dk_at dksX1_branch_1 13 rfl rfl)
theorem dX1_branch_38 : decode cX1_branch 38 = .ok (.if_icmp .ge 43, 3) := dk_162 0 43 (dk_at dksX1_branch_1 14 rfl rfl)
theorem dX1_branch_41 : decode cX1_branch 41 = .ok (.aload_n 0, 1) := dk_42 (dk_at dksX1_branch_1 17 rfl rfl)
theorem dX1_branch_42 : decode cX1_branch 42 = .ok (.getfield 11, 3) := dk_180 0 11 (dk_at dksX1_branch_1 18 rfl rfl)
theorem dX1_branch_45 : decode cX1_branch 45 = .ok (.iload_n 1, 1) := dk_27 (dk_at dksX1_branch_1 21 rfl rfl)
theorem dX1_branch_46 : decode cX1_branch 46 = .ok (.aaload, 1) := dk_50 (dk_at dksX1_branch_1 22 rfl rfl)
theorem dX1_branch_47 : decode cX1_branch 47 = .ok (.iload 5, 2) := dk_21 5 (dk_at dksX1_branch_2 0 rfl rfl)
theorem dX1_branch_49 : decode cX1_branch 49 = .ok (.iaload, 1) := dk_46 (dk_at dksX1_branch_2 2 rfl rfl)
theorem dX1_branch_50 : decode cX1_branch 50 = .ok (.iload_n 2, 1) := dk_28 (dk_at dksX1_branch_2 3 rfl rfl)
theorem dX1_branch_51 : decode cX1_branch 51 = .ok (.if_icmp .eq 24, 3) := dk_159 0 24 (dk_at dksX1_branch_2 4 rfl rfl)
theorem dX1_branch_54 : decode cX1_branch 54 = .ok (.aload_n 3, 1) := dk_45 (dk_at dksX1_branch_2 7 rfl rfl)
theorem dX1_branch_55 : decode cX1_branch 55 = .ok (.iload 4, 2) := dk_21 4 (dk_at dksX1_branch_2 8 rfl rfl)
theorem dX1_branch_57 : decode cX1_branch 57 = .ok (.iinc 4 1, 3) := dk_132 4 1 (dk_at dksX1_branch_2 10 rfl rfl)
theorem dX1_branch_60 : decode cX1_branch 60 = .ok (.aload_n 0, 1) := dk_42 (dk_at dksX1_branch_2 13 rfl rfl)
theorem dX1_branch_61 : decode cX1_branch 61 = .ok (.aload_n 0, 1) := dk_42 (dk_at dksX1_branch_2 14 rfl rfl)
theorem dX1_branch_62 : decode cX1_branch 62 = .ok (.getfield 11, 3) := dk_180 0 11 (dk_at dksX1_branch_2 15 rfl rfl)
theorem dX1_branch_65 : decode cX1_branch 65 = .ok (.iload_n 1, 1) := dk_27 (dk_at dksX1_branch_2 18 rfl rfl)
theorem dX1_branch_66 : decode cX1_branch 66 = .ok (.aaload, 1) := dk_50 (dk_at dksX1_branch_2 19 rfl rfl)
theorem dX1_branch_67 : decode cX1_branch 67 = .ok (.iload 5, 2) := dk_21 5 (dk_at dksX1_branch_2 20 rfl rfl)
theorem dX1_branch_69 : decode cX1_branch 69 = .ok (.iaload, 1) := dk_46 (dk_at dksX1_branch_2 22 rfl rfl)
theorem dX1_branch_70 : decode cX1_branch 70 = .ok (.iload_n 1, 1) := dk_27 (dk_at dksX1_branch_2 23 rfl rfl)
theorem dX1_branch_71 : decode cX1_branch 71 = .ok (.invokevirtual 50, 3) := dk_182 0 50 (dk_at dksX1_branch_3 0 rfl rfl)
theorem dX1_branch_74 : decode cX1_branch 74 = .ok (.aastore, 1) := dk_83 (dk_at dksX1_branch_3 3 rfl rfl)
theorem dX1_branch_75 : decode cX1_branch 75 = .ok (.iinc 5 1, 3) := dk_132 5 1 (dk_at dksX1_branch_3 4 rfl rfl)
theorem dX1_branch_78 : decode cX1_branch 78 = .ok (.goto (-48), 3) := dk_167 255 208 (dk_at dksX1_branch_3 7 rfl rfl)
theorem dX1_branch_81 : decode cX1_branch 81 = .ok (.new 48, 3) := dk_187 0 48 (dk_at dksX1_branch_3 10 rfl rfl)
theorem dX1_branch_84 : decode cX1_branch 84 = .ok (.dup, 1) := dk_89 (dk_at dksX1_branch_3 13 rfl rfl)
theorem dX1_branch_85 : decode cX1_branch 85 = .ok (.aload_n 3, 1) := dk_45 (dk_at dksX1_branch_3 14 rfl rfl)
theorem dX1_branch_86 : decode cX1_branch 86 = .ok (.invokespecial 54, 3) := dk_183 0 54 (dk_at dksX1_branch_3 15 rfl rfl)
theorem dX1_branch_89 : decode cX1_branch 89 = .ok (.areturn, 1) := dk_176 (dk_at dksX1_branch_3 18 rfl rfl)
abbrev cX1_far : ByteArray := prog_11_method_15_code
def yX1_far : MethodName := ⟨RX1, "far", "(I)[I"⟩
def dkwX1_far_0 : List UInt8 := [42, 180, 0, 20, 188, 10, 77, 42, 27, 2, 3, 44, 182, 0, 84, 44, 176]
abbrev dktX1_far_0 : List UInt8 := dkwX1_far_0 ++ []
theorem dksX1_far_0 : cX1_far.data.toList.drop 0 = dktX1_far_0 := by decide +kernel
theorem dX1_far_0 : decode cX1_far 0 = .ok (.aload_n 0, 1) := dk_42 (dk_at dksX1_far_0 0 rfl rfl)
theorem dX1_far_1 : decode cX1_far 1 = .ok (.getfield 20, 3) := dk_180 0 20 (dk_at dksX1_far_0 1 rfl rfl)
theorem dX1_far_4 : decode cX1_far 4 = .ok (.newarray .int, 2) := dk_188_10 (dk_at dksX1_far_0 4 rfl rfl)
theorem dX1_far_6 : decode cX1_far 6 = .ok (.astore_n 2, 1) := dk_77 (dk_at dksX1_far_0 6 rfl rfl)
theorem dX1_far_7 : decode cX1_far 7 = .ok (.aload_n 0, 1) := dk_42 (dk_at dksX1_far_0 7 rfl rfl)
theorem dX1_far_8 : decode cX1_far 8 = .ok (.iload_n 1, 1) := dk_27 (dk_at dksX1_far_0 8 rfl rfl)
theorem dX1_far_9 : decode cX1_far 9 = .ok (.iconst (-1), 1) := dk_2 (dk_at dksX1_far_0 9 rfl rfl)
theorem dX1_far_10 : decode cX1_far 10 = .ok (.iconst 0, 1) := dk_3 (dk_at dksX1_far_0 10 rfl rfl)
theorem dX1_far_11 : decode cX1_far 11 = .ok (.aload_n 2, 1) := dk_44 (dk_at dksX1_far_0 11 rfl rfl)
theorem dX1_far_12 : decode cX1_far 12 = .ok (.invokevirtual 84, 3) := dk_182 0 84 (dk_at dksX1_far_0 12 rfl rfl)
theorem dX1_far_15 : decode cX1_far 15 = .ok (.aload_n 2, 1) := dk_44 (dk_at dksX1_far_0 15 rfl rfl)
theorem dX1_far_16 : decode cX1_far 16 = .ok (.areturn, 1) := dk_176 (dk_at dksX1_far_0 16 rfl rfl)
abbrev cX1_lays : ByteArray := prog_11_method_16_code
def yX1_lays : MethodName := ⟨RX1, "lays", "(III[I)V"⟩
def dkwX1_lays_2 : List UInt8 := [182, 0, 84, 132, 5, 1, 167, 255, 210, 177]
abbrev dktX1_lays_2 : List UInt8 := dkwX1_lays_2 ++ []
def dkwX1_lays_1 : List UInt8 := [50, 21, 5, 46, 28, 159, 0, 22, 42, 42, 180, 0, 11, 27, 50, 21, 5, 46, 27, 29, 4, 96, 25, 4]
abbrev dktX1_lays_1 : List UInt8 := dkwX1_lays_1 ++ dktX1_lays_2
def dkwX1_lays_0 : List UInt8 := [25, 4, 27, 29, 79, 3, 54, 5, 21, 5, 42, 180, 0, 16, 27, 46, 162, 0, 41, 42, 180, 0, 11, 27]
abbrev dktX1_lays_0 : List UInt8 := dkwX1_lays_0 ++ dktX1_lays_1
theorem dksX1_lays_0 : cX1_lays.data.toList.drop 0 = dktX1_lays_0 := by decide +kernel
theorem dksX1_lays_1 : cX1_lays.data.toList.drop 24 = dktX1_lays_1 := dk_seg dksX1_lays_0 24 rfl rfl
theorem dksX1_lays_2 : cX1_lays.data.toList.drop 48 = dktX1_lays_2 := dk_seg dksX1_lays_1 24 rfl rfl
theorem dX1_lays_0 : decode cX1_lays 0 = .ok (.aload 4, 2) := dk_25 4 (dk_at dksX1_lays_0 0 rfl rfl)
theorem dX1_lays_2 : decode cX1_lays 2 = .ok (.iload_n 1, 1) := dk_27 (dk_at dksX1_lays_0 2 rfl rfl)
theorem dX1_lays_3 : decode cX1_lays 3 = .ok (.iload_n 3, 1) := dk_29 (dk_at dksX1_lays_0 3 rfl rfl)
theorem dX1_lays_4 : decode cX1_lays 4 = .ok (.iastore, 1) := dk_79 (dk_at dksX1_lays_0 4 rfl rfl)
theorem dX1_lays_5 : decode cX1_lays 5 = .ok (.iconst 0, 1) := dk_3 (dk_at dksX1_lays_0 5 rfl rfl)
theorem dX1_lays_6 : decode cX1_lays 6 = .ok (.istore 5, 2) := dk_54 5 (dk_at dksX1_lays_0 6 rfl rfl)
theorem dX1_lays_8 : decode cX1_lays 8 = .ok (.iload 5, 2) := dk_21 5 (dk_at dksX1_lays_0 8 rfl rfl)
theorem dX1_lays_10 : decode cX1_lays 10 = .ok (.aload_n 0, 1) := dk_42 (dk_at dksX1_lays_0 10 rfl rfl)
theorem dX1_lays_11 : decode cX1_lays 11 = .ok (.getfield 16, 3) := dk_180 0 16 (dk_at dksX1_lays_0 11 rfl rfl)
theorem dX1_lays_14 : decode cX1_lays 14 = .ok (.iload_n 1, 1) := dk_27 (dk_at dksX1_lays_0 14 rfl rfl)
theorem dX1_lays_15 : decode cX1_lays 15 = .ok (.iaload, 1) := dk_46 (dk_at dksX1_lays_0 15 rfl rfl)
theorem dX1_lays_16 : decode cX1_lays 16 = .ok (.if_icmp .ge 41, 3) := dk_162 0 41 (dk_at dksX1_lays_0 16 rfl rfl)
theorem dX1_lays_19 : decode cX1_lays 19 = .ok (.aload_n 0, 1) := dk_42 (dk_at dksX1_lays_0 19 rfl rfl)
theorem dX1_lays_20 : decode cX1_lays 20 = .ok (.getfield 11, 3) := dk_180 0 11 (dk_at dksX1_lays_0 20 rfl rfl)
theorem dX1_lays_23 : decode cX1_lays 23 = .ok (.iload_n 1, 1) := dk_27 (dk_at dksX1_lays_0 23 rfl rfl)
theorem dX1_lays_24 : decode cX1_lays 24 = .ok (.aaload, 1) := dk_50 (dk_at dksX1_lays_1 0 rfl rfl)
theorem dX1_lays_25 : decode cX1_lays 25 = .ok (.iload 5, 2) := dk_21 5 (dk_at dksX1_lays_1 1 rfl rfl)
theorem dX1_lays_27 : decode cX1_lays 27 = .ok (.iaload, 1) := dk_46 (dk_at dksX1_lays_1 3 rfl rfl)
theorem dX1_lays_28 : decode cX1_lays 28 = .ok (.iload_n 2, 1) := dk_28 (dk_at dksX1_lays_1 4 rfl rfl)
theorem dX1_lays_29 : decode cX1_lays 29 = .ok (.if_icmp .eq 22, 3) := dk_159 0 22 (dk_at dksX1_lays_1 5 rfl rfl)
theorem dX1_lays_32 : decode cX1_lays 32 = .ok (.aload_n 0, 1) := dk_42 (dk_at dksX1_lays_1 8 rfl rfl)
theorem dX1_lays_33 : decode cX1_lays 33 = .ok (.aload_n 0, 1) := dk_42 (dk_at dksX1_lays_1 9 rfl rfl)
theorem dX1_lays_34 : decode cX1_lays 34 = .ok (.getfield 11, 3) := dk_180 0 11 (dk_at dksX1_lays_1 10 rfl rfl)
theorem dX1_lays_37 : decode cX1_lays 37 = .ok (.iload_n 1, 1) := dk_27 (dk_at dksX1_lays_1 13 rfl rfl)
theorem dX1_lays_38 : decode cX1_lays 38 = .ok (.aaload, 1) := dk_50 (dk_at dksX1_lays_1 14 rfl rfl)
theorem dX1_lays_39 : decode cX1_lays 39 = .ok (.iload 5, 2) := dk_21 5 (dk_at dksX1_lays_1 15 rfl rfl)
theorem dX1_lays_41 : decode cX1_lays 41 = .ok (.iaload, 1) := dk_46 (dk_at dksX1_lays_1 17 rfl rfl)
theorem dX1_lays_42 : decode cX1_lays 42 = .ok (.iload_n 1, 1) := dk_27 (dk_at dksX1_lays_1 18 rfl rfl)
theorem dX1_lays_43 : decode cX1_lays 43 = .ok (.iload_n 3, 1) := dk_29 (dk_at dksX1_lays_1 19 rfl rfl)
theorem dX1_lays_44 : decode cX1_lays 44 = .ok (.iconst 1, 1) := dk_4 (dk_at dksX1_lays_1 20 rfl rfl)
theorem dX1_lays_45 : decode cX1_lays 45 = .ok (.iadd, 1) := dk_96 (dk_at dksX1_lays_1 21 rfl rfl)
theorem dX1_lays_46 : decode cX1_lays 46 = .ok (.aload 4, 2) := dk_25 4 (dk_at dksX1_lays_1 22 rfl rfl)
theorem dX1_lays_48 : decode cX1_lays 48 = .ok (.invokevirtual 84, 3) := dk_182 0 84 (dk_at dksX1_lays_2 0 rfl rfl)
theorem dX1_lays_51 : decode cX1_lays 51 = .ok (.iinc 5 1, 3) := dk_132 5 1 (dk_at dksX1_lays_2 3 rfl rfl)
theorem dX1_lays_54 : decode cX1_lays 54 = .ok (.goto (-46), 3) := dk_167 255 210 (dk_at dksX1_lays_2 6 rfl rfl)
theorem dX1_lays_57 : decode cX1_lays 57 = .ok (.return_, 1) := dk_177 (dk_at dksX1_lays_2 9 rfl rfl)
abbrev cX1_longest : ByteArray := prog_11_method_17_code
def yX1_longest : MethodName := ⟨RX1, "longest", "()I"⟩
def dkwX1_longest_2 : List UInt8 := [132, 5, 1, 167, 255, 231, 132, 2, 1, 167, 255, 204, 27, 172]
abbrev dktX1_longest_2 : List UInt8 := dkwX1_longest_2 ++ []
def dkwX1_longest_1 : List UInt8 := [54, 5, 21, 5, 21, 4, 162, 0, 24, 45, 21, 5, 46, 54, 6, 27, 21, 6, 4, 96, 184, 0, 92, 60]
abbrev dktX1_longest_1 : List UInt8 := dkwX1_longest_1 ++ dktX1_longest_2
def dkwX1_longest_0 : List UInt8 := [3, 60, 3, 61, 28, 42, 180, 0, 20, 162, 0, 50, 42, 28, 182, 0, 88, 78, 45, 190, 54, 4, 3]
abbrev dktX1_longest_0 : List UInt8 := dkwX1_longest_0 ++ dktX1_longest_1
theorem dksX1_longest_0 : cX1_longest.data.toList.drop 0 = dktX1_longest_0 := by decide +kernel
theorem dksX1_longest_1 : cX1_longest.data.toList.drop 23 = dktX1_longest_1 := dk_seg dksX1_longest_0 23 rfl rfl
theorem dksX1_longest_2 : cX1_longest.data.toList.drop 47 = dktX1_longest_2 := dk_seg dksX1_longest_1 24 rfl rfl
theorem dX1_longest_0 : decode cX1_longest 0 = .ok (.iconst 0, 1) := dk_3 (dk_at dksX1_longest_0 0 rfl rfl)
theorem dX1_longest_1 : decode cX1_longest 1 = .ok (.istore_n 1, 1) := dk_60 (dk_at dksX1_longest_0 1 rfl rfl)
theorem dX1_longest_2 : decode cX1_longest 2 = .ok (.iconst 0, 1) := dk_3 (dk_at dksX1_longest_0 2 rfl rfl)
theorem dX1_longest_3 : decode cX1_longest 3 = .ok (.istore_n 2, 1) := dk_61 (dk_at dksX1_longest_0 3 rfl rfl)
theorem dX1_longest_4 : decode cX1_longest 4 = .ok (.iload_n 2, 1) := dk_28 (dk_at dksX1_longest_0 4 rfl rfl)
theorem dX1_longest_5 : decode cX1_longest 5 = .ok (.aload_n 0, 1) := dk_42 (dk_at dksX1_longest_0 5 rfl rfl)
theorem dX1_longest_6 : decode cX1_longest 6 = .ok (.getfield 20, 3) := dk_180 0 20 (dk_at dksX1_longest_0 6 rfl rfl)
theorem dX1_longest_9 : decode cX1_longest 9 = .ok (.if_icmp .ge 50, 3) := dk_162 0 50 (dk_at dksX1_longest_0 9 rfl rfl)
theorem dX1_longest_12 : decode cX1_longest 12 = .ok (.aload_n 0, 1) := dk_42 (dk_at dksX1_longest_0 12 rfl rfl)
theorem dX1_longest_13 : decode cX1_longest 13 = .ok (.iload_n 2, 1) := dk_28 (dk_at dksX1_longest_0 13 rfl rfl)
theorem dX1_longest_14 : decode cX1_longest 14 = .ok (.invokevirtual 88, 3) := dk_182 0 88 (dk_at dksX1_longest_0 14 rfl rfl)
theorem dX1_longest_17 : decode cX1_longest 17 = .ok (.astore_n 3, 1) := dk_78 (dk_at dksX1_longest_0 17 rfl rfl)
theorem dX1_longest_18 : decode cX1_longest 18 = .ok (.aload_n 3, 1) := dk_45 (dk_at dksX1_longest_0 18 rfl rfl)
theorem dX1_longest_19 : decode cX1_longest 19 = .ok (.arraylength, 1) := dk_190 (dk_at dksX1_longest_0 19 rfl rfl)
theorem dX1_longest_20 : decode cX1_longest 20 = .ok (.istore 4, 2) := dk_54 4 (dk_at dksX1_longest_0 20 rfl rfl)
theorem dX1_longest_22 : decode cX1_longest 22 = .ok (.iconst 0, 1) := dk_3 (dk_at dksX1_longest_0 22 rfl rfl)
theorem dX1_longest_23 : decode cX1_longest 23 = .ok (.istore 5, 2) := dk_54 5 (dk_at dksX1_longest_1 0 rfl rfl)
theorem dX1_longest_25 : decode cX1_longest 25 = .ok (.iload 5, 2) := dk_21 5 (dk_at dksX1_longest_1 2 rfl rfl)
theorem dX1_longest_27 : decode cX1_longest 27 = .ok (.iload 4, 2) := dk_21 4 (dk_at dksX1_longest_1 4 rfl rfl)
theorem dX1_longest_29 : decode cX1_longest 29 = .ok (.if_icmp .ge 24, 3) := dk_162 0 24 (dk_at dksX1_longest_1 6 rfl rfl)
theorem dX1_longest_32 : decode cX1_longest 32 = .ok (.aload_n 3, 1) := dk_45 (dk_at dksX1_longest_1 9 rfl rfl)
theorem dX1_longest_33 : decode cX1_longest 33 = .ok (.iload 5, 2) := dk_21 5 (dk_at dksX1_longest_1 10 rfl rfl)
theorem dX1_longest_35 : decode cX1_longest 35 = .ok (.iaload, 1) := dk_46 (dk_at dksX1_longest_1 12 rfl rfl)
theorem dX1_longest_36 : decode cX1_longest 36 = .ok (.istore 6, 2) := dk_54 6 (dk_at dksX1_longest_1 13 rfl rfl)
theorem dX1_longest_38 : decode cX1_longest 38 = .ok (.iload_n 1, 1) := dk_27 (dk_at dksX1_longest_1 15 rfl rfl)
theorem dX1_longest_39 : decode cX1_longest 39 = .ok (.iload 6, 2) := dk_21 6 (dk_at dksX1_longest_1 16 rfl rfl)
theorem dX1_longest_41 : decode cX1_longest 41 = .ok (.iconst 1, 1) := dk_4 (dk_at dksX1_longest_1 18 rfl rfl)
theorem dX1_longest_42 : decode cX1_longest 42 = .ok (.iadd, 1) := dk_96 (dk_at dksX1_longest_1 19 rfl rfl)
theorem dX1_longest_43 : decode cX1_longest 43 = .ok (.invokestatic 92, 3) := dk_184 0 92 (dk_at dksX1_longest_1 20 rfl rfl)
theorem dX1_longest_46 : decode cX1_longest 46 = .ok (.istore_n 1, 1) := dk_60 (dk_at dksX1_longest_1 23 rfl rfl)
theorem dX1_longest_47 : decode cX1_longest 47 = .ok (.iinc 5 1, 3) := dk_132 5 1 (dk_at dksX1_longest_2 0 rfl rfl)
theorem dX1_longest_50 : decode cX1_longest 50 = .ok (.goto (-25), 3) := dk_167 255 231 (dk_at dksX1_longest_2 3 rfl rfl)
theorem dX1_longest_53 : decode cX1_longest 53 = .ok (.iinc 2 1, 3) := dk_132 2 1 (dk_at dksX1_longest_2 6 rfl rfl)
theorem dX1_longest_56 : decode cX1_longest 56 = .ok (.goto (-52), 3) := dk_167 255 204 (dk_at dksX1_longest_2 9 rfl rfl)
theorem dX1_longest_59 : decode cX1_longest 59 = .ok (.iload_n 1, 1) := dk_27 (dk_at dksX1_longest_2 12 rfl rfl)
theorem dX1_longest_60 : decode cX1_longest 60 = .ok (.ireturn, 1) := dk_172 (dk_at dksX1_longest_2 13 rfl rfl)
abbrev cX1_withNeighbours : ByteArray := prog_11_method_22_code
def yX1_withNeighbours : MethodName := ⟨RX1, "withNeighbours", "(I)I"⟩
def dkwX1_withNeighbours_1 : List UInt8 := [167, 0, 4, 3, 184, 0, 44, 96, 61, 132, 3, 1, 167, 255, 224, 28, 172]
abbrev dktX1_withNeighbours_1 : List UInt8 := dkwX1_withNeighbours_1 ++ []
def dkwX1_withNeighbours_0 : List UInt8 := [3, 61, 3, 62, 29, 42, 180, 0, 20, 162, 0, 30, 28, 42, 180, 0, 16, 29, 46, 27, 160, 0, 7, 4]
abbrev dktX1_withNeighbours_0 : List UInt8 := dkwX1_withNeighbours_0 ++ dktX1_withNeighbours_1
theorem dksX1_withNeighbours_0 : cX1_withNeighbours.data.toList.drop 0 = dktX1_withNeighbours_0 := by decide +kernel
theorem dksX1_withNeighbours_1 : cX1_withNeighbours.data.toList.drop 24 = dktX1_withNeighbours_1 := dk_seg dksX1_withNeighbours_0 24 rfl rfl
theorem dX1_withNeighbours_0 : decode cX1_withNeighbours 0 = .ok (.iconst 0, 1) := dk_3 (dk_at dksX1_withNeighbours_0 0 rfl rfl)
theorem dX1_withNeighbours_1 : decode cX1_withNeighbours 1 = .ok (.istore_n 2, 1) := dk_61 (dk_at dksX1_withNeighbours_0 1 rfl rfl)
theorem dX1_withNeighbours_2 : decode cX1_withNeighbours 2 = .ok (.iconst 0, 1) := dk_3 (dk_at dksX1_withNeighbours_0 2 rfl rfl)
theorem dX1_withNeighbours_3 : decode cX1_withNeighbours 3 = .ok (.istore_n 3, 1) := dk_62 (dk_at dksX1_withNeighbours_0 3 rfl rfl)
theorem dX1_withNeighbours_4 : decode cX1_withNeighbours 4 = .ok (.iload_n 3, 1) := dk_29 (dk_at dksX1_withNeighbours_0 4 rfl rfl)
theorem dX1_withNeighbours_5 : decode cX1_withNeighbours 5 = .ok (.aload_n 0, 1) := dk_42 (dk_at dksX1_withNeighbours_0 5 rfl rfl)
theorem dX1_withNeighbours_6 : decode cX1_withNeighbours 6 = .ok (.getfield 20, 3) := dk_180 0 20 (dk_at dksX1_withNeighbours_0 6 rfl rfl)
theorem dX1_withNeighbours_9 : decode cX1_withNeighbours 9 = .ok (.if_icmp .ge 30, 3) := dk_162 0 30 (dk_at dksX1_withNeighbours_0 9 rfl rfl)
theorem dX1_withNeighbours_12 : decode cX1_withNeighbours 12 = .ok (.iload_n 2, 1) := dk_28 (dk_at dksX1_withNeighbours_0 12 rfl rfl)
theorem dX1_withNeighbours_13 : decode cX1_withNeighbours 13 = .ok (.aload_n 0, 1) := dk_42 (dk_at dksX1_withNeighbours_0 13 rfl rfl)
theorem dX1_withNeighbours_14 : decode cX1_withNeighbours 14 = .ok (.getfield 16, 3) := dk_180 0 16 (dk_at dksX1_withNeighbours_0 14 rfl rfl)
theorem dX1_withNeighbours_17 : decode cX1_withNeighbours 17 = .ok (.iload_n 3, 1) := dk_29 (dk_at dksX1_withNeighbours_0 17 rfl rfl)
theorem dX1_withNeighbours_18 : decode cX1_withNeighbours 18 = .ok (.iaload, 1) := dk_46 (dk_at dksX1_withNeighbours_0 18 rfl rfl)
theorem dX1_withNeighbours_19 : decode cX1_withNeighbours 19 = .ok (.iload_n 1, 1) := dk_27 (dk_at dksX1_withNeighbours_0 19 rfl rfl)
theorem dX1_withNeighbours_20 : decode cX1_withNeighbours 20 = .ok (.if_icmp .ne 7, 3) := dk_160 0 7 (dk_at dksX1_withNeighbours_0 20 rfl rfl)
theorem dX1_withNeighbours_23 : decode cX1_withNeighbours 23 = .ok (.iconst 1, 1) := dk_4 (dk_at dksX1_withNeighbours_0 23 rfl rfl)
theorem dX1_withNeighbours_24 : decode cX1_withNeighbours 24 = .ok (.goto 4, 3) := dk_167 0 4 (dk_at dksX1_withNeighbours_1 0 rfl rfl)
theorem dX1_withNeighbours_27 : decode cX1_withNeighbours 27 = .ok (.iconst 0, 1) := dk_3 (dk_at dksX1_withNeighbours_1 3 rfl rfl)
theorem dX1_withNeighbours_28 : decode cX1_withNeighbours 28 = .ok (.invokestatic 44, 3) := dk_184 0 44 (dk_at dksX1_withNeighbours_1 4 rfl rfl)
theorem dX1_withNeighbours_31 : decode cX1_withNeighbours 31 = .ok (.iadd, 1) := dk_96 (dk_at dksX1_withNeighbours_1 7 rfl rfl)
theorem dX1_withNeighbours_32 : decode cX1_withNeighbours 32 = .ok (.istore_n 2, 1) := dk_61 (dk_at dksX1_withNeighbours_1 8 rfl rfl)
theorem dX1_withNeighbours_33 : decode cX1_withNeighbours 33 = .ok (.iinc 3 1, 3) := dk_132 3 1 (dk_at dksX1_withNeighbours_1 9 rfl rfl)
theorem dX1_withNeighbours_36 : decode cX1_withNeighbours 36 = .ok (.goto (-32), 3) := dk_167 255 224 (dk_at dksX1_withNeighbours_1 12 rfl rfl)
theorem dX1_withNeighbours_39 : decode cX1_withNeighbours 39 = .ok (.iload_n 2, 1) := dk_28 (dk_at dksX1_withNeighbours_1 15 rfl rfl)
theorem dX1_withNeighbours_40 : decode cX1_withNeighbours 40 = .ok (.ireturn, 1) := dk_172 (dk_at dksX1_withNeighbours_1 16 rfl rfl)
abbrev cX1_asymmetric : ByteArray := prog_11_method_19_code
def yX1_asymmetric : MethodName := ⟨RX1, "asymmetric", "()I"⟩
def dkwX1_asymmetric_1 : List UInt8 := [132, 2, 1, 167, 255, 234, 27, 172]
abbrev dktX1_asymmetric_1 : List UInt8 := dkwX1_asymmetric_1 ++ []
def dkwX1_asymmetric_0 : List UInt8 := [3, 60, 3, 61, 28, 42, 180, 0, 20, 162, 0, 20, 27, 42, 28, 182, 0, 101, 184, 0, 44, 96, 60]
abbrev dktX1_asymmetric_0 : List UInt8 := dkwX1_asymmetric_0 ++ dktX1_asymmetric_1
theorem dksX1_asymmetric_0 : cX1_asymmetric.data.toList.drop 0 = dktX1_asymmetric_0 := by decide +kernel
theorem dksX1_asymmetric_1 : cX1_asymmetric.data.toList.drop 23 = dktX1_asymmetric_1 := dk_seg dksX1_asymmetric_0 23 rfl rfl
theorem dX1_asymmetric_0 : decode cX1_asymmetric 0 = .ok (.iconst 0, 1) := dk_3 (dk_at dksX1_asymmetric_0 0 rfl rfl)
theorem dX1_asymmetric_1 : decode cX1_asymmetric 1 = .ok (.istore_n 1, 1) := dk_60 (dk_at dksX1_asymmetric_0 1 rfl rfl)
theorem dX1_asymmetric_2 : decode cX1_asymmetric 2 = .ok (.iconst 0, 1) := dk_3 (dk_at dksX1_asymmetric_0 2 rfl rfl)
theorem dX1_asymmetric_3 : decode cX1_asymmetric 3 = .ok (.istore_n 2, 1) := dk_61 (dk_at dksX1_asymmetric_0 3 rfl rfl)
theorem dX1_asymmetric_4 : decode cX1_asymmetric 4 = .ok (.iload_n 2, 1) := dk_28 (dk_at dksX1_asymmetric_0 4 rfl rfl)
theorem dX1_asymmetric_5 : decode cX1_asymmetric 5 = .ok (.aload_n 0, 1) := dk_42 (dk_at dksX1_asymmetric_0 5 rfl rfl)
theorem dX1_asymmetric_6 : decode cX1_asymmetric 6 = .ok (.getfield 20, 3) := dk_180 0 20 (dk_at dksX1_asymmetric_0 6 rfl rfl)
theorem dX1_asymmetric_9 : decode cX1_asymmetric 9 = .ok (.if_icmp .ge 20, 3) := dk_162 0 20 (dk_at dksX1_asymmetric_0 9 rfl rfl)
theorem dX1_asymmetric_12 : decode cX1_asymmetric 12 = .ok (.iload_n 1, 1) := dk_27 (dk_at dksX1_asymmetric_0 12 rfl rfl)
theorem dX1_asymmetric_13 : decode cX1_asymmetric 13 = .ok (.aload_n 0, 1) := dk_42 (dk_at dksX1_asymmetric_0 13 rfl rfl)
theorem dX1_asymmetric_14 : decode cX1_asymmetric 14 = .ok (.iload_n 2, 1) := dk_28 (dk_at dksX1_asymmetric_0 14 rfl rfl)
theorem dX1_asymmetric_15 : decode cX1_asymmetric 15 = .ok (.invokevirtual 101, 3) := dk_182 0 101 (dk_at dksX1_asymmetric_0 15 rfl rfl)
theorem dX1_asymmetric_18 : decode cX1_asymmetric 18 = .ok (.invokestatic 44, 3) := dk_184 0 44 (dk_at dksX1_asymmetric_0 18 rfl rfl)
theorem dX1_asymmetric_21 : decode cX1_asymmetric 21 = .ok (.iadd, 1) := dk_96 (dk_at dksX1_asymmetric_0 21 rfl rfl)
theorem dX1_asymmetric_22 : decode cX1_asymmetric 22 = .ok (.istore_n 1, 1) := dk_60 (dk_at dksX1_asymmetric_0 22 rfl rfl)
theorem dX1_asymmetric_23 : decode cX1_asymmetric 23 = .ok (.iinc 2 1, 3) := dk_132 2 1 (dk_at dksX1_asymmetric_1 0 rfl rfl)
theorem dX1_asymmetric_26 : decode cX1_asymmetric 26 = .ok (.goto (-22), 3) := dk_167 255 234 (dk_at dksX1_asymmetric_1 3 rfl rfl)
theorem dX1_asymmetric_29 : decode cX1_asymmetric 29 = .ok (.iload_n 1, 1) := dk_27 (dk_at dksX1_asymmetric_1 6 rfl rfl)
theorem dX1_asymmetric_30 : decode cX1_asymmetric 30 = .ok (.ireturn, 1) := dk_172 (dk_at dksX1_asymmetric_1 7 rfl rfl)
abbrev cX1_isAsymmetric : ByteArray := prog_11_method_18_code
def yX1_isAsymmetric : MethodName := ⟨RX1, "isAsymmetric", "(I)Z"⟩
def dkwX1_isAsymmetric_3 : List UInt8 := [167, 255, 214, 132, 2, 1, 167, 255, 196, 4, 172]
abbrev dktX1_isAsymmetric_3 : List UInt8 := dkwX1_isAsymmetric_3 ++ []
def dkwX1_isAsymmetric_2 : List UInt8 := [180, 0, 11, 27, 50, 29, 46, 27, 182, 0, 50, 184, 0, 97, 153, 0, 5, 3, 172, 132, 3, 1]
abbrev dktX1_isAsymmetric_2 : List UInt8 := dkwX1_isAsymmetric_2 ++ dktX1_isAsymmetric_3
def dkwX1_isAsymmetric_1 : List UInt8 := [3, 62, 29, 28, 162, 0, 43, 42, 42, 180, 0, 11, 27, 50, 28, 46, 27, 182, 0, 50, 42, 42]
abbrev dktX1_isAsymmetric_1 : List UInt8 := dkwX1_isAsymmetric_1 ++ dktX1_isAsymmetric_2
def dkwX1_isAsymmetric_0 : List UInt8 := [42, 180, 0, 16, 27, 46, 6, 162, 0, 5, 3, 172, 3, 61, 28, 42, 180, 0, 16, 27, 46, 162, 0, 56]
abbrev dktX1_isAsymmetric_0 : List UInt8 := dkwX1_isAsymmetric_0 ++ dktX1_isAsymmetric_1
theorem dksX1_isAsymmetric_0 : cX1_isAsymmetric.data.toList.drop 0 = dktX1_isAsymmetric_0 := by decide +kernel
theorem dksX1_isAsymmetric_1 : cX1_isAsymmetric.data.toList.drop 24 = dktX1_isAsymmetric_1 := dk_seg dksX1_isAsymmetric_0 24 rfl rfl
theorem dksX1_isAsymmetric_2 : cX1_isAsymmetric.data.toList.drop 46 = dktX1_isAsymmetric_2 := dk_seg dksX1_isAsymmetric_1 22 rfl rfl
theorem dksX1_isAsymmetric_3 : cX1_isAsymmetric.data.toList.drop 68 = dktX1_isAsymmetric_3 := dk_seg dksX1_isAsymmetric_2 22 rfl rfl
theorem dX1_isAsymmetric_0 : decode cX1_isAsymmetric 0 = .ok (.aload_n 0, 1) := dk_42 (dk_at dksX1_isAsymmetric_0 0 rfl rfl)
theorem dX1_isAsymmetric_1 : decode cX1_isAsymmetric 1 = .ok (.getfield 16, 3) := dk_180 0 16 (dk_at dksX1_isAsymmetric_0 1 rfl rfl)
theorem dX1_isAsymmetric_4 : decode cX1_isAsymmetric 4 = .ok (.iload_n 1, 1) := dk_27 (dk_at dksX1_isAsymmetric_0 4 rfl rfl)
theorem dX1_isAsymmetric_5 : decode cX1_isAsymmetric 5 = .ok (.iaload, 1) := dk_46 (dk_at dksX1_isAsymmetric_0 5 rfl rfl)
theorem dX1_isAsymmetric_6 : decode cX1_isAsymmetric 6 = .ok (.iconst 3, 1) := dk_6 (dk_at dksX1_isAsymmetric_0 6 rfl rfl)
theorem dX1_isAsymmetric_7 : decode cX1_isAsymmetric 7 = .ok (.if_icmp .ge 5, 3) := dk_162 0 5 (dk_at dksX1_isAsymmetric_0 7 rfl rfl)
theorem dX1_isAsymmetric_10 : decode cX1_isAsymmetric 10 = .ok (.iconst 0, 1) := dk_3 (dk_at dksX1_isAsymmetric_0 10 rfl rfl)
theorem dX1_isAsymmetric_11 : decode cX1_isAsymmetric 11 = .ok (.ireturn, 1) := dk_172 (dk_at dksX1_isAsymmetric_0 11 rfl rfl)
theorem dX1_isAsymmetric_12 : decode cX1_isAsymmetric 12 = .ok (.iconst 0, 1) := dk_3 (dk_at dksX1_isAsymmetric_0 12 rfl rfl)
theorem dX1_isAsymmetric_13 : decode cX1_isAsymmetric 13 = .ok (.istore_n 2, 1) := dk_61 (dk_at dksX1_isAsymmetric_0 13 rfl rfl)
theorem dX1_isAsymmetric_14 : decode cX1_isAsymmetric 14 = .ok (.iload_n 2, 1) := dk_28 (dk_at dksX1_isAsymmetric_0 14 rfl rfl)
theorem dX1_isAsymmetric_15 : decode cX1_isAsymmetric 15 = .ok (.aload_n 0, 1) := dk_42 (dk_at dksX1_isAsymmetric_0 15 rfl rfl)
theorem dX1_isAsymmetric_16 : decode cX1_isAsymmetric 16 = .ok (.getfield 16, 3) := dk_180 0 16 (dk_at dksX1_isAsymmetric_0 16 rfl rfl)
theorem dX1_isAsymmetric_19 : decode cX1_isAsymmetric 19 = .ok (.iload_n 1, 1) := dk_27 (dk_at dksX1_isAsymmetric_0 19 rfl rfl)
theorem dX1_isAsymmetric_20 : decode cX1_isAsymmetric 20 = .ok (.iaload, 1) := dk_46 (dk_at dksX1_isAsymmetric_0 20 rfl rfl)
theorem dX1_isAsymmetric_21 : decode cX1_isAsymmetric 21 = .ok (.if_icmp .ge 56, 3) := dk_162 0 56 (dk_at dksX1_isAsymmetric_0 21 rfl rfl)
theorem dX1_isAsymmetric_24 : decode cX1_isAsymmetric 24 = .ok (.iconst 0, 1) := dk_3 (dk_at dksX1_isAsymmetric_1 0 rfl rfl)
theorem dX1_isAsymmetric_25 : decode cX1_isAsymmetric 25 = .ok (.istore_n 3, 1) := dk_62 (dk_at dksX1_isAsymmetric_1 1 rfl rfl)
theorem dX1_isAsymmetric_26 : decode cX1_isAsymmetric 26 = .ok (.iload_n 3, 1) := dk_29 (dk_at dksX1_isAsymmetric_1 2 rfl rfl)
theorem dX1_isAsymmetric_27 : decode cX1_isAsymmetric 27 = .ok (.iload_n 2, 1) := dk_28 (dk_at dksX1_isAsymmetric_1 3 rfl rfl)
theorem dX1_isAsymmetric_28 : decode cX1_isAsymmetric 28 = .ok (.if_icmp .ge 43, 3) := dk_162 0 43 (dk_at dksX1_isAsymmetric_1 4 rfl rfl)
theorem dX1_isAsymmetric_31 : decode cX1_isAsymmetric 31 = .ok (.aload_n 0, 1) := dk_42 (dk_at dksX1_isAsymmetric_1 7 rfl rfl)
theorem dX1_isAsymmetric_32 : decode cX1_isAsymmetric 32 = .ok (.aload_n 0, 1) := dk_42 (dk_at dksX1_isAsymmetric_1 8 rfl rfl)
theorem dX1_isAsymmetric_33 : decode cX1_isAsymmetric 33 = .ok (.getfield 11, 3) := dk_180 0 11 (dk_at dksX1_isAsymmetric_1 9 rfl rfl)
theorem dX1_isAsymmetric_36 : decode cX1_isAsymmetric 36 = .ok (.iload_n 1, 1) := dk_27 (dk_at dksX1_isAsymmetric_1 12 rfl rfl)
theorem dX1_isAsymmetric_37 : decode cX1_isAsymmetric 37 = .ok (.aaload, 1) := dk_50 (dk_at dksX1_isAsymmetric_1 13 rfl rfl)
theorem dX1_isAsymmetric_38 : decode cX1_isAsymmetric 38 = .ok (.iload_n 2, 1) := dk_28 (dk_at dksX1_isAsymmetric_1 14 rfl rfl)
theorem dX1_isAsymmetric_39 : decode cX1_isAsymmetric 39 = .ok (.iaload, 1) := dk_46 (dk_at dksX1_isAsymmetric_1 15 rfl rfl)
theorem dX1_isAsymmetric_40 : decode cX1_isAsymmetric 40 = .ok (.iload_n 1, 1) := dk_27 (dk_at dksX1_isAsymmetric_1 16 rfl rfl)
theorem dX1_isAsymmetric_41 : decode cX1_isAsymmetric 41 = .ok (.invokevirtual 50, 3) := dk_182 0 50 (dk_at dksX1_isAsymmetric_1 17 rfl rfl)
theorem dX1_isAsymmetric_44 : decode cX1_isAsymmetric 44 = .ok (.aload_n 0, 1) := dk_42 (dk_at dksX1_isAsymmetric_1 20 rfl rfl)
theorem dX1_isAsymmetric_45 : decode cX1_isAsymmetric 45 = .ok (.aload_n 0, 1) := dk_42 (dk_at dksX1_isAsymmetric_1 21 rfl rfl)
theorem dX1_isAsymmetric_46 : decode cX1_isAsymmetric 46 = .ok (.getfield 11, 3) := dk_180 0 11 (dk_at dksX1_isAsymmetric_2 0 rfl rfl)
theorem dX1_isAsymmetric_49 : decode cX1_isAsymmetric 49 = .ok (.iload_n 1, 1) := dk_27 (dk_at dksX1_isAsymmetric_2 3 rfl rfl)
theorem dX1_isAsymmetric_50 : decode cX1_isAsymmetric 50 = .ok (.aaload, 1) := dk_50 (dk_at dksX1_isAsymmetric_2 4 rfl rfl)
theorem dX1_isAsymmetric_51 : decode cX1_isAsymmetric 51 = .ok (.iload_n 3, 1) := dk_29 (dk_at dksX1_isAsymmetric_2 5 rfl rfl)
theorem dX1_isAsymmetric_52 : decode cX1_isAsymmetric 52 = .ok (.iaload, 1) := dk_46 (dk_at dksX1_isAsymmetric_2 6 rfl rfl)
theorem dX1_isAsymmetric_53 : decode cX1_isAsymmetric 53 = .ok (.iload_n 1, 1) := dk_27 (dk_at dksX1_isAsymmetric_2 7 rfl rfl)
theorem dX1_isAsymmetric_54 : decode cX1_isAsymmetric 54 = .ok (.invokevirtual 50, 3) := dk_182 0 50 (dk_at dksX1_isAsymmetric_2 8 rfl rfl)
theorem dX1_isAsymmetric_57 : decode cX1_isAsymmetric 57 = .ok (.invokestatic 97, 3) := dk_184 0 97 (dk_at dksX1_isAsymmetric_2 11 rfl rfl)
theorem dX1_isAsymmetric_60 : decode cX1_isAsymmetric 60 = .ok (.ifCond .eq 5, 3) := dk_153 0 5 (dk_at dksX1_isAsymmetric_2 14 rfl rfl)
theorem dX1_isAsymmetric_63 : decode cX1_isAsymmetric 63 = .ok (.iconst 0, 1) := dk_3 (dk_at dksX1_isAsymmetric_2 17 rfl rfl)
theorem dX1_isAsymmetric_64 : decode cX1_isAsymmetric 64 = .ok (.ireturn, 1) := dk_172 (dk_at dksX1_isAsymmetric_2 18 rfl rfl)
theorem dX1_isAsymmetric_65 : decode cX1_isAsymmetric 65 = .ok (.iinc 3 1, 3) := dk_132 3 1 (dk_at dksX1_isAsymmetric_2 19 rfl rfl)
theorem dX1_isAsymmetric_68 : decode cX1_isAsymmetric 68 = .ok (.goto (-42), 3) := dk_167 255 214 (dk_at dksX1_isAsymmetric_3 0 rfl rfl)
theorem dX1_isAsymmetric_71 : decode cX1_isAsymmetric 71 = .ok (.iinc 2 1, 3) := dk_132 2 1 (dk_at dksX1_isAsymmetric_3 3 rfl rfl)
theorem dX1_isAsymmetric_74 : decode cX1_isAsymmetric 74 = .ok (.goto (-60), 3) := dk_167 255 196 (dk_at dksX1_isAsymmetric_3 6 rfl rfl)
theorem dX1_isAsymmetric_77 : decode cX1_isAsymmetric 77 = .ok (.iconst 1, 1) := dk_4 (dk_at dksX1_isAsymmetric_3 9 rfl rfl)
theorem dX1_isAsymmetric_78 : decode cX1_isAsymmetric 78 = .ok (.ireturn, 1) := dk_172 (dk_at dksX1_isAsymmetric_3 10 rfl rfl)
abbrev cX1_unlike : ByteArray := prog_11_method_21_code
def yX1_unlike : MethodName := ⟨RX1, "unlike", "()I"⟩
def dkwX1_unlike_1 : List UInt8 := [160, 0, 7, 4, 167, 0, 4, 3, 184, 0, 44, 96, 61, 132, 3, 1, 167, 255, 227, 28, 172]
abbrev dktX1_unlike_1 : List UInt8 := dkwX1_unlike_1 ++ []
def dkwX1_unlike_0 : List UInt8 := [42, 182, 0, 104, 76, 3, 61, 3, 62, 29, 42, 180, 0, 20, 162, 0, 27, 28, 43, 29, 46, 29]
abbrev dktX1_unlike_0 : List UInt8 := dkwX1_unlike_0 ++ dktX1_unlike_1
theorem dksX1_unlike_0 : cX1_unlike.data.toList.drop 0 = dktX1_unlike_0 := by decide +kernel
theorem dksX1_unlike_1 : cX1_unlike.data.toList.drop 22 = dktX1_unlike_1 := dk_seg dksX1_unlike_0 22 rfl rfl
theorem dX1_unlike_0 : decode cX1_unlike 0 = .ok (.aload_n 0, 1) := dk_42 (dk_at dksX1_unlike_0 0 rfl rfl)
theorem dX1_unlike_1 : decode cX1_unlike 1 = .ok (.invokevirtual 104, 3) := dk_182 0 104 (dk_at dksX1_unlike_0 1 rfl rfl)
theorem dX1_unlike_4 : decode cX1_unlike 4 = .ok (.astore_n 1, 1) := dk_76 (dk_at dksX1_unlike_0 4 rfl rfl)
theorem dX1_unlike_5 : decode cX1_unlike 5 = .ok (.iconst 0, 1) := dk_3 (dk_at dksX1_unlike_0 5 rfl rfl)
theorem dX1_unlike_6 : decode cX1_unlike 6 = .ok (.istore_n 2, 1) := dk_61 (dk_at dksX1_unlike_0 6 rfl rfl)
theorem dX1_unlike_7 : decode cX1_unlike 7 = .ok (.iconst 0, 1) := dk_3 (dk_at dksX1_unlike_0 7 rfl rfl)
theorem dX1_unlike_8 : decode cX1_unlike 8 = .ok (.istore_n 3, 1) := dk_62 (dk_at dksX1_unlike_0 8 rfl rfl)
theorem dX1_unlike_9 : decode cX1_unlike 9 = .ok (.iload_n 3, 1) := dk_29 (dk_at dksX1_unlike_0 9 rfl rfl)
theorem dX1_unlike_10 : decode cX1_unlike 10 = .ok (.aload_n 0, 1) := dk_42 (dk_at dksX1_unlike_0 10 rfl rfl)
theorem dX1_unlike_11 : decode cX1_unlike 11 = .ok (.getfield 20, 3) := dk_180 0 20 (dk_at dksX1_unlike_0 11 rfl rfl)
theorem dX1_unlike_14 : decode cX1_unlike 14 = .ok (.if_icmp .ge 27, 3) := dk_162 0 27 (dk_at dksX1_unlike_0 14 rfl rfl)
theorem dX1_unlike_17 : decode cX1_unlike 17 = .ok (.iload_n 2, 1) := dk_28 (dk_at dksX1_unlike_0 17 rfl rfl)
theorem dX1_unlike_18 : decode cX1_unlike 18 = .ok (.aload_n 1, 1) := dk_43 (dk_at dksX1_unlike_0 18 rfl rfl)
theorem dX1_unlike_19 : decode cX1_unlike 19 = .ok (.iload_n 3, 1) := dk_29 (dk_at dksX1_unlike_0 19 rfl rfl)
theorem dX1_unlike_20 : decode cX1_unlike 20 = .ok (.iaload, 1) := dk_46 (dk_at dksX1_unlike_0 20 rfl rfl)
theorem dX1_unlike_21 : decode cX1_unlike 21 = .ok (.iload_n 3, 1) := dk_29 (dk_at dksX1_unlike_0 21 rfl rfl)
theorem dX1_unlike_22 : decode cX1_unlike 22 = .ok (.if_icmp .ne 7, 3) := dk_160 0 7 (dk_at dksX1_unlike_1 0 rfl rfl)
theorem dX1_unlike_25 : decode cX1_unlike 25 = .ok (.iconst 1, 1) := dk_4 (dk_at dksX1_unlike_1 3 rfl rfl)
theorem dX1_unlike_26 : decode cX1_unlike 26 = .ok (.goto 4, 3) := dk_167 0 4 (dk_at dksX1_unlike_1 4 rfl rfl)
theorem dX1_unlike_29 : decode cX1_unlike 29 = .ok (.iconst 0, 1) := dk_3 (dk_at dksX1_unlike_1 7 rfl rfl)
theorem dX1_unlike_30 : decode cX1_unlike 30 = .ok (.invokestatic 44, 3) := dk_184 0 44 (dk_at dksX1_unlike_1 8 rfl rfl)
theorem dX1_unlike_33 : decode cX1_unlike 33 = .ok (.iadd, 1) := dk_96 (dk_at dksX1_unlike_1 11 rfl rfl)
theorem dX1_unlike_34 : decode cX1_unlike 34 = .ok (.istore_n 2, 1) := dk_61 (dk_at dksX1_unlike_1 12 rfl rfl)
theorem dX1_unlike_35 : decode cX1_unlike 35 = .ok (.iinc 3 1, 3) := dk_132 3 1 (dk_at dksX1_unlike_1 13 rfl rfl)
theorem dX1_unlike_38 : decode cX1_unlike 38 = .ok (.goto (-29), 3) := dk_167 255 227 (dk_at dksX1_unlike_1 16 rfl rfl)
theorem dX1_unlike_41 : decode cX1_unlike 41 = .ok (.iload_n 2, 1) := dk_28 (dk_at dksX1_unlike_1 19 rfl rfl)
theorem dX1_unlike_42 : decode cX1_unlike 42 = .ok (.ireturn, 1) := dk_172 (dk_at dksX1_unlike_1 20 rfl rfl)
abbrev cX1_like : ByteArray := prog_11_method_20_code
def yX1_like : MethodName := ⟨RX1, "like", "()[I"⟩
def dkwX1_like_2 : List UInt8 := [184, 0, 97, 154, 0, 13, 44, 29, 92, 46, 4, 96, 79, 167, 255, 235, 132, 3, 1, 167, 255, 208, 44, 176]
abbrev dktX1_like_2 : List UInt8 := dkwX1_like_2 ++ []
def dkwX1_like_1 : List UInt8 := [162, 0, 46, 43, 29, 42, 29, 2, 182, 0, 50, 83, 44, 29, 3, 79, 43, 44, 29, 46, 50, 43, 29, 50]
abbrev dktX1_like_1 : List UInt8 := dkwX1_like_1 ++ dktX1_like_2
def dkwX1_like_0 : List UInt8 := [42, 180, 0, 20, 189, 0, 48, 76, 42, 180, 0, 20, 188, 10, 77, 3, 62, 29, 42, 180, 0, 20]
abbrev dktX1_like_0 : List UInt8 := dkwX1_like_0 ++ dktX1_like_1
theorem dksX1_like_0 : cX1_like.data.toList.drop 0 = dktX1_like_0 := by decide +kernel
theorem dksX1_like_1 : cX1_like.data.toList.drop 22 = dktX1_like_1 := dk_seg dksX1_like_0 22 rfl rfl
theorem dksX1_like_2 : cX1_like.data.toList.drop 46 = dktX1_like_2 := dk_seg dksX1_like_1 24 rfl rfl
theorem dX1_like_0 : decode cX1_like 0 = .ok (.aload_n 0, 1) := dk_42 (dk_at dksX1_like_0 0 rfl rfl)
theorem dX1_like_1 : decode cX1_like 1 = .ok (.getfield 20, 3) := dk_180 0 20 (dk_at dksX1_like_0 1 rfl rfl)
theorem dX1_like_4 : decode cX1_like 4 = .ok (.anewarray 48, 3) := dk_189 0 48 (dk_at dksX1_like_0 4 rfl rfl)
theorem dX1_like_7 : decode cX1_like 7 = .ok (.astore_n 1, 1) := dk_76 (dk_at dksX1_like_0 7 rfl rfl)
theorem dX1_like_8 : decode cX1_like 8 = .ok (.aload_n 0, 1) := dk_42 (dk_at dksX1_like_0 8 rfl rfl)
theorem dX1_like_9 : decode cX1_like 9 = .ok (.getfield 20, 3) := dk_180 0 20 (dk_at dksX1_like_0 9 rfl rfl)
theorem dX1_like_12 : decode cX1_like 12 = .ok (.newarray .int, 2) := dk_188_10 (dk_at dksX1_like_0 12 rfl rfl)
theorem dX1_like_14 : decode cX1_like 14 = .ok (.astore_n 2, 1) := dk_77 (dk_at dksX1_like_0 14 rfl rfl)
theorem dX1_like_15 : decode cX1_like 15 = .ok (.iconst 0, 1) := dk_3 (dk_at dksX1_like_0 15 rfl rfl)
theorem dX1_like_16 : decode cX1_like 16 = .ok (.istore_n 3, 1) := dk_62 (dk_at dksX1_like_0 16 rfl rfl)
theorem dX1_like_17 : decode cX1_like 17 = .ok (.iload_n 3, 1) := dk_29 (dk_at dksX1_like_0 17 rfl rfl)
theorem dX1_like_18 : decode cX1_like 18 = .ok (.aload_n 0, 1) := dk_42 (dk_at dksX1_like_0 18 rfl rfl)
theorem dX1_like_19 : decode cX1_like 19 = .ok (.getfield 20, 3) := dk_180 0 20 (dk_at dksX1_like_0 19 rfl rfl)
theorem dX1_like_22 : decode cX1_like 22 = .ok (.if_icmp .ge 46, 3) := dk_162 0 46 (dk_at dksX1_like_1 0 rfl rfl)
theorem dX1_like_25 : decode cX1_like 25 = .ok (.aload_n 1, 1) := dk_43 (dk_at dksX1_like_1 3 rfl rfl)
theorem dX1_like_26 : decode cX1_like 26 = .ok (.iload_n 3, 1) := dk_29 (dk_at dksX1_like_1 4 rfl rfl)
theorem dX1_like_27 : decode cX1_like 27 = .ok (.aload_n 0, 1) := dk_42 (dk_at dksX1_like_1 5 rfl rfl)
theorem dX1_like_28 : decode cX1_like 28 = .ok (.iload_n 3, 1) := dk_29 (dk_at dksX1_like_1 6 rfl rfl)
theorem dX1_like_29 : decode cX1_like 29 = .ok (.iconst (-1), 1) := dk_2 (dk_at dksX1_like_1 7 rfl rfl)
theorem dX1_like_30 : decode cX1_like 30 = .ok (.invokevirtual 50, 3) := dk_182 0 50 (dk_at dksX1_like_1 8 rfl rfl)
theorem dX1_like_33 : decode cX1_like 33 = .ok (.aastore, 1) := dk_83 (dk_at dksX1_like_1 11 rfl rfl)
theorem dX1_like_34 : decode cX1_like 34 = .ok (.aload_n 2, 1) := dk_44 (dk_at dksX1_like_1 12 rfl rfl)
theorem dX1_like_35 : decode cX1_like 35 = .ok (.iload_n 3, 1) := dk_29 (dk_at dksX1_like_1 13 rfl rfl)
theorem dX1_like_36 : decode cX1_like 36 = .ok (.iconst 0, 1) := dk_3 (dk_at dksX1_like_1 14 rfl rfl)
theorem dX1_like_37 : decode cX1_like 37 = .ok (.iastore, 1) := dk_79 (dk_at dksX1_like_1 15 rfl rfl)
theorem dX1_like_38 : decode cX1_like 38 = .ok (.aload_n 1, 1) := dk_43 (dk_at dksX1_like_1 16 rfl rfl)
theorem dX1_like_39 : decode cX1_like 39 = .ok (.aload_n 2, 1) := dk_44 (dk_at dksX1_like_1 17 rfl rfl)
theorem dX1_like_40 : decode cX1_like 40 = .ok (.iload_n 3, 1) := dk_29 (dk_at dksX1_like_1 18 rfl rfl)
theorem dX1_like_41 : decode cX1_like 41 = .ok (.iaload, 1) := dk_46 (dk_at dksX1_like_1 19 rfl rfl)
theorem dX1_like_42 : decode cX1_like 42 = .ok (.aaload, 1) := dk_50 (dk_at dksX1_like_1 20 rfl rfl)
theorem dX1_like_43 : decode cX1_like 43 = .ok (.aload_n 1, 1) := dk_43 (dk_at dksX1_like_1 21 rfl rfl)
theorem dX1_like_44 : decode cX1_like 44 = .ok (.iload_n 3, 1) := dk_29 (dk_at dksX1_like_1 22 rfl rfl)
theorem dX1_like_45 : decode cX1_like 45 = .ok (.aaload, 1) := dk_50 (dk_at dksX1_like_1 23 rfl rfl)
theorem dX1_like_46 : decode cX1_like 46 = .ok (.invokestatic 97, 3) := dk_184 0 97 (dk_at dksX1_like_2 0 rfl rfl)
theorem dX1_like_49 : decode cX1_like 49 = .ok (.ifCond .ne 13, 3) := dk_154 0 13 (dk_at dksX1_like_2 3 rfl rfl)
theorem dX1_like_52 : decode cX1_like 52 = .ok (.aload_n 2, 1) := dk_44 (dk_at dksX1_like_2 6 rfl rfl)
theorem dX1_like_53 : decode cX1_like 53 = .ok (.iload_n 3, 1) := dk_29 (dk_at dksX1_like_2 7 rfl rfl)
theorem dX1_like_54 : decode cX1_like 54 = .ok (.dup2, 1) := dk_92 (dk_at dksX1_like_2 8 rfl rfl)
theorem dX1_like_55 : decode cX1_like 55 = .ok (.iaload, 1) := dk_46 (dk_at dksX1_like_2 9 rfl rfl)
theorem dX1_like_56 : decode cX1_like 56 = .ok (.iconst 1, 1) := dk_4 (dk_at dksX1_like_2 10 rfl rfl)
theorem dX1_like_57 : decode cX1_like 57 = .ok (.iadd, 1) := dk_96 (dk_at dksX1_like_2 11 rfl rfl)
theorem dX1_like_58 : decode cX1_like 58 = .ok (.iastore, 1) := dk_79 (dk_at dksX1_like_2 12 rfl rfl)
theorem dX1_like_59 : decode cX1_like 59 = .ok (.goto (-21), 3) := dk_167 255 235 (dk_at dksX1_like_2 13 rfl rfl)
theorem dX1_like_62 : decode cX1_like 62 = .ok (.iinc 3 1, 3) := dk_132 3 1 (dk_at dksX1_like_2 16 rfl rfl)
theorem dX1_like_65 : decode cX1_like 65 = .ok (.goto (-48), 3) := dk_167 255 208 (dk_at dksX1_like_2 19 rfl rfl)
theorem dX1_like_68 : decode cX1_like 68 = .ok (.aload_n 2, 1) := dk_44 (dk_at dksX1_like_2 22 rfl rfl)
theorem dX1_like_69 : decode cX1_like 69 = .ok (.areturn, 1) := dk_176 (dk_at dksX1_like_2 23 rfl rfl)
abbrev cX1_name : ByteArray := prog_11_method_28_code
def yX1_name : MethodName := ⟨RX1, "name", "()Ljava/lang/String;"⟩
def dkwX1_name_3 : List UInt8 := [44, 176]
abbrev dktX1_name_3 : List UInt8 := dkwX1_name_3 ++ []
def dkwX1_name_2 : List UInt8 := [42, 29, 21, 5, 2, 182, 0, 114, 184, 0, 118, 77, 132, 5, 1, 167, 255, 222, 132, 3, 1, 167, 255, 198]
abbrev dktX1_name_2 : List UInt8 := dkwX1_name_2 ++ dktX1_name_3
def dkwX1_name_1 : List UInt8 := [58, 4, 3, 54, 5, 21, 5, 42, 180, 0, 20, 162, 0, 31, 25, 4, 21, 5, 46, 27, 160, 0, 16, 44]
abbrev dktX1_name_1 : List UInt8 := dkwX1_name_1 ++ dktX1_name_2
def dkwX1_name_0 : List UInt8 := [42, 182, 0, 159, 4, 100, 60, 1, 77, 3, 62, 29, 42, 180, 0, 20, 162, 0, 56, 42, 29, 182, 0, 88]
abbrev dktX1_name_0 : List UInt8 := dkwX1_name_0 ++ dktX1_name_1
theorem dksX1_name_0 : cX1_name.data.toList.drop 0 = dktX1_name_0 := by decide +kernel
theorem dksX1_name_1 : cX1_name.data.toList.drop 24 = dktX1_name_1 := dk_seg dksX1_name_0 24 rfl rfl
theorem dksX1_name_2 : cX1_name.data.toList.drop 48 = dktX1_name_2 := dk_seg dksX1_name_1 24 rfl rfl
theorem dksX1_name_3 : cX1_name.data.toList.drop 72 = dktX1_name_3 := dk_seg dksX1_name_2 24 rfl rfl
theorem dX1_name_0 : decode cX1_name 0 = .ok (.aload_n 0, 1) := dk_42 (dk_at dksX1_name_0 0 rfl rfl)
theorem dX1_name_1 : decode cX1_name 1 = .ok (.invokevirtual 159, 3) := dk_182 0 159 (dk_at dksX1_name_0 1 rfl rfl)
theorem dX1_name_4 : decode cX1_name 4 = .ok (.iconst 1, 1) := dk_4 (dk_at dksX1_name_0 4 rfl rfl)
theorem dX1_name_5 : decode cX1_name 5 = .ok (.isub, 1) := dk_100 (dk_at dksX1_name_0 5 rfl rfl)
theorem dX1_name_6 : decode cX1_name 6 = .ok (.istore_n 1, 1) := dk_60 (dk_at dksX1_name_0 6 rfl rfl)
theorem dX1_name_7 : decode cX1_name 7 = .ok (.aconst_null, 1) := dk_1 (dk_at dksX1_name_0 7 rfl rfl)
theorem dX1_name_8 : decode cX1_name 8 = .ok (.astore_n 2, 1) := dk_77 (dk_at dksX1_name_0 8 rfl rfl)
theorem dX1_name_9 : decode cX1_name 9 = .ok (.iconst 0, 1) := dk_3 (dk_at dksX1_name_0 9 rfl rfl)
theorem dX1_name_10 : decode cX1_name 10 = .ok (.istore_n 3, 1) := dk_62 (dk_at dksX1_name_0 10 rfl rfl)
theorem dX1_name_11 : decode cX1_name 11 = .ok (.iload_n 3, 1) := dk_29 (dk_at dksX1_name_0 11 rfl rfl)
theorem dX1_name_12 : decode cX1_name 12 = .ok (.aload_n 0, 1) := dk_42 (dk_at dksX1_name_0 12 rfl rfl)
theorem dX1_name_13 : decode cX1_name 13 = .ok (.getfield 20, 3) := dk_180 0 20 (dk_at dksX1_name_0 13 rfl rfl)
theorem dX1_name_16 : decode cX1_name 16 = .ok (.if_icmp .ge 56, 3) := dk_162 0 56 (dk_at dksX1_name_0 16 rfl rfl)
theorem dX1_name_19 : decode cX1_name 19 = .ok (.aload_n 0, 1) := dk_42 (dk_at dksX1_name_0 19 rfl rfl)
theorem dX1_name_20 : decode cX1_name 20 = .ok (.iload_n 3, 1) := dk_29 (dk_at dksX1_name_0 20 rfl rfl)
theorem dX1_name_21 : decode cX1_name 21 = .ok (.invokevirtual 88, 3) := dk_182 0 88 (dk_at dksX1_name_0 21 rfl rfl)
theorem dX1_name_24 : decode cX1_name 24 = .ok (.astore 4, 2) := dk_58 4 (dk_at dksX1_name_1 0 rfl rfl)
theorem dX1_name_26 : decode cX1_name 26 = .ok (.iconst 0, 1) := dk_3 (dk_at dksX1_name_1 2 rfl rfl)
theorem dX1_name_27 : decode cX1_name 27 = .ok (.istore 5, 2) := dk_54 5 (dk_at dksX1_name_1 3 rfl rfl)
theorem dX1_name_29 : decode cX1_name 29 = .ok (.iload 5, 2) := dk_21 5 (dk_at dksX1_name_1 5 rfl rfl)
theorem dX1_name_31 : decode cX1_name 31 = .ok (.aload_n 0, 1) := dk_42 (dk_at dksX1_name_1 7 rfl rfl)
theorem dX1_name_32 : decode cX1_name 32 = .ok (.getfield 20, 3) := dk_180 0 20 (dk_at dksX1_name_1 8 rfl rfl)
theorem dX1_name_35 : decode cX1_name 35 = .ok (.if_icmp .ge 31, 3) := dk_162 0 31 (dk_at dksX1_name_1 11 rfl rfl)
theorem dX1_name_38 : decode cX1_name 38 = .ok (.aload 4, 2) := dk_25 4 (dk_at dksX1_name_1 14 rfl rfl)
theorem dX1_name_40 : decode cX1_name 40 = .ok (.iload 5, 2) := dk_21 5 (dk_at dksX1_name_1 16 rfl rfl)
theorem dX1_name_42 : decode cX1_name 42 = .ok (.iaload, 1) := dk_46 (dk_at dksX1_name_1 18 rfl rfl)
theorem dX1_name_43 : decode cX1_name 43 = .ok (.iload_n 1, 1) := dk_27 (dk_at dksX1_name_1 19 rfl rfl)
theorem dX1_name_44 : decode cX1_name 44 = .ok (.if_icmp .ne 16, 3) := dk_160 0 16 (dk_at dksX1_name_1 20 rfl rfl)
theorem dX1_name_47 : decode cX1_name 47 = .ok (.aload_n 2, 1) := dk_44 (dk_at dksX1_name_1 23 rfl rfl)
theorem dX1_name_48 : decode cX1_name 48 = .ok (.aload_n 0, 1) := dk_42 (dk_at dksX1_name_2 0 rfl rfl)
theorem dX1_name_49 : decode cX1_name 49 = .ok (.iload_n 3, 1) := dk_29 (dk_at dksX1_name_2 1 rfl rfl)
theorem dX1_name_50 : decode cX1_name 50 = .ok (.iload 5, 2) := dk_21 5 (dk_at dksX1_name_2 2 rfl rfl)
theorem dX1_name_52 : decode cX1_name 52 = .ok (.iconst (-1), 1) := dk_2 (dk_at dksX1_name_2 4 rfl rfl)
theorem dX1_name_53 : decode cX1_name 53 = .ok (.invokevirtual 114, 3) := dk_182 0 114 (dk_at dksX1_name_2 5 rfl rfl)
theorem dX1_name_56 : decode cX1_name 56 = .ok (.invokestatic 118, 3) := dk_184 0 118 (dk_at dksX1_name_2 8 rfl rfl)
theorem dX1_name_59 : decode cX1_name 59 = .ok (.astore_n 2, 1) := dk_77 (dk_at dksX1_name_2 11 rfl rfl)
theorem dX1_name_60 : decode cX1_name 60 = .ok (.iinc 5 1, 3) := dk_132 5 1 (dk_at dksX1_name_2 12 rfl rfl)
theorem dX1_name_63 : decode cX1_name 63 = .ok (.goto (-34), 3) := dk_167 255 222 (dk_at dksX1_name_2 15 rfl rfl)
theorem dX1_name_66 : decode cX1_name 66 = .ok (.iinc 3 1, 3) := dk_132 3 1 (dk_at dksX1_name_2 18 rfl rfl)
theorem dX1_name_69 : decode cX1_name 69 = .ok (.goto (-58), 3) := dk_167 255 198 (dk_at dksX1_name_2 21 rfl rfl)
theorem dX1_name_72 : decode cX1_name 72 = .ok (.aload_n 2, 1) := dk_44 (dk_at dksX1_name_3 0 rfl rfl)
theorem dX1_name_73 : decode cX1_name 73 = .ok (.areturn, 1) := dk_176 (dk_at dksX1_name_3 1 rfl rfl)
abbrev cX1_chain : ByteArray := prog_11_method_26_code
def yX1_chain : MethodName := ⟨RX1, "chain", "(III)Ljava/lang/String;"⟩
def dkwX1_chain_5 : List UInt8 := [182, 0, 148, 21, 7, 54, 6, 21, 9, 54, 7, 132, 8, 1, 167, 255, 161, 25, 5, 182, 0, 138, 176]
abbrev dktX1_chain_5 : List UInt8 := dkwX1_chain_5 ++ []
def dkwX1_chain_4 : List UInt8 := [21, 10, 46, 54, 9, 132, 10, 1, 167, 255, 206, 42, 25, 5, 21, 7, 21, 6, 21, 9, 21, 8]
abbrev dktX1_chain_4 : List UInt8 := dkwX1_chain_4 ++ dktX1_chain_5
def dkwX1_chain_3 : List UInt8 := [21, 7, 50, 21, 10, 46, 46, 25, 4, 21, 7, 46, 4, 100, 160, 0, 15, 42, 180, 0, 11, 21, 7, 50]
abbrev dktX1_chain_3 : List UInt8 := dkwX1_chain_3 ++ dktX1_chain_4
def dkwX1_chain_2 : List UInt8 := [2, 54, 9, 3, 54, 10, 21, 10, 42, 180, 0, 16, 21, 7, 46, 162, 0, 44, 25, 4, 42, 180, 0, 11]
abbrev dktX1_chain_2 : List UInt8 := dkwX1_chain_2 ++ dktX1_chain_3
def dkwX1_chain_1 : List UInt8 := [182, 0, 145, 87, 29, 54, 6, 27, 54, 7, 4, 54, 8, 21, 8, 25, 4, 27, 46, 4, 96, 163, 0, 90]
abbrev dktX1_chain_1 : List UInt8 := dkwX1_chain_1 ++ dktX1_chain_2
def dkwX1_chain_0 : List UInt8 := [42, 28, 182, 0, 88, 58, 4, 187, 0, 127, 89, 183, 0, 129, 58, 5, 25, 5, 25, 4, 27, 46, 4, 96]
abbrev dktX1_chain_0 : List UInt8 := dkwX1_chain_0 ++ dktX1_chain_1
theorem dksX1_chain_0 : cX1_chain.data.toList.drop 0 = dktX1_chain_0 := by decide +kernel
theorem dksX1_chain_1 : cX1_chain.data.toList.drop 24 = dktX1_chain_1 := dk_seg dksX1_chain_0 24 rfl rfl
theorem dksX1_chain_2 : cX1_chain.data.toList.drop 48 = dktX1_chain_2 := dk_seg dksX1_chain_1 24 rfl rfl
theorem dksX1_chain_3 : cX1_chain.data.toList.drop 72 = dktX1_chain_3 := dk_seg dksX1_chain_2 24 rfl rfl
theorem dksX1_chain_4 : cX1_chain.data.toList.drop 96 = dktX1_chain_4 := dk_seg dksX1_chain_3 24 rfl rfl
theorem dksX1_chain_5 : cX1_chain.data.toList.drop 118 = dktX1_chain_5 := dk_seg dksX1_chain_4 22 rfl rfl
theorem dX1_chain_0 : decode cX1_chain 0 = .ok (.aload_n 0, 1) := dk_42 (dk_at dksX1_chain_0 0 rfl rfl)
theorem dX1_chain_1 : decode cX1_chain 1 = .ok (.iload_n 2, 1) := dk_28 (dk_at dksX1_chain_0 1 rfl rfl)
theorem dX1_chain_2 : decode cX1_chain 2 = .ok (.invokevirtual 88, 3) := dk_182 0 88 (dk_at dksX1_chain_0 2 rfl rfl)
theorem dX1_chain_5 : decode cX1_chain 5 = .ok (.astore 4, 2) := dk_58 4 (dk_at dksX1_chain_0 5 rfl rfl)
theorem dX1_chain_7 : decode cX1_chain 7 = .ok (.new 127, 3) := dk_187 0 127 (dk_at dksX1_chain_0 7 rfl rfl)
theorem dX1_chain_10 : decode cX1_chain 10 = .ok (.dup, 1) := dk_89 (dk_at dksX1_chain_0 10 rfl rfl)
theorem dX1_chain_11 : decode cX1_chain 11 = .ok (.invokespecial 129, 3) := dk_183 0 129 (dk_at dksX1_chain_0 11 rfl rfl)
theorem dX1_chain_14 : decode cX1_chain 14 = .ok (.astore 5, 2) := dk_58 5 (dk_at dksX1_chain_0 14 rfl rfl)
theorem dX1_chain_16 : decode cX1_chain 16 = .ok (.aload 5, 2) := dk_25 5 (dk_at dksX1_chain_0 16 rfl rfl)
theorem dX1_chain_18 : decode cX1_chain 18 = .ok (.aload 4, 2) := dk_25 4 (dk_at dksX1_chain_0 18 rfl rfl)
theorem dX1_chain_20 : decode cX1_chain 20 = .ok (.iload_n 1, 1) := dk_27 (dk_at dksX1_chain_0 20 rfl rfl)
theorem dX1_chain_21 : decode cX1_chain 21 = .ok (.iaload, 1) := dk_46 (dk_at dksX1_chain_0 21 rfl rfl)
theorem dX1_chain_22 : decode cX1_chain 22 = .ok (.iconst 1, 1) := dk_4 (dk_at dksX1_chain_0 22 rfl rfl)
theorem dX1_chain_23 : decode cX1_chain 23 = .ok (.iadd, 1) := dk_96 (dk_at dksX1_chain_0 23 rfl rfl)
theorem dX1_chain_24 : decode cX1_chain 24 = .ok (.invokevirtual 145, 3) := dk_182 0 145 (dk_at dksX1_chain_1 0 rfl rfl)
theorem dX1_chain_27 : decode cX1_chain 27 = .ok (.pop, 1) := dk_87 (dk_at dksX1_chain_1 3 rfl rfl)
theorem dX1_chain_28 : decode cX1_chain 28 = .ok (.iload_n 3, 1) := dk_29 (dk_at dksX1_chain_1 4 rfl rfl)
theorem dX1_chain_29 : decode cX1_chain 29 = .ok (.istore 6, 2) := dk_54 6 (dk_at dksX1_chain_1 5 rfl rfl)
theorem dX1_chain_31 : decode cX1_chain 31 = .ok (.iload_n 1, 1) := dk_27 (dk_at dksX1_chain_1 7 rfl rfl)
theorem dX1_chain_32 : decode cX1_chain 32 = .ok (.istore 7, 2) := dk_54 7 (dk_at dksX1_chain_1 8 rfl rfl)
theorem dX1_chain_34 : decode cX1_chain 34 = .ok (.iconst 1, 1) := dk_4 (dk_at dksX1_chain_1 10 rfl rfl)
theorem dX1_chain_35 : decode cX1_chain 35 = .ok (.istore 8, 2) := dk_54 8 (dk_at dksX1_chain_1 11 rfl rfl)
theorem dX1_chain_37 : decode cX1_chain 37 = .ok (.iload 8, 2) := dk_21 8 (dk_at dksX1_chain_1 13 rfl rfl)
theorem dX1_chain_39 : decode cX1_chain 39 = .ok (.aload 4, 2) := dk_25 4 (dk_at dksX1_chain_1 15 rfl rfl)
theorem dX1_chain_41 : decode cX1_chain 41 = .ok (.iload_n 1, 1) := dk_27 (dk_at dksX1_chain_1 17 rfl rfl)
theorem dX1_chain_42 : decode cX1_chain 42 = .ok (.iaload, 1) := dk_46 (dk_at dksX1_chain_1 18 rfl rfl)
theorem dX1_chain_43 : decode cX1_chain 43 = .ok (.iconst 1, 1) := dk_4 (dk_at dksX1_chain_1 19 rfl rfl)
theorem dX1_chain_44 : decode cX1_chain 44 = .ok (.iadd, 1) := dk_96 (dk_at dksX1_chain_1 20 rfl rfl)
theorem dX1_chain_45 : decode cX1_chain 45 = .ok (.if_icmp .gt 90, 3) := dk_163 0 90 (dk_at dksX1_chain_1 21 rfl rfl)
theorem dX1_chain_48 : decode cX1_chain 48 = .ok (.iconst (-1), 1) := dk_2 (dk_at dksX1_chain_2 0 rfl rfl)
theorem dX1_chain_49 : decode cX1_chain 49 = .ok (.istore 9, 2) := dk_54 9 (dk_at dksX1_chain_2 1 rfl rfl)
theorem dX1_chain_51 : decode cX1_chain 51 = .ok (.iconst 0, 1) := dk_3 (dk_at dksX1_chain_2 3 rfl rfl)
theorem dX1_chain_52 : decode cX1_chain 52 = .ok (.istore 10, 2) := dk_54 10 (dk_at dksX1_chain_2 4 rfl rfl)
theorem dX1_chain_54 : decode cX1_chain 54 = .ok (.iload 10, 2) := dk_21 10 (dk_at dksX1_chain_2 6 rfl rfl)
theorem dX1_chain_56 : decode cX1_chain 56 = .ok (.aload_n 0, 1) := dk_42 (dk_at dksX1_chain_2 8 rfl rfl)
theorem dX1_chain_57 : decode cX1_chain 57 = .ok (.getfield 16, 3) := dk_180 0 16 (dk_at dksX1_chain_2 9 rfl rfl)
theorem dX1_chain_60 : decode cX1_chain 60 = .ok (.iload 7, 2) := dk_21 7 (dk_at dksX1_chain_2 12 rfl rfl)
theorem dX1_chain_62 : decode cX1_chain 62 = .ok (.iaload, 1) := dk_46 (dk_at dksX1_chain_2 14 rfl rfl)
theorem dX1_chain_63 : decode cX1_chain 63 = .ok (.if_icmp .ge 44, 3) := dk_162 0 44 (dk_at dksX1_chain_2 15 rfl rfl)
theorem dX1_chain_66 : decode cX1_chain 66 = .ok (.aload 4, 2) := dk_25 4 (dk_at dksX1_chain_2 18 rfl rfl)
theorem dX1_chain_68 : decode cX1_chain 68 = .ok (.aload_n 0, 1) := dk_42 (dk_at dksX1_chain_2 20 rfl rfl)
theorem dX1_chain_69 : decode cX1_chain 69 = .ok (.getfield 11, 3) := dk_180 0 11 (dk_at dksX1_chain_2 21 rfl rfl)
theorem dX1_chain_72 : decode cX1_chain 72 = .ok (.iload 7, 2) := dk_21 7 (dk_at dksX1_chain_3 0 rfl rfl)
theorem dX1_chain_74 : decode cX1_chain 74 = .ok (.aaload, 1) := dk_50 (dk_at dksX1_chain_3 2 rfl rfl)
theorem dX1_chain_75 : decode cX1_chain 75 = .ok (.iload 10, 2) := dk_21 10 (dk_at dksX1_chain_3 3 rfl rfl)
theorem dX1_chain_77 : decode cX1_chain 77 = .ok (.iaload, 1) := dk_46 (dk_at dksX1_chain_3 5 rfl rfl)
theorem dX1_chain_78 : decode cX1_chain 78 = .ok (.iaload, 1) := dk_46 (dk_at dksX1_chain_3 6 rfl rfl)
theorem dX1_chain_79 : decode cX1_chain 79 = .ok (.aload 4, 2) := dk_25 4 (dk_at dksX1_chain_3 7 rfl rfl)
theorem dX1_chain_81 : decode cX1_chain 81 = .ok (.iload 7, 2) := dk_21 7 (dk_at dksX1_chain_3 9 rfl rfl)
theorem dX1_chain_83 : decode cX1_chain 83 = .ok (.iaload, 1) := dk_46 (dk_at dksX1_chain_3 11 rfl rfl)
theorem dX1_chain_84 : decode cX1_chain 84 = .ok (.iconst 1, 1) := dk_4 (dk_at dksX1_chain_3 12 rfl rfl)
theorem dX1_chain_85 : decode cX1_chain 85 = .ok (.isub, 1) := dk_100 (dk_at dksX1_chain_3 13 rfl rfl)
theorem dX1_chain_86 : decode cX1_chain 86 = .ok (.if_icmp .ne 15, 3) := dk_160 0 15 (dk_at dksX1_chain_3 14 rfl rfl)
theorem dX1_chain_89 : decode cX1_chain 89 = .ok (.aload_n 0, 1) := dk_42 (dk_at dksX1_chain_3 17 rfl rfl)
theorem dX1_chain_90 : decode cX1_chain 90 = .ok (.getfield 11, 3) := dk_180 0 11 (dk_at dksX1_chain_3 18 rfl rfl)
theorem dX1_chain_93 : decode cX1_chain 93 = .ok (.iload 7, 2) := dk_21 7 (dk_at dksX1_chain_3 21 rfl rfl)
theorem dX1_chain_95 : decode cX1_chain 95 = .ok (.aaload, 1) := dk_50 (dk_at dksX1_chain_3 23 rfl rfl)
theorem dX1_chain_96 : decode cX1_chain 96 = .ok (.iload 10, 2) := dk_21 10 (dk_at dksX1_chain_4 0 rfl rfl)
theorem dX1_chain_98 : decode cX1_chain 98 = .ok (.iaload, 1) := dk_46 (dk_at dksX1_chain_4 2 rfl rfl)
theorem dX1_chain_99 : decode cX1_chain 99 = .ok (.istore 9, 2) := dk_54 9 (dk_at dksX1_chain_4 3 rfl rfl)
theorem dX1_chain_101 : decode cX1_chain 101 = .ok (.iinc 10 1, 3) := dk_132 10 1 (dk_at dksX1_chain_4 5 rfl rfl)
theorem dX1_chain_104 : decode cX1_chain 104 = .ok (.goto (-50), 3) := dk_167 255 206 (dk_at dksX1_chain_4 8 rfl rfl)
theorem dX1_chain_107 : decode cX1_chain 107 = .ok (.aload_n 0, 1) := dk_42 (dk_at dksX1_chain_4 11 rfl rfl)
theorem dX1_chain_108 : decode cX1_chain 108 = .ok (.aload 5, 2) := dk_25 5 (dk_at dksX1_chain_4 12 rfl rfl)
theorem dX1_chain_110 : decode cX1_chain 110 = .ok (.iload 7, 2) := dk_21 7 (dk_at dksX1_chain_4 14 rfl rfl)
theorem dX1_chain_112 : decode cX1_chain 112 = .ok (.iload 6, 2) := dk_21 6 (dk_at dksX1_chain_4 16 rfl rfl)
theorem dX1_chain_114 : decode cX1_chain 114 = .ok (.iload 9, 2) := dk_21 9 (dk_at dksX1_chain_4 18 rfl rfl)
theorem dX1_chain_116 : decode cX1_chain 116 = .ok (.iload 8, 2) := dk_21 8 (dk_at dksX1_chain_4 20 rfl rfl)
theorem dX1_chain_118 : decode cX1_chain 118 = .ok (.invokevirtual 148, 3) := dk_182 0 148 (dk_at dksX1_chain_5 0 rfl rfl)
theorem dX1_chain_121 : decode cX1_chain 121 = .ok (.iload 7, 2) := dk_21 7 (dk_at dksX1_chain_5 3 rfl rfl)
theorem dX1_chain_123 : decode cX1_chain 123 = .ok (.istore 6, 2) := dk_54 6 (dk_at dksX1_chain_5 5 rfl rfl)
theorem dX1_chain_125 : decode cX1_chain 125 = .ok (.iload 9, 2) := dk_21 9 (dk_at dksX1_chain_5 7 rfl rfl)
theorem dX1_chain_127 : decode cX1_chain 127 = .ok (.istore 7, 2) := dk_54 7 (dk_at dksX1_chain_5 9 rfl rfl)
theorem dX1_chain_129 : decode cX1_chain 129 = .ok (.iinc 8 1, 3) := dk_132 8 1 (dk_at dksX1_chain_5 11 rfl rfl)
theorem dX1_chain_132 : decode cX1_chain 132 = .ok (.goto (-95), 3) := dk_167 255 161 (dk_at dksX1_chain_5 14 rfl rfl)
theorem dX1_chain_135 : decode cX1_chain 135 = .ok (.aload 5, 2) := dk_25 5 (dk_at dksX1_chain_5 17 rfl rfl)
theorem dX1_chain_137 : decode cX1_chain 137 = .ok (.invokevirtual 138, 3) := dk_182 0 138 (dk_at dksX1_chain_5 19 rfl rfl)
theorem dX1_chain_140 : decode cX1_chain 140 = .ok (.areturn, 1) := dk_176 (dk_at dksX1_chain_5 22 rfl rfl)
abbrev cX1_hangs : ByteArray := prog_11_method_27_code
def yX1_hangs : MethodName := ⟨RX1, "hangs", "(Ljava/lang/StringBuilder;IIII)V"⟩
def dkwX1_hangs_6 : List UInt8 := [182, 0, 156, 25, 6, 21, 8, 50, 182, 0, 132, 87, 132, 8, 1, 167, 255, 221, 177]
abbrev dktX1_hangs_6 : List UInt8 := dkwX1_hangs_6 ++ []
def dkwX1_hangs_5 : List UInt8 := [54, 8, 21, 8, 21, 7, 162, 0, 34, 43, 16, 45, 182, 0, 156, 21, 5, 182, 0, 145, 16, 58]
abbrev dktX1_hangs_5 : List UInt8 := dkwX1_hangs_5 ++ dktX1_hangs_6
def dkwX1_hangs_4 : List UInt8 := [83, 132, 11, 255, 167, 255, 221, 25, 6, 21, 11, 25, 10, 83, 132, 7, 1, 132, 8, 1, 167, 255, 154, 3]
abbrev dktX1_hangs_4 : List UInt8 := dkwX1_hangs_4 ++ dktX1_hangs_5
def dkwX1_hangs_3 : List UInt8 := [21, 11, 4, 100, 50, 25, 10, 182, 0, 142, 158, 0, 21, 25, 6, 21, 11, 25, 6, 21, 11, 4, 100, 50]
abbrev dktX1_hangs_3 : List UInt8 := dkwX1_hangs_3 ++ dktX1_hangs_4
def dkwX1_hangs_2 : List UInt8 := [167, 0, 64, 42, 21, 9, 28, 182, 0, 152, 58, 10, 21, 7, 54, 11, 21, 11, 158, 0, 36, 25, 6]
abbrev dktX1_hangs_2 : List UInt8 := dkwX1_hangs_2 ++ dktX1_hangs_3
def dkwX1_hangs_1 : List UInt8 := [180, 0, 11, 28, 50, 21, 8, 46, 54, 9, 21, 9, 29, 159, 0, 74, 21, 9, 21, 4, 160, 0, 6]
abbrev dktX1_hangs_1 : List UInt8 := dkwX1_hangs_1 ++ dktX1_hangs_2
def dkwX1_hangs_0 : List UInt8 := [7, 189, 0, 123, 58, 6, 3, 54, 7, 3, 54, 8, 21, 8, 42, 180, 0, 16, 28, 46, 162, 0, 97, 42]
abbrev dktX1_hangs_0 : List UInt8 := dkwX1_hangs_0 ++ dktX1_hangs_1
theorem dksX1_hangs_0 : cX1_hangs.data.toList.drop 0 = dktX1_hangs_0 := by decide +kernel
theorem dksX1_hangs_1 : cX1_hangs.data.toList.drop 24 = dktX1_hangs_1 := dk_seg dksX1_hangs_0 24 rfl rfl
theorem dksX1_hangs_2 : cX1_hangs.data.toList.drop 47 = dktX1_hangs_2 := dk_seg dksX1_hangs_1 23 rfl rfl
theorem dksX1_hangs_3 : cX1_hangs.data.toList.drop 70 = dktX1_hangs_3 := dk_seg dksX1_hangs_2 23 rfl rfl
theorem dksX1_hangs_4 : cX1_hangs.data.toList.drop 94 = dktX1_hangs_4 := dk_seg dksX1_hangs_3 24 rfl rfl
theorem dksX1_hangs_5 : cX1_hangs.data.toList.drop 118 = dktX1_hangs_5 := dk_seg dksX1_hangs_4 24 rfl rfl
theorem dksX1_hangs_6 : cX1_hangs.data.toList.drop 140 = dktX1_hangs_6 := dk_seg dksX1_hangs_5 22 rfl rfl
theorem dX1_hangs_0 : decode cX1_hangs 0 = .ok (.iconst 4, 1) := dk_7 (dk_at dksX1_hangs_0 0 rfl rfl)
theorem dX1_hangs_1 : decode cX1_hangs 1 = .ok (.anewarray 123, 3) := dk_189 0 123 (dk_at dksX1_hangs_0 1 rfl rfl)
theorem dX1_hangs_4 : decode cX1_hangs 4 = .ok (.astore 6, 2) := dk_58 6 (dk_at dksX1_hangs_0 4 rfl rfl)
theorem dX1_hangs_6 : decode cX1_hangs 6 = .ok (.iconst 0, 1) := dk_3 (dk_at dksX1_hangs_0 6 rfl rfl)
theorem dX1_hangs_7 : decode cX1_hangs 7 = .ok (.istore 7, 2) := dk_54 7 (dk_at dksX1_hangs_0 7 rfl rfl)
theorem dX1_hangs_9 : decode cX1_hangs 9 = .ok (.iconst 0, 1) := dk_3 (dk_at dksX1_hangs_0 9 rfl rfl)
theorem dX1_hangs_10 : decode cX1_hangs 10 = .ok (.istore 8, 2) := dk_54 8 (dk_at dksX1_hangs_0 10 rfl rfl)
theorem dX1_hangs_12 : decode cX1_hangs 12 = .ok (.iload 8, 2) := dk_21 8 (dk_at dksX1_hangs_0 12 rfl rfl)
theorem dX1_hangs_14 : decode cX1_hangs 14 = .ok (.aload_n 0, 1) := dk_42 (dk_at dksX1_hangs_0 14 rfl rfl)
theorem dX1_hangs_15 : decode cX1_hangs 15 = .ok (.getfield 16, 3) := dk_180 0 16 (dk_at dksX1_hangs_0 15 rfl rfl)
theorem dX1_hangs_18 : decode cX1_hangs 18 = .ok (.iload_n 2, 1) := dk_28 (dk_at dksX1_hangs_0 18 rfl rfl)
theorem dX1_hangs_19 : decode cX1_hangs 19 = .ok (.iaload, 1) := dk_46 (dk_at dksX1_hangs_0 19 rfl rfl)
theorem dX1_hangs_20 : decode cX1_hangs 20 = .ok (.if_icmp .ge 97, 3) := dk_162 0 97 (dk_at dksX1_hangs_0 20 rfl rfl)
theorem dX1_hangs_23 : decode cX1_hangs 23 = .ok (.aload_n 0, 1) := dk_42 (dk_at dksX1_hangs_0 23 rfl rfl)
theorem dX1_hangs_24 : decode cX1_hangs 24 = .ok (.getfield 11, 3) := dk_180 0 11 (dk_at dksX1_hangs_1 0 rfl rfl)
theorem dX1_hangs_27 : decode cX1_hangs 27 = .ok (.iload_n 2, 1) := dk_28 (dk_at dksX1_hangs_1 3 rfl rfl)
theorem dX1_hangs_28 : decode cX1_hangs 28 = .ok (.aaload, 1) := dk_50 (dk_at dksX1_hangs_1 4 rfl rfl)
theorem dX1_hangs_29 : decode cX1_hangs 29 = .ok (.iload 8, 2) := dk_21 8 (dk_at dksX1_hangs_1 5 rfl rfl)
theorem dX1_hangs_31 : decode cX1_hangs 31 = .ok (.iaload, 1) := dk_46 (dk_at dksX1_hangs_1 7 rfl rfl)
theorem dX1_hangs_32 : decode cX1_hangs 32 = .ok (.istore 9, 2) := dk_54 9 (dk_at dksX1_hangs_1 8 rfl rfl)
theorem dX1_hangs_34 : decode cX1_hangs 34 = .ok (.iload 9, 2) := dk_21 9 (dk_at dksX1_hangs_1 10 rfl rfl)
theorem dX1_hangs_36 : decode cX1_hangs 36 = .ok (.iload_n 3, 1) := dk_29 (dk_at dksX1_hangs_1 12 rfl rfl)
theorem dX1_hangs_37 : decode cX1_hangs 37 = .ok (.if_icmp .eq 74, 3) := dk_159 0 74 (dk_at dksX1_hangs_1 13 rfl rfl)
theorem dX1_hangs_40 : decode cX1_hangs 40 = .ok (.iload 9, 2) := dk_21 9 (dk_at dksX1_hangs_1 16 rfl rfl)
theorem dX1_hangs_42 : decode cX1_hangs 42 = .ok (.iload 4, 2) := dk_21 4 (dk_at dksX1_hangs_1 18 rfl rfl)
theorem dX1_hangs_44 : decode cX1_hangs 44 = .ok (.if_icmp .ne 6, 3) := dk_160 0 6 (dk_at dksX1_hangs_1 20 rfl rfl)
theorem dX1_hangs_47 : decode cX1_hangs 47 = .ok (.goto 64, 3) := dk_167 0 64 (dk_at dksX1_hangs_2 0 rfl rfl)
theorem dX1_hangs_50 : decode cX1_hangs 50 = .ok (.aload_n 0, 1) := dk_42 (dk_at dksX1_hangs_2 3 rfl rfl)
theorem dX1_hangs_51 : decode cX1_hangs 51 = .ok (.iload 9, 2) := dk_21 9 (dk_at dksX1_hangs_2 4 rfl rfl)
theorem dX1_hangs_53 : decode cX1_hangs 53 = .ok (.iload_n 2, 1) := dk_28 (dk_at dksX1_hangs_2 6 rfl rfl)
theorem dX1_hangs_54 : decode cX1_hangs 54 = .ok (.invokevirtual 152, 3) := dk_182 0 152 (dk_at dksX1_hangs_2 7 rfl rfl)
theorem dX1_hangs_57 : decode cX1_hangs 57 = .ok (.astore 10, 2) := dk_58 10 (dk_at dksX1_hangs_2 10 rfl rfl)
theorem dX1_hangs_59 : decode cX1_hangs 59 = .ok (.iload 7, 2) := dk_21 7 (dk_at dksX1_hangs_2 12 rfl rfl)
theorem dX1_hangs_61 : decode cX1_hangs 61 = .ok (.istore 11, 2) := dk_54 11 (dk_at dksX1_hangs_2 14 rfl rfl)
theorem dX1_hangs_63 : decode cX1_hangs 63 = .ok (.iload 11, 2) := dk_21 11 (dk_at dksX1_hangs_2 16 rfl rfl)
theorem dX1_hangs_65 : decode cX1_hangs 65 = .ok (.ifCond .le 36, 3) := dk_158 0 36 (dk_at dksX1_hangs_2 18 rfl rfl)
theorem dX1_hangs_68 : decode cX1_hangs 68 = .ok (.aload 6, 2) := dk_25 6 (dk_at dksX1_hangs_2 21 rfl rfl)
theorem dX1_hangs_70 : decode cX1_hangs 70 = .ok (.iload 11, 2) := dk_21 11 (dk_at dksX1_hangs_3 0 rfl rfl)
theorem dX1_hangs_72 : decode cX1_hangs 72 = .ok (.iconst 1, 1) := dk_4 (dk_at dksX1_hangs_3 2 rfl rfl)
theorem dX1_hangs_73 : decode cX1_hangs 73 = .ok (.isub, 1) := dk_100 (dk_at dksX1_hangs_3 3 rfl rfl)
theorem dX1_hangs_74 : decode cX1_hangs 74 = .ok (.aaload, 1) := dk_50 (dk_at dksX1_hangs_3 4 rfl rfl)
theorem dX1_hangs_75 : decode cX1_hangs 75 = .ok (.aload 10, 2) := dk_25 10 (dk_at dksX1_hangs_3 5 rfl rfl)
theorem dX1_hangs_77 : decode cX1_hangs 77 = .ok (.invokevirtual 142, 3) := dk_182 0 142 (dk_at dksX1_hangs_3 7 rfl rfl)
theorem dX1_hangs_80 : decode cX1_hangs 80 = .ok (.ifCond .le 21, 3) := dk_158 0 21 (dk_at dksX1_hangs_3 10 rfl rfl)
theorem dX1_hangs_83 : decode cX1_hangs 83 = .ok (.aload 6, 2) := dk_25 6 (dk_at dksX1_hangs_3 13 rfl rfl)
theorem dX1_hangs_85 : decode cX1_hangs 85 = .ok (.iload 11, 2) := dk_21 11 (dk_at dksX1_hangs_3 15 rfl rfl)
theorem dX1_hangs_87 : decode cX1_hangs 87 = .ok (.aload 6, 2) := dk_25 6 (dk_at dksX1_hangs_3 17 rfl rfl)
theorem dX1_hangs_89 : decode cX1_hangs 89 = .ok (.iload 11, 2) := dk_21 11 (dk_at dksX1_hangs_3 19 rfl rfl)
theorem dX1_hangs_91 : decode cX1_hangs 91 = .ok (.iconst 1, 1) := dk_4 (dk_at dksX1_hangs_3 21 rfl rfl)
theorem dX1_hangs_92 : decode cX1_hangs 92 = .ok (.isub, 1) := dk_100 (dk_at dksX1_hangs_3 22 rfl rfl)
theorem dX1_hangs_93 : decode cX1_hangs 93 = .ok (.aaload, 1) := dk_50 (dk_at dksX1_hangs_3 23 rfl rfl)
theorem dX1_hangs_94 : decode cX1_hangs 94 = .ok (.aastore, 1) := dk_83 (dk_at dksX1_hangs_4 0 rfl rfl)
theorem dX1_hangs_95 : decode cX1_hangs 95 = .ok (.iinc 11 (-1), 3) := dk_132 11 255 (dk_at dksX1_hangs_4 1 rfl rfl)
theorem dX1_hangs_98 : decode cX1_hangs 98 = .ok (.goto (-35), 3) := dk_167 255 221 (dk_at dksX1_hangs_4 4 rfl rfl)
theorem dX1_hangs_101 : decode cX1_hangs 101 = .ok (.aload 6, 2) := dk_25 6 (dk_at dksX1_hangs_4 7 rfl rfl)
theorem dX1_hangs_103 : decode cX1_hangs 103 = .ok (.iload 11, 2) := dk_21 11 (dk_at dksX1_hangs_4 9 rfl rfl)
theorem dX1_hangs_105 : decode cX1_hangs 105 = .ok (.aload 10, 2) := dk_25 10 (dk_at dksX1_hangs_4 11 rfl rfl)
theorem dX1_hangs_107 : decode cX1_hangs 107 = .ok (.aastore, 1) := dk_83 (dk_at dksX1_hangs_4 13 rfl rfl)
theorem dX1_hangs_108 : decode cX1_hangs 108 = .ok (.iinc 7 1, 3) := dk_132 7 1 (dk_at dksX1_hangs_4 14 rfl rfl)
theorem dX1_hangs_111 : decode cX1_hangs 111 = .ok (.iinc 8 1, 3) := dk_132 8 1 (dk_at dksX1_hangs_4 17 rfl rfl)
theorem dX1_hangs_114 : decode cX1_hangs 114 = .ok (.goto (-102), 3) := dk_167 255 154 (dk_at dksX1_hangs_4 20 rfl rfl)
theorem dX1_hangs_117 : decode cX1_hangs 117 = .ok (.iconst 0, 1) := dk_3 (dk_at dksX1_hangs_4 23 rfl rfl)
theorem dX1_hangs_118 : decode cX1_hangs 118 = .ok (.istore 8, 2) := dk_54 8 (dk_at dksX1_hangs_5 0 rfl rfl)
theorem dX1_hangs_120 : decode cX1_hangs 120 = .ok (.iload 8, 2) := dk_21 8 (dk_at dksX1_hangs_5 2 rfl rfl)
theorem dX1_hangs_122 : decode cX1_hangs 122 = .ok (.iload 7, 2) := dk_21 7 (dk_at dksX1_hangs_5 4 rfl rfl)
theorem dX1_hangs_124 : decode cX1_hangs 124 = .ok (.if_icmp .ge 34, 3) := dk_162 0 34 (dk_at dksX1_hangs_5 6 rfl rfl)
theorem dX1_hangs_127 : decode cX1_hangs 127 = .ok (.aload_n 1, 1) := dk_43 (dk_at dksX1_hangs_5 9 rfl rfl)
theorem dX1_hangs_128 : decode cX1_hangs 128 = .ok (.bipush 45, 2) := dk_16 45 (dk_at dksX1_hangs_5 10 rfl rfl)
theorem dX1_hangs_130 : decode cX1_hangs 130 = .ok (.invokevirtual 156, 3) := dk_182 0 156 (dk_at dksX1_hangs_5 12 rfl rfl)
theorem dX1_hangs_133 : decode cX1_hangs 133 = .ok (.iload 5, 2) := dk_21 5 (dk_at dksX1_hangs_5 15 rfl rfl)
theorem dX1_hangs_135 : decode cX1_hangs 135 = .ok (.invokevirtual 145, 3) := dk_182 0 145 (dk_at dksX1_hangs_5 17 rfl rfl)
theorem dX1_hangs_138 : decode cX1_hangs 138 = .ok (.bipush 58, 2) := dk_16 58 (dk_at dksX1_hangs_5 20 rfl rfl)
theorem dX1_hangs_140 : decode cX1_hangs 140 = .ok (.invokevirtual 156, 3) := dk_182 0 156 (dk_at dksX1_hangs_6 0 rfl rfl)
theorem dX1_hangs_143 : decode cX1_hangs 143 = .ok (.aload 6, 2) := dk_25 6 (dk_at dksX1_hangs_6 3 rfl rfl)
theorem dX1_hangs_145 : decode cX1_hangs 145 = .ok (.iload 8, 2) := dk_21 8 (dk_at dksX1_hangs_6 5 rfl rfl)
theorem dX1_hangs_147 : decode cX1_hangs 147 = .ok (.aaload, 1) := dk_50 (dk_at dksX1_hangs_6 7 rfl rfl)
theorem dX1_hangs_148 : decode cX1_hangs 148 = .ok (.invokevirtual 132, 3) := dk_182 0 132 (dk_at dksX1_hangs_6 8 rfl rfl)
theorem dX1_hangs_151 : decode cX1_hangs 151 = .ok (.pop, 1) := dk_87 (dk_at dksX1_hangs_6 11 rfl rfl)
theorem dX1_hangs_152 : decode cX1_hangs 152 = .ok (.iinc 8 1, 3) := dk_132 8 1 (dk_at dksX1_hangs_6 12 rfl rfl)
theorem dX1_hangs_155 : decode cX1_hangs 155 = .ok (.goto (-35), 3) := dk_167 255 221 (dk_at dksX1_hangs_6 15 rfl rfl)
theorem dX1_hangs_158 : decode cX1_hangs 158 = .ok (.return_, 1) := dk_177 (dk_at dksX1_hangs_6 18 rfl rfl)
abbrev cX1_branchName : ByteArray := prog_11_method_24_code
def yX1_branchName : MethodName := ⟨RX1, "branchName", "(II)Ljava/lang/String;"⟩
def dkwX1_branchName_6 : List UInt8 := [182, 0, 132, 182, 0, 138, 176]
abbrev dktX1_branchName_6 : List UInt8 := dkwX1_branchName_6 ++ []
def dkwX1_branchName_5 : List UInt8 := [25, 5, 167, 0, 28, 187, 0, 127, 89, 183, 0, 129, 18, 130, 182, 0, 132, 25, 5, 182, 0, 132, 18, 136]
abbrev dktX1_branchName_5 : List UInt8 := dkwX1_branchName_5 ++ dktX1_branchName_6
def dkwX1_branchName_4 : List UInt8 := [182, 0, 114, 184, 0, 118, 58, 5, 132, 6, 1, 167, 255, 220, 25, 5, 16, 45, 182, 0, 122, 156, 0, 8]
abbrev dktX1_branchName_4 : List UInt8 := dkwX1_branchName_4 ++ dktX1_branchName_5
def dkwX1_branchName_3 : List UInt8 := [180, 0, 20, 162, 0, 33, 45, 21, 6, 46, 21, 4, 160, 0, 18, 25, 5, 42, 27, 21, 6, 28]
abbrev dktX1_branchName_3 : List UInt8 := dkwX1_branchName_3 ++ dktX1_branchName_4
def dkwX1_branchName_2 : List UInt8 := [21, 4, 21, 8, 184, 0, 92, 54, 4, 132, 7, 1, 167, 255, 230, 1, 58, 5, 3, 54, 6, 21, 6, 42]
abbrev dktX1_branchName_2 : List UInt8 := dkwX1_branchName_2 ++ dktX1_branchName_3
def dkwX1_branchName_1 : List UInt8 := [58, 5, 25, 5, 190, 54, 6, 3, 54, 7, 21, 7, 21, 6, 162, 0, 25, 25, 5, 21, 7, 46, 54, 8]
abbrev dktX1_branchName_1 : List UInt8 := dkwX1_branchName_1 ++ dktX1_branchName_2
def dkwX1_branchName_0 : List UInt8 := [42, 180, 0, 20, 188, 10, 78, 45, 2, 184, 0, 108, 42, 27, 28, 3, 45, 182, 0, 84, 3, 54, 4, 45]
abbrev dktX1_branchName_0 : List UInt8 := dkwX1_branchName_0 ++ dktX1_branchName_1
theorem dksX1_branchName_0 : cX1_branchName.data.toList.drop 0 = dktX1_branchName_0 := by decide +kernel
theorem dksX1_branchName_1 : cX1_branchName.data.toList.drop 24 = dktX1_branchName_1 := dk_seg dksX1_branchName_0 24 rfl rfl
theorem dksX1_branchName_2 : cX1_branchName.data.toList.drop 48 = dktX1_branchName_2 := dk_seg dksX1_branchName_1 24 rfl rfl
theorem dksX1_branchName_3 : cX1_branchName.data.toList.drop 72 = dktX1_branchName_3 := dk_seg dksX1_branchName_2 24 rfl rfl
theorem dksX1_branchName_4 : cX1_branchName.data.toList.drop 94 = dktX1_branchName_4 := dk_seg dksX1_branchName_3 22 rfl rfl
theorem dksX1_branchName_5 : cX1_branchName.data.toList.drop 118 = dktX1_branchName_5 := dk_seg dksX1_branchName_4 24 rfl rfl
theorem dksX1_branchName_6 : cX1_branchName.data.toList.drop 142 = dktX1_branchName_6 := dk_seg dksX1_branchName_5 24 rfl rfl
theorem dX1_branchName_0 : decode cX1_branchName 0 = .ok (.aload_n 0, 1) := dk_42 (dk_at dksX1_branchName_0 0 rfl rfl)
theorem dX1_branchName_1 : decode cX1_branchName 1 = .ok (.getfield 20, 3) := dk_180 0 20 (dk_at dksX1_branchName_0 1 rfl rfl)
theorem dX1_branchName_4 : decode cX1_branchName 4 = .ok (.newarray .int, 2) := dk_188_10 (dk_at dksX1_branchName_0 4 rfl rfl)
theorem dX1_branchName_6 : decode cX1_branchName 6 = .ok (.astore_n 3, 1) := dk_78 (dk_at dksX1_branchName_0 6 rfl rfl)
theorem dX1_branchName_7 : decode cX1_branchName 7 = .ok (.aload_n 3, 1) := dk_45 (dk_at dksX1_branchName_0 7 rfl rfl)
theorem dX1_branchName_8 : decode cX1_branchName 8 = .ok (.iconst (-1), 1) := dk_2 (dk_at dksX1_branchName_0 8 rfl rfl)
theorem dX1_branchName_9 : decode cX1_branchName 9 = .ok (.invokestatic 108, 3) := dk_184 0 108 (dk_at dksX1_branchName_0 9 rfl rfl)
theorem dX1_branchName_12 : decode cX1_branchName 12 = .ok (.aload_n 0, 1) := dk_42 (dk_at dksX1_branchName_0 12 rfl rfl)
theorem dX1_branchName_13 : decode cX1_branchName 13 = .ok (.iload_n 1, 1) := dk_27 (dk_at dksX1_branchName_0 13 rfl rfl)
theorem dX1_branchName_14 : decode cX1_branchName 14 = .ok (.iload_n 2, 1) := dk_28 (dk_at dksX1_branchName_0 14 rfl rfl)
theorem dX1_branchName_15 : decode cX1_branchName 15 = .ok (.iconst 0, 1) := dk_3 (dk_at dksX1_branchName_0 15 rfl rfl)
theorem dX1_branchName_16 : decode cX1_branchName 16 = .ok (.aload_n 3, 1) := dk_45 (dk_at dksX1_branchName_0 16 rfl rfl)
theorem dX1_branchName_17 : decode cX1_branchName 17 = .ok (.invokevirtual 84, 3) := dk_182 0 84 (dk_at dksX1_branchName_0 17 rfl rfl)
theorem dX1_branchName_20 : decode cX1_branchName 20 = .ok (.iconst 0, 1) := dk_3 (dk_at dksX1_branchName_0 20 rfl rfl)
theorem dX1_branchName_21 : decode cX1_branchName 21 = .ok (.istore 4, 2) := dk_54 4 (dk_at dksX1_branchName_0 21 rfl rfl)
theorem dX1_branchName_23 : decode cX1_branchName 23 = .ok (.aload_n 3, 1) := dk_45 (dk_at dksX1_branchName_0 23 rfl rfl)
theorem dX1_branchName_24 : decode cX1_branchName 24 = .ok (.astore 5, 2) := dk_58 5 (dk_at dksX1_branchName_1 0 rfl rfl)
theorem dX1_branchName_26 : decode cX1_branchName 26 = .ok (.aload 5, 2) := dk_25 5 (dk_at dksX1_branchName_1 2 rfl rfl)
theorem dX1_branchName_28 : decode cX1_branchName 28 = .ok (.arraylength, 1) := dk_190 (dk_at dksX1_branchName_1 4 rfl rfl)
theorem dX1_branchName_29 : decode cX1_branchName 29 = .ok (.istore 6, 2) := dk_54 6 (dk_at dksX1_branchName_1 5 rfl rfl)
theorem dX1_branchName_31 : decode cX1_branchName 31 = .ok (.iconst 0, 1) := dk_3 (dk_at dksX1_branchName_1 7 rfl rfl)
theorem dX1_branchName_32 : decode cX1_branchName 32 = .ok (.istore 7, 2) := dk_54 7 (dk_at dksX1_branchName_1 8 rfl rfl)
theorem dX1_branchName_34 : decode cX1_branchName 34 = .ok (.iload 7, 2) := dk_21 7 (dk_at dksX1_branchName_1 10 rfl rfl)
theorem dX1_branchName_36 : decode cX1_branchName 36 = .ok (.iload 6, 2) := dk_21 6 (dk_at dksX1_branchName_1 12 rfl rfl)
theorem dX1_branchName_38 : decode cX1_branchName 38 = .ok (.if_icmp .ge 25, 3) := dk_162 0 25 (dk_at dksX1_branchName_1 14 rfl rfl)
theorem dX1_branchName_41 : decode cX1_branchName 41 = .ok (.aload 5, 2) := dk_25 5 (dk_at dksX1_branchName_1 17 rfl rfl)
theorem dX1_branchName_43 : decode cX1_branchName 43 = .ok (.iload 7, 2) := dk_21 7 (dk_at dksX1_branchName_1 19 rfl rfl)
theorem dX1_branchName_45 : decode cX1_branchName 45 = .ok (.iaload, 1) := dk_46 (dk_at dksX1_branchName_1 21 rfl rfl)
theorem dX1_branchName_46 : decode cX1_branchName 46 = .ok (.istore 8, 2) := dk_54 8 (dk_at dksX1_branchName_1 22 rfl rfl)
theorem dX1_branchName_48 : decode cX1_branchName 48 = .ok (.iload 4, 2) := dk_21 4 (dk_at dksX1_branchName_2 0 rfl rfl)
theorem dX1_branchName_50 : decode cX1_branchName 50 = .ok (.iload 8, 2) := dk_21 8 (dk_at dksX1_branchName_2 2 rfl rfl)
theorem dX1_branchName_52 : decode cX1_branchName 52 = .ok (.invokestatic 92, 3) := dk_184 0 92 (dk_at dksX1_branchName_2 4 rfl rfl)
theorem dX1_branchName_55 : decode cX1_branchName 55 = .ok (.istore 4, 2) := dk_54 4 (dk_at dksX1_branchName_2 7 rfl rfl)
theorem dX1_branchName_57 : decode cX1_branchName 57 = .ok (.iinc 7 1, 3) := dk_132 7 1 (dk_at dksX1_branchName_2 9 rfl rfl)
theorem dX1_branchName_60 : decode cX1_branchName 60 = .ok (.goto (-26), 3) := dk_167 255 230 (dk_at dksX1_branchName_2 12 rfl rfl)
theorem dX1_branchName_63 : decode cX1_branchName 63 = .ok (.aconst_null, 1) := dk_1 (dk_at dksX1_branchName_2 15 rfl rfl)
theorem dX1_branchName_64 : decode cX1_branchName 64 = .ok (.astore 5, 2) := dk_58 5 (dk_at dksX1_branchName_2 16 rfl rfl)
theorem dX1_branchName_66 : decode cX1_branchName 66 = .ok (.iconst 0, 1) := dk_3 (dk_at dksX1_branchName_2 18 rfl rfl)
theorem dX1_branchName_67 : decode cX1_branchName 67 = .ok (.istore 6, 2) := dk_54 6 (dk_at dksX1_branchName_2 19 rfl rfl)
theorem dX1_branchName_69 : decode cX1_branchName 69 = .ok (.iload 6, 2) := dk_21 6 (dk_at dksX1_branchName_2 21 rfl rfl)
theorem dX1_branchName_71 : decode cX1_branchName 71 = .ok (.aload_n 0, 1) := dk_42 (dk_at dksX1_branchName_2 23 rfl rfl)
theorem dX1_branchName_72 : decode cX1_branchName 72 = .ok (.getfield 20, 3) := dk_180 0 20 (dk_at dksX1_branchName_3 0 rfl rfl)
theorem dX1_branchName_75 : decode cX1_branchName 75 = .ok (.if_icmp .ge 33, 3) := dk_162 0 33 (dk_at dksX1_branchName_3 3 rfl rfl)
theorem dX1_branchName_78 : decode cX1_branchName 78 = .ok (.aload_n 3, 1) := dk_45 (dk_at dksX1_branchName_3 6 rfl rfl)
theorem dX1_branchName_79 : decode cX1_branchName 79 = .ok (.iload 6, 2) := dk_21 6 (dk_at dksX1_branchName_3 7 rfl rfl)
theorem dX1_branchName_81 : decode cX1_branchName 81 = .ok (.iaload, 1) := dk_46 (dk_at dksX1_branchName_3 9 rfl rfl)
theorem dX1_branchName_82 : decode cX1_branchName 82 = .ok (.iload 4, 2) := dk_21 4 (dk_at dksX1_branchName_3 10 rfl rfl)
theorem dX1_branchName_84 : decode cX1_branchName 84 = .ok (.if_icmp .ne 18, 3) := dk_160 0 18 (dk_at dksX1_branchName_3 12 rfl rfl)
theorem dX1_branchName_87 : decode cX1_branchName 87 = .ok (.aload 5, 2) := dk_25 5 (dk_at dksX1_branchName_3 15 rfl rfl)
theorem dX1_branchName_89 : decode cX1_branchName 89 = .ok (.aload_n 0, 1) := dk_42 (dk_at dksX1_branchName_3 17 rfl rfl)
theorem dX1_branchName_90 : decode cX1_branchName 90 = .ok (.iload_n 1, 1) := dk_27 (dk_at dksX1_branchName_3 18 rfl rfl)
theorem dX1_branchName_91 : decode cX1_branchName 91 = .ok (.iload 6, 2) := dk_21 6 (dk_at dksX1_branchName_3 19 rfl rfl)
theorem dX1_branchName_93 : decode cX1_branchName 93 = .ok (.iload_n 2, 1) := dk_28 (dk_at dksX1_branchName_3 21 rfl rfl)
theorem dX1_branchName_94 : decode cX1_branchName 94 = .ok (.invokevirtual 114, 3) := dk_182 0 114 (dk_at dksX1_branchName_4 0 rfl rfl)
theorem dX1_branchName_97 : decode cX1_branchName 97 = .ok (.invokestatic 118, 3) := dk_184 0 118 (dk_at dksX1_branchName_4 3 rfl rfl)
theorem dX1_branchName_100 : decode cX1_branchName 100 = .ok (.astore 5, 2) := dk_58 5 (dk_at dksX1_branchName_4 6 rfl rfl)
theorem dX1_branchName_102 : decode cX1_branchName 102 = .ok (.iinc 6 1, 3) := dk_132 6 1 (dk_at dksX1_branchName_4 8 rfl rfl)
theorem dX1_branchName_105 : decode cX1_branchName 105 = .ok (.goto (-36), 3) := dk_167 255 220 (dk_at dksX1_branchName_4 11 rfl rfl)
theorem dX1_branchName_108 : decode cX1_branchName 108 = .ok (.aload 5, 2) := dk_25 5 (dk_at dksX1_branchName_4 14 rfl rfl)
theorem dX1_branchName_110 : decode cX1_branchName 110 = .ok (.bipush 45, 2) := dk_16 45 (dk_at dksX1_branchName_4 16 rfl rfl)
theorem dX1_branchName_112 : decode cX1_branchName 112 = .ok (.invokevirtual 122, 3) := dk_182 0 122 (dk_at dksX1_branchName_4 18 rfl rfl)
theorem dX1_branchName_115 : decode cX1_branchName 115 = .ok (.ifCond .ge 8, 3) := dk_156 0 8 (dk_at dksX1_branchName_4 21 rfl rfl)
theorem dX1_branchName_118 : decode cX1_branchName 118 = .ok (.aload 5, 2) := dk_25 5 (dk_at dksX1_branchName_5 0 rfl rfl)
theorem dX1_branchName_120 : decode cX1_branchName 120 = .ok (.goto 28, 3) := dk_167 0 28 (dk_at dksX1_branchName_5 2 rfl rfl)
theorem dX1_branchName_123 : decode cX1_branchName 123 = .ok (.new 127, 3) := dk_187 0 127 (dk_at dksX1_branchName_5 5 rfl rfl)
theorem dX1_branchName_126 : decode cX1_branchName 126 = .ok (.dup, 1) := dk_89 (dk_at dksX1_branchName_5 8 rfl rfl)
theorem dX1_branchName_127 : decode cX1_branchName 127 = .ok (.invokespecial 129, 3) := dk_183 0 129 (dk_at dksX1_branchName_5 9 rfl rfl)
theorem dX1_branchName_130 : decode cX1_branchName 130 = .ok (.ldc 130, 2) := dk_18 130 (dk_at dksX1_branchName_5 12 rfl rfl)
theorem dX1_branchName_132 : decode cX1_branchName 132 = .ok (.invokevirtual 132, 3) := dk_182 0 132 (dk_at dksX1_branchName_5 14 rfl rfl)
theorem dX1_branchName_135 : decode cX1_branchName 135 = .ok (.aload 5, 2) := dk_25 5 (dk_at dksX1_branchName_5 17 rfl rfl)
theorem dX1_branchName_137 : decode cX1_branchName 137 = .ok (.invokevirtual 132, 3) := dk_182 0 132 (dk_at dksX1_branchName_5 19 rfl rfl)
theorem dX1_branchName_140 : decode cX1_branchName 140 = .ok (.ldc 136, 2) := dk_18 136 (dk_at dksX1_branchName_5 22 rfl rfl)
theorem dX1_branchName_142 : decode cX1_branchName 142 = .ok (.invokevirtual 132, 3) := dk_182 0 132 (dk_at dksX1_branchName_6 0 rfl rfl)
theorem dX1_branchName_145 : decode cX1_branchName 145 = .ok (.invokevirtual 138, 3) := dk_182 0 138 (dk_at dksX1_branchName_6 3 rfl rfl)
theorem dX1_branchName_148 : decode cX1_branchName 148 = .ok (.areturn, 1) := dk_176 (dk_at dksX1_branchName_6 6 rfl rfl)
abbrev cX1_least : ByteArray := prog_11_method_25_code
def yX1_least : MethodName := ⟨RX1, "least", "(Ljava/lang/String;Ljava/lang/String;)Ljava/lang/String;"⟩
def dkwX1_least_0 : List UInt8 := [42, 198, 0, 11, 43, 42, 182, 0, 142, 156, 0, 7, 43, 167, 0, 4, 42, 176]
abbrev dktX1_least_0 : List UInt8 := dkwX1_least_0 ++ []
theorem dksX1_least_0 : cX1_least.data.toList.drop 0 = dktX1_least_0 := by decide +kernel
theorem dX1_least_0 : decode cX1_least 0 = .ok (.aload_n 0, 1) := dk_42 (dk_at dksX1_least_0 0 rfl rfl)
theorem dX1_least_1 : decode cX1_least 1 = .ok (.ifnull 11, 3) := dk_198 0 11 (dk_at dksX1_least_0 1 rfl rfl)
theorem dX1_least_4 : decode cX1_least 4 = .ok (.aload_n 1, 1) := dk_43 (dk_at dksX1_least_0 4 rfl rfl)
theorem dX1_least_5 : decode cX1_least 5 = .ok (.aload_n 0, 1) := dk_42 (dk_at dksX1_least_0 5 rfl rfl)
theorem dX1_least_6 : decode cX1_least 6 = .ok (.invokevirtual 142, 3) := dk_182 0 142 (dk_at dksX1_least_0 6 rfl rfl)
theorem dX1_least_9 : decode cX1_least 9 = .ok (.ifCond .ge 7, 3) := dk_156 0 7 (dk_at dksX1_least_0 9 rfl rfl)
theorem dX1_least_12 : decode cX1_least 12 = .ok (.aload_n 1, 1) := dk_43 (dk_at dksX1_least_0 12 rfl rfl)
theorem dX1_least_13 : decode cX1_least 13 = .ok (.goto 4, 3) := dk_167 0 4 (dk_at dksX1_least_0 13 rfl rfl)
theorem dX1_least_16 : decode cX1_least 16 = .ok (.aload_n 0, 1) := dk_42 (dk_at dksX1_least_0 16 rfl rfl)
theorem dX1_least_17 : decode cX1_least 17 = .ok (.areturn, 1) := dk_176 (dk_at dksX1_least_0 17 rfl rfl)
theorem q133 : (Jvm.Cond.initialized "Skeletons$Skeleton") ∈ lw_all := lw_g (lw_at lw_m1 5 rfl) rfl
theorem q298 : (Jvm.Cond.instantiable "Skeletons$Skeleton" (3 : Nat)) ∈ lw_all := lw_g (lw_at lw_m1 170 rfl) rfl
theorem q300 : (Jvm.Cond.instanceMethod ({ cls := "Skeletons$Skeleton", name := "<init>", desc := "()V" } : Jvm.MethodName)) ∈ lw_all := lw_g (lw_at lw_m1 172 rfl) rfl
theorem q301 : (Jvm.Cond.code ({ cls := "Skeletons$Skeleton", name := "<init>", desc := "()V" } : Jvm.MethodName) prog_11_method_1_code (1 : Nat) (Option.none : Option Jvm.ClassFile.FieldType)) ∈ lw_all := lw_g (lw_at lw_m1 173 rfl) rfl
theorem q302 : (Jvm.Cond.methodLink "Skeletons$Skeleton" (3 : Nat) ({ cls := "java/lang/Object", name := "<init>", desc := "()V" } : Jvm.MethodName)) ∈ lw_all := lw_g (lw_at lw_m1 174 rfl) rfl
theorem q303 : (Jvm.Cond.classLink "Skeletons$Skeleton" (9 : Nat) "[[I") ∈ lw_all := lw_g (lw_at lw_m1 175 rfl) rfl
theorem q304 : (Jvm.Cond.fieldLink "Skeletons$Skeleton" (11 : Nat) "Skeletons$Skeleton" "bound" "[[I") ∈ lw_all := lw_g (lw_at lw_m1 176 rfl) rfl
theorem q306 : (Jvm.Cond.fieldLink "Skeletons$Skeleton" (16 : Nat) "Skeletons$Skeleton" "many" "[I") ∈ lw_all := lw_g (lw_at lw_m1 178 rfl) rfl
theorem q308 : (Jvm.Cond.fieldLink "Skeletons$Skeleton" (20 : Nat) "Skeletons$Skeleton" "size" "I") ∈ lw_all := lw_g (lw_at lw_m1 180 rfl) rfl
theorem q313 : (Jvm.Cond.laysFinal "Skeletons$Skeleton" "Skeletons$Skeleton" "bound" "[[I") ∈ lw_all := lw_g (lw_at lw_m1 185 rfl) rfl
theorem q314 : (Jvm.Cond.soleField "Skeletons$Skeleton" "bound") ∈ lw_all := lw_g (lw_at lw_m1 186 rfl) rfl
theorem q315 : (Jvm.Cond.laysFinal "Skeletons$Skeleton" "Skeletons$Skeleton" "many" "[I") ∈ lw_all := lw_g (lw_at lw_m1 187 rfl) rfl
theorem q316 : (Jvm.Cond.soleField "Skeletons$Skeleton" "many") ∈ lw_all := lw_g (lw_at lw_m1 188 rfl) rfl
theorem q317 : (Jvm.Cond.lays "Skeletons$Skeleton" "Skeletons$Skeleton" "size" "I") ∈ lw_all := lw_g (lw_at lw_m1 189 rfl) rfl
theorem q318 : (Jvm.Cond.soleField "Skeletons$Skeleton" "size") ∈ lw_all := lw_g (lw_at lw_m1 190 rfl) rfl
theorem q319 : (Jvm.Cond.superclass "Skeletons$Skeleton" "java/lang/Object") ∈ lw_all := lw_g (lw_at lw_m1 191 rfl) rfl
theorem q322 : (Jvm.Cond.instanceMethod ({ cls := "Skeletons$Skeleton", name := "adds", desc := "()LSkeletons$Skeleton;" } : Jvm.MethodName)) ∈ lw_all := lw_g (lw_at lw_m1 194 rfl) rfl
theorem q323 : (Jvm.Cond.selects "Skeletons$Skeleton" ({ cls := "Skeletons$Skeleton", name := "adds", desc := "()LSkeletons$Skeleton;" } : Jvm.MethodName) ({ cls := "Skeletons$Skeleton", name := "adds", desc := "()LSkeletons$Skeleton;" } : Jvm.MethodName)) ∈ lw_all := lw_g (lw_at lw_m1 195 rfl) rfl
theorem q324 : (Jvm.Cond.code ({ cls := "Skeletons$Skeleton", name := "adds", desc := "()LSkeletons$Skeleton;" } : Jvm.MethodName) prog_11_method_2_code (1 : Nat) (Option.some (Jvm.ClassFile.FieldType.object "Skeletons$Skeleton"))) ∈ lw_all := lw_g (lw_at lw_m1 196 rfl) rfl
theorem q578 : (Jvm.Cond.instanceMethod ({ cls := "Skeletons$Skeleton", name := "isFull", desc := "(I)Z" } : Jvm.MethodName)) ∈ lw_all := lw_g (lw_at lw_m2 210 rfl) rfl
theorem q579 : (Jvm.Cond.selects "Skeletons$Skeleton" ({ cls := "Skeletons$Skeleton", name := "isFull", desc := "(I)Z" } : Jvm.MethodName) ({ cls := "Skeletons$Skeleton", name := "isFull", desc := "(I)Z" } : Jvm.MethodName)) ∈ lw_all := lw_g (lw_at lw_m2 211 rfl) rfl
theorem q580 : (Jvm.Cond.code ({ cls := "Skeletons$Skeleton", name := "isFull", desc := "(I)Z" } : Jvm.MethodName) prog_11_method_3_code (2 : Nat) (Option.some Jvm.ClassFile.FieldType.boolean)) ∈ lw_all := lw_g (lw_at lw_m2 212 rfl) rfl
theorem q616 : (Jvm.Cond.instanceMethod ({ cls := "Skeletons$Skeleton", name := "binds", desc := "(II)V" } : Jvm.MethodName)) ∈ lw_all := lw_g (lw_at lw_m3 8 rfl) rfl
theorem q617 : (Jvm.Cond.selects "Skeletons$Skeleton" ({ cls := "Skeletons$Skeleton", name := "binds", desc := "(II)V" } : Jvm.MethodName) ({ cls := "Skeletons$Skeleton", name := "binds", desc := "(II)V" } : Jvm.MethodName)) ∈ lw_all := lw_g (lw_at lw_m3 9 rfl) rfl
theorem q618 : (Jvm.Cond.code ({ cls := "Skeletons$Skeleton", name := "binds", desc := "(II)V" } : Jvm.MethodName) prog_11_method_4_code (3 : Nat) (Option.none : Option Jvm.ClassFile.FieldType)) ∈ lw_all := lw_g (lw_at lw_m3 10 rfl) rfl
theorem q619 : (Jvm.Cond.methodLink "Skeletons$Skeleton" (24 : Nat) ({ cls := "Skeletons$Skeleton", name := "puts", desc := "(II)V" } : Jvm.MethodName)) ∈ lw_all := lw_g (lw_at lw_m3 11 rfl) rfl
theorem q620 : (Jvm.Cond.privateMethod ({ cls := "Skeletons$Skeleton", name := "puts", desc := "(II)V" } : Jvm.MethodName)) ∈ lw_tbl := lw_at lw_m3 12 rfl
theorem q621 : (Jvm.Cond.instanceMethod ({ cls := "Skeletons$Skeleton", name := "puts", desc := "(II)V" } : Jvm.MethodName)) ∈ lw_all := lw_g (lw_at lw_m3 13 rfl) rfl
theorem q622 : (Jvm.Cond.code ({ cls := "Skeletons$Skeleton", name := "puts", desc := "(II)V" } : Jvm.MethodName) prog_11_method_5_code (4 : Nat) (Option.none : Option Jvm.ClassFile.FieldType)) ∈ lw_all := lw_g (lw_at lw_m3 14 rfl) rfl
theorem q703 : (Jvm.Cond.selects "Skeletons$Skeleton" ({ cls := "java/lang/Object", name := "getClass", desc := "()Ljava/lang/Class;" } : Jvm.MethodName) ({ cls := "java/lang/Object", name := "getClass", desc := "()Ljava/lang/Class;" } : Jvm.MethodName)) ∈ lw_all := lw_g (lw_at lw_m3 95 rfl) rfl
theorem q1555 : (Jvm.Cond.static ({ cls := "Skeletons$Skeleton", name := "by", desc := "([I)LSkeletons$Skeleton;" } : Jvm.MethodName)) ∈ lw_all := lw_g (lw_at lw_m6 227 rfl) rfl
theorem q1556 : (Jvm.Cond.code ({ cls := "Skeletons$Skeleton", name := "by", desc := "([I)LSkeletons$Skeleton;" } : Jvm.MethodName) prog_11_method_23_code (4 : Nat) (Option.some (Jvm.ClassFile.FieldType.object "Skeletons$Skeleton"))) ∈ lw_all := lw_g (lw_at lw_m6 228 rfl) rfl
theorem q1557 : (Jvm.Cond.classLink "Skeletons$Skeleton" (12 : Nat) "Skeletons$Skeleton") ∈ lw_all := lw_g (lw_at lw_m6 229 rfl) rfl
theorem q1558 : (Jvm.Cond.methodLink "Skeletons$Skeleton" (28 : Nat) ({ cls := "Skeletons$Skeleton", name := "<init>", desc := "()V" } : Jvm.MethodName)) ∈ lw_all := lw_g (lw_at lw_m6 230 rfl) rfl
theorem q1559 : (Jvm.Cond.methodLink "Skeletons$Skeleton" (33 : Nat) ({ cls := "Skeletons$Skeleton", name := "adds", desc := "()LSkeletons$Skeleton;" } : Jvm.MethodName)) ∈ lw_all := lw_g (lw_at lw_m6 231 rfl) rfl
theorem q1560 : (Jvm.Cond.methodLink "Skeletons$Skeleton" (37 : Nat) ({ cls := "Skeletons$Skeleton", name := "binds", desc := "(II)V" } : Jvm.MethodName)) ∈ lw_all := lw_g (lw_at lw_m6 232 rfl) rfl
theorem q1571 : (Jvm.Cond.instanceMethod ({ cls := "Skeletons$Skeleton", name := "copy", desc := "()LSkeletons$Skeleton;" } : Jvm.MethodName)) ∈ lw_all := lw_g (lw_at lw_m7 3 rfl) rfl
theorem q1572 : (Jvm.Cond.selects "Skeletons$Skeleton" ({ cls := "Skeletons$Skeleton", name := "copy", desc := "()LSkeletons$Skeleton;" } : Jvm.MethodName) ({ cls := "Skeletons$Skeleton", name := "copy", desc := "()LSkeletons$Skeleton;" } : Jvm.MethodName)) ∈ lw_all := lw_g (lw_at lw_m7 4 rfl) rfl
theorem q1573 : (Jvm.Cond.code ({ cls := "Skeletons$Skeleton", name := "copy", desc := "()LSkeletons$Skeleton;" } : Jvm.MethodName) prog_11_method_7_code (2 : Nat) (Option.some (Jvm.ClassFile.FieldType.object "Skeletons$Skeleton"))) ∈ lw_all := lw_g (lw_at lw_m7 5 rfl) rfl
theorem q1574 : (Jvm.Cond.methodLink "Skeletons$Skeleton" (29 : Nat) ({ cls := "Skeletons$Skeleton", name := "takes", desc := "(LSkeletons$Skeleton;I)V" } : Jvm.MethodName)) ∈ lw_all := lw_g (lw_at lw_m7 6 rfl) rfl
theorem q1575 : (Jvm.Cond.instanceMethod ({ cls := "Skeletons$Skeleton", name := "takes", desc := "(LSkeletons$Skeleton;I)V" } : Jvm.MethodName)) ∈ lw_all := lw_g (lw_at lw_m7 7 rfl) rfl
theorem q1576 : (Jvm.Cond.selects "Skeletons$Skeleton" ({ cls := "Skeletons$Skeleton", name := "takes", desc := "(LSkeletons$Skeleton;I)V" } : Jvm.MethodName) ({ cls := "Skeletons$Skeleton", name := "takes", desc := "(LSkeletons$Skeleton;I)V" } : Jvm.MethodName)) ∈ lw_all := lw_g (lw_at lw_m7 8 rfl) rfl
theorem q1577 : (Jvm.Cond.code ({ cls := "Skeletons$Skeleton", name := "takes", desc := "(LSkeletons$Skeleton;I)V" } : Jvm.MethodName) prog_11_method_8_code (5 : Nat) (Option.none : Option Jvm.ClassFile.FieldType)) ∈ lw_all := lw_g (lw_at lw_m7 9 rfl) rfl
theorem q1584 : (Jvm.Cond.instanceMethod ({ cls := "Skeletons$Skeleton", name := "only", desc := "(I)LSkeletons$Skeleton;" } : Jvm.MethodName)) ∈ lw_all := lw_g (lw_at lw_m7 16 rfl) rfl
theorem q1585 : (Jvm.Cond.selects "Skeletons$Skeleton" ({ cls := "Skeletons$Skeleton", name := "only", desc := "(I)LSkeletons$Skeleton;" } : Jvm.MethodName) ({ cls := "Skeletons$Skeleton", name := "only", desc := "(I)LSkeletons$Skeleton;" } : Jvm.MethodName)) ∈ lw_all := lw_g (lw_at lw_m7 17 rfl) rfl
theorem q1586 : (Jvm.Cond.code ({ cls := "Skeletons$Skeleton", name := "only", desc := "(I)LSkeletons$Skeleton;" } : Jvm.MethodName) prog_11_method_10_code (6 : Nat) (Option.some (Jvm.ClassFile.FieldType.object "Skeletons$Skeleton"))) ∈ lw_all := lw_g (lw_at lw_m7 18 rfl) rfl
theorem q1601 : (Jvm.Cond.instanceMethod ({ cls := "Skeletons$Skeleton", name := "isBound", desc := "(II)Z" } : Jvm.MethodName)) ∈ lw_all := lw_g (lw_at lw_m7 33 rfl) rfl
theorem q1602 : (Jvm.Cond.selects "Skeletons$Skeleton" ({ cls := "Skeletons$Skeleton", name := "isBound", desc := "(II)Z" } : Jvm.MethodName) ({ cls := "Skeletons$Skeleton", name := "isBound", desc := "(II)Z" } : Jvm.MethodName)) ∈ lw_all := lw_g (lw_at lw_m7 34 rfl) rfl
theorem q1603 : (Jvm.Cond.code ({ cls := "Skeletons$Skeleton", name := "isBound", desc := "(II)Z" } : Jvm.MethodName) prog_11_method_6_code (4 : Nat) (Option.some Jvm.ClassFile.FieldType.boolean)) ∈ lw_all := lw_g (lw_at lw_m7 35 rfl) rfl
theorem q1605 : (Jvm.Cond.instanceMethod ({ cls := "Skeletons$Skeleton", name := "hanging", desc := "(II)I" } : Jvm.MethodName)) ∈ lw_all := lw_g (lw_at lw_m7 37 rfl) rfl
theorem q1606 : (Jvm.Cond.selects "Skeletons$Skeleton" ({ cls := "Skeletons$Skeleton", name := "hanging", desc := "(II)I" } : Jvm.MethodName) ({ cls := "Skeletons$Skeleton", name := "hanging", desc := "(II)I" } : Jvm.MethodName)) ∈ lw_all := lw_g (lw_at lw_m7 38 rfl) rfl
theorem q1607 : (Jvm.Cond.code ({ cls := "Skeletons$Skeleton", name := "hanging", desc := "(II)I" } : Jvm.MethodName) prog_11_method_9_code (5 : Nat) (Option.some Jvm.ClassFile.FieldType.int)) ∈ lw_all := lw_g (lw_at lw_m7 39 rfl) rfl
theorem q1608 : (Jvm.Cond.methodLink "Skeletons$Skeleton" (40 : Nat) ({ cls := "Skeletons$Skeleton", name := "hanging", desc := "(II)I" } : Jvm.MethodName)) ∈ lw_all := lw_g (lw_at lw_m7 40 rfl) rfl
theorem q1618 : (Jvm.Cond.instanceMethod ({ cls := "Skeletons$Skeleton", name := "whole", desc := "()LSkeletons$Whole;" } : Jvm.MethodName)) ∈ lw_all := lw_g (lw_at lw_m7 50 rfl) rfl
theorem q1619 : (Jvm.Cond.selects "Skeletons$Skeleton" ({ cls := "Skeletons$Skeleton", name := "whole", desc := "()LSkeletons$Whole;" } : Jvm.MethodName) ({ cls := "Skeletons$Skeleton", name := "whole", desc := "()LSkeletons$Whole;" } : Jvm.MethodName)) ∈ lw_all := lw_g (lw_at lw_m7 51 rfl) rfl
theorem q1620 : (Jvm.Cond.code ({ cls := "Skeletons$Skeleton", name := "whole", desc := "()LSkeletons$Whole;" } : Jvm.MethodName) prog_11_method_14_code (5 : Nat) (Option.some (Jvm.ClassFile.FieldType.object "Skeletons$Whole"))) ∈ lw_all := lw_g (lw_at lw_m7 52 rfl) rfl
theorem q1621 : (Jvm.Cond.methodLink "Skeletons$Skeleton" (66 : Nat) ({ cls := "Skeletons$Skeleton", name := "isCentroid", desc := "(I)Z" } : Jvm.MethodName)) ∈ lw_all := lw_g (lw_at lw_m7 53 rfl) rfl
theorem q1622 : (Jvm.Cond.instanceMethod ({ cls := "Skeletons$Skeleton", name := "isCentroid", desc := "(I)Z" } : Jvm.MethodName)) ∈ lw_all := lw_g (lw_at lw_m7 54 rfl) rfl
theorem q1623 : (Jvm.Cond.selects "Skeletons$Skeleton" ({ cls := "Skeletons$Skeleton", name := "isCentroid", desc := "(I)Z" } : Jvm.MethodName) ({ cls := "Skeletons$Skeleton", name := "isCentroid", desc := "(I)Z" } : Jvm.MethodName)) ∈ lw_all := lw_g (lw_at lw_m7 55 rfl) rfl
theorem q1624 : (Jvm.Cond.code ({ cls := "Skeletons$Skeleton", name := "isCentroid", desc := "(I)Z" } : Jvm.MethodName) prog_11_method_13_code (3 : Nat) (Option.some Jvm.ClassFile.FieldType.boolean)) ∈ lw_all := lw_g (lw_at lw_m7 56 rfl) rfl
theorem q1625 : (Jvm.Cond.methodLink "Skeletons$Skeleton" (63 : Nat) ({ cls := "Skeletons$Skeleton", name := "sizeFrom", desc := "(II)I" } : Jvm.MethodName)) ∈ lw_all := lw_g (lw_at lw_m7 57 rfl) rfl
theorem q1626 : (Jvm.Cond.privateMethod ({ cls := "Skeletons$Skeleton", name := "sizeFrom", desc := "(II)I" } : Jvm.MethodName)) ∈ lw_tbl := lw_at lw_m7 58 rfl
theorem q1627 : (Jvm.Cond.instanceMethod ({ cls := "Skeletons$Skeleton", name := "sizeFrom", desc := "(II)I" } : Jvm.MethodName)) ∈ lw_all := lw_g (lw_at lw_m7 59 rfl) rfl
theorem q1628 : (Jvm.Cond.code ({ cls := "Skeletons$Skeleton", name := "sizeFrom", desc := "(II)I" } : Jvm.MethodName) prog_11_method_12_code (3 : Nat) (Option.some Jvm.ClassFile.FieldType.int)) ∈ lw_all := lw_g (lw_at lw_m7 60 rfl) rfl
theorem q1629 : (Jvm.Cond.methodLink "Skeletons$Skeleton" (57 : Nat) ({ cls := "java/lang/Integer", name := "bitCount", desc := "(I)I" } : Jvm.MethodName)) ∈ lw_all := lw_g (lw_at lw_m7 61 rfl) rfl
theorem q1635 : (Jvm.Cond.classLink "Skeletons$Skeleton" (70 : Nat) "Skeletons$One") ∈ lw_all := lw_g (lw_at lw_m7 67 rfl) rfl
theorem q1636 : (Jvm.Cond.methodLink "Skeletons$Skeleton" (50 : Nat) ({ cls := "Skeletons$Skeleton", name := "branch", desc := "(II)LSkeletons$Branch;" } : Jvm.MethodName)) ∈ lw_all := lw_g (lw_at lw_m7 68 rfl) rfl
theorem q1637 : (Jvm.Cond.instanceMethod ({ cls := "Skeletons$Skeleton", name := "branch", desc := "(II)LSkeletons$Branch;" } : Jvm.MethodName)) ∈ lw_all := lw_g (lw_at lw_m7 69 rfl) rfl
theorem q1638 : (Jvm.Cond.selects "Skeletons$Skeleton" ({ cls := "Skeletons$Skeleton", name := "branch", desc := "(II)LSkeletons$Branch;" } : Jvm.MethodName) ({ cls := "Skeletons$Skeleton", name := "branch", desc := "(II)LSkeletons$Branch;" } : Jvm.MethodName)) ∈ lw_all := lw_g (lw_at lw_m7 70 rfl) rfl
theorem q1639 : (Jvm.Cond.code ({ cls := "Skeletons$Skeleton", name := "branch", desc := "(II)LSkeletons$Branch;" } : Jvm.MethodName) prog_11_method_11_code (6 : Nat) (Option.some (Jvm.ClassFile.FieldType.object "Skeletons$Branch"))) ∈ lw_all := lw_g (lw_at lw_m7 71 rfl) rfl
theorem q1640 : (Jvm.Cond.methodLinkNest "Skeletons$Skeleton" (44 : Nat) ({ cls := "Skeletons", name := "bit", desc := "(Z)I" } : Jvm.MethodName) "Skeletons") ∈ lw_tbl := lw_at lw_m7 72 rfl
theorem q1643 : (Jvm.Cond.classLink "Skeletons$Skeleton" (48 : Nat) "Skeletons$Branch") ∈ lw_all := lw_g (lw_at lw_m7 75 rfl) rfl
theorem q1644 : (Jvm.Cond.methodLink "Skeletons$Skeleton" (54 : Nat) ({ cls := "Skeletons$Branch", name := "<init>", desc := "([LSkeletons$Branch;)V" } : Jvm.MethodName)) ∈ lw_all := lw_g (lw_at lw_m7 76 rfl) rfl
theorem q1645 : (Jvm.Cond.methodLinkNest "Skeletons$Skeleton" (72 : Nat) ({ cls := "Skeletons$One", name := "<init>", desc := "(LSkeletons$Branch;)V" } : Jvm.MethodName) "Skeletons") ∈ lw_tbl := lw_at lw_m7 77 rfl
theorem q1646 : (Jvm.Cond.methodLink "Skeletons$Skeleton" (75 : Nat) ({ cls := "Skeletons$Branch", name := "compareTo", desc := "(LSkeletons$Branch;)I" } : Jvm.MethodName)) ∈ lw_all := lw_g (lw_at lw_m7 78 rfl) rfl
theorem q1647 : (Jvm.Cond.classLink "Skeletons$Skeleton" (79 : Nat) "Skeletons$Two") ∈ lw_all := lw_g (lw_at lw_m7 79 rfl) rfl
theorem q1648 : (Jvm.Cond.methodLinkNest "Skeletons$Skeleton" (81 : Nat) ({ cls := "Skeletons$Two", name := "<init>", desc := "(LSkeletons$Branch;LSkeletons$Branch;)V" } : Jvm.MethodName) "Skeletons") ∈ lw_tbl := lw_at lw_m7 80 rfl
theorem q1666 : (Jvm.Cond.instanceMethod ({ cls := "Skeletons$Skeleton", name := "far", desc := "(I)[I" } : Jvm.MethodName)) ∈ lw_all := lw_g (lw_at lw_m7 98 rfl) rfl
theorem q1667 : (Jvm.Cond.selects "Skeletons$Skeleton" ({ cls := "Skeletons$Skeleton", name := "far", desc := "(I)[I" } : Jvm.MethodName) ({ cls := "Skeletons$Skeleton", name := "far", desc := "(I)[I" } : Jvm.MethodName)) ∈ lw_all := lw_g (lw_at lw_m7 99 rfl) rfl
theorem q1668 : (Jvm.Cond.code ({ cls := "Skeletons$Skeleton", name := "far", desc := "(I)[I" } : Jvm.MethodName) prog_11_method_15_code (3 : Nat) (Option.some (Jvm.ClassFile.FieldType.array Jvm.ClassFile.FieldType.int))) ∈ lw_all := lw_g (lw_at lw_m7 100 rfl) rfl
theorem q1669 : (Jvm.Cond.methodLink "Skeletons$Skeleton" (84 : Nat) ({ cls := "Skeletons$Skeleton", name := "lays", desc := "(III[I)V" } : Jvm.MethodName)) ∈ lw_all := lw_g (lw_at lw_m7 101 rfl) rfl
theorem q1670 : (Jvm.Cond.privateMethod ({ cls := "Skeletons$Skeleton", name := "lays", desc := "(III[I)V" } : Jvm.MethodName)) ∈ lw_tbl := lw_at lw_m7 102 rfl
theorem q1671 : (Jvm.Cond.instanceMethod ({ cls := "Skeletons$Skeleton", name := "lays", desc := "(III[I)V" } : Jvm.MethodName)) ∈ lw_all := lw_g (lw_at lw_m7 103 rfl) rfl
theorem q1672 : (Jvm.Cond.code ({ cls := "Skeletons$Skeleton", name := "lays", desc := "(III[I)V" } : Jvm.MethodName) prog_11_method_16_code (6 : Nat) (Option.none : Option Jvm.ClassFile.FieldType)) ∈ lw_all := lw_g (lw_at lw_m7 104 rfl) rfl
theorem q1701 : (Jvm.Cond.instanceMethod ({ cls := "Skeletons$Skeleton", name := "longest", desc := "()I" } : Jvm.MethodName)) ∈ lw_all := lw_g (lw_at lw_m7 133 rfl) rfl
theorem q1702 : (Jvm.Cond.selects "Skeletons$Skeleton" ({ cls := "Skeletons$Skeleton", name := "longest", desc := "()I" } : Jvm.MethodName) ({ cls := "Skeletons$Skeleton", name := "longest", desc := "()I" } : Jvm.MethodName)) ∈ lw_all := lw_g (lw_at lw_m7 134 rfl) rfl
theorem q1703 : (Jvm.Cond.code ({ cls := "Skeletons$Skeleton", name := "longest", desc := "()I" } : Jvm.MethodName) prog_11_method_17_code (7 : Nat) (Option.some Jvm.ClassFile.FieldType.int)) ∈ lw_all := lw_g (lw_at lw_m7 135 rfl) rfl
theorem q1704 : (Jvm.Cond.methodLink "Skeletons$Skeleton" (88 : Nat) ({ cls := "Skeletons$Skeleton", name := "far", desc := "(I)[I" } : Jvm.MethodName)) ∈ lw_all := lw_g (lw_at lw_m7 136 rfl) rfl
theorem q1705 : (Jvm.Cond.methodLink "Skeletons$Skeleton" (92 : Nat) ({ cls := "java/lang/Math", name := "max", desc := "(II)I" } : Jvm.MethodName)) ∈ lw_all := lw_g (lw_at lw_m7 137 rfl) rfl
theorem q1710 : (Jvm.Cond.instanceMethod ({ cls := "Skeletons$Skeleton", name := "withNeighbours", desc := "(I)I" } : Jvm.MethodName)) ∈ lw_all := lw_g (lw_at lw_m7 142 rfl) rfl
theorem q1711 : (Jvm.Cond.selects "Skeletons$Skeleton" ({ cls := "Skeletons$Skeleton", name := "withNeighbours", desc := "(I)I" } : Jvm.MethodName) ({ cls := "Skeletons$Skeleton", name := "withNeighbours", desc := "(I)I" } : Jvm.MethodName)) ∈ lw_all := lw_g (lw_at lw_m7 143 rfl) rfl
theorem q1712 : (Jvm.Cond.code ({ cls := "Skeletons$Skeleton", name := "withNeighbours", desc := "(I)I" } : Jvm.MethodName) prog_11_method_22_code (4 : Nat) (Option.some Jvm.ClassFile.FieldType.int)) ∈ lw_all := lw_g (lw_at lw_m7 144 rfl) rfl
theorem q1717 : (Jvm.Cond.instanceMethod ({ cls := "Skeletons$Skeleton", name := "asymmetric", desc := "()I" } : Jvm.MethodName)) ∈ lw_all := lw_g (lw_at lw_m7 149 rfl) rfl
theorem q1718 : (Jvm.Cond.selects "Skeletons$Skeleton" ({ cls := "Skeletons$Skeleton", name := "asymmetric", desc := "()I" } : Jvm.MethodName) ({ cls := "Skeletons$Skeleton", name := "asymmetric", desc := "()I" } : Jvm.MethodName)) ∈ lw_all := lw_g (lw_at lw_m7 150 rfl) rfl
theorem q1719 : (Jvm.Cond.code ({ cls := "Skeletons$Skeleton", name := "asymmetric", desc := "()I" } : Jvm.MethodName) prog_11_method_19_code (3 : Nat) (Option.some Jvm.ClassFile.FieldType.int)) ∈ lw_all := lw_g (lw_at lw_m7 151 rfl) rfl
theorem q1720 : (Jvm.Cond.methodLink "Skeletons$Skeleton" (101 : Nat) ({ cls := "Skeletons$Skeleton", name := "isAsymmetric", desc := "(I)Z" } : Jvm.MethodName)) ∈ lw_all := lw_g (lw_at lw_m7 152 rfl) rfl
theorem q1721 : (Jvm.Cond.instanceMethod ({ cls := "Skeletons$Skeleton", name := "isAsymmetric", desc := "(I)Z" } : Jvm.MethodName)) ∈ lw_all := lw_g (lw_at lw_m7 153 rfl) rfl
theorem q1722 : (Jvm.Cond.selects "Skeletons$Skeleton" ({ cls := "Skeletons$Skeleton", name := "isAsymmetric", desc := "(I)Z" } : Jvm.MethodName) ({ cls := "Skeletons$Skeleton", name := "isAsymmetric", desc := "(I)Z" } : Jvm.MethodName)) ∈ lw_all := lw_g (lw_at lw_m7 154 rfl) rfl
theorem q1723 : (Jvm.Cond.code ({ cls := "Skeletons$Skeleton", name := "isAsymmetric", desc := "(I)Z" } : Jvm.MethodName) prog_11_method_18_code (4 : Nat) (Option.some Jvm.ClassFile.FieldType.boolean)) ∈ lw_all := lw_g (lw_at lw_m7 155 rfl) rfl
theorem q1724 : (Jvm.Cond.methodLink "Skeletons$Skeleton" (97 : Nat) ({ cls := "Skeletons$Branch", name := "areLike", desc := "(LSkeletons$Branch;LSkeletons$Branch;)Z" } : Jvm.MethodName)) ∈ lw_all := lw_g (lw_at lw_m7 156 rfl) rfl
theorem q1729 : (Jvm.Cond.instanceMethod ({ cls := "Skeletons$Skeleton", name := "unlike", desc := "()I" } : Jvm.MethodName)) ∈ lw_all := lw_g (lw_at lw_m7 161 rfl) rfl
theorem q1730 : (Jvm.Cond.selects "Skeletons$Skeleton" ({ cls := "Skeletons$Skeleton", name := "unlike", desc := "()I" } : Jvm.MethodName) ({ cls := "Skeletons$Skeleton", name := "unlike", desc := "()I" } : Jvm.MethodName)) ∈ lw_all := lw_g (lw_at lw_m7 162 rfl) rfl
theorem q1731 : (Jvm.Cond.code ({ cls := "Skeletons$Skeleton", name := "unlike", desc := "()I" } : Jvm.MethodName) prog_11_method_21_code (4 : Nat) (Option.some Jvm.ClassFile.FieldType.int)) ∈ lw_all := lw_g (lw_at lw_m7 163 rfl) rfl
theorem q1732 : (Jvm.Cond.methodLink "Skeletons$Skeleton" (104 : Nat) ({ cls := "Skeletons$Skeleton", name := "like", desc := "()[I" } : Jvm.MethodName)) ∈ lw_all := lw_g (lw_at lw_m7 164 rfl) rfl
theorem q1733 : (Jvm.Cond.instanceMethod ({ cls := "Skeletons$Skeleton", name := "like", desc := "()[I" } : Jvm.MethodName)) ∈ lw_all := lw_g (lw_at lw_m7 165 rfl) rfl
theorem q1734 : (Jvm.Cond.selects "Skeletons$Skeleton" ({ cls := "Skeletons$Skeleton", name := "like", desc := "()[I" } : Jvm.MethodName) ({ cls := "Skeletons$Skeleton", name := "like", desc := "()[I" } : Jvm.MethodName)) ∈ lw_all := lw_g (lw_at lw_m7 166 rfl) rfl
theorem q1735 : (Jvm.Cond.code ({ cls := "Skeletons$Skeleton", name := "like", desc := "()[I" } : Jvm.MethodName) prog_11_method_20_code (4 : Nat) (Option.some (Jvm.ClassFile.FieldType.array Jvm.ClassFile.FieldType.int))) ∈ lw_all := lw_g (lw_at lw_m7 167 rfl) rfl
theorem q1890 : (Jvm.Cond.instanceMethod ({ cls := "Skeletons$Skeleton", name := "name", desc := "()Ljava/lang/String;" } : Jvm.MethodName)) ∈ lw_all := lw_g (lw_at lw_m8 82 rfl) rfl
theorem q1891 : (Jvm.Cond.selects "Skeletons$Skeleton" ({ cls := "Skeletons$Skeleton", name := "name", desc := "()Ljava/lang/String;" } : Jvm.MethodName) ({ cls := "Skeletons$Skeleton", name := "name", desc := "()Ljava/lang/String;" } : Jvm.MethodName)) ∈ lw_all := lw_g (lw_at lw_m8 83 rfl) rfl
theorem q1892 : (Jvm.Cond.code ({ cls := "Skeletons$Skeleton", name := "name", desc := "()Ljava/lang/String;" } : Jvm.MethodName) prog_11_method_28_code (6 : Nat) (Option.some (Jvm.ClassFile.FieldType.object "java/lang/String"))) ∈ lw_all := lw_g (lw_at lw_m8 84 rfl) rfl
theorem q1893 : (Jvm.Cond.methodLink "Skeletons$Skeleton" (159 : Nat) ({ cls := "Skeletons$Skeleton", name := "longest", desc := "()I" } : Jvm.MethodName)) ∈ lw_all := lw_g (lw_at lw_m8 85 rfl) rfl
theorem q1894 : (Jvm.Cond.methodLink "Skeletons$Skeleton" (114 : Nat) ({ cls := "Skeletons$Skeleton", name := "chain", desc := "(III)Ljava/lang/String;" } : Jvm.MethodName)) ∈ lw_all := lw_g (lw_at lw_m8 86 rfl) rfl
theorem q1895 : (Jvm.Cond.privateMethod ({ cls := "Skeletons$Skeleton", name := "chain", desc := "(III)Ljava/lang/String;" } : Jvm.MethodName)) ∈ lw_tbl := lw_at lw_m8 87 rfl
theorem q1896 : (Jvm.Cond.instanceMethod ({ cls := "Skeletons$Skeleton", name := "chain", desc := "(III)Ljava/lang/String;" } : Jvm.MethodName)) ∈ lw_all := lw_g (lw_at lw_m8 88 rfl) rfl
theorem q1897 : (Jvm.Cond.code ({ cls := "Skeletons$Skeleton", name := "chain", desc := "(III)Ljava/lang/String;" } : Jvm.MethodName) prog_11_method_26_code (11 : Nat) (Option.some (Jvm.ClassFile.FieldType.object "java/lang/String"))) ∈ lw_all := lw_g (lw_at lw_m8 89 rfl) rfl
theorem q1898 : (Jvm.Cond.classLink "Skeletons$Skeleton" (127 : Nat) "java/lang/StringBuilder") ∈ lw_all := lw_g (lw_at lw_m8 90 rfl) rfl
theorem q1899 : (Jvm.Cond.methodLink "Skeletons$Skeleton" (129 : Nat) ({ cls := "java/lang/StringBuilder", name := "<init>", desc := "()V" } : Jvm.MethodName)) ∈ lw_all := lw_g (lw_at lw_m8 91 rfl) rfl
theorem q1900 : (Jvm.Cond.methodLink "Skeletons$Skeleton" (145 : Nat) ({ cls := "java/lang/StringBuilder", name := "append", desc := "(I)Ljava/lang/StringBuilder;" } : Jvm.MethodName)) ∈ lw_all := lw_g (lw_at lw_m8 92 rfl) rfl
theorem q1931 : (Jvm.Cond.methodLink "Skeletons$Skeleton" (148 : Nat) ({ cls := "Skeletons$Skeleton", name := "hangs", desc := "(Ljava/lang/StringBuilder;IIII)V" } : Jvm.MethodName)) ∈ lw_all := lw_g (lw_at lw_m8 123 rfl) rfl
theorem q1932 : (Jvm.Cond.privateMethod ({ cls := "Skeletons$Skeleton", name := "hangs", desc := "(Ljava/lang/StringBuilder;IIII)V" } : Jvm.MethodName)) ∈ lw_tbl := lw_at lw_m8 124 rfl
theorem q1933 : (Jvm.Cond.instanceMethod ({ cls := "Skeletons$Skeleton", name := "hangs", desc := "(Ljava/lang/StringBuilder;IIII)V" } : Jvm.MethodName)) ∈ lw_all := lw_g (lw_at lw_m8 125 rfl) rfl
theorem q1934 : (Jvm.Cond.code ({ cls := "Skeletons$Skeleton", name := "hangs", desc := "(Ljava/lang/StringBuilder;IIII)V" } : Jvm.MethodName) prog_11_method_27_code (12 : Nat) (Option.none : Option Jvm.ClassFile.FieldType)) ∈ lw_all := lw_g (lw_at lw_m8 126 rfl) rfl
theorem q1935 : (Jvm.Cond.classLink "Skeletons$Skeleton" (123 : Nat) "java/lang/String") ∈ lw_all := lw_g (lw_at lw_m8 127 rfl) rfl
theorem q1937 : (Jvm.Cond.methodLink "Skeletons$Skeleton" (152 : Nat) ({ cls := "Skeletons$Skeleton", name := "branchName", desc := "(II)Ljava/lang/String;" } : Jvm.MethodName)) ∈ lw_all := lw_g (lw_at lw_m8 129 rfl) rfl
theorem q1938 : (Jvm.Cond.privateMethod ({ cls := "Skeletons$Skeleton", name := "branchName", desc := "(II)Ljava/lang/String;" } : Jvm.MethodName)) ∈ lw_tbl := lw_at lw_m8 130 rfl
theorem q1939 : (Jvm.Cond.instanceMethod ({ cls := "Skeletons$Skeleton", name := "branchName", desc := "(II)Ljava/lang/String;" } : Jvm.MethodName)) ∈ lw_all := lw_g (lw_at lw_m8 131 rfl) rfl
theorem q1940 : (Jvm.Cond.code ({ cls := "Skeletons$Skeleton", name := "branchName", desc := "(II)Ljava/lang/String;" } : Jvm.MethodName) prog_11_method_24_code (9 : Nat) (Option.some (Jvm.ClassFile.FieldType.object "java/lang/String"))) ∈ lw_all := lw_g (lw_at lw_m8 132 rfl) rfl
theorem q1941 : (Jvm.Cond.methodLink "Skeletons$Skeleton" (108 : Nat) ({ cls := "java/util/Arrays", name := "fill", desc := "([II)V" } : Jvm.MethodName)) ∈ lw_all := lw_g (lw_at lw_m8 133 rfl) rfl
theorem q1944 : (Jvm.Cond.methodLink "Skeletons$Skeleton" (118 : Nat) ({ cls := "Skeletons$Skeleton", name := "least", desc := "(Ljava/lang/String;Ljava/lang/String;)Ljava/lang/String;" } : Jvm.MethodName)) ∈ lw_all := lw_g (lw_at lw_m8 136 rfl) rfl
theorem q1945 : (Jvm.Cond.static ({ cls := "Skeletons$Skeleton", name := "least", desc := "(Ljava/lang/String;Ljava/lang/String;)Ljava/lang/String;" } : Jvm.MethodName)) ∈ lw_all := lw_g (lw_at lw_m8 137 rfl) rfl
theorem q1946 : (Jvm.Cond.code ({ cls := "Skeletons$Skeleton", name := "least", desc := "(Ljava/lang/String;Ljava/lang/String;)Ljava/lang/String;" } : Jvm.MethodName) prog_11_method_25_code (2 : Nat) (Option.some (Jvm.ClassFile.FieldType.object "java/lang/String"))) ∈ lw_all := lw_g (lw_at lw_m8 138 rfl) rfl
theorem q1947 : (Jvm.Cond.methodLink "Skeletons$Skeleton" (142 : Nat) ({ cls := "java/lang/String", name := "compareTo", desc := "(Ljava/lang/String;)I" } : Jvm.MethodName)) ∈ lw_all := lw_g (lw_at lw_m8 139 rfl) rfl
theorem q1948 : (Jvm.Cond.methodLink "Skeletons$Skeleton" (122 : Nat) ({ cls := "java/lang/String", name := "indexOf", desc := "(I)I" } : Jvm.MethodName)) ∈ lw_all := lw_g (lw_at lw_m8 140 rfl) rfl
theorem q1999 : (Jvm.Cond.stringRef "Skeletons$Skeleton" (130 : Nat) "(") ∈ lw_tbl := lw_at lw_m8 191 rfl
theorem q2000 : (Jvm.Cond.methodLink "Skeletons$Skeleton" (132 : Nat) ({ cls := "java/lang/StringBuilder", name := "append", desc := "(Ljava/lang/String;)Ljava/lang/StringBuilder;" } : Jvm.MethodName)) ∈ lw_all := lw_g (lw_at lw_m8 192 rfl) rfl
theorem q2030 : (Jvm.Cond.stringRef "Skeletons$Skeleton" (136 : Nat) ")") ∈ lw_tbl := lw_at lw_m8 222 rfl
theorem q2031 : (Jvm.Cond.methodLink "Skeletons$Skeleton" (138 : Nat) ({ cls := "java/lang/StringBuilder", name := "toString", desc := "()Ljava/lang/String;" } : Jvm.MethodName)) ∈ lw_all := lw_g (lw_at lw_m8 223 rfl) rfl
theorem q2032 : (Jvm.Cond.methodLink "Skeletons$Skeleton" (156 : Nat) ({ cls := "java/lang/StringBuilder", name := "append", desc := "(C)Ljava/lang/StringBuilder;" } : Jvm.MethodName)) ∈ lw_all := lw_g (lw_at lw_m8 224 rfl) rfl
theorem q2773 : (Jvm.Cond.castable "Skeletons$Skeleton" "java/lang/Object") ∈ lw_tbl := lw_at lw_m12 5 rfl
theorem in_X1 : ∀ w ∈ wsX10, w ∈ lw_all := lw_in wsX10 [313, 315, 317] (by decide +kernel) (by decide +kernel)
/-! Skeletons$Two -/
set_option maxRecDepth 100000
def RX10 : String := "Skeletons$Two"
def TX10 : u_T := fun k => match k with
  | 0 => ("Skeletons$Two", "half", "LSkeletons$Branch;", true)
  | _ => ("Skeletons$Two", "other", "LSkeletons$Branch;", true)
def tyX10 : Nat → FieldType := fun k => match k with
  | 0 => .object "Skeletons$Branch"
  | _ => .object "Skeletons$Branch"
abbrev wsX100 : List Cond := u_ws RX10 TX10 2
theorem nmX10 : ∀ a, a < 2 → ∀ b, b < 2 → a ≠ b → (TX10 a).2.1 ≠ (TX10 b).2.1 := by decide +kernel
theorem tyX10_ok : ∀ k, k < 2 → parseFieldDescriptor (TX10 k).2.2.1 = some (tyX10 k) := by decide +kernel
abbrev cX10_root : ByteArray := prog_17_method_3_code
def yX10_root : MethodName := ⟨RX10, "root", "()LSkeletons$Branch;"⟩
def dkwX10_root_2 : List UInt8 := [83, 187, 0, 19, 89, 43, 183, 0, 34, 176]
abbrev dktX10_root_2 : List UInt8 := dkwX10_root_2 ++ []
def dkwX10_root_1 : List UInt8 := [42, 180, 0, 9, 180, 0, 24, 190, 184, 0, 28, 43, 42, 180, 0, 9, 180, 0, 24, 190, 42, 180, 0, 15]
abbrev dktX10_root_1 : List UInt8 := dkwX10_root_1 ++ dktX10_root_2
def dkwX10_root_0 : List UInt8 := [42, 180, 0, 9, 180, 0, 24, 190, 4, 96, 189, 0, 19, 76, 42, 180, 0, 9, 180, 0, 24, 3, 43, 3]
abbrev dktX10_root_0 : List UInt8 := dkwX10_root_0 ++ dktX10_root_1
theorem dksX10_root_0 : cX10_root.data.toList.drop 0 = dktX10_root_0 := by decide +kernel
theorem dksX10_root_1 : cX10_root.data.toList.drop 24 = dktX10_root_1 := dk_seg dksX10_root_0 24 rfl rfl
theorem dksX10_root_2 : cX10_root.data.toList.drop 48 = dktX10_root_2 := dk_seg dksX10_root_1 24 rfl rfl
theorem dX10_root_0 : decode cX10_root 0 = .ok (.aload_n 0, 1) := dk_42 (dk_at dksX10_root_0 0 rfl rfl)
theorem dX10_root_1 : decode cX10_root 1 = .ok (.getfield 9, 3) := dk_180 0 9 (dk_at dksX10_root_0 1 rfl rfl)
theorem dX10_root_4 : decode cX10_root 4 = .ok (.getfield 24, 3) := dk_180 0 24 (dk_at dksX10_root_0 4 rfl rfl)
theorem dX10_root_7 : decode cX10_root 7 = .ok (.arraylength, 1) := dk_190 (dk_at dksX10_root_0 7 rfl rfl)
theorem dX10_root_8 : decode cX10_root 8 = .ok (.iconst 1, 1) := dk_4 (dk_at dksX10_root_0 8 rfl rfl)
theorem dX10_root_9 : decode cX10_root 9 = .ok (.iadd, 1) := dk_96 (dk_at dksX10_root_0 9 rfl rfl)
theorem dX10_root_10 : decode cX10_root 10 = .ok (.anewarray 19, 3) := dk_189 0 19 (dk_at dksX10_root_0 10 rfl rfl)
theorem dX10_root_13 : decode cX10_root 13 = .ok (.astore_n 1, 1) := dk_76 (dk_at dksX10_root_0 13 rfl rfl)
theorem dX10_root_14 : decode cX10_root 14 = .ok (.aload_n 0, 1) := dk_42 (dk_at dksX10_root_0 14 rfl rfl)
theorem dX10_root_15 : decode cX10_root 15 = .ok (.getfield 9, 3) := dk_180 0 9 (dk_at dksX10_root_0 15 rfl rfl)
theorem dX10_root_18 : decode cX10_root 18 = .ok (.getfield 24, 3) := dk_180 0 24 (dk_at dksX10_root_0 18 rfl rfl)
theorem dX10_root_21 : decode cX10_root 21 = .ok (.iconst 0, 1) := dk_3 (dk_at dksX10_root_0 21 rfl rfl)
theorem dX10_root_22 : decode cX10_root 22 = .ok (.aload_n 1, 1) := dk_43 (dk_at dksX10_root_0 22 rfl rfl)
theorem dX10_root_23 : decode cX10_root 23 = .ok (.iconst 0, 1) := dk_3 (dk_at dksX10_root_0 23 rfl rfl)
theorem dX10_root_24 : decode cX10_root 24 = .ok (.aload_n 0, 1) := dk_42 (dk_at dksX10_root_1 0 rfl rfl)
theorem dX10_root_25 : decode cX10_root 25 = .ok (.getfield 9, 3) := dk_180 0 9 (dk_at dksX10_root_1 1 rfl rfl)
theorem dX10_root_28 : decode cX10_root 28 = .ok (.getfield 24, 3) := dk_180 0 24 (dk_at dksX10_root_1 4 rfl rfl)
theorem dX10_root_31 : decode cX10_root 31 = .ok (.arraylength, 1) := dk_190 (dk_at dksX10_root_1 7 rfl rfl)
theorem dX10_root_32 : decode cX10_root 32 = .ok (.invokestatic 28, 3) := dk_184 0 28 (dk_at dksX10_root_1 8 rfl rfl)
theorem dX10_root_35 : decode cX10_root 35 = .ok (.aload_n 1, 1) := dk_43 (dk_at dksX10_root_1 11 rfl rfl)
theorem dX10_root_36 : decode cX10_root 36 = .ok (.aload_n 0, 1) := dk_42 (dk_at dksX10_root_1 12 rfl rfl)
theorem dX10_root_37 : decode cX10_root 37 = .ok (.getfield 9, 3) := dk_180 0 9 (dk_at dksX10_root_1 13 rfl rfl)
theorem dX10_root_40 : decode cX10_root 40 = .ok (.getfield 24, 3) := dk_180 0 24 (dk_at dksX10_root_1 16 rfl rfl)
theorem dX10_root_43 : decode cX10_root 43 = .ok (.arraylength, 1) := dk_190 (dk_at dksX10_root_1 19 rfl rfl)
theorem dX10_root_44 : decode cX10_root 44 = .ok (.aload_n 0, 1) := dk_42 (dk_at dksX10_root_1 20 rfl rfl)
theorem dX10_root_45 : decode cX10_root 45 = .ok (.getfield 15, 3) := dk_180 0 15 (dk_at dksX10_root_1 21 rfl rfl)
theorem dX10_root_48 : decode cX10_root 48 = .ok (.aastore, 1) := dk_83 (dk_at dksX10_root_2 0 rfl rfl)
theorem dX10_root_49 : decode cX10_root 49 = .ok (.new 19, 3) := dk_187 0 19 (dk_at dksX10_root_2 1 rfl rfl)
theorem dX10_root_52 : decode cX10_root 52 = .ok (.dup, 1) := dk_89 (dk_at dksX10_root_2 4 rfl rfl)
theorem dX10_root_53 : decode cX10_root 53 = .ok (.aload_n 1, 1) := dk_43 (dk_at dksX10_root_2 5 rfl rfl)
theorem dX10_root_54 : decode cX10_root 54 = .ok (.invokespecial 34, 3) := dk_183 0 34 (dk_at dksX10_root_2 6 rfl rfl)
theorem dX10_root_57 : decode cX10_root 57 = .ok (.areturn, 1) := dk_176 (dk_at dksX10_root_2 9 rfl rfl)
abbrev cX10_init : ByteArray := prog_17_method_1_code
def yX10_init : MethodName := ⟨RX10, "<init>", "(LSkeletons$Branch;LSkeletons$Branch;)V"⟩
def dkwX10_init_0 : List UInt8 := [42, 183, 0, 3, 42, 43, 181, 0, 9, 42, 44, 181, 0, 15, 177]
abbrev dktX10_init_0 : List UInt8 := dkwX10_init_0 ++ []
theorem dksX10_init_0 : cX10_init.data.toList.drop 0 = dktX10_init_0 := by decide +kernel
theorem dX10_init_0 : decode cX10_init 0 = .ok (.aload_n 0, 1) := dk_42 (dk_at dksX10_init_0 0 rfl rfl)
theorem dX10_init_1 : decode cX10_init 1 = .ok (.invokespecial 3, 3) := dk_183 0 3 (dk_at dksX10_init_0 1 rfl rfl)
theorem dX10_init_4 : decode cX10_init 4 = .ok (.aload_n 0, 1) := dk_42 (dk_at dksX10_init_0 4 rfl rfl)
theorem dX10_init_5 : decode cX10_init 5 = .ok (.aload_n 1, 1) := dk_43 (dk_at dksX10_init_0 5 rfl rfl)
theorem dX10_init_6 : decode cX10_init 6 = .ok (.putfield 9, 3) := dk_181 0 9 (dk_at dksX10_init_0 6 rfl rfl)
theorem dX10_init_9 : decode cX10_init 9 = .ok (.aload_n 0, 1) := dk_42 (dk_at dksX10_init_0 9 rfl rfl)
theorem dX10_init_10 : decode cX10_init 10 = .ok (.aload_n 2, 1) := dk_44 (dk_at dksX10_init_0 10 rfl rfl)
theorem dX10_init_11 : decode cX10_init 11 = .ok (.putfield 15, 3) := dk_181 0 15 (dk_at dksX10_init_0 11 rfl rfl)
theorem dX10_init_14 : decode cX10_init 14 = .ok (.return_, 1) := dk_177 (dk_at dksX10_init_0 14 rfl rfl)
abbrev cX10_forms : ByteArray := prog_17_method_4_code
def yX10_forms : MethodName := ⟨RX10, "forms", "()J"⟩
def dkwX10_forms_2 : List UInt8 := [180, 0, 15, 180, 0, 40, 105, 173]
abbrev dktX10_forms_2 : List UInt8 := dkwX10_forms_2 ++ []
def dkwX10_forms_1 : List UInt8 := [180, 0, 9, 180, 0, 40, 97, 20, 0, 44, 109, 167, 0, 18, 42, 180, 0, 9, 180, 0, 40, 42]
abbrev dktX10_forms_1 : List UInt8 := dkwX10_forms_1 ++ dktX10_forms_2
def dkwX10_forms_0 : List UInt8 := [42, 182, 0, 37, 153, 0, 33, 42, 180, 0, 9, 180, 0, 40, 42, 180, 0, 9, 180, 0, 40, 105, 42]
abbrev dktX10_forms_0 : List UInt8 := dkwX10_forms_0 ++ dktX10_forms_1
theorem dksX10_forms_0 : cX10_forms.data.toList.drop 0 = dktX10_forms_0 := by decide +kernel
theorem dksX10_forms_1 : cX10_forms.data.toList.drop 23 = dktX10_forms_1 := dk_seg dksX10_forms_0 23 rfl rfl
theorem dksX10_forms_2 : cX10_forms.data.toList.drop 45 = dktX10_forms_2 := dk_seg dksX10_forms_1 22 rfl rfl
theorem dX10_forms_0 : decode cX10_forms 0 = .ok (.aload_n 0, 1) := dk_42 (dk_at dksX10_forms_0 0 rfl rfl)
theorem dX10_forms_1 : decode cX10_forms 1 = .ok (.invokevirtual 37, 3) := dk_182 0 37 (dk_at dksX10_forms_0 1 rfl rfl)
theorem dX10_forms_4 : decode cX10_forms 4 = .ok (.ifCond .eq 33, 3) := dk_153 0 33 (dk_at dksX10_forms_0 4 rfl rfl)
theorem dX10_forms_7 : decode cX10_forms 7 = .ok (.aload_n 0, 1) := dk_42 (dk_at dksX10_forms_0 7 rfl rfl)
theorem dX10_forms_8 : decode cX10_forms 8 = .ok (.getfield 9, 3) := dk_180 0 9 (dk_at dksX10_forms_0 8 rfl rfl)
theorem dX10_forms_11 : decode cX10_forms 11 = .ok (.getfield 40, 3) := dk_180 0 40 (dk_at dksX10_forms_0 11 rfl rfl)
theorem dX10_forms_14 : decode cX10_forms 14 = .ok (.aload_n 0, 1) := dk_42 (dk_at dksX10_forms_0 14 rfl rfl)
theorem dX10_forms_15 : decode cX10_forms 15 = .ok (.getfield 9, 3) := dk_180 0 9 (dk_at dksX10_forms_0 15 rfl rfl)
theorem dX10_forms_18 : decode cX10_forms 18 = .ok (.getfield 40, 3) := dk_180 0 40 (dk_at dksX10_forms_0 18 rfl rfl)
theorem dX10_forms_21 : decode cX10_forms 21 = .ok (.lmul, 1) := dk_105 (dk_at dksX10_forms_0 21 rfl rfl)
theorem dX10_forms_22 : decode cX10_forms 22 = .ok (.aload_n 0, 1) := dk_42 (dk_at dksX10_forms_0 22 rfl rfl)
theorem dX10_forms_23 : decode cX10_forms 23 = .ok (.getfield 9, 3) := dk_180 0 9 (dk_at dksX10_forms_1 0 rfl rfl)
theorem dX10_forms_26 : decode cX10_forms 26 = .ok (.getfield 40, 3) := dk_180 0 40 (dk_at dksX10_forms_1 3 rfl rfl)
theorem dX10_forms_29 : decode cX10_forms 29 = .ok (.ladd, 1) := dk_97 (dk_at dksX10_forms_1 6 rfl rfl)
theorem dX10_forms_30 : decode cX10_forms 30 = .ok (.ldc2_w 44, 3) := dk_20 0 44 (dk_at dksX10_forms_1 7 rfl rfl)
theorem dX10_forms_33 : decode cX10_forms 33 = .ok (.ldiv, 1) := dk_109 (dk_at dksX10_forms_1 10 rfl rfl)
theorem dX10_forms_34 : decode cX10_forms 34 = .ok (.goto 18, 3) := dk_167 0 18 (dk_at dksX10_forms_1 11 rfl rfl)
theorem dX10_forms_37 : decode cX10_forms 37 = .ok (.aload_n 0, 1) := dk_42 (dk_at dksX10_forms_1 14 rfl rfl)
theorem dX10_forms_38 : decode cX10_forms 38 = .ok (.getfield 9, 3) := dk_180 0 9 (dk_at dksX10_forms_1 15 rfl rfl)
theorem dX10_forms_41 : decode cX10_forms 41 = .ok (.getfield 40, 3) := dk_180 0 40 (dk_at dksX10_forms_1 18 rfl rfl)
theorem dX10_forms_44 : decode cX10_forms 44 = .ok (.aload_n 0, 1) := dk_42 (dk_at dksX10_forms_1 21 rfl rfl)
theorem dX10_forms_45 : decode cX10_forms 45 = .ok (.getfield 15, 3) := dk_180 0 15 (dk_at dksX10_forms_2 0 rfl rfl)
theorem dX10_forms_48 : decode cX10_forms 48 = .ok (.getfield 40, 3) := dk_180 0 40 (dk_at dksX10_forms_2 3 rfl rfl)
theorem dX10_forms_51 : decode cX10_forms 51 = .ok (.lmul, 1) := dk_105 (dk_at dksX10_forms_2 6 rfl rfl)
theorem dX10_forms_52 : decode cX10_forms 52 = .ok (.lreturn, 1) := dk_173 (dk_at dksX10_forms_2 7 rfl rfl)
abbrev cX10_areLike : ByteArray := prog_17_method_2_code
def yX10_areLike : MethodName := ⟨RX10, "areLike", "()Z"⟩
def dkwX10_areLike_0 : List UInt8 := [42, 180, 0, 9, 42, 180, 0, 15, 184, 0, 18, 172]
abbrev dktX10_areLike_0 : List UInt8 := dkwX10_areLike_0 ++ []
theorem dksX10_areLike_0 : cX10_areLike.data.toList.drop 0 = dktX10_areLike_0 := by decide +kernel
theorem dX10_areLike_0 : decode cX10_areLike 0 = .ok (.aload_n 0, 1) := dk_42 (dk_at dksX10_areLike_0 0 rfl rfl)
theorem dX10_areLike_1 : decode cX10_areLike 1 = .ok (.getfield 9, 3) := dk_180 0 9 (dk_at dksX10_areLike_0 1 rfl rfl)
theorem dX10_areLike_4 : decode cX10_areLike 4 = .ok (.aload_n 0, 1) := dk_42 (dk_at dksX10_areLike_0 4 rfl rfl)
theorem dX10_areLike_5 : decode cX10_areLike 5 = .ok (.getfield 15, 3) := dk_180 0 15 (dk_at dksX10_areLike_0 5 rfl rfl)
theorem dX10_areLike_8 : decode cX10_areLike 8 = .ok (.invokestatic 18, 3) := dk_184 0 18 (dk_at dksX10_areLike_0 8 rfl rfl)
theorem dX10_areLike_11 : decode cX10_areLike 11 = .ok (.ireturn, 1) := dk_172 (dk_at dksX10_areLike_0 11 rfl rfl)
abbrev cX10_own : ByteArray := prog_17_method_5_code
def yX10_own : MethodName := ⟨RX10, "own", "()J"⟩
def dkwX10_own_2 : List UInt8 := [180, 0, 15, 180, 0, 46, 105, 173]
abbrev dktX10_own_2 : List UInt8 := dkwX10_own_2 ++ []
def dkwX10_own_1 : List UInt8 := [180, 0, 9, 180, 0, 40, 97, 20, 0, 44, 109, 167, 0, 18, 42, 180, 0, 9, 180, 0, 46, 42]
abbrev dktX10_own_1 : List UInt8 := dkwX10_own_1 ++ dktX10_own_2
def dkwX10_own_0 : List UInt8 := [42, 182, 0, 37, 153, 0, 33, 42, 180, 0, 9, 180, 0, 46, 42, 180, 0, 9, 180, 0, 46, 105, 42]
abbrev dktX10_own_0 : List UInt8 := dkwX10_own_0 ++ dktX10_own_1
theorem dksX10_own_0 : cX10_own.data.toList.drop 0 = dktX10_own_0 := by decide +kernel
theorem dksX10_own_1 : cX10_own.data.toList.drop 23 = dktX10_own_1 := dk_seg dksX10_own_0 23 rfl rfl
theorem dksX10_own_2 : cX10_own.data.toList.drop 45 = dktX10_own_2 := dk_seg dksX10_own_1 22 rfl rfl
theorem dX10_own_0 : decode cX10_own 0 = .ok (.aload_n 0, 1) := dk_42 (dk_at dksX10_own_0 0 rfl rfl)
theorem dX10_own_1 : decode cX10_own 1 = .ok (.invokevirtual 37, 3) := dk_182 0 37 (dk_at dksX10_own_0 1 rfl rfl)
theorem dX10_own_4 : decode cX10_own 4 = .ok (.ifCond .eq 33, 3) := dk_153 0 33 (dk_at dksX10_own_0 4 rfl rfl)
theorem dX10_own_7 : decode cX10_own 7 = .ok (.aload_n 0, 1) := dk_42 (dk_at dksX10_own_0 7 rfl rfl)
theorem dX10_own_8 : decode cX10_own 8 = .ok (.getfield 9, 3) := dk_180 0 9 (dk_at dksX10_own_0 8 rfl rfl)
theorem dX10_own_11 : decode cX10_own 11 = .ok (.getfield 46, 3) := dk_180 0 46 (dk_at dksX10_own_0 11 rfl rfl)
theorem dX10_own_14 : decode cX10_own 14 = .ok (.aload_n 0, 1) := dk_42 (dk_at dksX10_own_0 14 rfl rfl)
theorem dX10_own_15 : decode cX10_own 15 = .ok (.getfield 9, 3) := dk_180 0 9 (dk_at dksX10_own_0 15 rfl rfl)
theorem dX10_own_18 : decode cX10_own 18 = .ok (.getfield 46, 3) := dk_180 0 46 (dk_at dksX10_own_0 18 rfl rfl)
theorem dX10_own_21 : decode cX10_own 21 = .ok (.lmul, 1) := dk_105 (dk_at dksX10_own_0 21 rfl rfl)
theorem dX10_own_22 : decode cX10_own 22 = .ok (.aload_n 0, 1) := dk_42 (dk_at dksX10_own_0 22 rfl rfl)
theorem dX10_own_23 : decode cX10_own 23 = .ok (.getfield 9, 3) := dk_180 0 9 (dk_at dksX10_own_1 0 rfl rfl)
theorem dX10_own_26 : decode cX10_own 26 = .ok (.getfield 40, 3) := dk_180 0 40 (dk_at dksX10_own_1 3 rfl rfl)
theorem dX10_own_29 : decode cX10_own 29 = .ok (.ladd, 1) := dk_97 (dk_at dksX10_own_1 6 rfl rfl)
theorem dX10_own_30 : decode cX10_own 30 = .ok (.ldc2_w 44, 3) := dk_20 0 44 (dk_at dksX10_own_1 7 rfl rfl)
theorem dX10_own_33 : decode cX10_own 33 = .ok (.ldiv, 1) := dk_109 (dk_at dksX10_own_1 10 rfl rfl)
theorem dX10_own_34 : decode cX10_own 34 = .ok (.goto 18, 3) := dk_167 0 18 (dk_at dksX10_own_1 11 rfl rfl)
theorem dX10_own_37 : decode cX10_own 37 = .ok (.aload_n 0, 1) := dk_42 (dk_at dksX10_own_1 14 rfl rfl)
theorem dX10_own_38 : decode cX10_own 38 = .ok (.getfield 9, 3) := dk_180 0 9 (dk_at dksX10_own_1 15 rfl rfl)
theorem dX10_own_41 : decode cX10_own 41 = .ok (.getfield 46, 3) := dk_180 0 46 (dk_at dksX10_own_1 18 rfl rfl)
theorem dX10_own_44 : decode cX10_own 44 = .ok (.aload_n 0, 1) := dk_42 (dk_at dksX10_own_1 21 rfl rfl)
theorem dX10_own_45 : decode cX10_own 45 = .ok (.getfield 15, 3) := dk_180 0 15 (dk_at dksX10_own_2 0 rfl rfl)
theorem dX10_own_48 : decode cX10_own 48 = .ok (.getfield 46, 3) := dk_180 0 46 (dk_at dksX10_own_2 3 rfl rfl)
theorem dX10_own_51 : decode cX10_own 51 = .ok (.lmul, 1) := dk_105 (dk_at dksX10_own_2 6 rfl rfl)
theorem dX10_own_52 : decode cX10_own 52 = .ok (.lreturn, 1) := dk_173 (dk_at dksX10_own_2 7 rfl rfl)
abbrev cX10_symmetry : ByteArray := prog_17_method_6_code
def yX10_symmetry : MethodName := ⟨RX10, "symmetry", "()J"⟩
def dkwX10_symmetry_1 : List UInt8 := [20, 0, 44, 167, 0, 4, 10, 105, 173]
abbrev dktX10_symmetry_1 : List UInt8 := dkwX10_symmetry_1 ++ []
def dkwX10_symmetry_0 : List UInt8 := [42, 180, 0, 9, 180, 0, 49, 42, 180, 0, 15, 180, 0, 49, 105, 42, 182, 0, 37, 153, 0, 9]
abbrev dktX10_symmetry_0 : List UInt8 := dkwX10_symmetry_0 ++ dktX10_symmetry_1
theorem dksX10_symmetry_0 : cX10_symmetry.data.toList.drop 0 = dktX10_symmetry_0 := by decide +kernel
theorem dksX10_symmetry_1 : cX10_symmetry.data.toList.drop 22 = dktX10_symmetry_1 := dk_seg dksX10_symmetry_0 22 rfl rfl
theorem dX10_symmetry_0 : decode cX10_symmetry 0 = .ok (.aload_n 0, 1) := dk_42 (dk_at dksX10_symmetry_0 0 rfl rfl)
theorem dX10_symmetry_1 : decode cX10_symmetry 1 = .ok (.getfield 9, 3) := dk_180 0 9 (dk_at dksX10_symmetry_0 1 rfl rfl)
theorem dX10_symmetry_4 : decode cX10_symmetry 4 = .ok (.getfield 49, 3) := dk_180 0 49 (dk_at dksX10_symmetry_0 4 rfl rfl)
theorem dX10_symmetry_7 : decode cX10_symmetry 7 = .ok (.aload_n 0, 1) := dk_42 (dk_at dksX10_symmetry_0 7 rfl rfl)
theorem dX10_symmetry_8 : decode cX10_symmetry 8 = .ok (.getfield 15, 3) := dk_180 0 15 (dk_at dksX10_symmetry_0 8 rfl rfl)
theorem dX10_symmetry_11 : decode cX10_symmetry 11 = .ok (.getfield 49, 3) := dk_180 0 49 (dk_at dksX10_symmetry_0 11 rfl rfl)
theorem dX10_symmetry_14 : decode cX10_symmetry 14 = .ok (.lmul, 1) := dk_105 (dk_at dksX10_symmetry_0 14 rfl rfl)
theorem dX10_symmetry_15 : decode cX10_symmetry 15 = .ok (.aload_n 0, 1) := dk_42 (dk_at dksX10_symmetry_0 15 rfl rfl)
theorem dX10_symmetry_16 : decode cX10_symmetry 16 = .ok (.invokevirtual 37, 3) := dk_182 0 37 (dk_at dksX10_symmetry_0 16 rfl rfl)
theorem dX10_symmetry_19 : decode cX10_symmetry 19 = .ok (.ifCond .eq 9, 3) := dk_153 0 9 (dk_at dksX10_symmetry_0 19 rfl rfl)
theorem dX10_symmetry_22 : decode cX10_symmetry 22 = .ok (.ldc2_w 44, 3) := dk_20 0 44 (dk_at dksX10_symmetry_1 0 rfl rfl)
theorem dX10_symmetry_25 : decode cX10_symmetry 25 = .ok (.goto 4, 3) := dk_167 0 4 (dk_at dksX10_symmetry_1 3 rfl rfl)
theorem dX10_symmetry_28 : decode cX10_symmetry 28 = .ok (.lconst 1, 1) := dk_10 (dk_at dksX10_symmetry_1 6 rfl rfl)
theorem dX10_symmetry_29 : decode cX10_symmetry 29 = .ok (.lmul, 1) := dk_105 (dk_at dksX10_symmetry_1 7 rfl rfl)
theorem dX10_symmetry_30 : decode cX10_symmetry 30 = .ok (.lreturn, 1) := dk_173 (dk_at dksX10_symmetry_1 8 rfl rfl)
abbrev cX10_marked : ByteArray := prog_17_method_7_code
def yX10_marked : MethodName := ⟨RX10, "marked", "()[J"⟩
def dkwX10_marked_2 : List UInt8 := [190, 100, 182, 0, 52, 184, 0, 60, 176]
abbrev dktX10_marked_2 : List UInt8 := dkwX10_marked_2 ++ []
def dkwX10_marked_1 : List UInt8 := [153, 0, 11, 43, 5, 184, 0, 56, 167, 0, 24, 43, 42, 180, 0, 15, 6, 42, 180, 0, 15, 180, 0, 24]
abbrev dktX10_marked_1 : List UInt8 := dkwX10_marked_1 ++ dktX10_marked_2
def dkwX10_marked_0 : List UInt8 := [42, 180, 0, 9, 6, 42, 180, 0, 9, 180, 0, 24, 190, 100, 182, 0, 52, 76, 42, 182, 0, 37]
abbrev dktX10_marked_0 : List UInt8 := dkwX10_marked_0 ++ dktX10_marked_1
theorem dksX10_marked_0 : cX10_marked.data.toList.drop 0 = dktX10_marked_0 := by decide +kernel
theorem dksX10_marked_1 : cX10_marked.data.toList.drop 22 = dktX10_marked_1 := dk_seg dksX10_marked_0 22 rfl rfl
theorem dksX10_marked_2 : cX10_marked.data.toList.drop 46 = dktX10_marked_2 := dk_seg dksX10_marked_1 24 rfl rfl
theorem dX10_marked_0 : decode cX10_marked 0 = .ok (.aload_n 0, 1) := dk_42 (dk_at dksX10_marked_0 0 rfl rfl)
theorem dX10_marked_1 : decode cX10_marked 1 = .ok (.getfield 9, 3) := dk_180 0 9 (dk_at dksX10_marked_0 1 rfl rfl)
theorem dX10_marked_4 : decode cX10_marked 4 = .ok (.iconst 3, 1) := dk_6 (dk_at dksX10_marked_0 4 rfl rfl)
theorem dX10_marked_5 : decode cX10_marked 5 = .ok (.aload_n 0, 1) := dk_42 (dk_at dksX10_marked_0 5 rfl rfl)
theorem dX10_marked_6 : decode cX10_marked 6 = .ok (.getfield 9, 3) := dk_180 0 9 (dk_at dksX10_marked_0 6 rfl rfl)
theorem dX10_marked_9 : decode cX10_marked 9 = .ok (.getfield 24, 3) := dk_180 0 24 (dk_at dksX10_marked_0 9 rfl rfl)
theorem dX10_marked_12 : decode cX10_marked 12 = .ok (.arraylength, 1) := dk_190 (dk_at dksX10_marked_0 12 rfl rfl)
theorem dX10_marked_13 : decode cX10_marked 13 = .ok (.isub, 1) := dk_100 (dk_at dksX10_marked_0 13 rfl rfl)
theorem dX10_marked_14 : decode cX10_marked 14 = .ok (.invokevirtual 52, 3) := dk_182 0 52 (dk_at dksX10_marked_0 14 rfl rfl)
theorem dX10_marked_17 : decode cX10_marked 17 = .ok (.astore_n 1, 1) := dk_76 (dk_at dksX10_marked_0 17 rfl rfl)
theorem dX10_marked_18 : decode cX10_marked 18 = .ok (.aload_n 0, 1) := dk_42 (dk_at dksX10_marked_0 18 rfl rfl)
theorem dX10_marked_19 : decode cX10_marked 19 = .ok (.invokevirtual 37, 3) := dk_182 0 37 (dk_at dksX10_marked_0 19 rfl rfl)
theorem dX10_marked_22 : decode cX10_marked 22 = .ok (.ifCond .eq 11, 3) := dk_153 0 11 (dk_at dksX10_marked_1 0 rfl rfl)
theorem dX10_marked_25 : decode cX10_marked 25 = .ok (.aload_n 1, 1) := dk_43 (dk_at dksX10_marked_1 3 rfl rfl)
theorem dX10_marked_26 : decode cX10_marked 26 = .ok (.iconst 2, 1) := dk_5 (dk_at dksX10_marked_1 4 rfl rfl)
theorem dX10_marked_27 : decode cX10_marked 27 = .ok (.invokestatic 56, 3) := dk_184 0 56 (dk_at dksX10_marked_1 5 rfl rfl)
theorem dX10_marked_30 : decode cX10_marked 30 = .ok (.goto 24, 3) := dk_167 0 24 (dk_at dksX10_marked_1 8 rfl rfl)
theorem dX10_marked_33 : decode cX10_marked 33 = .ok (.aload_n 1, 1) := dk_43 (dk_at dksX10_marked_1 11 rfl rfl)
theorem dX10_marked_34 : decode cX10_marked 34 = .ok (.aload_n 0, 1) := dk_42 (dk_at dksX10_marked_1 12 rfl rfl)
theorem dX10_marked_35 : decode cX10_marked 35 = .ok (.getfield 15, 3) := dk_180 0 15 (dk_at dksX10_marked_1 13 rfl rfl)
theorem dX10_marked_38 : decode cX10_marked 38 = .ok (.iconst 3, 1) := dk_6 (dk_at dksX10_marked_1 16 rfl rfl)
theorem dX10_marked_39 : decode cX10_marked 39 = .ok (.aload_n 0, 1) := dk_42 (dk_at dksX10_marked_1 17 rfl rfl)
theorem dX10_marked_40 : decode cX10_marked 40 = .ok (.getfield 15, 3) := dk_180 0 15 (dk_at dksX10_marked_1 18 rfl rfl)
theorem dX10_marked_43 : decode cX10_marked 43 = .ok (.getfield 24, 3) := dk_180 0 24 (dk_at dksX10_marked_1 21 rfl rfl)
theorem dX10_marked_46 : decode cX10_marked 46 = .ok (.arraylength, 1) := dk_190 (dk_at dksX10_marked_2 0 rfl rfl)
theorem dX10_marked_47 : decode cX10_marked 47 = .ok (.isub, 1) := dk_100 (dk_at dksX10_marked_2 1 rfl rfl)
theorem dX10_marked_48 : decode cX10_marked 48 = .ok (.invokevirtual 52, 3) := dk_182 0 52 (dk_at dksX10_marked_2 2 rfl rfl)
theorem dX10_marked_51 : decode cX10_marked 51 = .ok (.invokestatic 60, 3) := dk_184 0 60 (dk_at dksX10_marked_2 5 rfl rfl)
theorem dX10_marked_54 : decode cX10_marked 54 = .ok (.areturn, 1) := dk_176 (dk_at dksX10_marked_2 8 rfl rfl)
theorem q166 : (Jvm.Cond.initialized "Skeletons$Two") ∈ lw_all := lw_g (lw_at lw_m1 38 rfl) rfl
theorem q708 : (Jvm.Cond.selects "Skeletons$Two" ({ cls := "java/lang/Object", name := "getClass", desc := "()Ljava/lang/Class;" } : Jvm.MethodName) ({ cls := "java/lang/Object", name := "getClass", desc := "()Ljava/lang/Class;" } : Jvm.MethodName)) ∈ lw_all := lw_g (lw_at lw_m3 100 rfl) rfl
theorem q791 : (Jvm.Cond.fieldLinkNest "Skeletons$Two" (24 : Nat) "Skeletons$Branch" "parts" "[LSkeletons$Branch;" "Skeletons") ∈ lw_tbl := lw_at lw_m3 183 rfl
theorem q799 : (Jvm.Cond.fieldLinkNest "Skeletons$Two" (49 : Nat) "Skeletons$Branch" "ways" "J" "Skeletons") ∈ lw_tbl := lw_at lw_m3 191 rfl
theorem q802 : (Jvm.Cond.fieldLinkNest "Skeletons$Two" (40 : Nat) "Skeletons$Branch" "forms" "J" "Skeletons") ∈ lw_tbl := lw_at lw_m3 194 rfl
theorem q805 : (Jvm.Cond.fieldLinkNest "Skeletons$Two" (46 : Nat) "Skeletons$Branch" "own" "J" "Skeletons") ∈ lw_tbl := lw_at lw_m3 197 rfl
theorem q969 : (Jvm.Cond.castable "Skeletons$Two" "Skeletons$Whole") ∈ lw_tbl := lw_at lw_m4 121 rfl
theorem q970 : (Jvm.Cond.selects "Skeletons$Two" ({ cls := "Skeletons$Whole", name := "root", desc := "()LSkeletons$Branch;" } : Jvm.MethodName) ({ cls := "Skeletons$Two", name := "root", desc := "()LSkeletons$Branch;" } : Jvm.MethodName)) ∈ lw_all := lw_g (lw_at lw_m4 122 rfl) rfl
theorem q971 : (Jvm.Cond.unhidden "Skeletons$Two" "root" "()LSkeletons$Branch;") ∈ lw_tbl := lw_at lw_m4 123 rfl
theorem q972 : (Jvm.Cond.instanceMethod ({ cls := "Skeletons$Two", name := "root", desc := "()LSkeletons$Branch;" } : Jvm.MethodName)) ∈ lw_all := lw_g (lw_at lw_m4 124 rfl) rfl
theorem q973 : (Jvm.Cond.publicMethod ({ cls := "Skeletons$Two", name := "root", desc := "()LSkeletons$Branch;" } : Jvm.MethodName)) ∈ lw_tbl := lw_at lw_m4 125 rfl
theorem q974 : (Jvm.Cond.code ({ cls := "Skeletons$Two", name := "root", desc := "()LSkeletons$Branch;" } : Jvm.MethodName) prog_17_method_3_code (2 : Nat) (Option.some (Jvm.ClassFile.FieldType.object "Skeletons$Branch"))) ∈ lw_all := lw_g (lw_at lw_m4 126 rfl) rfl
theorem q975 : (Jvm.Cond.classLink "Skeletons$Two" (19 : Nat) "Skeletons$Branch") ∈ lw_all := lw_g (lw_at lw_m4 127 rfl) rfl
theorem q976 : (Jvm.Cond.methodLink "Skeletons$Two" (28 : Nat) ({ cls := "java/lang/System", name := "arraycopy", desc := "(Ljava/lang/Object;ILjava/lang/Object;II)V" } : Jvm.MethodName)) ∈ lw_all := lw_g (lw_at lw_m4 128 rfl) rfl
theorem q977 : (Jvm.Cond.methodLink "Skeletons$Two" (34 : Nat) ({ cls := "Skeletons$Branch", name := "<init>", desc := "([LSkeletons$Branch;)V" } : Jvm.MethodName)) ∈ lw_all := lw_g (lw_at lw_m4 129 rfl) rfl
theorem q983 : (Jvm.Cond.unhidden "Skeletons$Two" "code" "()[I") ∈ lw_tbl := lw_at lw_m4 135 rfl
theorem q1483 : (Jvm.Cond.instantiable "Skeletons$Two" (2 : Nat)) ∈ lw_all := lw_g (lw_at lw_m6 155 rfl) rfl
theorem q1485 : (Jvm.Cond.instanceMethod ({ cls := "Skeletons$Two", name := "<init>", desc := "(LSkeletons$Branch;LSkeletons$Branch;)V" } : Jvm.MethodName)) ∈ lw_all := lw_g (lw_at lw_m6 157 rfl) rfl
theorem q1486 : (Jvm.Cond.code ({ cls := "Skeletons$Two", name := "<init>", desc := "(LSkeletons$Branch;LSkeletons$Branch;)V" } : Jvm.MethodName) prog_17_method_1_code (3 : Nat) (Option.none : Option Jvm.ClassFile.FieldType)) ∈ lw_all := lw_g (lw_at lw_m6 158 rfl) rfl
theorem q1487 : (Jvm.Cond.methodLink "Skeletons$Two" (3 : Nat) ({ cls := "java/lang/Record", name := "<init>", desc := "()V" } : Jvm.MethodName)) ∈ lw_all := lw_g (lw_at lw_m6 159 rfl) rfl
theorem q1488 : (Jvm.Cond.fieldLink "Skeletons$Two" (9 : Nat) "Skeletons$Two" "half" "LSkeletons$Branch;") ∈ lw_all := lw_g (lw_at lw_m6 160 rfl) rfl
theorem q1489 : (Jvm.Cond.fieldLink "Skeletons$Two" (15 : Nat) "Skeletons$Two" "other" "LSkeletons$Branch;") ∈ lw_all := lw_g (lw_at lw_m6 161 rfl) rfl
theorem q1490 : (Jvm.Cond.laysFinal "Skeletons$Two" "Skeletons$Two" "half" "LSkeletons$Branch;") ∈ lw_all := lw_g (lw_at lw_m6 162 rfl) rfl
theorem q1491 : (Jvm.Cond.soleField "Skeletons$Two" "half") ∈ lw_all := lw_g (lw_at lw_m6 163 rfl) rfl
theorem q1492 : (Jvm.Cond.laysFinal "Skeletons$Two" "Skeletons$Two" "other" "LSkeletons$Branch;") ∈ lw_all := lw_g (lw_at lw_m6 164 rfl) rfl
theorem q1493 : (Jvm.Cond.soleField "Skeletons$Two" "other") ∈ lw_all := lw_g (lw_at lw_m6 165 rfl) rfl
theorem q1494 : (Jvm.Cond.superclass "Skeletons$Two" "java/lang/Record") ∈ lw_all := lw_g (lw_at lw_m6 166 rfl) rfl
theorem q1795 : (Jvm.Cond.selects "Skeletons$Two" ({ cls := "Skeletons$Whole", name := "forms", desc := "()J" } : Jvm.MethodName) ({ cls := "Skeletons$Two", name := "forms", desc := "()J" } : Jvm.MethodName)) ∈ lw_all := lw_g (lw_at lw_m7 227 rfl) rfl
theorem q1796 : (Jvm.Cond.unhidden "Skeletons$Two" "forms" "()J") ∈ lw_tbl := lw_at lw_m7 228 rfl
theorem q1797 : (Jvm.Cond.instanceMethod ({ cls := "Skeletons$Two", name := "forms", desc := "()J" } : Jvm.MethodName)) ∈ lw_all := lw_g (lw_at lw_m7 229 rfl) rfl
theorem q1798 : (Jvm.Cond.publicMethod ({ cls := "Skeletons$Two", name := "forms", desc := "()J" } : Jvm.MethodName)) ∈ lw_tbl := lw_at lw_m7 230 rfl
theorem q1799 : (Jvm.Cond.code ({ cls := "Skeletons$Two", name := "forms", desc := "()J" } : Jvm.MethodName) prog_17_method_4_code (1 : Nat) (Option.some Jvm.ClassFile.FieldType.long)) ∈ lw_all := lw_g (lw_at lw_m7 231 rfl) rfl
theorem q1800 : (Jvm.Cond.methodLink "Skeletons$Two" (37 : Nat) ({ cls := "Skeletons$Two", name := "areLike", desc := "()Z" } : Jvm.MethodName)) ∈ lw_all := lw_g (lw_at lw_m7 232 rfl) rfl
theorem q1801 : (Jvm.Cond.privateMethod ({ cls := "Skeletons$Two", name := "areLike", desc := "()Z" } : Jvm.MethodName)) ∈ lw_tbl := lw_at lw_m7 233 rfl
theorem q1802 : (Jvm.Cond.instanceMethod ({ cls := "Skeletons$Two", name := "areLike", desc := "()Z" } : Jvm.MethodName)) ∈ lw_all := lw_g (lw_at lw_m7 234 rfl) rfl
theorem q1803 : (Jvm.Cond.code ({ cls := "Skeletons$Two", name := "areLike", desc := "()Z" } : Jvm.MethodName) prog_17_method_2_code (1 : Nat) (Option.some Jvm.ClassFile.FieldType.boolean)) ∈ lw_all := lw_g (lw_at lw_m7 235 rfl) rfl
theorem q1804 : (Jvm.Cond.methodLink "Skeletons$Two" (18 : Nat) ({ cls := "Skeletons$Branch", name := "areLike", desc := "(LSkeletons$Branch;LSkeletons$Branch;)Z" } : Jvm.MethodName)) ∈ lw_all := lw_g (lw_at lw_m7 236 rfl) rfl
theorem q1805 : (Jvm.Cond.constantLong "Skeletons$Two" (44 : Nat) (2 : Int64)) ∈ lw_all := lw_g (lw_at lw_m7 237 rfl) rfl
theorem q1824 : (Jvm.Cond.selects "Skeletons$Two" ({ cls := "Skeletons$Whole", name := "own", desc := "()J" } : Jvm.MethodName) ({ cls := "Skeletons$Two", name := "own", desc := "()J" } : Jvm.MethodName)) ∈ lw_all := lw_g (lw_at lw_m8 16 rfl) rfl
theorem q1825 : (Jvm.Cond.unhidden "Skeletons$Two" "own" "()J") ∈ lw_tbl := lw_at lw_m8 17 rfl
theorem q1826 : (Jvm.Cond.instanceMethod ({ cls := "Skeletons$Two", name := "own", desc := "()J" } : Jvm.MethodName)) ∈ lw_all := lw_g (lw_at lw_m8 18 rfl) rfl
theorem q1827 : (Jvm.Cond.publicMethod ({ cls := "Skeletons$Two", name := "own", desc := "()J" } : Jvm.MethodName)) ∈ lw_tbl := lw_at lw_m8 19 rfl
theorem q1828 : (Jvm.Cond.code ({ cls := "Skeletons$Two", name := "own", desc := "()J" } : Jvm.MethodName) prog_17_method_5_code (1 : Nat) (Option.some Jvm.ClassFile.FieldType.long)) ∈ lw_all := lw_g (lw_at lw_m8 20 rfl) rfl
theorem q1842 : (Jvm.Cond.selects "Skeletons$Two" ({ cls := "Skeletons$Whole", name := "symmetry", desc := "()J" } : Jvm.MethodName) ({ cls := "Skeletons$Two", name := "symmetry", desc := "()J" } : Jvm.MethodName)) ∈ lw_all := lw_g (lw_at lw_m8 34 rfl) rfl
theorem q1843 : (Jvm.Cond.unhidden "Skeletons$Two" "symmetry" "()J") ∈ lw_tbl := lw_at lw_m8 35 rfl
theorem q1844 : (Jvm.Cond.instanceMethod ({ cls := "Skeletons$Two", name := "symmetry", desc := "()J" } : Jvm.MethodName)) ∈ lw_all := lw_g (lw_at lw_m8 36 rfl) rfl
theorem q1845 : (Jvm.Cond.publicMethod ({ cls := "Skeletons$Two", name := "symmetry", desc := "()J" } : Jvm.MethodName)) ∈ lw_tbl := lw_at lw_m8 37 rfl
theorem q1846 : (Jvm.Cond.code ({ cls := "Skeletons$Two", name := "symmetry", desc := "()J" } : Jvm.MethodName) prog_17_method_6_code (1 : Nat) (Option.some Jvm.ClassFile.FieldType.long)) ∈ lw_all := lw_g (lw_at lw_m8 38 rfl) rfl
theorem q1877 : (Jvm.Cond.selects "Skeletons$Two" ({ cls := "Skeletons$Whole", name := "marked", desc := "()[J" } : Jvm.MethodName) ({ cls := "Skeletons$Two", name := "marked", desc := "()[J" } : Jvm.MethodName)) ∈ lw_all := lw_g (lw_at lw_m8 69 rfl) rfl
theorem q1878 : (Jvm.Cond.unhidden "Skeletons$Two" "marked" "()[J") ∈ lw_tbl := lw_at lw_m8 70 rfl
theorem q1879 : (Jvm.Cond.instanceMethod ({ cls := "Skeletons$Two", name := "marked", desc := "()[J" } : Jvm.MethodName)) ∈ lw_all := lw_g (lw_at lw_m8 71 rfl) rfl
theorem q1880 : (Jvm.Cond.publicMethod ({ cls := "Skeletons$Two", name := "marked", desc := "()[J" } : Jvm.MethodName)) ∈ lw_tbl := lw_at lw_m8 72 rfl
theorem q1881 : (Jvm.Cond.code ({ cls := "Skeletons$Two", name := "marked", desc := "()[J" } : Jvm.MethodName) prog_17_method_7_code (2 : Nat) (Option.some (Jvm.ClassFile.FieldType.array Jvm.ClassFile.FieldType.long))) ∈ lw_all := lw_g (lw_at lw_m8 73 rfl) rfl
theorem q1882 : (Jvm.Cond.methodLink "Skeletons$Two" (52 : Nat) ({ cls := "Skeletons$Branch", name := "marked", desc := "(I)[J" } : Jvm.MethodName)) ∈ lw_all := lw_g (lw_at lw_m8 74 rfl) rfl
theorem q1883 : (Jvm.Cond.methodLink "Skeletons$Two" (56 : Nat) ({ cls := "Skeletons$Branch", name := "several", desc := "([JI)[J" } : Jvm.MethodName)) ∈ lw_all := lw_g (lw_at lw_m8 75 rfl) rfl
theorem q1884 : (Jvm.Cond.methodLink "Skeletons$Two" (60 : Nat) ({ cls := "Skeletons$Branch", name := "times", desc := "([J[J)[J" } : Jvm.MethodName)) ∈ lw_all := lw_g (lw_at lw_m8 76 rfl) rfl
theorem q2793 : (Jvm.Cond.castable "Skeletons$Two" "java/lang/Object") ∈ lw_tbl := lw_at lw_m12 25 rfl
theorem in_X10 : ∀ w ∈ wsX100, w ∈ lw_all := lw_in wsX100 [1490, 1492] (by decide +kernel) (by decide +kernel)
/-! Skeletons$Count -/
set_option maxRecDepth 100000
def RX11 : String := "Skeletons$Count"
abbrev cX11_all : ByteArray := prog_4_method_6_code
def yX11_all : MethodName := ⟨RX11, "all", "(LSkeletons;I)J"⟩
def dkwX11_all_1 : List UInt8 := [182, 0, 36, 167, 0, 4, 9, 97, 173]
abbrev dktX11_all_1 : List UInt8 := dkwX11_all_1 ++ []
def dkwX11_all_0 : List UInt8 := [42, 43, 28, 4, 100, 28, 4, 100, 5, 108, 182, 0, 32, 28, 5, 112, 154, 0, 14, 42, 43, 28, 5, 108]
abbrev dktX11_all_0 : List UInt8 := dkwX11_all_0 ++ dktX11_all_1
theorem dksX11_all_0 : cX11_all.data.toList.drop 0 = dktX11_all_0 := by decide +kernel
theorem dksX11_all_1 : cX11_all.data.toList.drop 24 = dktX11_all_1 := dk_seg dksX11_all_0 24 rfl rfl
theorem dX11_all_0 : decode cX11_all 0 = .ok (.aload_n 0, 1) := dk_42 (dk_at dksX11_all_0 0 rfl rfl)
theorem dX11_all_1 : decode cX11_all 1 = .ok (.aload_n 1, 1) := dk_43 (dk_at dksX11_all_0 1 rfl rfl)
theorem dX11_all_2 : decode cX11_all 2 = .ok (.iload_n 2, 1) := dk_28 (dk_at dksX11_all_0 2 rfl rfl)
theorem dX11_all_3 : decode cX11_all 3 = .ok (.iconst 1, 1) := dk_4 (dk_at dksX11_all_0 3 rfl rfl)
theorem dX11_all_4 : decode cX11_all 4 = .ok (.isub, 1) := dk_100 (dk_at dksX11_all_0 4 rfl rfl)
theorem dX11_all_5 : decode cX11_all 5 = .ok (.iload_n 2, 1) := dk_28 (dk_at dksX11_all_0 5 rfl rfl)
theorem dX11_all_6 : decode cX11_all 6 = .ok (.iconst 1, 1) := dk_4 (dk_at dksX11_all_0 6 rfl rfl)
theorem dX11_all_7 : decode cX11_all 7 = .ok (.isub, 1) := dk_100 (dk_at dksX11_all_0 7 rfl rfl)
theorem dX11_all_8 : decode cX11_all 8 = .ok (.iconst 2, 1) := dk_5 (dk_at dksX11_all_0 8 rfl rfl)
theorem dX11_all_9 : decode cX11_all 9 = .ok (.idiv, 1) := dk_108 (dk_at dksX11_all_0 9 rfl rfl)
theorem dX11_all_10 : decode cX11_all 10 = .ok (.invokevirtual 32, 3) := dk_182 0 32 (dk_at dksX11_all_0 10 rfl rfl)
theorem dX11_all_13 : decode cX11_all 13 = .ok (.iload_n 2, 1) := dk_28 (dk_at dksX11_all_0 13 rfl rfl)
theorem dX11_all_14 : decode cX11_all 14 = .ok (.iconst 2, 1) := dk_5 (dk_at dksX11_all_0 14 rfl rfl)
theorem dX11_all_15 : decode cX11_all 15 = .ok (.irem, 1) := dk_112 (dk_at dksX11_all_0 15 rfl rfl)
theorem dX11_all_16 : decode cX11_all 16 = .ok (.ifCond .ne 14, 3) := dk_154 0 14 (dk_at dksX11_all_0 16 rfl rfl)
theorem dX11_all_19 : decode cX11_all 19 = .ok (.aload_n 0, 1) := dk_42 (dk_at dksX11_all_0 19 rfl rfl)
theorem dX11_all_20 : decode cX11_all 20 = .ok (.aload_n 1, 1) := dk_43 (dk_at dksX11_all_0 20 rfl rfl)
theorem dX11_all_21 : decode cX11_all 21 = .ok (.iload_n 2, 1) := dk_28 (dk_at dksX11_all_0 21 rfl rfl)
theorem dX11_all_22 : decode cX11_all 22 = .ok (.iconst 2, 1) := dk_5 (dk_at dksX11_all_0 22 rfl rfl)
theorem dX11_all_23 : decode cX11_all 23 = .ok (.idiv, 1) := dk_108 (dk_at dksX11_all_0 23 rfl rfl)
theorem dX11_all_24 : decode cX11_all 24 = .ok (.invokevirtual 36, 3) := dk_182 0 36 (dk_at dksX11_all_1 0 rfl rfl)
theorem dX11_all_27 : decode cX11_all 27 = .ok (.goto 4, 3) := dk_167 0 4 (dk_at dksX11_all_1 3 rfl rfl)
theorem dX11_all_30 : decode cX11_all 30 = .ok (.lconst 0, 1) := dk_9 (dk_at dksX11_all_1 6 rfl rfl)
theorem dX11_all_31 : decode cX11_all 31 = .ok (.ladd, 1) := dk_97 (dk_at dksX11_all_1 7 rfl rfl)
theorem dX11_all_32 : decode cX11_all 32 = .ok (.lreturn, 1) := dk_173 (dk_at dksX11_all_1 8 rfl rfl)
theorem q170 : (Jvm.Cond.initialized "Skeletons$Count") ∈ lw_all := lw_g (lw_at lw_m1 42 rfl) rfl
theorem q202 : (Jvm.Cond.laysStatic "Skeletons$Count" "SKELETONS" "LSkeletons$Count;") ∈ lw_tbl := lw_at lw_m1 74 rfl
theorem q204 : (Jvm.Cond.instanceMethod ({ cls := "Skeletons$Count", name := "all", desc := "(LSkeletons;I)J" } : Jvm.MethodName)) ∈ lw_all := lw_g (lw_at lw_m1 76 rfl) rfl
theorem q205 : (Jvm.Cond.sameMethod "Skeletons$Count" "Skeletons$Count" "all" "(LSkeletons;I)J") ∈ lw_all := lw_g (lw_at lw_m1 77 rfl) rfl
theorem q209 : (Jvm.Cond.code ({ cls := "Skeletons$Count", name := "all", desc := "(LSkeletons;I)J" } : Jvm.MethodName) prog_4_method_6_code (3 : Nat) (Option.some Jvm.ClassFile.FieldType.long)) ∈ lw_all := lw_g (lw_at lw_m1 81 rfl) rfl
theorem q210 : (Jvm.Cond.methodLink "Skeletons$Count" (32 : Nat) ({ cls := "Skeletons$Count", name := "one", desc := "(LSkeletons;II)J" } : Jvm.MethodName)) ∈ lw_all := lw_g (lw_at lw_m1 82 rfl) rfl
theorem q211 : (Jvm.Cond.declares ({ cls := "Skeletons$Count", name := "one", desc := "(LSkeletons;II)J" } : Jvm.MethodName)) ∈ lw_tbl := lw_at lw_m1 83 rfl
theorem q212 : (Jvm.Cond.sameMethod "Skeletons$Count" "Skeletons$Count" "one" "(LSkeletons;II)J") ∈ lw_all := lw_g (lw_at lw_m1 84 rfl) rfl
theorem q239 : (Jvm.Cond.methodLink "Skeletons$Count" (36 : Nat) ({ cls := "Skeletons$Count", name := "two", desc := "(LSkeletons;I)J" } : Jvm.MethodName)) ∈ lw_all := lw_g (lw_at lw_m1 111 rfl) rfl
theorem q240 : (Jvm.Cond.declares ({ cls := "Skeletons$Count", name := "two", desc := "(LSkeletons;I)J" } : Jvm.MethodName)) ∈ lw_tbl := lw_at lw_m1 112 rfl
theorem q241 : (Jvm.Cond.sameMethod "Skeletons$Count" "Skeletons$Count" "two" "(LSkeletons;I)J") ∈ lw_all := lw_g (lw_at lw_m1 113 rfl) rfl
theorem q254 : (Jvm.Cond.laysStatic "Skeletons$Count" "FORMS" "LSkeletons$Count;") ∈ lw_tbl := lw_at lw_m1 126 rfl
theorem q256 : (Jvm.Cond.laysStatic "Skeletons$Count" "OWN" "LSkeletons$Count;") ∈ lw_tbl := lw_at lw_m1 128 rfl
theorem q2807 : (Jvm.Cond.castable "Skeletons$Count" "java/lang/Object") ∈ lw_tbl := lw_at lw_m12 39 rfl
/-! Skeletons$Count$1 -/
set_option maxRecDepth 100000
def RX12 : String := "Skeletons$Count$1"
abbrev cX12_one : ByteArray := prog_5_method_2_code
def yX12_one : MethodName := ⟨RX12, "one", "(LSkeletons;II)J"⟩
def dkwX12_one_9 : List UInt8 := [173]
abbrev dktX12_one_9 : List UInt8 := dkwX12_one_9 ++ []
def dkwX12_one_8 : List UInt8 := [89, 3, 25, 4, 83, 184, 0, 14, 4, 188, 10, 89, 3, 7, 79, 184, 0, 18, 105, 97, 20, 0, 28, 109]
abbrev dktX12_one_8 : List UInt8 := dkwX12_one_8 ++ dktX12_one_9
def dkwX12_one_7 : List UInt8 := [188, 10, 89, 3, 4, 79, 89, 4, 6, 79, 184, 0, 18, 105, 97, 20, 0, 22, 28, 29, 4, 189, 0, 13]
abbrev dktX12_one_7 : List UInt8 := dkwX12_one_7 ++ dktX12_one_8
def dkwX12_one_6 : List UInt8 := [20, 0, 26, 28, 29, 5, 189, 0, 13, 89, 3, 25, 4, 83, 89, 4, 25, 4, 83, 184, 0, 14, 5]
abbrev dktX12_one_6 : List UInt8 := dkwX12_one_6 ++ dktX12_one_7
def dkwX12_one_5 : List UInt8 := [25, 4, 83, 184, 0, 14, 5, 188, 10, 89, 3, 5, 79, 89, 4, 5, 79, 184, 0, 18, 105, 97]
abbrev dktX12_one_5 : List UInt8 := dkwX12_one_5 ++ dktX12_one_6
def dkwX12_one_4 : List UInt8 := [5, 5, 79, 184, 0, 18, 105, 97, 20, 0, 24, 28, 29, 5, 189, 0, 13, 89, 3, 25, 4, 83, 89, 4]
abbrev dktX12_one_4 : List UInt8 := dkwX12_one_4 ++ dktX12_one_5
def dkwX12_one_3 : List UInt8 := [4, 25, 4, 83, 89, 5, 25, 4, 83, 184, 0, 14, 6, 188, 10, 89, 3, 4, 79, 89, 4, 4, 79, 89]
abbrev dktX12_one_3 : List UInt8 := dkwX12_one_3 ++ dktX12_one_4
def dkwX12_one_2 : List UInt8 := [4, 79, 89, 6, 4, 79, 184, 0, 18, 20, 0, 22, 28, 29, 6, 189, 0, 13, 89, 3, 25, 4, 83, 89]
abbrev dktX12_one_2 : List UInt8 := dkwX12_one_2 ++ dktX12_one_3
def dkwX12_one_1 : List UInt8 := [25, 4, 83, 89, 6, 25, 4, 83, 184, 0, 14, 7, 188, 10, 89, 3, 4, 79, 89, 4, 4, 79, 89, 5]
abbrev dktX12_one_1 : List UInt8 := dkwX12_one_1 ++ dktX12_one_2
def dkwX12_one_0 : List UInt8 := [43, 180, 0, 7, 58, 4, 28, 29, 7, 189, 0, 13, 89, 3, 25, 4, 83, 89, 4, 25, 4, 83, 89, 5]
abbrev dktX12_one_0 : List UInt8 := dkwX12_one_0 ++ dktX12_one_1
theorem dksX12_one_0 : cX12_one.data.toList.drop 0 = dktX12_one_0 := by decide +kernel
theorem dksX12_one_1 : cX12_one.data.toList.drop 24 = dktX12_one_1 := dk_seg dksX12_one_0 24 rfl rfl
theorem dksX12_one_2 : cX12_one.data.toList.drop 48 = dktX12_one_2 := dk_seg dksX12_one_1 24 rfl rfl
theorem dksX12_one_3 : cX12_one.data.toList.drop 72 = dktX12_one_3 := dk_seg dksX12_one_2 24 rfl rfl
theorem dksX12_one_4 : cX12_one.data.toList.drop 96 = dktX12_one_4 := dk_seg dksX12_one_3 24 rfl rfl
theorem dksX12_one_5 : cX12_one.data.toList.drop 120 = dktX12_one_5 := dk_seg dksX12_one_4 24 rfl rfl
theorem dksX12_one_6 : cX12_one.data.toList.drop 142 = dktX12_one_6 := dk_seg dksX12_one_5 22 rfl rfl
theorem dksX12_one_7 : cX12_one.data.toList.drop 165 = dktX12_one_7 := dk_seg dksX12_one_6 23 rfl rfl
theorem dksX12_one_8 : cX12_one.data.toList.drop 189 = dktX12_one_8 := dk_seg dksX12_one_7 24 rfl rfl
theorem dksX12_one_9 : cX12_one.data.toList.drop 213 = dktX12_one_9 := dk_seg dksX12_one_8 24 rfl rfl
theorem dX12_one_0 : decode cX12_one 0 = .ok (.aload_n 1, 1) := dk_43 (dk_at dksX12_one_0 0 rfl rfl)
theorem dX12_one_1 : decode cX12_one 1 = .ok (.getfield 7, 3) := dk_180 0 7 (dk_at dksX12_one_0 1 rfl rfl)
theorem dX12_one_4 : decode cX12_one 4 = .ok (.astore 4, 2) := dk_58 4 (dk_at dksX12_one_0 4 rfl rfl)
theorem dX12_one_6 : decode cX12_one 6 = .ok (.iload_n 2, 1) := dk_28 (dk_at dksX12_one_0 6 rfl rfl)
theorem dX12_one_7 : decode cX12_one 7 = .ok (.iload_n 3, 1) := dk_29 (dk_at dksX12_one_0 7 rfl rfl)
theorem dX12_one_8 : decode cX12_one 8 = .ok (.iconst 4, 1) := dk_7 (dk_at dksX12_one_0 8 rfl rfl)
theorem dX12_one_9 : decode cX12_one 9 = .ok (.anewarray 13, 3) := dk_189 0 13 (dk_at dksX12_one_0 9 rfl rfl)
theorem dX12_one_12 : decode cX12_one 12 = .ok (.dup, 1) := dk_89 (dk_at dksX12_one_0 12 rfl rfl)
theorem dX12_one_13 : decode cX12_one 13 = .ok (.iconst 0, 1) := dk_3 (dk_at dksX12_one_0 13 rfl rfl)
theorem dX12_one_14 : decode cX12_one 14 = .ok (.aload 4, 2) := dk_25 4 (dk_at dksX12_one_0 14 rfl rfl)
theorem dX12_one_16 : decode cX12_one 16 = .ok (.aastore, 1) := dk_83 (dk_at dksX12_one_0 16 rfl rfl)
theorem dX12_one_17 : decode cX12_one 17 = .ok (.dup, 1) := dk_89 (dk_at dksX12_one_0 17 rfl rfl)
theorem dX12_one_18 : decode cX12_one 18 = .ok (.iconst 1, 1) := dk_4 (dk_at dksX12_one_0 18 rfl rfl)
theorem dX12_one_19 : decode cX12_one 19 = .ok (.aload 4, 2) := dk_25 4 (dk_at dksX12_one_0 19 rfl rfl)
theorem dX12_one_21 : decode cX12_one 21 = .ok (.aastore, 1) := dk_83 (dk_at dksX12_one_0 21 rfl rfl)
theorem dX12_one_22 : decode cX12_one 22 = .ok (.dup, 1) := dk_89 (dk_at dksX12_one_0 22 rfl rfl)
theorem dX12_one_23 : decode cX12_one 23 = .ok (.iconst 2, 1) := dk_5 (dk_at dksX12_one_0 23 rfl rfl)
theorem dX12_one_24 : decode cX12_one 24 = .ok (.aload 4, 2) := dk_25 4 (dk_at dksX12_one_1 0 rfl rfl)
theorem dX12_one_26 : decode cX12_one 26 = .ok (.aastore, 1) := dk_83 (dk_at dksX12_one_1 2 rfl rfl)
theorem dX12_one_27 : decode cX12_one 27 = .ok (.dup, 1) := dk_89 (dk_at dksX12_one_1 3 rfl rfl)
theorem dX12_one_28 : decode cX12_one 28 = .ok (.iconst 3, 1) := dk_6 (dk_at dksX12_one_1 4 rfl rfl)
theorem dX12_one_29 : decode cX12_one 29 = .ok (.aload 4, 2) := dk_25 4 (dk_at dksX12_one_1 5 rfl rfl)
theorem dX12_one_31 : decode cX12_one 31 = .ok (.aastore, 1) := dk_83 (dk_at dksX12_one_1 7 rfl rfl)
theorem dX12_one_32 : decode cX12_one 32 = .ok (.invokestatic 14, 3) := dk_184 0 14 (dk_at dksX12_one_1 8 rfl rfl)
theorem dX12_one_35 : decode cX12_one 35 = .ok (.iconst 4, 1) := dk_7 (dk_at dksX12_one_1 11 rfl rfl)
theorem dX12_one_36 : decode cX12_one 36 = .ok (.newarray .int, 2) := dk_188_10 (dk_at dksX12_one_1 12 rfl rfl)
theorem dX12_one_38 : decode cX12_one 38 = .ok (.dup, 1) := dk_89 (dk_at dksX12_one_1 14 rfl rfl)
theorem dX12_one_39 : decode cX12_one 39 = .ok (.iconst 0, 1) := dk_3 (dk_at dksX12_one_1 15 rfl rfl)
theorem dX12_one_40 : decode cX12_one 40 = .ok (.iconst 1, 1) := dk_4 (dk_at dksX12_one_1 16 rfl rfl)
theorem dX12_one_41 : decode cX12_one 41 = .ok (.iastore, 1) := dk_79 (dk_at dksX12_one_1 17 rfl rfl)
theorem dX12_one_42 : decode cX12_one 42 = .ok (.dup, 1) := dk_89 (dk_at dksX12_one_1 18 rfl rfl)
theorem dX12_one_43 : decode cX12_one 43 = .ok (.iconst 1, 1) := dk_4 (dk_at dksX12_one_1 19 rfl rfl)
theorem dX12_one_44 : decode cX12_one 44 = .ok (.iconst 1, 1) := dk_4 (dk_at dksX12_one_1 20 rfl rfl)
theorem dX12_one_45 : decode cX12_one 45 = .ok (.iastore, 1) := dk_79 (dk_at dksX12_one_1 21 rfl rfl)
theorem dX12_one_46 : decode cX12_one 46 = .ok (.dup, 1) := dk_89 (dk_at dksX12_one_1 22 rfl rfl)
theorem dX12_one_47 : decode cX12_one 47 = .ok (.iconst 2, 1) := dk_5 (dk_at dksX12_one_1 23 rfl rfl)
theorem dX12_one_48 : decode cX12_one 48 = .ok (.iconst 1, 1) := dk_4 (dk_at dksX12_one_2 0 rfl rfl)
theorem dX12_one_49 : decode cX12_one 49 = .ok (.iastore, 1) := dk_79 (dk_at dksX12_one_2 1 rfl rfl)
theorem dX12_one_50 : decode cX12_one 50 = .ok (.dup, 1) := dk_89 (dk_at dksX12_one_2 2 rfl rfl)
theorem dX12_one_51 : decode cX12_one 51 = .ok (.iconst 3, 1) := dk_6 (dk_at dksX12_one_2 3 rfl rfl)
theorem dX12_one_52 : decode cX12_one 52 = .ok (.iconst 1, 1) := dk_4 (dk_at dksX12_one_2 4 rfl rfl)
theorem dX12_one_53 : decode cX12_one 53 = .ok (.iastore, 1) := dk_79 (dk_at dksX12_one_2 5 rfl rfl)
theorem dX12_one_54 : decode cX12_one 54 = .ok (.invokestatic 18, 3) := dk_184 0 18 (dk_at dksX12_one_2 6 rfl rfl)
theorem dX12_one_57 : decode cX12_one 57 = .ok (.ldc2_w 22, 3) := dk_20 0 22 (dk_at dksX12_one_2 9 rfl rfl)
theorem dX12_one_60 : decode cX12_one 60 = .ok (.iload_n 2, 1) := dk_28 (dk_at dksX12_one_2 12 rfl rfl)
theorem dX12_one_61 : decode cX12_one 61 = .ok (.iload_n 3, 1) := dk_29 (dk_at dksX12_one_2 13 rfl rfl)
theorem dX12_one_62 : decode cX12_one 62 = .ok (.iconst 3, 1) := dk_6 (dk_at dksX12_one_2 14 rfl rfl)
theorem dX12_one_63 : decode cX12_one 63 = .ok (.anewarray 13, 3) := dk_189 0 13 (dk_at dksX12_one_2 15 rfl rfl)
theorem dX12_one_66 : decode cX12_one 66 = .ok (.dup, 1) := dk_89 (dk_at dksX12_one_2 18 rfl rfl)
theorem dX12_one_67 : decode cX12_one 67 = .ok (.iconst 0, 1) := dk_3 (dk_at dksX12_one_2 19 rfl rfl)
theorem dX12_one_68 : decode cX12_one 68 = .ok (.aload 4, 2) := dk_25 4 (dk_at dksX12_one_2 20 rfl rfl)
theorem dX12_one_70 : decode cX12_one 70 = .ok (.aastore, 1) := dk_83 (dk_at dksX12_one_2 22 rfl rfl)
theorem dX12_one_71 : decode cX12_one 71 = .ok (.dup, 1) := dk_89 (dk_at dksX12_one_2 23 rfl rfl)
theorem dX12_one_72 : decode cX12_one 72 = .ok (.iconst 1, 1) := dk_4 (dk_at dksX12_one_3 0 rfl rfl)
theorem dX12_one_73 : decode cX12_one 73 = .ok (.aload 4, 2) := dk_25 4 (dk_at dksX12_one_3 1 rfl rfl)
theorem dX12_one_75 : decode cX12_one 75 = .ok (.aastore, 1) := dk_83 (dk_at dksX12_one_3 3 rfl rfl)
theorem dX12_one_76 : decode cX12_one 76 = .ok (.dup, 1) := dk_89 (dk_at dksX12_one_3 4 rfl rfl)
theorem dX12_one_77 : decode cX12_one 77 = .ok (.iconst 2, 1) := dk_5 (dk_at dksX12_one_3 5 rfl rfl)
theorem dX12_one_78 : decode cX12_one 78 = .ok (.aload 4, 2) := dk_25 4 (dk_at dksX12_one_3 6 rfl rfl)
theorem dX12_one_80 : decode cX12_one 80 = .ok (.aastore, 1) := dk_83 (dk_at dksX12_one_3 8 rfl rfl)
theorem dX12_one_81 : decode cX12_one 81 = .ok (.invokestatic 14, 3) := dk_184 0 14 (dk_at dksX12_one_3 9 rfl rfl)
theorem dX12_one_84 : decode cX12_one 84 = .ok (.iconst 3, 1) := dk_6 (dk_at dksX12_one_3 12 rfl rfl)
theorem dX12_one_85 : decode cX12_one 85 = .ok (.newarray .int, 2) := dk_188_10 (dk_at dksX12_one_3 13 rfl rfl)
theorem dX12_one_87 : decode cX12_one 87 = .ok (.dup, 1) := dk_89 (dk_at dksX12_one_3 15 rfl rfl)
theorem dX12_one_88 : decode cX12_one 88 = .ok (.iconst 0, 1) := dk_3 (dk_at dksX12_one_3 16 rfl rfl)
theorem dX12_one_89 : decode cX12_one 89 = .ok (.iconst 1, 1) := dk_4 (dk_at dksX12_one_3 17 rfl rfl)
theorem dX12_one_90 : decode cX12_one 90 = .ok (.iastore, 1) := dk_79 (dk_at dksX12_one_3 18 rfl rfl)
theorem dX12_one_91 : decode cX12_one 91 = .ok (.dup, 1) := dk_89 (dk_at dksX12_one_3 19 rfl rfl)
theorem dX12_one_92 : decode cX12_one 92 = .ok (.iconst 1, 1) := dk_4 (dk_at dksX12_one_3 20 rfl rfl)
theorem dX12_one_93 : decode cX12_one 93 = .ok (.iconst 1, 1) := dk_4 (dk_at dksX12_one_3 21 rfl rfl)
theorem dX12_one_94 : decode cX12_one 94 = .ok (.iastore, 1) := dk_79 (dk_at dksX12_one_3 22 rfl rfl)
theorem dX12_one_95 : decode cX12_one 95 = .ok (.dup, 1) := dk_89 (dk_at dksX12_one_3 23 rfl rfl)
theorem dX12_one_96 : decode cX12_one 96 = .ok (.iconst 2, 1) := dk_5 (dk_at dksX12_one_4 0 rfl rfl)
theorem dX12_one_97 : decode cX12_one 97 = .ok (.iconst 2, 1) := dk_5 (dk_at dksX12_one_4 1 rfl rfl)
theorem dX12_one_98 : decode cX12_one 98 = .ok (.iastore, 1) := dk_79 (dk_at dksX12_one_4 2 rfl rfl)
theorem dX12_one_99 : decode cX12_one 99 = .ok (.invokestatic 18, 3) := dk_184 0 18 (dk_at dksX12_one_4 3 rfl rfl)
theorem dX12_one_102 : decode cX12_one 102 = .ok (.lmul, 1) := dk_105 (dk_at dksX12_one_4 6 rfl rfl)
theorem dX12_one_103 : decode cX12_one 103 = .ok (.ladd, 1) := dk_97 (dk_at dksX12_one_4 7 rfl rfl)
theorem dX12_one_104 : decode cX12_one 104 = .ok (.ldc2_w 24, 3) := dk_20 0 24 (dk_at dksX12_one_4 8 rfl rfl)
theorem dX12_one_107 : decode cX12_one 107 = .ok (.iload_n 2, 1) := dk_28 (dk_at dksX12_one_4 11 rfl rfl)
theorem dX12_one_108 : decode cX12_one 108 = .ok (.iload_n 3, 1) := dk_29 (dk_at dksX12_one_4 12 rfl rfl)
theorem dX12_one_109 : decode cX12_one 109 = .ok (.iconst 2, 1) := dk_5 (dk_at dksX12_one_4 13 rfl rfl)
theorem dX12_one_110 : decode cX12_one 110 = .ok (.anewarray 13, 3) := dk_189 0 13 (dk_at dksX12_one_4 14 rfl rfl)
theorem dX12_one_113 : decode cX12_one 113 = .ok (.dup, 1) := dk_89 (dk_at dksX12_one_4 17 rfl rfl)
theorem dX12_one_114 : decode cX12_one 114 = .ok (.iconst 0, 1) := dk_3 (dk_at dksX12_one_4 18 rfl rfl)
theorem dX12_one_115 : decode cX12_one 115 = .ok (.aload 4, 2) := dk_25 4 (dk_at dksX12_one_4 19 rfl rfl)
theorem dX12_one_117 : decode cX12_one 117 = .ok (.aastore, 1) := dk_83 (dk_at dksX12_one_4 21 rfl rfl)
theorem dX12_one_118 : decode cX12_one 118 = .ok (.dup, 1) := dk_89 (dk_at dksX12_one_4 22 rfl rfl)
theorem dX12_one_119 : decode cX12_one 119 = .ok (.iconst 1, 1) := dk_4 (dk_at dksX12_one_4 23 rfl rfl)
theorem dX12_one_120 : decode cX12_one 120 = .ok (.aload 4, 2) := dk_25 4 (dk_at dksX12_one_5 0 rfl rfl)
theorem dX12_one_122 : decode cX12_one 122 = .ok (.aastore, 1) := dk_83 (dk_at dksX12_one_5 2 rfl rfl)
theorem dX12_one_123 : decode cX12_one 123 = .ok (.invokestatic 14, 3) := dk_184 0 14 (dk_at dksX12_one_5 3 rfl rfl)
theorem dX12_one_126 : decode cX12_one 126 = .ok (.iconst 2, 1) := dk_5 (dk_at dksX12_one_5 6 rfl rfl)
theorem dX12_one_127 : decode cX12_one 127 = .ok (.newarray .int, 2) := dk_188_10 (dk_at dksX12_one_5 7 rfl rfl)
theorem dX12_one_129 : decode cX12_one 129 = .ok (.dup, 1) := dk_89 (dk_at dksX12_one_5 9 rfl rfl)
theorem dX12_one_130 : decode cX12_one 130 = .ok (.iconst 0, 1) := dk_3 (dk_at dksX12_one_5 10 rfl rfl)
theorem dX12_one_131 : decode cX12_one 131 = .ok (.iconst 2, 1) := dk_5 (dk_at dksX12_one_5 11 rfl rfl)
theorem dX12_one_132 : decode cX12_one 132 = .ok (.iastore, 1) := dk_79 (dk_at dksX12_one_5 12 rfl rfl)
theorem dX12_one_133 : decode cX12_one 133 = .ok (.dup, 1) := dk_89 (dk_at dksX12_one_5 13 rfl rfl)
theorem dX12_one_134 : decode cX12_one 134 = .ok (.iconst 1, 1) := dk_4 (dk_at dksX12_one_5 14 rfl rfl)
theorem dX12_one_135 : decode cX12_one 135 = .ok (.iconst 2, 1) := dk_5 (dk_at dksX12_one_5 15 rfl rfl)
theorem dX12_one_136 : decode cX12_one 136 = .ok (.iastore, 1) := dk_79 (dk_at dksX12_one_5 16 rfl rfl)
theorem dX12_one_137 : decode cX12_one 137 = .ok (.invokestatic 18, 3) := dk_184 0 18 (dk_at dksX12_one_5 17 rfl rfl)
theorem dX12_one_140 : decode cX12_one 140 = .ok (.lmul, 1) := dk_105 (dk_at dksX12_one_5 20 rfl rfl)
theorem dX12_one_141 : decode cX12_one 141 = .ok (.ladd, 1) := dk_97 (dk_at dksX12_one_5 21 rfl rfl)
theorem dX12_one_142 : decode cX12_one 142 = .ok (.ldc2_w 26, 3) := dk_20 0 26 (dk_at dksX12_one_6 0 rfl rfl)
theorem dX12_one_145 : decode cX12_one 145 = .ok (.iload_n 2, 1) := dk_28 (dk_at dksX12_one_6 3 rfl rfl)
theorem dX12_one_146 : decode cX12_one 146 = .ok (.iload_n 3, 1) := dk_29 (dk_at dksX12_one_6 4 rfl rfl)
theorem dX12_one_147 : decode cX12_one 147 = .ok (.iconst 2, 1) := dk_5 (dk_at dksX12_one_6 5 rfl rfl)
theorem dX12_one_148 : decode cX12_one 148 = .ok (.anewarray 13, 3) := dk_189 0 13 (dk_at dksX12_one_6 6 rfl rfl)
theorem dX12_one_151 : decode cX12_one 151 = .ok (.dup, 1) := dk_89 (dk_at dksX12_one_6 9 rfl rfl)
theorem dX12_one_152 : decode cX12_one 152 = .ok (.iconst 0, 1) := dk_3 (dk_at dksX12_one_6 10 rfl rfl)
theorem dX12_one_153 : decode cX12_one 153 = .ok (.aload 4, 2) := dk_25 4 (dk_at dksX12_one_6 11 rfl rfl)
theorem dX12_one_155 : decode cX12_one 155 = .ok (.aastore, 1) := dk_83 (dk_at dksX12_one_6 13 rfl rfl)
theorem dX12_one_156 : decode cX12_one 156 = .ok (.dup, 1) := dk_89 (dk_at dksX12_one_6 14 rfl rfl)
theorem dX12_one_157 : decode cX12_one 157 = .ok (.iconst 1, 1) := dk_4 (dk_at dksX12_one_6 15 rfl rfl)
theorem dX12_one_158 : decode cX12_one 158 = .ok (.aload 4, 2) := dk_25 4 (dk_at dksX12_one_6 16 rfl rfl)
theorem dX12_one_160 : decode cX12_one 160 = .ok (.aastore, 1) := dk_83 (dk_at dksX12_one_6 18 rfl rfl)
theorem dX12_one_161 : decode cX12_one 161 = .ok (.invokestatic 14, 3) := dk_184 0 14 (dk_at dksX12_one_6 19 rfl rfl)
theorem dX12_one_164 : decode cX12_one 164 = .ok (.iconst 2, 1) := dk_5 (dk_at dksX12_one_6 22 rfl rfl)
theorem dX12_one_165 : decode cX12_one 165 = .ok (.newarray .int, 2) := dk_188_10 (dk_at dksX12_one_7 0 rfl rfl)
theorem dX12_one_167 : decode cX12_one 167 = .ok (.dup, 1) := dk_89 (dk_at dksX12_one_7 2 rfl rfl)
theorem dX12_one_168 : decode cX12_one 168 = .ok (.iconst 0, 1) := dk_3 (dk_at dksX12_one_7 3 rfl rfl)
theorem dX12_one_169 : decode cX12_one 169 = .ok (.iconst 1, 1) := dk_4 (dk_at dksX12_one_7 4 rfl rfl)
theorem dX12_one_170 : decode cX12_one 170 = .ok (.iastore, 1) := dk_79 (dk_at dksX12_one_7 5 rfl rfl)
theorem dX12_one_171 : decode cX12_one 171 = .ok (.dup, 1) := dk_89 (dk_at dksX12_one_7 6 rfl rfl)
theorem dX12_one_172 : decode cX12_one 172 = .ok (.iconst 1, 1) := dk_4 (dk_at dksX12_one_7 7 rfl rfl)
theorem dX12_one_173 : decode cX12_one 173 = .ok (.iconst 3, 1) := dk_6 (dk_at dksX12_one_7 8 rfl rfl)
theorem dX12_one_174 : decode cX12_one 174 = .ok (.iastore, 1) := dk_79 (dk_at dksX12_one_7 9 rfl rfl)
theorem dX12_one_175 : decode cX12_one 175 = .ok (.invokestatic 18, 3) := dk_184 0 18 (dk_at dksX12_one_7 10 rfl rfl)
theorem dX12_one_178 : decode cX12_one 178 = .ok (.lmul, 1) := dk_105 (dk_at dksX12_one_7 13 rfl rfl)
theorem dX12_one_179 : decode cX12_one 179 = .ok (.ladd, 1) := dk_97 (dk_at dksX12_one_7 14 rfl rfl)
theorem dX12_one_180 : decode cX12_one 180 = .ok (.ldc2_w 22, 3) := dk_20 0 22 (dk_at dksX12_one_7 15 rfl rfl)
theorem dX12_one_183 : decode cX12_one 183 = .ok (.iload_n 2, 1) := dk_28 (dk_at dksX12_one_7 18 rfl rfl)
theorem dX12_one_184 : decode cX12_one 184 = .ok (.iload_n 3, 1) := dk_29 (dk_at dksX12_one_7 19 rfl rfl)
theorem dX12_one_185 : decode cX12_one 185 = .ok (.iconst 1, 1) := dk_4 (dk_at dksX12_one_7 20 rfl rfl)
theorem dX12_one_186 : decode cX12_one 186 = .ok (.anewarray 13, 3) := dk_189 0 13 (dk_at dksX12_one_7 21 rfl rfl)
theorem dX12_one_189 : decode cX12_one 189 = .ok (.dup, 1) := dk_89 (dk_at dksX12_one_8 0 rfl rfl)
theorem dX12_one_190 : decode cX12_one 190 = .ok (.iconst 0, 1) := dk_3 (dk_at dksX12_one_8 1 rfl rfl)
theorem dX12_one_191 : decode cX12_one 191 = .ok (.aload 4, 2) := dk_25 4 (dk_at dksX12_one_8 2 rfl rfl)
theorem dX12_one_193 : decode cX12_one 193 = .ok (.aastore, 1) := dk_83 (dk_at dksX12_one_8 4 rfl rfl)
theorem dX12_one_194 : decode cX12_one 194 = .ok (.invokestatic 14, 3) := dk_184 0 14 (dk_at dksX12_one_8 5 rfl rfl)
theorem dX12_one_197 : decode cX12_one 197 = .ok (.iconst 1, 1) := dk_4 (dk_at dksX12_one_8 8 rfl rfl)
theorem dX12_one_198 : decode cX12_one 198 = .ok (.newarray .int, 2) := dk_188_10 (dk_at dksX12_one_8 9 rfl rfl)
theorem dX12_one_200 : decode cX12_one 200 = .ok (.dup, 1) := dk_89 (dk_at dksX12_one_8 11 rfl rfl)
theorem dX12_one_201 : decode cX12_one 201 = .ok (.iconst 0, 1) := dk_3 (dk_at dksX12_one_8 12 rfl rfl)
theorem dX12_one_202 : decode cX12_one 202 = .ok (.iconst 4, 1) := dk_7 (dk_at dksX12_one_8 13 rfl rfl)
theorem dX12_one_203 : decode cX12_one 203 = .ok (.iastore, 1) := dk_79 (dk_at dksX12_one_8 14 rfl rfl)
theorem dX12_one_204 : decode cX12_one 204 = .ok (.invokestatic 18, 3) := dk_184 0 18 (dk_at dksX12_one_8 15 rfl rfl)
theorem dX12_one_207 : decode cX12_one 207 = .ok (.lmul, 1) := dk_105 (dk_at dksX12_one_8 18 rfl rfl)
theorem dX12_one_208 : decode cX12_one 208 = .ok (.ladd, 1) := dk_97 (dk_at dksX12_one_8 19 rfl rfl)
theorem dX12_one_209 : decode cX12_one 209 = .ok (.ldc2_w 28, 3) := dk_20 0 28 (dk_at dksX12_one_8 20 rfl rfl)
theorem dX12_one_212 : decode cX12_one 212 = .ok (.ldiv, 1) := dk_109 (dk_at dksX12_one_8 23 rfl rfl)
theorem dX12_one_213 : decode cX12_one 213 = .ok (.lreturn, 1) := dk_173 (dk_at dksX12_one_9 0 rfl rfl)
abbrev cX12_two : ByteArray := prog_5_method_3_code
def yX12_two : MethodName := ⟨RX12, "two", "(LSkeletons;I)J"⟩
def dkwX12_two_0 : List UInt8 := [43, 180, 0, 7, 28, 47, 43, 180, 0, 7, 28, 47, 10, 97, 105, 20, 0, 30, 109, 173]
abbrev dktX12_two_0 : List UInt8 := dkwX12_two_0 ++ []
theorem dksX12_two_0 : cX12_two.data.toList.drop 0 = dktX12_two_0 := by decide +kernel
theorem dX12_two_0 : decode cX12_two 0 = .ok (.aload_n 1, 1) := dk_43 (dk_at dksX12_two_0 0 rfl rfl)
theorem dX12_two_1 : decode cX12_two 1 = .ok (.getfield 7, 3) := dk_180 0 7 (dk_at dksX12_two_0 1 rfl rfl)
theorem dX12_two_4 : decode cX12_two 4 = .ok (.iload_n 2, 1) := dk_28 (dk_at dksX12_two_0 4 rfl rfl)
theorem dX12_two_5 : decode cX12_two 5 = .ok (.laload, 1) := dk_47 (dk_at dksX12_two_0 5 rfl rfl)
theorem dX12_two_6 : decode cX12_two 6 = .ok (.aload_n 1, 1) := dk_43 (dk_at dksX12_two_0 6 rfl rfl)
theorem dX12_two_7 : decode cX12_two 7 = .ok (.getfield 7, 3) := dk_180 0 7 (dk_at dksX12_two_0 7 rfl rfl)
theorem dX12_two_10 : decode cX12_two 10 = .ok (.iload_n 2, 1) := dk_28 (dk_at dksX12_two_0 10 rfl rfl)
theorem dX12_two_11 : decode cX12_two 11 = .ok (.laload, 1) := dk_47 (dk_at dksX12_two_0 11 rfl rfl)
theorem dX12_two_12 : decode cX12_two 12 = .ok (.lconst 1, 1) := dk_10 (dk_at dksX12_two_0 12 rfl rfl)
theorem dX12_two_13 : decode cX12_two 13 = .ok (.ladd, 1) := dk_97 (dk_at dksX12_two_0 13 rfl rfl)
theorem dX12_two_14 : decode cX12_two 14 = .ok (.lmul, 1) := dk_105 (dk_at dksX12_two_0 14 rfl rfl)
theorem dX12_two_15 : decode cX12_two 15 = .ok (.ldc2_w 30, 3) := dk_20 0 30 (dk_at dksX12_two_0 15 rfl rfl)
theorem dX12_two_18 : decode cX12_two 18 = .ok (.ldiv, 1) := dk_109 (dk_at dksX12_two_0 18 rfl rfl)
theorem dX12_two_19 : decode cX12_two 19 = .ok (.lreturn, 1) := dk_173 (dk_at dksX12_two_0 19 rfl rfl)
theorem q206 : (Jvm.Cond.selects "Skeletons$Count$1" ({ cls := "Skeletons$Count", name := "all", desc := "(LSkeletons;I)J" } : Jvm.MethodName) ({ cls := "Skeletons$Count", name := "all", desc := "(LSkeletons;I)J" } : Jvm.MethodName)) ∈ lw_all := lw_g (lw_at lw_m1 78 rfl) rfl
theorem q213 : (Jvm.Cond.selects "Skeletons$Count$1" ({ cls := "Skeletons$Count", name := "one", desc := "(LSkeletons;II)J" } : Jvm.MethodName) ({ cls := "Skeletons$Count$1", name := "one", desc := "(LSkeletons;II)J" } : Jvm.MethodName)) ∈ lw_all := lw_g (lw_at lw_m1 85 rfl) rfl
theorem q214 : (Jvm.Cond.instanceMethod ({ cls := "Skeletons$Count$1", name := "one", desc := "(LSkeletons;II)J" } : Jvm.MethodName)) ∈ lw_all := lw_g (lw_at lw_m1 86 rfl) rfl
theorem q215 : (Jvm.Cond.code ({ cls := "Skeletons$Count$1", name := "one", desc := "(LSkeletons;II)J" } : Jvm.MethodName) prog_5_method_2_code (5 : Nat) (Option.some Jvm.ClassFile.FieldType.long)) ∈ lw_all := lw_g (lw_at lw_m1 87 rfl) rfl
theorem q216 : (Jvm.Cond.classLink "Skeletons$Count$1" (13 : Nat) "[J") ∈ lw_all := lw_g (lw_at lw_m1 88 rfl) rfl
theorem q217 : (Jvm.Cond.methodLinkNest "Skeletons$Count$1" (14 : Nat) ({ cls := "Skeletons", name := "row", desc := "([[J)[[J" } : Jvm.MethodName) "Skeletons") ∈ lw_tbl := lw_at lw_m1 89 rfl
theorem q218 : (Jvm.Cond.methodLinkNest "Skeletons$Count$1" (18 : Nat) ({ cls := "Skeletons", name := "of", desc := "(II[[J[I)J" } : Jvm.MethodName) "Skeletons") ∈ lw_tbl := lw_at lw_m1 90 rfl
theorem q219 : (Jvm.Cond.constantLong "Skeletons$Count$1" (22 : Nat) (6 : Int64)) ∈ lw_all := lw_g (lw_at lw_m1 91 rfl) rfl
theorem q220 : (Jvm.Cond.constantLong "Skeletons$Count$1" (24 : Nat) (3 : Int64)) ∈ lw_all := lw_g (lw_at lw_m1 92 rfl) rfl
theorem q221 : (Jvm.Cond.constantLong "Skeletons$Count$1" (26 : Nat) (8 : Int64)) ∈ lw_all := lw_g (lw_at lw_m1 93 rfl) rfl
theorem q222 : (Jvm.Cond.constantLong "Skeletons$Count$1" (28 : Nat) (24 : Int64)) ∈ lw_all := lw_g (lw_at lw_m1 94 rfl) rfl
theorem q242 : (Jvm.Cond.selects "Skeletons$Count$1" ({ cls := "Skeletons$Count", name := "two", desc := "(LSkeletons;I)J" } : Jvm.MethodName) ({ cls := "Skeletons$Count$1", name := "two", desc := "(LSkeletons;I)J" } : Jvm.MethodName)) ∈ lw_all := lw_g (lw_at lw_m1 114 rfl) rfl
theorem q243 : (Jvm.Cond.instanceMethod ({ cls := "Skeletons$Count$1", name := "two", desc := "(LSkeletons;I)J" } : Jvm.MethodName)) ∈ lw_all := lw_g (lw_at lw_m1 115 rfl) rfl
theorem q244 : (Jvm.Cond.code ({ cls := "Skeletons$Count$1", name := "two", desc := "(LSkeletons;I)J" } : Jvm.MethodName) prog_5_method_3_code (3 : Nat) (Option.some Jvm.ClassFile.FieldType.long)) ∈ lw_all := lw_g (lw_at lw_m1 116 rfl) rfl
theorem q245 : (Jvm.Cond.constantLong "Skeletons$Count$1" (30 : Nat) (2 : Int64)) ∈ lw_all := lw_g (lw_at lw_m1 117 rfl) rfl
theorem q342 : (Jvm.Cond.fieldLinkNest "Skeletons$Count$1" (7 : Nat) "Skeletons" "radicals" "[J" "Skeletons") ∈ lw_tbl := lw_at lw_m1 214 rfl
theorem q698 : (Jvm.Cond.selects "Skeletons$Count$1" ({ cls := "java/lang/Object", name := "getClass", desc := "()Ljava/lang/Class;" } : Jvm.MethodName) ({ cls := "java/lang/Object", name := "getClass", desc := "()Ljava/lang/Class;" } : Jvm.MethodName)) ∈ lw_all := lw_g (lw_at lw_m3 90 rfl) rfl
theorem q1180 : (Jvm.Cond.castable "Skeletons$Count$1" "java/lang/Comparable") ∈ lw_tbl := lw_at lw_m5 92 rfl
theorem q1181 : (Jvm.Cond.selects "Skeletons$Count$1" ({ cls := "java/lang/Comparable", name := "compareTo", desc := "(Ljava/lang/Object;)I" } : Jvm.MethodName) ({ cls := "java/lang/Enum", name := "compareTo", desc := "(Ljava/lang/Object;)I" } : Jvm.MethodName)) ∈ lw_all := lw_g (lw_at lw_m5 93 rfl) rfl
theorem q1182 : (Jvm.Cond.unhidden "Skeletons$Count$1" "compareTo" "(Ljava/lang/Object;)I") ∈ lw_tbl := lw_at lw_m5 94 rfl
theorem q1190 : (Jvm.Cond.selects "Skeletons$Count$1" ({ cls := "java/lang/Enum", name := "compareTo", desc := "(Ljava/lang/Enum;)I" } : Jvm.MethodName) ({ cls := "java/lang/Enum", name := "compareTo", desc := "(Ljava/lang/Enum;)I" } : Jvm.MethodName)) ∈ lw_all := lw_g (lw_at lw_m5 102 rfl) rfl
theorem q1202 : (Jvm.Cond.selects "Skeletons$Count$1" ({ cls := "java/lang/Enum", name := "getDeclaringClass", desc := "()Ljava/lang/Class;" } : Jvm.MethodName) ({ cls := "java/lang/Enum", name := "getDeclaringClass", desc := "()Ljava/lang/Class;" } : Jvm.MethodName)) ∈ lw_all := lw_g (lw_at lw_m5 114 rfl) rfl
theorem q2766 : (Jvm.Cond.castable "Skeletons$Count$1" "java/lang/Enum") ∈ lw_tbl := lw_at lw_m11 238 rfl
theorem q2796 : (Jvm.Cond.castable "Skeletons$Count$1" "java/lang/Object") ∈ lw_tbl := lw_at lw_m12 28 rfl
/-! Skeletons$Count$2 -/
set_option maxRecDepth 100000
def RX13 : String := "Skeletons$Count$2"
abbrev cX13_one : ByteArray := prog_6_method_2_code
def yX13_one : MethodName := ⟨RX13, "one", "(LSkeletons;II)J"⟩
def dkwX13_one_5 : List UInt8 := [188, 10, 89, 3, 4, 79, 89, 4, 6, 79, 184, 0, 18, 105, 97, 20, 0, 26, 109, 173]
abbrev dktX13_one_5 : List UInt8 := dkwX13_one_5 ++ []
def dkwX13_one_4 : List UInt8 := [20, 0, 24, 28, 29, 5, 189, 0, 13, 89, 3, 25, 4, 83, 89, 4, 25, 4, 83, 184, 0, 14, 5]
abbrev dktX13_one_4 : List UInt8 := dkwX13_one_4 ++ dktX13_one_5
def dkwX13_one_3 : List UInt8 := [4, 25, 4, 83, 184, 0, 14, 5, 188, 10, 89, 3, 5, 79, 89, 4, 5, 79, 184, 0, 18, 105, 97]
abbrev dktX13_one_3 : List UInt8 := dkwX13_one_3 ++ dktX13_one_4
def dkwX13_one_2 : List UInt8 := [4, 79, 89, 6, 4, 79, 184, 0, 18, 20, 0, 22, 28, 29, 5, 189, 0, 13, 89, 3, 25, 4, 83, 89]
abbrev dktX13_one_2 : List UInt8 := dkwX13_one_2 ++ dktX13_one_3
def dkwX13_one_1 : List UInt8 := [25, 4, 83, 89, 6, 25, 4, 83, 184, 0, 14, 7, 188, 10, 89, 3, 4, 79, 89, 4, 4, 79, 89, 5]
abbrev dktX13_one_1 : List UInt8 := dkwX13_one_1 ++ dktX13_one_2
def dkwX13_one_0 : List UInt8 := [43, 180, 0, 7, 58, 4, 28, 29, 7, 189, 0, 13, 89, 3, 25, 4, 83, 89, 4, 25, 4, 83, 89, 5]
abbrev dktX13_one_0 : List UInt8 := dkwX13_one_0 ++ dktX13_one_1
theorem dksX13_one_0 : cX13_one.data.toList.drop 0 = dktX13_one_0 := by decide +kernel
theorem dksX13_one_1 : cX13_one.data.toList.drop 24 = dktX13_one_1 := dk_seg dksX13_one_0 24 rfl rfl
theorem dksX13_one_2 : cX13_one.data.toList.drop 48 = dktX13_one_2 := dk_seg dksX13_one_1 24 rfl rfl
theorem dksX13_one_3 : cX13_one.data.toList.drop 72 = dktX13_one_3 := dk_seg dksX13_one_2 24 rfl rfl
theorem dksX13_one_4 : cX13_one.data.toList.drop 95 = dktX13_one_4 := dk_seg dksX13_one_3 23 rfl rfl
theorem dksX13_one_5 : cX13_one.data.toList.drop 118 = dktX13_one_5 := dk_seg dksX13_one_4 23 rfl rfl
theorem dX13_one_0 : decode cX13_one 0 = .ok (.aload_n 1, 1) := dk_43 (dk_at dksX13_one_0 0 rfl rfl)
theorem dX13_one_1 : decode cX13_one 1 = .ok (.getfield 7, 3) := dk_180 0 7 (dk_at dksX13_one_0 1 rfl rfl)
theorem dX13_one_4 : decode cX13_one 4 = .ok (.astore 4, 2) := dk_58 4 (dk_at dksX13_one_0 4 rfl rfl)
theorem dX13_one_6 : decode cX13_one 6 = .ok (.iload_n 2, 1) := dk_28 (dk_at dksX13_one_0 6 rfl rfl)
theorem dX13_one_7 : decode cX13_one 7 = .ok (.iload_n 3, 1) := dk_29 (dk_at dksX13_one_0 7 rfl rfl)
theorem dX13_one_8 : decode cX13_one 8 = .ok (.iconst 4, 1) := dk_7 (dk_at dksX13_one_0 8 rfl rfl)
theorem dX13_one_9 : decode cX13_one 9 = .ok (.anewarray 13, 3) := dk_189 0 13 (dk_at dksX13_one_0 9 rfl rfl)
theorem dX13_one_12 : decode cX13_one 12 = .ok (.dup, 1) := dk_89 (dk_at dksX13_one_0 12 rfl rfl)
theorem dX13_one_13 : decode cX13_one 13 = .ok (.iconst 0, 1) := dk_3 (dk_at dksX13_one_0 13 rfl rfl)
theorem dX13_one_14 : decode cX13_one 14 = .ok (.aload 4, 2) := dk_25 4 (dk_at dksX13_one_0 14 rfl rfl)
theorem dX13_one_16 : decode cX13_one 16 = .ok (.aastore, 1) := dk_83 (dk_at dksX13_one_0 16 rfl rfl)
theorem dX13_one_17 : decode cX13_one 17 = .ok (.dup, 1) := dk_89 (dk_at dksX13_one_0 17 rfl rfl)
theorem dX13_one_18 : decode cX13_one 18 = .ok (.iconst 1, 1) := dk_4 (dk_at dksX13_one_0 18 rfl rfl)
theorem dX13_one_19 : decode cX13_one 19 = .ok (.aload 4, 2) := dk_25 4 (dk_at dksX13_one_0 19 rfl rfl)
theorem dX13_one_21 : decode cX13_one 21 = .ok (.aastore, 1) := dk_83 (dk_at dksX13_one_0 21 rfl rfl)
theorem dX13_one_22 : decode cX13_one 22 = .ok (.dup, 1) := dk_89 (dk_at dksX13_one_0 22 rfl rfl)
theorem dX13_one_23 : decode cX13_one 23 = .ok (.iconst 2, 1) := dk_5 (dk_at dksX13_one_0 23 rfl rfl)
theorem dX13_one_24 : decode cX13_one 24 = .ok (.aload 4, 2) := dk_25 4 (dk_at dksX13_one_1 0 rfl rfl)
theorem dX13_one_26 : decode cX13_one 26 = .ok (.aastore, 1) := dk_83 (dk_at dksX13_one_1 2 rfl rfl)
theorem dX13_one_27 : decode cX13_one 27 = .ok (.dup, 1) := dk_89 (dk_at dksX13_one_1 3 rfl rfl)
theorem dX13_one_28 : decode cX13_one 28 = .ok (.iconst 3, 1) := dk_6 (dk_at dksX13_one_1 4 rfl rfl)
theorem dX13_one_29 : decode cX13_one 29 = .ok (.aload 4, 2) := dk_25 4 (dk_at dksX13_one_1 5 rfl rfl)
theorem dX13_one_31 : decode cX13_one 31 = .ok (.aastore, 1) := dk_83 (dk_at dksX13_one_1 7 rfl rfl)
theorem dX13_one_32 : decode cX13_one 32 = .ok (.invokestatic 14, 3) := dk_184 0 14 (dk_at dksX13_one_1 8 rfl rfl)
theorem dX13_one_35 : decode cX13_one 35 = .ok (.iconst 4, 1) := dk_7 (dk_at dksX13_one_1 11 rfl rfl)
theorem dX13_one_36 : decode cX13_one 36 = .ok (.newarray .int, 2) := dk_188_10 (dk_at dksX13_one_1 12 rfl rfl)
theorem dX13_one_38 : decode cX13_one 38 = .ok (.dup, 1) := dk_89 (dk_at dksX13_one_1 14 rfl rfl)
theorem dX13_one_39 : decode cX13_one 39 = .ok (.iconst 0, 1) := dk_3 (dk_at dksX13_one_1 15 rfl rfl)
theorem dX13_one_40 : decode cX13_one 40 = .ok (.iconst 1, 1) := dk_4 (dk_at dksX13_one_1 16 rfl rfl)
theorem dX13_one_41 : decode cX13_one 41 = .ok (.iastore, 1) := dk_79 (dk_at dksX13_one_1 17 rfl rfl)
theorem dX13_one_42 : decode cX13_one 42 = .ok (.dup, 1) := dk_89 (dk_at dksX13_one_1 18 rfl rfl)
theorem dX13_one_43 : decode cX13_one 43 = .ok (.iconst 1, 1) := dk_4 (dk_at dksX13_one_1 19 rfl rfl)
theorem dX13_one_44 : decode cX13_one 44 = .ok (.iconst 1, 1) := dk_4 (dk_at dksX13_one_1 20 rfl rfl)
theorem dX13_one_45 : decode cX13_one 45 = .ok (.iastore, 1) := dk_79 (dk_at dksX13_one_1 21 rfl rfl)
theorem dX13_one_46 : decode cX13_one 46 = .ok (.dup, 1) := dk_89 (dk_at dksX13_one_1 22 rfl rfl)
theorem dX13_one_47 : decode cX13_one 47 = .ok (.iconst 2, 1) := dk_5 (dk_at dksX13_one_1 23 rfl rfl)
theorem dX13_one_48 : decode cX13_one 48 = .ok (.iconst 1, 1) := dk_4 (dk_at dksX13_one_2 0 rfl rfl)
theorem dX13_one_49 : decode cX13_one 49 = .ok (.iastore, 1) := dk_79 (dk_at dksX13_one_2 1 rfl rfl)
theorem dX13_one_50 : decode cX13_one 50 = .ok (.dup, 1) := dk_89 (dk_at dksX13_one_2 2 rfl rfl)
theorem dX13_one_51 : decode cX13_one 51 = .ok (.iconst 3, 1) := dk_6 (dk_at dksX13_one_2 3 rfl rfl)
theorem dX13_one_52 : decode cX13_one 52 = .ok (.iconst 1, 1) := dk_4 (dk_at dksX13_one_2 4 rfl rfl)
theorem dX13_one_53 : decode cX13_one 53 = .ok (.iastore, 1) := dk_79 (dk_at dksX13_one_2 5 rfl rfl)
theorem dX13_one_54 : decode cX13_one 54 = .ok (.invokestatic 18, 3) := dk_184 0 18 (dk_at dksX13_one_2 6 rfl rfl)
theorem dX13_one_57 : decode cX13_one 57 = .ok (.ldc2_w 22, 3) := dk_20 0 22 (dk_at dksX13_one_2 9 rfl rfl)
theorem dX13_one_60 : decode cX13_one 60 = .ok (.iload_n 2, 1) := dk_28 (dk_at dksX13_one_2 12 rfl rfl)
theorem dX13_one_61 : decode cX13_one 61 = .ok (.iload_n 3, 1) := dk_29 (dk_at dksX13_one_2 13 rfl rfl)
theorem dX13_one_62 : decode cX13_one 62 = .ok (.iconst 2, 1) := dk_5 (dk_at dksX13_one_2 14 rfl rfl)
theorem dX13_one_63 : decode cX13_one 63 = .ok (.anewarray 13, 3) := dk_189 0 13 (dk_at dksX13_one_2 15 rfl rfl)
theorem dX13_one_66 : decode cX13_one 66 = .ok (.dup, 1) := dk_89 (dk_at dksX13_one_2 18 rfl rfl)
theorem dX13_one_67 : decode cX13_one 67 = .ok (.iconst 0, 1) := dk_3 (dk_at dksX13_one_2 19 rfl rfl)
theorem dX13_one_68 : decode cX13_one 68 = .ok (.aload 4, 2) := dk_25 4 (dk_at dksX13_one_2 20 rfl rfl)
theorem dX13_one_70 : decode cX13_one 70 = .ok (.aastore, 1) := dk_83 (dk_at dksX13_one_2 22 rfl rfl)
theorem dX13_one_71 : decode cX13_one 71 = .ok (.dup, 1) := dk_89 (dk_at dksX13_one_2 23 rfl rfl)
theorem dX13_one_72 : decode cX13_one 72 = .ok (.iconst 1, 1) := dk_4 (dk_at dksX13_one_3 0 rfl rfl)
theorem dX13_one_73 : decode cX13_one 73 = .ok (.aload 4, 2) := dk_25 4 (dk_at dksX13_one_3 1 rfl rfl)
theorem dX13_one_75 : decode cX13_one 75 = .ok (.aastore, 1) := dk_83 (dk_at dksX13_one_3 3 rfl rfl)
theorem dX13_one_76 : decode cX13_one 76 = .ok (.invokestatic 14, 3) := dk_184 0 14 (dk_at dksX13_one_3 4 rfl rfl)
theorem dX13_one_79 : decode cX13_one 79 = .ok (.iconst 2, 1) := dk_5 (dk_at dksX13_one_3 7 rfl rfl)
theorem dX13_one_80 : decode cX13_one 80 = .ok (.newarray .int, 2) := dk_188_10 (dk_at dksX13_one_3 8 rfl rfl)
theorem dX13_one_82 : decode cX13_one 82 = .ok (.dup, 1) := dk_89 (dk_at dksX13_one_3 10 rfl rfl)
theorem dX13_one_83 : decode cX13_one 83 = .ok (.iconst 0, 1) := dk_3 (dk_at dksX13_one_3 11 rfl rfl)
theorem dX13_one_84 : decode cX13_one 84 = .ok (.iconst 2, 1) := dk_5 (dk_at dksX13_one_3 12 rfl rfl)
theorem dX13_one_85 : decode cX13_one 85 = .ok (.iastore, 1) := dk_79 (dk_at dksX13_one_3 13 rfl rfl)
theorem dX13_one_86 : decode cX13_one 86 = .ok (.dup, 1) := dk_89 (dk_at dksX13_one_3 14 rfl rfl)
theorem dX13_one_87 : decode cX13_one 87 = .ok (.iconst 1, 1) := dk_4 (dk_at dksX13_one_3 15 rfl rfl)
theorem dX13_one_88 : decode cX13_one 88 = .ok (.iconst 2, 1) := dk_5 (dk_at dksX13_one_3 16 rfl rfl)
theorem dX13_one_89 : decode cX13_one 89 = .ok (.iastore, 1) := dk_79 (dk_at dksX13_one_3 17 rfl rfl)
theorem dX13_one_90 : decode cX13_one 90 = .ok (.invokestatic 18, 3) := dk_184 0 18 (dk_at dksX13_one_3 18 rfl rfl)
theorem dX13_one_93 : decode cX13_one 93 = .ok (.lmul, 1) := dk_105 (dk_at dksX13_one_3 21 rfl rfl)
theorem dX13_one_94 : decode cX13_one 94 = .ok (.ladd, 1) := dk_97 (dk_at dksX13_one_3 22 rfl rfl)
theorem dX13_one_95 : decode cX13_one 95 = .ok (.ldc2_w 24, 3) := dk_20 0 24 (dk_at dksX13_one_4 0 rfl rfl)
theorem dX13_one_98 : decode cX13_one 98 = .ok (.iload_n 2, 1) := dk_28 (dk_at dksX13_one_4 3 rfl rfl)
theorem dX13_one_99 : decode cX13_one 99 = .ok (.iload_n 3, 1) := dk_29 (dk_at dksX13_one_4 4 rfl rfl)
theorem dX13_one_100 : decode cX13_one 100 = .ok (.iconst 2, 1) := dk_5 (dk_at dksX13_one_4 5 rfl rfl)
theorem dX13_one_101 : decode cX13_one 101 = .ok (.anewarray 13, 3) := dk_189 0 13 (dk_at dksX13_one_4 6 rfl rfl)
theorem dX13_one_104 : decode cX13_one 104 = .ok (.dup, 1) := dk_89 (dk_at dksX13_one_4 9 rfl rfl)
theorem dX13_one_105 : decode cX13_one 105 = .ok (.iconst 0, 1) := dk_3 (dk_at dksX13_one_4 10 rfl rfl)
theorem dX13_one_106 : decode cX13_one 106 = .ok (.aload 4, 2) := dk_25 4 (dk_at dksX13_one_4 11 rfl rfl)
theorem dX13_one_108 : decode cX13_one 108 = .ok (.aastore, 1) := dk_83 (dk_at dksX13_one_4 13 rfl rfl)
theorem dX13_one_109 : decode cX13_one 109 = .ok (.dup, 1) := dk_89 (dk_at dksX13_one_4 14 rfl rfl)
theorem dX13_one_110 : decode cX13_one 110 = .ok (.iconst 1, 1) := dk_4 (dk_at dksX13_one_4 15 rfl rfl)
theorem dX13_one_111 : decode cX13_one 111 = .ok (.aload 4, 2) := dk_25 4 (dk_at dksX13_one_4 16 rfl rfl)
theorem dX13_one_113 : decode cX13_one 113 = .ok (.aastore, 1) := dk_83 (dk_at dksX13_one_4 18 rfl rfl)
theorem dX13_one_114 : decode cX13_one 114 = .ok (.invokestatic 14, 3) := dk_184 0 14 (dk_at dksX13_one_4 19 rfl rfl)
theorem dX13_one_117 : decode cX13_one 117 = .ok (.iconst 2, 1) := dk_5 (dk_at dksX13_one_4 22 rfl rfl)
theorem dX13_one_118 : decode cX13_one 118 = .ok (.newarray .int, 2) := dk_188_10 (dk_at dksX13_one_5 0 rfl rfl)
theorem dX13_one_120 : decode cX13_one 120 = .ok (.dup, 1) := dk_89 (dk_at dksX13_one_5 2 rfl rfl)
theorem dX13_one_121 : decode cX13_one 121 = .ok (.iconst 0, 1) := dk_3 (dk_at dksX13_one_5 3 rfl rfl)
theorem dX13_one_122 : decode cX13_one 122 = .ok (.iconst 1, 1) := dk_4 (dk_at dksX13_one_5 4 rfl rfl)
theorem dX13_one_123 : decode cX13_one 123 = .ok (.iastore, 1) := dk_79 (dk_at dksX13_one_5 5 rfl rfl)
theorem dX13_one_124 : decode cX13_one 124 = .ok (.dup, 1) := dk_89 (dk_at dksX13_one_5 6 rfl rfl)
theorem dX13_one_125 : decode cX13_one 125 = .ok (.iconst 1, 1) := dk_4 (dk_at dksX13_one_5 7 rfl rfl)
theorem dX13_one_126 : decode cX13_one 126 = .ok (.iconst 3, 1) := dk_6 (dk_at dksX13_one_5 8 rfl rfl)
theorem dX13_one_127 : decode cX13_one 127 = .ok (.iastore, 1) := dk_79 (dk_at dksX13_one_5 9 rfl rfl)
theorem dX13_one_128 : decode cX13_one 128 = .ok (.invokestatic 18, 3) := dk_184 0 18 (dk_at dksX13_one_5 10 rfl rfl)
theorem dX13_one_131 : decode cX13_one 131 = .ok (.lmul, 1) := dk_105 (dk_at dksX13_one_5 13 rfl rfl)
theorem dX13_one_132 : decode cX13_one 132 = .ok (.ladd, 1) := dk_97 (dk_at dksX13_one_5 14 rfl rfl)
theorem dX13_one_133 : decode cX13_one 133 = .ok (.ldc2_w 26, 3) := dk_20 0 26 (dk_at dksX13_one_5 15 rfl rfl)
theorem dX13_one_136 : decode cX13_one 136 = .ok (.ldiv, 1) := dk_109 (dk_at dksX13_one_5 18 rfl rfl)
theorem dX13_one_137 : decode cX13_one 137 = .ok (.lreturn, 1) := dk_173 (dk_at dksX13_one_5 19 rfl rfl)
abbrev cX13_two : ByteArray := prog_6_method_3_code
def yX13_two : MethodName := ⟨RX13, "two", "(LSkeletons;I)J"⟩
def dkwX13_two_0 : List UInt8 := [43, 180, 0, 7, 28, 47, 43, 180, 0, 7, 28, 47, 10, 97, 105, 20, 0, 28, 109, 173]
abbrev dktX13_two_0 : List UInt8 := dkwX13_two_0 ++ []
theorem dksX13_two_0 : cX13_two.data.toList.drop 0 = dktX13_two_0 := by decide +kernel
theorem dX13_two_0 : decode cX13_two 0 = .ok (.aload_n 1, 1) := dk_43 (dk_at dksX13_two_0 0 rfl rfl)
theorem dX13_two_1 : decode cX13_two 1 = .ok (.getfield 7, 3) := dk_180 0 7 (dk_at dksX13_two_0 1 rfl rfl)
theorem dX13_two_4 : decode cX13_two 4 = .ok (.iload_n 2, 1) := dk_28 (dk_at dksX13_two_0 4 rfl rfl)
theorem dX13_two_5 : decode cX13_two 5 = .ok (.laload, 1) := dk_47 (dk_at dksX13_two_0 5 rfl rfl)
theorem dX13_two_6 : decode cX13_two 6 = .ok (.aload_n 1, 1) := dk_43 (dk_at dksX13_two_0 6 rfl rfl)
theorem dX13_two_7 : decode cX13_two 7 = .ok (.getfield 7, 3) := dk_180 0 7 (dk_at dksX13_two_0 7 rfl rfl)
theorem dX13_two_10 : decode cX13_two 10 = .ok (.iload_n 2, 1) := dk_28 (dk_at dksX13_two_0 10 rfl rfl)
theorem dX13_two_11 : decode cX13_two 11 = .ok (.laload, 1) := dk_47 (dk_at dksX13_two_0 11 rfl rfl)
theorem dX13_two_12 : decode cX13_two 12 = .ok (.lconst 1, 1) := dk_10 (dk_at dksX13_two_0 12 rfl rfl)
theorem dX13_two_13 : decode cX13_two 13 = .ok (.ladd, 1) := dk_97 (dk_at dksX13_two_0 13 rfl rfl)
theorem dX13_two_14 : decode cX13_two 14 = .ok (.lmul, 1) := dk_105 (dk_at dksX13_two_0 14 rfl rfl)
theorem dX13_two_15 : decode cX13_two 15 = .ok (.ldc2_w 28, 3) := dk_20 0 28 (dk_at dksX13_two_0 15 rfl rfl)
theorem dX13_two_18 : decode cX13_two 18 = .ok (.ldiv, 1) := dk_109 (dk_at dksX13_two_0 18 rfl rfl)
theorem dX13_two_19 : decode cX13_two 19 = .ok (.lreturn, 1) := dk_173 (dk_at dksX13_two_0 19 rfl rfl)
theorem q207 : (Jvm.Cond.selects "Skeletons$Count$2" ({ cls := "Skeletons$Count", name := "all", desc := "(LSkeletons;I)J" } : Jvm.MethodName) ({ cls := "Skeletons$Count", name := "all", desc := "(LSkeletons;I)J" } : Jvm.MethodName)) ∈ lw_all := lw_g (lw_at lw_m1 79 rfl) rfl
theorem q223 : (Jvm.Cond.selects "Skeletons$Count$2" ({ cls := "Skeletons$Count", name := "one", desc := "(LSkeletons;II)J" } : Jvm.MethodName) ({ cls := "Skeletons$Count$2", name := "one", desc := "(LSkeletons;II)J" } : Jvm.MethodName)) ∈ lw_all := lw_g (lw_at lw_m1 95 rfl) rfl
theorem q224 : (Jvm.Cond.instanceMethod ({ cls := "Skeletons$Count$2", name := "one", desc := "(LSkeletons;II)J" } : Jvm.MethodName)) ∈ lw_all := lw_g (lw_at lw_m1 96 rfl) rfl
theorem q225 : (Jvm.Cond.code ({ cls := "Skeletons$Count$2", name := "one", desc := "(LSkeletons;II)J" } : Jvm.MethodName) prog_6_method_2_code (5 : Nat) (Option.some Jvm.ClassFile.FieldType.long)) ∈ lw_all := lw_g (lw_at lw_m1 97 rfl) rfl
theorem q226 : (Jvm.Cond.classLink "Skeletons$Count$2" (13 : Nat) "[J") ∈ lw_all := lw_g (lw_at lw_m1 98 rfl) rfl
theorem q227 : (Jvm.Cond.methodLinkNest "Skeletons$Count$2" (14 : Nat) ({ cls := "Skeletons", name := "row", desc := "([[J)[[J" } : Jvm.MethodName) "Skeletons") ∈ lw_tbl := lw_at lw_m1 99 rfl
theorem q228 : (Jvm.Cond.methodLinkNest "Skeletons$Count$2" (18 : Nat) ({ cls := "Skeletons", name := "of", desc := "(II[[J[I)J" } : Jvm.MethodName) "Skeletons") ∈ lw_tbl := lw_at lw_m1 100 rfl
theorem q229 : (Jvm.Cond.constantLong "Skeletons$Count$2" (22 : Nat) (3 : Int64)) ∈ lw_all := lw_g (lw_at lw_m1 101 rfl) rfl
theorem q230 : (Jvm.Cond.constantLong "Skeletons$Count$2" (24 : Nat) (8 : Int64)) ∈ lw_all := lw_g (lw_at lw_m1 102 rfl) rfl
theorem q231 : (Jvm.Cond.constantLong "Skeletons$Count$2" (26 : Nat) (12 : Int64)) ∈ lw_all := lw_g (lw_at lw_m1 103 rfl) rfl
theorem q246 : (Jvm.Cond.selects "Skeletons$Count$2" ({ cls := "Skeletons$Count", name := "two", desc := "(LSkeletons;I)J" } : Jvm.MethodName) ({ cls := "Skeletons$Count$2", name := "two", desc := "(LSkeletons;I)J" } : Jvm.MethodName)) ∈ lw_all := lw_g (lw_at lw_m1 118 rfl) rfl
theorem q247 : (Jvm.Cond.instanceMethod ({ cls := "Skeletons$Count$2", name := "two", desc := "(LSkeletons;I)J" } : Jvm.MethodName)) ∈ lw_all := lw_g (lw_at lw_m1 119 rfl) rfl
theorem q248 : (Jvm.Cond.code ({ cls := "Skeletons$Count$2", name := "two", desc := "(LSkeletons;I)J" } : Jvm.MethodName) prog_6_method_3_code (3 : Nat) (Option.some Jvm.ClassFile.FieldType.long)) ∈ lw_all := lw_g (lw_at lw_m1 120 rfl) rfl
theorem q249 : (Jvm.Cond.constantLong "Skeletons$Count$2" (28 : Nat) (2 : Int64)) ∈ lw_all := lw_g (lw_at lw_m1 121 rfl) rfl
theorem q344 : (Jvm.Cond.fieldLinkNest "Skeletons$Count$2" (7 : Nat) "Skeletons" "forms" "[J" "Skeletons") ∈ lw_tbl := lw_at lw_m1 216 rfl
theorem q699 : (Jvm.Cond.selects "Skeletons$Count$2" ({ cls := "java/lang/Object", name := "getClass", desc := "()Ljava/lang/Class;" } : Jvm.MethodName) ({ cls := "java/lang/Object", name := "getClass", desc := "()Ljava/lang/Class;" } : Jvm.MethodName)) ∈ lw_all := lw_g (lw_at lw_m3 91 rfl) rfl
theorem q1191 : (Jvm.Cond.selects "Skeletons$Count$2" ({ cls := "java/lang/Enum", name := "compareTo", desc := "(Ljava/lang/Enum;)I" } : Jvm.MethodName) ({ cls := "java/lang/Enum", name := "compareTo", desc := "(Ljava/lang/Enum;)I" } : Jvm.MethodName)) ∈ lw_all := lw_g (lw_at lw_m5 103 rfl) rfl
theorem q1203 : (Jvm.Cond.selects "Skeletons$Count$2" ({ cls := "java/lang/Enum", name := "getDeclaringClass", desc := "()Ljava/lang/Class;" } : Jvm.MethodName) ({ cls := "java/lang/Enum", name := "getDeclaringClass", desc := "()Ljava/lang/Class;" } : Jvm.MethodName)) ∈ lw_all := lw_g (lw_at lw_m5 115 rfl) rfl
theorem q1210 : (Jvm.Cond.castable "Skeletons$Count$2" "java/lang/Comparable") ∈ lw_tbl := lw_at lw_m5 122 rfl
theorem q1211 : (Jvm.Cond.selects "Skeletons$Count$2" ({ cls := "java/lang/Comparable", name := "compareTo", desc := "(Ljava/lang/Object;)I" } : Jvm.MethodName) ({ cls := "java/lang/Enum", name := "compareTo", desc := "(Ljava/lang/Object;)I" } : Jvm.MethodName)) ∈ lw_all := lw_g (lw_at lw_m5 123 rfl) rfl
theorem q1212 : (Jvm.Cond.unhidden "Skeletons$Count$2" "compareTo" "(Ljava/lang/Object;)I") ∈ lw_tbl := lw_at lw_m5 124 rfl
theorem q2767 : (Jvm.Cond.castable "Skeletons$Count$2" "java/lang/Enum") ∈ lw_tbl := lw_at lw_m11 239 rfl
theorem q2797 : (Jvm.Cond.castable "Skeletons$Count$2" "java/lang/Object") ∈ lw_tbl := lw_at lw_m12 29 rfl
/-! Skeletons$Count$3 -/
set_option maxRecDepth 100000
def RX14 : String := "Skeletons$Count$3"
abbrev cX14_one : ByteArray := prog_7_method_2_code
def yX14_one : MethodName := ⟨RX14, "one", "(LSkeletons;II)J"⟩
def dkwX14_one_3 : List UInt8 := [7, 79, 184, 0, 21, 97, 20, 0, 25, 109, 173]
abbrev dktX14_one_3 : List UInt8 := dkwX14_one_3 ++ []
def dkwX14_one_2 : List UInt8 := [184, 0, 21, 28, 29, 4, 189, 0, 7, 89, 3, 43, 180, 0, 14, 83, 184, 0, 17, 4, 188, 10, 89, 3]
abbrev dktX14_one_2 : List UInt8 := dkwX14_one_2 ++ dktX14_one_3
def dkwX14_one_1 : List UInt8 := [180, 0, 14, 83, 184, 0, 17, 6, 188, 10, 89, 3, 4, 79, 89, 4, 4, 79, 89, 5, 5, 79]
abbrev dktX14_one_1 : List UInt8 := dkwX14_one_1 ++ dktX14_one_2
def dkwX14_one_0 : List UInt8 := [28, 29, 6, 189, 0, 7, 89, 3, 43, 180, 0, 9, 83, 89, 4, 43, 180, 0, 9, 83, 89, 5, 43]
abbrev dktX14_one_0 : List UInt8 := dkwX14_one_0 ++ dktX14_one_1
theorem dksX14_one_0 : cX14_one.data.toList.drop 0 = dktX14_one_0 := by decide +kernel
theorem dksX14_one_1 : cX14_one.data.toList.drop 23 = dktX14_one_1 := dk_seg dksX14_one_0 23 rfl rfl
theorem dksX14_one_2 : cX14_one.data.toList.drop 45 = dktX14_one_2 := dk_seg dksX14_one_1 22 rfl rfl
theorem dksX14_one_3 : cX14_one.data.toList.drop 69 = dktX14_one_3 := dk_seg dksX14_one_2 24 rfl rfl
theorem dX14_one_0 : decode cX14_one 0 = .ok (.iload_n 2, 1) := dk_28 (dk_at dksX14_one_0 0 rfl rfl)
theorem dX14_one_1 : decode cX14_one 1 = .ok (.iload_n 3, 1) := dk_29 (dk_at dksX14_one_0 1 rfl rfl)
theorem dX14_one_2 : decode cX14_one 2 = .ok (.iconst 3, 1) := dk_6 (dk_at dksX14_one_0 2 rfl rfl)
theorem dX14_one_3 : decode cX14_one 3 = .ok (.anewarray 7, 3) := dk_189 0 7 (dk_at dksX14_one_0 3 rfl rfl)
theorem dX14_one_6 : decode cX14_one 6 = .ok (.dup, 1) := dk_89 (dk_at dksX14_one_0 6 rfl rfl)
theorem dX14_one_7 : decode cX14_one 7 = .ok (.iconst 0, 1) := dk_3 (dk_at dksX14_one_0 7 rfl rfl)
theorem dX14_one_8 : decode cX14_one 8 = .ok (.aload_n 1, 1) := dk_43 (dk_at dksX14_one_0 8 rfl rfl)
theorem dX14_one_9 : decode cX14_one 9 = .ok (.getfield 9, 3) := dk_180 0 9 (dk_at dksX14_one_0 9 rfl rfl)
theorem dX14_one_12 : decode cX14_one 12 = .ok (.aastore, 1) := dk_83 (dk_at dksX14_one_0 12 rfl rfl)
theorem dX14_one_13 : decode cX14_one 13 = .ok (.dup, 1) := dk_89 (dk_at dksX14_one_0 13 rfl rfl)
theorem dX14_one_14 : decode cX14_one 14 = .ok (.iconst 1, 1) := dk_4 (dk_at dksX14_one_0 14 rfl rfl)
theorem dX14_one_15 : decode cX14_one 15 = .ok (.aload_n 1, 1) := dk_43 (dk_at dksX14_one_0 15 rfl rfl)
theorem dX14_one_16 : decode cX14_one 16 = .ok (.getfield 9, 3) := dk_180 0 9 (dk_at dksX14_one_0 16 rfl rfl)
theorem dX14_one_19 : decode cX14_one 19 = .ok (.aastore, 1) := dk_83 (dk_at dksX14_one_0 19 rfl rfl)
theorem dX14_one_20 : decode cX14_one 20 = .ok (.dup, 1) := dk_89 (dk_at dksX14_one_0 20 rfl rfl)
theorem dX14_one_21 : decode cX14_one 21 = .ok (.iconst 2, 1) := dk_5 (dk_at dksX14_one_0 21 rfl rfl)
theorem dX14_one_22 : decode cX14_one 22 = .ok (.aload_n 1, 1) := dk_43 (dk_at dksX14_one_0 22 rfl rfl)
theorem dX14_one_23 : decode cX14_one 23 = .ok (.getfield 14, 3) := dk_180 0 14 (dk_at dksX14_one_1 0 rfl rfl)
theorem dX14_one_26 : decode cX14_one 26 = .ok (.aastore, 1) := dk_83 (dk_at dksX14_one_1 3 rfl rfl)
theorem dX14_one_27 : decode cX14_one 27 = .ok (.invokestatic 17, 3) := dk_184 0 17 (dk_at dksX14_one_1 4 rfl rfl)
theorem dX14_one_30 : decode cX14_one 30 = .ok (.iconst 3, 1) := dk_6 (dk_at dksX14_one_1 7 rfl rfl)
theorem dX14_one_31 : decode cX14_one 31 = .ok (.newarray .int, 2) := dk_188_10 (dk_at dksX14_one_1 8 rfl rfl)
theorem dX14_one_33 : decode cX14_one 33 = .ok (.dup, 1) := dk_89 (dk_at dksX14_one_1 10 rfl rfl)
theorem dX14_one_34 : decode cX14_one 34 = .ok (.iconst 0, 1) := dk_3 (dk_at dksX14_one_1 11 rfl rfl)
theorem dX14_one_35 : decode cX14_one 35 = .ok (.iconst 1, 1) := dk_4 (dk_at dksX14_one_1 12 rfl rfl)
theorem dX14_one_36 : decode cX14_one 36 = .ok (.iastore, 1) := dk_79 (dk_at dksX14_one_1 13 rfl rfl)
theorem dX14_one_37 : decode cX14_one 37 = .ok (.dup, 1) := dk_89 (dk_at dksX14_one_1 14 rfl rfl)
theorem dX14_one_38 : decode cX14_one 38 = .ok (.iconst 1, 1) := dk_4 (dk_at dksX14_one_1 15 rfl rfl)
theorem dX14_one_39 : decode cX14_one 39 = .ok (.iconst 1, 1) := dk_4 (dk_at dksX14_one_1 16 rfl rfl)
theorem dX14_one_40 : decode cX14_one 40 = .ok (.iastore, 1) := dk_79 (dk_at dksX14_one_1 17 rfl rfl)
theorem dX14_one_41 : decode cX14_one 41 = .ok (.dup, 1) := dk_89 (dk_at dksX14_one_1 18 rfl rfl)
theorem dX14_one_42 : decode cX14_one 42 = .ok (.iconst 2, 1) := dk_5 (dk_at dksX14_one_1 19 rfl rfl)
theorem dX14_one_43 : decode cX14_one 43 = .ok (.iconst 2, 1) := dk_5 (dk_at dksX14_one_1 20 rfl rfl)
theorem dX14_one_44 : decode cX14_one 44 = .ok (.iastore, 1) := dk_79 (dk_at dksX14_one_1 21 rfl rfl)
theorem dX14_one_45 : decode cX14_one 45 = .ok (.invokestatic 21, 3) := dk_184 0 21 (dk_at dksX14_one_2 0 rfl rfl)
theorem dX14_one_48 : decode cX14_one 48 = .ok (.iload_n 2, 1) := dk_28 (dk_at dksX14_one_2 3 rfl rfl)
theorem dX14_one_49 : decode cX14_one 49 = .ok (.iload_n 3, 1) := dk_29 (dk_at dksX14_one_2 4 rfl rfl)
theorem dX14_one_50 : decode cX14_one 50 = .ok (.iconst 1, 1) := dk_4 (dk_at dksX14_one_2 5 rfl rfl)
theorem dX14_one_51 : decode cX14_one 51 = .ok (.anewarray 7, 3) := dk_189 0 7 (dk_at dksX14_one_2 6 rfl rfl)
theorem dX14_one_54 : decode cX14_one 54 = .ok (.dup, 1) := dk_89 (dk_at dksX14_one_2 9 rfl rfl)
theorem dX14_one_55 : decode cX14_one 55 = .ok (.iconst 0, 1) := dk_3 (dk_at dksX14_one_2 10 rfl rfl)
theorem dX14_one_56 : decode cX14_one 56 = .ok (.aload_n 1, 1) := dk_43 (dk_at dksX14_one_2 11 rfl rfl)
theorem dX14_one_57 : decode cX14_one 57 = .ok (.getfield 14, 3) := dk_180 0 14 (dk_at dksX14_one_2 12 rfl rfl)
theorem dX14_one_60 : decode cX14_one 60 = .ok (.aastore, 1) := dk_83 (dk_at dksX14_one_2 15 rfl rfl)
theorem dX14_one_61 : decode cX14_one 61 = .ok (.invokestatic 17, 3) := dk_184 0 17 (dk_at dksX14_one_2 16 rfl rfl)
theorem dX14_one_64 : decode cX14_one 64 = .ok (.iconst 1, 1) := dk_4 (dk_at dksX14_one_2 19 rfl rfl)
theorem dX14_one_65 : decode cX14_one 65 = .ok (.newarray .int, 2) := dk_188_10 (dk_at dksX14_one_2 20 rfl rfl)
theorem dX14_one_67 : decode cX14_one 67 = .ok (.dup, 1) := dk_89 (dk_at dksX14_one_2 22 rfl rfl)
theorem dX14_one_68 : decode cX14_one 68 = .ok (.iconst 0, 1) := dk_3 (dk_at dksX14_one_2 23 rfl rfl)
theorem dX14_one_69 : decode cX14_one 69 = .ok (.iconst 4, 1) := dk_7 (dk_at dksX14_one_3 0 rfl rfl)
theorem dX14_one_70 : decode cX14_one 70 = .ok (.iastore, 1) := dk_79 (dk_at dksX14_one_3 1 rfl rfl)
theorem dX14_one_71 : decode cX14_one 71 = .ok (.invokestatic 21, 3) := dk_184 0 21 (dk_at dksX14_one_3 2 rfl rfl)
theorem dX14_one_74 : decode cX14_one 74 = .ok (.ladd, 1) := dk_97 (dk_at dksX14_one_3 5 rfl rfl)
theorem dX14_one_75 : decode cX14_one 75 = .ok (.ldc2_w 25, 3) := dk_20 0 25 (dk_at dksX14_one_3 6 rfl rfl)
theorem dX14_one_78 : decode cX14_one 78 = .ok (.ldiv, 1) := dk_109 (dk_at dksX14_one_3 9 rfl rfl)
theorem dX14_one_79 : decode cX14_one 79 = .ok (.lreturn, 1) := dk_173 (dk_at dksX14_one_3 10 rfl rfl)
abbrev cX14_two : ByteArray := prog_7_method_3_code
def yX14_two : MethodName := ⟨RX14, "two", "(LSkeletons;I)J"⟩
def dkwX14_two_1 : List UInt8 := [173]
abbrev dktX14_two_1 : List UInt8 := dkwX14_two_1 ++ []
def dkwX14_two_0 : List UInt8 := [43, 180, 0, 9, 28, 47, 43, 180, 0, 9, 28, 47, 105, 43, 180, 0, 14, 28, 47, 97, 20, 0, 25, 109]
abbrev dktX14_two_0 : List UInt8 := dkwX14_two_0 ++ dktX14_two_1
theorem dksX14_two_0 : cX14_two.data.toList.drop 0 = dktX14_two_0 := by decide +kernel
theorem dksX14_two_1 : cX14_two.data.toList.drop 24 = dktX14_two_1 := dk_seg dksX14_two_0 24 rfl rfl
theorem dX14_two_0 : decode cX14_two 0 = .ok (.aload_n 1, 1) := dk_43 (dk_at dksX14_two_0 0 rfl rfl)
theorem dX14_two_1 : decode cX14_two 1 = .ok (.getfield 9, 3) := dk_180 0 9 (dk_at dksX14_two_0 1 rfl rfl)
theorem dX14_two_4 : decode cX14_two 4 = .ok (.iload_n 2, 1) := dk_28 (dk_at dksX14_two_0 4 rfl rfl)
theorem dX14_two_5 : decode cX14_two 5 = .ok (.laload, 1) := dk_47 (dk_at dksX14_two_0 5 rfl rfl)
theorem dX14_two_6 : decode cX14_two 6 = .ok (.aload_n 1, 1) := dk_43 (dk_at dksX14_two_0 6 rfl rfl)
theorem dX14_two_7 : decode cX14_two 7 = .ok (.getfield 9, 3) := dk_180 0 9 (dk_at dksX14_two_0 7 rfl rfl)
theorem dX14_two_10 : decode cX14_two 10 = .ok (.iload_n 2, 1) := dk_28 (dk_at dksX14_two_0 10 rfl rfl)
theorem dX14_two_11 : decode cX14_two 11 = .ok (.laload, 1) := dk_47 (dk_at dksX14_two_0 11 rfl rfl)
theorem dX14_two_12 : decode cX14_two 12 = .ok (.lmul, 1) := dk_105 (dk_at dksX14_two_0 12 rfl rfl)
theorem dX14_two_13 : decode cX14_two 13 = .ok (.aload_n 1, 1) := dk_43 (dk_at dksX14_two_0 13 rfl rfl)
theorem dX14_two_14 : decode cX14_two 14 = .ok (.getfield 14, 3) := dk_180 0 14 (dk_at dksX14_two_0 14 rfl rfl)
theorem dX14_two_17 : decode cX14_two 17 = .ok (.iload_n 2, 1) := dk_28 (dk_at dksX14_two_0 17 rfl rfl)
theorem dX14_two_18 : decode cX14_two 18 = .ok (.laload, 1) := dk_47 (dk_at dksX14_two_0 18 rfl rfl)
theorem dX14_two_19 : decode cX14_two 19 = .ok (.ladd, 1) := dk_97 (dk_at dksX14_two_0 19 rfl rfl)
theorem dX14_two_20 : decode cX14_two 20 = .ok (.ldc2_w 25, 3) := dk_20 0 25 (dk_at dksX14_two_0 20 rfl rfl)
theorem dX14_two_23 : decode cX14_two 23 = .ok (.ldiv, 1) := dk_109 (dk_at dksX14_two_0 23 rfl rfl)
theorem dX14_two_24 : decode cX14_two 24 = .ok (.lreturn, 1) := dk_173 (dk_at dksX14_two_1 0 rfl rfl)
theorem q208 : (Jvm.Cond.selects "Skeletons$Count$3" ({ cls := "Skeletons$Count", name := "all", desc := "(LSkeletons;I)J" } : Jvm.MethodName) ({ cls := "Skeletons$Count", name := "all", desc := "(LSkeletons;I)J" } : Jvm.MethodName)) ∈ lw_all := lw_g (lw_at lw_m1 80 rfl) rfl
theorem q232 : (Jvm.Cond.selects "Skeletons$Count$3" ({ cls := "Skeletons$Count", name := "one", desc := "(LSkeletons;II)J" } : Jvm.MethodName) ({ cls := "Skeletons$Count$3", name := "one", desc := "(LSkeletons;II)J" } : Jvm.MethodName)) ∈ lw_all := lw_g (lw_at lw_m1 104 rfl) rfl
theorem q233 : (Jvm.Cond.instanceMethod ({ cls := "Skeletons$Count$3", name := "one", desc := "(LSkeletons;II)J" } : Jvm.MethodName)) ∈ lw_all := lw_g (lw_at lw_m1 105 rfl) rfl
theorem q234 : (Jvm.Cond.code ({ cls := "Skeletons$Count$3", name := "one", desc := "(LSkeletons;II)J" } : Jvm.MethodName) prog_7_method_2_code (4 : Nat) (Option.some Jvm.ClassFile.FieldType.long)) ∈ lw_all := lw_g (lw_at lw_m1 106 rfl) rfl
theorem q235 : (Jvm.Cond.classLink "Skeletons$Count$3" (7 : Nat) "[J") ∈ lw_all := lw_g (lw_at lw_m1 107 rfl) rfl
theorem q236 : (Jvm.Cond.methodLinkNest "Skeletons$Count$3" (17 : Nat) ({ cls := "Skeletons", name := "row", desc := "([[J)[[J" } : Jvm.MethodName) "Skeletons") ∈ lw_tbl := lw_at lw_m1 108 rfl
theorem q237 : (Jvm.Cond.methodLinkNest "Skeletons$Count$3" (21 : Nat) ({ cls := "Skeletons", name := "of", desc := "(II[[J[I)J" } : Jvm.MethodName) "Skeletons") ∈ lw_tbl := lw_at lw_m1 109 rfl
theorem q238 : (Jvm.Cond.constantLong "Skeletons$Count$3" (25 : Nat) (2 : Int64)) ∈ lw_all := lw_g (lw_at lw_m1 110 rfl) rfl
theorem q250 : (Jvm.Cond.selects "Skeletons$Count$3" ({ cls := "Skeletons$Count", name := "two", desc := "(LSkeletons;I)J" } : Jvm.MethodName) ({ cls := "Skeletons$Count$3", name := "two", desc := "(LSkeletons;I)J" } : Jvm.MethodName)) ∈ lw_all := lw_g (lw_at lw_m1 122 rfl) rfl
theorem q251 : (Jvm.Cond.instanceMethod ({ cls := "Skeletons$Count$3", name := "two", desc := "(LSkeletons;I)J" } : Jvm.MethodName)) ∈ lw_all := lw_g (lw_at lw_m1 123 rfl) rfl
theorem q252 : (Jvm.Cond.code ({ cls := "Skeletons$Count$3", name := "two", desc := "(LSkeletons;I)J" } : Jvm.MethodName) prog_7_method_3_code (3 : Nat) (Option.some Jvm.ClassFile.FieldType.long)) ∈ lw_all := lw_g (lw_at lw_m1 124 rfl) rfl
theorem q345 : (Jvm.Cond.fieldLinkNest "Skeletons$Count$3" (14 : Nat) "Skeletons" "forms" "[J" "Skeletons") ∈ lw_tbl := lw_at lw_m1 217 rfl
theorem q347 : (Jvm.Cond.fieldLinkNest "Skeletons$Count$3" (9 : Nat) "Skeletons" "own" "[J" "Skeletons") ∈ lw_tbl := lw_at lw_m1 219 rfl
theorem q700 : (Jvm.Cond.selects "Skeletons$Count$3" ({ cls := "java/lang/Object", name := "getClass", desc := "()Ljava/lang/Class;" } : Jvm.MethodName) ({ cls := "java/lang/Object", name := "getClass", desc := "()Ljava/lang/Class;" } : Jvm.MethodName)) ∈ lw_all := lw_g (lw_at lw_m3 92 rfl) rfl
theorem q1192 : (Jvm.Cond.selects "Skeletons$Count$3" ({ cls := "java/lang/Enum", name := "compareTo", desc := "(Ljava/lang/Enum;)I" } : Jvm.MethodName) ({ cls := "java/lang/Enum", name := "compareTo", desc := "(Ljava/lang/Enum;)I" } : Jvm.MethodName)) ∈ lw_all := lw_g (lw_at lw_m5 104 rfl) rfl
theorem q1204 : (Jvm.Cond.selects "Skeletons$Count$3" ({ cls := "java/lang/Enum", name := "getDeclaringClass", desc := "()Ljava/lang/Class;" } : Jvm.MethodName) ({ cls := "java/lang/Enum", name := "getDeclaringClass", desc := "()Ljava/lang/Class;" } : Jvm.MethodName)) ∈ lw_all := lw_g (lw_at lw_m5 116 rfl) rfl
theorem q1213 : (Jvm.Cond.castable "Skeletons$Count$3" "java/lang/Comparable") ∈ lw_tbl := lw_at lw_m5 125 rfl
theorem q1214 : (Jvm.Cond.selects "Skeletons$Count$3" ({ cls := "java/lang/Comparable", name := "compareTo", desc := "(Ljava/lang/Object;)I" } : Jvm.MethodName) ({ cls := "java/lang/Enum", name := "compareTo", desc := "(Ljava/lang/Object;)I" } : Jvm.MethodName)) ∈ lw_all := lw_g (lw_at lw_m5 126 rfl) rfl
theorem q1215 : (Jvm.Cond.unhidden "Skeletons$Count$3" "compareTo" "(Ljava/lang/Object;)I") ∈ lw_tbl := lw_at lw_m5 127 rfl
theorem q2768 : (Jvm.Cond.castable "Skeletons$Count$3" "java/lang/Enum") ∈ lw_tbl := lw_at lw_m12 0 rfl
theorem q2798 : (Jvm.Cond.castable "Skeletons$Count$3" "java/lang/Object") ∈ lw_tbl := lw_at lw_m12 30 rfl
/-! Skeletons$Such$1 -/
set_option maxRecDepth 100000
def RX15 : String := "Skeletons$Such$1"
abbrev cX15_of : ByteArray := prog_13_method_2_code
def yX15_of : MethodName := ⟨RX15, "of", "(LSkeletons$Skeleton;)I"⟩
theorem dX15_of_0 : decode cX15_of 0 = .ok (.aload_n 1, 1) := by decide +kernel
theorem dX15_of_1 : decode cX15_of 1 = .ok (.invokevirtual 7, 3) := by decide +kernel
theorem dX15_of_4 : decode cX15_of 4 = .ok (.ireturn, 1) := by decide +kernel
theorem q704 : (Jvm.Cond.selects "Skeletons$Such$1" ({ cls := "java/lang/Object", name := "getClass", desc := "()Ljava/lang/Class;" } : Jvm.MethodName) ({ cls := "java/lang/Object", name := "getClass", desc := "()Ljava/lang/Class;" } : Jvm.MethodName)) ∈ lw_all := lw_g (lw_at lw_m3 96 rfl) rfl
theorem q1193 : (Jvm.Cond.selects "Skeletons$Such$1" ({ cls := "java/lang/Enum", name := "compareTo", desc := "(Ljava/lang/Enum;)I" } : Jvm.MethodName) ({ cls := "java/lang/Enum", name := "compareTo", desc := "(Ljava/lang/Enum;)I" } : Jvm.MethodName)) ∈ lw_all := lw_g (lw_at lw_m5 105 rfl) rfl
theorem q1205 : (Jvm.Cond.selects "Skeletons$Such$1" ({ cls := "java/lang/Enum", name := "getDeclaringClass", desc := "()Ljava/lang/Class;" } : Jvm.MethodName) ({ cls := "java/lang/Enum", name := "getDeclaringClass", desc := "()Ljava/lang/Class;" } : Jvm.MethodName)) ∈ lw_all := lw_g (lw_at lw_m5 117 rfl) rfl
theorem q1216 : (Jvm.Cond.castable "Skeletons$Such$1" "java/lang/Comparable") ∈ lw_tbl := lw_at lw_m5 128 rfl
theorem q1217 : (Jvm.Cond.selects "Skeletons$Such$1" ({ cls := "java/lang/Comparable", name := "compareTo", desc := "(Ljava/lang/Object;)I" } : Jvm.MethodName) ({ cls := "java/lang/Enum", name := "compareTo", desc := "(Ljava/lang/Object;)I" } : Jvm.MethodName)) ∈ lw_all := lw_g (lw_at lw_m5 129 rfl) rfl
theorem q1218 : (Jvm.Cond.unhidden "Skeletons$Such$1" "compareTo" "(Ljava/lang/Object;)I") ∈ lw_tbl := lw_at lw_m5 130 rfl
theorem q1697 : (Jvm.Cond.selects "Skeletons$Such$1" ({ cls := "Skeletons$Such", name := "of", desc := "(LSkeletons$Skeleton;)I" } : Jvm.MethodName) ({ cls := "Skeletons$Such$1", name := "of", desc := "(LSkeletons$Skeleton;)I" } : Jvm.MethodName)) ∈ lw_all := lw_g (lw_at lw_m7 129 rfl) rfl
theorem q1698 : (Jvm.Cond.instanceMethod ({ cls := "Skeletons$Such$1", name := "of", desc := "(LSkeletons$Skeleton;)I" } : Jvm.MethodName)) ∈ lw_all := lw_g (lw_at lw_m7 130 rfl) rfl
theorem q1699 : (Jvm.Cond.code ({ cls := "Skeletons$Such$1", name := "of", desc := "(LSkeletons$Skeleton;)I" } : Jvm.MethodName) prog_13_method_2_code (2 : Nat) (Option.some Jvm.ClassFile.FieldType.int)) ∈ lw_all := lw_g (lw_at lw_m7 131 rfl) rfl
theorem q1700 : (Jvm.Cond.methodLink "Skeletons$Such$1" (7 : Nat) ({ cls := "Skeletons$Skeleton", name := "longest", desc := "()I" } : Jvm.MethodName)) ∈ lw_all := lw_g (lw_at lw_m7 132 rfl) rfl
theorem q2769 : (Jvm.Cond.castable "Skeletons$Such$1" "java/lang/Enum") ∈ lw_tbl := lw_at lw_m12 1 rfl
theorem q2779 : (Jvm.Cond.castable "Skeletons$Such$1" "java/lang/Object") ∈ lw_tbl := lw_at lw_m12 11 rfl
theorem q2800 : (Jvm.Cond.castable "Skeletons$Such$1" "Skeletons$Such") ∈ lw_tbl := lw_at lw_m12 32 rfl
/-! Skeletons$Such$2 -/
set_option maxRecDepth 100000
def RX16 : String := "Skeletons$Such$2"
abbrev cX16_of : ByteArray := prog_14_method_2_code
def yX16_of : MethodName := ⟨RX16, "of", "(LSkeletons$Skeleton;)I"⟩
def dkwX16_of_0 : List UInt8 := [43, 4, 182, 0, 7, 172]
abbrev dktX16_of_0 : List UInt8 := dkwX16_of_0 ++ []
theorem dksX16_of_0 : cX16_of.data.toList.drop 0 = dktX16_of_0 := by decide +kernel
theorem dX16_of_0 : decode cX16_of 0 = .ok (.aload_n 1, 1) := dk_43 (dk_at dksX16_of_0 0 rfl rfl)
theorem dX16_of_1 : decode cX16_of 1 = .ok (.iconst 1, 1) := dk_4 (dk_at dksX16_of_0 1 rfl rfl)
theorem dX16_of_2 : decode cX16_of 2 = .ok (.invokevirtual 7, 3) := dk_182 0 7 (dk_at dksX16_of_0 2 rfl rfl)
theorem dX16_of_5 : decode cX16_of 5 = .ok (.ireturn, 1) := dk_172 (dk_at dksX16_of_0 5 rfl rfl)
theorem q705 : (Jvm.Cond.selects "Skeletons$Such$2" ({ cls := "java/lang/Object", name := "getClass", desc := "()Ljava/lang/Class;" } : Jvm.MethodName) ({ cls := "java/lang/Object", name := "getClass", desc := "()Ljava/lang/Class;" } : Jvm.MethodName)) ∈ lw_all := lw_g (lw_at lw_m3 97 rfl) rfl
theorem q1194 : (Jvm.Cond.selects "Skeletons$Such$2" ({ cls := "java/lang/Enum", name := "compareTo", desc := "(Ljava/lang/Enum;)I" } : Jvm.MethodName) ({ cls := "java/lang/Enum", name := "compareTo", desc := "(Ljava/lang/Enum;)I" } : Jvm.MethodName)) ∈ lw_all := lw_g (lw_at lw_m5 106 rfl) rfl
theorem q1206 : (Jvm.Cond.selects "Skeletons$Such$2" ({ cls := "java/lang/Enum", name := "getDeclaringClass", desc := "()Ljava/lang/Class;" } : Jvm.MethodName) ({ cls := "java/lang/Enum", name := "getDeclaringClass", desc := "()Ljava/lang/Class;" } : Jvm.MethodName)) ∈ lw_all := lw_g (lw_at lw_m5 118 rfl) rfl
theorem q1219 : (Jvm.Cond.castable "Skeletons$Such$2" "java/lang/Comparable") ∈ lw_tbl := lw_at lw_m5 131 rfl
theorem q1220 : (Jvm.Cond.selects "Skeletons$Such$2" ({ cls := "java/lang/Comparable", name := "compareTo", desc := "(Ljava/lang/Object;)I" } : Jvm.MethodName) ({ cls := "java/lang/Enum", name := "compareTo", desc := "(Ljava/lang/Object;)I" } : Jvm.MethodName)) ∈ lw_all := lw_g (lw_at lw_m5 132 rfl) rfl
theorem q1221 : (Jvm.Cond.unhidden "Skeletons$Such$2" "compareTo" "(Ljava/lang/Object;)I") ∈ lw_tbl := lw_at lw_m5 133 rfl
theorem q1706 : (Jvm.Cond.selects "Skeletons$Such$2" ({ cls := "Skeletons$Such", name := "of", desc := "(LSkeletons$Skeleton;)I" } : Jvm.MethodName) ({ cls := "Skeletons$Such$2", name := "of", desc := "(LSkeletons$Skeleton;)I" } : Jvm.MethodName)) ∈ lw_all := lw_g (lw_at lw_m7 138 rfl) rfl
theorem q1707 : (Jvm.Cond.instanceMethod ({ cls := "Skeletons$Such$2", name := "of", desc := "(LSkeletons$Skeleton;)I" } : Jvm.MethodName)) ∈ lw_all := lw_g (lw_at lw_m7 139 rfl) rfl
theorem q1708 : (Jvm.Cond.code ({ cls := "Skeletons$Such$2", name := "of", desc := "(LSkeletons$Skeleton;)I" } : Jvm.MethodName) prog_14_method_2_code (2 : Nat) (Option.some Jvm.ClassFile.FieldType.int)) ∈ lw_all := lw_g (lw_at lw_m7 140 rfl) rfl
theorem q1709 : (Jvm.Cond.methodLink "Skeletons$Such$2" (7 : Nat) ({ cls := "Skeletons$Skeleton", name := "withNeighbours", desc := "(I)I" } : Jvm.MethodName)) ∈ lw_all := lw_g (lw_at lw_m7 141 rfl) rfl
theorem q2770 : (Jvm.Cond.castable "Skeletons$Such$2" "java/lang/Enum") ∈ lw_tbl := lw_at lw_m12 2 rfl
theorem q2780 : (Jvm.Cond.castable "Skeletons$Such$2" "java/lang/Object") ∈ lw_tbl := lw_at lw_m12 12 rfl
theorem q2801 : (Jvm.Cond.castable "Skeletons$Such$2" "Skeletons$Such") ∈ lw_tbl := lw_at lw_m12 33 rfl
/-! Skeletons$Such$3 -/
set_option maxRecDepth 100000
def RX17 : String := "Skeletons$Such$3"
abbrev cX17_of : ByteArray := prog_15_method_2_code
def yX17_of : MethodName := ⟨RX17, "of", "(LSkeletons$Skeleton;)I"⟩
theorem dX17_of_0 : decode cX17_of 0 = .ok (.aload_n 1, 1) := by decide +kernel
theorem dX17_of_1 : decode cX17_of 1 = .ok (.invokevirtual 7, 3) := by decide +kernel
theorem dX17_of_4 : decode cX17_of 4 = .ok (.ireturn, 1) := by decide +kernel
theorem q706 : (Jvm.Cond.selects "Skeletons$Such$3" ({ cls := "java/lang/Object", name := "getClass", desc := "()Ljava/lang/Class;" } : Jvm.MethodName) ({ cls := "java/lang/Object", name := "getClass", desc := "()Ljava/lang/Class;" } : Jvm.MethodName)) ∈ lw_all := lw_g (lw_at lw_m3 98 rfl) rfl
theorem q1195 : (Jvm.Cond.selects "Skeletons$Such$3" ({ cls := "java/lang/Enum", name := "compareTo", desc := "(Ljava/lang/Enum;)I" } : Jvm.MethodName) ({ cls := "java/lang/Enum", name := "compareTo", desc := "(Ljava/lang/Enum;)I" } : Jvm.MethodName)) ∈ lw_all := lw_g (lw_at lw_m5 107 rfl) rfl
theorem q1207 : (Jvm.Cond.selects "Skeletons$Such$3" ({ cls := "java/lang/Enum", name := "getDeclaringClass", desc := "()Ljava/lang/Class;" } : Jvm.MethodName) ({ cls := "java/lang/Enum", name := "getDeclaringClass", desc := "()Ljava/lang/Class;" } : Jvm.MethodName)) ∈ lw_all := lw_g (lw_at lw_m5 119 rfl) rfl
theorem q1222 : (Jvm.Cond.castable "Skeletons$Such$3" "java/lang/Comparable") ∈ lw_tbl := lw_at lw_m5 134 rfl
theorem q1223 : (Jvm.Cond.selects "Skeletons$Such$3" ({ cls := "java/lang/Comparable", name := "compareTo", desc := "(Ljava/lang/Object;)I" } : Jvm.MethodName) ({ cls := "java/lang/Enum", name := "compareTo", desc := "(Ljava/lang/Object;)I" } : Jvm.MethodName)) ∈ lw_all := lw_g (lw_at lw_m5 135 rfl) rfl
theorem q1224 : (Jvm.Cond.unhidden "Skeletons$Such$3" "compareTo" "(Ljava/lang/Object;)I") ∈ lw_tbl := lw_at lw_m5 136 rfl
theorem q1713 : (Jvm.Cond.selects "Skeletons$Such$3" ({ cls := "Skeletons$Such", name := "of", desc := "(LSkeletons$Skeleton;)I" } : Jvm.MethodName) ({ cls := "Skeletons$Such$3", name := "of", desc := "(LSkeletons$Skeleton;)I" } : Jvm.MethodName)) ∈ lw_all := lw_g (lw_at lw_m7 145 rfl) rfl
theorem q1714 : (Jvm.Cond.instanceMethod ({ cls := "Skeletons$Such$3", name := "of", desc := "(LSkeletons$Skeleton;)I" } : Jvm.MethodName)) ∈ lw_all := lw_g (lw_at lw_m7 146 rfl) rfl
theorem q1715 : (Jvm.Cond.code ({ cls := "Skeletons$Such$3", name := "of", desc := "(LSkeletons$Skeleton;)I" } : Jvm.MethodName) prog_15_method_2_code (2 : Nat) (Option.some Jvm.ClassFile.FieldType.int)) ∈ lw_all := lw_g (lw_at lw_m7 147 rfl) rfl
theorem q1716 : (Jvm.Cond.methodLink "Skeletons$Such$3" (7 : Nat) ({ cls := "Skeletons$Skeleton", name := "asymmetric", desc := "()I" } : Jvm.MethodName)) ∈ lw_all := lw_g (lw_at lw_m7 148 rfl) rfl
theorem q2771 : (Jvm.Cond.castable "Skeletons$Such$3" "java/lang/Enum") ∈ lw_tbl := lw_at lw_m12 3 rfl
theorem q2781 : (Jvm.Cond.castable "Skeletons$Such$3" "java/lang/Object") ∈ lw_tbl := lw_at lw_m12 13 rfl
theorem q2802 : (Jvm.Cond.castable "Skeletons$Such$3" "Skeletons$Such") ∈ lw_tbl := lw_at lw_m12 34 rfl
/-! Skeletons$Such$4 -/
set_option maxRecDepth 100000
def RX18 : String := "Skeletons$Such$4"
abbrev cX18_of : ByteArray := prog_16_method_2_code
def yX18_of : MethodName := ⟨RX18, "of", "(LSkeletons$Skeleton;)I"⟩
theorem dX18_of_0 : decode cX18_of 0 = .ok (.aload_n 1, 1) := by decide +kernel
theorem dX18_of_1 : decode cX18_of 1 = .ok (.invokevirtual 7, 3) := by decide +kernel
theorem dX18_of_4 : decode cX18_of 4 = .ok (.ireturn, 1) := by decide +kernel
theorem q707 : (Jvm.Cond.selects "Skeletons$Such$4" ({ cls := "java/lang/Object", name := "getClass", desc := "()Ljava/lang/Class;" } : Jvm.MethodName) ({ cls := "java/lang/Object", name := "getClass", desc := "()Ljava/lang/Class;" } : Jvm.MethodName)) ∈ lw_all := lw_g (lw_at lw_m3 99 rfl) rfl
theorem q1196 : (Jvm.Cond.selects "Skeletons$Such$4" ({ cls := "java/lang/Enum", name := "compareTo", desc := "(Ljava/lang/Enum;)I" } : Jvm.MethodName) ({ cls := "java/lang/Enum", name := "compareTo", desc := "(Ljava/lang/Enum;)I" } : Jvm.MethodName)) ∈ lw_all := lw_g (lw_at lw_m5 108 rfl) rfl
theorem q1208 : (Jvm.Cond.selects "Skeletons$Such$4" ({ cls := "java/lang/Enum", name := "getDeclaringClass", desc := "()Ljava/lang/Class;" } : Jvm.MethodName) ({ cls := "java/lang/Enum", name := "getDeclaringClass", desc := "()Ljava/lang/Class;" } : Jvm.MethodName)) ∈ lw_all := lw_g (lw_at lw_m5 120 rfl) rfl
theorem q1225 : (Jvm.Cond.castable "Skeletons$Such$4" "java/lang/Comparable") ∈ lw_tbl := lw_at lw_m5 137 rfl
theorem q1226 : (Jvm.Cond.selects "Skeletons$Such$4" ({ cls := "java/lang/Comparable", name := "compareTo", desc := "(Ljava/lang/Object;)I" } : Jvm.MethodName) ({ cls := "java/lang/Enum", name := "compareTo", desc := "(Ljava/lang/Object;)I" } : Jvm.MethodName)) ∈ lw_all := lw_g (lw_at lw_m5 138 rfl) rfl
theorem q1227 : (Jvm.Cond.unhidden "Skeletons$Such$4" "compareTo" "(Ljava/lang/Object;)I") ∈ lw_tbl := lw_at lw_m5 139 rfl
theorem q1725 : (Jvm.Cond.selects "Skeletons$Such$4" ({ cls := "Skeletons$Such", name := "of", desc := "(LSkeletons$Skeleton;)I" } : Jvm.MethodName) ({ cls := "Skeletons$Such$4", name := "of", desc := "(LSkeletons$Skeleton;)I" } : Jvm.MethodName)) ∈ lw_all := lw_g (lw_at lw_m7 157 rfl) rfl
theorem q1726 : (Jvm.Cond.instanceMethod ({ cls := "Skeletons$Such$4", name := "of", desc := "(LSkeletons$Skeleton;)I" } : Jvm.MethodName)) ∈ lw_all := lw_g (lw_at lw_m7 158 rfl) rfl
theorem q1727 : (Jvm.Cond.code ({ cls := "Skeletons$Such$4", name := "of", desc := "(LSkeletons$Skeleton;)I" } : Jvm.MethodName) prog_16_method_2_code (2 : Nat) (Option.some Jvm.ClassFile.FieldType.int)) ∈ lw_all := lw_g (lw_at lw_m7 159 rfl) rfl
theorem q1728 : (Jvm.Cond.methodLink "Skeletons$Such$4" (7 : Nat) ({ cls := "Skeletons$Skeleton", name := "unlike", desc := "()I" } : Jvm.MethodName)) ∈ lw_all := lw_g (lw_at lw_m7 160 rfl) rfl
theorem q2772 : (Jvm.Cond.castable "Skeletons$Such$4" "java/lang/Enum") ∈ lw_tbl := lw_at lw_m12 4 rfl
theorem q2782 : (Jvm.Cond.castable "Skeletons$Such$4" "java/lang/Object") ∈ lw_tbl := lw_at lw_m12 14 rfl
theorem q2803 : (Jvm.Cond.castable "Skeletons$Such$4" "Skeletons$Such") ∈ lw_tbl := lw_at lw_m12 35 rfl
/-! Skeletons$Whole -/
set_option maxRecDepth 100000
def RX19 : String := "Skeletons$Whole"
abbrev cX19_code : ByteArray := prog_18_method_6_code
def yX19_code : MethodName := ⟨RX19, "code", "()[I"⟩
def dkwX19_code_0 : List UInt8 := [42, 185, 0, 1, 1, 0, 76, 43, 180, 0, 7, 188, 10, 77, 43, 44, 3, 3, 182, 0, 13, 87, 44, 176]
abbrev dktX19_code_0 : List UInt8 := dkwX19_code_0 ++ []
theorem dksX19_code_0 : cX19_code.data.toList.drop 0 = dktX19_code_0 := by decide +kernel
theorem dX19_code_0 : decode cX19_code 0 = .ok (.aload_n 0, 1) := dk_42 (dk_at dksX19_code_0 0 rfl rfl)
theorem dX19_code_1 : decode cX19_code 1 = .ok (.invokeinterface 1 1, 5) := by decide +kernel
theorem dX19_code_6 : decode cX19_code 6 = .ok (.astore_n 1, 1) := dk_76 (dk_at dksX19_code_0 6 rfl rfl)
theorem dX19_code_7 : decode cX19_code 7 = .ok (.aload_n 1, 1) := dk_43 (dk_at dksX19_code_0 7 rfl rfl)
theorem dX19_code_8 : decode cX19_code 8 = .ok (.getfield 7, 3) := dk_180 0 7 (dk_at dksX19_code_0 8 rfl rfl)
theorem dX19_code_11 : decode cX19_code 11 = .ok (.newarray .int, 2) := dk_188_10 (dk_at dksX19_code_0 11 rfl rfl)
theorem dX19_code_13 : decode cX19_code 13 = .ok (.astore_n 2, 1) := dk_77 (dk_at dksX19_code_0 13 rfl rfl)
theorem dX19_code_14 : decode cX19_code 14 = .ok (.aload_n 1, 1) := dk_43 (dk_at dksX19_code_0 14 rfl rfl)
theorem dX19_code_15 : decode cX19_code 15 = .ok (.aload_n 2, 1) := dk_44 (dk_at dksX19_code_0 15 rfl rfl)
theorem dX19_code_16 : decode cX19_code 16 = .ok (.iconst 0, 1) := dk_3 (dk_at dksX19_code_0 16 rfl rfl)
theorem dX19_code_17 : decode cX19_code 17 = .ok (.iconst 0, 1) := dk_3 (dk_at dksX19_code_0 17 rfl rfl)
theorem dX19_code_18 : decode cX19_code 18 = .ok (.invokevirtual 13, 3) := dk_182 0 13 (dk_at dksX19_code_0 18 rfl rfl)
theorem dX19_code_21 : decode cX19_code 21 = .ok (.pop, 1) := dk_87 (dk_at dksX19_code_0 21 rfl rfl)
theorem dX19_code_22 : decode cX19_code 22 = .ok (.aload_n 2, 1) := dk_44 (dk_at dksX19_code_0 22 rfl rfl)
theorem dX19_code_23 : decode cX19_code 23 = .ok (.areturn, 1) := dk_176 (dk_at dksX19_code_0 23 rfl rfl)
theorem q794 : (Jvm.Cond.fieldLinkNest "Skeletons$Whole" (7 : Nat) "Skeletons$Branch" "size" "I" "Skeletons") ∈ lw_tbl := lw_at lw_m3 186 rfl
theorem q953 : (Jvm.Cond.interfaceMethod "Skeletons$Whole" "Skeletons$Whole" "code" "()[I") ∈ lw_tbl := lw_at lw_m4 105 rfl
theorem q954 : (Jvm.Cond.declares ({ cls := "Skeletons$Whole", name := "code", desc := "()[I" } : Jvm.MethodName)) ∈ lw_tbl := lw_at lw_m4 106 rfl
theorem q957 : (Jvm.Cond.instanceMethod ({ cls := "Skeletons$Whole", name := "code", desc := "()[I" } : Jvm.MethodName)) ∈ lw_all := lw_g (lw_at lw_m4 109 rfl) rfl
theorem q958 : (Jvm.Cond.publicMethod ({ cls := "Skeletons$Whole", name := "code", desc := "()[I" } : Jvm.MethodName)) ∈ lw_tbl := lw_at lw_m4 110 rfl
theorem q959 : (Jvm.Cond.code ({ cls := "Skeletons$Whole", name := "code", desc := "()[I" } : Jvm.MethodName) prog_18_method_6_code (3 : Nat) (Option.some (Jvm.ClassFile.FieldType.array Jvm.ClassFile.FieldType.int))) ∈ lw_all := lw_g (lw_at lw_m4 111 rfl) rfl
theorem q960 : (Jvm.Cond.interfaceEntry "Skeletons$Whole" (1 : Nat)) ∈ lw_tbl := lw_at lw_m4 112 rfl
theorem q961 : (Jvm.Cond.methodLink "Skeletons$Whole" (1 : Nat) ({ cls := "Skeletons$Whole", name := "root", desc := "()LSkeletons$Branch;" } : Jvm.MethodName)) ∈ lw_all := lw_g (lw_at lw_m4 113 rfl) rfl
theorem q962 : (Jvm.Cond.interfaceMethod "Skeletons$Whole" "Skeletons$Whole" "root" "()LSkeletons$Branch;") ∈ lw_tbl := lw_at lw_m4 114 rfl
theorem q963 : (Jvm.Cond.declares ({ cls := "Skeletons$Whole", name := "root", desc := "()LSkeletons$Branch;" } : Jvm.MethodName)) ∈ lw_tbl := lw_at lw_m4 115 rfl
theorem q978 : (Jvm.Cond.methodLink "Skeletons$Whole" (13 : Nat) ({ cls := "Skeletons$Branch", name := "tells", desc := "([III)I" } : Jvm.MethodName)) ∈ lw_all := lw_g (lw_at lw_m4 130 rfl) rfl
theorem q1761 : (Jvm.Cond.interfaceMethod "Skeletons$Whole" "Skeletons$Whole" "forms" "()J") ∈ lw_tbl := lw_at lw_m7 193 rfl
theorem q1762 : (Jvm.Cond.declares ({ cls := "Skeletons$Whole", name := "forms", desc := "()J" } : Jvm.MethodName)) ∈ lw_tbl := lw_at lw_m7 194 rfl
theorem q1808 : (Jvm.Cond.interfaceMethod "Skeletons$Whole" "Skeletons$Whole" "own" "()J") ∈ lw_tbl := lw_at lw_m8 0 rfl
theorem q1809 : (Jvm.Cond.declares ({ cls := "Skeletons$Whole", name := "own", desc := "()J" } : Jvm.MethodName)) ∈ lw_tbl := lw_at lw_m8 1 rfl
theorem q1835 : (Jvm.Cond.interfaceMethod "Skeletons$Whole" "Skeletons$Whole" "symmetry" "()J") ∈ lw_tbl := lw_at lw_m8 27 rfl
theorem q1836 : (Jvm.Cond.declares ({ cls := "Skeletons$Whole", name := "symmetry", desc := "()J" } : Jvm.MethodName)) ∈ lw_tbl := lw_at lw_m8 28 rfl
theorem q1853 : (Jvm.Cond.interfaceMethod "Skeletons$Whole" "Skeletons$Whole" "marked" "()[J") ∈ lw_tbl := lw_at lw_m8 45 rfl
theorem q1854 : (Jvm.Cond.declares ({ cls := "Skeletons$Whole", name := "marked", desc := "()[J" } : Jvm.MethodName)) ∈ lw_tbl := lw_at lw_m8 46 rfl
theorem q2765 : (Jvm.Cond.initialized "Skeletons$Whole") ∈ lw_all := lw_g (lw_at lw_m11 237 rfl) rfl
/-! Skeletons$Such -/
set_option maxRecDepth 100000
def RX2 : String := "Skeletons$Such"
abbrev cX2_values : ByteArray := prog_12_method_1_code
def yX2_values : MethodName := ⟨RX2, "values", "()[LSkeletons$Such;"⟩
def dkwX2_values_0 : List UInt8 := [178, 0, 16, 182, 0, 20, 192, 0, 21, 176]
abbrev dktX2_values_0 : List UInt8 := dkwX2_values_0 ++ []
theorem dksX2_values_0 : cX2_values.data.toList.drop 0 = dktX2_values_0 := by decide +kernel
theorem dX2_values_0 : decode cX2_values 0 = .ok (.getstatic 16, 3) := dk_178 0 16 (dk_at dksX2_values_0 0 rfl rfl)
theorem dX2_values_3 : decode cX2_values 3 = .ok (.invokevirtual 20, 3) := dk_182 0 20 (dk_at dksX2_values_0 3 rfl rfl)
theorem dX2_values_6 : decode cX2_values 6 = .ok (.checkcast 21, 3) := dk_192 0 21 (dk_at dksX2_values_0 6 rfl rfl)
theorem dX2_values_9 : decode cX2_values 9 = .ok (.areturn, 1) := dk_176 (dk_at dksX2_values_0 9 rfl rfl)
theorem q135 : (Jvm.Cond.initialized "Skeletons$Such") ∈ lw_all := lw_g (lw_at lw_m1 7 rfl) rfl
theorem q327 : (Jvm.Cond.static ({ cls := "Skeletons$Such", name := "values", desc := "()[LSkeletons$Such;" } : Jvm.MethodName)) ∈ lw_all := lw_g (lw_at lw_m1 199 rfl) rfl
theorem q328 : (Jvm.Cond.code ({ cls := "Skeletons$Such", name := "values", desc := "()[LSkeletons$Such;" } : Jvm.MethodName) prog_12_method_1_code (0 : Nat) (Option.some (Jvm.ClassFile.FieldType.array (Jvm.ClassFile.FieldType.object "Skeletons$Such")))) ∈ lw_all := lw_g (lw_at lw_m1 200 rfl) rfl
theorem q329 : (Jvm.Cond.fieldLink "Skeletons$Such" (16 : Nat) "Skeletons$Such" "$VALUES" "[LSkeletons$Such;") ∈ lw_all := lw_g (lw_at lw_m1 201 rfl) rfl
theorem q330 : (Jvm.Cond.laysStatic "Skeletons$Such" "$VALUES" "[LSkeletons$Such;") ∈ lw_tbl := lw_at lw_m1 202 rfl
theorem q331 : (Jvm.Cond.methodLink "Skeletons$Such" (20 : Nat) ({ cls := "[LSkeletons$Such;", name := "clone", desc := "()Ljava/lang/Object;" } : Jvm.MethodName)) ∈ lw_all := lw_g (lw_at lw_m1 203 rfl) rfl
theorem q338 : (Jvm.Cond.classLink "Skeletons$Such" (21 : Nat) "[LSkeletons$Such;") ∈ lw_all := lw_g (lw_at lw_m1 210 rfl) rfl
theorem q1695 : (Jvm.Cond.declares ({ cls := "Skeletons$Such", name := "of", desc := "(LSkeletons$Skeleton;)I" } : Jvm.MethodName)) ∈ lw_tbl := lw_at lw_m7 127 rfl
theorem q1696 : (Jvm.Cond.sameMethod "Skeletons$Such" "Skeletons$Such" "of" "(LSkeletons$Skeleton;)I") ∈ lw_all := lw_g (lw_at lw_m7 128 rfl) rfl
theorem q2774 : (Jvm.Cond.castable "Skeletons$Such" "java/lang/Object") ∈ lw_tbl := lw_at lw_m12 6 rfl
theorem q2821 : (Jvm.Cond.laysStatic "Skeletons$Such" "LONG" "LSkeletons$Such;") ∈ lw_tbl := lw_at lw_m12 53 rfl
theorem q2822 : (Jvm.Cond.laysStatic "Skeletons$Such" "ENDS" "LSkeletons$Such;") ∈ lw_tbl := lw_at lw_m12 54 rfl
theorem q2823 : (Jvm.Cond.laysStatic "Skeletons$Such" "ASYMMETRIC" "LSkeletons$Such;") ∈ lw_tbl := lw_at lw_m12 55 rfl
theorem q2824 : (Jvm.Cond.laysStatic "Skeletons$Such" "UNLIKE" "LSkeletons$Such;") ∈ lw_tbl := lw_at lw_m12 56 rfl
/-! Skeletons$Reader -/
set_option maxRecDepth 100000
def RX4 : String := "Skeletons$Reader"
abbrev cX4_init : ByteArray := prog_10_method_1_code
def yX4_init : MethodName := ⟨RX4, "<init>", "(LSkeletons;)V"⟩
def dkwX4_init_0 : List UInt8 := [42, 43, 181, 0, 3, 42, 183, 0, 9, 42, 187, 0, 15, 89, 183, 0, 17, 181, 0, 18, 177]
abbrev dktX4_init_0 : List UInt8 := dkwX4_init_0 ++ []
theorem dksX4_init_0 : cX4_init.data.toList.drop 0 = dktX4_init_0 := by decide +kernel
theorem dX4_init_0 : decode cX4_init 0 = .ok (.aload_n 0, 1) := dk_42 (dk_at dksX4_init_0 0 rfl rfl)
theorem dX4_init_1 : decode cX4_init 1 = .ok (.aload_n 1, 1) := dk_43 (dk_at dksX4_init_0 1 rfl rfl)
theorem dX4_init_2 : decode cX4_init 2 = .ok (.putfield 3, 3) := dk_181 0 3 (dk_at dksX4_init_0 2 rfl rfl)
theorem dX4_init_5 : decode cX4_init 5 = .ok (.aload_n 0, 1) := dk_42 (dk_at dksX4_init_0 5 rfl rfl)
theorem dX4_init_6 : decode cX4_init 6 = .ok (.invokespecial 9, 3) := dk_183 0 9 (dk_at dksX4_init_0 6 rfl rfl)
theorem dX4_init_9 : decode cX4_init 9 = .ok (.aload_n 0, 1) := dk_42 (dk_at dksX4_init_0 9 rfl rfl)
theorem dX4_init_10 : decode cX4_init 10 = .ok (.new 15, 3) := dk_187 0 15 (dk_at dksX4_init_0 10 rfl rfl)
theorem dX4_init_13 : decode cX4_init 13 = .ok (.dup, 1) := dk_89 (dk_at dksX4_init_0 13 rfl rfl)
theorem dX4_init_14 : decode cX4_init 14 = .ok (.invokespecial 17, 3) := dk_183 0 17 (dk_at dksX4_init_0 14 rfl rfl)
theorem dX4_init_17 : decode cX4_init 17 = .ok (.putfield 18, 3) := dk_181 0 18 (dk_at dksX4_init_0 17 rfl rfl)
theorem dX4_init_20 : decode cX4_init 20 = .ok (.return_, 1) := dk_177 (dk_at dksX4_init_0 20 rfl rfl)
abbrev cX4_sign : ByteArray := prog_10_method_2_code
def yX4_sign : MethodName := ⟨RX4, "sign", "()I"⟩
def dkwX4_sign_1 : List UInt8 := [180, 0, 22, 51, 17, 0, 255, 126, 167, 0, 4, 2, 172]
abbrev dktX4_sign_1 : List UInt8 := dkwX4_sign_1 ++ []
def dkwX4_sign_0 : List UInt8 := [42, 180, 0, 22, 42, 180, 0, 3, 180, 0, 26, 162, 0, 22, 42, 180, 0, 3, 180, 0, 29, 42]
abbrev dktX4_sign_0 : List UInt8 := dkwX4_sign_0 ++ dktX4_sign_1
theorem dksX4_sign_0 : cX4_sign.data.toList.drop 0 = dktX4_sign_0 := by decide +kernel
theorem dksX4_sign_1 : cX4_sign.data.toList.drop 22 = dktX4_sign_1 := dk_seg dksX4_sign_0 22 rfl rfl
theorem dX4_sign_0 : decode cX4_sign 0 = .ok (.aload_n 0, 1) := dk_42 (dk_at dksX4_sign_0 0 rfl rfl)
theorem dX4_sign_1 : decode cX4_sign 1 = .ok (.getfield 22, 3) := dk_180 0 22 (dk_at dksX4_sign_0 1 rfl rfl)
theorem dX4_sign_4 : decode cX4_sign 4 = .ok (.aload_n 0, 1) := dk_42 (dk_at dksX4_sign_0 4 rfl rfl)
theorem dX4_sign_5 : decode cX4_sign 5 = .ok (.getfield 3, 3) := dk_180 0 3 (dk_at dksX4_sign_0 5 rfl rfl)
theorem dX4_sign_8 : decode cX4_sign 8 = .ok (.getfield 26, 3) := dk_180 0 26 (dk_at dksX4_sign_0 8 rfl rfl)
theorem dX4_sign_11 : decode cX4_sign 11 = .ok (.if_icmp .ge 22, 3) := dk_162 0 22 (dk_at dksX4_sign_0 11 rfl rfl)
theorem dX4_sign_14 : decode cX4_sign 14 = .ok (.aload_n 0, 1) := dk_42 (dk_at dksX4_sign_0 14 rfl rfl)
theorem dX4_sign_15 : decode cX4_sign 15 = .ok (.getfield 3, 3) := dk_180 0 3 (dk_at dksX4_sign_0 15 rfl rfl)
theorem dX4_sign_18 : decode cX4_sign 18 = .ok (.getfield 29, 3) := dk_180 0 29 (dk_at dksX4_sign_0 18 rfl rfl)
theorem dX4_sign_21 : decode cX4_sign 21 = .ok (.aload_n 0, 1) := dk_42 (dk_at dksX4_sign_0 21 rfl rfl)
theorem dX4_sign_22 : decode cX4_sign 22 = .ok (.getfield 22, 3) := dk_180 0 22 (dk_at dksX4_sign_1 0 rfl rfl)
theorem dX4_sign_25 : decode cX4_sign 25 = .ok (.baload, 1) := dk_51 (dk_at dksX4_sign_1 3 rfl rfl)
theorem dX4_sign_26 : decode cX4_sign 26 = .ok (.sipush 255, 3) := dk_17 0 255 (dk_at dksX4_sign_1 4 rfl rfl)
theorem dX4_sign_29 : decode cX4_sign 29 = .ok (.iand, 1) := dk_126 (dk_at dksX4_sign_1 7 rfl rfl)
theorem dX4_sign_30 : decode cX4_sign 30 = .ok (.goto 4, 3) := dk_167 0 4 (dk_at dksX4_sign_1 8 rfl rfl)
theorem dX4_sign_33 : decode cX4_sign 33 = .ok (.iconst (-1), 1) := dk_2 (dk_at dksX4_sign_1 11 rfl rfl)
theorem dX4_sign_34 : decode cX4_sign 34 = .ok (.ireturn, 1) := dk_172 (dk_at dksX4_sign_1 12 rfl rfl)
abbrev cX4_check : ByteArray := prog_10_method_3_code
def yX4_check : MethodName := ⟨RX4, "check", "(ZII)V"⟩
def dkwX4_check_0 : List UInt8 := [27, 154, 0, 13, 187, 0, 33, 89, 28, 29, 183, 0, 35, 191, 177]
abbrev dktX4_check_0 : List UInt8 := dkwX4_check_0 ++ []
theorem dksX4_check_0 : cX4_check.data.toList.drop 0 = dktX4_check_0 := by decide +kernel
theorem dX4_check_0 : decode cX4_check 0 = .ok (.iload_n 1, 1) := dk_27 (dk_at dksX4_check_0 0 rfl rfl)
theorem dX4_check_1 : decode cX4_check 1 = .ok (.ifCond .ne 13, 3) := dk_154 0 13 (dk_at dksX4_check_0 1 rfl rfl)
theorem dX4_check_4 : decode cX4_check 4 = .ok (.new 33, 3) := dk_187 0 33 (dk_at dksX4_check_0 4 rfl rfl)
theorem dX4_check_7 : decode cX4_check 7 = .ok (.dup, 1) := dk_89 (dk_at dksX4_check_0 7 rfl rfl)
theorem dX4_check_8 : decode cX4_check 8 = .ok (.iload_n 2, 1) := dk_28 (dk_at dksX4_check_0 8 rfl rfl)
theorem dX4_check_9 : decode cX4_check 9 = .ok (.iload_n 3, 1) := dk_29 (dk_at dksX4_check_0 9 rfl rfl)
theorem dX4_check_10 : decode cX4_check 10 = .ok (.invokespecial 35, 3) := dk_183 0 35 (dk_at dksX4_check_0 10 rfl rfl)
theorem dX4_check_13 : decode cX4_check 13 = .ok (.athrow, 1) := dk_191 (dk_at dksX4_check_0 13 rfl rfl)
theorem dX4_check_14 : decode cX4_check 14 = .ok (.return_, 1) := dk_177 (dk_at dksX4_check_0 14 rfl rfl)
abbrev cX4_number : ByteArray := prog_10_method_5_code
def yX4_number : MethodName := ⟨RX4, "number", "(II)I"⟩
def dkwX4_number_4 : List UInt8 := [182, 0, 42, 21, 4, 172]
abbrev dktX4_number_4 : List UInt8 := dkwX4_number_4 ++ []
def dkwX4_number_3 : List UInt8 := [180, 0, 22, 4, 96, 181, 0, 22, 167, 255, 209, 42, 21, 4, 133, 27, 133, 28, 133, 184, 0, 50, 29, 5]
abbrev dktX4_number_3 : List UInt8 := dkwX4_number_3 ++ dktX4_number_4
def dkwX4_number_2 : List UInt8 := [16, 100, 16, 10, 21, 4, 104, 42, 182, 0, 38, 96, 16, 48, 100, 184, 0, 54, 54, 4, 42, 89]
abbrev dktX4_number_2 : List UInt8 := dkwX4_number_2 ++ dktX4_number_3
def dkwX4_number_1 : List UInt8 := [180, 0, 22, 62, 3, 54, 4, 42, 182, 0, 38, 133, 20, 0, 46, 20, 0, 48, 184, 0, 50, 153, 0, 36]
abbrev dktX4_number_1 : List UInt8 := dkwX4_number_1 ++ dktX4_number_2
def dkwX4_number_0 : List UInt8 := [42, 42, 182, 0, 38, 133, 20, 0, 46, 20, 0, 48, 184, 0, 50, 42, 180, 0, 22, 4, 182, 0, 42, 42]
abbrev dktX4_number_0 : List UInt8 := dkwX4_number_0 ++ dktX4_number_1
theorem dksX4_number_0 : cX4_number.data.toList.drop 0 = dktX4_number_0 := by decide +kernel
theorem dksX4_number_1 : cX4_number.data.toList.drop 24 = dktX4_number_1 := dk_seg dksX4_number_0 24 rfl rfl
theorem dksX4_number_2 : cX4_number.data.toList.drop 48 = dktX4_number_2 := dk_seg dksX4_number_1 24 rfl rfl
theorem dksX4_number_3 : cX4_number.data.toList.drop 70 = dktX4_number_3 := dk_seg dksX4_number_2 22 rfl rfl
theorem dksX4_number_4 : cX4_number.data.toList.drop 94 = dktX4_number_4 := dk_seg dksX4_number_3 24 rfl rfl
theorem dX4_number_0 : decode cX4_number 0 = .ok (.aload_n 0, 1) := dk_42 (dk_at dksX4_number_0 0 rfl rfl)
theorem dX4_number_1 : decode cX4_number 1 = .ok (.aload_n 0, 1) := dk_42 (dk_at dksX4_number_0 1 rfl rfl)
theorem dX4_number_2 : decode cX4_number 2 = .ok (.invokevirtual 38, 3) := dk_182 0 38 (dk_at dksX4_number_0 2 rfl rfl)
theorem dX4_number_5 : decode cX4_number 5 = .ok (.i2l, 1) := dk_133 (dk_at dksX4_number_0 5 rfl rfl)
theorem dX4_number_6 : decode cX4_number 6 = .ok (.ldc2_w 46, 3) := dk_20 0 46 (dk_at dksX4_number_0 6 rfl rfl)
theorem dX4_number_9 : decode cX4_number 9 = .ok (.ldc2_w 48, 3) := dk_20 0 48 (dk_at dksX4_number_0 9 rfl rfl)
theorem dX4_number_12 : decode cX4_number 12 = .ok (.invokestatic 50, 3) := dk_184 0 50 (dk_at dksX4_number_0 12 rfl rfl)
theorem dX4_number_15 : decode cX4_number 15 = .ok (.aload_n 0, 1) := dk_42 (dk_at dksX4_number_0 15 rfl rfl)
theorem dX4_number_16 : decode cX4_number 16 = .ok (.getfield 22, 3) := dk_180 0 22 (dk_at dksX4_number_0 16 rfl rfl)
theorem dX4_number_19 : decode cX4_number 19 = .ok (.iconst 1, 1) := dk_4 (dk_at dksX4_number_0 19 rfl rfl)
theorem dX4_number_20 : decode cX4_number 20 = .ok (.invokevirtual 42, 3) := dk_182 0 42 (dk_at dksX4_number_0 20 rfl rfl)
theorem dX4_number_23 : decode cX4_number 23 = .ok (.aload_n 0, 1) := dk_42 (dk_at dksX4_number_0 23 rfl rfl)
theorem dX4_number_24 : decode cX4_number 24 = .ok (.getfield 22, 3) := dk_180 0 22 (dk_at dksX4_number_1 0 rfl rfl)
theorem dX4_number_27 : decode cX4_number 27 = .ok (.istore_n 3, 1) := dk_62 (dk_at dksX4_number_1 3 rfl rfl)
theorem dX4_number_28 : decode cX4_number 28 = .ok (.iconst 0, 1) := dk_3 (dk_at dksX4_number_1 4 rfl rfl)
theorem dX4_number_29 : decode cX4_number 29 = .ok (.istore 4, 2) := dk_54 4 (dk_at dksX4_number_1 5 rfl rfl)
theorem dX4_number_31 : decode cX4_number 31 = .ok (.aload_n 0, 1) := dk_42 (dk_at dksX4_number_1 7 rfl rfl)
theorem dX4_number_32 : decode cX4_number 32 = .ok (.invokevirtual 38, 3) := dk_182 0 38 (dk_at dksX4_number_1 8 rfl rfl)
theorem dX4_number_35 : decode cX4_number 35 = .ok (.i2l, 1) := dk_133 (dk_at dksX4_number_1 11 rfl rfl)
theorem dX4_number_36 : decode cX4_number 36 = .ok (.ldc2_w 46, 3) := dk_20 0 46 (dk_at dksX4_number_1 12 rfl rfl)
theorem dX4_number_39 : decode cX4_number 39 = .ok (.ldc2_w 48, 3) := dk_20 0 48 (dk_at dksX4_number_1 15 rfl rfl)
theorem dX4_number_42 : decode cX4_number 42 = .ok (.invokestatic 50, 3) := dk_184 0 50 (dk_at dksX4_number_1 18 rfl rfl)
theorem dX4_number_45 : decode cX4_number 45 = .ok (.ifCond .eq 36, 3) := dk_153 0 36 (dk_at dksX4_number_1 21 rfl rfl)
theorem dX4_number_48 : decode cX4_number 48 = .ok (.bipush 100, 2) := dk_16 100 (dk_at dksX4_number_2 0 rfl rfl)
theorem dX4_number_50 : decode cX4_number 50 = .ok (.bipush 10, 2) := dk_16 10 (dk_at dksX4_number_2 2 rfl rfl)
theorem dX4_number_52 : decode cX4_number 52 = .ok (.iload 4, 2) := dk_21 4 (dk_at dksX4_number_2 4 rfl rfl)
theorem dX4_number_54 : decode cX4_number 54 = .ok (.imul, 1) := dk_104 (dk_at dksX4_number_2 6 rfl rfl)
theorem dX4_number_55 : decode cX4_number 55 = .ok (.aload_n 0, 1) := dk_42 (dk_at dksX4_number_2 7 rfl rfl)
theorem dX4_number_56 : decode cX4_number 56 = .ok (.invokevirtual 38, 3) := dk_182 0 38 (dk_at dksX4_number_2 8 rfl rfl)
theorem dX4_number_59 : decode cX4_number 59 = .ok (.iadd, 1) := dk_96 (dk_at dksX4_number_2 11 rfl rfl)
theorem dX4_number_60 : decode cX4_number 60 = .ok (.bipush 48, 2) := dk_16 48 (dk_at dksX4_number_2 12 rfl rfl)
theorem dX4_number_62 : decode cX4_number 62 = .ok (.isub, 1) := dk_100 (dk_at dksX4_number_2 14 rfl rfl)
theorem dX4_number_63 : decode cX4_number 63 = .ok (.invokestatic 54, 3) := dk_184 0 54 (dk_at dksX4_number_2 15 rfl rfl)
theorem dX4_number_66 : decode cX4_number 66 = .ok (.istore 4, 2) := dk_54 4 (dk_at dksX4_number_2 18 rfl rfl)
theorem dX4_number_68 : decode cX4_number 68 = .ok (.aload_n 0, 1) := dk_42 (dk_at dksX4_number_2 20 rfl rfl)
theorem dX4_number_69 : decode cX4_number 69 = .ok (.dup, 1) := dk_89 (dk_at dksX4_number_2 21 rfl rfl)
theorem dX4_number_70 : decode cX4_number 70 = .ok (.getfield 22, 3) := dk_180 0 22 (dk_at dksX4_number_3 0 rfl rfl)
theorem dX4_number_73 : decode cX4_number 73 = .ok (.iconst 1, 1) := dk_4 (dk_at dksX4_number_3 3 rfl rfl)
theorem dX4_number_74 : decode cX4_number 74 = .ok (.iadd, 1) := dk_96 (dk_at dksX4_number_3 4 rfl rfl)
theorem dX4_number_75 : decode cX4_number 75 = .ok (.putfield 22, 3) := dk_181 0 22 (dk_at dksX4_number_3 5 rfl rfl)
theorem dX4_number_78 : decode cX4_number 78 = .ok (.goto (-47), 3) := dk_167 255 209 (dk_at dksX4_number_3 8 rfl rfl)
theorem dX4_number_81 : decode cX4_number 81 = .ok (.aload_n 0, 1) := dk_42 (dk_at dksX4_number_3 11 rfl rfl)
theorem dX4_number_82 : decode cX4_number 82 = .ok (.iload 4, 2) := dk_21 4 (dk_at dksX4_number_3 12 rfl rfl)
theorem dX4_number_84 : decode cX4_number 84 = .ok (.i2l, 1) := dk_133 (dk_at dksX4_number_3 14 rfl rfl)
theorem dX4_number_85 : decode cX4_number 85 = .ok (.iload_n 1, 1) := dk_27 (dk_at dksX4_number_3 15 rfl rfl)
theorem dX4_number_86 : decode cX4_number 86 = .ok (.i2l, 1) := dk_133 (dk_at dksX4_number_3 16 rfl rfl)
theorem dX4_number_87 : decode cX4_number 87 = .ok (.iload_n 2, 1) := dk_28 (dk_at dksX4_number_3 17 rfl rfl)
theorem dX4_number_88 : decode cX4_number 88 = .ok (.i2l, 1) := dk_133 (dk_at dksX4_number_3 18 rfl rfl)
theorem dX4_number_89 : decode cX4_number 89 = .ok (.invokestatic 50, 3) := dk_184 0 50 (dk_at dksX4_number_3 19 rfl rfl)
theorem dX4_number_92 : decode cX4_number 92 = .ok (.iload_n 3, 1) := dk_29 (dk_at dksX4_number_3 22 rfl rfl)
theorem dX4_number_93 : decode cX4_number 93 = .ok (.iconst 2, 1) := dk_5 (dk_at dksX4_number_3 23 rfl rfl)
theorem dX4_number_94 : decode cX4_number 94 = .ok (.invokevirtual 42, 3) := dk_182 0 42 (dk_at dksX4_number_4 0 rfl rfl)
theorem dX4_number_97 : decode cX4_number 97 = .ok (.iload 4, 2) := dk_21 4 (dk_at dksX4_number_4 3 rfl rfl)
theorem dX4_number_99 : decode cX4_number 99 = .ok (.ireturn, 1) := dk_172 (dk_at dksX4_number_4 5 rfl rfl)
abbrev cX4_adds : ByteArray := prog_10_method_6_code
def yX4_adds : MethodName := ⟨RX4, "adds", "(I)I"⟩
def dkwX4_adds_1 : List UInt8 := [180, 0, 64, 4, 100, 182, 0, 67, 42, 180, 0, 18, 180, 0, 64, 4, 100, 172]
abbrev dktX4_adds_1 : List UInt8 := dkwX4_adds_1 ++ []
def dkwX4_adds_0 : List UInt8 := [42, 180, 0, 18, 182, 0, 60, 87, 27, 2, 159, 0, 20, 42, 180, 0, 18, 27, 42, 180, 0, 18]
abbrev dktX4_adds_0 : List UInt8 := dkwX4_adds_0 ++ dktX4_adds_1
theorem dksX4_adds_0 : cX4_adds.data.toList.drop 0 = dktX4_adds_0 := by decide +kernel
theorem dksX4_adds_1 : cX4_adds.data.toList.drop 22 = dktX4_adds_1 := dk_seg dksX4_adds_0 22 rfl rfl
theorem dX4_adds_0 : decode cX4_adds 0 = .ok (.aload_n 0, 1) := dk_42 (dk_at dksX4_adds_0 0 rfl rfl)
theorem dX4_adds_1 : decode cX4_adds 1 = .ok (.getfield 18, 3) := dk_180 0 18 (dk_at dksX4_adds_0 1 rfl rfl)
theorem dX4_adds_4 : decode cX4_adds 4 = .ok (.invokevirtual 60, 3) := dk_182 0 60 (dk_at dksX4_adds_0 4 rfl rfl)
theorem dX4_adds_7 : decode cX4_adds 7 = .ok (.pop, 1) := dk_87 (dk_at dksX4_adds_0 7 rfl rfl)
theorem dX4_adds_8 : decode cX4_adds 8 = .ok (.iload_n 1, 1) := dk_27 (dk_at dksX4_adds_0 8 rfl rfl)
theorem dX4_adds_9 : decode cX4_adds 9 = .ok (.iconst (-1), 1) := dk_2 (dk_at dksX4_adds_0 9 rfl rfl)
theorem dX4_adds_10 : decode cX4_adds 10 = .ok (.if_icmp .eq 20, 3) := dk_159 0 20 (dk_at dksX4_adds_0 10 rfl rfl)
theorem dX4_adds_13 : decode cX4_adds 13 = .ok (.aload_n 0, 1) := dk_42 (dk_at dksX4_adds_0 13 rfl rfl)
theorem dX4_adds_14 : decode cX4_adds 14 = .ok (.getfield 18, 3) := dk_180 0 18 (dk_at dksX4_adds_0 14 rfl rfl)
theorem dX4_adds_17 : decode cX4_adds 17 = .ok (.iload_n 1, 1) := dk_27 (dk_at dksX4_adds_0 17 rfl rfl)
theorem dX4_adds_18 : decode cX4_adds 18 = .ok (.aload_n 0, 1) := dk_42 (dk_at dksX4_adds_0 18 rfl rfl)
theorem dX4_adds_19 : decode cX4_adds 19 = .ok (.getfield 18, 3) := dk_180 0 18 (dk_at dksX4_adds_0 19 rfl rfl)
theorem dX4_adds_22 : decode cX4_adds 22 = .ok (.getfield 64, 3) := dk_180 0 64 (dk_at dksX4_adds_1 0 rfl rfl)
theorem dX4_adds_25 : decode cX4_adds 25 = .ok (.iconst 1, 1) := dk_4 (dk_at dksX4_adds_1 3 rfl rfl)
theorem dX4_adds_26 : decode cX4_adds 26 = .ok (.isub, 1) := dk_100 (dk_at dksX4_adds_1 4 rfl rfl)
theorem dX4_adds_27 : decode cX4_adds 27 = .ok (.invokevirtual 67, 3) := dk_182 0 67 (dk_at dksX4_adds_1 5 rfl rfl)
theorem dX4_adds_30 : decode cX4_adds 30 = .ok (.aload_n 0, 1) := dk_42 (dk_at dksX4_adds_1 8 rfl rfl)
theorem dX4_adds_31 : decode cX4_adds 31 = .ok (.getfield 18, 3) := dk_180 0 18 (dk_at dksX4_adds_1 9 rfl rfl)
theorem dX4_adds_34 : decode cX4_adds 34 = .ok (.getfield 64, 3) := dk_180 0 64 (dk_at dksX4_adds_1 12 rfl rfl)
theorem dX4_adds_37 : decode cX4_adds 37 = .ok (.iconst 1, 1) := dk_4 (dk_at dksX4_adds_1 15 rfl rfl)
theorem dX4_adds_38 : decode cX4_adds 38 = .ok (.isub, 1) := dk_100 (dk_at dksX4_adds_1 16 rfl rfl)
theorem dX4_adds_39 : decode cX4_adds 39 = .ok (.ireturn, 1) := dk_172 (dk_at dksX4_adds_1 17 rfl rfl)
abbrev cX4_must : ByteArray := prog_10_method_4_code
def yX4_must : MethodName := ⟨RX4, "must", "(I)V"⟩
def dkwX4_must_1 : List UInt8 := [180, 0, 22, 4, 96, 181, 0, 22, 177]
abbrev dktX4_must_1 : List UInt8 := dkwX4_must_1 ++ []
def dkwX4_must_0 : List UInt8 := [42, 42, 182, 0, 38, 27, 160, 0, 7, 4, 167, 0, 4, 3, 42, 180, 0, 22, 4, 182, 0, 42, 42, 89]
abbrev dktX4_must_0 : List UInt8 := dkwX4_must_0 ++ dktX4_must_1
theorem dksX4_must_0 : cX4_must.data.toList.drop 0 = dktX4_must_0 := by decide +kernel
theorem dksX4_must_1 : cX4_must.data.toList.drop 24 = dktX4_must_1 := dk_seg dksX4_must_0 24 rfl rfl
theorem dX4_must_0 : decode cX4_must 0 = .ok (.aload_n 0, 1) := dk_42 (dk_at dksX4_must_0 0 rfl rfl)
theorem dX4_must_1 : decode cX4_must 1 = .ok (.aload_n 0, 1) := dk_42 (dk_at dksX4_must_0 1 rfl rfl)
theorem dX4_must_2 : decode cX4_must 2 = .ok (.invokevirtual 38, 3) := dk_182 0 38 (dk_at dksX4_must_0 2 rfl rfl)
theorem dX4_must_5 : decode cX4_must 5 = .ok (.iload_n 1, 1) := dk_27 (dk_at dksX4_must_0 5 rfl rfl)
theorem dX4_must_6 : decode cX4_must 6 = .ok (.if_icmp .ne 7, 3) := dk_160 0 7 (dk_at dksX4_must_0 6 rfl rfl)
theorem dX4_must_9 : decode cX4_must 9 = .ok (.iconst 1, 1) := dk_4 (dk_at dksX4_must_0 9 rfl rfl)
theorem dX4_must_10 : decode cX4_must 10 = .ok (.goto 4, 3) := dk_167 0 4 (dk_at dksX4_must_0 10 rfl rfl)
theorem dX4_must_13 : decode cX4_must 13 = .ok (.iconst 0, 1) := dk_3 (dk_at dksX4_must_0 13 rfl rfl)
theorem dX4_must_14 : decode cX4_must 14 = .ok (.aload_n 0, 1) := dk_42 (dk_at dksX4_must_0 14 rfl rfl)
theorem dX4_must_15 : decode cX4_must 15 = .ok (.getfield 22, 3) := dk_180 0 22 (dk_at dksX4_must_0 15 rfl rfl)
theorem dX4_must_18 : decode cX4_must 18 = .ok (.iconst 1, 1) := dk_4 (dk_at dksX4_must_0 18 rfl rfl)
theorem dX4_must_19 : decode cX4_must 19 = .ok (.invokevirtual 42, 3) := dk_182 0 42 (dk_at dksX4_must_0 19 rfl rfl)
theorem dX4_must_22 : decode cX4_must 22 = .ok (.aload_n 0, 1) := dk_42 (dk_at dksX4_must_0 22 rfl rfl)
theorem dX4_must_23 : decode cX4_must 23 = .ok (.dup, 1) := dk_89 (dk_at dksX4_must_0 23 rfl rfl)
theorem dX4_must_24 : decode cX4_must 24 = .ok (.getfield 22, 3) := dk_180 0 22 (dk_at dksX4_must_1 0 rfl rfl)
theorem dX4_must_27 : decode cX4_must 27 = .ok (.iconst 1, 1) := dk_4 (dk_at dksX4_must_1 3 rfl rfl)
theorem dX4_must_28 : decode cX4_must 28 = .ok (.iadd, 1) := dk_96 (dk_at dksX4_must_1 4 rfl rfl)
theorem dX4_must_29 : decode cX4_must 29 = .ok (.putfield 22, 3) := dk_181 0 22 (dk_at dksX4_must_1 5 rfl rfl)
theorem dX4_must_32 : decode cX4_must 32 = .ok (.return_, 1) := dk_177 (dk_at dksX4_must_1 8 rfl rfl)
theorem q137 : (Jvm.Cond.initialized "Skeletons$Reader") ∈ lw_all := lw_g (lw_at lw_m1 9 rfl) rfl
theorem q311 : (Jvm.Cond.fieldLinkNest "Skeletons$Reader" (64 : Nat) "Skeletons$Skeleton" "size" "I" "Skeletons") ∈ lw_tbl := lw_at lw_m1 183 rfl
theorem q355 : (Jvm.Cond.fieldLinkNest "Skeletons$Reader" (29 : Nat) "Skeletons" "tape" "[B" "Skeletons") ∈ lw_tbl := lw_at lw_m1 227 rfl
theorem q358 : (Jvm.Cond.fieldLinkNest "Skeletons$Reader" (26 : Nat) "Skeletons" "taped" "I" "Skeletons") ∈ lw_tbl := lw_at lw_m1 230 rfl
theorem q444 : (Jvm.Cond.instanceMethod ({ cls := "Skeletons$Reader", name := "<init>", desc := "(LSkeletons;)V" } : Jvm.MethodName)) ∈ lw_all := lw_g (lw_at lw_m2 76 rfl) rfl
theorem q445 : (Jvm.Cond.code ({ cls := "Skeletons$Reader", name := "<init>", desc := "(LSkeletons;)V" } : Jvm.MethodName) prog_10_method_1_code (2 : Nat) (Option.none : Option Jvm.ClassFile.FieldType)) ∈ lw_all := lw_g (lw_at lw_m2 77 rfl) rfl
theorem q446 : (Jvm.Cond.methodLink "Skeletons$Reader" (9 : Nat) ({ cls := "java/lang/Object", name := "<init>", desc := "()V" } : Jvm.MethodName)) ∈ lw_all := lw_g (lw_at lw_m2 78 rfl) rfl
theorem q447 : (Jvm.Cond.classLink "Skeletons$Reader" (15 : Nat) "Skeletons$Skeleton") ∈ lw_all := lw_g (lw_at lw_m2 79 rfl) rfl
theorem q448 : (Jvm.Cond.methodLinkNest "Skeletons$Reader" (17 : Nat) ({ cls := "Skeletons$Skeleton", name := "<init>", desc := "()V" } : Jvm.MethodName) "Skeletons") ∈ lw_tbl := lw_at lw_m2 80 rfl
theorem q450 : (Jvm.Cond.fieldLink "Skeletons$Reader" (18 : Nat) "Skeletons$Reader" "its" "LSkeletons$Skeleton;") ∈ lw_all := lw_g (lw_at lw_m2 82 rfl) rfl
theorem q456 : (Jvm.Cond.fieldLink "Skeletons$Reader" (22 : Nat) "Skeletons$Reader" "at" "I") ∈ lw_all := lw_g (lw_at lw_m2 88 rfl) rfl
theorem q461 : (Jvm.Cond.fieldLink "Skeletons$Reader" (3 : Nat) "Skeletons$Reader" "this$0" "LSkeletons;") ∈ lw_all := lw_g (lw_at lw_m2 93 rfl) rfl
theorem q465 : (Jvm.Cond.soleField "Skeletons$Reader" "its") ∈ lw_all := lw_g (lw_at lw_m2 97 rfl) rfl
theorem q467 : (Jvm.Cond.soleField "Skeletons$Reader" "at") ∈ lw_all := lw_g (lw_at lw_m2 99 rfl) rfl
theorem q469 : (Jvm.Cond.soleField "Skeletons$Reader" "this$0") ∈ lw_all := lw_g (lw_at lw_m2 101 rfl) rfl
theorem q485 : (Jvm.Cond.declares ({ cls := "Skeletons$Reader", name := "reads", desc := "()V" } : Jvm.MethodName)) ∈ lw_tbl := lw_at lw_m2 117 rfl
theorem q486 : (Jvm.Cond.sameMethod "Skeletons$Reader" "Skeletons$Reader" "reads" "()V") ∈ lw_all := lw_g (lw_at lw_m2 118 rfl) rfl
theorem q504 : (Jvm.Cond.declares ({ cls := "Skeletons$Reader", name := "sign", desc := "()I" } : Jvm.MethodName)) ∈ lw_tbl := lw_at lw_m2 136 rfl
theorem q506 : (Jvm.Cond.instanceMethod ({ cls := "Skeletons$Reader", name := "sign", desc := "()I" } : Jvm.MethodName)) ∈ lw_all := lw_g (lw_at lw_m2 138 rfl) rfl
theorem q507 : (Jvm.Cond.code ({ cls := "Skeletons$Reader", name := "sign", desc := "()I" } : Jvm.MethodName) prog_10_method_2_code (1 : Nat) (Option.some Jvm.ClassFile.FieldType.int)) ∈ lw_all := lw_g (lw_at lw_m2 139 rfl) rfl
theorem q510 : (Jvm.Cond.declares ({ cls := "Skeletons$Reader", name := "check", desc := "(ZII)V" } : Jvm.MethodName)) ∈ lw_tbl := lw_at lw_m2 142 rfl
theorem q512 : (Jvm.Cond.instanceMethod ({ cls := "Skeletons$Reader", name := "check", desc := "(ZII)V" } : Jvm.MethodName)) ∈ lw_all := lw_g (lw_at lw_m2 144 rfl) rfl
theorem q513 : (Jvm.Cond.code ({ cls := "Skeletons$Reader", name := "check", desc := "(ZII)V" } : Jvm.MethodName) prog_10_method_3_code (4 : Nat) (Option.none : Option Jvm.ClassFile.FieldType)) ∈ lw_all := lw_g (lw_at lw_m2 145 rfl) rfl
theorem q514 : (Jvm.Cond.classLink "Skeletons$Reader" (33 : Nat) "Skeletons$Wrong") ∈ lw_all := lw_g (lw_at lw_m2 146 rfl) rfl
theorem q551 : (Jvm.Cond.methodLink "Skeletons$Reader" (35 : Nat) ({ cls := "Skeletons$Wrong", name := "<init>", desc := "(II)V" } : Jvm.MethodName)) ∈ lw_all := lw_g (lw_at lw_m2 183 rfl) rfl
theorem q598 : (Jvm.Cond.declares ({ cls := "Skeletons$Reader", name := "number", desc := "(II)I" } : Jvm.MethodName)) ∈ lw_tbl := lw_at lw_m2 230 rfl
theorem q600 : (Jvm.Cond.instanceMethod ({ cls := "Skeletons$Reader", name := "number", desc := "(II)I" } : Jvm.MethodName)) ∈ lw_all := lw_g (lw_at lw_m2 232 rfl) rfl
theorem q601 : (Jvm.Cond.code ({ cls := "Skeletons$Reader", name := "number", desc := "(II)I" } : Jvm.MethodName) prog_10_method_5_code (5 : Nat) (Option.some Jvm.ClassFile.FieldType.int)) ∈ lw_all := lw_g (lw_at lw_m2 233 rfl) rfl
theorem q602 : (Jvm.Cond.methodLink "Skeletons$Reader" (38 : Nat) ({ cls := "Skeletons$Reader", name := "sign", desc := "()I" } : Jvm.MethodName)) ∈ lw_all := lw_g (lw_at lw_m2 234 rfl) rfl
theorem q603 : (Jvm.Cond.constantLong "Skeletons$Reader" (46 : Nat) (48 : Int64)) ∈ lw_all := lw_g (lw_at lw_m2 235 rfl) rfl
theorem q604 : (Jvm.Cond.constantLong "Skeletons$Reader" (48 : Nat) (57 : Int64)) ∈ lw_all := lw_g (lw_at lw_m2 236 rfl) rfl
theorem q605 : (Jvm.Cond.methodLinkNest "Skeletons$Reader" (50 : Nat) ({ cls := "Skeletons", name := "in", desc := "(JJJ)Z" } : Jvm.MethodName) "Skeletons") ∈ lw_tbl := lw_at lw_m2 237 rfl
theorem q606 : (Jvm.Cond.methodLink "Skeletons$Reader" (42 : Nat) ({ cls := "Skeletons$Reader", name := "check", desc := "(ZII)V" } : Jvm.MethodName)) ∈ lw_all := lw_g (lw_at lw_m2 238 rfl) rfl
theorem q607 : (Jvm.Cond.methodLink "Skeletons$Reader" (54 : Nat) ({ cls := "java/lang/Math", name := "min", desc := "(II)I" } : Jvm.MethodName)) ∈ lw_all := lw_g (lw_at lw_m2 239 rfl) rfl
theorem q610 : (Jvm.Cond.declares ({ cls := "Skeletons$Reader", name := "adds", desc := "(I)I" } : Jvm.MethodName)) ∈ lw_tbl := lw_at lw_m3 2 rfl
theorem q612 : (Jvm.Cond.instanceMethod ({ cls := "Skeletons$Reader", name := "adds", desc := "(I)I" } : Jvm.MethodName)) ∈ lw_all := lw_g (lw_at lw_m3 4 rfl) rfl
theorem q613 : (Jvm.Cond.code ({ cls := "Skeletons$Reader", name := "adds", desc := "(I)I" } : Jvm.MethodName) prog_10_method_6_code (2 : Nat) (Option.some Jvm.ClassFile.FieldType.int)) ∈ lw_all := lw_g (lw_at lw_m3 5 rfl) rfl
theorem q614 : (Jvm.Cond.methodLink "Skeletons$Reader" (60 : Nat) ({ cls := "Skeletons$Skeleton", name := "adds", desc := "()LSkeletons$Skeleton;" } : Jvm.MethodName)) ∈ lw_all := lw_g (lw_at lw_m3 6 rfl) rfl
theorem q615 : (Jvm.Cond.methodLink "Skeletons$Reader" (67 : Nat) ({ cls := "Skeletons$Skeleton", name := "binds", desc := "(II)V" } : Jvm.MethodName)) ∈ lw_all := lw_g (lw_at lw_m3 7 rfl) rfl
theorem q625 : (Jvm.Cond.declares ({ cls := "Skeletons$Reader", name := "must", desc := "(I)V" } : Jvm.MethodName)) ∈ lw_tbl := lw_at lw_m3 17 rfl
theorem q627 : (Jvm.Cond.instanceMethod ({ cls := "Skeletons$Reader", name := "must", desc := "(I)V" } : Jvm.MethodName)) ∈ lw_all := lw_g (lw_at lw_m3 19 rfl) rfl
theorem q628 : (Jvm.Cond.code ({ cls := "Skeletons$Reader", name := "must", desc := "(I)V" } : Jvm.MethodName) prog_10_method_4_code (2 : Nat) (Option.none : Option Jvm.ClassFile.FieldType)) ∈ lw_all := lw_g (lw_at lw_m3 20 rfl) rfl
theorem q2748 : (Jvm.Cond.sameMethod "Skeletons$Reader" "Skeletons$Reader" "sign" "()I") ∈ lw_all := lw_g (lw_at lw_m11 220 rfl) rfl
theorem q2751 : (Jvm.Cond.sameMethod "Skeletons$Reader" "Skeletons$Reader" "check" "(ZII)V") ∈ lw_all := lw_g (lw_at lw_m11 223 rfl) rfl
/-! Skeletons$Bonds -/
set_option maxRecDepth 100000
def RX5 : String := "Skeletons$Bonds"
def TX5 : u_T := fun k => match k with
  | 0 => ("Skeletons$Reader", "its", "LSkeletons$Skeleton;", true)
  | 1 => ("Skeletons$Reader", "at", "I", false)
  | 2 => ("Skeletons$Reader", "this$0", "LSkeletons;", true)
  | _ => ("Skeletons$Bonds", "this$0", "LSkeletons;", true)
def tyX5 : Nat → FieldType := fun k => match k with
  | 0 => .object "Skeletons$Skeleton"
  | 1 => .int
  | 2 => .object "Skeletons"
  | _ => .object "Skeletons"
abbrev wsX50 : List Cond := u_ws RX5 TX5 4
-- two fields of one name: no nmX5
theorem tyX5_ok : ∀ k, k < 4 → parseFieldDescriptor (TX5 k).2.2.1 = some (tyX5 k) := by decide +kernel
abbrev cX5_init : ByteArray := prog_2_method_1_code
def yX5_init : MethodName := ⟨RX5, "<init>", "(LSkeletons;)V"⟩
def dkwX5_init_0 : List UInt8 := [42, 43, 181, 0, 3, 42, 43, 183, 0, 9, 177]
abbrev dktX5_init_0 : List UInt8 := dkwX5_init_0 ++ []
theorem dksX5_init_0 : cX5_init.data.toList.drop 0 = dktX5_init_0 := by decide +kernel
theorem dX5_init_0 : decode cX5_init 0 = .ok (.aload_n 0, 1) := dk_42 (dk_at dksX5_init_0 0 rfl rfl)
theorem dX5_init_1 : decode cX5_init 1 = .ok (.aload_n 1, 1) := dk_43 (dk_at dksX5_init_0 1 rfl rfl)
theorem dX5_init_2 : decode cX5_init 2 = .ok (.putfield 3, 3) := dk_181 0 3 (dk_at dksX5_init_0 2 rfl rfl)
theorem dX5_init_5 : decode cX5_init 5 = .ok (.aload_n 0, 1) := dk_42 (dk_at dksX5_init_0 5 rfl rfl)
theorem dX5_init_6 : decode cX5_init 6 = .ok (.aload_n 1, 1) := dk_43 (dk_at dksX5_init_0 6 rfl rfl)
theorem dX5_init_7 : decode cX5_init 7 = .ok (.invokespecial 9, 3) := dk_183 0 9 (dk_at dksX5_init_0 7 rfl rfl)
theorem dX5_init_10 : decode cX5_init 10 = .ok (.return_, 1) := dk_177 (dk_at dksX5_init_0 10 rfl rfl)
abbrev cX5_reads : ByteArray := prog_2_method_7_code
def yX5_reads : MethodName := ⟨RX5, "reads", "()V"⟩
def dkwX5_reads_1 : List UInt8 := [182, 0, 53, 177]
abbrev dktX5_reads_1 : List UInt8 := dkwX5_reads_1 ++ []
def dkwX5_reads_0 : List UInt8 := [42, 2, 182, 0, 82, 42, 42, 182, 0, 50, 2, 160, 0, 7, 4, 167, 0, 4, 3, 42, 180, 0, 19, 4]
abbrev dktX5_reads_0 : List UInt8 := dkwX5_reads_0 ++ dktX5_reads_1
theorem dksX5_reads_0 : cX5_reads.data.toList.drop 0 = dktX5_reads_0 := by decide +kernel
theorem dksX5_reads_1 : cX5_reads.data.toList.drop 24 = dktX5_reads_1 := dk_seg dksX5_reads_0 24 rfl rfl
theorem dX5_reads_0 : decode cX5_reads 0 = .ok (.aload_n 0, 1) := dk_42 (dk_at dksX5_reads_0 0 rfl rfl)
theorem dX5_reads_1 : decode cX5_reads 1 = .ok (.iconst (-1), 1) := dk_2 (dk_at dksX5_reads_0 1 rfl rfl)
theorem dX5_reads_2 : decode cX5_reads 2 = .ok (.invokevirtual 82, 3) := dk_182 0 82 (dk_at dksX5_reads_0 2 rfl rfl)
theorem dX5_reads_5 : decode cX5_reads 5 = .ok (.aload_n 0, 1) := dk_42 (dk_at dksX5_reads_0 5 rfl rfl)
theorem dX5_reads_6 : decode cX5_reads 6 = .ok (.aload_n 0, 1) := dk_42 (dk_at dksX5_reads_0 6 rfl rfl)
theorem dX5_reads_7 : decode cX5_reads 7 = .ok (.invokevirtual 50, 3) := dk_182 0 50 (dk_at dksX5_reads_0 7 rfl rfl)
theorem dX5_reads_10 : decode cX5_reads 10 = .ok (.iconst (-1), 1) := dk_2 (dk_at dksX5_reads_0 10 rfl rfl)
theorem dX5_reads_11 : decode cX5_reads 11 = .ok (.if_icmp .ne 7, 3) := dk_160 0 7 (dk_at dksX5_reads_0 11 rfl rfl)
theorem dX5_reads_14 : decode cX5_reads 14 = .ok (.iconst 1, 1) := dk_4 (dk_at dksX5_reads_0 14 rfl rfl)
theorem dX5_reads_15 : decode cX5_reads 15 = .ok (.goto 4, 3) := dk_167 0 4 (dk_at dksX5_reads_0 15 rfl rfl)
theorem dX5_reads_18 : decode cX5_reads 18 = .ok (.iconst 0, 1) := dk_3 (dk_at dksX5_reads_0 18 rfl rfl)
theorem dX5_reads_19 : decode cX5_reads 19 = .ok (.aload_n 0, 1) := dk_42 (dk_at dksX5_reads_0 19 rfl rfl)
theorem dX5_reads_20 : decode cX5_reads 20 = .ok (.getfield 19, 3) := dk_180 0 19 (dk_at dksX5_reads_0 20 rfl rfl)
theorem dX5_reads_23 : decode cX5_reads 23 = .ok (.iconst 1, 1) := dk_4 (dk_at dksX5_reads_0 23 rfl rfl)
theorem dX5_reads_24 : decode cX5_reads 24 = .ok (.invokevirtual 53, 3) := dk_182 0 53 (dk_at dksX5_reads_1 0 rfl rfl)
theorem dX5_reads_27 : decode cX5_reads 27 = .ok (.return_, 1) := dk_177 (dk_at dksX5_reads_1 3 rfl rfl)
abbrev cX5_row : ByteArray := prog_2_method_6_code
def yX5_row : MethodName := ⟨RX5, "row", "(I)V"⟩
def dkwX5_row_2 : List UInt8 := [96, 181, 0, 19, 42, 28, 182, 0, 82, 42, 182, 0, 50, 87, 42, 16, 41, 182, 0, 86, 167, 255, 194, 177]
abbrev dktX5_row_2 : List UInt8 := dkwX5_row_2 ++ []
def dkwX5_row_1 : List UInt8 := [42, 182, 0, 15, 16, 99, 160, 0, 12, 42, 28, 182, 0, 79, 61, 167, 255, 223, 42, 89, 180, 0, 19, 4]
abbrev dktX5_row_1 : List UInt8 := dkwX5_row_1 ++ dktX5_row_2
def dkwX5_row_0 : List UInt8 := [42, 27, 182, 0, 79, 61, 42, 182, 0, 50, 16, 40, 159, 0, 12, 42, 182, 0, 15, 16, 99, 160, 0, 50]
abbrev dktX5_row_0 : List UInt8 := dkwX5_row_0 ++ dktX5_row_1
theorem dksX5_row_0 : cX5_row.data.toList.drop 0 = dktX5_row_0 := by decide +kernel
theorem dksX5_row_1 : cX5_row.data.toList.drop 24 = dktX5_row_1 := dk_seg dksX5_row_0 24 rfl rfl
theorem dksX5_row_2 : cX5_row.data.toList.drop 48 = dktX5_row_2 := dk_seg dksX5_row_1 24 rfl rfl
theorem dX5_row_0 : decode cX5_row 0 = .ok (.aload_n 0, 1) := dk_42 (dk_at dksX5_row_0 0 rfl rfl)
theorem dX5_row_1 : decode cX5_row 1 = .ok (.iload_n 1, 1) := dk_27 (dk_at dksX5_row_0 1 rfl rfl)
theorem dX5_row_2 : decode cX5_row 2 = .ok (.invokevirtual 79, 3) := dk_182 0 79 (dk_at dksX5_row_0 2 rfl rfl)
theorem dX5_row_5 : decode cX5_row 5 = .ok (.istore_n 2, 1) := dk_61 (dk_at dksX5_row_0 5 rfl rfl)
theorem dX5_row_6 : decode cX5_row 6 = .ok (.aload_n 0, 1) := dk_42 (dk_at dksX5_row_0 6 rfl rfl)
theorem dX5_row_7 : decode cX5_row 7 = .ok (.invokevirtual 50, 3) := dk_182 0 50 (dk_at dksX5_row_0 7 rfl rfl)
theorem dX5_row_10 : decode cX5_row 10 = .ok (.bipush 40, 2) := dk_16 40 (dk_at dksX5_row_0 10 rfl rfl)
theorem dX5_row_12 : decode cX5_row 12 = .ok (.if_icmp .eq 12, 3) := dk_159 0 12 (dk_at dksX5_row_0 12 rfl rfl)
theorem dX5_row_15 : decode cX5_row 15 = .ok (.aload_n 0, 1) := dk_42 (dk_at dksX5_row_0 15 rfl rfl)
theorem dX5_row_16 : decode cX5_row 16 = .ok (.invokevirtual 15, 3) := dk_182 0 15 (dk_at dksX5_row_0 16 rfl rfl)
theorem dX5_row_19 : decode cX5_row 19 = .ok (.bipush 99, 2) := dk_16 99 (dk_at dksX5_row_0 19 rfl rfl)
theorem dX5_row_21 : decode cX5_row 21 = .ok (.if_icmp .ne 50, 3) := dk_160 0 50 (dk_at dksX5_row_0 21 rfl rfl)
theorem dX5_row_24 : decode cX5_row 24 = .ok (.aload_n 0, 1) := dk_42 (dk_at dksX5_row_1 0 rfl rfl)
theorem dX5_row_25 : decode cX5_row 25 = .ok (.invokevirtual 15, 3) := dk_182 0 15 (dk_at dksX5_row_1 1 rfl rfl)
theorem dX5_row_28 : decode cX5_row 28 = .ok (.bipush 99, 2) := dk_16 99 (dk_at dksX5_row_1 4 rfl rfl)
theorem dX5_row_30 : decode cX5_row 30 = .ok (.if_icmp .ne 12, 3) := dk_160 0 12 (dk_at dksX5_row_1 6 rfl rfl)
theorem dX5_row_33 : decode cX5_row 33 = .ok (.aload_n 0, 1) := dk_42 (dk_at dksX5_row_1 9 rfl rfl)
theorem dX5_row_34 : decode cX5_row 34 = .ok (.iload_n 2, 1) := dk_28 (dk_at dksX5_row_1 10 rfl rfl)
theorem dX5_row_35 : decode cX5_row 35 = .ok (.invokevirtual 79, 3) := dk_182 0 79 (dk_at dksX5_row_1 11 rfl rfl)
theorem dX5_row_38 : decode cX5_row 38 = .ok (.istore_n 2, 1) := dk_61 (dk_at dksX5_row_1 14 rfl rfl)
theorem dX5_row_39 : decode cX5_row 39 = .ok (.goto (-33), 3) := dk_167 255 223 (dk_at dksX5_row_1 15 rfl rfl)
theorem dX5_row_42 : decode cX5_row 42 = .ok (.aload_n 0, 1) := dk_42 (dk_at dksX5_row_1 18 rfl rfl)
theorem dX5_row_43 : decode cX5_row 43 = .ok (.dup, 1) := dk_89 (dk_at dksX5_row_1 19 rfl rfl)
theorem dX5_row_44 : decode cX5_row 44 = .ok (.getfield 19, 3) := dk_180 0 19 (dk_at dksX5_row_1 20 rfl rfl)
theorem dX5_row_47 : decode cX5_row 47 = .ok (.iconst 1, 1) := dk_4 (dk_at dksX5_row_1 23 rfl rfl)
theorem dX5_row_48 : decode cX5_row 48 = .ok (.iadd, 1) := dk_96 (dk_at dksX5_row_2 0 rfl rfl)
theorem dX5_row_49 : decode cX5_row 49 = .ok (.putfield 19, 3) := dk_181 0 19 (dk_at dksX5_row_2 1 rfl rfl)
theorem dX5_row_52 : decode cX5_row 52 = .ok (.aload_n 0, 1) := dk_42 (dk_at dksX5_row_2 4 rfl rfl)
theorem dX5_row_53 : decode cX5_row 53 = .ok (.iload_n 2, 1) := dk_28 (dk_at dksX5_row_2 5 rfl rfl)
theorem dX5_row_54 : decode cX5_row 54 = .ok (.invokevirtual 82, 3) := dk_182 0 82 (dk_at dksX5_row_2 6 rfl rfl)
theorem dX5_row_57 : decode cX5_row 57 = .ok (.aload_n 0, 1) := dk_42 (dk_at dksX5_row_2 9 rfl rfl)
theorem dX5_row_58 : decode cX5_row 58 = .ok (.invokevirtual 50, 3) := dk_182 0 50 (dk_at dksX5_row_2 10 rfl rfl)
theorem dX5_row_61 : decode cX5_row 61 = .ok (.pop, 1) := dk_87 (dk_at dksX5_row_2 13 rfl rfl)
theorem dX5_row_62 : decode cX5_row 62 = .ok (.aload_n 0, 1) := dk_42 (dk_at dksX5_row_2 14 rfl rfl)
theorem dX5_row_63 : decode cX5_row 63 = .ok (.bipush 41, 2) := dk_16 41 (dk_at dksX5_row_2 15 rfl rfl)
theorem dX5_row_65 : decode cX5_row 65 = .ok (.invokevirtual 86, 3) := dk_182 0 86 (dk_at dksX5_row_2 17 rfl rfl)
theorem dX5_row_68 : decode cX5_row 68 = .ok (.goto (-62), 3) := dk_167 255 194 (dk_at dksX5_row_2 20 rfl rfl)
theorem dX5_row_71 : decode cX5_row 71 = .ok (.return_, 1) := dk_177 (dk_at dksX5_row_2 23 rfl rfl)
abbrev cX5_atom : ByteArray := prog_2_method_5_code
def yX5_atom : MethodName := ⟨RX5, "atom", "(I)I"⟩
def dkwX5_atom_6 : List UInt8 := [62, 132, 4, 1, 167, 255, 241, 29, 172]
abbrev dktX5_atom_6 : List UInt8 := dkwX5_atom_6 ++ []
def dkwX5_atom_5 : List UInt8 := [182, 0, 73, 167, 0, 4, 4, 61, 27, 62, 3, 54, 4, 21, 4, 28, 162, 0, 15, 42, 29, 182, 0, 76]
abbrev dktX5_atom_5 : List UInt8 := dkwX5_atom_5 ++ dktX5_atom_6
def dkwX5_atom_4 : List UInt8 := [180, 0, 19, 4, 96, 181, 0, 19, 42, 42, 180, 0, 19, 182, 0, 38, 153, 0, 13, 42, 4, 16, 16]
abbrev dktX5_atom_4 : List UInt8 := dkwX5_atom_4 ++ dktX5_atom_5
def dkwX5_atom_3 : List UInt8 := [182, 0, 69, 96, 16, 16, 163, 0, 7, 4, 167, 0, 4, 3, 42, 180, 0, 19, 7, 182, 0, 53, 42, 89]
abbrev dktX5_atom_3 : List UInt8 := dkwX5_atom_3 ++ dktX5_atom_4
def dkwX5_atom_2 : List UInt8 := [180, 0, 19, 6, 182, 0, 53, 42, 42, 180, 0, 57, 180, 0, 66, 42, 42, 180, 0, 19, 4, 96]
abbrev dktX5_atom_2 : List UInt8 := dkwX5_atom_2 ++ dktX5_atom_3
def dkwX5_atom_1 : List UInt8 := [27, 2, 159, 0, 14, 42, 180, 0, 57, 27, 182, 0, 61, 154, 0, 7, 4, 167, 0, 4, 3, 42]
abbrev dktX5_atom_1 : List UInt8 := dkwX5_atom_1 ++ dktX5_atom_2
def dkwX5_atom_0 : List UInt8 := [42, 42, 182, 0, 50, 16, 99, 160, 0, 7, 4, 167, 0, 4, 3, 42, 180, 0, 19, 4, 182, 0, 53, 42]
abbrev dktX5_atom_0 : List UInt8 := dkwX5_atom_0 ++ dktX5_atom_1
theorem dksX5_atom_0 : cX5_atom.data.toList.drop 0 = dktX5_atom_0 := by decide +kernel
theorem dksX5_atom_1 : cX5_atom.data.toList.drop 24 = dktX5_atom_1 := dk_seg dksX5_atom_0 24 rfl rfl
theorem dksX5_atom_2 : cX5_atom.data.toList.drop 46 = dktX5_atom_2 := dk_seg dksX5_atom_1 22 rfl rfl
theorem dksX5_atom_3 : cX5_atom.data.toList.drop 68 = dktX5_atom_3 := dk_seg dksX5_atom_2 22 rfl rfl
theorem dksX5_atom_4 : cX5_atom.data.toList.drop 92 = dktX5_atom_4 := dk_seg dksX5_atom_3 24 rfl rfl
theorem dksX5_atom_5 : cX5_atom.data.toList.drop 115 = dktX5_atom_5 := dk_seg dksX5_atom_4 23 rfl rfl
theorem dksX5_atom_6 : cX5_atom.data.toList.drop 139 = dktX5_atom_6 := dk_seg dksX5_atom_5 24 rfl rfl
theorem dX5_atom_0 : decode cX5_atom 0 = .ok (.aload_n 0, 1) := dk_42 (dk_at dksX5_atom_0 0 rfl rfl)
theorem dX5_atom_1 : decode cX5_atom 1 = .ok (.aload_n 0, 1) := dk_42 (dk_at dksX5_atom_0 1 rfl rfl)
theorem dX5_atom_2 : decode cX5_atom 2 = .ok (.invokevirtual 50, 3) := dk_182 0 50 (dk_at dksX5_atom_0 2 rfl rfl)
theorem dX5_atom_5 : decode cX5_atom 5 = .ok (.bipush 99, 2) := dk_16 99 (dk_at dksX5_atom_0 5 rfl rfl)
theorem dX5_atom_7 : decode cX5_atom 7 = .ok (.if_icmp .ne 7, 3) := dk_160 0 7 (dk_at dksX5_atom_0 7 rfl rfl)
theorem dX5_atom_10 : decode cX5_atom 10 = .ok (.iconst 1, 1) := dk_4 (dk_at dksX5_atom_0 10 rfl rfl)
theorem dX5_atom_11 : decode cX5_atom 11 = .ok (.goto 4, 3) := dk_167 0 4 (dk_at dksX5_atom_0 11 rfl rfl)
theorem dX5_atom_14 : decode cX5_atom 14 = .ok (.iconst 0, 1) := dk_3 (dk_at dksX5_atom_0 14 rfl rfl)
theorem dX5_atom_15 : decode cX5_atom 15 = .ok (.aload_n 0, 1) := dk_42 (dk_at dksX5_atom_0 15 rfl rfl)
theorem dX5_atom_16 : decode cX5_atom 16 = .ok (.getfield 19, 3) := dk_180 0 19 (dk_at dksX5_atom_0 16 rfl rfl)
theorem dX5_atom_19 : decode cX5_atom 19 = .ok (.iconst 1, 1) := dk_4 (dk_at dksX5_atom_0 19 rfl rfl)
theorem dX5_atom_20 : decode cX5_atom 20 = .ok (.invokevirtual 53, 3) := dk_182 0 53 (dk_at dksX5_atom_0 20 rfl rfl)
theorem dX5_atom_23 : decode cX5_atom 23 = .ok (.aload_n 0, 1) := dk_42 (dk_at dksX5_atom_0 23 rfl rfl)
theorem dX5_atom_24 : decode cX5_atom 24 = .ok (.iload_n 1, 1) := dk_27 (dk_at dksX5_atom_1 0 rfl rfl)
theorem dX5_atom_25 : decode cX5_atom 25 = .ok (.iconst (-1), 1) := dk_2 (dk_at dksX5_atom_1 1 rfl rfl)
theorem dX5_atom_26 : decode cX5_atom 26 = .ok (.if_icmp .eq 14, 3) := dk_159 0 14 (dk_at dksX5_atom_1 2 rfl rfl)
theorem dX5_atom_29 : decode cX5_atom 29 = .ok (.aload_n 0, 1) := dk_42 (dk_at dksX5_atom_1 5 rfl rfl)
theorem dX5_atom_30 : decode cX5_atom 30 = .ok (.getfield 57, 3) := dk_180 0 57 (dk_at dksX5_atom_1 6 rfl rfl)
theorem dX5_atom_33 : decode cX5_atom 33 = .ok (.iload_n 1, 1) := dk_27 (dk_at dksX5_atom_1 9 rfl rfl)
theorem dX5_atom_34 : decode cX5_atom 34 = .ok (.invokevirtual 61, 3) := dk_182 0 61 (dk_at dksX5_atom_1 10 rfl rfl)
theorem dX5_atom_37 : decode cX5_atom 37 = .ok (.ifCond .ne 7, 3) := dk_154 0 7 (dk_at dksX5_atom_1 13 rfl rfl)
theorem dX5_atom_40 : decode cX5_atom 40 = .ok (.iconst 1, 1) := dk_4 (dk_at dksX5_atom_1 16 rfl rfl)
theorem dX5_atom_41 : decode cX5_atom 41 = .ok (.goto 4, 3) := dk_167 0 4 (dk_at dksX5_atom_1 17 rfl rfl)
theorem dX5_atom_44 : decode cX5_atom 44 = .ok (.iconst 0, 1) := dk_3 (dk_at dksX5_atom_1 20 rfl rfl)
theorem dX5_atom_45 : decode cX5_atom 45 = .ok (.aload_n 0, 1) := dk_42 (dk_at dksX5_atom_1 21 rfl rfl)
theorem dX5_atom_46 : decode cX5_atom 46 = .ok (.getfield 19, 3) := dk_180 0 19 (dk_at dksX5_atom_2 0 rfl rfl)
theorem dX5_atom_49 : decode cX5_atom 49 = .ok (.iconst 3, 1) := dk_6 (dk_at dksX5_atom_2 3 rfl rfl)
theorem dX5_atom_50 : decode cX5_atom 50 = .ok (.invokevirtual 53, 3) := dk_182 0 53 (dk_at dksX5_atom_2 4 rfl rfl)
theorem dX5_atom_53 : decode cX5_atom 53 = .ok (.aload_n 0, 1) := dk_42 (dk_at dksX5_atom_2 7 rfl rfl)
theorem dX5_atom_54 : decode cX5_atom 54 = .ok (.aload_n 0, 1) := dk_42 (dk_at dksX5_atom_2 8 rfl rfl)
theorem dX5_atom_55 : decode cX5_atom 55 = .ok (.getfield 57, 3) := dk_180 0 57 (dk_at dksX5_atom_2 9 rfl rfl)
theorem dX5_atom_58 : decode cX5_atom 58 = .ok (.getfield 66, 3) := dk_180 0 66 (dk_at dksX5_atom_2 12 rfl rfl)
theorem dX5_atom_61 : decode cX5_atom 61 = .ok (.aload_n 0, 1) := dk_42 (dk_at dksX5_atom_2 15 rfl rfl)
theorem dX5_atom_62 : decode cX5_atom 62 = .ok (.aload_n 0, 1) := dk_42 (dk_at dksX5_atom_2 16 rfl rfl)
theorem dX5_atom_63 : decode cX5_atom 63 = .ok (.getfield 19, 3) := dk_180 0 19 (dk_at dksX5_atom_2 17 rfl rfl)
theorem dX5_atom_66 : decode cX5_atom 66 = .ok (.iconst 1, 1) := dk_4 (dk_at dksX5_atom_2 20 rfl rfl)
theorem dX5_atom_67 : decode cX5_atom 67 = .ok (.iadd, 1) := dk_96 (dk_at dksX5_atom_2 21 rfl rfl)
theorem dX5_atom_68 : decode cX5_atom 68 = .ok (.invokevirtual 69, 3) := dk_182 0 69 (dk_at dksX5_atom_3 0 rfl rfl)
theorem dX5_atom_71 : decode cX5_atom 71 = .ok (.iadd, 1) := dk_96 (dk_at dksX5_atom_3 3 rfl rfl)
theorem dX5_atom_72 : decode cX5_atom 72 = .ok (.bipush 16, 2) := dk_16 16 (dk_at dksX5_atom_3 4 rfl rfl)
theorem dX5_atom_74 : decode cX5_atom 74 = .ok (.if_icmp .gt 7, 3) := dk_163 0 7 (dk_at dksX5_atom_3 6 rfl rfl)
theorem dX5_atom_77 : decode cX5_atom 77 = .ok (.iconst 1, 1) := dk_4 (dk_at dksX5_atom_3 9 rfl rfl)
theorem dX5_atom_78 : decode cX5_atom 78 = .ok (.goto 4, 3) := dk_167 0 4 (dk_at dksX5_atom_3 10 rfl rfl)
theorem dX5_atom_81 : decode cX5_atom 81 = .ok (.iconst 0, 1) := dk_3 (dk_at dksX5_atom_3 13 rfl rfl)
theorem dX5_atom_82 : decode cX5_atom 82 = .ok (.aload_n 0, 1) := dk_42 (dk_at dksX5_atom_3 14 rfl rfl)
theorem dX5_atom_83 : decode cX5_atom 83 = .ok (.getfield 19, 3) := dk_180 0 19 (dk_at dksX5_atom_3 15 rfl rfl)
theorem dX5_atom_86 : decode cX5_atom 86 = .ok (.iconst 4, 1) := dk_7 (dk_at dksX5_atom_3 18 rfl rfl)
theorem dX5_atom_87 : decode cX5_atom 87 = .ok (.invokevirtual 53, 3) := dk_182 0 53 (dk_at dksX5_atom_3 19 rfl rfl)
theorem dX5_atom_90 : decode cX5_atom 90 = .ok (.aload_n 0, 1) := dk_42 (dk_at dksX5_atom_3 22 rfl rfl)
theorem dX5_atom_91 : decode cX5_atom 91 = .ok (.dup, 1) := dk_89 (dk_at dksX5_atom_3 23 rfl rfl)
theorem dX5_atom_92 : decode cX5_atom 92 = .ok (.getfield 19, 3) := dk_180 0 19 (dk_at dksX5_atom_4 0 rfl rfl)
theorem dX5_atom_95 : decode cX5_atom 95 = .ok (.iconst 1, 1) := dk_4 (dk_at dksX5_atom_4 3 rfl rfl)
theorem dX5_atom_96 : decode cX5_atom 96 = .ok (.iadd, 1) := dk_96 (dk_at dksX5_atom_4 4 rfl rfl)
theorem dX5_atom_97 : decode cX5_atom 97 = .ok (.putfield 19, 3) := dk_181 0 19 (dk_at dksX5_atom_4 5 rfl rfl)
theorem dX5_atom_100 : decode cX5_atom 100 = .ok (.aload_n 0, 1) := dk_42 (dk_at dksX5_atom_4 8 rfl rfl)
theorem dX5_atom_101 : decode cX5_atom 101 = .ok (.aload_n 0, 1) := dk_42 (dk_at dksX5_atom_4 9 rfl rfl)
theorem dX5_atom_102 : decode cX5_atom 102 = .ok (.getfield 19, 3) := dk_180 0 19 (dk_at dksX5_atom_4 10 rfl rfl)
theorem dX5_atom_105 : decode cX5_atom 105 = .ok (.invokevirtual 38, 3) := dk_182 0 38 (dk_at dksX5_atom_4 13 rfl rfl)
theorem dX5_atom_108 : decode cX5_atom 108 = .ok (.ifCond .eq 13, 3) := dk_153 0 13 (dk_at dksX5_atom_4 16 rfl rfl)
theorem dX5_atom_111 : decode cX5_atom 111 = .ok (.aload_n 0, 1) := dk_42 (dk_at dksX5_atom_4 19 rfl rfl)
theorem dX5_atom_112 : decode cX5_atom 112 = .ok (.iconst 1, 1) := dk_4 (dk_at dksX5_atom_4 20 rfl rfl)
theorem dX5_atom_113 : decode cX5_atom 113 = .ok (.bipush 16, 2) := dk_16 16 (dk_at dksX5_atom_4 21 rfl rfl)
theorem dX5_atom_115 : decode cX5_atom 115 = .ok (.invokevirtual 73, 3) := dk_182 0 73 (dk_at dksX5_atom_5 0 rfl rfl)
theorem dX5_atom_118 : decode cX5_atom 118 = .ok (.goto 4, 3) := dk_167 0 4 (dk_at dksX5_atom_5 3 rfl rfl)
theorem dX5_atom_121 : decode cX5_atom 121 = .ok (.iconst 1, 1) := dk_4 (dk_at dksX5_atom_5 6 rfl rfl)
theorem dX5_atom_122 : decode cX5_atom 122 = .ok (.istore_n 2, 1) := dk_61 (dk_at dksX5_atom_5 7 rfl rfl)
theorem dX5_atom_123 : decode cX5_atom 123 = .ok (.iload_n 1, 1) := dk_27 (dk_at dksX5_atom_5 8 rfl rfl)
theorem dX5_atom_124 : decode cX5_atom 124 = .ok (.istore_n 3, 1) := dk_62 (dk_at dksX5_atom_5 9 rfl rfl)
theorem dX5_atom_125 : decode cX5_atom 125 = .ok (.iconst 0, 1) := dk_3 (dk_at dksX5_atom_5 10 rfl rfl)
theorem dX5_atom_126 : decode cX5_atom 126 = .ok (.istore 4, 2) := dk_54 4 (dk_at dksX5_atom_5 11 rfl rfl)
theorem dX5_atom_128 : decode cX5_atom 128 = .ok (.iload 4, 2) := dk_21 4 (dk_at dksX5_atom_5 13 rfl rfl)
theorem dX5_atom_130 : decode cX5_atom 130 = .ok (.iload_n 2, 1) := dk_28 (dk_at dksX5_atom_5 15 rfl rfl)
theorem dX5_atom_131 : decode cX5_atom 131 = .ok (.if_icmp .ge 15, 3) := dk_162 0 15 (dk_at dksX5_atom_5 16 rfl rfl)
theorem dX5_atom_134 : decode cX5_atom 134 = .ok (.aload_n 0, 1) := dk_42 (dk_at dksX5_atom_5 19 rfl rfl)
theorem dX5_atom_135 : decode cX5_atom 135 = .ok (.iload_n 3, 1) := dk_29 (dk_at dksX5_atom_5 20 rfl rfl)
theorem dX5_atom_136 : decode cX5_atom 136 = .ok (.invokevirtual 76, 3) := dk_182 0 76 (dk_at dksX5_atom_5 21 rfl rfl)
theorem dX5_atom_139 : decode cX5_atom 139 = .ok (.istore_n 3, 1) := dk_62 (dk_at dksX5_atom_6 0 rfl rfl)
theorem dX5_atom_140 : decode cX5_atom 140 = .ok (.iinc 4 1, 3) := dk_132 4 1 (dk_at dksX5_atom_6 1 rfl rfl)
theorem dX5_atom_143 : decode cX5_atom 143 = .ok (.goto (-15), 3) := dk_167 255 241 (dk_at dksX5_atom_6 4 rfl rfl)
theorem dX5_atom_146 : decode cX5_atom 146 = .ok (.iload_n 3, 1) := dk_29 (dk_at dksX5_atom_6 7 rfl rfl)
theorem dX5_atom_147 : decode cX5_atom 147 = .ok (.ireturn, 1) := dk_172 (dk_at dksX5_atom_6 8 rfl rfl)
abbrev cX5_next : ByteArray := prog_2_method_2_code
def yX5_next : MethodName := ⟨RX5, "next", "()I"⟩
def dkwX5_next_1 : List UInt8 := [182, 0, 15, 172]
abbrev dktX5_next_1 : List UInt8 := dkwX5_next_1 ++ []
def dkwX5_next_0 : List UInt8 := [42, 182, 0, 15, 16, 32, 160, 0, 16, 42, 89, 180, 0, 19, 4, 96, 181, 0, 19, 167, 255, 237, 42]
abbrev dktX5_next_0 : List UInt8 := dkwX5_next_0 ++ dktX5_next_1
theorem dksX5_next_0 : cX5_next.data.toList.drop 0 = dktX5_next_0 := by decide +kernel
theorem dksX5_next_1 : cX5_next.data.toList.drop 23 = dktX5_next_1 := dk_seg dksX5_next_0 23 rfl rfl
theorem dX5_next_0 : decode cX5_next 0 = .ok (.aload_n 0, 1) := dk_42 (dk_at dksX5_next_0 0 rfl rfl)
theorem dX5_next_1 : decode cX5_next 1 = .ok (.invokevirtual 15, 3) := dk_182 0 15 (dk_at dksX5_next_0 1 rfl rfl)
theorem dX5_next_4 : decode cX5_next 4 = .ok (.bipush 32, 2) := dk_16 32 (dk_at dksX5_next_0 4 rfl rfl)
theorem dX5_next_6 : decode cX5_next 6 = .ok (.if_icmp .ne 16, 3) := dk_160 0 16 (dk_at dksX5_next_0 6 rfl rfl)
theorem dX5_next_9 : decode cX5_next 9 = .ok (.aload_n 0, 1) := dk_42 (dk_at dksX5_next_0 9 rfl rfl)
theorem dX5_next_10 : decode cX5_next 10 = .ok (.dup, 1) := dk_89 (dk_at dksX5_next_0 10 rfl rfl)
theorem dX5_next_11 : decode cX5_next 11 = .ok (.getfield 19, 3) := dk_180 0 19 (dk_at dksX5_next_0 11 rfl rfl)
theorem dX5_next_14 : decode cX5_next 14 = .ok (.iconst 1, 1) := dk_4 (dk_at dksX5_next_0 14 rfl rfl)
theorem dX5_next_15 : decode cX5_next 15 = .ok (.iadd, 1) := dk_96 (dk_at dksX5_next_0 15 rfl rfl)
theorem dX5_next_16 : decode cX5_next 16 = .ok (.putfield 19, 3) := dk_181 0 19 (dk_at dksX5_next_0 16 rfl rfl)
theorem dX5_next_19 : decode cX5_next 19 = .ok (.goto (-19), 3) := dk_167 255 237 (dk_at dksX5_next_0 19 rfl rfl)
theorem dX5_next_22 : decode cX5_next 22 = .ok (.aload_n 0, 1) := dk_42 (dk_at dksX5_next_0 22 rfl rfl)
theorem dX5_next_23 : decode cX5_next 23 = .ok (.invokevirtual 15, 3) := dk_182 0 15 (dk_at dksX5_next_1 0 rfl rfl)
theorem dX5_next_26 : decode cX5_next 26 = .ok (.ireturn, 1) := dk_172 (dk_at dksX5_next_1 3 rfl rfl)
abbrev cX5_many : ByteArray := prog_2_method_4_code
def yX5_many : MethodName := ⟨RX5, "many", "(I)I"⟩
def dkwX5_many_2 : List UInt8 := [132, 3, 1, 167, 255, 222, 28, 133, 10, 20, 0, 48, 184, 0, 34, 153, 0, 7, 28, 167, 0, 4, 4, 172]
abbrev dktX5_many_2 : List UInt8 := dkwX5_many_2 ++ []
def dkwX5_many_1 : List UInt8 := [16, 100, 16, 10, 28, 104, 42, 180, 0, 3, 180, 0, 26, 29, 51, 96, 16, 48, 100, 184, 0, 42, 61]
abbrev dktX5_many_1 : List UInt8 := dkwX5_many_1 ++ dktX5_many_2
def dkwX5_many_0 : List UInt8 := [42, 27, 182, 0, 38, 153, 0, 7, 3, 167, 0, 4, 4, 61, 27, 62, 42, 29, 182, 0, 38, 153, 0, 32]
abbrev dktX5_many_0 : List UInt8 := dkwX5_many_0 ++ dktX5_many_1
theorem dksX5_many_0 : cX5_many.data.toList.drop 0 = dktX5_many_0 := by decide +kernel
theorem dksX5_many_1 : cX5_many.data.toList.drop 24 = dktX5_many_1 := dk_seg dksX5_many_0 24 rfl rfl
theorem dksX5_many_2 : cX5_many.data.toList.drop 47 = dktX5_many_2 := dk_seg dksX5_many_1 23 rfl rfl
theorem dX5_many_0 : decode cX5_many 0 = .ok (.aload_n 0, 1) := dk_42 (dk_at dksX5_many_0 0 rfl rfl)
theorem dX5_many_1 : decode cX5_many 1 = .ok (.iload_n 1, 1) := dk_27 (dk_at dksX5_many_0 1 rfl rfl)
theorem dX5_many_2 : decode cX5_many 2 = .ok (.invokevirtual 38, 3) := dk_182 0 38 (dk_at dksX5_many_0 2 rfl rfl)
theorem dX5_many_5 : decode cX5_many 5 = .ok (.ifCond .eq 7, 3) := dk_153 0 7 (dk_at dksX5_many_0 5 rfl rfl)
theorem dX5_many_8 : decode cX5_many 8 = .ok (.iconst 0, 1) := dk_3 (dk_at dksX5_many_0 8 rfl rfl)
theorem dX5_many_9 : decode cX5_many 9 = .ok (.goto 4, 3) := dk_167 0 4 (dk_at dksX5_many_0 9 rfl rfl)
theorem dX5_many_12 : decode cX5_many 12 = .ok (.iconst 1, 1) := dk_4 (dk_at dksX5_many_0 12 rfl rfl)
theorem dX5_many_13 : decode cX5_many 13 = .ok (.istore_n 2, 1) := dk_61 (dk_at dksX5_many_0 13 rfl rfl)
theorem dX5_many_14 : decode cX5_many 14 = .ok (.iload_n 1, 1) := dk_27 (dk_at dksX5_many_0 14 rfl rfl)
theorem dX5_many_15 : decode cX5_many 15 = .ok (.istore_n 3, 1) := dk_62 (dk_at dksX5_many_0 15 rfl rfl)
theorem dX5_many_16 : decode cX5_many 16 = .ok (.aload_n 0, 1) := dk_42 (dk_at dksX5_many_0 16 rfl rfl)
theorem dX5_many_17 : decode cX5_many 17 = .ok (.iload_n 3, 1) := dk_29 (dk_at dksX5_many_0 17 rfl rfl)
theorem dX5_many_18 : decode cX5_many 18 = .ok (.invokevirtual 38, 3) := dk_182 0 38 (dk_at dksX5_many_0 18 rfl rfl)
theorem dX5_many_21 : decode cX5_many 21 = .ok (.ifCond .eq 32, 3) := dk_153 0 32 (dk_at dksX5_many_0 21 rfl rfl)
theorem dX5_many_24 : decode cX5_many 24 = .ok (.bipush 100, 2) := dk_16 100 (dk_at dksX5_many_1 0 rfl rfl)
theorem dX5_many_26 : decode cX5_many 26 = .ok (.bipush 10, 2) := dk_16 10 (dk_at dksX5_many_1 2 rfl rfl)
theorem dX5_many_28 : decode cX5_many 28 = .ok (.iload_n 2, 1) := dk_28 (dk_at dksX5_many_1 4 rfl rfl)
theorem dX5_many_29 : decode cX5_many 29 = .ok (.imul, 1) := dk_104 (dk_at dksX5_many_1 5 rfl rfl)
theorem dX5_many_30 : decode cX5_many 30 = .ok (.aload_n 0, 1) := dk_42 (dk_at dksX5_many_1 6 rfl rfl)
theorem dX5_many_31 : decode cX5_many 31 = .ok (.getfield 3, 3) := dk_180 0 3 (dk_at dksX5_many_1 7 rfl rfl)
theorem dX5_many_34 : decode cX5_many 34 = .ok (.getfield 26, 3) := dk_180 0 26 (dk_at dksX5_many_1 10 rfl rfl)
theorem dX5_many_37 : decode cX5_many 37 = .ok (.iload_n 3, 1) := dk_29 (dk_at dksX5_many_1 13 rfl rfl)
theorem dX5_many_38 : decode cX5_many 38 = .ok (.baload, 1) := dk_51 (dk_at dksX5_many_1 14 rfl rfl)
theorem dX5_many_39 : decode cX5_many 39 = .ok (.iadd, 1) := dk_96 (dk_at dksX5_many_1 15 rfl rfl)
theorem dX5_many_40 : decode cX5_many 40 = .ok (.bipush 48, 2) := dk_16 48 (dk_at dksX5_many_1 16 rfl rfl)
theorem dX5_many_42 : decode cX5_many 42 = .ok (.isub, 1) := dk_100 (dk_at dksX5_many_1 18 rfl rfl)
theorem dX5_many_43 : decode cX5_many 43 = .ok (.invokestatic 42, 3) := dk_184 0 42 (dk_at dksX5_many_1 19 rfl rfl)
theorem dX5_many_46 : decode cX5_many 46 = .ok (.istore_n 2, 1) := dk_61 (dk_at dksX5_many_1 22 rfl rfl)
theorem dX5_many_47 : decode cX5_many 47 = .ok (.iinc 3 1, 3) := dk_132 3 1 (dk_at dksX5_many_2 0 rfl rfl)
theorem dX5_many_50 : decode cX5_many 50 = .ok (.goto (-34), 3) := dk_167 255 222 (dk_at dksX5_many_2 3 rfl rfl)
theorem dX5_many_53 : decode cX5_many 53 = .ok (.iload_n 2, 1) := dk_28 (dk_at dksX5_many_2 6 rfl rfl)
theorem dX5_many_54 : decode cX5_many 54 = .ok (.i2l, 1) := dk_133 (dk_at dksX5_many_2 7 rfl rfl)
theorem dX5_many_55 : decode cX5_many 55 = .ok (.lconst 1, 1) := dk_10 (dk_at dksX5_many_2 8 rfl rfl)
theorem dX5_many_56 : decode cX5_many 56 = .ok (.ldc2_w 48, 3) := dk_20 0 48 (dk_at dksX5_many_2 9 rfl rfl)
theorem dX5_many_59 : decode cX5_many 59 = .ok (.invokestatic 34, 3) := dk_184 0 34 (dk_at dksX5_many_2 12 rfl rfl)
theorem dX5_many_62 : decode cX5_many 62 = .ok (.ifCond .eq 7, 3) := dk_153 0 7 (dk_at dksX5_many_2 15 rfl rfl)
theorem dX5_many_65 : decode cX5_many 65 = .ok (.iload_n 2, 1) := dk_28 (dk_at dksX5_many_2 18 rfl rfl)
theorem dX5_many_66 : decode cX5_many 66 = .ok (.goto 4, 3) := dk_167 0 4 (dk_at dksX5_many_2 19 rfl rfl)
theorem dX5_many_69 : decode cX5_many 69 = .ok (.iconst 1, 1) := dk_4 (dk_at dksX5_many_2 22 rfl rfl)
theorem dX5_many_70 : decode cX5_many 70 = .ok (.ireturn, 1) := dk_172 (dk_at dksX5_many_2 23 rfl rfl)
abbrev cX5_isDigit : ByteArray := prog_2_method_3_code
def yX5_isDigit : MethodName := ⟨RX5, "isDigit", "(I)Z"⟩
def dkwX5_isDigit_1 : List UInt8 := [20, 0, 32, 184, 0, 34, 153, 0, 7, 4, 167, 0, 4, 3, 172]
abbrev dktX5_isDigit_1 : List UInt8 := dkwX5_isDigit_1 ++ []
def dkwX5_isDigit_0 : List UInt8 := [27, 42, 180, 0, 3, 180, 0, 23, 162, 0, 29, 42, 180, 0, 3, 180, 0, 26, 27, 51, 133, 20, 0, 30]
abbrev dktX5_isDigit_0 : List UInt8 := dkwX5_isDigit_0 ++ dktX5_isDigit_1
theorem dksX5_isDigit_0 : cX5_isDigit.data.toList.drop 0 = dktX5_isDigit_0 := by decide +kernel
theorem dksX5_isDigit_1 : cX5_isDigit.data.toList.drop 24 = dktX5_isDigit_1 := dk_seg dksX5_isDigit_0 24 rfl rfl
theorem dX5_isDigit_0 : decode cX5_isDigit 0 = .ok (.iload_n 1, 1) := dk_27 (dk_at dksX5_isDigit_0 0 rfl rfl)
theorem dX5_isDigit_1 : decode cX5_isDigit 1 = .ok (.aload_n 0, 1) := dk_42 (dk_at dksX5_isDigit_0 1 rfl rfl)
theorem dX5_isDigit_2 : decode cX5_isDigit 2 = .ok (.getfield 3, 3) := dk_180 0 3 (dk_at dksX5_isDigit_0 2 rfl rfl)
theorem dX5_isDigit_5 : decode cX5_isDigit 5 = .ok (.getfield 23, 3) := dk_180 0 23 (dk_at dksX5_isDigit_0 5 rfl rfl)
theorem dX5_isDigit_8 : decode cX5_isDigit 8 = .ok (.if_icmp .ge 29, 3) := dk_162 0 29 (dk_at dksX5_isDigit_0 8 rfl rfl)
theorem dX5_isDigit_11 : decode cX5_isDigit 11 = .ok (.aload_n 0, 1) := dk_42 (dk_at dksX5_isDigit_0 11 rfl rfl)
theorem dX5_isDigit_12 : decode cX5_isDigit 12 = .ok (.getfield 3, 3) := dk_180 0 3 (dk_at dksX5_isDigit_0 12 rfl rfl)
theorem dX5_isDigit_15 : decode cX5_isDigit 15 = .ok (.getfield 26, 3) := dk_180 0 26 (dk_at dksX5_isDigit_0 15 rfl rfl)
theorem dX5_isDigit_18 : decode cX5_isDigit 18 = .ok (.iload_n 1, 1) := dk_27 (dk_at dksX5_isDigit_0 18 rfl rfl)
theorem dX5_isDigit_19 : decode cX5_isDigit 19 = .ok (.baload, 1) := dk_51 (dk_at dksX5_isDigit_0 19 rfl rfl)
theorem dX5_isDigit_20 : decode cX5_isDigit 20 = .ok (.i2l, 1) := dk_133 (dk_at dksX5_isDigit_0 20 rfl rfl)
theorem dX5_isDigit_21 : decode cX5_isDigit 21 = .ok (.ldc2_w 30, 3) := dk_20 0 30 (dk_at dksX5_isDigit_0 21 rfl rfl)
theorem dX5_isDigit_24 : decode cX5_isDigit 24 = .ok (.ldc2_w 32, 3) := dk_20 0 32 (dk_at dksX5_isDigit_1 0 rfl rfl)
theorem dX5_isDigit_27 : decode cX5_isDigit 27 = .ok (.invokestatic 34, 3) := dk_184 0 34 (dk_at dksX5_isDigit_1 3 rfl rfl)
theorem dX5_isDigit_30 : decode cX5_isDigit 30 = .ok (.ifCond .eq 7, 3) := dk_153 0 7 (dk_at dksX5_isDigit_1 6 rfl rfl)
theorem dX5_isDigit_33 : decode cX5_isDigit 33 = .ok (.iconst 1, 1) := dk_4 (dk_at dksX5_isDigit_1 9 rfl rfl)
theorem dX5_isDigit_34 : decode cX5_isDigit 34 = .ok (.goto 4, 3) := dk_167 0 4 (dk_at dksX5_isDigit_1 10 rfl rfl)
theorem dX5_isDigit_37 : decode cX5_isDigit 37 = .ok (.iconst 0, 1) := dk_3 (dk_at dksX5_isDigit_1 13 rfl rfl)
theorem dX5_isDigit_38 : decode cX5_isDigit 38 = .ok (.ireturn, 1) := dk_172 (dk_at dksX5_isDigit_1 14 rfl rfl)
theorem q138 : (Jvm.Cond.initialized "Skeletons$Bonds") ∈ lw_all := lw_g (lw_at lw_m1 10 rfl) rfl
theorem q310 : (Jvm.Cond.fieldLinkNest "Skeletons$Bonds" (66 : Nat) "Skeletons$Skeleton" "size" "I" "Skeletons") ∈ lw_tbl := lw_at lw_m1 182 rfl
theorem q356 : (Jvm.Cond.fieldLinkNest "Skeletons$Bonds" (26 : Nat) "Skeletons" "tape" "[B" "Skeletons") ∈ lw_tbl := lw_at lw_m1 228 rfl
theorem q359 : (Jvm.Cond.fieldLinkNest "Skeletons$Bonds" (23 : Nat) "Skeletons" "taped" "I" "Skeletons") ∈ lw_tbl := lw_at lw_m1 231 rfl
theorem q439 : (Jvm.Cond.instantiable "Skeletons$Bonds" (4 : Nat)) ∈ lw_all := lw_g (lw_at lw_m2 71 rfl) rfl
theorem q441 : (Jvm.Cond.instanceMethod ({ cls := "Skeletons$Bonds", name := "<init>", desc := "(LSkeletons;)V" } : Jvm.MethodName)) ∈ lw_all := lw_g (lw_at lw_m2 73 rfl) rfl
theorem q442 : (Jvm.Cond.code ({ cls := "Skeletons$Bonds", name := "<init>", desc := "(LSkeletons;)V" } : Jvm.MethodName) prog_2_method_1_code (2 : Nat) (Option.none : Option Jvm.ClassFile.FieldType)) ∈ lw_all := lw_g (lw_at lw_m2 74 rfl) rfl
theorem q443 : (Jvm.Cond.methodLinkNest "Skeletons$Bonds" (9 : Nat) ({ cls := "Skeletons$Reader", name := "<init>", desc := "(LSkeletons;)V" } : Jvm.MethodName) "Skeletons") ∈ lw_tbl := lw_at lw_m2 75 rfl
theorem q449 : (Jvm.Cond.fieldLink "Skeletons$Bonds" (3 : Nat) "Skeletons$Bonds" "this$0" "LSkeletons;") ∈ lw_all := lw_g (lw_at lw_m2 81 rfl) rfl
theorem q453 : (Jvm.Cond.fieldLink "Skeletons$Bonds" (57 : Nat) "Skeletons$Bonds" "its" "LSkeletons$Skeleton;") ∈ lw_all := lw_g (lw_at lw_m2 85 rfl) rfl
theorem q454 : (Jvm.Cond.sameField "Skeletons$Bonds" "Skeletons$Reader" "its" "LSkeletons$Skeleton;") ∈ lw_all := lw_g (lw_at lw_m2 86 rfl) rfl
theorem q459 : (Jvm.Cond.fieldLink "Skeletons$Bonds" (19 : Nat) "Skeletons$Bonds" "at" "I") ∈ lw_all := lw_g (lw_at lw_m2 91 rfl) rfl
theorem q460 : (Jvm.Cond.sameField "Skeletons$Bonds" "Skeletons$Reader" "at" "I") ∈ lw_all := lw_g (lw_at lw_m2 92 rfl) rfl
theorem q462 : (Jvm.Cond.laysFinal "Skeletons$Bonds" "Skeletons$Bonds" "this$0" "LSkeletons;") ∈ lw_all := lw_g (lw_at lw_m2 94 rfl) rfl
theorem q463 : (Jvm.Cond.soleField "Skeletons$Bonds" "this$0") ∈ lw_all := lw_g (lw_at lw_m2 95 rfl) rfl
theorem q464 : (Jvm.Cond.laysFinal "Skeletons$Bonds" "Skeletons$Reader" "its" "LSkeletons$Skeleton;") ∈ lw_all := lw_g (lw_at lw_m2 96 rfl) rfl
theorem q466 : (Jvm.Cond.lays "Skeletons$Bonds" "Skeletons$Reader" "at" "I") ∈ lw_all := lw_g (lw_at lw_m2 98 rfl) rfl
theorem q468 : (Jvm.Cond.laysFinal "Skeletons$Bonds" "Skeletons$Reader" "this$0" "LSkeletons;") ∈ lw_all := lw_g (lw_at lw_m2 100 rfl) rfl
theorem q470 : (Jvm.Cond.superclass "Skeletons$Bonds" "Skeletons$Reader") ∈ lw_all := lw_g (lw_at lw_m2 102 rfl) rfl
theorem q487 : (Jvm.Cond.selects "Skeletons$Bonds" ({ cls := "Skeletons$Reader", name := "reads", desc := "()V" } : Jvm.MethodName) ({ cls := "Skeletons$Bonds", name := "reads", desc := "()V" } : Jvm.MethodName)) ∈ lw_all := lw_g (lw_at lw_m2 119 rfl) rfl
theorem q488 : (Jvm.Cond.instanceMethod ({ cls := "Skeletons$Bonds", name := "reads", desc := "()V" } : Jvm.MethodName)) ∈ lw_all := lw_g (lw_at lw_m2 120 rfl) rfl
theorem q489 : (Jvm.Cond.code ({ cls := "Skeletons$Bonds", name := "reads", desc := "()V" } : Jvm.MethodName) prog_2_method_7_code (1 : Nat) (Option.none : Option Jvm.ClassFile.FieldType)) ∈ lw_all := lw_g (lw_at lw_m2 121 rfl) rfl
theorem q490 : (Jvm.Cond.methodLink "Skeletons$Bonds" (82 : Nat) ({ cls := "Skeletons$Bonds", name := "row", desc := "(I)V" } : Jvm.MethodName)) ∈ lw_all := lw_g (lw_at lw_m2 122 rfl) rfl
theorem q491 : (Jvm.Cond.privateMethod ({ cls := "Skeletons$Bonds", name := "row", desc := "(I)V" } : Jvm.MethodName)) ∈ lw_tbl := lw_at lw_m2 123 rfl
theorem q492 : (Jvm.Cond.instanceMethod ({ cls := "Skeletons$Bonds", name := "row", desc := "(I)V" } : Jvm.MethodName)) ∈ lw_all := lw_g (lw_at lw_m2 124 rfl) rfl
theorem q493 : (Jvm.Cond.code ({ cls := "Skeletons$Bonds", name := "row", desc := "(I)V" } : Jvm.MethodName) prog_2_method_6_code (3 : Nat) (Option.none : Option Jvm.ClassFile.FieldType)) ∈ lw_all := lw_g (lw_at lw_m2 125 rfl) rfl
theorem q494 : (Jvm.Cond.methodLink "Skeletons$Bonds" (79 : Nat) ({ cls := "Skeletons$Bonds", name := "atom", desc := "(I)I" } : Jvm.MethodName)) ∈ lw_all := lw_g (lw_at lw_m2 126 rfl) rfl
theorem q495 : (Jvm.Cond.privateMethod ({ cls := "Skeletons$Bonds", name := "atom", desc := "(I)I" } : Jvm.MethodName)) ∈ lw_tbl := lw_at lw_m2 127 rfl
theorem q496 : (Jvm.Cond.instanceMethod ({ cls := "Skeletons$Bonds", name := "atom", desc := "(I)I" } : Jvm.MethodName)) ∈ lw_all := lw_g (lw_at lw_m2 128 rfl) rfl
theorem q497 : (Jvm.Cond.code ({ cls := "Skeletons$Bonds", name := "atom", desc := "(I)I" } : Jvm.MethodName) prog_2_method_5_code (5 : Nat) (Option.some Jvm.ClassFile.FieldType.int)) ∈ lw_all := lw_g (lw_at lw_m2 129 rfl) rfl
theorem q498 : (Jvm.Cond.methodLink "Skeletons$Bonds" (50 : Nat) ({ cls := "Skeletons$Bonds", name := "next", desc := "()I" } : Jvm.MethodName)) ∈ lw_all := lw_g (lw_at lw_m2 130 rfl) rfl
theorem q499 : (Jvm.Cond.privateMethod ({ cls := "Skeletons$Bonds", name := "next", desc := "()I" } : Jvm.MethodName)) ∈ lw_tbl := lw_at lw_m2 131 rfl
theorem q500 : (Jvm.Cond.instanceMethod ({ cls := "Skeletons$Bonds", name := "next", desc := "()I" } : Jvm.MethodName)) ∈ lw_all := lw_g (lw_at lw_m2 132 rfl) rfl
theorem q501 : (Jvm.Cond.code ({ cls := "Skeletons$Bonds", name := "next", desc := "()I" } : Jvm.MethodName) prog_2_method_2_code (1 : Nat) (Option.some Jvm.ClassFile.FieldType.int)) ∈ lw_all := lw_g (lw_at lw_m2 133 rfl) rfl
theorem q502 : (Jvm.Cond.methodLink "Skeletons$Bonds" (15 : Nat) ({ cls := "Skeletons$Bonds", name := "sign", desc := "()I" } : Jvm.MethodName)) ∈ lw_all := lw_g (lw_at lw_m2 134 rfl) rfl
theorem q503 : (Jvm.Cond.sameMethod "Skeletons$Bonds" "Skeletons$Reader" "sign" "()I") ∈ lw_all := lw_g (lw_at lw_m2 135 rfl) rfl
theorem q505 : (Jvm.Cond.selects "Skeletons$Bonds" ({ cls := "Skeletons$Bonds", name := "sign", desc := "()I" } : Jvm.MethodName) ({ cls := "Skeletons$Reader", name := "sign", desc := "()I" } : Jvm.MethodName)) ∈ lw_all := lw_g (lw_at lw_m2 137 rfl) rfl
theorem q508 : (Jvm.Cond.methodLink "Skeletons$Bonds" (53 : Nat) ({ cls := "Skeletons$Bonds", name := "check", desc := "(ZII)V" } : Jvm.MethodName)) ∈ lw_all := lw_g (lw_at lw_m2 140 rfl) rfl
theorem q509 : (Jvm.Cond.sameMethod "Skeletons$Bonds" "Skeletons$Reader" "check" "(ZII)V") ∈ lw_all := lw_g (lw_at lw_m2 141 rfl) rfl
theorem q511 : (Jvm.Cond.selects "Skeletons$Bonds" ({ cls := "Skeletons$Bonds", name := "check", desc := "(ZII)V" } : Jvm.MethodName) ({ cls := "Skeletons$Reader", name := "check", desc := "(ZII)V" } : Jvm.MethodName)) ∈ lw_all := lw_g (lw_at lw_m2 143 rfl) rfl
theorem q577 : (Jvm.Cond.methodLink "Skeletons$Bonds" (61 : Nat) ({ cls := "Skeletons$Skeleton", name := "isFull", desc := "(I)Z" } : Jvm.MethodName)) ∈ lw_all := lw_g (lw_at lw_m2 209 rfl) rfl
theorem q581 : (Jvm.Cond.methodLink "Skeletons$Bonds" (69 : Nat) ({ cls := "Skeletons$Bonds", name := "many", desc := "(I)I" } : Jvm.MethodName)) ∈ lw_all := lw_g (lw_at lw_m2 213 rfl) rfl
theorem q582 : (Jvm.Cond.privateMethod ({ cls := "Skeletons$Bonds", name := "many", desc := "(I)I" } : Jvm.MethodName)) ∈ lw_tbl := lw_at lw_m2 214 rfl
theorem q583 : (Jvm.Cond.instanceMethod ({ cls := "Skeletons$Bonds", name := "many", desc := "(I)I" } : Jvm.MethodName)) ∈ lw_all := lw_g (lw_at lw_m2 215 rfl) rfl
theorem q584 : (Jvm.Cond.code ({ cls := "Skeletons$Bonds", name := "many", desc := "(I)I" } : Jvm.MethodName) prog_2_method_4_code (4 : Nat) (Option.some Jvm.ClassFile.FieldType.int)) ∈ lw_all := lw_g (lw_at lw_m2 216 rfl) rfl
theorem q585 : (Jvm.Cond.methodLink "Skeletons$Bonds" (38 : Nat) ({ cls := "Skeletons$Bonds", name := "isDigit", desc := "(I)Z" } : Jvm.MethodName)) ∈ lw_all := lw_g (lw_at lw_m2 217 rfl) rfl
theorem q586 : (Jvm.Cond.privateMethod ({ cls := "Skeletons$Bonds", name := "isDigit", desc := "(I)Z" } : Jvm.MethodName)) ∈ lw_tbl := lw_at lw_m2 218 rfl
theorem q587 : (Jvm.Cond.instanceMethod ({ cls := "Skeletons$Bonds", name := "isDigit", desc := "(I)Z" } : Jvm.MethodName)) ∈ lw_all := lw_g (lw_at lw_m2 219 rfl) rfl
theorem q588 : (Jvm.Cond.code ({ cls := "Skeletons$Bonds", name := "isDigit", desc := "(I)Z" } : Jvm.MethodName) prog_2_method_3_code (2 : Nat) (Option.some Jvm.ClassFile.FieldType.boolean)) ∈ lw_all := lw_g (lw_at lw_m2 220 rfl) rfl
theorem q589 : (Jvm.Cond.constantLong "Skeletons$Bonds" (30 : Nat) (48 : Int64)) ∈ lw_all := lw_g (lw_at lw_m2 221 rfl) rfl
theorem q590 : (Jvm.Cond.constantLong "Skeletons$Bonds" (32 : Nat) (57 : Int64)) ∈ lw_all := lw_g (lw_at lw_m2 222 rfl) rfl
theorem q591 : (Jvm.Cond.methodLinkNest "Skeletons$Bonds" (34 : Nat) ({ cls := "Skeletons", name := "in", desc := "(JJJ)Z" } : Jvm.MethodName) "Skeletons") ∈ lw_tbl := lw_at lw_m2 223 rfl
theorem q592 : (Jvm.Cond.methodLink "Skeletons$Bonds" (42 : Nat) ({ cls := "java/lang/Math", name := "min", desc := "(II)I" } : Jvm.MethodName)) ∈ lw_all := lw_g (lw_at lw_m2 224 rfl) rfl
theorem q595 : (Jvm.Cond.constantLong "Skeletons$Bonds" (48 : Nat) (16 : Int64)) ∈ lw_all := lw_g (lw_at lw_m2 227 rfl) rfl
theorem q596 : (Jvm.Cond.methodLink "Skeletons$Bonds" (73 : Nat) ({ cls := "Skeletons$Bonds", name := "number", desc := "(II)I" } : Jvm.MethodName)) ∈ lw_all := lw_g (lw_at lw_m2 228 rfl) rfl
theorem q597 : (Jvm.Cond.sameMethod "Skeletons$Bonds" "Skeletons$Reader" "number" "(II)I") ∈ lw_all := lw_g (lw_at lw_m2 229 rfl) rfl
theorem q599 : (Jvm.Cond.selects "Skeletons$Bonds" ({ cls := "Skeletons$Bonds", name := "number", desc := "(II)I" } : Jvm.MethodName) ({ cls := "Skeletons$Reader", name := "number", desc := "(II)I" } : Jvm.MethodName)) ∈ lw_all := lw_g (lw_at lw_m2 231 rfl) rfl
theorem q608 : (Jvm.Cond.methodLink "Skeletons$Bonds" (76 : Nat) ({ cls := "Skeletons$Bonds", name := "adds", desc := "(I)I" } : Jvm.MethodName)) ∈ lw_all := lw_g (lw_at lw_m3 0 rfl) rfl
theorem q609 : (Jvm.Cond.sameMethod "Skeletons$Bonds" "Skeletons$Reader" "adds" "(I)I") ∈ lw_all := lw_g (lw_at lw_m3 1 rfl) rfl
theorem q611 : (Jvm.Cond.selects "Skeletons$Bonds" ({ cls := "Skeletons$Bonds", name := "adds", desc := "(I)I" } : Jvm.MethodName) ({ cls := "Skeletons$Reader", name := "adds", desc := "(I)I" } : Jvm.MethodName)) ∈ lw_all := lw_g (lw_at lw_m3 3 rfl) rfl
theorem q623 : (Jvm.Cond.methodLink "Skeletons$Bonds" (86 : Nat) ({ cls := "Skeletons$Bonds", name := "must", desc := "(I)V" } : Jvm.MethodName)) ∈ lw_all := lw_g (lw_at lw_m3 15 rfl) rfl
theorem q624 : (Jvm.Cond.sameMethod "Skeletons$Bonds" "Skeletons$Reader" "must" "(I)V") ∈ lw_all := lw_g (lw_at lw_m3 16 rfl) rfl
theorem q626 : (Jvm.Cond.selects "Skeletons$Bonds" ({ cls := "Skeletons$Bonds", name := "must", desc := "(I)V" } : Jvm.MethodName) ({ cls := "Skeletons$Reader", name := "must", desc := "(I)V" } : Jvm.MethodName)) ∈ lw_all := lw_g (lw_at lw_m3 18 rfl) rfl
theorem q696 : (Jvm.Cond.selects "Skeletons$Bonds" ({ cls := "java/lang/Object", name := "getClass", desc := "()Ljava/lang/Class;" } : Jvm.MethodName) ({ cls := "java/lang/Object", name := "getClass", desc := "()Ljava/lang/Class;" } : Jvm.MethodName)) ∈ lw_all := lw_g (lw_at lw_m3 88 rfl) rfl
theorem q2749 : (Jvm.Cond.selects "Skeletons$Bonds" ({ cls := "Skeletons$Reader", name := "sign", desc := "()I" } : Jvm.MethodName) ({ cls := "Skeletons$Reader", name := "sign", desc := "()I" } : Jvm.MethodName)) ∈ lw_all := lw_g (lw_at lw_m11 221 rfl) rfl
theorem q2752 : (Jvm.Cond.selects "Skeletons$Bonds" ({ cls := "Skeletons$Reader", name := "check", desc := "(ZII)V" } : Jvm.MethodName) ({ cls := "Skeletons$Reader", name := "check", desc := "(ZII)V" } : Jvm.MethodName)) ∈ lw_all := lw_g (lw_at lw_m11 224 rfl) rfl
theorem q2784 : (Jvm.Cond.castable "Skeletons$Bonds" "java/lang/Object") ∈ lw_tbl := lw_at lw_m12 16 rfl
theorem in_X5 : ∀ w ∈ wsX50, w ∈ lw_all := lw_in wsX50 [464, 466, 468, 462] (by decide +kernel) (by decide +kernel)
/-! Skeletons$Names -/
set_option maxRecDepth 100000
def RX6 : String := "Skeletons$Names"
def TX6 : u_T := fun k => match k with
  | 0 => ("Skeletons$Reader", "its", "LSkeletons$Skeleton;", true)
  | 1 => ("Skeletons$Reader", "at", "I", false)
  | 2 => ("Skeletons$Reader", "this$0", "LSkeletons;", true)
  | _ => ("Skeletons$Names", "this$0", "LSkeletons;", true)
def tyX6 : Nat → FieldType := fun k => match k with
  | 0 => .object "Skeletons$Skeleton"
  | 1 => .int
  | 2 => .object "Skeletons"
  | _ => .object "Skeletons"
abbrev wsX60 : List Cond := u_ws RX6 TX6 4
-- two fields of one name: no nmX6
theorem tyX6_ok : ∀ k, k < 4 → parseFieldDescriptor (TX6 k).2.2.1 = some (tyX6 k) := by decide +kernel
abbrev cX6_init : ByteArray := prog_8_method_1_code
def yX6_init : MethodName := ⟨RX6, "<init>", "(LSkeletons;)V"⟩
def dkwX6_init_0 : List UInt8 := [42, 43, 181, 0, 3, 42, 43, 183, 0, 9, 177]
abbrev dktX6_init_0 : List UInt8 := dkwX6_init_0 ++ []
theorem dksX6_init_0 : cX6_init.data.toList.drop 0 = dktX6_init_0 := by decide +kernel
theorem dX6_init_0 : decode cX6_init 0 = .ok (.aload_n 0, 1) := dk_42 (dk_at dksX6_init_0 0 rfl rfl)
theorem dX6_init_1 : decode cX6_init 1 = .ok (.aload_n 1, 1) := dk_43 (dk_at dksX6_init_0 1 rfl rfl)
theorem dX6_init_2 : decode cX6_init 2 = .ok (.putfield 3, 3) := dk_181 0 3 (dk_at dksX6_init_0 2 rfl rfl)
theorem dX6_init_5 : decode cX6_init 5 = .ok (.aload_n 0, 1) := dk_42 (dk_at dksX6_init_0 5 rfl rfl)
theorem dX6_init_6 : decode cX6_init 6 = .ok (.aload_n 1, 1) := dk_43 (dk_at dksX6_init_0 6 rfl rfl)
theorem dX6_init_7 : decode cX6_init 7 = .ok (.invokespecial 9, 3) := dk_183 0 9 (dk_at dksX6_init_0 7 rfl rfl)
theorem dX6_init_10 : decode cX6_init 10 = .ok (.return_, 1) := dk_177 (dk_at dksX6_init_0 10 rfl rfl)
abbrev cX6_reads : ByteArray := prog_8_method_4_code
def yX6_reads : MethodName := ⟨RX6, "reads", "()V"⟩
def dkwX6_reads_1 : List UInt8 := [182, 0, 32, 177]
abbrev dktX6_reads_1 : List UInt8 := dkwX6_reads_1 ++ []
def dkwX6_reads_0 : List UInt8 := [42, 2, 182, 0, 63, 42, 42, 182, 0, 40, 2, 160, 0, 7, 4, 167, 0, 4, 3, 42, 180, 0, 15, 4]
abbrev dktX6_reads_0 : List UInt8 := dkwX6_reads_0 ++ dktX6_reads_1
theorem dksX6_reads_0 : cX6_reads.data.toList.drop 0 = dktX6_reads_0 := by decide +kernel
theorem dksX6_reads_1 : cX6_reads.data.toList.drop 24 = dktX6_reads_1 := dk_seg dksX6_reads_0 24 rfl rfl
theorem dX6_reads_0 : decode cX6_reads 0 = .ok (.aload_n 0, 1) := dk_42 (dk_at dksX6_reads_0 0 rfl rfl)
theorem dX6_reads_1 : decode cX6_reads 1 = .ok (.iconst (-1), 1) := dk_2 (dk_at dksX6_reads_0 1 rfl rfl)
theorem dX6_reads_2 : decode cX6_reads 2 = .ok (.invokevirtual 63, 3) := dk_182 0 63 (dk_at dksX6_reads_0 2 rfl rfl)
theorem dX6_reads_5 : decode cX6_reads 5 = .ok (.aload_n 0, 1) := dk_42 (dk_at dksX6_reads_0 5 rfl rfl)
theorem dX6_reads_6 : decode cX6_reads 6 = .ok (.aload_n 0, 1) := dk_42 (dk_at dksX6_reads_0 6 rfl rfl)
theorem dX6_reads_7 : decode cX6_reads 7 = .ok (.invokevirtual 40, 3) := dk_182 0 40 (dk_at dksX6_reads_0 7 rfl rfl)
theorem dX6_reads_10 : decode cX6_reads 10 = .ok (.iconst (-1), 1) := dk_2 (dk_at dksX6_reads_0 10 rfl rfl)
theorem dX6_reads_11 : decode cX6_reads 11 = .ok (.if_icmp .ne 7, 3) := dk_160 0 7 (dk_at dksX6_reads_0 11 rfl rfl)
theorem dX6_reads_14 : decode cX6_reads 14 = .ok (.iconst 1, 1) := dk_4 (dk_at dksX6_reads_0 14 rfl rfl)
theorem dX6_reads_15 : decode cX6_reads 15 = .ok (.goto 4, 3) := dk_167 0 4 (dk_at dksX6_reads_0 15 rfl rfl)
theorem dX6_reads_18 : decode cX6_reads 18 = .ok (.iconst 0, 1) := dk_3 (dk_at dksX6_reads_0 18 rfl rfl)
theorem dX6_reads_19 : decode cX6_reads 19 = .ok (.aload_n 0, 1) := dk_42 (dk_at dksX6_reads_0 19 rfl rfl)
theorem dX6_reads_20 : decode cX6_reads 20 = .ok (.getfield 15, 3) := dk_180 0 15 (dk_at dksX6_reads_0 20 rfl rfl)
theorem dX6_reads_23 : decode cX6_reads 23 = .ok (.iconst 1, 1) := dk_4 (dk_at dksX6_reads_0 23 rfl rfl)
theorem dX6_reads_24 : decode cX6_reads 24 = .ok (.invokevirtual 32, 3) := dk_182 0 32 (dk_at dksX6_reads_1 0 rfl rfl)
theorem dX6_reads_27 : decode cX6_reads 27 = .ok (.return_, 1) := dk_177 (dk_at dksX6_reads_1 3 rfl rfl)
abbrev cX6_chain : ByteArray := prog_8_method_2_code
def yX6_chain : MethodName := ⟨RX6, "chain", "(I)V"⟩
def dkwX6_chain_5 : List UInt8 := [4, 100, 182, 0, 48, 167, 255, 211, 177]
abbrev dktX6_chain_5 : List UInt8 := dkwX6_chain_5 ++ []
def dkwX6_chain_4 : List UInt8 := [181, 0, 15, 42, 21, 6, 29, 182, 0, 19, 54, 6, 42, 16, 58, 182, 0, 44, 42, 21, 4, 21, 6, 96]
abbrev dktX6_chain_4 : List UInt8 := dkwX6_chain_4 ++ dktX6_chain_5
def dkwX6_chain_3 : List UInt8 := [167, 255, 239, 4, 54, 6, 42, 182, 0, 40, 16, 45, 160, 0, 42, 42, 89, 180, 0, 15, 4, 96]
abbrev dktX6_chain_3 : List UInt8 := dkwX6_chain_3 ++ dktX6_chain_4
def dkwX6_chain_2 : List UInt8 := [27, 54, 5, 3, 54, 6, 21, 6, 29, 162, 0, 17, 42, 21, 5, 182, 0, 36, 54, 5, 132, 6, 1]
abbrev dktX6_chain_2 : List UInt8 := dkwX6_chain_2 ++ dktX6_chain_3
def dkwX6_chain_1 : List UInt8 := [16, 16, 163, 0, 7, 4, 167, 0, 4, 3, 28, 7, 182, 0, 32, 42, 180, 0, 23, 180, 0, 27, 54, 4]
abbrev dktX6_chain_1 : List UInt8 := dkwX6_chain_1 ++ dktX6_chain_2
def dkwX6_chain_0 : List UInt8 := [42, 180, 0, 15, 61, 42, 4, 16, 16, 182, 0, 19, 62, 42, 42, 180, 0, 23, 180, 0, 27, 29, 96]
abbrev dktX6_chain_0 : List UInt8 := dkwX6_chain_0 ++ dktX6_chain_1
theorem dksX6_chain_0 : cX6_chain.data.toList.drop 0 = dktX6_chain_0 := by decide +kernel
theorem dksX6_chain_1 : cX6_chain.data.toList.drop 23 = dktX6_chain_1 := dk_seg dksX6_chain_0 23 rfl rfl
theorem dksX6_chain_2 : cX6_chain.data.toList.drop 47 = dktX6_chain_2 := dk_seg dksX6_chain_1 24 rfl rfl
theorem dksX6_chain_3 : cX6_chain.data.toList.drop 70 = dktX6_chain_3 := dk_seg dksX6_chain_2 23 rfl rfl
theorem dksX6_chain_4 : cX6_chain.data.toList.drop 92 = dktX6_chain_4 := dk_seg dksX6_chain_3 22 rfl rfl
theorem dksX6_chain_5 : cX6_chain.data.toList.drop 116 = dktX6_chain_5 := dk_seg dksX6_chain_4 24 rfl rfl
theorem dX6_chain_0 : decode cX6_chain 0 = .ok (.aload_n 0, 1) := dk_42 (dk_at dksX6_chain_0 0 rfl rfl)
theorem dX6_chain_1 : decode cX6_chain 1 = .ok (.getfield 15, 3) := dk_180 0 15 (dk_at dksX6_chain_0 1 rfl rfl)
theorem dX6_chain_4 : decode cX6_chain 4 = .ok (.istore_n 2, 1) := dk_61 (dk_at dksX6_chain_0 4 rfl rfl)
theorem dX6_chain_5 : decode cX6_chain 5 = .ok (.aload_n 0, 1) := dk_42 (dk_at dksX6_chain_0 5 rfl rfl)
theorem dX6_chain_6 : decode cX6_chain 6 = .ok (.iconst 1, 1) := dk_4 (dk_at dksX6_chain_0 6 rfl rfl)
theorem dX6_chain_7 : decode cX6_chain 7 = .ok (.bipush 16, 2) := dk_16 16 (dk_at dksX6_chain_0 7 rfl rfl)
theorem dX6_chain_9 : decode cX6_chain 9 = .ok (.invokevirtual 19, 3) := dk_182 0 19 (dk_at dksX6_chain_0 9 rfl rfl)
theorem dX6_chain_12 : decode cX6_chain 12 = .ok (.istore_n 3, 1) := dk_62 (dk_at dksX6_chain_0 12 rfl rfl)
theorem dX6_chain_13 : decode cX6_chain 13 = .ok (.aload_n 0, 1) := dk_42 (dk_at dksX6_chain_0 13 rfl rfl)
theorem dX6_chain_14 : decode cX6_chain 14 = .ok (.aload_n 0, 1) := dk_42 (dk_at dksX6_chain_0 14 rfl rfl)
theorem dX6_chain_15 : decode cX6_chain 15 = .ok (.getfield 23, 3) := dk_180 0 23 (dk_at dksX6_chain_0 15 rfl rfl)
theorem dX6_chain_18 : decode cX6_chain 18 = .ok (.getfield 27, 3) := dk_180 0 27 (dk_at dksX6_chain_0 18 rfl rfl)
theorem dX6_chain_21 : decode cX6_chain 21 = .ok (.iload_n 3, 1) := dk_29 (dk_at dksX6_chain_0 21 rfl rfl)
theorem dX6_chain_22 : decode cX6_chain 22 = .ok (.iadd, 1) := dk_96 (dk_at dksX6_chain_0 22 rfl rfl)
theorem dX6_chain_23 : decode cX6_chain 23 = .ok (.bipush 16, 2) := dk_16 16 (dk_at dksX6_chain_1 0 rfl rfl)
theorem dX6_chain_25 : decode cX6_chain 25 = .ok (.if_icmp .gt 7, 3) := dk_163 0 7 (dk_at dksX6_chain_1 2 rfl rfl)
theorem dX6_chain_28 : decode cX6_chain 28 = .ok (.iconst 1, 1) := dk_4 (dk_at dksX6_chain_1 5 rfl rfl)
theorem dX6_chain_29 : decode cX6_chain 29 = .ok (.goto 4, 3) := dk_167 0 4 (dk_at dksX6_chain_1 6 rfl rfl)
theorem dX6_chain_32 : decode cX6_chain 32 = .ok (.iconst 0, 1) := dk_3 (dk_at dksX6_chain_1 9 rfl rfl)
theorem dX6_chain_33 : decode cX6_chain 33 = .ok (.iload_n 2, 1) := dk_28 (dk_at dksX6_chain_1 10 rfl rfl)
theorem dX6_chain_34 : decode cX6_chain 34 = .ok (.iconst 4, 1) := dk_7 (dk_at dksX6_chain_1 11 rfl rfl)
theorem dX6_chain_35 : decode cX6_chain 35 = .ok (.invokevirtual 32, 3) := dk_182 0 32 (dk_at dksX6_chain_1 12 rfl rfl)
theorem dX6_chain_38 : decode cX6_chain 38 = .ok (.aload_n 0, 1) := dk_42 (dk_at dksX6_chain_1 15 rfl rfl)
theorem dX6_chain_39 : decode cX6_chain 39 = .ok (.getfield 23, 3) := dk_180 0 23 (dk_at dksX6_chain_1 16 rfl rfl)
theorem dX6_chain_42 : decode cX6_chain 42 = .ok (.getfield 27, 3) := dk_180 0 27 (dk_at dksX6_chain_1 19 rfl rfl)
theorem dX6_chain_45 : decode cX6_chain 45 = .ok (.istore 4, 2) := dk_54 4 (dk_at dksX6_chain_1 22 rfl rfl)
theorem dX6_chain_47 : decode cX6_chain 47 = .ok (.iload_n 1, 1) := dk_27 (dk_at dksX6_chain_2 0 rfl rfl)
theorem dX6_chain_48 : decode cX6_chain 48 = .ok (.istore 5, 2) := dk_54 5 (dk_at dksX6_chain_2 1 rfl rfl)
theorem dX6_chain_50 : decode cX6_chain 50 = .ok (.iconst 0, 1) := dk_3 (dk_at dksX6_chain_2 3 rfl rfl)
theorem dX6_chain_51 : decode cX6_chain 51 = .ok (.istore 6, 2) := dk_54 6 (dk_at dksX6_chain_2 4 rfl rfl)
theorem dX6_chain_53 : decode cX6_chain 53 = .ok (.iload 6, 2) := dk_21 6 (dk_at dksX6_chain_2 6 rfl rfl)
theorem dX6_chain_55 : decode cX6_chain 55 = .ok (.iload_n 3, 1) := dk_29 (dk_at dksX6_chain_2 8 rfl rfl)
theorem dX6_chain_56 : decode cX6_chain 56 = .ok (.if_icmp .ge 17, 3) := dk_162 0 17 (dk_at dksX6_chain_2 9 rfl rfl)
theorem dX6_chain_59 : decode cX6_chain 59 = .ok (.aload_n 0, 1) := dk_42 (dk_at dksX6_chain_2 12 rfl rfl)
theorem dX6_chain_60 : decode cX6_chain 60 = .ok (.iload 5, 2) := dk_21 5 (dk_at dksX6_chain_2 13 rfl rfl)
theorem dX6_chain_62 : decode cX6_chain 62 = .ok (.invokevirtual 36, 3) := dk_182 0 36 (dk_at dksX6_chain_2 15 rfl rfl)
theorem dX6_chain_65 : decode cX6_chain 65 = .ok (.istore 5, 2) := dk_54 5 (dk_at dksX6_chain_2 18 rfl rfl)
theorem dX6_chain_67 : decode cX6_chain 67 = .ok (.iinc 6 1, 3) := dk_132 6 1 (dk_at dksX6_chain_2 20 rfl rfl)
theorem dX6_chain_70 : decode cX6_chain 70 = .ok (.goto (-17), 3) := dk_167 255 239 (dk_at dksX6_chain_3 0 rfl rfl)
theorem dX6_chain_73 : decode cX6_chain 73 = .ok (.iconst 1, 1) := dk_4 (dk_at dksX6_chain_3 3 rfl rfl)
theorem dX6_chain_74 : decode cX6_chain 74 = .ok (.istore 6, 2) := dk_54 6 (dk_at dksX6_chain_3 4 rfl rfl)
theorem dX6_chain_76 : decode cX6_chain 76 = .ok (.aload_n 0, 1) := dk_42 (dk_at dksX6_chain_3 6 rfl rfl)
theorem dX6_chain_77 : decode cX6_chain 77 = .ok (.invokevirtual 40, 3) := dk_182 0 40 (dk_at dksX6_chain_3 7 rfl rfl)
theorem dX6_chain_80 : decode cX6_chain 80 = .ok (.bipush 45, 2) := dk_16 45 (dk_at dksX6_chain_3 10 rfl rfl)
theorem dX6_chain_82 : decode cX6_chain 82 = .ok (.if_icmp .ne 42, 3) := dk_160 0 42 (dk_at dksX6_chain_3 12 rfl rfl)
theorem dX6_chain_85 : decode cX6_chain 85 = .ok (.aload_n 0, 1) := dk_42 (dk_at dksX6_chain_3 15 rfl rfl)
theorem dX6_chain_86 : decode cX6_chain 86 = .ok (.dup, 1) := dk_89 (dk_at dksX6_chain_3 16 rfl rfl)
theorem dX6_chain_87 : decode cX6_chain 87 = .ok (.getfield 15, 3) := dk_180 0 15 (dk_at dksX6_chain_3 17 rfl rfl)
theorem dX6_chain_90 : decode cX6_chain 90 = .ok (.iconst 1, 1) := dk_4 (dk_at dksX6_chain_3 20 rfl rfl)
theorem dX6_chain_91 : decode cX6_chain 91 = .ok (.iadd, 1) := dk_96 (dk_at dksX6_chain_3 21 rfl rfl)
theorem dX6_chain_92 : decode cX6_chain 92 = .ok (.putfield 15, 3) := dk_181 0 15 (dk_at dksX6_chain_4 0 rfl rfl)
theorem dX6_chain_95 : decode cX6_chain 95 = .ok (.aload_n 0, 1) := dk_42 (dk_at dksX6_chain_4 3 rfl rfl)
theorem dX6_chain_96 : decode cX6_chain 96 = .ok (.iload 6, 2) := dk_21 6 (dk_at dksX6_chain_4 4 rfl rfl)
theorem dX6_chain_98 : decode cX6_chain 98 = .ok (.iload_n 3, 1) := dk_29 (dk_at dksX6_chain_4 6 rfl rfl)
theorem dX6_chain_99 : decode cX6_chain 99 = .ok (.invokevirtual 19, 3) := dk_182 0 19 (dk_at dksX6_chain_4 7 rfl rfl)
theorem dX6_chain_102 : decode cX6_chain 102 = .ok (.istore 6, 2) := dk_54 6 (dk_at dksX6_chain_4 10 rfl rfl)
theorem dX6_chain_104 : decode cX6_chain 104 = .ok (.aload_n 0, 1) := dk_42 (dk_at dksX6_chain_4 12 rfl rfl)
theorem dX6_chain_105 : decode cX6_chain 105 = .ok (.bipush 58, 2) := dk_16 58 (dk_at dksX6_chain_4 13 rfl rfl)
theorem dX6_chain_107 : decode cX6_chain 107 = .ok (.invokevirtual 44, 3) := dk_182 0 44 (dk_at dksX6_chain_4 15 rfl rfl)
theorem dX6_chain_110 : decode cX6_chain 110 = .ok (.aload_n 0, 1) := dk_42 (dk_at dksX6_chain_4 18 rfl rfl)
theorem dX6_chain_111 : decode cX6_chain 111 = .ok (.iload 4, 2) := dk_21 4 (dk_at dksX6_chain_4 19 rfl rfl)
theorem dX6_chain_113 : decode cX6_chain 113 = .ok (.iload 6, 2) := dk_21 6 (dk_at dksX6_chain_4 21 rfl rfl)
theorem dX6_chain_115 : decode cX6_chain 115 = .ok (.iadd, 1) := dk_96 (dk_at dksX6_chain_4 23 rfl rfl)
theorem dX6_chain_116 : decode cX6_chain 116 = .ok (.iconst 1, 1) := dk_4 (dk_at dksX6_chain_5 0 rfl rfl)
theorem dX6_chain_117 : decode cX6_chain 117 = .ok (.isub, 1) := dk_100 (dk_at dksX6_chain_5 1 rfl rfl)
theorem dX6_chain_118 : decode cX6_chain 118 = .ok (.invokevirtual 48, 3) := dk_182 0 48 (dk_at dksX6_chain_5 2 rfl rfl)
theorem dX6_chain_121 : decode cX6_chain 121 = .ok (.goto (-45), 3) := dk_167 255 211 (dk_at dksX6_chain_5 5 rfl rfl)
theorem dX6_chain_124 : decode cX6_chain 124 = .ok (.return_, 1) := dk_177 (dk_at dksX6_chain_5 8 rfl rfl)
abbrev cX6_branch : ByteArray := prog_8_method_3_code
def yX6_branch : MethodName := ⟨RX6, "branch", "(I)V"⟩
def dkwX6_branch_7 : List UInt8 := [21, 5, 29, 162, 0, 17, 42, 21, 4, 182, 0, 36, 54, 4, 132, 5, 1, 167, 255, 239, 177]
abbrev dktX6_branch_7 : List UInt8 := dkwX6_branch_7 ++ []
def dkwX6_branch_6 : List UInt8 := [29, 96, 16, 16, 163, 0, 7, 4, 167, 0, 4, 3, 28, 7, 182, 0, 32, 27, 54, 4, 3, 54, 5]
abbrev dktX6_branch_6 : List UInt8 := dkwX6_branch_6 ++ dktX6_branch_7
def dkwX6_branch_5 : List UInt8 := [182, 0, 59, 154, 0, 7, 4, 167, 0, 4, 3, 28, 6, 182, 0, 32, 42, 42, 180, 0, 23, 180, 0, 27]
abbrev dktX6_branch_5 : List UInt8 := dkwX6_branch_5 ++ dktX6_branch_6
def dkwX6_branch_4 : List UInt8 := [182, 0, 44, 177, 42, 180, 0, 15, 61, 42, 4, 16, 16, 182, 0, 19, 62, 42, 42, 180, 0, 23, 27]
abbrev dktX6_branch_4 : List UInt8 := dkwX6_branch_4 ++ dktX6_branch_5
def dkwX6_branch_3 : List UInt8 := [6, 182, 0, 32, 42, 89, 180, 0, 15, 4, 96, 181, 0, 15, 42, 27, 182, 0, 63, 42, 16, 41]
abbrev dktX6_branch_3 : List UInt8 := dkwX6_branch_3 ++ dktX6_branch_4
def dkwX6_branch_2 : List UInt8 := [160, 0, 50, 42, 42, 180, 0, 23, 27, 182, 0, 59, 154, 0, 7, 4, 167, 0, 4, 3, 42, 180, 0, 15]
abbrev dktX6_branch_2 : List UInt8 := dkwX6_branch_2 ++ dktX6_branch_3
def dkwX6_branch_1 : List UInt8 := [153, 0, 7, 4, 167, 0, 4, 3, 42, 180, 0, 15, 4, 182, 0, 32, 42, 182, 0, 40, 16, 40]
abbrev dktX6_branch_1 : List UInt8 := dkwX6_branch_1 ++ dktX6_branch_2
def dkwX6_branch_0 : List UInt8 := [42, 42, 182, 0, 40, 16, 40, 159, 0, 20, 42, 182, 0, 40, 133, 20, 0, 51, 20, 0, 53, 184, 0, 55]
abbrev dktX6_branch_0 : List UInt8 := dkwX6_branch_0 ++ dktX6_branch_1
theorem dksX6_branch_0 : cX6_branch.data.toList.drop 0 = dktX6_branch_0 := by decide +kernel
theorem dksX6_branch_1 : cX6_branch.data.toList.drop 24 = dktX6_branch_1 := dk_seg dksX6_branch_0 24 rfl rfl
theorem dksX6_branch_2 : cX6_branch.data.toList.drop 46 = dktX6_branch_2 := dk_seg dksX6_branch_1 22 rfl rfl
theorem dksX6_branch_3 : cX6_branch.data.toList.drop 70 = dktX6_branch_3 := dk_seg dksX6_branch_2 24 rfl rfl
theorem dksX6_branch_4 : cX6_branch.data.toList.drop 92 = dktX6_branch_4 := dk_seg dksX6_branch_3 22 rfl rfl
theorem dksX6_branch_5 : cX6_branch.data.toList.drop 115 = dktX6_branch_5 := dk_seg dksX6_branch_4 23 rfl rfl
theorem dksX6_branch_6 : cX6_branch.data.toList.drop 139 = dktX6_branch_6 := dk_seg dksX6_branch_5 24 rfl rfl
theorem dksX6_branch_7 : cX6_branch.data.toList.drop 162 = dktX6_branch_7 := dk_seg dksX6_branch_6 23 rfl rfl
theorem dX6_branch_0 : decode cX6_branch 0 = .ok (.aload_n 0, 1) := dk_42 (dk_at dksX6_branch_0 0 rfl rfl)
theorem dX6_branch_1 : decode cX6_branch 1 = .ok (.aload_n 0, 1) := dk_42 (dk_at dksX6_branch_0 1 rfl rfl)
theorem dX6_branch_2 : decode cX6_branch 2 = .ok (.invokevirtual 40, 3) := dk_182 0 40 (dk_at dksX6_branch_0 2 rfl rfl)
theorem dX6_branch_5 : decode cX6_branch 5 = .ok (.bipush 40, 2) := dk_16 40 (dk_at dksX6_branch_0 5 rfl rfl)
theorem dX6_branch_7 : decode cX6_branch 7 = .ok (.if_icmp .eq 20, 3) := dk_159 0 20 (dk_at dksX6_branch_0 7 rfl rfl)
theorem dX6_branch_10 : decode cX6_branch 10 = .ok (.aload_n 0, 1) := dk_42 (dk_at dksX6_branch_0 10 rfl rfl)
theorem dX6_branch_11 : decode cX6_branch 11 = .ok (.invokevirtual 40, 3) := dk_182 0 40 (dk_at dksX6_branch_0 11 rfl rfl)
theorem dX6_branch_14 : decode cX6_branch 14 = .ok (.i2l, 1) := dk_133 (dk_at dksX6_branch_0 14 rfl rfl)
theorem dX6_branch_15 : decode cX6_branch 15 = .ok (.ldc2_w 51, 3) := dk_20 0 51 (dk_at dksX6_branch_0 15 rfl rfl)
theorem dX6_branch_18 : decode cX6_branch 18 = .ok (.ldc2_w 53, 3) := dk_20 0 53 (dk_at dksX6_branch_0 18 rfl rfl)
theorem dX6_branch_21 : decode cX6_branch 21 = .ok (.invokestatic 55, 3) := dk_184 0 55 (dk_at dksX6_branch_0 21 rfl rfl)
theorem dX6_branch_24 : decode cX6_branch 24 = .ok (.ifCond .eq 7, 3) := dk_153 0 7 (dk_at dksX6_branch_1 0 rfl rfl)
theorem dX6_branch_27 : decode cX6_branch 27 = .ok (.iconst 1, 1) := dk_4 (dk_at dksX6_branch_1 3 rfl rfl)
theorem dX6_branch_28 : decode cX6_branch 28 = .ok (.goto 4, 3) := dk_167 0 4 (dk_at dksX6_branch_1 4 rfl rfl)
theorem dX6_branch_31 : decode cX6_branch 31 = .ok (.iconst 0, 1) := dk_3 (dk_at dksX6_branch_1 7 rfl rfl)
theorem dX6_branch_32 : decode cX6_branch 32 = .ok (.aload_n 0, 1) := dk_42 (dk_at dksX6_branch_1 8 rfl rfl)
theorem dX6_branch_33 : decode cX6_branch 33 = .ok (.getfield 15, 3) := dk_180 0 15 (dk_at dksX6_branch_1 9 rfl rfl)
theorem dX6_branch_36 : decode cX6_branch 36 = .ok (.iconst 1, 1) := dk_4 (dk_at dksX6_branch_1 12 rfl rfl)
theorem dX6_branch_37 : decode cX6_branch 37 = .ok (.invokevirtual 32, 3) := dk_182 0 32 (dk_at dksX6_branch_1 13 rfl rfl)
theorem dX6_branch_40 : decode cX6_branch 40 = .ok (.aload_n 0, 1) := dk_42 (dk_at dksX6_branch_1 16 rfl rfl)
theorem dX6_branch_41 : decode cX6_branch 41 = .ok (.invokevirtual 40, 3) := dk_182 0 40 (dk_at dksX6_branch_1 17 rfl rfl)
theorem dX6_branch_44 : decode cX6_branch 44 = .ok (.bipush 40, 2) := dk_16 40 (dk_at dksX6_branch_1 20 rfl rfl)
theorem dX6_branch_46 : decode cX6_branch 46 = .ok (.if_icmp .ne 50, 3) := dk_160 0 50 (dk_at dksX6_branch_2 0 rfl rfl)
theorem dX6_branch_49 : decode cX6_branch 49 = .ok (.aload_n 0, 1) := dk_42 (dk_at dksX6_branch_2 3 rfl rfl)
theorem dX6_branch_50 : decode cX6_branch 50 = .ok (.aload_n 0, 1) := dk_42 (dk_at dksX6_branch_2 4 rfl rfl)
theorem dX6_branch_51 : decode cX6_branch 51 = .ok (.getfield 23, 3) := dk_180 0 23 (dk_at dksX6_branch_2 5 rfl rfl)
theorem dX6_branch_54 : decode cX6_branch 54 = .ok (.iload_n 1, 1) := dk_27 (dk_at dksX6_branch_2 8 rfl rfl)
theorem dX6_branch_55 : decode cX6_branch 55 = .ok (.invokevirtual 59, 3) := dk_182 0 59 (dk_at dksX6_branch_2 9 rfl rfl)
theorem dX6_branch_58 : decode cX6_branch 58 = .ok (.ifCond .ne 7, 3) := dk_154 0 7 (dk_at dksX6_branch_2 12 rfl rfl)
theorem dX6_branch_61 : decode cX6_branch 61 = .ok (.iconst 1, 1) := dk_4 (dk_at dksX6_branch_2 15 rfl rfl)
theorem dX6_branch_62 : decode cX6_branch 62 = .ok (.goto 4, 3) := dk_167 0 4 (dk_at dksX6_branch_2 16 rfl rfl)
theorem dX6_branch_65 : decode cX6_branch 65 = .ok (.iconst 0, 1) := dk_3 (dk_at dksX6_branch_2 19 rfl rfl)
theorem dX6_branch_66 : decode cX6_branch 66 = .ok (.aload_n 0, 1) := dk_42 (dk_at dksX6_branch_2 20 rfl rfl)
theorem dX6_branch_67 : decode cX6_branch 67 = .ok (.getfield 15, 3) := dk_180 0 15 (dk_at dksX6_branch_2 21 rfl rfl)
theorem dX6_branch_70 : decode cX6_branch 70 = .ok (.iconst 3, 1) := dk_6 (dk_at dksX6_branch_3 0 rfl rfl)
theorem dX6_branch_71 : decode cX6_branch 71 = .ok (.invokevirtual 32, 3) := dk_182 0 32 (dk_at dksX6_branch_3 1 rfl rfl)
theorem dX6_branch_74 : decode cX6_branch 74 = .ok (.aload_n 0, 1) := dk_42 (dk_at dksX6_branch_3 4 rfl rfl)
theorem dX6_branch_75 : decode cX6_branch 75 = .ok (.dup, 1) := dk_89 (dk_at dksX6_branch_3 5 rfl rfl)
theorem dX6_branch_76 : decode cX6_branch 76 = .ok (.getfield 15, 3) := dk_180 0 15 (dk_at dksX6_branch_3 6 rfl rfl)
theorem dX6_branch_79 : decode cX6_branch 79 = .ok (.iconst 1, 1) := dk_4 (dk_at dksX6_branch_3 9 rfl rfl)
theorem dX6_branch_80 : decode cX6_branch 80 = .ok (.iadd, 1) := dk_96 (dk_at dksX6_branch_3 10 rfl rfl)
theorem dX6_branch_81 : decode cX6_branch 81 = .ok (.putfield 15, 3) := dk_181 0 15 (dk_at dksX6_branch_3 11 rfl rfl)
theorem dX6_branch_84 : decode cX6_branch 84 = .ok (.aload_n 0, 1) := dk_42 (dk_at dksX6_branch_3 14 rfl rfl)
theorem dX6_branch_85 : decode cX6_branch 85 = .ok (.iload_n 1, 1) := dk_27 (dk_at dksX6_branch_3 15 rfl rfl)
theorem dX6_branch_86 : decode cX6_branch 86 = .ok (.invokevirtual 63, 3) := dk_182 0 63 (dk_at dksX6_branch_3 16 rfl rfl)
theorem dX6_branch_89 : decode cX6_branch 89 = .ok (.aload_n 0, 1) := dk_42 (dk_at dksX6_branch_3 19 rfl rfl)
theorem dX6_branch_90 : decode cX6_branch 90 = .ok (.bipush 41, 2) := dk_16 41 (dk_at dksX6_branch_3 20 rfl rfl)
theorem dX6_branch_92 : decode cX6_branch 92 = .ok (.invokevirtual 44, 3) := dk_182 0 44 (dk_at dksX6_branch_4 0 rfl rfl)
theorem dX6_branch_95 : decode cX6_branch 95 = .ok (.return_, 1) := dk_177 (dk_at dksX6_branch_4 3 rfl rfl)
theorem dX6_branch_96 : decode cX6_branch 96 = .ok (.aload_n 0, 1) := dk_42 (dk_at dksX6_branch_4 4 rfl rfl)
theorem dX6_branch_97 : decode cX6_branch 97 = .ok (.getfield 15, 3) := dk_180 0 15 (dk_at dksX6_branch_4 5 rfl rfl)
theorem dX6_branch_100 : decode cX6_branch 100 = .ok (.istore_n 2, 1) := dk_61 (dk_at dksX6_branch_4 8 rfl rfl)
theorem dX6_branch_101 : decode cX6_branch 101 = .ok (.aload_n 0, 1) := dk_42 (dk_at dksX6_branch_4 9 rfl rfl)
theorem dX6_branch_102 : decode cX6_branch 102 = .ok (.iconst 1, 1) := dk_4 (dk_at dksX6_branch_4 10 rfl rfl)
theorem dX6_branch_103 : decode cX6_branch 103 = .ok (.bipush 16, 2) := dk_16 16 (dk_at dksX6_branch_4 11 rfl rfl)
theorem dX6_branch_105 : decode cX6_branch 105 = .ok (.invokevirtual 19, 3) := dk_182 0 19 (dk_at dksX6_branch_4 13 rfl rfl)
theorem dX6_branch_108 : decode cX6_branch 108 = .ok (.istore_n 3, 1) := dk_62 (dk_at dksX6_branch_4 16 rfl rfl)
theorem dX6_branch_109 : decode cX6_branch 109 = .ok (.aload_n 0, 1) := dk_42 (dk_at dksX6_branch_4 17 rfl rfl)
theorem dX6_branch_110 : decode cX6_branch 110 = .ok (.aload_n 0, 1) := dk_42 (dk_at dksX6_branch_4 18 rfl rfl)
theorem dX6_branch_111 : decode cX6_branch 111 = .ok (.getfield 23, 3) := dk_180 0 23 (dk_at dksX6_branch_4 19 rfl rfl)
theorem dX6_branch_114 : decode cX6_branch 114 = .ok (.iload_n 1, 1) := dk_27 (dk_at dksX6_branch_4 22 rfl rfl)
theorem dX6_branch_115 : decode cX6_branch 115 = .ok (.invokevirtual 59, 3) := dk_182 0 59 (dk_at dksX6_branch_5 0 rfl rfl)
theorem dX6_branch_118 : decode cX6_branch 118 = .ok (.ifCond .ne 7, 3) := dk_154 0 7 (dk_at dksX6_branch_5 3 rfl rfl)
theorem dX6_branch_121 : decode cX6_branch 121 = .ok (.iconst 1, 1) := dk_4 (dk_at dksX6_branch_5 6 rfl rfl)
theorem dX6_branch_122 : decode cX6_branch 122 = .ok (.goto 4, 3) := dk_167 0 4 (dk_at dksX6_branch_5 7 rfl rfl)
theorem dX6_branch_125 : decode cX6_branch 125 = .ok (.iconst 0, 1) := dk_3 (dk_at dksX6_branch_5 10 rfl rfl)
theorem dX6_branch_126 : decode cX6_branch 126 = .ok (.iload_n 2, 1) := dk_28 (dk_at dksX6_branch_5 11 rfl rfl)
theorem dX6_branch_127 : decode cX6_branch 127 = .ok (.iconst 3, 1) := dk_6 (dk_at dksX6_branch_5 12 rfl rfl)
theorem dX6_branch_128 : decode cX6_branch 128 = .ok (.invokevirtual 32, 3) := dk_182 0 32 (dk_at dksX6_branch_5 13 rfl rfl)
theorem dX6_branch_131 : decode cX6_branch 131 = .ok (.aload_n 0, 1) := dk_42 (dk_at dksX6_branch_5 16 rfl rfl)
theorem dX6_branch_132 : decode cX6_branch 132 = .ok (.aload_n 0, 1) := dk_42 (dk_at dksX6_branch_5 17 rfl rfl)
theorem dX6_branch_133 : decode cX6_branch 133 = .ok (.getfield 23, 3) := dk_180 0 23 (dk_at dksX6_branch_5 18 rfl rfl)
theorem dX6_branch_136 : decode cX6_branch 136 = .ok (.getfield 27, 3) := dk_180 0 27 (dk_at dksX6_branch_5 21 rfl rfl)
theorem dX6_branch_139 : decode cX6_branch 139 = .ok (.iload_n 3, 1) := dk_29 (dk_at dksX6_branch_6 0 rfl rfl)
theorem dX6_branch_140 : decode cX6_branch 140 = .ok (.iadd, 1) := dk_96 (dk_at dksX6_branch_6 1 rfl rfl)
theorem dX6_branch_141 : decode cX6_branch 141 = .ok (.bipush 16, 2) := dk_16 16 (dk_at dksX6_branch_6 2 rfl rfl)
theorem dX6_branch_143 : decode cX6_branch 143 = .ok (.if_icmp .gt 7, 3) := dk_163 0 7 (dk_at dksX6_branch_6 4 rfl rfl)
theorem dX6_branch_146 : decode cX6_branch 146 = .ok (.iconst 1, 1) := dk_4 (dk_at dksX6_branch_6 7 rfl rfl)
theorem dX6_branch_147 : decode cX6_branch 147 = .ok (.goto 4, 3) := dk_167 0 4 (dk_at dksX6_branch_6 8 rfl rfl)
theorem dX6_branch_150 : decode cX6_branch 150 = .ok (.iconst 0, 1) := dk_3 (dk_at dksX6_branch_6 11 rfl rfl)
theorem dX6_branch_151 : decode cX6_branch 151 = .ok (.iload_n 2, 1) := dk_28 (dk_at dksX6_branch_6 12 rfl rfl)
theorem dX6_branch_152 : decode cX6_branch 152 = .ok (.iconst 4, 1) := dk_7 (dk_at dksX6_branch_6 13 rfl rfl)
theorem dX6_branch_153 : decode cX6_branch 153 = .ok (.invokevirtual 32, 3) := dk_182 0 32 (dk_at dksX6_branch_6 14 rfl rfl)
theorem dX6_branch_156 : decode cX6_branch 156 = .ok (.iload_n 1, 1) := dk_27 (dk_at dksX6_branch_6 17 rfl rfl)
theorem dX6_branch_157 : decode cX6_branch 157 = .ok (.istore 4, 2) := dk_54 4 (dk_at dksX6_branch_6 18 rfl rfl)
theorem dX6_branch_159 : decode cX6_branch 159 = .ok (.iconst 0, 1) := dk_3 (dk_at dksX6_branch_6 20 rfl rfl)
theorem dX6_branch_160 : decode cX6_branch 160 = .ok (.istore 5, 2) := dk_54 5 (dk_at dksX6_branch_6 21 rfl rfl)
theorem dX6_branch_162 : decode cX6_branch 162 = .ok (.iload 5, 2) := dk_21 5 (dk_at dksX6_branch_7 0 rfl rfl)
theorem dX6_branch_164 : decode cX6_branch 164 = .ok (.iload_n 3, 1) := dk_29 (dk_at dksX6_branch_7 2 rfl rfl)
theorem dX6_branch_165 : decode cX6_branch 165 = .ok (.if_icmp .ge 17, 3) := dk_162 0 17 (dk_at dksX6_branch_7 3 rfl rfl)
theorem dX6_branch_168 : decode cX6_branch 168 = .ok (.aload_n 0, 1) := dk_42 (dk_at dksX6_branch_7 6 rfl rfl)
theorem dX6_branch_169 : decode cX6_branch 169 = .ok (.iload 4, 2) := dk_21 4 (dk_at dksX6_branch_7 7 rfl rfl)
theorem dX6_branch_171 : decode cX6_branch 171 = .ok (.invokevirtual 36, 3) := dk_182 0 36 (dk_at dksX6_branch_7 9 rfl rfl)
theorem dX6_branch_174 : decode cX6_branch 174 = .ok (.istore 4, 2) := dk_54 4 (dk_at dksX6_branch_7 12 rfl rfl)
theorem dX6_branch_176 : decode cX6_branch 176 = .ok (.iinc 5 1, 3) := dk_132 5 1 (dk_at dksX6_branch_7 14 rfl rfl)
theorem dX6_branch_179 : decode cX6_branch 179 = .ok (.goto (-17), 3) := dk_167 255 239 (dk_at dksX6_branch_7 17 rfl rfl)
theorem dX6_branch_182 : decode cX6_branch 182 = .ok (.return_, 1) := dk_177 (dk_at dksX6_branch_7 20 rfl rfl)
theorem q139 : (Jvm.Cond.initialized "Skeletons$Names") ∈ lw_all := lw_g (lw_at lw_m1 11 rfl) rfl
theorem q309 : (Jvm.Cond.fieldLinkNest "Skeletons$Names" (27 : Nat) "Skeletons$Skeleton" "size" "I" "Skeletons") ∈ lw_tbl := lw_at lw_m1 181 rfl
theorem q451 : (Jvm.Cond.fieldLink "Skeletons$Names" (23 : Nat) "Skeletons$Names" "its" "LSkeletons$Skeleton;") ∈ lw_all := lw_g (lw_at lw_m2 83 rfl) rfl
theorem q452 : (Jvm.Cond.sameField "Skeletons$Names" "Skeletons$Reader" "its" "LSkeletons$Skeleton;") ∈ lw_all := lw_g (lw_at lw_m2 84 rfl) rfl
theorem q457 : (Jvm.Cond.fieldLink "Skeletons$Names" (15 : Nat) "Skeletons$Names" "at" "I") ∈ lw_all := lw_g (lw_at lw_m2 89 rfl) rfl
theorem q458 : (Jvm.Cond.sameField "Skeletons$Names" "Skeletons$Reader" "at" "I") ∈ lw_all := lw_g (lw_at lw_m2 90 rfl) rfl
theorem q472 : (Jvm.Cond.instantiable "Skeletons$Names" (4 : Nat)) ∈ lw_all := lw_g (lw_at lw_m2 104 rfl) rfl
theorem q474 : (Jvm.Cond.instanceMethod ({ cls := "Skeletons$Names", name := "<init>", desc := "(LSkeletons;)V" } : Jvm.MethodName)) ∈ lw_all := lw_g (lw_at lw_m2 106 rfl) rfl
theorem q475 : (Jvm.Cond.code ({ cls := "Skeletons$Names", name := "<init>", desc := "(LSkeletons;)V" } : Jvm.MethodName) prog_8_method_1_code (2 : Nat) (Option.none : Option Jvm.ClassFile.FieldType)) ∈ lw_all := lw_g (lw_at lw_m2 107 rfl) rfl
theorem q476 : (Jvm.Cond.methodLinkNest "Skeletons$Names" (9 : Nat) ({ cls := "Skeletons$Reader", name := "<init>", desc := "(LSkeletons;)V" } : Jvm.MethodName) "Skeletons") ∈ lw_tbl := lw_at lw_m2 108 rfl
theorem q477 : (Jvm.Cond.fieldLink "Skeletons$Names" (3 : Nat) "Skeletons$Names" "this$0" "LSkeletons;") ∈ lw_all := lw_g (lw_at lw_m2 109 rfl) rfl
theorem q478 : (Jvm.Cond.laysFinal "Skeletons$Names" "Skeletons$Names" "this$0" "LSkeletons;") ∈ lw_all := lw_g (lw_at lw_m2 110 rfl) rfl
theorem q479 : (Jvm.Cond.soleField "Skeletons$Names" "this$0") ∈ lw_all := lw_g (lw_at lw_m2 111 rfl) rfl
theorem q480 : (Jvm.Cond.laysFinal "Skeletons$Names" "Skeletons$Reader" "its" "LSkeletons$Skeleton;") ∈ lw_all := lw_g (lw_at lw_m2 112 rfl) rfl
theorem q481 : (Jvm.Cond.lays "Skeletons$Names" "Skeletons$Reader" "at" "I") ∈ lw_all := lw_g (lw_at lw_m2 113 rfl) rfl
theorem q482 : (Jvm.Cond.laysFinal "Skeletons$Names" "Skeletons$Reader" "this$0" "LSkeletons;") ∈ lw_all := lw_g (lw_at lw_m2 114 rfl) rfl
theorem q483 : (Jvm.Cond.superclass "Skeletons$Names" "Skeletons$Reader") ∈ lw_all := lw_g (lw_at lw_m2 115 rfl) rfl
theorem q629 : (Jvm.Cond.selects "Skeletons$Names" ({ cls := "Skeletons$Reader", name := "reads", desc := "()V" } : Jvm.MethodName) ({ cls := "Skeletons$Names", name := "reads", desc := "()V" } : Jvm.MethodName)) ∈ lw_all := lw_g (lw_at lw_m3 21 rfl) rfl
theorem q630 : (Jvm.Cond.instanceMethod ({ cls := "Skeletons$Names", name := "reads", desc := "()V" } : Jvm.MethodName)) ∈ lw_all := lw_g (lw_at lw_m3 22 rfl) rfl
theorem q631 : (Jvm.Cond.code ({ cls := "Skeletons$Names", name := "reads", desc := "()V" } : Jvm.MethodName) prog_8_method_4_code (1 : Nat) (Option.none : Option Jvm.ClassFile.FieldType)) ∈ lw_all := lw_g (lw_at lw_m3 23 rfl) rfl
theorem q632 : (Jvm.Cond.methodLink "Skeletons$Names" (63 : Nat) ({ cls := "Skeletons$Names", name := "chain", desc := "(I)V" } : Jvm.MethodName)) ∈ lw_all := lw_g (lw_at lw_m3 24 rfl) rfl
theorem q633 : (Jvm.Cond.privateMethod ({ cls := "Skeletons$Names", name := "chain", desc := "(I)V" } : Jvm.MethodName)) ∈ lw_tbl := lw_at lw_m3 25 rfl
theorem q634 : (Jvm.Cond.instanceMethod ({ cls := "Skeletons$Names", name := "chain", desc := "(I)V" } : Jvm.MethodName)) ∈ lw_all := lw_g (lw_at lw_m3 26 rfl) rfl
theorem q635 : (Jvm.Cond.code ({ cls := "Skeletons$Names", name := "chain", desc := "(I)V" } : Jvm.MethodName) prog_8_method_2_code (7 : Nat) (Option.none : Option Jvm.ClassFile.FieldType)) ∈ lw_all := lw_g (lw_at lw_m3 27 rfl) rfl
theorem q636 : (Jvm.Cond.methodLink "Skeletons$Names" (19 : Nat) ({ cls := "Skeletons$Names", name := "number", desc := "(II)I" } : Jvm.MethodName)) ∈ lw_all := lw_g (lw_at lw_m3 28 rfl) rfl
theorem q637 : (Jvm.Cond.sameMethod "Skeletons$Names" "Skeletons$Reader" "number" "(II)I") ∈ lw_all := lw_g (lw_at lw_m3 29 rfl) rfl
theorem q638 : (Jvm.Cond.selects "Skeletons$Names" ({ cls := "Skeletons$Names", name := "number", desc := "(II)I" } : Jvm.MethodName) ({ cls := "Skeletons$Reader", name := "number", desc := "(II)I" } : Jvm.MethodName)) ∈ lw_all := lw_g (lw_at lw_m3 30 rfl) rfl
theorem q639 : (Jvm.Cond.methodLink "Skeletons$Names" (32 : Nat) ({ cls := "Skeletons$Names", name := "check", desc := "(ZII)V" } : Jvm.MethodName)) ∈ lw_all := lw_g (lw_at lw_m3 31 rfl) rfl
theorem q640 : (Jvm.Cond.sameMethod "Skeletons$Names" "Skeletons$Reader" "check" "(ZII)V") ∈ lw_all := lw_g (lw_at lw_m3 32 rfl) rfl
theorem q641 : (Jvm.Cond.selects "Skeletons$Names" ({ cls := "Skeletons$Names", name := "check", desc := "(ZII)V" } : Jvm.MethodName) ({ cls := "Skeletons$Reader", name := "check", desc := "(ZII)V" } : Jvm.MethodName)) ∈ lw_all := lw_g (lw_at lw_m3 33 rfl) rfl
theorem q642 : (Jvm.Cond.methodLink "Skeletons$Names" (36 : Nat) ({ cls := "Skeletons$Names", name := "adds", desc := "(I)I" } : Jvm.MethodName)) ∈ lw_all := lw_g (lw_at lw_m3 34 rfl) rfl
theorem q643 : (Jvm.Cond.sameMethod "Skeletons$Names" "Skeletons$Reader" "adds" "(I)I") ∈ lw_all := lw_g (lw_at lw_m3 35 rfl) rfl
theorem q644 : (Jvm.Cond.selects "Skeletons$Names" ({ cls := "Skeletons$Names", name := "adds", desc := "(I)I" } : Jvm.MethodName) ({ cls := "Skeletons$Reader", name := "adds", desc := "(I)I" } : Jvm.MethodName)) ∈ lw_all := lw_g (lw_at lw_m3 36 rfl) rfl
theorem q645 : (Jvm.Cond.methodLink "Skeletons$Names" (40 : Nat) ({ cls := "Skeletons$Names", name := "sign", desc := "()I" } : Jvm.MethodName)) ∈ lw_all := lw_g (lw_at lw_m3 37 rfl) rfl
theorem q646 : (Jvm.Cond.sameMethod "Skeletons$Names" "Skeletons$Reader" "sign" "()I") ∈ lw_all := lw_g (lw_at lw_m3 38 rfl) rfl
theorem q647 : (Jvm.Cond.selects "Skeletons$Names" ({ cls := "Skeletons$Names", name := "sign", desc := "()I" } : Jvm.MethodName) ({ cls := "Skeletons$Reader", name := "sign", desc := "()I" } : Jvm.MethodName)) ∈ lw_all := lw_g (lw_at lw_m3 39 rfl) rfl
theorem q648 : (Jvm.Cond.methodLink "Skeletons$Names" (44 : Nat) ({ cls := "Skeletons$Names", name := "must", desc := "(I)V" } : Jvm.MethodName)) ∈ lw_all := lw_g (lw_at lw_m3 40 rfl) rfl
theorem q649 : (Jvm.Cond.sameMethod "Skeletons$Names" "Skeletons$Reader" "must" "(I)V") ∈ lw_all := lw_g (lw_at lw_m3 41 rfl) rfl
theorem q650 : (Jvm.Cond.selects "Skeletons$Names" ({ cls := "Skeletons$Names", name := "must", desc := "(I)V" } : Jvm.MethodName) ({ cls := "Skeletons$Reader", name := "must", desc := "(I)V" } : Jvm.MethodName)) ∈ lw_all := lw_g (lw_at lw_m3 42 rfl) rfl
theorem q651 : (Jvm.Cond.methodLink "Skeletons$Names" (48 : Nat) ({ cls := "Skeletons$Names", name := "branch", desc := "(I)V" } : Jvm.MethodName)) ∈ lw_all := lw_g (lw_at lw_m3 43 rfl) rfl
theorem q652 : (Jvm.Cond.privateMethod ({ cls := "Skeletons$Names", name := "branch", desc := "(I)V" } : Jvm.MethodName)) ∈ lw_tbl := lw_at lw_m3 44 rfl
theorem q653 : (Jvm.Cond.instanceMethod ({ cls := "Skeletons$Names", name := "branch", desc := "(I)V" } : Jvm.MethodName)) ∈ lw_all := lw_g (lw_at lw_m3 45 rfl) rfl
theorem q654 : (Jvm.Cond.code ({ cls := "Skeletons$Names", name := "branch", desc := "(I)V" } : Jvm.MethodName) prog_8_method_3_code (6 : Nat) (Option.none : Option Jvm.ClassFile.FieldType)) ∈ lw_all := lw_g (lw_at lw_m3 46 rfl) rfl
theorem q655 : (Jvm.Cond.constantLong "Skeletons$Names" (51 : Nat) (48 : Int64)) ∈ lw_all := lw_g (lw_at lw_m3 47 rfl) rfl
theorem q656 : (Jvm.Cond.constantLong "Skeletons$Names" (53 : Nat) (57 : Int64)) ∈ lw_all := lw_g (lw_at lw_m3 48 rfl) rfl
theorem q657 : (Jvm.Cond.methodLinkNest "Skeletons$Names" (55 : Nat) ({ cls := "Skeletons", name := "in", desc := "(JJJ)Z" } : Jvm.MethodName) "Skeletons") ∈ lw_tbl := lw_at lw_m3 49 rfl
theorem q658 : (Jvm.Cond.methodLink "Skeletons$Names" (59 : Nat) ({ cls := "Skeletons$Skeleton", name := "isFull", desc := "(I)Z" } : Jvm.MethodName)) ∈ lw_all := lw_g (lw_at lw_m3 50 rfl) rfl
theorem q701 : (Jvm.Cond.selects "Skeletons$Names" ({ cls := "java/lang/Object", name := "getClass", desc := "()Ljava/lang/Class;" } : Jvm.MethodName) ({ cls := "java/lang/Object", name := "getClass", desc := "()Ljava/lang/Class;" } : Jvm.MethodName)) ∈ lw_all := lw_g (lw_at lw_m3 93 rfl) rfl
theorem q2750 : (Jvm.Cond.selects "Skeletons$Names" ({ cls := "Skeletons$Reader", name := "sign", desc := "()I" } : Jvm.MethodName) ({ cls := "Skeletons$Reader", name := "sign", desc := "()I" } : Jvm.MethodName)) ∈ lw_all := lw_g (lw_at lw_m11 222 rfl) rfl
theorem q2753 : (Jvm.Cond.selects "Skeletons$Names" ({ cls := "Skeletons$Reader", name := "check", desc := "(ZII)V" } : Jvm.MethodName) ({ cls := "Skeletons$Reader", name := "check", desc := "(ZII)V" } : Jvm.MethodName)) ∈ lw_all := lw_g (lw_at lw_m11 225 rfl) rfl
theorem q2785 : (Jvm.Cond.castable "Skeletons$Names" "java/lang/Object") ∈ lw_tbl := lw_at lw_m12 17 rfl
theorem in_X6 : ∀ w ∈ wsX60, w ∈ lw_all := lw_in wsX60 [480, 481, 482, 478] (by decide +kernel) (by decide +kernel)
/-! Skeletons$Wrong -/
set_option maxRecDepth 100000
def RX7 : String := "Skeletons$Wrong"
def TX7 : u_T := fun k => match k with
  | 0 => ("java/lang/Throwable", "cause", "Ljava/lang/Throwable;", false)
  | 1 => ("java/lang/Throwable", "stackTrace", "[Ljava/lang/StackTraceElement;", false)
  | 2 => ("java/lang/Throwable", "suppressedExceptions", "Ljava/util/List;", false)
  | 3 => ("java/lang/Throwable", "detailMessage", "Ljava/lang/String;", false)
  | 4 => ("java/lang/Throwable", "backtrace", "Ljava/lang/Object;", false)
  | 5 => ("java/lang/Throwable", "depth", "I", false)
  | _ => ("Skeletons$Wrong", "number", "I", true)
def tyX7 : Nat → FieldType := fun k => match k with
  | 0 => .object "java/lang/Throwable"
  | 1 => .array (.object "java/lang/StackTraceElement")
  | 2 => .object "java/util/List"
  | 3 => .object "java/lang/String"
  | 4 => .object "java/lang/Object"
  | 5 => .int
  | _ => .int
abbrev wsX70 : List Cond := u_ws RX7 TX7 7
theorem nmX7 : ∀ a, a < 7 → ∀ b, b < 7 → a ≠ b → (TX7 a).2.1 ≠ (TX7 b).2.1 := by decide +kernel
theorem tyX7_ok : ∀ k, k < 7 → parseFieldDescriptor (TX7 k).2.2.1 = some (tyX7 k) := by decide +kernel
abbrev cX7_init : ByteArray := prog_19_method_1_code
def yX7_init : MethodName := ⟨RX7, "<init>", "(II)V"⟩
def dkwX7_init_0 : List UInt8 := [42, 1, 1, 3, 3, 183, 0, 1, 42, 16, 8, 27, 104, 28, 96, 181, 0, 7, 177]
abbrev dktX7_init_0 : List UInt8 := dkwX7_init_0 ++ []
theorem dksX7_init_0 : cX7_init.data.toList.drop 0 = dktX7_init_0 := by decide +kernel
theorem dX7_init_0 : decode cX7_init 0 = .ok (.aload_n 0, 1) := dk_42 (dk_at dksX7_init_0 0 rfl rfl)
theorem dX7_init_1 : decode cX7_init 1 = .ok (.aconst_null, 1) := dk_1 (dk_at dksX7_init_0 1 rfl rfl)
theorem dX7_init_2 : decode cX7_init 2 = .ok (.aconst_null, 1) := dk_1 (dk_at dksX7_init_0 2 rfl rfl)
theorem dX7_init_3 : decode cX7_init 3 = .ok (.iconst 0, 1) := dk_3 (dk_at dksX7_init_0 3 rfl rfl)
theorem dX7_init_4 : decode cX7_init 4 = .ok (.iconst 0, 1) := dk_3 (dk_at dksX7_init_0 4 rfl rfl)
theorem dX7_init_5 : decode cX7_init 5 = .ok (.invokespecial 1, 3) := dk_183 0 1 (dk_at dksX7_init_0 5 rfl rfl)
theorem dX7_init_8 : decode cX7_init 8 = .ok (.aload_n 0, 1) := dk_42 (dk_at dksX7_init_0 8 rfl rfl)
theorem dX7_init_9 : decode cX7_init 9 = .ok (.bipush 8, 2) := dk_16 8 (dk_at dksX7_init_0 9 rfl rfl)
theorem dX7_init_11 : decode cX7_init 11 = .ok (.iload_n 1, 1) := dk_27 (dk_at dksX7_init_0 11 rfl rfl)
theorem dX7_init_12 : decode cX7_init 12 = .ok (.imul, 1) := dk_104 (dk_at dksX7_init_0 12 rfl rfl)
theorem dX7_init_13 : decode cX7_init 13 = .ok (.iload_n 2, 1) := dk_28 (dk_at dksX7_init_0 13 rfl rfl)
theorem dX7_init_14 : decode cX7_init 14 = .ok (.iadd, 1) := dk_96 (dk_at dksX7_init_0 14 rfl rfl)
theorem dX7_init_15 : decode cX7_init 15 = .ok (.putfield 7, 3) := dk_181 0 7 (dk_at dksX7_init_0 15 rfl rfl)
theorem dX7_init_18 : decode cX7_init 18 = .ok (.return_, 1) := dk_177 (dk_at dksX7_init_0 18 rfl rfl)
theorem q142 : (Jvm.Cond.initialized "Skeletons$Wrong") ∈ lw_all := lw_g (lw_at lw_m1 14 rfl) rfl
theorem q515 : (Jvm.Cond.instantiable "Skeletons$Wrong" (7 : Nat)) ∈ lw_all := lw_g (lw_at lw_m2 147 rfl) rfl
theorem q516 : (Jvm.Cond.castable "Skeletons$Wrong" "Skeletons$Wrong") ∈ lw_tbl := lw_at lw_m2 148 rfl
theorem q521 : (Jvm.Cond.selects "Skeletons$Wrong" ({ cls := "java/lang/Throwable", name := "fillInStackTrace", desc := "(I)Ljava/lang/Throwable;" } : Jvm.MethodName) ({ cls := "java/lang/Throwable", name := "fillInStackTrace", desc := "(I)Ljava/lang/Throwable;" } : Jvm.MethodName)) ∈ lw_all := lw_g (lw_at lw_m2 153 rfl) rfl
theorem q522 : (Jvm.Cond.selects "Skeletons$Wrong" ({ cls := "java/lang/Throwable", name := "fillInStackTrace", desc := "()Ljava/lang/Throwable;" } : Jvm.MethodName) ({ cls := "java/lang/Throwable", name := "fillInStackTrace", desc := "()Ljava/lang/Throwable;" } : Jvm.MethodName)) ∈ lw_all := lw_g (lw_at lw_m2 154 rfl) rfl
theorem q523 : (Jvm.Cond.lays "Skeletons$Wrong" "java/lang/Throwable" "cause" "Ljava/lang/Throwable;") ∈ lw_all := lw_g (lw_at lw_m2 155 rfl) rfl
theorem q525 : (Jvm.Cond.lays "Skeletons$Wrong" "java/lang/Throwable" "stackTrace" "[Ljava/lang/StackTraceElement;") ∈ lw_all := lw_g (lw_at lw_m2 157 rfl) rfl
theorem q527 : (Jvm.Cond.lays "Skeletons$Wrong" "java/lang/Throwable" "suppressedExceptions" "Ljava/util/List;") ∈ lw_all := lw_g (lw_at lw_m2 159 rfl) rfl
theorem q529 : (Jvm.Cond.lays "Skeletons$Wrong" "java/lang/Throwable" "detailMessage" "Ljava/lang/String;") ∈ lw_all := lw_g (lw_at lw_m2 161 rfl) rfl
theorem q531 : (Jvm.Cond.lays "Skeletons$Wrong" "java/lang/Throwable" "backtrace" "Ljava/lang/Object;") ∈ lw_all := lw_g (lw_at lw_m2 163 rfl) rfl
theorem q552 : (Jvm.Cond.instanceMethod ({ cls := "Skeletons$Wrong", name := "<init>", desc := "(II)V" } : Jvm.MethodName)) ∈ lw_all := lw_g (lw_at lw_m2 184 rfl) rfl
theorem q553 : (Jvm.Cond.code ({ cls := "Skeletons$Wrong", name := "<init>", desc := "(II)V" } : Jvm.MethodName) prog_19_method_1_code (3 : Nat) (Option.none : Option Jvm.ClassFile.FieldType)) ∈ lw_all := lw_g (lw_at lw_m2 185 rfl) rfl
theorem q554 : (Jvm.Cond.methodLink "Skeletons$Wrong" (1 : Nat) ({ cls := "java/lang/Exception", name := "<init>", desc := "(Ljava/lang/String;Ljava/lang/Throwable;ZZ)V" } : Jvm.MethodName)) ∈ lw_all := lw_g (lw_at lw_m2 186 rfl) rfl
theorem q560 : (Jvm.Cond.fieldLink "Skeletons$Wrong" (7 : Nat) "Skeletons$Wrong" "number" "I") ∈ lw_all := lw_g (lw_at lw_m2 192 rfl) rfl
theorem q567 : (Jvm.Cond.laysFinal "Skeletons$Wrong" "Skeletons$Wrong" "number" "I") ∈ lw_all := lw_g (lw_at lw_m2 199 rfl) rfl
theorem q568 : (Jvm.Cond.soleField "Skeletons$Wrong" "number") ∈ lw_all := lw_g (lw_at lw_m2 200 rfl) rfl
theorem q573 : (Jvm.Cond.lays "Skeletons$Wrong" "java/lang/Throwable" "depth" "I") ∈ lw_all := lw_g (lw_at lw_m2 205 rfl) rfl
theorem q576 : (Jvm.Cond.superclass "Skeletons$Wrong" "java/lang/Exception") ∈ lw_all := lw_g (lw_at lw_m2 208 rfl) rfl
theorem q709 : (Jvm.Cond.selects "Skeletons$Wrong" ({ cls := "java/lang/Object", name := "getClass", desc := "()Ljava/lang/Class;" } : Jvm.MethodName) ({ cls := "java/lang/Object", name := "getClass", desc := "()Ljava/lang/Class;" } : Jvm.MethodName)) ∈ lw_all := lw_g (lw_at lw_m3 101 rfl) rfl
theorem q2786 : (Jvm.Cond.castable "Skeletons$Wrong" "java/lang/Object") ∈ lw_tbl := lw_at lw_m12 18 rfl
theorem in_X7 : ∀ w ∈ wsX70, w ∈ lw_all := lw_in wsX70 [523, 525, 527, 529, 531, 573, 567] (by decide +kernel) (by decide +kernel)
/-! Skeletons$Branch -/
set_option maxRecDepth 100000
def RX8 : String := "Skeletons$Branch"
def TX8 : u_T := fun k => match k with
  | 0 => ("Skeletons$Branch", "parts", "[LSkeletons$Branch;", true)
  | 1 => ("Skeletons$Branch", "size", "I", true)
  | 2 => ("Skeletons$Branch", "longest", "I", true)
  | 3 => ("Skeletons$Branch", "ways", "J", true)
  | 4 => ("Skeletons$Branch", "forms", "J", true)
  | _ => ("Skeletons$Branch", "own", "J", true)
def tyX8 : Nat → FieldType := fun k => match k with
  | 0 => .array (.object "Skeletons$Branch")
  | 1 => .int
  | 2 => .int
  | 3 => .long
  | 4 => .long
  | _ => .long
abbrev wsX80 : List Cond := u_ws RX8 TX8 6
theorem nmX8 : ∀ a, a < 6 → ∀ b, b < 6 → a ≠ b → (TX8 a).2.1 ≠ (TX8 b).2.1 := by decide +kernel
theorem tyX8_ok : ∀ k, k < 6 → parseFieldDescriptor (TX8 k).2.2.1 = some (tyX8 k) := by decide +kernel
abbrev cX8_init : ByteArray := prog_3_method_1_code
def yX8_init : MethodName := ⟨RX8, "<init>", "([LSkeletons$Branch;)V"⟩
def dkwX8_init_9 : List UInt8 := [184, 0, 51, 181, 0, 54, 177]
abbrev dktX8_init_9 : List UInt8 := dkwX8_init_9 ++ []
def dkwX8_init_8 : List UInt8 := [164, 0, 7, 9, 167, 0, 21, 42, 3, 182, 0, 40, 42, 4, 182, 0, 40, 42, 5, 182, 0, 40]
abbrev dktX8_init_8 : List UInt8 := dkwX8_init_8 ++ dktX8_init_9
def dkwX8_init_7 : List UInt8 := [182, 0, 40, 42, 4, 182, 0, 40, 42, 5, 182, 0, 40, 184, 0, 44, 181, 0, 48, 42, 43, 190, 6]
abbrev dktX8_init_7 : List UInt8 := dkwX8_init_7 ++ dktX8_init_8
def dkwX8_init_6 : List UInt8 := [181, 0, 23, 42, 22, 4, 181, 0, 32, 42, 43, 190, 6, 164, 0, 7, 9, 167, 0, 21, 42, 3]
abbrev dktX8_init_6 : List UInt8 := dkwX8_init_6 ++ dktX8_init_7
def dkwX8_init_5 : List UInt8 := [182, 0, 36, 133, 105, 105, 55, 4, 132, 6, 1, 167, 255, 204, 42, 28, 181, 0, 19, 42, 29, 4, 96]
abbrev dktX8_init_5 : List UInt8 := dkwX8_init_5 ++ dktX8_init_6
def dkwX8_init_4 : List UInt8 := [29, 43, 21, 6, 50, 180, 0, 23, 184, 0, 26, 62, 22, 4, 43, 21, 6, 50, 180, 0, 32, 42, 21, 6]
abbrev dktX8_init_4 : List UInt8 := dkwX8_init_4 ++ dktX8_init_5
def dkwX8_init_3 : List UInt8 := [62, 10, 55, 4, 3, 54, 6, 21, 6, 43, 190, 162, 0, 51, 28, 43, 21, 6, 50, 180, 0, 19, 96, 61]
abbrev dktX8_init_3 : List UInt8 := dkwX8_init_3 ++ dktX8_init_4
def dkwX8_init_2 : List UInt8 := [4, 100, 50, 83, 132, 4, 255, 167, 255, 225, 43, 21, 4, 45, 83, 132, 2, 1, 167, 255, 201, 4, 61, 3]
abbrev dktX8_init_2 : List UInt8 := dkwX8_init_2 ++ dktX8_init_3
def dkwX8_init_1 : List UInt8 := [21, 4, 158, 0, 32, 43, 21, 4, 4, 100, 50, 45, 182, 0, 15, 156, 0, 19, 43, 21, 4, 43, 21, 4]
abbrev dktX8_init_1 : List UInt8 := dkwX8_init_1 ++ dktX8_init_2
def dkwX8_init_0 : List UInt8 := [42, 183, 0, 3, 42, 43, 181, 0, 9, 4, 61, 28, 43, 190, 162, 0, 55, 43, 28, 50, 78, 28, 54, 4]
abbrev dktX8_init_0 : List UInt8 := dkwX8_init_0 ++ dktX8_init_1
theorem dksX8_init_0 : cX8_init.data.toList.drop 0 = dktX8_init_0 := by decide +kernel
theorem dksX8_init_1 : cX8_init.data.toList.drop 24 = dktX8_init_1 := dk_seg dksX8_init_0 24 rfl rfl
theorem dksX8_init_2 : cX8_init.data.toList.drop 48 = dktX8_init_2 := dk_seg dksX8_init_1 24 rfl rfl
theorem dksX8_init_3 : cX8_init.data.toList.drop 72 = dktX8_init_3 := dk_seg dksX8_init_2 24 rfl rfl
theorem dksX8_init_4 : cX8_init.data.toList.drop 96 = dktX8_init_4 := dk_seg dksX8_init_3 24 rfl rfl
theorem dksX8_init_5 : cX8_init.data.toList.drop 120 = dktX8_init_5 := dk_seg dksX8_init_4 24 rfl rfl
theorem dksX8_init_6 : cX8_init.data.toList.drop 143 = dktX8_init_6 := dk_seg dksX8_init_5 23 rfl rfl
theorem dksX8_init_7 : cX8_init.data.toList.drop 165 = dktX8_init_7 := dk_seg dksX8_init_6 22 rfl rfl
theorem dksX8_init_8 : cX8_init.data.toList.drop 188 = dktX8_init_8 := dk_seg dksX8_init_7 23 rfl rfl
theorem dksX8_init_9 : cX8_init.data.toList.drop 210 = dktX8_init_9 := dk_seg dksX8_init_8 22 rfl rfl
theorem dX8_init_0 : decode cX8_init 0 = .ok (.aload_n 0, 1) := dk_42 (dk_at dksX8_init_0 0 rfl rfl)
theorem dX8_init_1 : decode cX8_init 1 = .ok (.invokespecial 3, 3) := dk_183 0 3 (dk_at dksX8_init_0 1 rfl rfl)
theorem dX8_init_4 : decode cX8_init 4 = .ok (.aload_n 0, 1) := dk_42 (dk_at dksX8_init_0 4 rfl rfl)
theorem dX8_init_5 : decode cX8_init 5 = .ok (.aload_n 1, 1) := dk_43 (dk_at dksX8_init_0 5 rfl rfl)
theorem dX8_init_6 : decode cX8_init 6 = .ok (.putfield 9, 3) := dk_181 0 9 (dk_at dksX8_init_0 6 rfl rfl)
theorem dX8_init_9 : decode cX8_init 9 = .ok (.iconst 1, 1) := dk_4 (dk_at dksX8_init_0 9 rfl rfl)
theorem dX8_init_10 : decode cX8_init 10 = .ok (.istore_n 2, 1) := dk_61 (dk_at dksX8_init_0 10 rfl rfl)
theorem dX8_init_11 : decode cX8_init 11 = .ok (.iload_n 2, 1) := dk_28 (dk_at dksX8_init_0 11 rfl rfl)
theorem dX8_init_12 : decode cX8_init 12 = .ok (.aload_n 1, 1) := dk_43 (dk_at dksX8_init_0 12 rfl rfl)
theorem dX8_init_13 : decode cX8_init 13 = .ok (.arraylength, 1) := dk_190 (dk_at dksX8_init_0 13 rfl rfl)
theorem dX8_init_14 : decode cX8_init 14 = .ok (.if_icmp .ge 55, 3) := dk_162 0 55 (dk_at dksX8_init_0 14 rfl rfl)
theorem dX8_init_17 : decode cX8_init 17 = .ok (.aload_n 1, 1) := dk_43 (dk_at dksX8_init_0 17 rfl rfl)
theorem dX8_init_18 : decode cX8_init 18 = .ok (.iload_n 2, 1) := dk_28 (dk_at dksX8_init_0 18 rfl rfl)
theorem dX8_init_19 : decode cX8_init 19 = .ok (.aaload, 1) := dk_50 (dk_at dksX8_init_0 19 rfl rfl)
theorem dX8_init_20 : decode cX8_init 20 = .ok (.astore_n 3, 1) := dk_78 (dk_at dksX8_init_0 20 rfl rfl)
theorem dX8_init_21 : decode cX8_init 21 = .ok (.iload_n 2, 1) := dk_28 (dk_at dksX8_init_0 21 rfl rfl)
theorem dX8_init_22 : decode cX8_init 22 = .ok (.istore 4, 2) := dk_54 4 (dk_at dksX8_init_0 22 rfl rfl)
theorem dX8_init_24 : decode cX8_init 24 = .ok (.iload 4, 2) := dk_21 4 (dk_at dksX8_init_1 0 rfl rfl)
theorem dX8_init_26 : decode cX8_init 26 = .ok (.ifCond .le 32, 3) := dk_158 0 32 (dk_at dksX8_init_1 2 rfl rfl)
theorem dX8_init_29 : decode cX8_init 29 = .ok (.aload_n 1, 1) := dk_43 (dk_at dksX8_init_1 5 rfl rfl)
theorem dX8_init_30 : decode cX8_init 30 = .ok (.iload 4, 2) := dk_21 4 (dk_at dksX8_init_1 6 rfl rfl)
theorem dX8_init_32 : decode cX8_init 32 = .ok (.iconst 1, 1) := dk_4 (dk_at dksX8_init_1 8 rfl rfl)
theorem dX8_init_33 : decode cX8_init 33 = .ok (.isub, 1) := dk_100 (dk_at dksX8_init_1 9 rfl rfl)
theorem dX8_init_34 : decode cX8_init 34 = .ok (.aaload, 1) := dk_50 (dk_at dksX8_init_1 10 rfl rfl)
theorem dX8_init_35 : decode cX8_init 35 = .ok (.aload_n 3, 1) := dk_45 (dk_at dksX8_init_1 11 rfl rfl)
theorem dX8_init_36 : decode cX8_init 36 = .ok (.invokevirtual 15, 3) := dk_182 0 15 (dk_at dksX8_init_1 12 rfl rfl)
theorem dX8_init_39 : decode cX8_init 39 = .ok (.ifCond .ge 19, 3) := dk_156 0 19 (dk_at dksX8_init_1 15 rfl rfl)
theorem dX8_init_42 : decode cX8_init 42 = .ok (.aload_n 1, 1) := dk_43 (dk_at dksX8_init_1 18 rfl rfl)
theorem dX8_init_43 : decode cX8_init 43 = .ok (.iload 4, 2) := dk_21 4 (dk_at dksX8_init_1 19 rfl rfl)
theorem dX8_init_45 : decode cX8_init 45 = .ok (.aload_n 1, 1) := dk_43 (dk_at dksX8_init_1 21 rfl rfl)
theorem dX8_init_46 : decode cX8_init 46 = .ok (.iload 4, 2) := dk_21 4 (dk_at dksX8_init_1 22 rfl rfl)
theorem dX8_init_48 : decode cX8_init 48 = .ok (.iconst 1, 1) := dk_4 (dk_at dksX8_init_2 0 rfl rfl)
theorem dX8_init_49 : decode cX8_init 49 = .ok (.isub, 1) := dk_100 (dk_at dksX8_init_2 1 rfl rfl)
theorem dX8_init_50 : decode cX8_init 50 = .ok (.aaload, 1) := dk_50 (dk_at dksX8_init_2 2 rfl rfl)
theorem dX8_init_51 : decode cX8_init 51 = .ok (.aastore, 1) := dk_83 (dk_at dksX8_init_2 3 rfl rfl)
theorem dX8_init_52 : decode cX8_init 52 = .ok (.iinc 4 (-1), 3) := dk_132 4 255 (dk_at dksX8_init_2 4 rfl rfl)
theorem dX8_init_55 : decode cX8_init 55 = .ok (.goto (-31), 3) := dk_167 255 225 (dk_at dksX8_init_2 7 rfl rfl)
theorem dX8_init_58 : decode cX8_init 58 = .ok (.aload_n 1, 1) := dk_43 (dk_at dksX8_init_2 10 rfl rfl)
theorem dX8_init_59 : decode cX8_init 59 = .ok (.iload 4, 2) := dk_21 4 (dk_at dksX8_init_2 11 rfl rfl)
theorem dX8_init_61 : decode cX8_init 61 = .ok (.aload_n 3, 1) := dk_45 (dk_at dksX8_init_2 13 rfl rfl)
theorem dX8_init_62 : decode cX8_init 62 = .ok (.aastore, 1) := dk_83 (dk_at dksX8_init_2 14 rfl rfl)
theorem dX8_init_63 : decode cX8_init 63 = .ok (.iinc 2 1, 3) := dk_132 2 1 (dk_at dksX8_init_2 15 rfl rfl)
theorem dX8_init_66 : decode cX8_init 66 = .ok (.goto (-55), 3) := dk_167 255 201 (dk_at dksX8_init_2 18 rfl rfl)
theorem dX8_init_69 : decode cX8_init 69 = .ok (.iconst 1, 1) := dk_4 (dk_at dksX8_init_2 21 rfl rfl)
theorem dX8_init_70 : decode cX8_init 70 = .ok (.istore_n 2, 1) := dk_61 (dk_at dksX8_init_2 22 rfl rfl)
theorem dX8_init_71 : decode cX8_init 71 = .ok (.iconst 0, 1) := dk_3 (dk_at dksX8_init_2 23 rfl rfl)
theorem dX8_init_72 : decode cX8_init 72 = .ok (.istore_n 3, 1) := dk_62 (dk_at dksX8_init_3 0 rfl rfl)
theorem dX8_init_73 : decode cX8_init 73 = .ok (.lconst 1, 1) := dk_10 (dk_at dksX8_init_3 1 rfl rfl)
theorem dX8_init_74 : decode cX8_init 74 = .ok (.lstore 4, 2) := dk_55 4 (dk_at dksX8_init_3 2 rfl rfl)
theorem dX8_init_76 : decode cX8_init 76 = .ok (.iconst 0, 1) := dk_3 (dk_at dksX8_init_3 4 rfl rfl)
theorem dX8_init_77 : decode cX8_init 77 = .ok (.istore 6, 2) := dk_54 6 (dk_at dksX8_init_3 5 rfl rfl)
theorem dX8_init_79 : decode cX8_init 79 = .ok (.iload 6, 2) := dk_21 6 (dk_at dksX8_init_3 7 rfl rfl)
theorem dX8_init_81 : decode cX8_init 81 = .ok (.aload_n 1, 1) := dk_43 (dk_at dksX8_init_3 9 rfl rfl)
theorem dX8_init_82 : decode cX8_init 82 = .ok (.arraylength, 1) := dk_190 (dk_at dksX8_init_3 10 rfl rfl)
theorem dX8_init_83 : decode cX8_init 83 = .ok (.if_icmp .ge 51, 3) := dk_162 0 51 (dk_at dksX8_init_3 11 rfl rfl)
theorem dX8_init_86 : decode cX8_init 86 = .ok (.iload_n 2, 1) := dk_28 (dk_at dksX8_init_3 14 rfl rfl)
theorem dX8_init_87 : decode cX8_init 87 = .ok (.aload_n 1, 1) := dk_43 (dk_at dksX8_init_3 15 rfl rfl)
theorem dX8_init_88 : decode cX8_init 88 = .ok (.iload 6, 2) := dk_21 6 (dk_at dksX8_init_3 16 rfl rfl)
theorem dX8_init_90 : decode cX8_init 90 = .ok (.aaload, 1) := dk_50 (dk_at dksX8_init_3 18 rfl rfl)
theorem dX8_init_91 : decode cX8_init 91 = .ok (.getfield 19, 3) := dk_180 0 19 (dk_at dksX8_init_3 19 rfl rfl)
theorem dX8_init_94 : decode cX8_init 94 = .ok (.iadd, 1) := dk_96 (dk_at dksX8_init_3 22 rfl rfl)
theorem dX8_init_95 : decode cX8_init 95 = .ok (.istore_n 2, 1) := dk_61 (dk_at dksX8_init_3 23 rfl rfl)
theorem dX8_init_96 : decode cX8_init 96 = .ok (.iload_n 3, 1) := dk_29 (dk_at dksX8_init_4 0 rfl rfl)
theorem dX8_init_97 : decode cX8_init 97 = .ok (.aload_n 1, 1) := dk_43 (dk_at dksX8_init_4 1 rfl rfl)
theorem dX8_init_98 : decode cX8_init 98 = .ok (.iload 6, 2) := dk_21 6 (dk_at dksX8_init_4 2 rfl rfl)
theorem dX8_init_100 : decode cX8_init 100 = .ok (.aaload, 1) := dk_50 (dk_at dksX8_init_4 4 rfl rfl)
theorem dX8_init_101 : decode cX8_init 101 = .ok (.getfield 23, 3) := dk_180 0 23 (dk_at dksX8_init_4 5 rfl rfl)
theorem dX8_init_104 : decode cX8_init 104 = .ok (.invokestatic 26, 3) := dk_184 0 26 (dk_at dksX8_init_4 8 rfl rfl)
theorem dX8_init_107 : decode cX8_init 107 = .ok (.istore_n 3, 1) := dk_62 (dk_at dksX8_init_4 11 rfl rfl)
theorem dX8_init_108 : decode cX8_init 108 = .ok (.lload 4, 2) := dk_22 4 (dk_at dksX8_init_4 12 rfl rfl)
theorem dX8_init_110 : decode cX8_init 110 = .ok (.aload_n 1, 1) := dk_43 (dk_at dksX8_init_4 14 rfl rfl)
theorem dX8_init_111 : decode cX8_init 111 = .ok (.iload 6, 2) := dk_21 6 (dk_at dksX8_init_4 15 rfl rfl)
theorem dX8_init_113 : decode cX8_init 113 = .ok (.aaload, 1) := dk_50 (dk_at dksX8_init_4 17 rfl rfl)
theorem dX8_init_114 : decode cX8_init 114 = .ok (.getfield 32, 3) := dk_180 0 32 (dk_at dksX8_init_4 18 rfl rfl)
theorem dX8_init_117 : decode cX8_init 117 = .ok (.aload_n 0, 1) := dk_42 (dk_at dksX8_init_4 21 rfl rfl)
theorem dX8_init_118 : decode cX8_init 118 = .ok (.iload 6, 2) := dk_21 6 (dk_at dksX8_init_4 22 rfl rfl)
theorem dX8_init_120 : decode cX8_init 120 = .ok (.invokevirtual 36, 3) := dk_182 0 36 (dk_at dksX8_init_5 0 rfl rfl)
theorem dX8_init_123 : decode cX8_init 123 = .ok (.i2l, 1) := dk_133 (dk_at dksX8_init_5 3 rfl rfl)
theorem dX8_init_124 : decode cX8_init 124 = .ok (.lmul, 1) := dk_105 (dk_at dksX8_init_5 4 rfl rfl)
theorem dX8_init_125 : decode cX8_init 125 = .ok (.lmul, 1) := dk_105 (dk_at dksX8_init_5 5 rfl rfl)
theorem dX8_init_126 : decode cX8_init 126 = .ok (.lstore 4, 2) := dk_55 4 (dk_at dksX8_init_5 6 rfl rfl)
theorem dX8_init_128 : decode cX8_init 128 = .ok (.iinc 6 1, 3) := dk_132 6 1 (dk_at dksX8_init_5 8 rfl rfl)
theorem dX8_init_131 : decode cX8_init 131 = .ok (.goto (-52), 3) := dk_167 255 204 (dk_at dksX8_init_5 11 rfl rfl)
theorem dX8_init_134 : decode cX8_init 134 = .ok (.aload_n 0, 1) := dk_42 (dk_at dksX8_init_5 14 rfl rfl)
theorem dX8_init_135 : decode cX8_init 135 = .ok (.iload_n 2, 1) := dk_28 (dk_at dksX8_init_5 15 rfl rfl)
theorem dX8_init_136 : decode cX8_init 136 = .ok (.putfield 19, 3) := dk_181 0 19 (dk_at dksX8_init_5 16 rfl rfl)
theorem dX8_init_139 : decode cX8_init 139 = .ok (.aload_n 0, 1) := dk_42 (dk_at dksX8_init_5 19 rfl rfl)
theorem dX8_init_140 : decode cX8_init 140 = .ok (.iload_n 3, 1) := dk_29 (dk_at dksX8_init_5 20 rfl rfl)
theorem dX8_init_141 : decode cX8_init 141 = .ok (.iconst 1, 1) := dk_4 (dk_at dksX8_init_5 21 rfl rfl)
theorem dX8_init_142 : decode cX8_init 142 = .ok (.iadd, 1) := dk_96 (dk_at dksX8_init_5 22 rfl rfl)
theorem dX8_init_143 : decode cX8_init 143 = .ok (.putfield 23, 3) := dk_181 0 23 (dk_at dksX8_init_6 0 rfl rfl)
theorem dX8_init_146 : decode cX8_init 146 = .ok (.aload_n 0, 1) := dk_42 (dk_at dksX8_init_6 3 rfl rfl)
theorem dX8_init_147 : decode cX8_init 147 = .ok (.lload 4, 2) := dk_22 4 (dk_at dksX8_init_6 4 rfl rfl)
theorem dX8_init_149 : decode cX8_init 149 = .ok (.putfield 32, 3) := dk_181 0 32 (dk_at dksX8_init_6 6 rfl rfl)
theorem dX8_init_152 : decode cX8_init 152 = .ok (.aload_n 0, 1) := dk_42 (dk_at dksX8_init_6 9 rfl rfl)
theorem dX8_init_153 : decode cX8_init 153 = .ok (.aload_n 1, 1) := dk_43 (dk_at dksX8_init_6 10 rfl rfl)
theorem dX8_init_154 : decode cX8_init 154 = .ok (.arraylength, 1) := dk_190 (dk_at dksX8_init_6 11 rfl rfl)
theorem dX8_init_155 : decode cX8_init 155 = .ok (.iconst 3, 1) := dk_6 (dk_at dksX8_init_6 12 rfl rfl)
theorem dX8_init_156 : decode cX8_init 156 = .ok (.if_icmp .le 7, 3) := dk_164 0 7 (dk_at dksX8_init_6 13 rfl rfl)
theorem dX8_init_159 : decode cX8_init 159 = .ok (.lconst 0, 1) := dk_9 (dk_at dksX8_init_6 16 rfl rfl)
theorem dX8_init_160 : decode cX8_init 160 = .ok (.goto 21, 3) := dk_167 0 21 (dk_at dksX8_init_6 17 rfl rfl)
theorem dX8_init_163 : decode cX8_init 163 = .ok (.aload_n 0, 1) := dk_42 (dk_at dksX8_init_6 20 rfl rfl)
theorem dX8_init_164 : decode cX8_init 164 = .ok (.iconst 0, 1) := dk_3 (dk_at dksX8_init_6 21 rfl rfl)
theorem dX8_init_165 : decode cX8_init 165 = .ok (.invokevirtual 40, 3) := dk_182 0 40 (dk_at dksX8_init_7 0 rfl rfl)
theorem dX8_init_168 : decode cX8_init 168 = .ok (.aload_n 0, 1) := dk_42 (dk_at dksX8_init_7 3 rfl rfl)
theorem dX8_init_169 : decode cX8_init 169 = .ok (.iconst 1, 1) := dk_4 (dk_at dksX8_init_7 4 rfl rfl)
theorem dX8_init_170 : decode cX8_init 170 = .ok (.invokevirtual 40, 3) := dk_182 0 40 (dk_at dksX8_init_7 5 rfl rfl)
theorem dX8_init_173 : decode cX8_init 173 = .ok (.aload_n 0, 1) := dk_42 (dk_at dksX8_init_7 8 rfl rfl)
theorem dX8_init_174 : decode cX8_init 174 = .ok (.iconst 2, 1) := dk_5 (dk_at dksX8_init_7 9 rfl rfl)
theorem dX8_init_175 : decode cX8_init 175 = .ok (.invokevirtual 40, 3) := dk_182 0 40 (dk_at dksX8_init_7 10 rfl rfl)
theorem dX8_init_178 : decode cX8_init 178 = .ok (.invokestatic 44, 3) := dk_184 0 44 (dk_at dksX8_init_7 13 rfl rfl)
theorem dX8_init_181 : decode cX8_init 181 = .ok (.putfield 48, 3) := dk_181 0 48 (dk_at dksX8_init_7 16 rfl rfl)
theorem dX8_init_184 : decode cX8_init 184 = .ok (.aload_n 0, 1) := dk_42 (dk_at dksX8_init_7 19 rfl rfl)
theorem dX8_init_185 : decode cX8_init 185 = .ok (.aload_n 1, 1) := dk_43 (dk_at dksX8_init_7 20 rfl rfl)
theorem dX8_init_186 : decode cX8_init 186 = .ok (.arraylength, 1) := dk_190 (dk_at dksX8_init_7 21 rfl rfl)
theorem dX8_init_187 : decode cX8_init 187 = .ok (.iconst 3, 1) := dk_6 (dk_at dksX8_init_7 22 rfl rfl)
theorem dX8_init_188 : decode cX8_init 188 = .ok (.if_icmp .le 7, 3) := dk_164 0 7 (dk_at dksX8_init_8 0 rfl rfl)
theorem dX8_init_191 : decode cX8_init 191 = .ok (.lconst 0, 1) := dk_9 (dk_at dksX8_init_8 3 rfl rfl)
theorem dX8_init_192 : decode cX8_init 192 = .ok (.goto 21, 3) := dk_167 0 21 (dk_at dksX8_init_8 4 rfl rfl)
theorem dX8_init_195 : decode cX8_init 195 = .ok (.aload_n 0, 1) := dk_42 (dk_at dksX8_init_8 7 rfl rfl)
theorem dX8_init_196 : decode cX8_init 196 = .ok (.iconst 0, 1) := dk_3 (dk_at dksX8_init_8 8 rfl rfl)
theorem dX8_init_197 : decode cX8_init 197 = .ok (.invokevirtual 40, 3) := dk_182 0 40 (dk_at dksX8_init_8 9 rfl rfl)
theorem dX8_init_200 : decode cX8_init 200 = .ok (.aload_n 0, 1) := dk_42 (dk_at dksX8_init_8 12 rfl rfl)
theorem dX8_init_201 : decode cX8_init 201 = .ok (.iconst 1, 1) := dk_4 (dk_at dksX8_init_8 13 rfl rfl)
theorem dX8_init_202 : decode cX8_init 202 = .ok (.invokevirtual 40, 3) := dk_182 0 40 (dk_at dksX8_init_8 14 rfl rfl)
theorem dX8_init_205 : decode cX8_init 205 = .ok (.aload_n 0, 1) := dk_42 (dk_at dksX8_init_8 17 rfl rfl)
theorem dX8_init_206 : decode cX8_init 206 = .ok (.iconst 2, 1) := dk_5 (dk_at dksX8_init_8 18 rfl rfl)
theorem dX8_init_207 : decode cX8_init 207 = .ok (.invokevirtual 40, 3) := dk_182 0 40 (dk_at dksX8_init_8 19 rfl rfl)
theorem dX8_init_210 : decode cX8_init 210 = .ok (.invokestatic 51, 3) := dk_184 0 51 (dk_at dksX8_init_9 0 rfl rfl)
theorem dX8_init_213 : decode cX8_init 213 = .ok (.putfield 54, 3) := dk_181 0 54 (dk_at dksX8_init_9 3 rfl rfl)
theorem dX8_init_216 : decode cX8_init 216 = .ok (.return_, 1) := dk_177 (dk_at dksX8_init_9 6 rfl rfl)
abbrev cX8_compareTo : ByteArray := prog_3_method_9_code
def yX8_compareTo : MethodName := ⟨RX8, "compareTo", "(LSkeletons$Branch;)I"⟩
def dkwX8_compareTo_4 : List UInt8 := [184, 0, 73, 172]
abbrev dktX8_compareTo_4 : List UInt8 := dkwX8_compareTo_4 ++ []
def dkwX8_compareTo_3 : List UInt8 := [153, 0, 6, 21, 4, 172, 132, 3, 1, 167, 255, 223, 42, 180, 0, 9, 190, 43, 180, 0, 9, 190]
abbrev dktX8_compareTo_3 : List UInt8 := dkwX8_compareTo_3 ++ dktX8_compareTo_4
def dkwX8_compareTo_2 : List UInt8 := [162, 0, 34, 42, 180, 0, 9, 29, 50, 43, 180, 0, 9, 29, 50, 182, 0, 15, 54, 4, 21, 4]
abbrev dktX8_compareTo_2 : List UInt8 := dkwX8_compareTo_2 ++ dktX8_compareTo_3
def dkwX8_compareTo_1 : List UInt8 := [167, 0, 4, 4, 172, 42, 180, 0, 9, 190, 43, 180, 0, 9, 190, 184, 0, 70, 61, 3, 62, 29, 28]
abbrev dktX8_compareTo_1 : List UInt8 := dkwX8_compareTo_1 ++ dktX8_compareTo_2
def dkwX8_compareTo_0 : List UInt8 := [42, 180, 0, 19, 43, 180, 0, 19, 159, 0, 20, 42, 180, 0, 19, 43, 180, 0, 19, 162, 0, 7, 2]
abbrev dktX8_compareTo_0 : List UInt8 := dkwX8_compareTo_0 ++ dktX8_compareTo_1
theorem dksX8_compareTo_0 : cX8_compareTo.data.toList.drop 0 = dktX8_compareTo_0 := by decide +kernel
theorem dksX8_compareTo_1 : cX8_compareTo.data.toList.drop 23 = dktX8_compareTo_1 := dk_seg dksX8_compareTo_0 23 rfl rfl
theorem dksX8_compareTo_2 : cX8_compareTo.data.toList.drop 46 = dktX8_compareTo_2 := dk_seg dksX8_compareTo_1 23 rfl rfl
theorem dksX8_compareTo_3 : cX8_compareTo.data.toList.drop 68 = dktX8_compareTo_3 := dk_seg dksX8_compareTo_2 22 rfl rfl
theorem dksX8_compareTo_4 : cX8_compareTo.data.toList.drop 90 = dktX8_compareTo_4 := dk_seg dksX8_compareTo_3 22 rfl rfl
theorem dX8_compareTo_0 : decode cX8_compareTo 0 = .ok (.aload_n 0, 1) := dk_42 (dk_at dksX8_compareTo_0 0 rfl rfl)
theorem dX8_compareTo_1 : decode cX8_compareTo 1 = .ok (.getfield 19, 3) := dk_180 0 19 (dk_at dksX8_compareTo_0 1 rfl rfl)
theorem dX8_compareTo_4 : decode cX8_compareTo 4 = .ok (.aload_n 1, 1) := dk_43 (dk_at dksX8_compareTo_0 4 rfl rfl)
theorem dX8_compareTo_5 : decode cX8_compareTo 5 = .ok (.getfield 19, 3) := dk_180 0 19 (dk_at dksX8_compareTo_0 5 rfl rfl)
theorem dX8_compareTo_8 : decode cX8_compareTo 8 = .ok (.if_icmp .eq 20, 3) := dk_159 0 20 (dk_at dksX8_compareTo_0 8 rfl rfl)
theorem dX8_compareTo_11 : decode cX8_compareTo 11 = .ok (.aload_n 0, 1) := dk_42 (dk_at dksX8_compareTo_0 11 rfl rfl)
theorem dX8_compareTo_12 : decode cX8_compareTo 12 = .ok (.getfield 19, 3) := dk_180 0 19 (dk_at dksX8_compareTo_0 12 rfl rfl)
theorem dX8_compareTo_15 : decode cX8_compareTo 15 = .ok (.aload_n 1, 1) := dk_43 (dk_at dksX8_compareTo_0 15 rfl rfl)
theorem dX8_compareTo_16 : decode cX8_compareTo 16 = .ok (.getfield 19, 3) := dk_180 0 19 (dk_at dksX8_compareTo_0 16 rfl rfl)
theorem dX8_compareTo_19 : decode cX8_compareTo 19 = .ok (.if_icmp .ge 7, 3) := dk_162 0 7 (dk_at dksX8_compareTo_0 19 rfl rfl)
theorem dX8_compareTo_22 : decode cX8_compareTo 22 = .ok (.iconst (-1), 1) := dk_2 (dk_at dksX8_compareTo_0 22 rfl rfl)
theorem dX8_compareTo_23 : decode cX8_compareTo 23 = .ok (.goto 4, 3) := dk_167 0 4 (dk_at dksX8_compareTo_1 0 rfl rfl)
theorem dX8_compareTo_26 : decode cX8_compareTo 26 = .ok (.iconst 1, 1) := dk_4 (dk_at dksX8_compareTo_1 3 rfl rfl)
theorem dX8_compareTo_27 : decode cX8_compareTo 27 = .ok (.ireturn, 1) := dk_172 (dk_at dksX8_compareTo_1 4 rfl rfl)
theorem dX8_compareTo_28 : decode cX8_compareTo 28 = .ok (.aload_n 0, 1) := dk_42 (dk_at dksX8_compareTo_1 5 rfl rfl)
theorem dX8_compareTo_29 : decode cX8_compareTo 29 = .ok (.getfield 9, 3) := dk_180 0 9 (dk_at dksX8_compareTo_1 6 rfl rfl)
theorem dX8_compareTo_32 : decode cX8_compareTo 32 = .ok (.arraylength, 1) := dk_190 (dk_at dksX8_compareTo_1 9 rfl rfl)
theorem dX8_compareTo_33 : decode cX8_compareTo 33 = .ok (.aload_n 1, 1) := dk_43 (dk_at dksX8_compareTo_1 10 rfl rfl)
theorem dX8_compareTo_34 : decode cX8_compareTo 34 = .ok (.getfield 9, 3) := dk_180 0 9 (dk_at dksX8_compareTo_1 11 rfl rfl)
theorem dX8_compareTo_37 : decode cX8_compareTo 37 = .ok (.arraylength, 1) := dk_190 (dk_at dksX8_compareTo_1 14 rfl rfl)
theorem dX8_compareTo_38 : decode cX8_compareTo 38 = .ok (.invokestatic 70, 3) := dk_184 0 70 (dk_at dksX8_compareTo_1 15 rfl rfl)
theorem dX8_compareTo_41 : decode cX8_compareTo 41 = .ok (.istore_n 2, 1) := dk_61 (dk_at dksX8_compareTo_1 18 rfl rfl)
theorem dX8_compareTo_42 : decode cX8_compareTo 42 = .ok (.iconst 0, 1) := dk_3 (dk_at dksX8_compareTo_1 19 rfl rfl)
theorem dX8_compareTo_43 : decode cX8_compareTo 43 = .ok (.istore_n 3, 1) := dk_62 (dk_at dksX8_compareTo_1 20 rfl rfl)
theorem dX8_compareTo_44 : decode cX8_compareTo 44 = .ok (.iload_n 3, 1) := dk_29 (dk_at dksX8_compareTo_1 21 rfl rfl)
theorem dX8_compareTo_45 : decode cX8_compareTo 45 = .ok (.iload_n 2, 1) := dk_28 (dk_at dksX8_compareTo_1 22 rfl rfl)
theorem dX8_compareTo_46 : decode cX8_compareTo 46 = .ok (.if_icmp .ge 34, 3) := dk_162 0 34 (dk_at dksX8_compareTo_2 0 rfl rfl)
theorem dX8_compareTo_49 : decode cX8_compareTo 49 = .ok (.aload_n 0, 1) := dk_42 (dk_at dksX8_compareTo_2 3 rfl rfl)
theorem dX8_compareTo_50 : decode cX8_compareTo 50 = .ok (.getfield 9, 3) := dk_180 0 9 (dk_at dksX8_compareTo_2 4 rfl rfl)
theorem dX8_compareTo_53 : decode cX8_compareTo 53 = .ok (.iload_n 3, 1) := dk_29 (dk_at dksX8_compareTo_2 7 rfl rfl)
theorem dX8_compareTo_54 : decode cX8_compareTo 54 = .ok (.aaload, 1) := dk_50 (dk_at dksX8_compareTo_2 8 rfl rfl)
theorem dX8_compareTo_55 : decode cX8_compareTo 55 = .ok (.aload_n 1, 1) := dk_43 (dk_at dksX8_compareTo_2 9 rfl rfl)
theorem dX8_compareTo_56 : decode cX8_compareTo 56 = .ok (.getfield 9, 3) := dk_180 0 9 (dk_at dksX8_compareTo_2 10 rfl rfl)
theorem dX8_compareTo_59 : decode cX8_compareTo 59 = .ok (.iload_n 3, 1) := dk_29 (dk_at dksX8_compareTo_2 13 rfl rfl)
theorem dX8_compareTo_60 : decode cX8_compareTo 60 = .ok (.aaload, 1) := dk_50 (dk_at dksX8_compareTo_2 14 rfl rfl)
theorem dX8_compareTo_61 : decode cX8_compareTo 61 = .ok (.invokevirtual 15, 3) := dk_182 0 15 (dk_at dksX8_compareTo_2 15 rfl rfl)
theorem dX8_compareTo_64 : decode cX8_compareTo 64 = .ok (.istore 4, 2) := dk_54 4 (dk_at dksX8_compareTo_2 18 rfl rfl)
theorem dX8_compareTo_66 : decode cX8_compareTo 66 = .ok (.iload 4, 2) := dk_21 4 (dk_at dksX8_compareTo_2 20 rfl rfl)
theorem dX8_compareTo_68 : decode cX8_compareTo 68 = .ok (.ifCond .eq 6, 3) := dk_153 0 6 (dk_at dksX8_compareTo_3 0 rfl rfl)
theorem dX8_compareTo_71 : decode cX8_compareTo 71 = .ok (.iload 4, 2) := dk_21 4 (dk_at dksX8_compareTo_3 3 rfl rfl)
theorem dX8_compareTo_73 : decode cX8_compareTo 73 = .ok (.ireturn, 1) := dk_172 (dk_at dksX8_compareTo_3 5 rfl rfl)
theorem dX8_compareTo_74 : decode cX8_compareTo 74 = .ok (.iinc 3 1, 3) := dk_132 3 1 (dk_at dksX8_compareTo_3 6 rfl rfl)
theorem dX8_compareTo_77 : decode cX8_compareTo 77 = .ok (.goto (-33), 3) := dk_167 255 223 (dk_at dksX8_compareTo_3 9 rfl rfl)
theorem dX8_compareTo_80 : decode cX8_compareTo 80 = .ok (.aload_n 0, 1) := dk_42 (dk_at dksX8_compareTo_3 12 rfl rfl)
theorem dX8_compareTo_81 : decode cX8_compareTo 81 = .ok (.getfield 9, 3) := dk_180 0 9 (dk_at dksX8_compareTo_3 13 rfl rfl)
theorem dX8_compareTo_84 : decode cX8_compareTo 84 = .ok (.arraylength, 1) := dk_190 (dk_at dksX8_compareTo_3 16 rfl rfl)
theorem dX8_compareTo_85 : decode cX8_compareTo 85 = .ok (.aload_n 1, 1) := dk_43 (dk_at dksX8_compareTo_3 17 rfl rfl)
theorem dX8_compareTo_86 : decode cX8_compareTo 86 = .ok (.getfield 9, 3) := dk_180 0 9 (dk_at dksX8_compareTo_3 18 rfl rfl)
theorem dX8_compareTo_89 : decode cX8_compareTo 89 = .ok (.arraylength, 1) := dk_190 (dk_at dksX8_compareTo_3 21 rfl rfl)
theorem dX8_compareTo_90 : decode cX8_compareTo 90 = .ok (.invokestatic 73, 3) := dk_184 0 73 (dk_at dksX8_compareTo_4 0 rfl rfl)
theorem dX8_compareTo_93 : decode cX8_compareTo 93 = .ok (.ireturn, 1) := dk_172 (dk_at dksX8_compareTo_4 3 rfl rfl)
abbrev cX8_likeAhead : ByteArray := prog_3_method_2_code
def yX8_likeAhead : MethodName := ⟨RX8, "likeAhead", "(I)I"⟩
def dkwX8_likeAhead_1 : List UInt8 := [154, 0, 9, 132, 2, 1, 167, 255, 228, 28, 172]
abbrev dktX8_likeAhead_1 : List UInt8 := dkwX8_likeAhead_1 ++ []
def dkwX8_likeAhead_0 : List UInt8 := [4, 61, 28, 27, 163, 0, 29, 42, 180, 0, 9, 27, 28, 100, 50, 42, 180, 0, 9, 27, 50, 182, 0, 15]
abbrev dktX8_likeAhead_0 : List UInt8 := dkwX8_likeAhead_0 ++ dktX8_likeAhead_1
theorem dksX8_likeAhead_0 : cX8_likeAhead.data.toList.drop 0 = dktX8_likeAhead_0 := by decide +kernel
theorem dksX8_likeAhead_1 : cX8_likeAhead.data.toList.drop 24 = dktX8_likeAhead_1 := dk_seg dksX8_likeAhead_0 24 rfl rfl
theorem dX8_likeAhead_0 : decode cX8_likeAhead 0 = .ok (.iconst 1, 1) := dk_4 (dk_at dksX8_likeAhead_0 0 rfl rfl)
theorem dX8_likeAhead_1 : decode cX8_likeAhead 1 = .ok (.istore_n 2, 1) := dk_61 (dk_at dksX8_likeAhead_0 1 rfl rfl)
theorem dX8_likeAhead_2 : decode cX8_likeAhead 2 = .ok (.iload_n 2, 1) := dk_28 (dk_at dksX8_likeAhead_0 2 rfl rfl)
theorem dX8_likeAhead_3 : decode cX8_likeAhead 3 = .ok (.iload_n 1, 1) := dk_27 (dk_at dksX8_likeAhead_0 3 rfl rfl)
theorem dX8_likeAhead_4 : decode cX8_likeAhead 4 = .ok (.if_icmp .gt 29, 3) := dk_163 0 29 (dk_at dksX8_likeAhead_0 4 rfl rfl)
theorem dX8_likeAhead_7 : decode cX8_likeAhead 7 = .ok (.aload_n 0, 1) := dk_42 (dk_at dksX8_likeAhead_0 7 rfl rfl)
theorem dX8_likeAhead_8 : decode cX8_likeAhead 8 = .ok (.getfield 9, 3) := dk_180 0 9 (dk_at dksX8_likeAhead_0 8 rfl rfl)
theorem dX8_likeAhead_11 : decode cX8_likeAhead 11 = .ok (.iload_n 1, 1) := dk_27 (dk_at dksX8_likeAhead_0 11 rfl rfl)
theorem dX8_likeAhead_12 : decode cX8_likeAhead 12 = .ok (.iload_n 2, 1) := dk_28 (dk_at dksX8_likeAhead_0 12 rfl rfl)
theorem dX8_likeAhead_13 : decode cX8_likeAhead 13 = .ok (.isub, 1) := dk_100 (dk_at dksX8_likeAhead_0 13 rfl rfl)
theorem dX8_likeAhead_14 : decode cX8_likeAhead 14 = .ok (.aaload, 1) := dk_50 (dk_at dksX8_likeAhead_0 14 rfl rfl)
theorem dX8_likeAhead_15 : decode cX8_likeAhead 15 = .ok (.aload_n 0, 1) := dk_42 (dk_at dksX8_likeAhead_0 15 rfl rfl)
theorem dX8_likeAhead_16 : decode cX8_likeAhead 16 = .ok (.getfield 9, 3) := dk_180 0 9 (dk_at dksX8_likeAhead_0 16 rfl rfl)
theorem dX8_likeAhead_19 : decode cX8_likeAhead 19 = .ok (.iload_n 1, 1) := dk_27 (dk_at dksX8_likeAhead_0 19 rfl rfl)
theorem dX8_likeAhead_20 : decode cX8_likeAhead 20 = .ok (.aaload, 1) := dk_50 (dk_at dksX8_likeAhead_0 20 rfl rfl)
theorem dX8_likeAhead_21 : decode cX8_likeAhead 21 = .ok (.invokevirtual 15, 3) := dk_182 0 15 (dk_at dksX8_likeAhead_0 21 rfl rfl)
theorem dX8_likeAhead_24 : decode cX8_likeAhead 24 = .ok (.ifCond .ne 9, 3) := dk_154 0 9 (dk_at dksX8_likeAhead_1 0 rfl rfl)
theorem dX8_likeAhead_27 : decode cX8_likeAhead 27 = .ok (.iinc 2 1, 3) := dk_132 2 1 (dk_at dksX8_likeAhead_1 3 rfl rfl)
theorem dX8_likeAhead_30 : decode cX8_likeAhead 30 = .ok (.goto (-28), 3) := dk_167 255 228 (dk_at dksX8_likeAhead_1 6 rfl rfl)
theorem dX8_likeAhead_33 : decode cX8_likeAhead 33 = .ok (.iload_n 2, 1) := dk_28 (dk_at dksX8_likeAhead_1 9 rfl rfl)
theorem dX8_likeAhead_34 : decode cX8_likeAhead 34 = .ok (.ireturn, 1) := dk_172 (dk_at dksX8_likeAhead_1 10 rfl rfl)
abbrev cX8_at : ByteArray := prog_3_method_3_code
def yX8_at : MethodName := ⟨RX8, "at", "(I)LSkeletons$Branch;"⟩
def dkwX8_at_0 : List UInt8 := [27, 42, 180, 0, 9, 190, 162, 0, 12, 42, 180, 0, 9, 27, 50, 167, 0, 4, 1, 176]
abbrev dktX8_at_0 : List UInt8 := dkwX8_at_0 ++ []
theorem dksX8_at_0 : cX8_at.data.toList.drop 0 = dktX8_at_0 := by decide +kernel
theorem dX8_at_0 : decode cX8_at 0 = .ok (.iload_n 1, 1) := dk_27 (dk_at dksX8_at_0 0 rfl rfl)
theorem dX8_at_1 : decode cX8_at 1 = .ok (.aload_n 0, 1) := dk_42 (dk_at dksX8_at_0 1 rfl rfl)
theorem dX8_at_2 : decode cX8_at 2 = .ok (.getfield 9, 3) := dk_180 0 9 (dk_at dksX8_at_0 2 rfl rfl)
theorem dX8_at_5 : decode cX8_at 5 = .ok (.arraylength, 1) := dk_190 (dk_at dksX8_at_0 5 rfl rfl)
theorem dX8_at_6 : decode cX8_at 6 = .ok (.if_icmp .ge 12, 3) := dk_162 0 12 (dk_at dksX8_at_0 6 rfl rfl)
theorem dX8_at_9 : decode cX8_at 9 = .ok (.aload_n 0, 1) := dk_42 (dk_at dksX8_at_0 9 rfl rfl)
theorem dX8_at_10 : decode cX8_at 10 = .ok (.getfield 9, 3) := dk_180 0 9 (dk_at dksX8_at_0 10 rfl rfl)
theorem dX8_at_13 : decode cX8_at 13 = .ok (.iload_n 1, 1) := dk_27 (dk_at dksX8_at_0 13 rfl rfl)
theorem dX8_at_14 : decode cX8_at 14 = .ok (.aaload, 1) := dk_50 (dk_at dksX8_at_0 14 rfl rfl)
theorem dX8_at_15 : decode cX8_at 15 = .ok (.goto 4, 3) := dk_167 0 4 (dk_at dksX8_at_0 15 rfl rfl)
theorem dX8_at_18 : decode cX8_at 18 = .ok (.aconst_null, 1) := dk_1 (dk_at dksX8_at_0 18 rfl rfl)
theorem dX8_at_19 : decode cX8_at 19 = .ok (.areturn, 1) := dk_176 (dk_at dksX8_at_0 19 rfl rfl)
abbrev cX8_formsOf : ByteArray := prog_3_method_7_code
def yX8_formsOf : MethodName := ⟨RX8, "formsOf", "(LSkeletons$Branch;LSkeletons$Branch;LSkeletons$Branch;)J"⟩
def dkwX8_formsOf_3 : List UInt8 := [20, 0, 64, 22, 5, 105, 173]
abbrev dktX8_formsOf_3 : List UInt8 := dkwX8_formsOf_3 ++ []
def dkwX8_formsOf_2 : List UInt8 := [55, 5, 42, 43, 184, 0, 60, 154, 0, 11, 43, 44, 184, 0, 60, 153, 0, 8, 22, 5, 167, 0, 9]
abbrev dktX8_formsOf_2 : List UInt8 := dkwX8_formsOf_2 ++ dktX8_formsOf_3
def dkwX8_formsOf_1 : List UInt8 := [33, 105, 20, 0, 64, 33, 105, 97, 20, 0, 66, 109, 173, 33, 43, 184, 0, 57, 105, 44, 184, 0, 57, 105]
abbrev dktX8_formsOf_1 : List UInt8 := dkwX8_formsOf_1 ++ dktX8_formsOf_2
def dkwX8_formsOf_0 : List UInt8 := [42, 184, 0, 57, 66, 42, 43, 184, 0, 60, 153, 0, 27, 43, 44, 184, 0, 60, 153, 0, 19, 33, 33, 105]
abbrev dktX8_formsOf_0 : List UInt8 := dkwX8_formsOf_0 ++ dktX8_formsOf_1
theorem dksX8_formsOf_0 : cX8_formsOf.data.toList.drop 0 = dktX8_formsOf_0 := by decide +kernel
theorem dksX8_formsOf_1 : cX8_formsOf.data.toList.drop 24 = dktX8_formsOf_1 := dk_seg dksX8_formsOf_0 24 rfl rfl
theorem dksX8_formsOf_2 : cX8_formsOf.data.toList.drop 48 = dktX8_formsOf_2 := dk_seg dksX8_formsOf_1 24 rfl rfl
theorem dksX8_formsOf_3 : cX8_formsOf.data.toList.drop 71 = dktX8_formsOf_3 := dk_seg dksX8_formsOf_2 23 rfl rfl
theorem dX8_formsOf_0 : decode cX8_formsOf 0 = .ok (.aload_n 0, 1) := dk_42 (dk_at dksX8_formsOf_0 0 rfl rfl)
theorem dX8_formsOf_1 : decode cX8_formsOf 1 = .ok (.invokestatic 57, 3) := dk_184 0 57 (dk_at dksX8_formsOf_0 1 rfl rfl)
theorem dX8_formsOf_4 : decode cX8_formsOf 4 = .ok (.lstore_n 3, 1) := dk_66 (dk_at dksX8_formsOf_0 4 rfl rfl)
theorem dX8_formsOf_5 : decode cX8_formsOf 5 = .ok (.aload_n 0, 1) := dk_42 (dk_at dksX8_formsOf_0 5 rfl rfl)
theorem dX8_formsOf_6 : decode cX8_formsOf 6 = .ok (.aload_n 1, 1) := dk_43 (dk_at dksX8_formsOf_0 6 rfl rfl)
theorem dX8_formsOf_7 : decode cX8_formsOf 7 = .ok (.invokestatic 60, 3) := dk_184 0 60 (dk_at dksX8_formsOf_0 7 rfl rfl)
theorem dX8_formsOf_10 : decode cX8_formsOf 10 = .ok (.ifCond .eq 27, 3) := dk_153 0 27 (dk_at dksX8_formsOf_0 10 rfl rfl)
theorem dX8_formsOf_13 : decode cX8_formsOf 13 = .ok (.aload_n 1, 1) := dk_43 (dk_at dksX8_formsOf_0 13 rfl rfl)
theorem dX8_formsOf_14 : decode cX8_formsOf 14 = .ok (.aload_n 2, 1) := dk_44 (dk_at dksX8_formsOf_0 14 rfl rfl)
theorem dX8_formsOf_15 : decode cX8_formsOf 15 = .ok (.invokestatic 60, 3) := dk_184 0 60 (dk_at dksX8_formsOf_0 15 rfl rfl)
theorem dX8_formsOf_18 : decode cX8_formsOf 18 = .ok (.ifCond .eq 19, 3) := dk_153 0 19 (dk_at dksX8_formsOf_0 18 rfl rfl)
theorem dX8_formsOf_21 : decode cX8_formsOf 21 = .ok (.lload_n 3, 1) := dk_33 (dk_at dksX8_formsOf_0 21 rfl rfl)
theorem dX8_formsOf_22 : decode cX8_formsOf 22 = .ok (.lload_n 3, 1) := dk_33 (dk_at dksX8_formsOf_0 22 rfl rfl)
theorem dX8_formsOf_23 : decode cX8_formsOf 23 = .ok (.lmul, 1) := dk_105 (dk_at dksX8_formsOf_0 23 rfl rfl)
theorem dX8_formsOf_24 : decode cX8_formsOf 24 = .ok (.lload_n 3, 1) := dk_33 (dk_at dksX8_formsOf_1 0 rfl rfl)
theorem dX8_formsOf_25 : decode cX8_formsOf 25 = .ok (.lmul, 1) := dk_105 (dk_at dksX8_formsOf_1 1 rfl rfl)
theorem dX8_formsOf_26 : decode cX8_formsOf 26 = .ok (.ldc2_w 64, 3) := dk_20 0 64 (dk_at dksX8_formsOf_1 2 rfl rfl)
theorem dX8_formsOf_29 : decode cX8_formsOf 29 = .ok (.lload_n 3, 1) := dk_33 (dk_at dksX8_formsOf_1 5 rfl rfl)
theorem dX8_formsOf_30 : decode cX8_formsOf 30 = .ok (.lmul, 1) := dk_105 (dk_at dksX8_formsOf_1 6 rfl rfl)
theorem dX8_formsOf_31 : decode cX8_formsOf 31 = .ok (.ladd, 1) := dk_97 (dk_at dksX8_formsOf_1 7 rfl rfl)
theorem dX8_formsOf_32 : decode cX8_formsOf 32 = .ok (.ldc2_w 66, 3) := dk_20 0 66 (dk_at dksX8_formsOf_1 8 rfl rfl)
theorem dX8_formsOf_35 : decode cX8_formsOf 35 = .ok (.ldiv, 1) := dk_109 (dk_at dksX8_formsOf_1 11 rfl rfl)
theorem dX8_formsOf_36 : decode cX8_formsOf 36 = .ok (.lreturn, 1) := dk_173 (dk_at dksX8_formsOf_1 12 rfl rfl)
theorem dX8_formsOf_37 : decode cX8_formsOf 37 = .ok (.lload_n 3, 1) := dk_33 (dk_at dksX8_formsOf_1 13 rfl rfl)
theorem dX8_formsOf_38 : decode cX8_formsOf 38 = .ok (.aload_n 1, 1) := dk_43 (dk_at dksX8_formsOf_1 14 rfl rfl)
theorem dX8_formsOf_39 : decode cX8_formsOf 39 = .ok (.invokestatic 57, 3) := dk_184 0 57 (dk_at dksX8_formsOf_1 15 rfl rfl)
theorem dX8_formsOf_42 : decode cX8_formsOf 42 = .ok (.lmul, 1) := dk_105 (dk_at dksX8_formsOf_1 18 rfl rfl)
theorem dX8_formsOf_43 : decode cX8_formsOf 43 = .ok (.aload_n 2, 1) := dk_44 (dk_at dksX8_formsOf_1 19 rfl rfl)
theorem dX8_formsOf_44 : decode cX8_formsOf 44 = .ok (.invokestatic 57, 3) := dk_184 0 57 (dk_at dksX8_formsOf_1 20 rfl rfl)
theorem dX8_formsOf_47 : decode cX8_formsOf 47 = .ok (.lmul, 1) := dk_105 (dk_at dksX8_formsOf_1 23 rfl rfl)
theorem dX8_formsOf_48 : decode cX8_formsOf 48 = .ok (.lstore 5, 2) := dk_55 5 (dk_at dksX8_formsOf_2 0 rfl rfl)
theorem dX8_formsOf_50 : decode cX8_formsOf 50 = .ok (.aload_n 0, 1) := dk_42 (dk_at dksX8_formsOf_2 2 rfl rfl)
theorem dX8_formsOf_51 : decode cX8_formsOf 51 = .ok (.aload_n 1, 1) := dk_43 (dk_at dksX8_formsOf_2 3 rfl rfl)
theorem dX8_formsOf_52 : decode cX8_formsOf 52 = .ok (.invokestatic 60, 3) := dk_184 0 60 (dk_at dksX8_formsOf_2 4 rfl rfl)
theorem dX8_formsOf_55 : decode cX8_formsOf 55 = .ok (.ifCond .ne 11, 3) := dk_154 0 11 (dk_at dksX8_formsOf_2 7 rfl rfl)
theorem dX8_formsOf_58 : decode cX8_formsOf 58 = .ok (.aload_n 1, 1) := dk_43 (dk_at dksX8_formsOf_2 10 rfl rfl)
theorem dX8_formsOf_59 : decode cX8_formsOf 59 = .ok (.aload_n 2, 1) := dk_44 (dk_at dksX8_formsOf_2 11 rfl rfl)
theorem dX8_formsOf_60 : decode cX8_formsOf 60 = .ok (.invokestatic 60, 3) := dk_184 0 60 (dk_at dksX8_formsOf_2 12 rfl rfl)
theorem dX8_formsOf_63 : decode cX8_formsOf 63 = .ok (.ifCond .eq 8, 3) := dk_153 0 8 (dk_at dksX8_formsOf_2 15 rfl rfl)
theorem dX8_formsOf_66 : decode cX8_formsOf 66 = .ok (.lload 5, 2) := dk_22 5 (dk_at dksX8_formsOf_2 18 rfl rfl)
theorem dX8_formsOf_68 : decode cX8_formsOf 68 = .ok (.goto 9, 3) := dk_167 0 9 (dk_at dksX8_formsOf_2 20 rfl rfl)
theorem dX8_formsOf_71 : decode cX8_formsOf 71 = .ok (.ldc2_w 64, 3) := dk_20 0 64 (dk_at dksX8_formsOf_3 0 rfl rfl)
theorem dX8_formsOf_74 : decode cX8_formsOf 74 = .ok (.lload 5, 2) := dk_22 5 (dk_at dksX8_formsOf_3 3 rfl rfl)
theorem dX8_formsOf_76 : decode cX8_formsOf 76 = .ok (.lmul, 1) := dk_105 (dk_at dksX8_formsOf_3 5 rfl rfl)
theorem dX8_formsOf_77 : decode cX8_formsOf 77 = .ok (.lreturn, 1) := dk_173 (dk_at dksX8_formsOf_3 6 rfl rfl)
abbrev cX8_formsOf_2 : ByteArray := prog_3_method_5_code
def yX8_formsOf_2 : MethodName := ⟨RX8, "formsOf", "(LSkeletons$Branch;)J"⟩
def dkwX8_formsOf_2_0 : List UInt8 := [42, 199, 0, 7, 10, 167, 0, 7, 42, 180, 0, 48, 173]
abbrev dktX8_formsOf_2_0 : List UInt8 := dkwX8_formsOf_2_0 ++ []
theorem dksX8_formsOf_2_0 : cX8_formsOf_2.data.toList.drop 0 = dktX8_formsOf_2_0 := by decide +kernel
theorem dX8_formsOf_2_0 : decode cX8_formsOf_2 0 = .ok (.aload_n 0, 1) := dk_42 (dk_at dksX8_formsOf_2_0 0 rfl rfl)
theorem dX8_formsOf_2_1 : decode cX8_formsOf_2 1 = .ok (.ifnonnull 7, 3) := dk_199 0 7 (dk_at dksX8_formsOf_2_0 1 rfl rfl)
theorem dX8_formsOf_2_4 : decode cX8_formsOf_2 4 = .ok (.lconst 1, 1) := dk_10 (dk_at dksX8_formsOf_2_0 4 rfl rfl)
theorem dX8_formsOf_2_5 : decode cX8_formsOf_2 5 = .ok (.goto 7, 3) := dk_167 0 7 (dk_at dksX8_formsOf_2_0 5 rfl rfl)
theorem dX8_formsOf_2_8 : decode cX8_formsOf_2 8 = .ok (.aload_n 0, 1) := dk_42 (dk_at dksX8_formsOf_2_0 8 rfl rfl)
theorem dX8_formsOf_2_9 : decode cX8_formsOf_2 9 = .ok (.getfield 48, 3) := dk_180 0 48 (dk_at dksX8_formsOf_2_0 9 rfl rfl)
theorem dX8_formsOf_2_12 : decode cX8_formsOf_2 12 = .ok (.lreturn, 1) := dk_173 (dk_at dksX8_formsOf_2_0 12 rfl rfl)
abbrev cX8_areLike : ByteArray := prog_3_method_4_code
def yX8_areLike : MethodName := ⟨RX8, "areLike", "(LSkeletons$Branch;LSkeletons$Branch;)Z"⟩
def dkwX8_areLike_1 : List UInt8 := [167, 0, 4, 3, 172]
abbrev dktX8_areLike_1 : List UInt8 := dkwX8_areLike_1 ++ []
def dkwX8_areLike_0 : List UInt8 := [42, 43, 165, 0, 19, 42, 198, 0, 19, 43, 198, 0, 15, 42, 43, 182, 0, 15, 154, 0, 7, 4]
abbrev dktX8_areLike_0 : List UInt8 := dkwX8_areLike_0 ++ dktX8_areLike_1
theorem dksX8_areLike_0 : cX8_areLike.data.toList.drop 0 = dktX8_areLike_0 := by decide +kernel
theorem dksX8_areLike_1 : cX8_areLike.data.toList.drop 22 = dktX8_areLike_1 := dk_seg dksX8_areLike_0 22 rfl rfl
theorem dX8_areLike_0 : decode cX8_areLike 0 = .ok (.aload_n 0, 1) := dk_42 (dk_at dksX8_areLike_0 0 rfl rfl)
theorem dX8_areLike_1 : decode cX8_areLike 1 = .ok (.aload_n 1, 1) := dk_43 (dk_at dksX8_areLike_0 1 rfl rfl)
theorem dX8_areLike_2 : decode cX8_areLike 2 = .ok (.if_acmp .eq 19, 3) := dk_165 0 19 (dk_at dksX8_areLike_0 2 rfl rfl)
theorem dX8_areLike_5 : decode cX8_areLike 5 = .ok (.aload_n 0, 1) := dk_42 (dk_at dksX8_areLike_0 5 rfl rfl)
theorem dX8_areLike_6 : decode cX8_areLike 6 = .ok (.ifnull 19, 3) := dk_198 0 19 (dk_at dksX8_areLike_0 6 rfl rfl)
theorem dX8_areLike_9 : decode cX8_areLike 9 = .ok (.aload_n 1, 1) := dk_43 (dk_at dksX8_areLike_0 9 rfl rfl)
theorem dX8_areLike_10 : decode cX8_areLike 10 = .ok (.ifnull 15, 3) := dk_198 0 15 (dk_at dksX8_areLike_0 10 rfl rfl)
theorem dX8_areLike_13 : decode cX8_areLike 13 = .ok (.aload_n 0, 1) := dk_42 (dk_at dksX8_areLike_0 13 rfl rfl)
theorem dX8_areLike_14 : decode cX8_areLike 14 = .ok (.aload_n 1, 1) := dk_43 (dk_at dksX8_areLike_0 14 rfl rfl)
theorem dX8_areLike_15 : decode cX8_areLike 15 = .ok (.invokevirtual 15, 3) := dk_182 0 15 (dk_at dksX8_areLike_0 15 rfl rfl)
theorem dX8_areLike_18 : decode cX8_areLike 18 = .ok (.ifCond .ne 7, 3) := dk_154 0 7 (dk_at dksX8_areLike_0 18 rfl rfl)
theorem dX8_areLike_21 : decode cX8_areLike 21 = .ok (.iconst 1, 1) := dk_4 (dk_at dksX8_areLike_0 21 rfl rfl)
theorem dX8_areLike_22 : decode cX8_areLike 22 = .ok (.goto 4, 3) := dk_167 0 4 (dk_at dksX8_areLike_1 0 rfl rfl)
theorem dX8_areLike_25 : decode cX8_areLike 25 = .ok (.iconst 0, 1) := dk_3 (dk_at dksX8_areLike_1 3 rfl rfl)
theorem dX8_areLike_26 : decode cX8_areLike 26 = .ok (.ireturn, 1) := dk_172 (dk_at dksX8_areLike_1 4 rfl rfl)
abbrev cX8_ownOf : ByteArray := prog_3_method_8_code
def yX8_ownOf : MethodName := ⟨RX8, "ownOf", "(LSkeletons$Branch;LSkeletons$Branch;LSkeletons$Branch;)J"⟩
def dkwX8_ownOf_1 : List UInt8 := [153, 0, 15, 43, 184, 0, 57, 42, 184, 0, 68, 105, 167, 0, 4, 9, 173]
abbrev dktX8_ownOf_1 : List UInt8 := dkwX8_ownOf_1 ++ []
def dkwX8_ownOf_0 : List UInt8 := [42, 43, 184, 0, 60, 153, 0, 13, 42, 184, 0, 57, 44, 184, 0, 68, 105, 173, 43, 44, 184, 0, 60]
abbrev dktX8_ownOf_0 : List UInt8 := dkwX8_ownOf_0 ++ dktX8_ownOf_1
theorem dksX8_ownOf_0 : cX8_ownOf.data.toList.drop 0 = dktX8_ownOf_0 := by decide +kernel
theorem dksX8_ownOf_1 : cX8_ownOf.data.toList.drop 23 = dktX8_ownOf_1 := dk_seg dksX8_ownOf_0 23 rfl rfl
theorem dX8_ownOf_0 : decode cX8_ownOf 0 = .ok (.aload_n 0, 1) := dk_42 (dk_at dksX8_ownOf_0 0 rfl rfl)
theorem dX8_ownOf_1 : decode cX8_ownOf 1 = .ok (.aload_n 1, 1) := dk_43 (dk_at dksX8_ownOf_0 1 rfl rfl)
theorem dX8_ownOf_2 : decode cX8_ownOf 2 = .ok (.invokestatic 60, 3) := dk_184 0 60 (dk_at dksX8_ownOf_0 2 rfl rfl)
theorem dX8_ownOf_5 : decode cX8_ownOf 5 = .ok (.ifCond .eq 13, 3) := dk_153 0 13 (dk_at dksX8_ownOf_0 5 rfl rfl)
theorem dX8_ownOf_8 : decode cX8_ownOf 8 = .ok (.aload_n 0, 1) := dk_42 (dk_at dksX8_ownOf_0 8 rfl rfl)
theorem dX8_ownOf_9 : decode cX8_ownOf 9 = .ok (.invokestatic 57, 3) := dk_184 0 57 (dk_at dksX8_ownOf_0 9 rfl rfl)
theorem dX8_ownOf_12 : decode cX8_ownOf 12 = .ok (.aload_n 2, 1) := dk_44 (dk_at dksX8_ownOf_0 12 rfl rfl)
theorem dX8_ownOf_13 : decode cX8_ownOf 13 = .ok (.invokestatic 68, 3) := dk_184 0 68 (dk_at dksX8_ownOf_0 13 rfl rfl)
theorem dX8_ownOf_16 : decode cX8_ownOf 16 = .ok (.lmul, 1) := dk_105 (dk_at dksX8_ownOf_0 16 rfl rfl)
theorem dX8_ownOf_17 : decode cX8_ownOf 17 = .ok (.lreturn, 1) := dk_173 (dk_at dksX8_ownOf_0 17 rfl rfl)
theorem dX8_ownOf_18 : decode cX8_ownOf 18 = .ok (.aload_n 1, 1) := dk_43 (dk_at dksX8_ownOf_0 18 rfl rfl)
theorem dX8_ownOf_19 : decode cX8_ownOf 19 = .ok (.aload_n 2, 1) := dk_44 (dk_at dksX8_ownOf_0 19 rfl rfl)
theorem dX8_ownOf_20 : decode cX8_ownOf 20 = .ok (.invokestatic 60, 3) := dk_184 0 60 (dk_at dksX8_ownOf_0 20 rfl rfl)
theorem dX8_ownOf_23 : decode cX8_ownOf 23 = .ok (.ifCond .eq 15, 3) := dk_153 0 15 (dk_at dksX8_ownOf_1 0 rfl rfl)
theorem dX8_ownOf_26 : decode cX8_ownOf 26 = .ok (.aload_n 1, 1) := dk_43 (dk_at dksX8_ownOf_1 3 rfl rfl)
theorem dX8_ownOf_27 : decode cX8_ownOf 27 = .ok (.invokestatic 57, 3) := dk_184 0 57 (dk_at dksX8_ownOf_1 4 rfl rfl)
theorem dX8_ownOf_30 : decode cX8_ownOf 30 = .ok (.aload_n 0, 1) := dk_42 (dk_at dksX8_ownOf_1 7 rfl rfl)
theorem dX8_ownOf_31 : decode cX8_ownOf 31 = .ok (.invokestatic 68, 3) := dk_184 0 68 (dk_at dksX8_ownOf_1 8 rfl rfl)
theorem dX8_ownOf_34 : decode cX8_ownOf 34 = .ok (.lmul, 1) := dk_105 (dk_at dksX8_ownOf_1 11 rfl rfl)
theorem dX8_ownOf_35 : decode cX8_ownOf 35 = .ok (.goto 4, 3) := dk_167 0 4 (dk_at dksX8_ownOf_1 12 rfl rfl)
theorem dX8_ownOf_38 : decode cX8_ownOf 38 = .ok (.lconst 0, 1) := dk_9 (dk_at dksX8_ownOf_1 15 rfl rfl)
theorem dX8_ownOf_39 : decode cX8_ownOf 39 = .ok (.lreturn, 1) := dk_173 (dk_at dksX8_ownOf_1 16 rfl rfl)
abbrev cX8_ownOf_2 : ByteArray := prog_3_method_6_code
def yX8_ownOf_2 : MethodName := ⟨RX8, "ownOf", "(LSkeletons$Branch;)J"⟩
def dkwX8_ownOf_2_0 : List UInt8 := [42, 199, 0, 7, 10, 167, 0, 7, 42, 180, 0, 54, 173]
abbrev dktX8_ownOf_2_0 : List UInt8 := dkwX8_ownOf_2_0 ++ []
theorem dksX8_ownOf_2_0 : cX8_ownOf_2.data.toList.drop 0 = dktX8_ownOf_2_0 := by decide +kernel
theorem dX8_ownOf_2_0 : decode cX8_ownOf_2 0 = .ok (.aload_n 0, 1) := dk_42 (dk_at dksX8_ownOf_2_0 0 rfl rfl)
theorem dX8_ownOf_2_1 : decode cX8_ownOf_2 1 = .ok (.ifnonnull 7, 3) := dk_199 0 7 (dk_at dksX8_ownOf_2_0 1 rfl rfl)
theorem dX8_ownOf_2_4 : decode cX8_ownOf_2 4 = .ok (.lconst 1, 1) := dk_10 (dk_at dksX8_ownOf_2_0 4 rfl rfl)
theorem dX8_ownOf_2_5 : decode cX8_ownOf_2 5 = .ok (.goto 7, 3) := dk_167 0 7 (dk_at dksX8_ownOf_2_0 5 rfl rfl)
theorem dX8_ownOf_2_8 : decode cX8_ownOf_2 8 = .ok (.aload_n 0, 1) := dk_42 (dk_at dksX8_ownOf_2_0 8 rfl rfl)
theorem dX8_ownOf_2_9 : decode cX8_ownOf_2 9 = .ok (.getfield 54, 3) := dk_180 0 54 (dk_at dksX8_ownOf_2_0 9 rfl rfl)
theorem dX8_ownOf_2_12 : decode cX8_ownOf_2 12 = .ok (.lreturn, 1) := dk_173 (dk_at dksX8_ownOf_2_0 12 rfl rfl)
abbrev cX8_tells : ByteArray := prog_3_method_10_code
def yX8_tells : MethodName := ⟨RX8, "tells", "([III)I"⟩
def dkwX8_tells_2 : List UInt8 := [182, 0, 78, 54, 4, 132, 7, 1, 167, 255, 226, 21, 4, 172]
abbrev dktX8_tells_2 : List UInt8 := dkwX8_tells_2 ++ []
def dkwX8_tells_1 : List UInt8 := [21, 7, 21, 6, 162, 0, 29, 25, 5, 21, 7, 50, 58, 8, 25, 8, 43, 21, 4, 29, 4, 96]
abbrev dktX8_tells_1 : List UInt8 := dkwX8_tells_1 ++ dktX8_tells_2
def dkwX8_tells_0 : List UInt8 := [43, 28, 29, 79, 28, 4, 96, 54, 4, 42, 180, 0, 9, 58, 5, 25, 5, 190, 54, 6, 3, 54, 7]
abbrev dktX8_tells_0 : List UInt8 := dkwX8_tells_0 ++ dktX8_tells_1
theorem dksX8_tells_0 : cX8_tells.data.toList.drop 0 = dktX8_tells_0 := by decide +kernel
theorem dksX8_tells_1 : cX8_tells.data.toList.drop 23 = dktX8_tells_1 := dk_seg dksX8_tells_0 23 rfl rfl
theorem dksX8_tells_2 : cX8_tells.data.toList.drop 45 = dktX8_tells_2 := dk_seg dksX8_tells_1 22 rfl rfl
theorem dX8_tells_0 : decode cX8_tells 0 = .ok (.aload_n 1, 1) := dk_43 (dk_at dksX8_tells_0 0 rfl rfl)
theorem dX8_tells_1 : decode cX8_tells 1 = .ok (.iload_n 2, 1) := dk_28 (dk_at dksX8_tells_0 1 rfl rfl)
theorem dX8_tells_2 : decode cX8_tells 2 = .ok (.iload_n 3, 1) := dk_29 (dk_at dksX8_tells_0 2 rfl rfl)
theorem dX8_tells_3 : decode cX8_tells 3 = .ok (.iastore, 1) := dk_79 (dk_at dksX8_tells_0 3 rfl rfl)
theorem dX8_tells_4 : decode cX8_tells 4 = .ok (.iload_n 2, 1) := dk_28 (dk_at dksX8_tells_0 4 rfl rfl)
theorem dX8_tells_5 : decode cX8_tells 5 = .ok (.iconst 1, 1) := dk_4 (dk_at dksX8_tells_0 5 rfl rfl)
theorem dX8_tells_6 : decode cX8_tells 6 = .ok (.iadd, 1) := dk_96 (dk_at dksX8_tells_0 6 rfl rfl)
theorem dX8_tells_7 : decode cX8_tells 7 = .ok (.istore 4, 2) := dk_54 4 (dk_at dksX8_tells_0 7 rfl rfl)
theorem dX8_tells_9 : decode cX8_tells 9 = .ok (.aload_n 0, 1) := dk_42 (dk_at dksX8_tells_0 9 rfl rfl)
theorem dX8_tells_10 : decode cX8_tells 10 = .ok (.getfield 9, 3) := dk_180 0 9 (dk_at dksX8_tells_0 10 rfl rfl)
theorem dX8_tells_13 : decode cX8_tells 13 = .ok (.astore 5, 2) := dk_58 5 (dk_at dksX8_tells_0 13 rfl rfl)
theorem dX8_tells_15 : decode cX8_tells 15 = .ok (.aload 5, 2) := dk_25 5 (dk_at dksX8_tells_0 15 rfl rfl)
theorem dX8_tells_17 : decode cX8_tells 17 = .ok (.arraylength, 1) := dk_190 (dk_at dksX8_tells_0 17 rfl rfl)
theorem dX8_tells_18 : decode cX8_tells 18 = .ok (.istore 6, 2) := dk_54 6 (dk_at dksX8_tells_0 18 rfl rfl)
theorem dX8_tells_20 : decode cX8_tells 20 = .ok (.iconst 0, 1) := dk_3 (dk_at dksX8_tells_0 20 rfl rfl)
theorem dX8_tells_21 : decode cX8_tells 21 = .ok (.istore 7, 2) := dk_54 7 (dk_at dksX8_tells_0 21 rfl rfl)
theorem dX8_tells_23 : decode cX8_tells 23 = .ok (.iload 7, 2) := dk_21 7 (dk_at dksX8_tells_1 0 rfl rfl)
theorem dX8_tells_25 : decode cX8_tells 25 = .ok (.iload 6, 2) := dk_21 6 (dk_at dksX8_tells_1 2 rfl rfl)
theorem dX8_tells_27 : decode cX8_tells 27 = .ok (.if_icmp .ge 29, 3) := dk_162 0 29 (dk_at dksX8_tells_1 4 rfl rfl)
theorem dX8_tells_30 : decode cX8_tells 30 = .ok (.aload 5, 2) := dk_25 5 (dk_at dksX8_tells_1 7 rfl rfl)
theorem dX8_tells_32 : decode cX8_tells 32 = .ok (.iload 7, 2) := dk_21 7 (dk_at dksX8_tells_1 9 rfl rfl)
theorem dX8_tells_34 : decode cX8_tells 34 = .ok (.aaload, 1) := dk_50 (dk_at dksX8_tells_1 11 rfl rfl)
theorem dX8_tells_35 : decode cX8_tells 35 = .ok (.astore 8, 2) := dk_58 8 (dk_at dksX8_tells_1 12 rfl rfl)
theorem dX8_tells_37 : decode cX8_tells 37 = .ok (.aload 8, 2) := dk_25 8 (dk_at dksX8_tells_1 14 rfl rfl)
theorem dX8_tells_39 : decode cX8_tells 39 = .ok (.aload_n 1, 1) := dk_43 (dk_at dksX8_tells_1 16 rfl rfl)
theorem dX8_tells_40 : decode cX8_tells 40 = .ok (.iload 4, 2) := dk_21 4 (dk_at dksX8_tells_1 17 rfl rfl)
theorem dX8_tells_42 : decode cX8_tells 42 = .ok (.iload_n 3, 1) := dk_29 (dk_at dksX8_tells_1 19 rfl rfl)
theorem dX8_tells_43 : decode cX8_tells 43 = .ok (.iconst 1, 1) := dk_4 (dk_at dksX8_tells_1 20 rfl rfl)
theorem dX8_tells_44 : decode cX8_tells 44 = .ok (.iadd, 1) := dk_96 (dk_at dksX8_tells_1 21 rfl rfl)
theorem dX8_tells_45 : decode cX8_tells 45 = .ok (.invokevirtual 78, 3) := dk_182 0 78 (dk_at dksX8_tells_2 0 rfl rfl)
theorem dX8_tells_48 : decode cX8_tells 48 = .ok (.istore 4, 2) := dk_54 4 (dk_at dksX8_tells_2 3 rfl rfl)
theorem dX8_tells_50 : decode cX8_tells 50 = .ok (.iinc 7 1, 3) := dk_132 7 1 (dk_at dksX8_tells_2 5 rfl rfl)
theorem dX8_tells_53 : decode cX8_tells 53 = .ok (.goto (-30), 3) := dk_167 255 226 (dk_at dksX8_tells_2 8 rfl rfl)
theorem dX8_tells_56 : decode cX8_tells 56 = .ok (.iload 4, 2) := dk_21 4 (dk_at dksX8_tells_2 11 rfl rfl)
theorem dX8_tells_58 : decode cX8_tells 58 = .ok (.ireturn, 1) := dk_172 (dk_at dksX8_tells_2 13 rfl rfl)
abbrev cX8_compareTo_2 : ByteArray := prog_3_method_14_code
def yX8_compareTo_2 : MethodName := ⟨RX8, "compareTo", "(Ljava/lang/Object;)I"⟩
def dkwX8_compareTo_2_0 : List UInt8 := [42, 43, 192, 0, 10, 182, 0, 15, 172]
abbrev dktX8_compareTo_2_0 : List UInt8 := dkwX8_compareTo_2_0 ++ []
theorem dksX8_compareTo_2_0 : cX8_compareTo_2.data.toList.drop 0 = dktX8_compareTo_2_0 := by decide +kernel
theorem dX8_compareTo_2_0 : decode cX8_compareTo_2 0 = .ok (.aload_n 0, 1) := dk_42 (dk_at dksX8_compareTo_2_0 0 rfl rfl)
theorem dX8_compareTo_2_1 : decode cX8_compareTo_2 1 = .ok (.aload_n 1, 1) := dk_43 (dk_at dksX8_compareTo_2_0 1 rfl rfl)
theorem dX8_compareTo_2_2 : decode cX8_compareTo_2 2 = .ok (.checkcast 10, 3) := dk_192 0 10 (dk_at dksX8_compareTo_2_0 2 rfl rfl)
theorem dX8_compareTo_2_5 : decode cX8_compareTo_2 5 = .ok (.invokevirtual 15, 3) := dk_182 0 15 (dk_at dksX8_compareTo_2_0 5 rfl rfl)
theorem dX8_compareTo_2_8 : decode cX8_compareTo_2 8 = .ok (.ireturn, 1) := dk_172 (dk_at dksX8_compareTo_2_0 8 rfl rfl)
abbrev cX8_marked : ByteArray := prog_3_method_11_code
def yX8_marked : MethodName := ⟨RX8, "marked", "(I)[J"⟩
def dkwX8_marked_5 : List UInt8 := [167, 255, 169, 44, 176]
abbrev dktX8_marked_5 : List UInt8 := dkwX8_marked_5 ++ []
def dkwX8_marked_4 : List UInt8 := [29, 50, 180, 0, 9, 190, 100, 182, 0, 82, 21, 4, 184, 0, 86, 184, 0, 90, 77, 29, 21, 4, 96, 62]
abbrev dktX8_marked_4 : List UInt8 := dkwX8_marked_4 ++ dktX8_marked_5
def dkwX8_marked_3 : List UInt8 := [184, 0, 60, 153, 0, 9, 132, 4, 1, 167, 255, 220, 44, 42, 180, 0, 9, 29, 50, 6, 42, 180, 0, 9]
abbrev dktX8_marked_3 : List UInt8 := dkwX8_marked_3 ++ dktX8_marked_4
def dkwX8_marked_2 : List UInt8 := [180, 0, 9, 190, 162, 0, 30, 42, 180, 0, 9, 29, 50, 42, 180, 0, 9, 29, 21, 4, 96, 50]
abbrev dktX8_marked_2 : List UInt8 := dkwX8_marked_2 ++ dktX8_marked_3
def dkwX8_marked_1 : List UInt8 := [167, 255, 240, 3, 62, 29, 42, 180, 0, 9, 190, 162, 0, 84, 4, 54, 4, 29, 21, 4, 96, 42]
abbrev dktX8_marked_1 : List UInt8 := dkwX8_marked_1 ++ dktX8_marked_2
def dkwX8_marked_0 : List UInt8 := [7, 188, 11, 77, 3, 62, 29, 6, 27, 184, 0, 70, 163, 0, 13, 44, 29, 10, 80, 132, 3, 1]
abbrev dktX8_marked_0 : List UInt8 := dkwX8_marked_0 ++ dktX8_marked_1
theorem dksX8_marked_0 : cX8_marked.data.toList.drop 0 = dktX8_marked_0 := by decide +kernel
theorem dksX8_marked_1 : cX8_marked.data.toList.drop 22 = dktX8_marked_1 := dk_seg dksX8_marked_0 22 rfl rfl
theorem dksX8_marked_2 : cX8_marked.data.toList.drop 44 = dktX8_marked_2 := dk_seg dksX8_marked_1 22 rfl rfl
theorem dksX8_marked_3 : cX8_marked.data.toList.drop 66 = dktX8_marked_3 := dk_seg dksX8_marked_2 22 rfl rfl
theorem dksX8_marked_4 : cX8_marked.data.toList.drop 90 = dktX8_marked_4 := dk_seg dksX8_marked_3 24 rfl rfl
theorem dksX8_marked_5 : cX8_marked.data.toList.drop 114 = dktX8_marked_5 := dk_seg dksX8_marked_4 24 rfl rfl
theorem dX8_marked_0 : decode cX8_marked 0 = .ok (.iconst 4, 1) := dk_7 (dk_at dksX8_marked_0 0 rfl rfl)
theorem dX8_marked_1 : decode cX8_marked 1 = .ok (.newarray .long, 2) := dk_188_11 (dk_at dksX8_marked_0 1 rfl rfl)
theorem dX8_marked_3 : decode cX8_marked 3 = .ok (.astore_n 2, 1) := dk_77 (dk_at dksX8_marked_0 3 rfl rfl)
theorem dX8_marked_4 : decode cX8_marked 4 = .ok (.iconst 0, 1) := dk_3 (dk_at dksX8_marked_0 4 rfl rfl)
theorem dX8_marked_5 : decode cX8_marked 5 = .ok (.istore_n 3, 1) := dk_62 (dk_at dksX8_marked_0 5 rfl rfl)
theorem dX8_marked_6 : decode cX8_marked 6 = .ok (.iload_n 3, 1) := dk_29 (dk_at dksX8_marked_0 6 rfl rfl)
theorem dX8_marked_7 : decode cX8_marked 7 = .ok (.iconst 3, 1) := dk_6 (dk_at dksX8_marked_0 7 rfl rfl)
theorem dX8_marked_8 : decode cX8_marked 8 = .ok (.iload_n 1, 1) := dk_27 (dk_at dksX8_marked_0 8 rfl rfl)
theorem dX8_marked_9 : decode cX8_marked 9 = .ok (.invokestatic 70, 3) := dk_184 0 70 (dk_at dksX8_marked_0 9 rfl rfl)
theorem dX8_marked_12 : decode cX8_marked 12 = .ok (.if_icmp .gt 13, 3) := dk_163 0 13 (dk_at dksX8_marked_0 12 rfl rfl)
theorem dX8_marked_15 : decode cX8_marked 15 = .ok (.aload_n 2, 1) := dk_44 (dk_at dksX8_marked_0 15 rfl rfl)
theorem dX8_marked_16 : decode cX8_marked 16 = .ok (.iload_n 3, 1) := dk_29 (dk_at dksX8_marked_0 16 rfl rfl)
theorem dX8_marked_17 : decode cX8_marked 17 = .ok (.lconst 1, 1) := dk_10 (dk_at dksX8_marked_0 17 rfl rfl)
theorem dX8_marked_18 : decode cX8_marked 18 = .ok (.lastore, 1) := dk_80 (dk_at dksX8_marked_0 18 rfl rfl)
theorem dX8_marked_19 : decode cX8_marked 19 = .ok (.iinc 3 1, 3) := dk_132 3 1 (dk_at dksX8_marked_0 19 rfl rfl)
theorem dX8_marked_22 : decode cX8_marked 22 = .ok (.goto (-16), 3) := dk_167 255 240 (dk_at dksX8_marked_1 0 rfl rfl)
theorem dX8_marked_25 : decode cX8_marked 25 = .ok (.iconst 0, 1) := dk_3 (dk_at dksX8_marked_1 3 rfl rfl)
theorem dX8_marked_26 : decode cX8_marked 26 = .ok (.istore_n 3, 1) := dk_62 (dk_at dksX8_marked_1 4 rfl rfl)
theorem dX8_marked_27 : decode cX8_marked 27 = .ok (.iload_n 3, 1) := dk_29 (dk_at dksX8_marked_1 5 rfl rfl)
theorem dX8_marked_28 : decode cX8_marked 28 = .ok (.aload_n 0, 1) := dk_42 (dk_at dksX8_marked_1 6 rfl rfl)
theorem dX8_marked_29 : decode cX8_marked 29 = .ok (.getfield 9, 3) := dk_180 0 9 (dk_at dksX8_marked_1 7 rfl rfl)
theorem dX8_marked_32 : decode cX8_marked 32 = .ok (.arraylength, 1) := dk_190 (dk_at dksX8_marked_1 10 rfl rfl)
theorem dX8_marked_33 : decode cX8_marked 33 = .ok (.if_icmp .ge 84, 3) := dk_162 0 84 (dk_at dksX8_marked_1 11 rfl rfl)
theorem dX8_marked_36 : decode cX8_marked 36 = .ok (.iconst 1, 1) := dk_4 (dk_at dksX8_marked_1 14 rfl rfl)
theorem dX8_marked_37 : decode cX8_marked 37 = .ok (.istore 4, 2) := dk_54 4 (dk_at dksX8_marked_1 15 rfl rfl)
theorem dX8_marked_39 : decode cX8_marked 39 = .ok (.iload_n 3, 1) := dk_29 (dk_at dksX8_marked_1 17 rfl rfl)
theorem dX8_marked_40 : decode cX8_marked 40 = .ok (.iload 4, 2) := dk_21 4 (dk_at dksX8_marked_1 18 rfl rfl)
theorem dX8_marked_42 : decode cX8_marked 42 = .ok (.iadd, 1) := dk_96 (dk_at dksX8_marked_1 20 rfl rfl)
theorem dX8_marked_43 : decode cX8_marked 43 = .ok (.aload_n 0, 1) := dk_42 (dk_at dksX8_marked_1 21 rfl rfl)
theorem dX8_marked_44 : decode cX8_marked 44 = .ok (.getfield 9, 3) := dk_180 0 9 (dk_at dksX8_marked_2 0 rfl rfl)
theorem dX8_marked_47 : decode cX8_marked 47 = .ok (.arraylength, 1) := dk_190 (dk_at dksX8_marked_2 3 rfl rfl)
theorem dX8_marked_48 : decode cX8_marked 48 = .ok (.if_icmp .ge 30, 3) := dk_162 0 30 (dk_at dksX8_marked_2 4 rfl rfl)
theorem dX8_marked_51 : decode cX8_marked 51 = .ok (.aload_n 0, 1) := dk_42 (dk_at dksX8_marked_2 7 rfl rfl)
theorem dX8_marked_52 : decode cX8_marked 52 = .ok (.getfield 9, 3) := dk_180 0 9 (dk_at dksX8_marked_2 8 rfl rfl)
theorem dX8_marked_55 : decode cX8_marked 55 = .ok (.iload_n 3, 1) := dk_29 (dk_at dksX8_marked_2 11 rfl rfl)
theorem dX8_marked_56 : decode cX8_marked 56 = .ok (.aaload, 1) := dk_50 (dk_at dksX8_marked_2 12 rfl rfl)
theorem dX8_marked_57 : decode cX8_marked 57 = .ok (.aload_n 0, 1) := dk_42 (dk_at dksX8_marked_2 13 rfl rfl)
theorem dX8_marked_58 : decode cX8_marked 58 = .ok (.getfield 9, 3) := dk_180 0 9 (dk_at dksX8_marked_2 14 rfl rfl)
theorem dX8_marked_61 : decode cX8_marked 61 = .ok (.iload_n 3, 1) := dk_29 (dk_at dksX8_marked_2 17 rfl rfl)
theorem dX8_marked_62 : decode cX8_marked 62 = .ok (.iload 4, 2) := dk_21 4 (dk_at dksX8_marked_2 18 rfl rfl)
theorem dX8_marked_64 : decode cX8_marked 64 = .ok (.iadd, 1) := dk_96 (dk_at dksX8_marked_2 20 rfl rfl)
theorem dX8_marked_65 : decode cX8_marked 65 = .ok (.aaload, 1) := dk_50 (dk_at dksX8_marked_2 21 rfl rfl)
theorem dX8_marked_66 : decode cX8_marked 66 = .ok (.invokestatic 60, 3) := dk_184 0 60 (dk_at dksX8_marked_3 0 rfl rfl)
theorem dX8_marked_69 : decode cX8_marked 69 = .ok (.ifCond .eq 9, 3) := dk_153 0 9 (dk_at dksX8_marked_3 3 rfl rfl)
theorem dX8_marked_72 : decode cX8_marked 72 = .ok (.iinc 4 1, 3) := dk_132 4 1 (dk_at dksX8_marked_3 6 rfl rfl)
theorem dX8_marked_75 : decode cX8_marked 75 = .ok (.goto (-36), 3) := dk_167 255 220 (dk_at dksX8_marked_3 9 rfl rfl)
theorem dX8_marked_78 : decode cX8_marked 78 = .ok (.aload_n 2, 1) := dk_44 (dk_at dksX8_marked_3 12 rfl rfl)
theorem dX8_marked_79 : decode cX8_marked 79 = .ok (.aload_n 0, 1) := dk_42 (dk_at dksX8_marked_3 13 rfl rfl)
theorem dX8_marked_80 : decode cX8_marked 80 = .ok (.getfield 9, 3) := dk_180 0 9 (dk_at dksX8_marked_3 14 rfl rfl)
theorem dX8_marked_83 : decode cX8_marked 83 = .ok (.iload_n 3, 1) := dk_29 (dk_at dksX8_marked_3 17 rfl rfl)
theorem dX8_marked_84 : decode cX8_marked 84 = .ok (.aaload, 1) := dk_50 (dk_at dksX8_marked_3 18 rfl rfl)
theorem dX8_marked_85 : decode cX8_marked 85 = .ok (.iconst 3, 1) := dk_6 (dk_at dksX8_marked_3 19 rfl rfl)
theorem dX8_marked_86 : decode cX8_marked 86 = .ok (.aload_n 0, 1) := dk_42 (dk_at dksX8_marked_3 20 rfl rfl)
theorem dX8_marked_87 : decode cX8_marked 87 = .ok (.getfield 9, 3) := dk_180 0 9 (dk_at dksX8_marked_3 21 rfl rfl)
theorem dX8_marked_90 : decode cX8_marked 90 = .ok (.iload_n 3, 1) := dk_29 (dk_at dksX8_marked_4 0 rfl rfl)
theorem dX8_marked_91 : decode cX8_marked 91 = .ok (.aaload, 1) := dk_50 (dk_at dksX8_marked_4 1 rfl rfl)
theorem dX8_marked_92 : decode cX8_marked 92 = .ok (.getfield 9, 3) := dk_180 0 9 (dk_at dksX8_marked_4 2 rfl rfl)
theorem dX8_marked_95 : decode cX8_marked 95 = .ok (.arraylength, 1) := dk_190 (dk_at dksX8_marked_4 5 rfl rfl)
theorem dX8_marked_96 : decode cX8_marked 96 = .ok (.isub, 1) := dk_100 (dk_at dksX8_marked_4 6 rfl rfl)
theorem dX8_marked_97 : decode cX8_marked 97 = .ok (.invokevirtual 82, 3) := dk_182 0 82 (dk_at dksX8_marked_4 7 rfl rfl)
theorem dX8_marked_100 : decode cX8_marked 100 = .ok (.iload 4, 2) := dk_21 4 (dk_at dksX8_marked_4 10 rfl rfl)
theorem dX8_marked_102 : decode cX8_marked 102 = .ok (.invokestatic 86, 3) := dk_184 0 86 (dk_at dksX8_marked_4 12 rfl rfl)
theorem dX8_marked_105 : decode cX8_marked 105 = .ok (.invokestatic 90, 3) := dk_184 0 90 (dk_at dksX8_marked_4 15 rfl rfl)
theorem dX8_marked_108 : decode cX8_marked 108 = .ok (.astore_n 2, 1) := dk_77 (dk_at dksX8_marked_4 18 rfl rfl)
theorem dX8_marked_109 : decode cX8_marked 109 = .ok (.iload_n 3, 1) := dk_29 (dk_at dksX8_marked_4 19 rfl rfl)
theorem dX8_marked_110 : decode cX8_marked 110 = .ok (.iload 4, 2) := dk_21 4 (dk_at dksX8_marked_4 20 rfl rfl)
theorem dX8_marked_112 : decode cX8_marked 112 = .ok (.iadd, 1) := dk_96 (dk_at dksX8_marked_4 22 rfl rfl)
theorem dX8_marked_113 : decode cX8_marked 113 = .ok (.istore_n 3, 1) := dk_62 (dk_at dksX8_marked_4 23 rfl rfl)
theorem dX8_marked_114 : decode cX8_marked 114 = .ok (.goto (-87), 3) := dk_167 255 169 (dk_at dksX8_marked_5 0 rfl rfl)
theorem dX8_marked_117 : decode cX8_marked 117 = .ok (.aload_n 2, 1) := dk_44 (dk_at dksX8_marked_5 3 rfl rfl)
theorem dX8_marked_118 : decode cX8_marked 118 = .ok (.areturn, 1) := dk_176 (dk_at dksX8_marked_5 4 rfl rfl)
abbrev cX8_several : ByteArray := prog_3_method_13_code
def yX8_several : MethodName := ⟨RX8, "several", "([JI)[J"⟩
def dkwX8_several_3 : List UInt8 := [20, 0, 100, 109, 97, 80, 44, 176]
abbrev dktX8_several_3 : List UInt8 := dkwX8_several_3 ++ []
def dkwX8_several_2 : List UInt8 := [164, 0, 30, 44, 6, 92, 47, 42, 4, 47, 42, 4, 47, 10, 97, 105, 42, 4, 47, 20, 0, 64, 97, 105]
abbrev dktX8_several_2 : List UInt8 := dkwX8_several_2 ++ dktX8_several_3
def dkwX8_several_1 : List UInt8 := [97, 105, 20, 0, 64, 109, 97, 80, 44, 6, 92, 47, 42, 4, 47, 42, 5, 47, 105, 97, 80, 27, 5]
abbrev dktX8_several_1 : List UInt8 := dkwX8_several_1 ++ dktX8_several_2
def dkwX8_several_0 : List UInt8 := [42, 182, 0, 94, 192, 0, 95, 77, 27, 4, 164, 0, 35, 44, 5, 92, 47, 42, 4, 47, 42, 4, 47, 10]
abbrev dktX8_several_0 : List UInt8 := dkwX8_several_0 ++ dktX8_several_1
theorem dksX8_several_0 : cX8_several.data.toList.drop 0 = dktX8_several_0 := by decide +kernel
theorem dksX8_several_1 : cX8_several.data.toList.drop 24 = dktX8_several_1 := dk_seg dksX8_several_0 24 rfl rfl
theorem dksX8_several_2 : cX8_several.data.toList.drop 47 = dktX8_several_2 := dk_seg dksX8_several_1 23 rfl rfl
theorem dksX8_several_3 : cX8_several.data.toList.drop 71 = dktX8_several_3 := dk_seg dksX8_several_2 24 rfl rfl
theorem dX8_several_0 : decode cX8_several 0 = .ok (.aload_n 0, 1) := dk_42 (dk_at dksX8_several_0 0 rfl rfl)
theorem dX8_several_1 : decode cX8_several 1 = .ok (.invokevirtual 94, 3) := dk_182 0 94 (dk_at dksX8_several_0 1 rfl rfl)
theorem dX8_several_4 : decode cX8_several 4 = .ok (.checkcast 95, 3) := dk_192 0 95 (dk_at dksX8_several_0 4 rfl rfl)
theorem dX8_several_7 : decode cX8_several 7 = .ok (.astore_n 2, 1) := dk_77 (dk_at dksX8_several_0 7 rfl rfl)
theorem dX8_several_8 : decode cX8_several 8 = .ok (.iload_n 1, 1) := dk_27 (dk_at dksX8_several_0 8 rfl rfl)
theorem dX8_several_9 : decode cX8_several 9 = .ok (.iconst 1, 1) := dk_4 (dk_at dksX8_several_0 9 rfl rfl)
theorem dX8_several_10 : decode cX8_several 10 = .ok (.if_icmp .le 35, 3) := dk_164 0 35 (dk_at dksX8_several_0 10 rfl rfl)
theorem dX8_several_13 : decode cX8_several 13 = .ok (.aload_n 2, 1) := dk_44 (dk_at dksX8_several_0 13 rfl rfl)
theorem dX8_several_14 : decode cX8_several 14 = .ok (.iconst 2, 1) := dk_5 (dk_at dksX8_several_0 14 rfl rfl)
theorem dX8_several_15 : decode cX8_several 15 = .ok (.dup2, 1) := dk_92 (dk_at dksX8_several_0 15 rfl rfl)
theorem dX8_several_16 : decode cX8_several 16 = .ok (.laload, 1) := dk_47 (dk_at dksX8_several_0 16 rfl rfl)
theorem dX8_several_17 : decode cX8_several 17 = .ok (.aload_n 0, 1) := dk_42 (dk_at dksX8_several_0 17 rfl rfl)
theorem dX8_several_18 : decode cX8_several 18 = .ok (.iconst 1, 1) := dk_4 (dk_at dksX8_several_0 18 rfl rfl)
theorem dX8_several_19 : decode cX8_several 19 = .ok (.laload, 1) := dk_47 (dk_at dksX8_several_0 19 rfl rfl)
theorem dX8_several_20 : decode cX8_several 20 = .ok (.aload_n 0, 1) := dk_42 (dk_at dksX8_several_0 20 rfl rfl)
theorem dX8_several_21 : decode cX8_several 21 = .ok (.iconst 1, 1) := dk_4 (dk_at dksX8_several_0 21 rfl rfl)
theorem dX8_several_22 : decode cX8_several 22 = .ok (.laload, 1) := dk_47 (dk_at dksX8_several_0 22 rfl rfl)
theorem dX8_several_23 : decode cX8_several 23 = .ok (.lconst 1, 1) := dk_10 (dk_at dksX8_several_0 23 rfl rfl)
theorem dX8_several_24 : decode cX8_several 24 = .ok (.ladd, 1) := dk_97 (dk_at dksX8_several_1 0 rfl rfl)
theorem dX8_several_25 : decode cX8_several 25 = .ok (.lmul, 1) := dk_105 (dk_at dksX8_several_1 1 rfl rfl)
theorem dX8_several_26 : decode cX8_several 26 = .ok (.ldc2_w 64, 3) := dk_20 0 64 (dk_at dksX8_several_1 2 rfl rfl)
theorem dX8_several_29 : decode cX8_several 29 = .ok (.ldiv, 1) := dk_109 (dk_at dksX8_several_1 5 rfl rfl)
theorem dX8_several_30 : decode cX8_several 30 = .ok (.ladd, 1) := dk_97 (dk_at dksX8_several_1 6 rfl rfl)
theorem dX8_several_31 : decode cX8_several 31 = .ok (.lastore, 1) := dk_80 (dk_at dksX8_several_1 7 rfl rfl)
theorem dX8_several_32 : decode cX8_several 32 = .ok (.aload_n 2, 1) := dk_44 (dk_at dksX8_several_1 8 rfl rfl)
theorem dX8_several_33 : decode cX8_several 33 = .ok (.iconst 3, 1) := dk_6 (dk_at dksX8_several_1 9 rfl rfl)
theorem dX8_several_34 : decode cX8_several 34 = .ok (.dup2, 1) := dk_92 (dk_at dksX8_several_1 10 rfl rfl)
theorem dX8_several_35 : decode cX8_several 35 = .ok (.laload, 1) := dk_47 (dk_at dksX8_several_1 11 rfl rfl)
theorem dX8_several_36 : decode cX8_several 36 = .ok (.aload_n 0, 1) := dk_42 (dk_at dksX8_several_1 12 rfl rfl)
theorem dX8_several_37 : decode cX8_several 37 = .ok (.iconst 1, 1) := dk_4 (dk_at dksX8_several_1 13 rfl rfl)
theorem dX8_several_38 : decode cX8_several 38 = .ok (.laload, 1) := dk_47 (dk_at dksX8_several_1 14 rfl rfl)
theorem dX8_several_39 : decode cX8_several 39 = .ok (.aload_n 0, 1) := dk_42 (dk_at dksX8_several_1 15 rfl rfl)
theorem dX8_several_40 : decode cX8_several 40 = .ok (.iconst 2, 1) := dk_5 (dk_at dksX8_several_1 16 rfl rfl)
theorem dX8_several_41 : decode cX8_several 41 = .ok (.laload, 1) := dk_47 (dk_at dksX8_several_1 17 rfl rfl)
theorem dX8_several_42 : decode cX8_several 42 = .ok (.lmul, 1) := dk_105 (dk_at dksX8_several_1 18 rfl rfl)
theorem dX8_several_43 : decode cX8_several 43 = .ok (.ladd, 1) := dk_97 (dk_at dksX8_several_1 19 rfl rfl)
theorem dX8_several_44 : decode cX8_several 44 = .ok (.lastore, 1) := dk_80 (dk_at dksX8_several_1 20 rfl rfl)
theorem dX8_several_45 : decode cX8_several 45 = .ok (.iload_n 1, 1) := dk_27 (dk_at dksX8_several_1 21 rfl rfl)
theorem dX8_several_46 : decode cX8_several 46 = .ok (.iconst 2, 1) := dk_5 (dk_at dksX8_several_1 22 rfl rfl)
theorem dX8_several_47 : decode cX8_several 47 = .ok (.if_icmp .le 30, 3) := dk_164 0 30 (dk_at dksX8_several_2 0 rfl rfl)
theorem dX8_several_50 : decode cX8_several 50 = .ok (.aload_n 2, 1) := dk_44 (dk_at dksX8_several_2 3 rfl rfl)
theorem dX8_several_51 : decode cX8_several 51 = .ok (.iconst 3, 1) := dk_6 (dk_at dksX8_several_2 4 rfl rfl)
theorem dX8_several_52 : decode cX8_several 52 = .ok (.dup2, 1) := dk_92 (dk_at dksX8_several_2 5 rfl rfl)
theorem dX8_several_53 : decode cX8_several 53 = .ok (.laload, 1) := dk_47 (dk_at dksX8_several_2 6 rfl rfl)
theorem dX8_several_54 : decode cX8_several 54 = .ok (.aload_n 0, 1) := dk_42 (dk_at dksX8_several_2 7 rfl rfl)
theorem dX8_several_55 : decode cX8_several 55 = .ok (.iconst 1, 1) := dk_4 (dk_at dksX8_several_2 8 rfl rfl)
theorem dX8_several_56 : decode cX8_several 56 = .ok (.laload, 1) := dk_47 (dk_at dksX8_several_2 9 rfl rfl)
theorem dX8_several_57 : decode cX8_several 57 = .ok (.aload_n 0, 1) := dk_42 (dk_at dksX8_several_2 10 rfl rfl)
theorem dX8_several_58 : decode cX8_several 58 = .ok (.iconst 1, 1) := dk_4 (dk_at dksX8_several_2 11 rfl rfl)
theorem dX8_several_59 : decode cX8_several 59 = .ok (.laload, 1) := dk_47 (dk_at dksX8_several_2 12 rfl rfl)
theorem dX8_several_60 : decode cX8_several 60 = .ok (.lconst 1, 1) := dk_10 (dk_at dksX8_several_2 13 rfl rfl)
theorem dX8_several_61 : decode cX8_several 61 = .ok (.ladd, 1) := dk_97 (dk_at dksX8_several_2 14 rfl rfl)
theorem dX8_several_62 : decode cX8_several 62 = .ok (.lmul, 1) := dk_105 (dk_at dksX8_several_2 15 rfl rfl)
theorem dX8_several_63 : decode cX8_several 63 = .ok (.aload_n 0, 1) := dk_42 (dk_at dksX8_several_2 16 rfl rfl)
theorem dX8_several_64 : decode cX8_several 64 = .ok (.iconst 1, 1) := dk_4 (dk_at dksX8_several_2 17 rfl rfl)
theorem dX8_several_65 : decode cX8_several 65 = .ok (.laload, 1) := dk_47 (dk_at dksX8_several_2 18 rfl rfl)
theorem dX8_several_66 : decode cX8_several 66 = .ok (.ldc2_w 64, 3) := dk_20 0 64 (dk_at dksX8_several_2 19 rfl rfl)
theorem dX8_several_69 : decode cX8_several 69 = .ok (.ladd, 1) := dk_97 (dk_at dksX8_several_2 22 rfl rfl)
theorem dX8_several_70 : decode cX8_several 70 = .ok (.lmul, 1) := dk_105 (dk_at dksX8_several_2 23 rfl rfl)
theorem dX8_several_71 : decode cX8_several 71 = .ok (.ldc2_w 100, 3) := dk_20 0 100 (dk_at dksX8_several_3 0 rfl rfl)
theorem dX8_several_74 : decode cX8_several 74 = .ok (.ldiv, 1) := dk_109 (dk_at dksX8_several_3 3 rfl rfl)
theorem dX8_several_75 : decode cX8_several 75 = .ok (.ladd, 1) := dk_97 (dk_at dksX8_several_3 4 rfl rfl)
theorem dX8_several_76 : decode cX8_several 76 = .ok (.lastore, 1) := dk_80 (dk_at dksX8_several_3 5 rfl rfl)
theorem dX8_several_77 : decode cX8_several 77 = .ok (.aload_n 2, 1) := dk_44 (dk_at dksX8_several_3 6 rfl rfl)
theorem dX8_several_78 : decode cX8_several 78 = .ok (.areturn, 1) := dk_176 (dk_at dksX8_several_3 7 rfl rfl)
abbrev cX8_times : ByteArray := prog_3_method_12_code
def yX8_times : MethodName := ⟨RX8, "times", "([J[J)[J"⟩
def dkwX8_times_2 : List UInt8 := [167, 255, 214, 44, 176]
abbrev dktX8_times_2 : List UInt8 := dkwX8_times_2 ++ []
def dkwX8_times_1 : List UInt8 := [21, 4, 96, 92, 47, 42, 29, 47, 43, 21, 4, 47, 105, 97, 80, 132, 4, 1, 167, 255, 228, 132, 3, 1]
abbrev dktX8_times_1 : List UInt8 := dkwX8_times_1 ++ dktX8_times_2
def dkwX8_times_0 : List UInt8 := [7, 188, 11, 77, 3, 62, 29, 6, 163, 0, 43, 3, 54, 4, 21, 4, 6, 29, 100, 163, 0, 26, 44, 29]
abbrev dktX8_times_0 : List UInt8 := dkwX8_times_0 ++ dktX8_times_1
theorem dksX8_times_0 : cX8_times.data.toList.drop 0 = dktX8_times_0 := by decide +kernel
theorem dksX8_times_1 : cX8_times.data.toList.drop 24 = dktX8_times_1 := dk_seg dksX8_times_0 24 rfl rfl
theorem dksX8_times_2 : cX8_times.data.toList.drop 48 = dktX8_times_2 := dk_seg dksX8_times_1 24 rfl rfl
theorem dX8_times_0 : decode cX8_times 0 = .ok (.iconst 4, 1) := dk_7 (dk_at dksX8_times_0 0 rfl rfl)
theorem dX8_times_1 : decode cX8_times 1 = .ok (.newarray .long, 2) := dk_188_11 (dk_at dksX8_times_0 1 rfl rfl)
theorem dX8_times_3 : decode cX8_times 3 = .ok (.astore_n 2, 1) := dk_77 (dk_at dksX8_times_0 3 rfl rfl)
theorem dX8_times_4 : decode cX8_times 4 = .ok (.iconst 0, 1) := dk_3 (dk_at dksX8_times_0 4 rfl rfl)
theorem dX8_times_5 : decode cX8_times 5 = .ok (.istore_n 3, 1) := dk_62 (dk_at dksX8_times_0 5 rfl rfl)
theorem dX8_times_6 : decode cX8_times 6 = .ok (.iload_n 3, 1) := dk_29 (dk_at dksX8_times_0 6 rfl rfl)
theorem dX8_times_7 : decode cX8_times 7 = .ok (.iconst 3, 1) := dk_6 (dk_at dksX8_times_0 7 rfl rfl)
theorem dX8_times_8 : decode cX8_times 8 = .ok (.if_icmp .gt 43, 3) := dk_163 0 43 (dk_at dksX8_times_0 8 rfl rfl)
theorem dX8_times_11 : decode cX8_times 11 = .ok (.iconst 0, 1) := dk_3 (dk_at dksX8_times_0 11 rfl rfl)
theorem dX8_times_12 : decode cX8_times 12 = .ok (.istore 4, 2) := dk_54 4 (dk_at dksX8_times_0 12 rfl rfl)
theorem dX8_times_14 : decode cX8_times 14 = .ok (.iload 4, 2) := dk_21 4 (dk_at dksX8_times_0 14 rfl rfl)
theorem dX8_times_16 : decode cX8_times 16 = .ok (.iconst 3, 1) := dk_6 (dk_at dksX8_times_0 16 rfl rfl)
theorem dX8_times_17 : decode cX8_times 17 = .ok (.iload_n 3, 1) := dk_29 (dk_at dksX8_times_0 17 rfl rfl)
theorem dX8_times_18 : decode cX8_times 18 = .ok (.isub, 1) := dk_100 (dk_at dksX8_times_0 18 rfl rfl)
theorem dX8_times_19 : decode cX8_times 19 = .ok (.if_icmp .gt 26, 3) := dk_163 0 26 (dk_at dksX8_times_0 19 rfl rfl)
theorem dX8_times_22 : decode cX8_times 22 = .ok (.aload_n 2, 1) := dk_44 (dk_at dksX8_times_0 22 rfl rfl)
theorem dX8_times_23 : decode cX8_times 23 = .ok (.iload_n 3, 1) := dk_29 (dk_at dksX8_times_0 23 rfl rfl)
theorem dX8_times_24 : decode cX8_times 24 = .ok (.iload 4, 2) := dk_21 4 (dk_at dksX8_times_1 0 rfl rfl)
theorem dX8_times_26 : decode cX8_times 26 = .ok (.iadd, 1) := dk_96 (dk_at dksX8_times_1 2 rfl rfl)
theorem dX8_times_27 : decode cX8_times 27 = .ok (.dup2, 1) := dk_92 (dk_at dksX8_times_1 3 rfl rfl)
theorem dX8_times_28 : decode cX8_times 28 = .ok (.laload, 1) := dk_47 (dk_at dksX8_times_1 4 rfl rfl)
theorem dX8_times_29 : decode cX8_times 29 = .ok (.aload_n 0, 1) := dk_42 (dk_at dksX8_times_1 5 rfl rfl)
theorem dX8_times_30 : decode cX8_times 30 = .ok (.iload_n 3, 1) := dk_29 (dk_at dksX8_times_1 6 rfl rfl)
theorem dX8_times_31 : decode cX8_times 31 = .ok (.laload, 1) := dk_47 (dk_at dksX8_times_1 7 rfl rfl)
theorem dX8_times_32 : decode cX8_times 32 = .ok (.aload_n 1, 1) := dk_43 (dk_at dksX8_times_1 8 rfl rfl)
theorem dX8_times_33 : decode cX8_times 33 = .ok (.iload 4, 2) := dk_21 4 (dk_at dksX8_times_1 9 rfl rfl)
theorem dX8_times_35 : decode cX8_times 35 = .ok (.laload, 1) := dk_47 (dk_at dksX8_times_1 11 rfl rfl)
theorem dX8_times_36 : decode cX8_times 36 = .ok (.lmul, 1) := dk_105 (dk_at dksX8_times_1 12 rfl rfl)
theorem dX8_times_37 : decode cX8_times 37 = .ok (.ladd, 1) := dk_97 (dk_at dksX8_times_1 13 rfl rfl)
theorem dX8_times_38 : decode cX8_times 38 = .ok (.lastore, 1) := dk_80 (dk_at dksX8_times_1 14 rfl rfl)
theorem dX8_times_39 : decode cX8_times 39 = .ok (.iinc 4 1, 3) := dk_132 4 1 (dk_at dksX8_times_1 15 rfl rfl)
theorem dX8_times_42 : decode cX8_times 42 = .ok (.goto (-28), 3) := dk_167 255 228 (dk_at dksX8_times_1 18 rfl rfl)
theorem dX8_times_45 : decode cX8_times 45 = .ok (.iinc 3 1, 3) := dk_132 3 1 (dk_at dksX8_times_1 21 rfl rfl)
theorem dX8_times_48 : decode cX8_times 48 = .ok (.goto (-42), 3) := dk_167 255 214 (dk_at dksX8_times_2 0 rfl rfl)
theorem dX8_times_51 : decode cX8_times 51 = .ok (.aload_n 2, 1) := dk_44 (dk_at dksX8_times_2 3 rfl rfl)
theorem dX8_times_52 : decode cX8_times 52 = .ok (.areturn, 1) := dk_176 (dk_at dksX8_times_2 4 rfl rfl)
theorem q149 : (Jvm.Cond.initialized "Skeletons$Branch") ∈ lw_all := lw_g (lw_at lw_m1 21 rfl) rfl
theorem q697 : (Jvm.Cond.selects "Skeletons$Branch" ({ cls := "java/lang/Object", name := "getClass", desc := "()Ljava/lang/Class;" } : Jvm.MethodName) ({ cls := "java/lang/Object", name := "getClass", desc := "()Ljava/lang/Class;" } : Jvm.MethodName)) ∈ lw_all := lw_g (lw_at lw_m3 89 rfl) rfl
theorem q751 : (Jvm.Cond.instantiable "Skeletons$Branch" (6 : Nat)) ∈ lw_all := lw_g (lw_at lw_m3 143 rfl) rfl
theorem q753 : (Jvm.Cond.instanceMethod ({ cls := "Skeletons$Branch", name := "<init>", desc := "([LSkeletons$Branch;)V" } : Jvm.MethodName)) ∈ lw_all := lw_g (lw_at lw_m3 145 rfl) rfl
theorem q754 : (Jvm.Cond.code ({ cls := "Skeletons$Branch", name := "<init>", desc := "([LSkeletons$Branch;)V" } : Jvm.MethodName) prog_3_method_1_code (7 : Nat) (Option.none : Option Jvm.ClassFile.FieldType)) ∈ lw_all := lw_g (lw_at lw_m3 146 rfl) rfl
theorem q755 : (Jvm.Cond.methodLink "Skeletons$Branch" (3 : Nat) ({ cls := "java/lang/Object", name := "<init>", desc := "()V" } : Jvm.MethodName)) ∈ lw_all := lw_g (lw_at lw_m3 147 rfl) rfl
theorem q756 : (Jvm.Cond.methodLink "Skeletons$Branch" (15 : Nat) ({ cls := "Skeletons$Branch", name := "compareTo", desc := "(LSkeletons$Branch;)I" } : Jvm.MethodName)) ∈ lw_all := lw_g (lw_at lw_m3 148 rfl) rfl
theorem q757 : (Jvm.Cond.instanceMethod ({ cls := "Skeletons$Branch", name := "compareTo", desc := "(LSkeletons$Branch;)I" } : Jvm.MethodName)) ∈ lw_all := lw_g (lw_at lw_m3 149 rfl) rfl
theorem q758 : (Jvm.Cond.selects "Skeletons$Branch" ({ cls := "Skeletons$Branch", name := "compareTo", desc := "(LSkeletons$Branch;)I" } : Jvm.MethodName) ({ cls := "Skeletons$Branch", name := "compareTo", desc := "(LSkeletons$Branch;)I" } : Jvm.MethodName)) ∈ lw_all := lw_g (lw_at lw_m3 150 rfl) rfl
theorem q759 : (Jvm.Cond.code ({ cls := "Skeletons$Branch", name := "compareTo", desc := "(LSkeletons$Branch;)I" } : Jvm.MethodName) prog_3_method_9_code (5 : Nat) (Option.some Jvm.ClassFile.FieldType.int)) ∈ lw_all := lw_g (lw_at lw_m3 151 rfl) rfl
theorem q760 : (Jvm.Cond.methodLink "Skeletons$Branch" (70 : Nat) ({ cls := "java/lang/Math", name := "min", desc := "(II)I" } : Jvm.MethodName)) ∈ lw_all := lw_g (lw_at lw_m3 152 rfl) rfl
theorem q761 : (Jvm.Cond.methodLink "Skeletons$Branch" (73 : Nat) ({ cls := "java/lang/Integer", name := "compare", desc := "(II)I" } : Jvm.MethodName)) ∈ lw_all := lw_g (lw_at lw_m3 153 rfl) rfl
theorem q764 : (Jvm.Cond.methodLink "Skeletons$Branch" (26 : Nat) ({ cls := "java/lang/Math", name := "max", desc := "(II)I" } : Jvm.MethodName)) ∈ lw_all := lw_g (lw_at lw_m3 156 rfl) rfl
theorem q765 : (Jvm.Cond.methodLink "Skeletons$Branch" (36 : Nat) ({ cls := "Skeletons$Branch", name := "likeAhead", desc := "(I)I" } : Jvm.MethodName)) ∈ lw_all := lw_g (lw_at lw_m3 157 rfl) rfl
theorem q766 : (Jvm.Cond.privateMethod ({ cls := "Skeletons$Branch", name := "likeAhead", desc := "(I)I" } : Jvm.MethodName)) ∈ lw_tbl := lw_at lw_m3 158 rfl
theorem q767 : (Jvm.Cond.instanceMethod ({ cls := "Skeletons$Branch", name := "likeAhead", desc := "(I)I" } : Jvm.MethodName)) ∈ lw_all := lw_g (lw_at lw_m3 159 rfl) rfl
theorem q768 : (Jvm.Cond.code ({ cls := "Skeletons$Branch", name := "likeAhead", desc := "(I)I" } : Jvm.MethodName) prog_3_method_2_code (3 : Nat) (Option.some Jvm.ClassFile.FieldType.int)) ∈ lw_all := lw_g (lw_at lw_m3 160 rfl) rfl
theorem q769 : (Jvm.Cond.methodLink "Skeletons$Branch" (40 : Nat) ({ cls := "Skeletons$Branch", name := "at", desc := "(I)LSkeletons$Branch;" } : Jvm.MethodName)) ∈ lw_all := lw_g (lw_at lw_m3 161 rfl) rfl
theorem q770 : (Jvm.Cond.instanceMethod ({ cls := "Skeletons$Branch", name := "at", desc := "(I)LSkeletons$Branch;" } : Jvm.MethodName)) ∈ lw_all := lw_g (lw_at lw_m3 162 rfl) rfl
theorem q771 : (Jvm.Cond.selects "Skeletons$Branch" ({ cls := "Skeletons$Branch", name := "at", desc := "(I)LSkeletons$Branch;" } : Jvm.MethodName) ({ cls := "Skeletons$Branch", name := "at", desc := "(I)LSkeletons$Branch;" } : Jvm.MethodName)) ∈ lw_all := lw_g (lw_at lw_m3 163 rfl) rfl
theorem q772 : (Jvm.Cond.code ({ cls := "Skeletons$Branch", name := "at", desc := "(I)LSkeletons$Branch;" } : Jvm.MethodName) prog_3_method_3_code (2 : Nat) (Option.some (Jvm.ClassFile.FieldType.object "Skeletons$Branch"))) ∈ lw_all := lw_g (lw_at lw_m3 164 rfl) rfl
theorem q773 : (Jvm.Cond.methodLink "Skeletons$Branch" (44 : Nat) ({ cls := "Skeletons$Branch", name := "formsOf", desc := "(LSkeletons$Branch;LSkeletons$Branch;LSkeletons$Branch;)J" } : Jvm.MethodName)) ∈ lw_all := lw_g (lw_at lw_m3 165 rfl) rfl
theorem q774 : (Jvm.Cond.static ({ cls := "Skeletons$Branch", name := "formsOf", desc := "(LSkeletons$Branch;LSkeletons$Branch;LSkeletons$Branch;)J" } : Jvm.MethodName)) ∈ lw_all := lw_g (lw_at lw_m3 166 rfl) rfl
theorem q775 : (Jvm.Cond.code ({ cls := "Skeletons$Branch", name := "formsOf", desc := "(LSkeletons$Branch;LSkeletons$Branch;LSkeletons$Branch;)J" } : Jvm.MethodName) prog_3_method_7_code (7 : Nat) (Option.some Jvm.ClassFile.FieldType.long)) ∈ lw_all := lw_g (lw_at lw_m3 167 rfl) rfl
theorem q776 : (Jvm.Cond.methodLink "Skeletons$Branch" (57 : Nat) ({ cls := "Skeletons$Branch", name := "formsOf", desc := "(LSkeletons$Branch;)J" } : Jvm.MethodName)) ∈ lw_all := lw_g (lw_at lw_m3 168 rfl) rfl
theorem q777 : (Jvm.Cond.static ({ cls := "Skeletons$Branch", name := "formsOf", desc := "(LSkeletons$Branch;)J" } : Jvm.MethodName)) ∈ lw_all := lw_g (lw_at lw_m3 169 rfl) rfl
theorem q778 : (Jvm.Cond.code ({ cls := "Skeletons$Branch", name := "formsOf", desc := "(LSkeletons$Branch;)J" } : Jvm.MethodName) prog_3_method_5_code (1 : Nat) (Option.some Jvm.ClassFile.FieldType.long)) ∈ lw_all := lw_g (lw_at lw_m3 170 rfl) rfl
theorem q779 : (Jvm.Cond.methodLink "Skeletons$Branch" (60 : Nat) ({ cls := "Skeletons$Branch", name := "areLike", desc := "(LSkeletons$Branch;LSkeletons$Branch;)Z" } : Jvm.MethodName)) ∈ lw_all := lw_g (lw_at lw_m3 171 rfl) rfl
theorem q780 : (Jvm.Cond.static ({ cls := "Skeletons$Branch", name := "areLike", desc := "(LSkeletons$Branch;LSkeletons$Branch;)Z" } : Jvm.MethodName)) ∈ lw_all := lw_g (lw_at lw_m3 172 rfl) rfl
theorem q781 : (Jvm.Cond.code ({ cls := "Skeletons$Branch", name := "areLike", desc := "(LSkeletons$Branch;LSkeletons$Branch;)Z" } : Jvm.MethodName) prog_3_method_4_code (2 : Nat) (Option.some Jvm.ClassFile.FieldType.boolean)) ∈ lw_all := lw_g (lw_at lw_m3 173 rfl) rfl
theorem q782 : (Jvm.Cond.constantLong "Skeletons$Branch" (64 : Nat) (2 : Int64)) ∈ lw_all := lw_g (lw_at lw_m3 174 rfl) rfl
theorem q783 : (Jvm.Cond.constantLong "Skeletons$Branch" (66 : Nat) (3 : Int64)) ∈ lw_all := lw_g (lw_at lw_m3 175 rfl) rfl
theorem q784 : (Jvm.Cond.methodLink "Skeletons$Branch" (51 : Nat) ({ cls := "Skeletons$Branch", name := "ownOf", desc := "(LSkeletons$Branch;LSkeletons$Branch;LSkeletons$Branch;)J" } : Jvm.MethodName)) ∈ lw_all := lw_g (lw_at lw_m3 176 rfl) rfl
theorem q785 : (Jvm.Cond.static ({ cls := "Skeletons$Branch", name := "ownOf", desc := "(LSkeletons$Branch;LSkeletons$Branch;LSkeletons$Branch;)J" } : Jvm.MethodName)) ∈ lw_all := lw_g (lw_at lw_m3 177 rfl) rfl
theorem q786 : (Jvm.Cond.code ({ cls := "Skeletons$Branch", name := "ownOf", desc := "(LSkeletons$Branch;LSkeletons$Branch;LSkeletons$Branch;)J" } : Jvm.MethodName) prog_3_method_8_code (3 : Nat) (Option.some Jvm.ClassFile.FieldType.long)) ∈ lw_all := lw_g (lw_at lw_m3 178 rfl) rfl
theorem q787 : (Jvm.Cond.methodLink "Skeletons$Branch" (68 : Nat) ({ cls := "Skeletons$Branch", name := "ownOf", desc := "(LSkeletons$Branch;)J" } : Jvm.MethodName)) ∈ lw_all := lw_g (lw_at lw_m3 179 rfl) rfl
theorem q788 : (Jvm.Cond.static ({ cls := "Skeletons$Branch", name := "ownOf", desc := "(LSkeletons$Branch;)J" } : Jvm.MethodName)) ∈ lw_all := lw_g (lw_at lw_m3 180 rfl) rfl
theorem q789 : (Jvm.Cond.code ({ cls := "Skeletons$Branch", name := "ownOf", desc := "(LSkeletons$Branch;)J" } : Jvm.MethodName) prog_3_method_6_code (1 : Nat) (Option.some Jvm.ClassFile.FieldType.long)) ∈ lw_all := lw_g (lw_at lw_m3 181 rfl) rfl
theorem q790 : (Jvm.Cond.fieldLink "Skeletons$Branch" (9 : Nat) "Skeletons$Branch" "parts" "[LSkeletons$Branch;") ∈ lw_all := lw_g (lw_at lw_m3 182 rfl) rfl
theorem q793 : (Jvm.Cond.fieldLink "Skeletons$Branch" (19 : Nat) "Skeletons$Branch" "size" "I") ∈ lw_all := lw_g (lw_at lw_m3 185 rfl) rfl
theorem q796 : (Jvm.Cond.fieldLink "Skeletons$Branch" (23 : Nat) "Skeletons$Branch" "longest" "I") ∈ lw_all := lw_g (lw_at lw_m3 188 rfl) rfl
theorem q798 : (Jvm.Cond.fieldLink "Skeletons$Branch" (32 : Nat) "Skeletons$Branch" "ways" "J") ∈ lw_all := lw_g (lw_at lw_m3 190 rfl) rfl
theorem q801 : (Jvm.Cond.fieldLink "Skeletons$Branch" (48 : Nat) "Skeletons$Branch" "forms" "J") ∈ lw_all := lw_g (lw_at lw_m3 193 rfl) rfl
theorem q804 : (Jvm.Cond.fieldLink "Skeletons$Branch" (54 : Nat) "Skeletons$Branch" "own" "J") ∈ lw_all := lw_g (lw_at lw_m3 196 rfl) rfl
theorem q807 : (Jvm.Cond.laysFinal "Skeletons$Branch" "Skeletons$Branch" "parts" "[LSkeletons$Branch;") ∈ lw_all := lw_g (lw_at lw_m3 199 rfl) rfl
theorem q808 : (Jvm.Cond.soleField "Skeletons$Branch" "parts") ∈ lw_all := lw_g (lw_at lw_m3 200 rfl) rfl
theorem q809 : (Jvm.Cond.laysFinal "Skeletons$Branch" "Skeletons$Branch" "size" "I") ∈ lw_all := lw_g (lw_at lw_m3 201 rfl) rfl
theorem q810 : (Jvm.Cond.soleField "Skeletons$Branch" "size") ∈ lw_all := lw_g (lw_at lw_m3 202 rfl) rfl
theorem q811 : (Jvm.Cond.laysFinal "Skeletons$Branch" "Skeletons$Branch" "longest" "I") ∈ lw_all := lw_g (lw_at lw_m3 203 rfl) rfl
theorem q812 : (Jvm.Cond.soleField "Skeletons$Branch" "longest") ∈ lw_all := lw_g (lw_at lw_m3 204 rfl) rfl
theorem q813 : (Jvm.Cond.laysFinal "Skeletons$Branch" "Skeletons$Branch" "ways" "J") ∈ lw_all := lw_g (lw_at lw_m3 205 rfl) rfl
theorem q814 : (Jvm.Cond.soleField "Skeletons$Branch" "ways") ∈ lw_all := lw_g (lw_at lw_m3 206 rfl) rfl
theorem q815 : (Jvm.Cond.laysFinal "Skeletons$Branch" "Skeletons$Branch" "forms" "J") ∈ lw_all := lw_g (lw_at lw_m3 207 rfl) rfl
theorem q816 : (Jvm.Cond.soleField "Skeletons$Branch" "forms") ∈ lw_all := lw_g (lw_at lw_m3 208 rfl) rfl
theorem q817 : (Jvm.Cond.laysFinal "Skeletons$Branch" "Skeletons$Branch" "own" "J") ∈ lw_all := lw_g (lw_at lw_m3 209 rfl) rfl
theorem q818 : (Jvm.Cond.soleField "Skeletons$Branch" "own") ∈ lw_all := lw_g (lw_at lw_m3 210 rfl) rfl
theorem q819 : (Jvm.Cond.superclass "Skeletons$Branch" "java/lang/Object") ∈ lw_all := lw_g (lw_at lw_m3 211 rfl) rfl
theorem q979 : (Jvm.Cond.instanceMethod ({ cls := "Skeletons$Branch", name := "tells", desc := "([III)I" } : Jvm.MethodName)) ∈ lw_all := lw_g (lw_at lw_m4 131 rfl) rfl
theorem q980 : (Jvm.Cond.selects "Skeletons$Branch" ({ cls := "Skeletons$Branch", name := "tells", desc := "([III)I" } : Jvm.MethodName) ({ cls := "Skeletons$Branch", name := "tells", desc := "([III)I" } : Jvm.MethodName)) ∈ lw_all := lw_g (lw_at lw_m4 132 rfl) rfl
theorem q981 : (Jvm.Cond.code ({ cls := "Skeletons$Branch", name := "tells", desc := "([III)I" } : Jvm.MethodName) prog_3_method_10_code (9 : Nat) (Option.some Jvm.ClassFile.FieldType.int)) ∈ lw_all := lw_g (lw_at lw_m4 133 rfl) rfl
theorem q982 : (Jvm.Cond.methodLink "Skeletons$Branch" (78 : Nat) ({ cls := "Skeletons$Branch", name := "tells", desc := "([III)I" } : Jvm.MethodName)) ∈ lw_all := lw_g (lw_at lw_m4 134 rfl) rfl
theorem q1173 : (Jvm.Cond.castable "Skeletons$Branch" "java/lang/Comparable") ∈ lw_tbl := lw_at lw_m5 85 rfl
theorem q1174 : (Jvm.Cond.selects "Skeletons$Branch" ({ cls := "java/lang/Comparable", name := "compareTo", desc := "(Ljava/lang/Object;)I" } : Jvm.MethodName) ({ cls := "Skeletons$Branch", name := "compareTo", desc := "(Ljava/lang/Object;)I" } : Jvm.MethodName)) ∈ lw_all := lw_g (lw_at lw_m5 86 rfl) rfl
theorem q1175 : (Jvm.Cond.unhidden "Skeletons$Branch" "compareTo" "(Ljava/lang/Object;)I") ∈ lw_tbl := lw_at lw_m5 87 rfl
theorem q1176 : (Jvm.Cond.instanceMethod ({ cls := "Skeletons$Branch", name := "compareTo", desc := "(Ljava/lang/Object;)I" } : Jvm.MethodName)) ∈ lw_all := lw_g (lw_at lw_m5 88 rfl) rfl
theorem q1177 : (Jvm.Cond.publicMethod ({ cls := "Skeletons$Branch", name := "compareTo", desc := "(Ljava/lang/Object;)I" } : Jvm.MethodName)) ∈ lw_tbl := lw_at lw_m5 89 rfl
theorem q1178 : (Jvm.Cond.code ({ cls := "Skeletons$Branch", name := "compareTo", desc := "(Ljava/lang/Object;)I" } : Jvm.MethodName) prog_3_method_14_code (2 : Nat) (Option.some Jvm.ClassFile.FieldType.int)) ∈ lw_all := lw_g (lw_at lw_m5 90 rfl) rfl
theorem q1179 : (Jvm.Cond.classLink "Skeletons$Branch" (10 : Nat) "Skeletons$Branch") ∈ lw_all := lw_g (lw_at lw_m5 91 rfl) rfl
theorem q1861 : (Jvm.Cond.instanceMethod ({ cls := "Skeletons$Branch", name := "marked", desc := "(I)[J" } : Jvm.MethodName)) ∈ lw_all := lw_g (lw_at lw_m8 53 rfl) rfl
theorem q1862 : (Jvm.Cond.selects "Skeletons$Branch" ({ cls := "Skeletons$Branch", name := "marked", desc := "(I)[J" } : Jvm.MethodName) ({ cls := "Skeletons$Branch", name := "marked", desc := "(I)[J" } : Jvm.MethodName)) ∈ lw_all := lw_g (lw_at lw_m8 54 rfl) rfl
theorem q1863 : (Jvm.Cond.code ({ cls := "Skeletons$Branch", name := "marked", desc := "(I)[J" } : Jvm.MethodName) prog_3_method_11_code (5 : Nat) (Option.some (Jvm.ClassFile.FieldType.array Jvm.ClassFile.FieldType.long))) ∈ lw_all := lw_g (lw_at lw_m8 55 rfl) rfl
theorem q1864 : (Jvm.Cond.methodLink "Skeletons$Branch" (82 : Nat) ({ cls := "Skeletons$Branch", name := "marked", desc := "(I)[J" } : Jvm.MethodName)) ∈ lw_all := lw_g (lw_at lw_m8 56 rfl) rfl
theorem q1865 : (Jvm.Cond.methodLink "Skeletons$Branch" (86 : Nat) ({ cls := "Skeletons$Branch", name := "several", desc := "([JI)[J" } : Jvm.MethodName)) ∈ lw_all := lw_g (lw_at lw_m8 57 rfl) rfl
theorem q1866 : (Jvm.Cond.static ({ cls := "Skeletons$Branch", name := "several", desc := "([JI)[J" } : Jvm.MethodName)) ∈ lw_all := lw_g (lw_at lw_m8 58 rfl) rfl
theorem q1867 : (Jvm.Cond.code ({ cls := "Skeletons$Branch", name := "several", desc := "([JI)[J" } : Jvm.MethodName) prog_3_method_13_code (3 : Nat) (Option.some (Jvm.ClassFile.FieldType.array Jvm.ClassFile.FieldType.long))) ∈ lw_all := lw_g (lw_at lw_m8 59 rfl) rfl
theorem q1868 : (Jvm.Cond.methodLink "Skeletons$Branch" (94 : Nat) ({ cls := "[J", name := "clone", desc := "()Ljava/lang/Object;" } : Jvm.MethodName)) ∈ lw_all := lw_g (lw_at lw_m8 60 rfl) rfl
theorem q1872 : (Jvm.Cond.classLink "Skeletons$Branch" (95 : Nat) "[J") ∈ lw_all := lw_g (lw_at lw_m8 64 rfl) rfl
theorem q1873 : (Jvm.Cond.constantLong "Skeletons$Branch" (100 : Nat) (6 : Int64)) ∈ lw_all := lw_g (lw_at lw_m8 65 rfl) rfl
theorem q1874 : (Jvm.Cond.methodLink "Skeletons$Branch" (90 : Nat) ({ cls := "Skeletons$Branch", name := "times", desc := "([J[J)[J" } : Jvm.MethodName)) ∈ lw_all := lw_g (lw_at lw_m8 66 rfl) rfl
theorem q1875 : (Jvm.Cond.static ({ cls := "Skeletons$Branch", name := "times", desc := "([J[J)[J" } : Jvm.MethodName)) ∈ lw_all := lw_g (lw_at lw_m8 67 rfl) rfl
theorem q1876 : (Jvm.Cond.code ({ cls := "Skeletons$Branch", name := "times", desc := "([J[J)[J" } : Jvm.MethodName) prog_3_method_12_code (5 : Nat) (Option.some (Jvm.ClassFile.FieldType.array Jvm.ClassFile.FieldType.long))) ∈ lw_all := lw_g (lw_at lw_m8 68 rfl) rfl
theorem q2775 : (Jvm.Cond.castable "Skeletons$Branch" "java/lang/Object") ∈ lw_tbl := lw_at lw_m12 7 rfl
theorem in_X8 : ∀ w ∈ wsX80, w ∈ lw_all := lw_in wsX80 [807, 809, 811, 813, 815, 817] (by decide +kernel) (by decide +kernel)
/-! Skeletons$One -/
set_option maxRecDepth 100000
def RX9 : String := "Skeletons$One"
def TX9 : u_T := fun k => match k with
  | _ => ("Skeletons$One", "root", "LSkeletons$Branch;", true)
def tyX9 : Nat → FieldType := fun k => match k with
  | _ => .object "Skeletons$Branch"
abbrev wsX90 : List Cond := u_ws RX9 TX9 1
theorem nmX9 : ∀ a, a < 1 → ∀ b, b < 1 → a ≠ b → (TX9 a).2.1 ≠ (TX9 b).2.1 := by decide +kernel
theorem tyX9_ok : ∀ k, k < 1 → parseFieldDescriptor (TX9 k).2.2.1 = some (tyX9 k) := by decide +kernel
abbrev cX9_init : ByteArray := prog_9_method_1_code
def yX9_init : MethodName := ⟨RX9, "<init>", "(LSkeletons$Branch;)V"⟩
def dkwX9_init_0 : List UInt8 := [42, 183, 0, 3, 42, 43, 181, 0, 9, 177]
abbrev dktX9_init_0 : List UInt8 := dkwX9_init_0 ++ []
theorem dksX9_init_0 : cX9_init.data.toList.drop 0 = dktX9_init_0 := by decide +kernel
theorem dX9_init_0 : decode cX9_init 0 = .ok (.aload_n 0, 1) := dk_42 (dk_at dksX9_init_0 0 rfl rfl)
theorem dX9_init_1 : decode cX9_init 1 = .ok (.invokespecial 3, 3) := dk_183 0 3 (dk_at dksX9_init_0 1 rfl rfl)
theorem dX9_init_4 : decode cX9_init 4 = .ok (.aload_n 0, 1) := dk_42 (dk_at dksX9_init_0 4 rfl rfl)
theorem dX9_init_5 : decode cX9_init 5 = .ok (.aload_n 1, 1) := dk_43 (dk_at dksX9_init_0 5 rfl rfl)
theorem dX9_init_6 : decode cX9_init 6 = .ok (.putfield 9, 3) := dk_181 0 9 (dk_at dksX9_init_0 6 rfl rfl)
theorem dX9_init_9 : decode cX9_init 9 = .ok (.return_, 1) := dk_177 (dk_at dksX9_init_0 9 rfl rfl)
abbrev cX9_root : ByteArray := prog_9_method_16_code
def yX9_root : MethodName := ⟨RX9, "root", "()LSkeletons$Branch;"⟩
theorem dX9_root_0 : decode cX9_root 0 = .ok (.aload_n 0, 1) := by decide +kernel
theorem dX9_root_1 : decode cX9_root 1 = .ok (.getfield 9, 3) := by decide +kernel
theorem dX9_root_4 : decode cX9_root 4 = .ok (.areturn, 1) := by decide +kernel
abbrev cX9_forms : ByteArray := prog_9_method_7_code
def yX9_forms : MethodName := ⟨RX9, "forms", "()J"⟩
def dkwX9_forms_1 : List UInt8 := [182, 0, 50, 105, 97, 20, 0, 53, 109, 173]
abbrev dktX9_forms_1 : List UInt8 := dkwX9_forms_1 ++ []
def dkwX9_forms_0 : List UInt8 := [42, 182, 0, 36, 42, 182, 0, 40, 105, 20, 0, 43, 42, 182, 0, 45, 105, 97, 20, 0, 48, 42]
abbrev dktX9_forms_0 : List UInt8 := dkwX9_forms_0 ++ dktX9_forms_1
theorem dksX9_forms_0 : cX9_forms.data.toList.drop 0 = dktX9_forms_0 := by decide +kernel
theorem dksX9_forms_1 : cX9_forms.data.toList.drop 22 = dktX9_forms_1 := dk_seg dksX9_forms_0 22 rfl rfl
theorem dX9_forms_0 : decode cX9_forms 0 = .ok (.aload_n 0, 1) := dk_42 (dk_at dksX9_forms_0 0 rfl rfl)
theorem dX9_forms_1 : decode cX9_forms 1 = .ok (.invokevirtual 36, 3) := dk_182 0 36 (dk_at dksX9_forms_0 1 rfl rfl)
theorem dX9_forms_4 : decode cX9_forms 4 = .ok (.aload_n 0, 1) := dk_42 (dk_at dksX9_forms_0 4 rfl rfl)
theorem dX9_forms_5 : decode cX9_forms 5 = .ok (.invokevirtual 40, 3) := dk_182 0 40 (dk_at dksX9_forms_0 5 rfl rfl)
theorem dX9_forms_8 : decode cX9_forms 8 = .ok (.lmul, 1) := dk_105 (dk_at dksX9_forms_0 8 rfl rfl)
theorem dX9_forms_9 : decode cX9_forms 9 = .ok (.ldc2_w 43, 3) := dk_20 0 43 (dk_at dksX9_forms_0 9 rfl rfl)
theorem dX9_forms_12 : decode cX9_forms 12 = .ok (.aload_n 0, 1) := dk_42 (dk_at dksX9_forms_0 12 rfl rfl)
theorem dX9_forms_13 : decode cX9_forms 13 = .ok (.invokevirtual 45, 3) := dk_182 0 45 (dk_at dksX9_forms_0 13 rfl rfl)
theorem dX9_forms_16 : decode cX9_forms 16 = .ok (.lmul, 1) := dk_105 (dk_at dksX9_forms_0 16 rfl rfl)
theorem dX9_forms_17 : decode cX9_forms 17 = .ok (.ladd, 1) := dk_97 (dk_at dksX9_forms_0 17 rfl rfl)
theorem dX9_forms_18 : decode cX9_forms 18 = .ok (.ldc2_w 48, 3) := dk_20 0 48 (dk_at dksX9_forms_0 18 rfl rfl)
theorem dX9_forms_21 : decode cX9_forms 21 = .ok (.aload_n 0, 1) := dk_42 (dk_at dksX9_forms_0 21 rfl rfl)
theorem dX9_forms_22 : decode cX9_forms 22 = .ok (.invokevirtual 50, 3) := dk_182 0 50 (dk_at dksX9_forms_1 0 rfl rfl)
theorem dX9_forms_25 : decode cX9_forms 25 = .ok (.lmul, 1) := dk_105 (dk_at dksX9_forms_1 3 rfl rfl)
theorem dX9_forms_26 : decode cX9_forms 26 = .ok (.ladd, 1) := dk_97 (dk_at dksX9_forms_1 4 rfl rfl)
theorem dX9_forms_27 : decode cX9_forms 27 = .ok (.ldc2_w 53, 3) := dk_20 0 53 (dk_at dksX9_forms_1 5 rfl rfl)
theorem dX9_forms_30 : decode cX9_forms 30 = .ok (.ldiv, 1) := dk_109 (dk_at dksX9_forms_1 8 rfl rfl)
theorem dX9_forms_31 : decode cX9_forms 31 = .ok (.lreturn, 1) := dk_173 (dk_at dksX9_forms_1 9 rfl rfl)
abbrev cX9_orders : ByteArray := prog_9_method_3_code
def yX9_orders : MethodName := ⟨RX9, "orders", "()J"⟩
def dkwX9_orders_2 : List UInt8 := [167, 255, 222, 31, 21, 4, 133, 109, 64, 132, 3, 1, 167, 255, 202, 31, 173]
abbrev dktX9_orders_2 : List UInt8 := dkwX9_orders_2 ++ []
def dkwX9_orders_1 : List UInt8 := [29, 21, 4, 100, 182, 0, 23, 42, 180, 0, 9, 29, 182, 0, 23, 184, 0, 27, 153, 0, 9, 132, 4, 1]
abbrev dktX9_orders_1 : List UInt8 := dkwX9_orders_1 ++ dktX9_orders_2
def dkwX9_orders_0 : List UInt8 := [20, 0, 21, 64, 3, 62, 29, 7, 162, 0, 55, 4, 54, 4, 21, 4, 29, 163, 0, 34, 42, 180, 0, 9]
abbrev dktX9_orders_0 : List UInt8 := dkwX9_orders_0 ++ dktX9_orders_1
theorem dksX9_orders_0 : cX9_orders.data.toList.drop 0 = dktX9_orders_0 := by decide +kernel
theorem dksX9_orders_1 : cX9_orders.data.toList.drop 24 = dktX9_orders_1 := dk_seg dksX9_orders_0 24 rfl rfl
theorem dksX9_orders_2 : cX9_orders.data.toList.drop 48 = dktX9_orders_2 := dk_seg dksX9_orders_1 24 rfl rfl
theorem dX9_orders_0 : decode cX9_orders 0 = .ok (.ldc2_w 21, 3) := dk_20 0 21 (dk_at dksX9_orders_0 0 rfl rfl)
theorem dX9_orders_3 : decode cX9_orders 3 = .ok (.lstore_n 1, 1) := dk_64 (dk_at dksX9_orders_0 3 rfl rfl)
theorem dX9_orders_4 : decode cX9_orders 4 = .ok (.iconst 0, 1) := dk_3 (dk_at dksX9_orders_0 4 rfl rfl)
theorem dX9_orders_5 : decode cX9_orders 5 = .ok (.istore_n 3, 1) := dk_62 (dk_at dksX9_orders_0 5 rfl rfl)
theorem dX9_orders_6 : decode cX9_orders 6 = .ok (.iload_n 3, 1) := dk_29 (dk_at dksX9_orders_0 6 rfl rfl)
theorem dX9_orders_7 : decode cX9_orders 7 = .ok (.iconst 4, 1) := dk_7 (dk_at dksX9_orders_0 7 rfl rfl)
theorem dX9_orders_8 : decode cX9_orders 8 = .ok (.if_icmp .ge 55, 3) := dk_162 0 55 (dk_at dksX9_orders_0 8 rfl rfl)
theorem dX9_orders_11 : decode cX9_orders 11 = .ok (.iconst 1, 1) := dk_4 (dk_at dksX9_orders_0 11 rfl rfl)
theorem dX9_orders_12 : decode cX9_orders 12 = .ok (.istore 4, 2) := dk_54 4 (dk_at dksX9_orders_0 12 rfl rfl)
theorem dX9_orders_14 : decode cX9_orders 14 = .ok (.iload 4, 2) := dk_21 4 (dk_at dksX9_orders_0 14 rfl rfl)
theorem dX9_orders_16 : decode cX9_orders 16 = .ok (.iload_n 3, 1) := dk_29 (dk_at dksX9_orders_0 16 rfl rfl)
theorem dX9_orders_17 : decode cX9_orders 17 = .ok (.if_icmp .gt 34, 3) := dk_163 0 34 (dk_at dksX9_orders_0 17 rfl rfl)
theorem dX9_orders_20 : decode cX9_orders 20 = .ok (.aload_n 0, 1) := dk_42 (dk_at dksX9_orders_0 20 rfl rfl)
theorem dX9_orders_21 : decode cX9_orders 21 = .ok (.getfield 9, 3) := dk_180 0 9 (dk_at dksX9_orders_0 21 rfl rfl)
theorem dX9_orders_24 : decode cX9_orders 24 = .ok (.iload_n 3, 1) := dk_29 (dk_at dksX9_orders_1 0 rfl rfl)
theorem dX9_orders_25 : decode cX9_orders 25 = .ok (.iload 4, 2) := dk_21 4 (dk_at dksX9_orders_1 1 rfl rfl)
theorem dX9_orders_27 : decode cX9_orders 27 = .ok (.isub, 1) := dk_100 (dk_at dksX9_orders_1 3 rfl rfl)
theorem dX9_orders_28 : decode cX9_orders 28 = .ok (.invokevirtual 23, 3) := dk_182 0 23 (dk_at dksX9_orders_1 4 rfl rfl)
theorem dX9_orders_31 : decode cX9_orders 31 = .ok (.aload_n 0, 1) := dk_42 (dk_at dksX9_orders_1 7 rfl rfl)
theorem dX9_orders_32 : decode cX9_orders 32 = .ok (.getfield 9, 3) := dk_180 0 9 (dk_at dksX9_orders_1 8 rfl rfl)
theorem dX9_orders_35 : decode cX9_orders 35 = .ok (.iload_n 3, 1) := dk_29 (dk_at dksX9_orders_1 11 rfl rfl)
theorem dX9_orders_36 : decode cX9_orders 36 = .ok (.invokevirtual 23, 3) := dk_182 0 23 (dk_at dksX9_orders_1 12 rfl rfl)
theorem dX9_orders_39 : decode cX9_orders 39 = .ok (.invokestatic 27, 3) := dk_184 0 27 (dk_at dksX9_orders_1 15 rfl rfl)
theorem dX9_orders_42 : decode cX9_orders 42 = .ok (.ifCond .eq 9, 3) := dk_153 0 9 (dk_at dksX9_orders_1 18 rfl rfl)
theorem dX9_orders_45 : decode cX9_orders 45 = .ok (.iinc 4 1, 3) := dk_132 4 1 (dk_at dksX9_orders_1 21 rfl rfl)
theorem dX9_orders_48 : decode cX9_orders 48 = .ok (.goto (-34), 3) := dk_167 255 222 (dk_at dksX9_orders_2 0 rfl rfl)
theorem dX9_orders_51 : decode cX9_orders 51 = .ok (.lload_n 1, 1) := dk_31 (dk_at dksX9_orders_2 3 rfl rfl)
theorem dX9_orders_52 : decode cX9_orders 52 = .ok (.iload 4, 2) := dk_21 4 (dk_at dksX9_orders_2 4 rfl rfl)
theorem dX9_orders_54 : decode cX9_orders 54 = .ok (.i2l, 1) := dk_133 (dk_at dksX9_orders_2 6 rfl rfl)
theorem dX9_orders_55 : decode cX9_orders 55 = .ok (.ldiv, 1) := dk_109 (dk_at dksX9_orders_2 7 rfl rfl)
theorem dX9_orders_56 : decode cX9_orders 56 = .ok (.lstore_n 1, 1) := dk_64 (dk_at dksX9_orders_2 8 rfl rfl)
theorem dX9_orders_57 : decode cX9_orders 57 = .ok (.iinc 3 1, 3) := dk_132 3 1 (dk_at dksX9_orders_2 9 rfl rfl)
theorem dX9_orders_60 : decode cX9_orders 60 = .ok (.goto (-54), 3) := dk_167 255 202 (dk_at dksX9_orders_2 12 rfl rfl)
theorem dX9_orders_63 : decode cX9_orders 63 = .ok (.lload_n 1, 1) := dk_31 (dk_at dksX9_orders_2 15 rfl rfl)
theorem dX9_orders_64 : decode cX9_orders 64 = .ok (.lreturn, 1) := dk_173 (dk_at dksX9_orders_2 16 rfl rfl)
abbrev cX9_areSame : ByteArray := prog_9_method_2_code
def yX9_areSame : MethodName := ⟨RX9, "areSame", "(LSkeletons$Branch;LSkeletons$Branch;)Z"⟩
def dkwX9_areSame_0 : List UInt8 := [42, 43, 184, 0, 15, 172]
abbrev dktX9_areSame_0 : List UInt8 := dkwX9_areSame_0 ++ []
theorem dksX9_areSame_0 : cX9_areSame.data.toList.drop 0 = dktX9_areSame_0 := by decide +kernel
theorem dX9_areSame_0 : decode cX9_areSame 0 = .ok (.aload_n 0, 1) := dk_42 (dk_at dksX9_areSame_0 0 rfl rfl)
theorem dX9_areSame_1 : decode cX9_areSame 1 = .ok (.aload_n 1, 1) := dk_43 (dk_at dksX9_areSame_0 1 rfl rfl)
theorem dX9_areSame_2 : decode cX9_areSame 2 = .ok (.invokestatic 15, 3) := dk_184 0 15 (dk_at dksX9_areSame_0 2 rfl rfl)
theorem dX9_areSame_5 : decode cX9_areSame 5 = .ok (.ireturn, 1) := dk_172 (dk_at dksX9_areSame_0 5 rfl rfl)
abbrev cX9_product : ByteArray := prog_9_method_4_code
def yX9_product : MethodName := ⟨RX9, "product", "()J"⟩
def dkwX9_product_1 : List UInt8 := [132, 3, 1, 167, 255, 234, 31, 173]
abbrev dktX9_product_1 : List UInt8 := dkwX9_product_1 ++ []
def dkwX9_product_0 : List UInt8 := [10, 64, 3, 62, 29, 7, 162, 0, 23, 31, 42, 180, 0, 9, 29, 182, 0, 23, 184, 0, 30, 105, 64]
abbrev dktX9_product_0 : List UInt8 := dkwX9_product_0 ++ dktX9_product_1
theorem dksX9_product_0 : cX9_product.data.toList.drop 0 = dktX9_product_0 := by decide +kernel
theorem dksX9_product_1 : cX9_product.data.toList.drop 23 = dktX9_product_1 := dk_seg dksX9_product_0 23 rfl rfl
theorem dX9_product_0 : decode cX9_product 0 = .ok (.lconst 1, 1) := dk_10 (dk_at dksX9_product_0 0 rfl rfl)
theorem dX9_product_1 : decode cX9_product 1 = .ok (.lstore_n 1, 1) := dk_64 (dk_at dksX9_product_0 1 rfl rfl)
theorem dX9_product_2 : decode cX9_product 2 = .ok (.iconst 0, 1) := dk_3 (dk_at dksX9_product_0 2 rfl rfl)
theorem dX9_product_3 : decode cX9_product 3 = .ok (.istore_n 3, 1) := dk_62 (dk_at dksX9_product_0 3 rfl rfl)
theorem dX9_product_4 : decode cX9_product 4 = .ok (.iload_n 3, 1) := dk_29 (dk_at dksX9_product_0 4 rfl rfl)
theorem dX9_product_5 : decode cX9_product 5 = .ok (.iconst 4, 1) := dk_7 (dk_at dksX9_product_0 5 rfl rfl)
theorem dX9_product_6 : decode cX9_product 6 = .ok (.if_icmp .ge 23, 3) := dk_162 0 23 (dk_at dksX9_product_0 6 rfl rfl)
theorem dX9_product_9 : decode cX9_product 9 = .ok (.lload_n 1, 1) := dk_31 (dk_at dksX9_product_0 9 rfl rfl)
theorem dX9_product_10 : decode cX9_product 10 = .ok (.aload_n 0, 1) := dk_42 (dk_at dksX9_product_0 10 rfl rfl)
theorem dX9_product_11 : decode cX9_product 11 = .ok (.getfield 9, 3) := dk_180 0 9 (dk_at dksX9_product_0 11 rfl rfl)
theorem dX9_product_14 : decode cX9_product 14 = .ok (.iload_n 3, 1) := dk_29 (dk_at dksX9_product_0 14 rfl rfl)
theorem dX9_product_15 : decode cX9_product 15 = .ok (.invokevirtual 23, 3) := dk_182 0 23 (dk_at dksX9_product_0 15 rfl rfl)
theorem dX9_product_18 : decode cX9_product 18 = .ok (.invokestatic 30, 3) := dk_184 0 30 (dk_at dksX9_product_0 18 rfl rfl)
theorem dX9_product_21 : decode cX9_product 21 = .ok (.lmul, 1) := dk_105 (dk_at dksX9_product_0 21 rfl rfl)
theorem dX9_product_22 : decode cX9_product 22 = .ok (.lstore_n 1, 1) := dk_64 (dk_at dksX9_product_0 22 rfl rfl)
theorem dX9_product_23 : decode cX9_product 23 = .ok (.iinc 3 1, 3) := dk_132 3 1 (dk_at dksX9_product_1 0 rfl rfl)
theorem dX9_product_26 : decode cX9_product 26 = .ok (.goto (-22), 3) := dk_167 255 234 (dk_at dksX9_product_1 3 rfl rfl)
theorem dX9_product_29 : decode cX9_product 29 = .ok (.lload_n 1, 1) := dk_31 (dk_at dksX9_product_1 6 rfl rfl)
theorem dX9_product_30 : decode cX9_product 30 = .ok (.lreturn, 1) := dk_173 (dk_at dksX9_product_1 7 rfl rfl)
abbrev cX9_twos : ByteArray := prog_9_method_5_code
def yX9_twos : MethodName := ⟨RX9, "twos", "()J"⟩
def dkwX9_twos_4 : List UInt8 := [167, 0, 8, 20, 0, 34, 31, 105, 173]
abbrev dktX9_twos_4 : List UInt8 := dkwX9_twos_4 ++ []
def dkwX9_twos_3 : List UInt8 := [180, 0, 9, 4, 182, 0, 23, 42, 180, 0, 9, 5, 182, 0, 23, 184, 0, 27, 153, 0, 7, 31]
abbrev dktX9_twos_3 : List UInt8 := dkwX9_twos_3 ++ dktX9_twos_4
def dkwX9_twos_2 : List UInt8 := [180, 0, 9, 3, 182, 0, 23, 184, 0, 30, 42, 180, 0, 9, 5, 182, 0, 23, 184, 0, 30, 105, 64, 42]
abbrev dktX9_twos_2 : List UInt8 := dkwX9_twos_2 ++ dktX9_twos_3
def dkwX9_twos_1 : List UInt8 := [180, 0, 9, 5, 182, 0, 23, 42, 180, 0, 9, 6, 182, 0, 23, 184, 0, 27, 154, 0, 5, 9, 173, 42]
abbrev dktX9_twos_1 : List UInt8 := dkwX9_twos_1 ++ dktX9_twos_2
def dkwX9_twos_0 : List UInt8 := [42, 180, 0, 9, 3, 182, 0, 23, 42, 180, 0, 9, 4, 182, 0, 23, 184, 0, 27, 153, 0, 25, 42]
abbrev dktX9_twos_0 : List UInt8 := dkwX9_twos_0 ++ dktX9_twos_1
theorem dksX9_twos_0 : cX9_twos.data.toList.drop 0 = dktX9_twos_0 := by decide +kernel
theorem dksX9_twos_1 : cX9_twos.data.toList.drop 23 = dktX9_twos_1 := dk_seg dksX9_twos_0 23 rfl rfl
theorem dksX9_twos_2 : cX9_twos.data.toList.drop 47 = dktX9_twos_2 := dk_seg dksX9_twos_1 24 rfl rfl
theorem dksX9_twos_3 : cX9_twos.data.toList.drop 71 = dktX9_twos_3 := dk_seg dksX9_twos_2 24 rfl rfl
theorem dksX9_twos_4 : cX9_twos.data.toList.drop 93 = dktX9_twos_4 := dk_seg dksX9_twos_3 22 rfl rfl
theorem dX9_twos_0 : decode cX9_twos 0 = .ok (.aload_n 0, 1) := dk_42 (dk_at dksX9_twos_0 0 rfl rfl)
theorem dX9_twos_1 : decode cX9_twos 1 = .ok (.getfield 9, 3) := dk_180 0 9 (dk_at dksX9_twos_0 1 rfl rfl)
theorem dX9_twos_4 : decode cX9_twos 4 = .ok (.iconst 0, 1) := dk_3 (dk_at dksX9_twos_0 4 rfl rfl)
theorem dX9_twos_5 : decode cX9_twos 5 = .ok (.invokevirtual 23, 3) := dk_182 0 23 (dk_at dksX9_twos_0 5 rfl rfl)
theorem dX9_twos_8 : decode cX9_twos 8 = .ok (.aload_n 0, 1) := dk_42 (dk_at dksX9_twos_0 8 rfl rfl)
theorem dX9_twos_9 : decode cX9_twos 9 = .ok (.getfield 9, 3) := dk_180 0 9 (dk_at dksX9_twos_0 9 rfl rfl)
theorem dX9_twos_12 : decode cX9_twos 12 = .ok (.iconst 1, 1) := dk_4 (dk_at dksX9_twos_0 12 rfl rfl)
theorem dX9_twos_13 : decode cX9_twos 13 = .ok (.invokevirtual 23, 3) := dk_182 0 23 (dk_at dksX9_twos_0 13 rfl rfl)
theorem dX9_twos_16 : decode cX9_twos 16 = .ok (.invokestatic 27, 3) := dk_184 0 27 (dk_at dksX9_twos_0 16 rfl rfl)
theorem dX9_twos_19 : decode cX9_twos 19 = .ok (.ifCond .eq 25, 3) := dk_153 0 25 (dk_at dksX9_twos_0 19 rfl rfl)
theorem dX9_twos_22 : decode cX9_twos 22 = .ok (.aload_n 0, 1) := dk_42 (dk_at dksX9_twos_0 22 rfl rfl)
theorem dX9_twos_23 : decode cX9_twos 23 = .ok (.getfield 9, 3) := dk_180 0 9 (dk_at dksX9_twos_1 0 rfl rfl)
theorem dX9_twos_26 : decode cX9_twos 26 = .ok (.iconst 2, 1) := dk_5 (dk_at dksX9_twos_1 3 rfl rfl)
theorem dX9_twos_27 : decode cX9_twos 27 = .ok (.invokevirtual 23, 3) := dk_182 0 23 (dk_at dksX9_twos_1 4 rfl rfl)
theorem dX9_twos_30 : decode cX9_twos 30 = .ok (.aload_n 0, 1) := dk_42 (dk_at dksX9_twos_1 7 rfl rfl)
theorem dX9_twos_31 : decode cX9_twos 31 = .ok (.getfield 9, 3) := dk_180 0 9 (dk_at dksX9_twos_1 8 rfl rfl)
theorem dX9_twos_34 : decode cX9_twos 34 = .ok (.iconst 3, 1) := dk_6 (dk_at dksX9_twos_1 11 rfl rfl)
theorem dX9_twos_35 : decode cX9_twos 35 = .ok (.invokevirtual 23, 3) := dk_182 0 23 (dk_at dksX9_twos_1 12 rfl rfl)
theorem dX9_twos_38 : decode cX9_twos 38 = .ok (.invokestatic 27, 3) := dk_184 0 27 (dk_at dksX9_twos_1 15 rfl rfl)
theorem dX9_twos_41 : decode cX9_twos 41 = .ok (.ifCond .ne 5, 3) := dk_154 0 5 (dk_at dksX9_twos_1 18 rfl rfl)
theorem dX9_twos_44 : decode cX9_twos 44 = .ok (.lconst 0, 1) := dk_9 (dk_at dksX9_twos_1 21 rfl rfl)
theorem dX9_twos_45 : decode cX9_twos 45 = .ok (.lreturn, 1) := dk_173 (dk_at dksX9_twos_1 22 rfl rfl)
theorem dX9_twos_46 : decode cX9_twos 46 = .ok (.aload_n 0, 1) := dk_42 (dk_at dksX9_twos_1 23 rfl rfl)
theorem dX9_twos_47 : decode cX9_twos 47 = .ok (.getfield 9, 3) := dk_180 0 9 (dk_at dksX9_twos_2 0 rfl rfl)
theorem dX9_twos_50 : decode cX9_twos 50 = .ok (.iconst 0, 1) := dk_3 (dk_at dksX9_twos_2 3 rfl rfl)
theorem dX9_twos_51 : decode cX9_twos 51 = .ok (.invokevirtual 23, 3) := dk_182 0 23 (dk_at dksX9_twos_2 4 rfl rfl)
theorem dX9_twos_54 : decode cX9_twos 54 = .ok (.invokestatic 30, 3) := dk_184 0 30 (dk_at dksX9_twos_2 7 rfl rfl)
theorem dX9_twos_57 : decode cX9_twos 57 = .ok (.aload_n 0, 1) := dk_42 (dk_at dksX9_twos_2 10 rfl rfl)
theorem dX9_twos_58 : decode cX9_twos 58 = .ok (.getfield 9, 3) := dk_180 0 9 (dk_at dksX9_twos_2 11 rfl rfl)
theorem dX9_twos_61 : decode cX9_twos 61 = .ok (.iconst 2, 1) := dk_5 (dk_at dksX9_twos_2 14 rfl rfl)
theorem dX9_twos_62 : decode cX9_twos 62 = .ok (.invokevirtual 23, 3) := dk_182 0 23 (dk_at dksX9_twos_2 15 rfl rfl)
theorem dX9_twos_65 : decode cX9_twos 65 = .ok (.invokestatic 30, 3) := dk_184 0 30 (dk_at dksX9_twos_2 18 rfl rfl)
theorem dX9_twos_68 : decode cX9_twos 68 = .ok (.lmul, 1) := dk_105 (dk_at dksX9_twos_2 21 rfl rfl)
theorem dX9_twos_69 : decode cX9_twos 69 = .ok (.lstore_n 1, 1) := dk_64 (dk_at dksX9_twos_2 22 rfl rfl)
theorem dX9_twos_70 : decode cX9_twos 70 = .ok (.aload_n 0, 1) := dk_42 (dk_at dksX9_twos_2 23 rfl rfl)
theorem dX9_twos_71 : decode cX9_twos 71 = .ok (.getfield 9, 3) := dk_180 0 9 (dk_at dksX9_twos_3 0 rfl rfl)
theorem dX9_twos_74 : decode cX9_twos 74 = .ok (.iconst 1, 1) := dk_4 (dk_at dksX9_twos_3 3 rfl rfl)
theorem dX9_twos_75 : decode cX9_twos 75 = .ok (.invokevirtual 23, 3) := dk_182 0 23 (dk_at dksX9_twos_3 4 rfl rfl)
theorem dX9_twos_78 : decode cX9_twos 78 = .ok (.aload_n 0, 1) := dk_42 (dk_at dksX9_twos_3 7 rfl rfl)
theorem dX9_twos_79 : decode cX9_twos 79 = .ok (.getfield 9, 3) := dk_180 0 9 (dk_at dksX9_twos_3 8 rfl rfl)
theorem dX9_twos_82 : decode cX9_twos 82 = .ok (.iconst 2, 1) := dk_5 (dk_at dksX9_twos_3 11 rfl rfl)
theorem dX9_twos_83 : decode cX9_twos 83 = .ok (.invokevirtual 23, 3) := dk_182 0 23 (dk_at dksX9_twos_3 12 rfl rfl)
theorem dX9_twos_86 : decode cX9_twos 86 = .ok (.invokestatic 27, 3) := dk_184 0 27 (dk_at dksX9_twos_3 15 rfl rfl)
theorem dX9_twos_89 : decode cX9_twos 89 = .ok (.ifCond .eq 7, 3) := dk_153 0 7 (dk_at dksX9_twos_3 18 rfl rfl)
theorem dX9_twos_92 : decode cX9_twos 92 = .ok (.lload_n 1, 1) := dk_31 (dk_at dksX9_twos_3 21 rfl rfl)
theorem dX9_twos_93 : decode cX9_twos 93 = .ok (.goto 8, 3) := dk_167 0 8 (dk_at dksX9_twos_4 0 rfl rfl)
theorem dX9_twos_96 : decode cX9_twos 96 = .ok (.ldc2_w 34, 3) := dk_20 0 34 (dk_at dksX9_twos_4 3 rfl rfl)
theorem dX9_twos_99 : decode cX9_twos 99 = .ok (.lload_n 1, 1) := dk_31 (dk_at dksX9_twos_4 6 rfl rfl)
theorem dX9_twos_100 : decode cX9_twos 100 = .ok (.lmul, 1) := dk_105 (dk_at dksX9_twos_4 7 rfl rfl)
theorem dX9_twos_101 : decode cX9_twos 101 = .ok (.lreturn, 1) := dk_173 (dk_at dksX9_twos_4 8 rfl rfl)
abbrev cX9_threes : ByteArray := prog_9_method_6_code
def yX9_threes : MethodName := ⟨RX9, "threes", "()J"⟩
def dkwX9_threes_4 : List UInt8 := [167, 0, 4, 9, 173]
abbrev dktX9_threes_4 : List UInt8 := dkwX9_threes_4 ++ []
def dkwX9_threes_3 : List UInt8 := [180, 0, 9, 4, 182, 0, 23, 184, 0, 30, 42, 180, 0, 9, 3, 182, 0, 23, 184, 0, 30, 105]
abbrev dktX9_threes_3 : List UInt8 := dkwX9_threes_3 ++ dktX9_threes_4
def dkwX9_threes_2 : List UInt8 := [180, 0, 9, 4, 182, 0, 23, 42, 180, 0, 9, 6, 182, 0, 23, 184, 0, 27, 153, 0, 29, 42]
abbrev dktX9_threes_2 : List UInt8 := dkwX9_threes_2 ++ dktX9_threes_3
def dkwX9_threes_1 : List UInt8 := [180, 0, 9, 3, 182, 0, 23, 184, 0, 30, 42, 180, 0, 9, 6, 182, 0, 23, 184, 0, 30, 105, 173, 42]
abbrev dktX9_threes_1 : List UInt8 := dkwX9_threes_1 ++ dktX9_threes_2
def dkwX9_threes_0 : List UInt8 := [42, 180, 0, 9, 3, 182, 0, 23, 42, 180, 0, 9, 5, 182, 0, 23, 184, 0, 27, 153, 0, 27, 42]
abbrev dktX9_threes_0 : List UInt8 := dkwX9_threes_0 ++ dktX9_threes_1
theorem dksX9_threes_0 : cX9_threes.data.toList.drop 0 = dktX9_threes_0 := by decide +kernel
theorem dksX9_threes_1 : cX9_threes.data.toList.drop 23 = dktX9_threes_1 := dk_seg dksX9_threes_0 23 rfl rfl
theorem dksX9_threes_2 : cX9_threes.data.toList.drop 47 = dktX9_threes_2 := dk_seg dksX9_threes_1 24 rfl rfl
theorem dksX9_threes_3 : cX9_threes.data.toList.drop 69 = dktX9_threes_3 := dk_seg dksX9_threes_2 22 rfl rfl
theorem dksX9_threes_4 : cX9_threes.data.toList.drop 91 = dktX9_threes_4 := dk_seg dksX9_threes_3 22 rfl rfl
theorem dX9_threes_0 : decode cX9_threes 0 = .ok (.aload_n 0, 1) := dk_42 (dk_at dksX9_threes_0 0 rfl rfl)
theorem dX9_threes_1 : decode cX9_threes 1 = .ok (.getfield 9, 3) := dk_180 0 9 (dk_at dksX9_threes_0 1 rfl rfl)
theorem dX9_threes_4 : decode cX9_threes 4 = .ok (.iconst 0, 1) := dk_3 (dk_at dksX9_threes_0 4 rfl rfl)
theorem dX9_threes_5 : decode cX9_threes 5 = .ok (.invokevirtual 23, 3) := dk_182 0 23 (dk_at dksX9_threes_0 5 rfl rfl)
theorem dX9_threes_8 : decode cX9_threes 8 = .ok (.aload_n 0, 1) := dk_42 (dk_at dksX9_threes_0 8 rfl rfl)
theorem dX9_threes_9 : decode cX9_threes 9 = .ok (.getfield 9, 3) := dk_180 0 9 (dk_at dksX9_threes_0 9 rfl rfl)
theorem dX9_threes_12 : decode cX9_threes 12 = .ok (.iconst 2, 1) := dk_5 (dk_at dksX9_threes_0 12 rfl rfl)
theorem dX9_threes_13 : decode cX9_threes 13 = .ok (.invokevirtual 23, 3) := dk_182 0 23 (dk_at dksX9_threes_0 13 rfl rfl)
theorem dX9_threes_16 : decode cX9_threes 16 = .ok (.invokestatic 27, 3) := dk_184 0 27 (dk_at dksX9_threes_0 16 rfl rfl)
theorem dX9_threes_19 : decode cX9_threes 19 = .ok (.ifCond .eq 27, 3) := dk_153 0 27 (dk_at dksX9_threes_0 19 rfl rfl)
theorem dX9_threes_22 : decode cX9_threes 22 = .ok (.aload_n 0, 1) := dk_42 (dk_at dksX9_threes_0 22 rfl rfl)
theorem dX9_threes_23 : decode cX9_threes 23 = .ok (.getfield 9, 3) := dk_180 0 9 (dk_at dksX9_threes_1 0 rfl rfl)
theorem dX9_threes_26 : decode cX9_threes 26 = .ok (.iconst 0, 1) := dk_3 (dk_at dksX9_threes_1 3 rfl rfl)
theorem dX9_threes_27 : decode cX9_threes 27 = .ok (.invokevirtual 23, 3) := dk_182 0 23 (dk_at dksX9_threes_1 4 rfl rfl)
theorem dX9_threes_30 : decode cX9_threes 30 = .ok (.invokestatic 30, 3) := dk_184 0 30 (dk_at dksX9_threes_1 7 rfl rfl)
theorem dX9_threes_33 : decode cX9_threes 33 = .ok (.aload_n 0, 1) := dk_42 (dk_at dksX9_threes_1 10 rfl rfl)
theorem dX9_threes_34 : decode cX9_threes 34 = .ok (.getfield 9, 3) := dk_180 0 9 (dk_at dksX9_threes_1 11 rfl rfl)
theorem dX9_threes_37 : decode cX9_threes 37 = .ok (.iconst 3, 1) := dk_6 (dk_at dksX9_threes_1 14 rfl rfl)
theorem dX9_threes_38 : decode cX9_threes 38 = .ok (.invokevirtual 23, 3) := dk_182 0 23 (dk_at dksX9_threes_1 15 rfl rfl)
theorem dX9_threes_41 : decode cX9_threes 41 = .ok (.invokestatic 30, 3) := dk_184 0 30 (dk_at dksX9_threes_1 18 rfl rfl)
theorem dX9_threes_44 : decode cX9_threes 44 = .ok (.lmul, 1) := dk_105 (dk_at dksX9_threes_1 21 rfl rfl)
theorem dX9_threes_45 : decode cX9_threes 45 = .ok (.lreturn, 1) := dk_173 (dk_at dksX9_threes_1 22 rfl rfl)
theorem dX9_threes_46 : decode cX9_threes 46 = .ok (.aload_n 0, 1) := dk_42 (dk_at dksX9_threes_1 23 rfl rfl)
theorem dX9_threes_47 : decode cX9_threes 47 = .ok (.getfield 9, 3) := dk_180 0 9 (dk_at dksX9_threes_2 0 rfl rfl)
theorem dX9_threes_50 : decode cX9_threes 50 = .ok (.iconst 1, 1) := dk_4 (dk_at dksX9_threes_2 3 rfl rfl)
theorem dX9_threes_51 : decode cX9_threes 51 = .ok (.invokevirtual 23, 3) := dk_182 0 23 (dk_at dksX9_threes_2 4 rfl rfl)
theorem dX9_threes_54 : decode cX9_threes 54 = .ok (.aload_n 0, 1) := dk_42 (dk_at dksX9_threes_2 7 rfl rfl)
theorem dX9_threes_55 : decode cX9_threes 55 = .ok (.getfield 9, 3) := dk_180 0 9 (dk_at dksX9_threes_2 8 rfl rfl)
theorem dX9_threes_58 : decode cX9_threes 58 = .ok (.iconst 3, 1) := dk_6 (dk_at dksX9_threes_2 11 rfl rfl)
theorem dX9_threes_59 : decode cX9_threes 59 = .ok (.invokevirtual 23, 3) := dk_182 0 23 (dk_at dksX9_threes_2 12 rfl rfl)
theorem dX9_threes_62 : decode cX9_threes 62 = .ok (.invokestatic 27, 3) := dk_184 0 27 (dk_at dksX9_threes_2 15 rfl rfl)
theorem dX9_threes_65 : decode cX9_threes 65 = .ok (.ifCond .eq 29, 3) := dk_153 0 29 (dk_at dksX9_threes_2 18 rfl rfl)
theorem dX9_threes_68 : decode cX9_threes 68 = .ok (.aload_n 0, 1) := dk_42 (dk_at dksX9_threes_2 21 rfl rfl)
theorem dX9_threes_69 : decode cX9_threes 69 = .ok (.getfield 9, 3) := dk_180 0 9 (dk_at dksX9_threes_3 0 rfl rfl)
theorem dX9_threes_72 : decode cX9_threes 72 = .ok (.iconst 1, 1) := dk_4 (dk_at dksX9_threes_3 3 rfl rfl)
theorem dX9_threes_73 : decode cX9_threes 73 = .ok (.invokevirtual 23, 3) := dk_182 0 23 (dk_at dksX9_threes_3 4 rfl rfl)
theorem dX9_threes_76 : decode cX9_threes 76 = .ok (.invokestatic 30, 3) := dk_184 0 30 (dk_at dksX9_threes_3 7 rfl rfl)
theorem dX9_threes_79 : decode cX9_threes 79 = .ok (.aload_n 0, 1) := dk_42 (dk_at dksX9_threes_3 10 rfl rfl)
theorem dX9_threes_80 : decode cX9_threes 80 = .ok (.getfield 9, 3) := dk_180 0 9 (dk_at dksX9_threes_3 11 rfl rfl)
theorem dX9_threes_83 : decode cX9_threes 83 = .ok (.iconst 0, 1) := dk_3 (dk_at dksX9_threes_3 14 rfl rfl)
theorem dX9_threes_84 : decode cX9_threes 84 = .ok (.invokevirtual 23, 3) := dk_182 0 23 (dk_at dksX9_threes_3 15 rfl rfl)
theorem dX9_threes_87 : decode cX9_threes 87 = .ok (.invokestatic 30, 3) := dk_184 0 30 (dk_at dksX9_threes_3 18 rfl rfl)
theorem dX9_threes_90 : decode cX9_threes 90 = .ok (.lmul, 1) := dk_105 (dk_at dksX9_threes_3 21 rfl rfl)
theorem dX9_threes_91 : decode cX9_threes 91 = .ok (.goto 4, 3) := dk_167 0 4 (dk_at dksX9_threes_4 0 rfl rfl)
theorem dX9_threes_94 : decode cX9_threes 94 = .ok (.lconst 0, 1) := dk_9 (dk_at dksX9_threes_4 3 rfl rfl)
theorem dX9_threes_95 : decode cX9_threes 95 = .ok (.lreturn, 1) := dk_173 (dk_at dksX9_threes_4 4 rfl rfl)
abbrev cX9_own : ByteArray := prog_9_method_10_code
def yX9_own : MethodName := ⟨RX9, "own", "()J"⟩
def dkwX9_own_2 : List UInt8 := [109, 173]
abbrev dktX9_own_2 : List UInt8 := dkwX9_own_2 ++ []
def dkwX9_own_1 : List UInt8 := [180, 0, 9, 3, 182, 0, 23, 184, 0, 30, 167, 0, 4, 9, 64, 42, 182, 0, 62, 31, 97, 20, 0, 34]
abbrev dktX9_own_1 : List UInt8 := dkwX9_own_1 ++ dktX9_own_2
def dkwX9_own_0 : List UInt8 := [42, 180, 0, 9, 3, 182, 0, 23, 42, 180, 0, 9, 6, 182, 0, 23, 184, 0, 27, 153, 0, 17, 42]
abbrev dktX9_own_0 : List UInt8 := dkwX9_own_0 ++ dktX9_own_1
theorem dksX9_own_0 : cX9_own.data.toList.drop 0 = dktX9_own_0 := by decide +kernel
theorem dksX9_own_1 : cX9_own.data.toList.drop 23 = dktX9_own_1 := dk_seg dksX9_own_0 23 rfl rfl
theorem dksX9_own_2 : cX9_own.data.toList.drop 47 = dktX9_own_2 := dk_seg dksX9_own_1 24 rfl rfl
theorem dX9_own_0 : decode cX9_own 0 = .ok (.aload_n 0, 1) := dk_42 (dk_at dksX9_own_0 0 rfl rfl)
theorem dX9_own_1 : decode cX9_own 1 = .ok (.getfield 9, 3) := dk_180 0 9 (dk_at dksX9_own_0 1 rfl rfl)
theorem dX9_own_4 : decode cX9_own 4 = .ok (.iconst 0, 1) := dk_3 (dk_at dksX9_own_0 4 rfl rfl)
theorem dX9_own_5 : decode cX9_own 5 = .ok (.invokevirtual 23, 3) := dk_182 0 23 (dk_at dksX9_own_0 5 rfl rfl)
theorem dX9_own_8 : decode cX9_own 8 = .ok (.aload_n 0, 1) := dk_42 (dk_at dksX9_own_0 8 rfl rfl)
theorem dX9_own_9 : decode cX9_own 9 = .ok (.getfield 9, 3) := dk_180 0 9 (dk_at dksX9_own_0 9 rfl rfl)
theorem dX9_own_12 : decode cX9_own 12 = .ok (.iconst 3, 1) := dk_6 (dk_at dksX9_own_0 12 rfl rfl)
theorem dX9_own_13 : decode cX9_own 13 = .ok (.invokevirtual 23, 3) := dk_182 0 23 (dk_at dksX9_own_0 13 rfl rfl)
theorem dX9_own_16 : decode cX9_own 16 = .ok (.invokestatic 27, 3) := dk_184 0 27 (dk_at dksX9_own_0 16 rfl rfl)
theorem dX9_own_19 : decode cX9_own 19 = .ok (.ifCond .eq 17, 3) := dk_153 0 17 (dk_at dksX9_own_0 19 rfl rfl)
theorem dX9_own_22 : decode cX9_own 22 = .ok (.aload_n 0, 1) := dk_42 (dk_at dksX9_own_0 22 rfl rfl)
theorem dX9_own_23 : decode cX9_own 23 = .ok (.getfield 9, 3) := dk_180 0 9 (dk_at dksX9_own_1 0 rfl rfl)
theorem dX9_own_26 : decode cX9_own 26 = .ok (.iconst 0, 1) := dk_3 (dk_at dksX9_own_1 3 rfl rfl)
theorem dX9_own_27 : decode cX9_own 27 = .ok (.invokevirtual 23, 3) := dk_182 0 23 (dk_at dksX9_own_1 4 rfl rfl)
theorem dX9_own_30 : decode cX9_own 30 = .ok (.invokestatic 30, 3) := dk_184 0 30 (dk_at dksX9_own_1 7 rfl rfl)
theorem dX9_own_33 : decode cX9_own 33 = .ok (.goto 4, 3) := dk_167 0 4 (dk_at dksX9_own_1 10 rfl rfl)
theorem dX9_own_36 : decode cX9_own 36 = .ok (.lconst 0, 1) := dk_9 (dk_at dksX9_own_1 13 rfl rfl)
theorem dX9_own_37 : decode cX9_own 37 = .ok (.lstore_n 1, 1) := dk_64 (dk_at dksX9_own_1 14 rfl rfl)
theorem dX9_own_38 : decode cX9_own 38 = .ok (.aload_n 0, 1) := dk_42 (dk_at dksX9_own_1 15 rfl rfl)
theorem dX9_own_39 : decode cX9_own 39 = .ok (.invokevirtual 62, 3) := dk_182 0 62 (dk_at dksX9_own_1 16 rfl rfl)
theorem dX9_own_42 : decode cX9_own 42 = .ok (.lload_n 1, 1) := dk_31 (dk_at dksX9_own_1 19 rfl rfl)
theorem dX9_own_43 : decode cX9_own 43 = .ok (.ladd, 1) := dk_97 (dk_at dksX9_own_1 20 rfl rfl)
theorem dX9_own_44 : decode cX9_own 44 = .ok (.ldc2_w 34, 3) := dk_20 0 34 (dk_at dksX9_own_1 21 rfl rfl)
theorem dX9_own_47 : decode cX9_own 47 = .ok (.ldiv, 1) := dk_109 (dk_at dksX9_own_2 0 rfl rfl)
theorem dX9_own_48 : decode cX9_own 48 = .ok (.lreturn, 1) := dk_173 (dk_at dksX9_own_2 1 rfl rfl)
abbrev cX9_mirrored : ByteArray := prog_9_method_8_code
def yX9_mirrored : MethodName := ⟨RX9, "mirrored", "()J"⟩
def dkwX9_mirrored_7 : List UInt8 := [105, 97, 64, 132, 4, 1, 167, 255, 101, 132, 3, 1, 167, 255, 85, 31, 173]
abbrev dktX9_mirrored_7 : List UInt8 := dkwX9_mirrored_7 ++ []
def dkwX9_mirrored_6 : List UInt8 := [180, 0, 9, 21, 6, 182, 0, 23, 184, 0, 27, 153, 0, 8, 22, 7, 167, 0, 9, 20, 0, 34, 22, 7]
abbrev dktX9_mirrored_6 : List UInt8 := dkwX9_mirrored_6 ++ dktX9_mirrored_7
def dkwX9_mirrored_5 : List UInt8 := [21, 6, 182, 0, 23, 184, 0, 59, 105, 55, 7, 31, 42, 180, 0, 9, 21, 5, 182, 0, 23, 42]
abbrev dktX9_mirrored_5 : List UInt8 := dkwX9_mirrored_5 ++ dktX9_mirrored_6
def dkwX9_mirrored_4 : List UInt8 := [182, 0, 23, 184, 0, 30, 42, 180, 0, 9, 21, 5, 182, 0, 23, 184, 0, 59, 105, 42, 180, 0, 9]
abbrev dktX9_mirrored_4 : List UInt8 := dkwX9_mirrored_4 ++ dktX9_mirrored_5
def dkwX9_mirrored_3 : List UInt8 := [167, 0, 4, 3, 54, 5, 16, 6, 29, 100, 21, 4, 100, 21, 5, 100, 54, 6, 42, 180, 0, 9, 29]
abbrev dktX9_mirrored_3 : List UInt8 := dkwX9_mirrored_3 ++ dktX9_mirrored_4
def dkwX9_mirrored_2 : List UInt8 := [182, 0, 55, 153, 0, 6, 167, 0, 113, 29, 154, 0, 17, 21, 4, 4, 160, 0, 7, 5, 167, 0, 8, 4]
abbrev dktX9_mirrored_2 : List UInt8 := dkwX9_mirrored_2 ++ dktX9_mirrored_3
def dkwX9_mirrored_1 : List UInt8 := [29, 182, 0, 23, 42, 180, 0, 9, 21, 4, 182, 0, 23, 184, 0, 27, 153, 0, 126, 42, 29, 21, 4]
abbrev dktX9_mirrored_1 : List UInt8 := dkwX9_mirrored_1 ++ dktX9_mirrored_2
def dkwX9_mirrored_0 : List UInt8 := [9, 64, 3, 62, 29, 7, 162, 0, 172, 29, 4, 96, 54, 4, 21, 4, 7, 162, 0, 155, 42, 180, 0, 9]
abbrev dktX9_mirrored_0 : List UInt8 := dkwX9_mirrored_0 ++ dktX9_mirrored_1
theorem dksX9_mirrored_0 : cX9_mirrored.data.toList.drop 0 = dktX9_mirrored_0 := by decide +kernel
theorem dksX9_mirrored_1 : cX9_mirrored.data.toList.drop 24 = dktX9_mirrored_1 := dk_seg dksX9_mirrored_0 24 rfl rfl
theorem dksX9_mirrored_2 : cX9_mirrored.data.toList.drop 47 = dktX9_mirrored_2 := dk_seg dksX9_mirrored_1 23 rfl rfl
theorem dksX9_mirrored_3 : cX9_mirrored.data.toList.drop 71 = dktX9_mirrored_3 := dk_seg dksX9_mirrored_2 24 rfl rfl
theorem dksX9_mirrored_4 : cX9_mirrored.data.toList.drop 94 = dktX9_mirrored_4 := dk_seg dksX9_mirrored_3 23 rfl rfl
theorem dksX9_mirrored_5 : cX9_mirrored.data.toList.drop 117 = dktX9_mirrored_5 := dk_seg dksX9_mirrored_4 23 rfl rfl
theorem dksX9_mirrored_6 : cX9_mirrored.data.toList.drop 139 = dktX9_mirrored_6 := dk_seg dksX9_mirrored_5 22 rfl rfl
theorem dksX9_mirrored_7 : cX9_mirrored.data.toList.drop 163 = dktX9_mirrored_7 := dk_seg dksX9_mirrored_6 24 rfl rfl
theorem dX9_mirrored_0 : decode cX9_mirrored 0 = .ok (.lconst 0, 1) := dk_9 (dk_at dksX9_mirrored_0 0 rfl rfl)
theorem dX9_mirrored_1 : decode cX9_mirrored 1 = .ok (.lstore_n 1, 1) := dk_64 (dk_at dksX9_mirrored_0 1 rfl rfl)
theorem dX9_mirrored_2 : decode cX9_mirrored 2 = .ok (.iconst 0, 1) := dk_3 (dk_at dksX9_mirrored_0 2 rfl rfl)
theorem dX9_mirrored_3 : decode cX9_mirrored 3 = .ok (.istore_n 3, 1) := dk_62 (dk_at dksX9_mirrored_0 3 rfl rfl)
theorem dX9_mirrored_4 : decode cX9_mirrored 4 = .ok (.iload_n 3, 1) := dk_29 (dk_at dksX9_mirrored_0 4 rfl rfl)
theorem dX9_mirrored_5 : decode cX9_mirrored 5 = .ok (.iconst 4, 1) := dk_7 (dk_at dksX9_mirrored_0 5 rfl rfl)
theorem dX9_mirrored_6 : decode cX9_mirrored 6 = .ok (.if_icmp .ge 172, 3) := dk_162 0 172 (dk_at dksX9_mirrored_0 6 rfl rfl)
theorem dX9_mirrored_9 : decode cX9_mirrored 9 = .ok (.iload_n 3, 1) := dk_29 (dk_at dksX9_mirrored_0 9 rfl rfl)
theorem dX9_mirrored_10 : decode cX9_mirrored 10 = .ok (.iconst 1, 1) := dk_4 (dk_at dksX9_mirrored_0 10 rfl rfl)
theorem dX9_mirrored_11 : decode cX9_mirrored 11 = .ok (.iadd, 1) := dk_96 (dk_at dksX9_mirrored_0 11 rfl rfl)
theorem dX9_mirrored_12 : decode cX9_mirrored 12 = .ok (.istore 4, 2) := dk_54 4 (dk_at dksX9_mirrored_0 12 rfl rfl)
theorem dX9_mirrored_14 : decode cX9_mirrored 14 = .ok (.iload 4, 2) := dk_21 4 (dk_at dksX9_mirrored_0 14 rfl rfl)
theorem dX9_mirrored_16 : decode cX9_mirrored 16 = .ok (.iconst 4, 1) := dk_7 (dk_at dksX9_mirrored_0 16 rfl rfl)
theorem dX9_mirrored_17 : decode cX9_mirrored 17 = .ok (.if_icmp .ge 155, 3) := dk_162 0 155 (dk_at dksX9_mirrored_0 17 rfl rfl)
theorem dX9_mirrored_20 : decode cX9_mirrored 20 = .ok (.aload_n 0, 1) := dk_42 (dk_at dksX9_mirrored_0 20 rfl rfl)
theorem dX9_mirrored_21 : decode cX9_mirrored 21 = .ok (.getfield 9, 3) := dk_180 0 9 (dk_at dksX9_mirrored_0 21 rfl rfl)
theorem dX9_mirrored_24 : decode cX9_mirrored 24 = .ok (.iload_n 3, 1) := dk_29 (dk_at dksX9_mirrored_1 0 rfl rfl)
theorem dX9_mirrored_25 : decode cX9_mirrored 25 = .ok (.invokevirtual 23, 3) := dk_182 0 23 (dk_at dksX9_mirrored_1 1 rfl rfl)
theorem dX9_mirrored_28 : decode cX9_mirrored 28 = .ok (.aload_n 0, 1) := dk_42 (dk_at dksX9_mirrored_1 4 rfl rfl)
theorem dX9_mirrored_29 : decode cX9_mirrored 29 = .ok (.getfield 9, 3) := dk_180 0 9 (dk_at dksX9_mirrored_1 5 rfl rfl)
theorem dX9_mirrored_32 : decode cX9_mirrored 32 = .ok (.iload 4, 2) := dk_21 4 (dk_at dksX9_mirrored_1 8 rfl rfl)
theorem dX9_mirrored_34 : decode cX9_mirrored 34 = .ok (.invokevirtual 23, 3) := dk_182 0 23 (dk_at dksX9_mirrored_1 10 rfl rfl)
theorem dX9_mirrored_37 : decode cX9_mirrored 37 = .ok (.invokestatic 27, 3) := dk_184 0 27 (dk_at dksX9_mirrored_1 13 rfl rfl)
theorem dX9_mirrored_40 : decode cX9_mirrored 40 = .ok (.ifCond .eq 126, 3) := dk_153 0 126 (dk_at dksX9_mirrored_1 16 rfl rfl)
theorem dX9_mirrored_43 : decode cX9_mirrored 43 = .ok (.aload_n 0, 1) := dk_42 (dk_at dksX9_mirrored_1 19 rfl rfl)
theorem dX9_mirrored_44 : decode cX9_mirrored 44 = .ok (.iload_n 3, 1) := dk_29 (dk_at dksX9_mirrored_1 20 rfl rfl)
theorem dX9_mirrored_45 : decode cX9_mirrored 45 = .ok (.iload 4, 2) := dk_21 4 (dk_at dksX9_mirrored_1 21 rfl rfl)
theorem dX9_mirrored_47 : decode cX9_mirrored 47 = .ok (.invokevirtual 55, 3) := dk_182 0 55 (dk_at dksX9_mirrored_2 0 rfl rfl)
theorem dX9_mirrored_50 : decode cX9_mirrored 50 = .ok (.ifCond .eq 6, 3) := dk_153 0 6 (dk_at dksX9_mirrored_2 3 rfl rfl)
theorem dX9_mirrored_53 : decode cX9_mirrored 53 = .ok (.goto 113, 3) := dk_167 0 113 (dk_at dksX9_mirrored_2 6 rfl rfl)
theorem dX9_mirrored_56 : decode cX9_mirrored 56 = .ok (.iload_n 3, 1) := dk_29 (dk_at dksX9_mirrored_2 9 rfl rfl)
theorem dX9_mirrored_57 : decode cX9_mirrored 57 = .ok (.ifCond .ne 17, 3) := dk_154 0 17 (dk_at dksX9_mirrored_2 10 rfl rfl)
theorem dX9_mirrored_60 : decode cX9_mirrored 60 = .ok (.iload 4, 2) := dk_21 4 (dk_at dksX9_mirrored_2 13 rfl rfl)
theorem dX9_mirrored_62 : decode cX9_mirrored 62 = .ok (.iconst 1, 1) := dk_4 (dk_at dksX9_mirrored_2 15 rfl rfl)
theorem dX9_mirrored_63 : decode cX9_mirrored 63 = .ok (.if_icmp .ne 7, 3) := dk_160 0 7 (dk_at dksX9_mirrored_2 16 rfl rfl)
theorem dX9_mirrored_66 : decode cX9_mirrored 66 = .ok (.iconst 2, 1) := dk_5 (dk_at dksX9_mirrored_2 19 rfl rfl)
theorem dX9_mirrored_67 : decode cX9_mirrored 67 = .ok (.goto 8, 3) := dk_167 0 8 (dk_at dksX9_mirrored_2 20 rfl rfl)
theorem dX9_mirrored_70 : decode cX9_mirrored 70 = .ok (.iconst 1, 1) := dk_4 (dk_at dksX9_mirrored_2 23 rfl rfl)
theorem dX9_mirrored_71 : decode cX9_mirrored 71 = .ok (.goto 4, 3) := dk_167 0 4 (dk_at dksX9_mirrored_3 0 rfl rfl)
theorem dX9_mirrored_74 : decode cX9_mirrored 74 = .ok (.iconst 0, 1) := dk_3 (dk_at dksX9_mirrored_3 3 rfl rfl)
theorem dX9_mirrored_75 : decode cX9_mirrored 75 = .ok (.istore 5, 2) := dk_54 5 (dk_at dksX9_mirrored_3 4 rfl rfl)
theorem dX9_mirrored_77 : decode cX9_mirrored 77 = .ok (.bipush 6, 2) := dk_16 6 (dk_at dksX9_mirrored_3 6 rfl rfl)
theorem dX9_mirrored_79 : decode cX9_mirrored 79 = .ok (.iload_n 3, 1) := dk_29 (dk_at dksX9_mirrored_3 8 rfl rfl)
theorem dX9_mirrored_80 : decode cX9_mirrored 80 = .ok (.isub, 1) := dk_100 (dk_at dksX9_mirrored_3 9 rfl rfl)
theorem dX9_mirrored_81 : decode cX9_mirrored 81 = .ok (.iload 4, 2) := dk_21 4 (dk_at dksX9_mirrored_3 10 rfl rfl)
theorem dX9_mirrored_83 : decode cX9_mirrored 83 = .ok (.isub, 1) := dk_100 (dk_at dksX9_mirrored_3 12 rfl rfl)
theorem dX9_mirrored_84 : decode cX9_mirrored 84 = .ok (.iload 5, 2) := dk_21 5 (dk_at dksX9_mirrored_3 13 rfl rfl)
theorem dX9_mirrored_86 : decode cX9_mirrored 86 = .ok (.isub, 1) := dk_100 (dk_at dksX9_mirrored_3 15 rfl rfl)
theorem dX9_mirrored_87 : decode cX9_mirrored 87 = .ok (.istore 6, 2) := dk_54 6 (dk_at dksX9_mirrored_3 16 rfl rfl)
theorem dX9_mirrored_89 : decode cX9_mirrored 89 = .ok (.aload_n 0, 1) := dk_42 (dk_at dksX9_mirrored_3 18 rfl rfl)
theorem dX9_mirrored_90 : decode cX9_mirrored 90 = .ok (.getfield 9, 3) := dk_180 0 9 (dk_at dksX9_mirrored_3 19 rfl rfl)
theorem dX9_mirrored_93 : decode cX9_mirrored 93 = .ok (.iload_n 3, 1) := dk_29 (dk_at dksX9_mirrored_3 22 rfl rfl)
theorem dX9_mirrored_94 : decode cX9_mirrored 94 = .ok (.invokevirtual 23, 3) := dk_182 0 23 (dk_at dksX9_mirrored_4 0 rfl rfl)
theorem dX9_mirrored_97 : decode cX9_mirrored 97 = .ok (.invokestatic 30, 3) := dk_184 0 30 (dk_at dksX9_mirrored_4 3 rfl rfl)
theorem dX9_mirrored_100 : decode cX9_mirrored 100 = .ok (.aload_n 0, 1) := dk_42 (dk_at dksX9_mirrored_4 6 rfl rfl)
theorem dX9_mirrored_101 : decode cX9_mirrored 101 = .ok (.getfield 9, 3) := dk_180 0 9 (dk_at dksX9_mirrored_4 7 rfl rfl)
theorem dX9_mirrored_104 : decode cX9_mirrored 104 = .ok (.iload 5, 2) := dk_21 5 (dk_at dksX9_mirrored_4 10 rfl rfl)
theorem dX9_mirrored_106 : decode cX9_mirrored 106 = .ok (.invokevirtual 23, 3) := dk_182 0 23 (dk_at dksX9_mirrored_4 12 rfl rfl)
theorem dX9_mirrored_109 : decode cX9_mirrored 109 = .ok (.invokestatic 59, 3) := dk_184 0 59 (dk_at dksX9_mirrored_4 15 rfl rfl)
theorem dX9_mirrored_112 : decode cX9_mirrored 112 = .ok (.lmul, 1) := dk_105 (dk_at dksX9_mirrored_4 18 rfl rfl)
theorem dX9_mirrored_113 : decode cX9_mirrored 113 = .ok (.aload_n 0, 1) := dk_42 (dk_at dksX9_mirrored_4 19 rfl rfl)
theorem dX9_mirrored_114 : decode cX9_mirrored 114 = .ok (.getfield 9, 3) := dk_180 0 9 (dk_at dksX9_mirrored_4 20 rfl rfl)
theorem dX9_mirrored_117 : decode cX9_mirrored 117 = .ok (.iload 6, 2) := dk_21 6 (dk_at dksX9_mirrored_5 0 rfl rfl)
theorem dX9_mirrored_119 : decode cX9_mirrored 119 = .ok (.invokevirtual 23, 3) := dk_182 0 23 (dk_at dksX9_mirrored_5 2 rfl rfl)
theorem dX9_mirrored_122 : decode cX9_mirrored 122 = .ok (.invokestatic 59, 3) := dk_184 0 59 (dk_at dksX9_mirrored_5 5 rfl rfl)
theorem dX9_mirrored_125 : decode cX9_mirrored 125 = .ok (.lmul, 1) := dk_105 (dk_at dksX9_mirrored_5 8 rfl rfl)
theorem dX9_mirrored_126 : decode cX9_mirrored 126 = .ok (.lstore 7, 2) := dk_55 7 (dk_at dksX9_mirrored_5 9 rfl rfl)
theorem dX9_mirrored_128 : decode cX9_mirrored 128 = .ok (.lload_n 1, 1) := dk_31 (dk_at dksX9_mirrored_5 11 rfl rfl)
theorem dX9_mirrored_129 : decode cX9_mirrored 129 = .ok (.aload_n 0, 1) := dk_42 (dk_at dksX9_mirrored_5 12 rfl rfl)
theorem dX9_mirrored_130 : decode cX9_mirrored 130 = .ok (.getfield 9, 3) := dk_180 0 9 (dk_at dksX9_mirrored_5 13 rfl rfl)
theorem dX9_mirrored_133 : decode cX9_mirrored 133 = .ok (.iload 5, 2) := dk_21 5 (dk_at dksX9_mirrored_5 16 rfl rfl)
theorem dX9_mirrored_135 : decode cX9_mirrored 135 = .ok (.invokevirtual 23, 3) := dk_182 0 23 (dk_at dksX9_mirrored_5 18 rfl rfl)
theorem dX9_mirrored_138 : decode cX9_mirrored 138 = .ok (.aload_n 0, 1) := dk_42 (dk_at dksX9_mirrored_5 21 rfl rfl)
theorem dX9_mirrored_139 : decode cX9_mirrored 139 = .ok (.getfield 9, 3) := dk_180 0 9 (dk_at dksX9_mirrored_6 0 rfl rfl)
theorem dX9_mirrored_142 : decode cX9_mirrored 142 = .ok (.iload 6, 2) := dk_21 6 (dk_at dksX9_mirrored_6 3 rfl rfl)
theorem dX9_mirrored_144 : decode cX9_mirrored 144 = .ok (.invokevirtual 23, 3) := dk_182 0 23 (dk_at dksX9_mirrored_6 5 rfl rfl)
theorem dX9_mirrored_147 : decode cX9_mirrored 147 = .ok (.invokestatic 27, 3) := dk_184 0 27 (dk_at dksX9_mirrored_6 8 rfl rfl)
theorem dX9_mirrored_150 : decode cX9_mirrored 150 = .ok (.ifCond .eq 8, 3) := dk_153 0 8 (dk_at dksX9_mirrored_6 11 rfl rfl)
theorem dX9_mirrored_153 : decode cX9_mirrored 153 = .ok (.lload 7, 2) := dk_22 7 (dk_at dksX9_mirrored_6 14 rfl rfl)
theorem dX9_mirrored_155 : decode cX9_mirrored 155 = .ok (.goto 9, 3) := dk_167 0 9 (dk_at dksX9_mirrored_6 16 rfl rfl)
theorem dX9_mirrored_158 : decode cX9_mirrored 158 = .ok (.ldc2_w 34, 3) := dk_20 0 34 (dk_at dksX9_mirrored_6 19 rfl rfl)
theorem dX9_mirrored_161 : decode cX9_mirrored 161 = .ok (.lload 7, 2) := dk_22 7 (dk_at dksX9_mirrored_6 22 rfl rfl)
theorem dX9_mirrored_163 : decode cX9_mirrored 163 = .ok (.lmul, 1) := dk_105 (dk_at dksX9_mirrored_7 0 rfl rfl)
theorem dX9_mirrored_164 : decode cX9_mirrored 164 = .ok (.ladd, 1) := dk_97 (dk_at dksX9_mirrored_7 1 rfl rfl)
theorem dX9_mirrored_165 : decode cX9_mirrored 165 = .ok (.lstore_n 1, 1) := dk_64 (dk_at dksX9_mirrored_7 2 rfl rfl)
theorem dX9_mirrored_166 : decode cX9_mirrored 166 = .ok (.iinc 4 1, 3) := dk_132 4 1 (dk_at dksX9_mirrored_7 3 rfl rfl)
theorem dX9_mirrored_169 : decode cX9_mirrored 169 = .ok (.goto (-155), 3) := dk_167 255 101 (dk_at dksX9_mirrored_7 6 rfl rfl)
theorem dX9_mirrored_172 : decode cX9_mirrored 172 = .ok (.iinc 3 1, 3) := dk_132 3 1 (dk_at dksX9_mirrored_7 9 rfl rfl)
theorem dX9_mirrored_175 : decode cX9_mirrored 175 = .ok (.goto (-171), 3) := dk_167 255 85 (dk_at dksX9_mirrored_7 12 rfl rfl)
theorem dX9_mirrored_178 : decode cX9_mirrored 178 = .ok (.lload_n 1, 1) := dk_31 (dk_at dksX9_mirrored_7 15 rfl rfl)
theorem dX9_mirrored_179 : decode cX9_mirrored 179 = .ok (.lreturn, 1) := dk_173 (dk_at dksX9_mirrored_7 16 rfl rfl)
abbrev cX9_isToldAhead : ByteArray := prog_9_method_9_code
def yX9_isToldAhead : MethodName := ⟨RX9, "isToldAhead", "(II)Z"⟩
def dkwX9_isToldAhead_1 : List UInt8 := [27, 182, 0, 23, 184, 0, 27, 153, 0, 5, 4, 172, 132, 3, 1, 167, 255, 219, 3, 172]
abbrev dktX9_isToldAhead_1 : List UInt8 := dkwX9_isToldAhead_1 ++ []
def dkwX9_isToldAhead_0 : List UInt8 := [3, 62, 29, 28, 162, 0, 38, 29, 27, 159, 0, 27, 42, 180, 0, 9, 29, 182, 0, 23, 42, 180, 0, 9]
abbrev dktX9_isToldAhead_0 : List UInt8 := dkwX9_isToldAhead_0 ++ dktX9_isToldAhead_1
theorem dksX9_isToldAhead_0 : cX9_isToldAhead.data.toList.drop 0 = dktX9_isToldAhead_0 := by decide +kernel
theorem dksX9_isToldAhead_1 : cX9_isToldAhead.data.toList.drop 24 = dktX9_isToldAhead_1 := dk_seg dksX9_isToldAhead_0 24 rfl rfl
theorem dX9_isToldAhead_0 : decode cX9_isToldAhead 0 = .ok (.iconst 0, 1) := dk_3 (dk_at dksX9_isToldAhead_0 0 rfl rfl)
theorem dX9_isToldAhead_1 : decode cX9_isToldAhead 1 = .ok (.istore_n 3, 1) := dk_62 (dk_at dksX9_isToldAhead_0 1 rfl rfl)
theorem dX9_isToldAhead_2 : decode cX9_isToldAhead 2 = .ok (.iload_n 3, 1) := dk_29 (dk_at dksX9_isToldAhead_0 2 rfl rfl)
theorem dX9_isToldAhead_3 : decode cX9_isToldAhead 3 = .ok (.iload_n 2, 1) := dk_28 (dk_at dksX9_isToldAhead_0 3 rfl rfl)
theorem dX9_isToldAhead_4 : decode cX9_isToldAhead 4 = .ok (.if_icmp .ge 38, 3) := dk_162 0 38 (dk_at dksX9_isToldAhead_0 4 rfl rfl)
theorem dX9_isToldAhead_7 : decode cX9_isToldAhead 7 = .ok (.iload_n 3, 1) := dk_29 (dk_at dksX9_isToldAhead_0 7 rfl rfl)
theorem dX9_isToldAhead_8 : decode cX9_isToldAhead 8 = .ok (.iload_n 1, 1) := dk_27 (dk_at dksX9_isToldAhead_0 8 rfl rfl)
theorem dX9_isToldAhead_9 : decode cX9_isToldAhead 9 = .ok (.if_icmp .eq 27, 3) := dk_159 0 27 (dk_at dksX9_isToldAhead_0 9 rfl rfl)
theorem dX9_isToldAhead_12 : decode cX9_isToldAhead 12 = .ok (.aload_n 0, 1) := dk_42 (dk_at dksX9_isToldAhead_0 12 rfl rfl)
theorem dX9_isToldAhead_13 : decode cX9_isToldAhead 13 = .ok (.getfield 9, 3) := dk_180 0 9 (dk_at dksX9_isToldAhead_0 13 rfl rfl)
theorem dX9_isToldAhead_16 : decode cX9_isToldAhead 16 = .ok (.iload_n 3, 1) := dk_29 (dk_at dksX9_isToldAhead_0 16 rfl rfl)
theorem dX9_isToldAhead_17 : decode cX9_isToldAhead 17 = .ok (.invokevirtual 23, 3) := dk_182 0 23 (dk_at dksX9_isToldAhead_0 17 rfl rfl)
theorem dX9_isToldAhead_20 : decode cX9_isToldAhead 20 = .ok (.aload_n 0, 1) := dk_42 (dk_at dksX9_isToldAhead_0 20 rfl rfl)
theorem dX9_isToldAhead_21 : decode cX9_isToldAhead 21 = .ok (.getfield 9, 3) := dk_180 0 9 (dk_at dksX9_isToldAhead_0 21 rfl rfl)
theorem dX9_isToldAhead_24 : decode cX9_isToldAhead 24 = .ok (.iload_n 1, 1) := dk_27 (dk_at dksX9_isToldAhead_1 0 rfl rfl)
theorem dX9_isToldAhead_25 : decode cX9_isToldAhead 25 = .ok (.invokevirtual 23, 3) := dk_182 0 23 (dk_at dksX9_isToldAhead_1 1 rfl rfl)
theorem dX9_isToldAhead_28 : decode cX9_isToldAhead 28 = .ok (.invokestatic 27, 3) := dk_184 0 27 (dk_at dksX9_isToldAhead_1 4 rfl rfl)
theorem dX9_isToldAhead_31 : decode cX9_isToldAhead 31 = .ok (.ifCond .eq 5, 3) := dk_153 0 5 (dk_at dksX9_isToldAhead_1 7 rfl rfl)
theorem dX9_isToldAhead_34 : decode cX9_isToldAhead 34 = .ok (.iconst 1, 1) := dk_4 (dk_at dksX9_isToldAhead_1 10 rfl rfl)
theorem dX9_isToldAhead_35 : decode cX9_isToldAhead 35 = .ok (.ireturn, 1) := dk_172 (dk_at dksX9_isToldAhead_1 11 rfl rfl)
theorem dX9_isToldAhead_36 : decode cX9_isToldAhead 36 = .ok (.iinc 3 1, 3) := dk_132 3 1 (dk_at dksX9_isToldAhead_1 12 rfl rfl)
theorem dX9_isToldAhead_39 : decode cX9_isToldAhead 39 = .ok (.goto (-37), 3) := dk_167 255 219 (dk_at dksX9_isToldAhead_1 15 rfl rfl)
theorem dX9_isToldAhead_42 : decode cX9_isToldAhead 42 = .ok (.iconst 0, 1) := dk_3 (dk_at dksX9_isToldAhead_1 18 rfl rfl)
theorem dX9_isToldAhead_43 : decode cX9_isToldAhead 43 = .ok (.ireturn, 1) := dk_172 (dk_at dksX9_isToldAhead_1 19 rfl rfl)
abbrev cX9_symmetry : ByteArray := prog_9_method_11_code
def yX9_symmetry : MethodName := ⟨RX9, "symmetry", "()J"⟩
def dkwX9_symmetry_0 : List UInt8 := [42, 180, 0, 9, 180, 0, 65, 173]
abbrev dktX9_symmetry_0 : List UInt8 := dkwX9_symmetry_0 ++ []
theorem dksX9_symmetry_0 : cX9_symmetry.data.toList.drop 0 = dktX9_symmetry_0 := by decide +kernel
theorem dX9_symmetry_0 : decode cX9_symmetry 0 = .ok (.aload_n 0, 1) := dk_42 (dk_at dksX9_symmetry_0 0 rfl rfl)
theorem dX9_symmetry_1 : decode cX9_symmetry 1 = .ok (.getfield 9, 3) := dk_180 0 9 (dk_at dksX9_symmetry_0 1 rfl rfl)
theorem dX9_symmetry_4 : decode cX9_symmetry 4 = .ok (.getfield 65, 3) := dk_180 0 65 (dk_at dksX9_symmetry_0 4 rfl rfl)
theorem dX9_symmetry_7 : decode cX9_symmetry 7 = .ok (.lreturn, 1) := dk_173 (dk_at dksX9_symmetry_0 7 rfl rfl)
abbrev cX9_marked : ByteArray := prog_9_method_12_code
def yX9_marked : MethodName := ⟨RX9, "marked", "()[J"⟩
def dkwX9_marked_0 : List UInt8 := [42, 180, 0, 9, 7, 42, 180, 0, 9, 180, 0, 69, 190, 100, 182, 0, 73, 176]
abbrev dktX9_marked_0 : List UInt8 := dkwX9_marked_0 ++ []
theorem dksX9_marked_0 : cX9_marked.data.toList.drop 0 = dktX9_marked_0 := by decide +kernel
theorem dX9_marked_0 : decode cX9_marked 0 = .ok (.aload_n 0, 1) := dk_42 (dk_at dksX9_marked_0 0 rfl rfl)
theorem dX9_marked_1 : decode cX9_marked 1 = .ok (.getfield 9, 3) := dk_180 0 9 (dk_at dksX9_marked_0 1 rfl rfl)
theorem dX9_marked_4 : decode cX9_marked 4 = .ok (.iconst 4, 1) := dk_7 (dk_at dksX9_marked_0 4 rfl rfl)
theorem dX9_marked_5 : decode cX9_marked 5 = .ok (.aload_n 0, 1) := dk_42 (dk_at dksX9_marked_0 5 rfl rfl)
theorem dX9_marked_6 : decode cX9_marked 6 = .ok (.getfield 9, 3) := dk_180 0 9 (dk_at dksX9_marked_0 6 rfl rfl)
theorem dX9_marked_9 : decode cX9_marked 9 = .ok (.getfield 69, 3) := dk_180 0 69 (dk_at dksX9_marked_0 9 rfl rfl)
theorem dX9_marked_12 : decode cX9_marked 12 = .ok (.arraylength, 1) := dk_190 (dk_at dksX9_marked_0 12 rfl rfl)
theorem dX9_marked_13 : decode cX9_marked 13 = .ok (.isub, 1) := dk_100 (dk_at dksX9_marked_0 13 rfl rfl)
theorem dX9_marked_14 : decode cX9_marked 14 = .ok (.invokevirtual 73, 3) := dk_182 0 73 (dk_at dksX9_marked_0 14 rfl rfl)
theorem dX9_marked_17 : decode cX9_marked 17 = .ok (.areturn, 1) := dk_176 (dk_at dksX9_marked_0 17 rfl rfl)
theorem q156 : (Jvm.Cond.initialized "Skeletons$One") ∈ lw_all := lw_g (lw_at lw_m1 28 rfl) rfl
theorem q702 : (Jvm.Cond.selects "Skeletons$One" ({ cls := "java/lang/Object", name := "getClass", desc := "()Ljava/lang/Class;" } : Jvm.MethodName) ({ cls := "java/lang/Object", name := "getClass", desc := "()Ljava/lang/Class;" } : Jvm.MethodName)) ∈ lw_all := lw_g (lw_at lw_m3 94 rfl) rfl
theorem q792 : (Jvm.Cond.fieldLinkNest "Skeletons$One" (69 : Nat) "Skeletons$Branch" "parts" "[LSkeletons$Branch;" "Skeletons") ∈ lw_tbl := lw_at lw_m3 184 rfl
theorem q800 : (Jvm.Cond.fieldLinkNest "Skeletons$One" (65 : Nat) "Skeletons$Branch" "ways" "J" "Skeletons") ∈ lw_tbl := lw_at lw_m3 192 rfl
theorem q936 : (Jvm.Cond.instantiable "Skeletons$One" (1 : Nat)) ∈ lw_all := lw_g (lw_at lw_m4 88 rfl) rfl
theorem q938 : (Jvm.Cond.instanceMethod ({ cls := "Skeletons$One", name := "<init>", desc := "(LSkeletons$Branch;)V" } : Jvm.MethodName)) ∈ lw_all := lw_g (lw_at lw_m4 90 rfl) rfl
theorem q939 : (Jvm.Cond.code ({ cls := "Skeletons$One", name := "<init>", desc := "(LSkeletons$Branch;)V" } : Jvm.MethodName) prog_9_method_1_code (2 : Nat) (Option.none : Option Jvm.ClassFile.FieldType)) ∈ lw_all := lw_g (lw_at lw_m4 91 rfl) rfl
theorem q940 : (Jvm.Cond.methodLink "Skeletons$One" (3 : Nat) ({ cls := "java/lang/Record", name := "<init>", desc := "()V" } : Jvm.MethodName)) ∈ lw_all := lw_g (lw_at lw_m4 92 rfl) rfl
theorem q944 : (Jvm.Cond.fieldLink "Skeletons$One" (9 : Nat) "Skeletons$One" "root" "LSkeletons$Branch;") ∈ lw_all := lw_g (lw_at lw_m4 96 rfl) rfl
theorem q945 : (Jvm.Cond.laysFinal "Skeletons$One" "Skeletons$One" "root" "LSkeletons$Branch;") ∈ lw_all := lw_g (lw_at lw_m4 97 rfl) rfl
theorem q946 : (Jvm.Cond.soleField "Skeletons$One" "root") ∈ lw_all := lw_g (lw_at lw_m4 98 rfl) rfl
theorem q947 : (Jvm.Cond.superclass "Skeletons$One" "java/lang/Record") ∈ lw_all := lw_g (lw_at lw_m4 99 rfl) rfl
theorem q955 : (Jvm.Cond.castable "Skeletons$One" "Skeletons$Whole") ∈ lw_tbl := lw_at lw_m4 107 rfl
theorem q956 : (Jvm.Cond.unhidden "Skeletons$One" "code" "()[I") ∈ lw_tbl := lw_at lw_m4 108 rfl
theorem q964 : (Jvm.Cond.selects "Skeletons$One" ({ cls := "Skeletons$Whole", name := "root", desc := "()LSkeletons$Branch;" } : Jvm.MethodName) ({ cls := "Skeletons$One", name := "root", desc := "()LSkeletons$Branch;" } : Jvm.MethodName)) ∈ lw_all := lw_g (lw_at lw_m4 116 rfl) rfl
theorem q965 : (Jvm.Cond.unhidden "Skeletons$One" "root" "()LSkeletons$Branch;") ∈ lw_tbl := lw_at lw_m4 117 rfl
theorem q966 : (Jvm.Cond.instanceMethod ({ cls := "Skeletons$One", name := "root", desc := "()LSkeletons$Branch;" } : Jvm.MethodName)) ∈ lw_all := lw_g (lw_at lw_m4 118 rfl) rfl
theorem q967 : (Jvm.Cond.publicMethod ({ cls := "Skeletons$One", name := "root", desc := "()LSkeletons$Branch;" } : Jvm.MethodName)) ∈ lw_tbl := lw_at lw_m4 119 rfl
theorem q968 : (Jvm.Cond.code ({ cls := "Skeletons$One", name := "root", desc := "()LSkeletons$Branch;" } : Jvm.MethodName) prog_9_method_16_code (1 : Nat) (Option.some (Jvm.ClassFile.FieldType.object "Skeletons$Branch"))) ∈ lw_all := lw_g (lw_at lw_m4 120 rfl) rfl
theorem q1763 : (Jvm.Cond.selects "Skeletons$One" ({ cls := "Skeletons$Whole", name := "forms", desc := "()J" } : Jvm.MethodName) ({ cls := "Skeletons$One", name := "forms", desc := "()J" } : Jvm.MethodName)) ∈ lw_all := lw_g (lw_at lw_m7 195 rfl) rfl
theorem q1764 : (Jvm.Cond.unhidden "Skeletons$One" "forms" "()J") ∈ lw_tbl := lw_at lw_m7 196 rfl
theorem q1765 : (Jvm.Cond.instanceMethod ({ cls := "Skeletons$One", name := "forms", desc := "()J" } : Jvm.MethodName)) ∈ lw_all := lw_g (lw_at lw_m7 197 rfl) rfl
theorem q1766 : (Jvm.Cond.publicMethod ({ cls := "Skeletons$One", name := "forms", desc := "()J" } : Jvm.MethodName)) ∈ lw_tbl := lw_at lw_m7 198 rfl
theorem q1767 : (Jvm.Cond.code ({ cls := "Skeletons$One", name := "forms", desc := "()J" } : Jvm.MethodName) prog_9_method_7_code (1 : Nat) (Option.some Jvm.ClassFile.FieldType.long)) ∈ lw_all := lw_g (lw_at lw_m7 199 rfl) rfl
theorem q1768 : (Jvm.Cond.methodLink "Skeletons$One" (36 : Nat) ({ cls := "Skeletons$One", name := "orders", desc := "()J" } : Jvm.MethodName)) ∈ lw_all := lw_g (lw_at lw_m7 200 rfl) rfl
theorem q1769 : (Jvm.Cond.privateMethod ({ cls := "Skeletons$One", name := "orders", desc := "()J" } : Jvm.MethodName)) ∈ lw_tbl := lw_at lw_m7 201 rfl
theorem q1770 : (Jvm.Cond.instanceMethod ({ cls := "Skeletons$One", name := "orders", desc := "()J" } : Jvm.MethodName)) ∈ lw_all := lw_g (lw_at lw_m7 202 rfl) rfl
theorem q1771 : (Jvm.Cond.code ({ cls := "Skeletons$One", name := "orders", desc := "()J" } : Jvm.MethodName) prog_9_method_3_code (5 : Nat) (Option.some Jvm.ClassFile.FieldType.long)) ∈ lw_all := lw_g (lw_at lw_m7 203 rfl) rfl
theorem q1772 : (Jvm.Cond.constantLong "Skeletons$One" (21 : Nat) (24 : Int64)) ∈ lw_all := lw_g (lw_at lw_m7 204 rfl) rfl
theorem q1773 : (Jvm.Cond.methodLink "Skeletons$One" (23 : Nat) ({ cls := "Skeletons$Branch", name := "at", desc := "(I)LSkeletons$Branch;" } : Jvm.MethodName)) ∈ lw_all := lw_g (lw_at lw_m7 205 rfl) rfl
theorem q1774 : (Jvm.Cond.methodLink "Skeletons$One" (27 : Nat) ({ cls := "Skeletons$One", name := "areSame", desc := "(LSkeletons$Branch;LSkeletons$Branch;)Z" } : Jvm.MethodName)) ∈ lw_all := lw_g (lw_at lw_m7 206 rfl) rfl
theorem q1775 : (Jvm.Cond.static ({ cls := "Skeletons$One", name := "areSame", desc := "(LSkeletons$Branch;LSkeletons$Branch;)Z" } : Jvm.MethodName)) ∈ lw_all := lw_g (lw_at lw_m7 207 rfl) rfl
theorem q1776 : (Jvm.Cond.code ({ cls := "Skeletons$One", name := "areSame", desc := "(LSkeletons$Branch;LSkeletons$Branch;)Z" } : Jvm.MethodName) prog_9_method_2_code (2 : Nat) (Option.some Jvm.ClassFile.FieldType.boolean)) ∈ lw_all := lw_g (lw_at lw_m7 208 rfl) rfl
theorem q1777 : (Jvm.Cond.methodLink "Skeletons$One" (15 : Nat) ({ cls := "Skeletons$Branch", name := "areLike", desc := "(LSkeletons$Branch;LSkeletons$Branch;)Z" } : Jvm.MethodName)) ∈ lw_all := lw_g (lw_at lw_m7 209 rfl) rfl
theorem q1778 : (Jvm.Cond.methodLink "Skeletons$One" (40 : Nat) ({ cls := "Skeletons$One", name := "product", desc := "()J" } : Jvm.MethodName)) ∈ lw_all := lw_g (lw_at lw_m7 210 rfl) rfl
theorem q1779 : (Jvm.Cond.privateMethod ({ cls := "Skeletons$One", name := "product", desc := "()J" } : Jvm.MethodName)) ∈ lw_tbl := lw_at lw_m7 211 rfl
theorem q1780 : (Jvm.Cond.instanceMethod ({ cls := "Skeletons$One", name := "product", desc := "()J" } : Jvm.MethodName)) ∈ lw_all := lw_g (lw_at lw_m7 212 rfl) rfl
theorem q1781 : (Jvm.Cond.code ({ cls := "Skeletons$One", name := "product", desc := "()J" } : Jvm.MethodName) prog_9_method_4_code (4 : Nat) (Option.some Jvm.ClassFile.FieldType.long)) ∈ lw_all := lw_g (lw_at lw_m7 213 rfl) rfl
theorem q1782 : (Jvm.Cond.methodLink "Skeletons$One" (30 : Nat) ({ cls := "Skeletons$Branch", name := "formsOf", desc := "(LSkeletons$Branch;)J" } : Jvm.MethodName)) ∈ lw_all := lw_g (lw_at lw_m7 214 rfl) rfl
theorem q1783 : (Jvm.Cond.constantLong "Skeletons$One" (43 : Nat) (3 : Int64)) ∈ lw_all := lw_g (lw_at lw_m7 215 rfl) rfl
theorem q1784 : (Jvm.Cond.methodLink "Skeletons$One" (45 : Nat) ({ cls := "Skeletons$One", name := "twos", desc := "()J" } : Jvm.MethodName)) ∈ lw_all := lw_g (lw_at lw_m7 216 rfl) rfl
theorem q1785 : (Jvm.Cond.privateMethod ({ cls := "Skeletons$One", name := "twos", desc := "()J" } : Jvm.MethodName)) ∈ lw_tbl := lw_at lw_m7 217 rfl
theorem q1786 : (Jvm.Cond.instanceMethod ({ cls := "Skeletons$One", name := "twos", desc := "()J" } : Jvm.MethodName)) ∈ lw_all := lw_g (lw_at lw_m7 218 rfl) rfl
theorem q1787 : (Jvm.Cond.code ({ cls := "Skeletons$One", name := "twos", desc := "()J" } : Jvm.MethodName) prog_9_method_5_code (3 : Nat) (Option.some Jvm.ClassFile.FieldType.long)) ∈ lw_all := lw_g (lw_at lw_m7 219 rfl) rfl
theorem q1788 : (Jvm.Cond.constantLong "Skeletons$One" (34 : Nat) (2 : Int64)) ∈ lw_all := lw_g (lw_at lw_m7 220 rfl) rfl
theorem q1789 : (Jvm.Cond.constantLong "Skeletons$One" (48 : Nat) (8 : Int64)) ∈ lw_all := lw_g (lw_at lw_m7 221 rfl) rfl
theorem q1790 : (Jvm.Cond.methodLink "Skeletons$One" (50 : Nat) ({ cls := "Skeletons$One", name := "threes", desc := "()J" } : Jvm.MethodName)) ∈ lw_all := lw_g (lw_at lw_m7 222 rfl) rfl
theorem q1791 : (Jvm.Cond.privateMethod ({ cls := "Skeletons$One", name := "threes", desc := "()J" } : Jvm.MethodName)) ∈ lw_tbl := lw_at lw_m7 223 rfl
theorem q1792 : (Jvm.Cond.instanceMethod ({ cls := "Skeletons$One", name := "threes", desc := "()J" } : Jvm.MethodName)) ∈ lw_all := lw_g (lw_at lw_m7 224 rfl) rfl
theorem q1793 : (Jvm.Cond.code ({ cls := "Skeletons$One", name := "threes", desc := "()J" } : Jvm.MethodName) prog_9_method_6_code (1 : Nat) (Option.some Jvm.ClassFile.FieldType.long)) ∈ lw_all := lw_g (lw_at lw_m7 225 rfl) rfl
theorem q1794 : (Jvm.Cond.constantLong "Skeletons$One" (53 : Nat) (12 : Int64)) ∈ lw_all := lw_g (lw_at lw_m7 226 rfl) rfl
theorem q1810 : (Jvm.Cond.selects "Skeletons$One" ({ cls := "Skeletons$Whole", name := "own", desc := "()J" } : Jvm.MethodName) ({ cls := "Skeletons$One", name := "own", desc := "()J" } : Jvm.MethodName)) ∈ lw_all := lw_g (lw_at lw_m8 2 rfl) rfl
theorem q1811 : (Jvm.Cond.unhidden "Skeletons$One" "own" "()J") ∈ lw_tbl := lw_at lw_m8 3 rfl
theorem q1812 : (Jvm.Cond.instanceMethod ({ cls := "Skeletons$One", name := "own", desc := "()J" } : Jvm.MethodName)) ∈ lw_all := lw_g (lw_at lw_m8 4 rfl) rfl
theorem q1813 : (Jvm.Cond.publicMethod ({ cls := "Skeletons$One", name := "own", desc := "()J" } : Jvm.MethodName)) ∈ lw_tbl := lw_at lw_m8 5 rfl
theorem q1814 : (Jvm.Cond.code ({ cls := "Skeletons$One", name := "own", desc := "()J" } : Jvm.MethodName) prog_9_method_10_code (3 : Nat) (Option.some Jvm.ClassFile.FieldType.long)) ∈ lw_all := lw_g (lw_at lw_m8 6 rfl) rfl
theorem q1815 : (Jvm.Cond.methodLink "Skeletons$One" (62 : Nat) ({ cls := "Skeletons$One", name := "mirrored", desc := "()J" } : Jvm.MethodName)) ∈ lw_all := lw_g (lw_at lw_m8 7 rfl) rfl
theorem q1816 : (Jvm.Cond.privateMethod ({ cls := "Skeletons$One", name := "mirrored", desc := "()J" } : Jvm.MethodName)) ∈ lw_tbl := lw_at lw_m8 8 rfl
theorem q1817 : (Jvm.Cond.instanceMethod ({ cls := "Skeletons$One", name := "mirrored", desc := "()J" } : Jvm.MethodName)) ∈ lw_all := lw_g (lw_at lw_m8 9 rfl) rfl
theorem q1818 : (Jvm.Cond.code ({ cls := "Skeletons$One", name := "mirrored", desc := "()J" } : Jvm.MethodName) prog_9_method_8_code (9 : Nat) (Option.some Jvm.ClassFile.FieldType.long)) ∈ lw_all := lw_g (lw_at lw_m8 10 rfl) rfl
theorem q1819 : (Jvm.Cond.methodLink "Skeletons$One" (55 : Nat) ({ cls := "Skeletons$One", name := "isToldAhead", desc := "(II)Z" } : Jvm.MethodName)) ∈ lw_all := lw_g (lw_at lw_m8 11 rfl) rfl
theorem q1820 : (Jvm.Cond.privateMethod ({ cls := "Skeletons$One", name := "isToldAhead", desc := "(II)Z" } : Jvm.MethodName)) ∈ lw_tbl := lw_at lw_m8 12 rfl
theorem q1821 : (Jvm.Cond.instanceMethod ({ cls := "Skeletons$One", name := "isToldAhead", desc := "(II)Z" } : Jvm.MethodName)) ∈ lw_all := lw_g (lw_at lw_m8 13 rfl) rfl
theorem q1822 : (Jvm.Cond.code ({ cls := "Skeletons$One", name := "isToldAhead", desc := "(II)Z" } : Jvm.MethodName) prog_9_method_9_code (4 : Nat) (Option.some Jvm.ClassFile.FieldType.boolean)) ∈ lw_all := lw_g (lw_at lw_m8 14 rfl) rfl
theorem q1823 : (Jvm.Cond.methodLink "Skeletons$One" (59 : Nat) ({ cls := "Skeletons$Branch", name := "ownOf", desc := "(LSkeletons$Branch;)J" } : Jvm.MethodName)) ∈ lw_all := lw_g (lw_at lw_m8 15 rfl) rfl
theorem q1837 : (Jvm.Cond.selects "Skeletons$One" ({ cls := "Skeletons$Whole", name := "symmetry", desc := "()J" } : Jvm.MethodName) ({ cls := "Skeletons$One", name := "symmetry", desc := "()J" } : Jvm.MethodName)) ∈ lw_all := lw_g (lw_at lw_m8 29 rfl) rfl
theorem q1838 : (Jvm.Cond.unhidden "Skeletons$One" "symmetry" "()J") ∈ lw_tbl := lw_at lw_m8 30 rfl
theorem q1839 : (Jvm.Cond.instanceMethod ({ cls := "Skeletons$One", name := "symmetry", desc := "()J" } : Jvm.MethodName)) ∈ lw_all := lw_g (lw_at lw_m8 31 rfl) rfl
theorem q1840 : (Jvm.Cond.publicMethod ({ cls := "Skeletons$One", name := "symmetry", desc := "()J" } : Jvm.MethodName)) ∈ lw_tbl := lw_at lw_m8 32 rfl
theorem q1841 : (Jvm.Cond.code ({ cls := "Skeletons$One", name := "symmetry", desc := "()J" } : Jvm.MethodName) prog_9_method_11_code (1 : Nat) (Option.some Jvm.ClassFile.FieldType.long)) ∈ lw_all := lw_g (lw_at lw_m8 33 rfl) rfl
theorem q1855 : (Jvm.Cond.selects "Skeletons$One" ({ cls := "Skeletons$Whole", name := "marked", desc := "()[J" } : Jvm.MethodName) ({ cls := "Skeletons$One", name := "marked", desc := "()[J" } : Jvm.MethodName)) ∈ lw_all := lw_g (lw_at lw_m8 47 rfl) rfl
theorem q1856 : (Jvm.Cond.unhidden "Skeletons$One" "marked" "()[J") ∈ lw_tbl := lw_at lw_m8 48 rfl
theorem q1857 : (Jvm.Cond.instanceMethod ({ cls := "Skeletons$One", name := "marked", desc := "()[J" } : Jvm.MethodName)) ∈ lw_all := lw_g (lw_at lw_m8 49 rfl) rfl
theorem q1858 : (Jvm.Cond.publicMethod ({ cls := "Skeletons$One", name := "marked", desc := "()[J" } : Jvm.MethodName)) ∈ lw_tbl := lw_at lw_m8 50 rfl
theorem q1859 : (Jvm.Cond.code ({ cls := "Skeletons$One", name := "marked", desc := "()[J" } : Jvm.MethodName) prog_9_method_12_code (1 : Nat) (Option.some (Jvm.ClassFile.FieldType.array Jvm.ClassFile.FieldType.long))) ∈ lw_all := lw_g (lw_at lw_m8 51 rfl) rfl
theorem q1860 : (Jvm.Cond.methodLink "Skeletons$One" (73 : Nat) ({ cls := "Skeletons$Branch", name := "marked", desc := "(I)[J" } : Jvm.MethodName)) ∈ lw_all := lw_g (lw_at lw_m8 52 rfl) rfl
theorem q2789 : (Jvm.Cond.castable "Skeletons$One" "java/lang/Object") ∈ lw_tbl := lw_at lw_m12 21 rfl
theorem in_X9 : ∀ w ∈ wsX90, w ∈ lw_all := lw_in wsX90 [945] (by decide +kernel) (by decide +kernel)
