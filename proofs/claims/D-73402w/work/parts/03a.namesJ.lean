/-! java/util/AbstractCollection -/
set_option maxRecDepth 100000
def RJ0 : String := "java/util/AbstractCollection"
abbrev cJ0_init : ByteArray := prog_45_method_1_code
def yJ0_init : MethodName := ⟨RJ0, "<init>", "()V"⟩
theorem dJ0_init_0 : decode cJ0_init 0 = .ok (.aload_n 0, 1) := by decide +kernel
theorem dJ0_init_1 : decode cJ0_init 1 = .ok (.invokespecial 1, 3) := by decide +kernel
theorem dJ0_init_4 : decode cJ0_init 4 = .ok (.return_, 1) := by decide +kernel
theorem q130 : (Jvm.Cond.initialized "java/util/AbstractCollection") ∈ lw_all := lw_g (lw_at lw_m1 2 rfl) rfl
theorem q274 : (Jvm.Cond.instanceMethod ({ cls := "java/util/AbstractCollection", name := "<init>", desc := "()V" } : Jvm.MethodName)) ∈ lw_all := lw_g (lw_at lw_m1 146 rfl) rfl
theorem q275 : (Jvm.Cond.code ({ cls := "java/util/AbstractCollection", name := "<init>", desc := "()V" } : Jvm.MethodName) prog_45_method_1_code (1 : Nat) (Option.none : Option Jvm.ClassFile.FieldType)) ∈ lw_all := lw_g (lw_at lw_m1 147 rfl) rfl
theorem q276 : (Jvm.Cond.methodLink "java/util/AbstractCollection" (1 : Nat) ({ cls := "java/lang/Object", name := "<init>", desc := "()V" } : Jvm.MethodName)) ∈ lw_all := lw_g (lw_at lw_m1 148 rfl) rfl
/-! java/util/AbstractList -/
set_option maxRecDepth 100000
def RJ1 : String := "java/util/AbstractList"
abbrev cJ1_init : ByteArray := prog_46_method_1_code
def yJ1_init : MethodName := ⟨RJ1, "<init>", "()V"⟩
def dkwJ1_init_0 : List UInt8 := [42, 183, 0, 1, 42, 3, 181, 0, 7, 177]
abbrev dktJ1_init_0 : List UInt8 := dkwJ1_init_0 ++ []
theorem dksJ1_init_0 : cJ1_init.data.toList.drop 0 = dktJ1_init_0 := by decide +kernel
theorem dJ1_init_0 : decode cJ1_init 0 = .ok (.aload_n 0, 1) := dk_42 (dk_at dksJ1_init_0 0 rfl rfl)
theorem dJ1_init_1 : decode cJ1_init 1 = .ok (.invokespecial 1, 3) := dk_183 0 1 (dk_at dksJ1_init_0 1 rfl rfl)
theorem dJ1_init_4 : decode cJ1_init 4 = .ok (.aload_n 0, 1) := dk_42 (dk_at dksJ1_init_0 4 rfl rfl)
theorem dJ1_init_5 : decode cJ1_init 5 = .ok (.iconst 0, 1) := dk_3 (dk_at dksJ1_init_0 5 rfl rfl)
theorem dJ1_init_6 : decode cJ1_init 6 = .ok (.putfield 7, 3) := dk_181 0 7 (dk_at dksJ1_init_0 6 rfl rfl)
theorem dJ1_init_9 : decode cJ1_init 9 = .ok (.return_, 1) := dk_177 (dk_at dksJ1_init_0 9 rfl rfl)
theorem q131 : (Jvm.Cond.initialized "java/util/AbstractList") ∈ lw_all := lw_g (lw_at lw_m1 3 rfl) rfl
theorem q271 : (Jvm.Cond.instanceMethod ({ cls := "java/util/AbstractList", name := "<init>", desc := "()V" } : Jvm.MethodName)) ∈ lw_all := lw_g (lw_at lw_m1 143 rfl) rfl
theorem q272 : (Jvm.Cond.code ({ cls := "java/util/AbstractList", name := "<init>", desc := "()V" } : Jvm.MethodName) prog_46_method_1_code (1 : Nat) (Option.none : Option Jvm.ClassFile.FieldType)) ∈ lw_all := lw_g (lw_at lw_m1 144 rfl) rfl
theorem q273 : (Jvm.Cond.methodLink "java/util/AbstractList" (1 : Nat) ({ cls := "java/util/AbstractCollection", name := "<init>", desc := "()V" } : Jvm.MethodName)) ∈ lw_all := lw_g (lw_at lw_m1 145 rfl) rfl
theorem q283 : (Jvm.Cond.fieldLink "java/util/AbstractList" (7 : Nat) "java/util/AbstractList" "modCount" "I") ∈ lw_all := lw_g (lw_at lw_m1 155 rfl) rfl
theorem q292 : (Jvm.Cond.soleField "java/util/AbstractList" "modCount") ∈ lw_all := lw_g (lw_at lw_m1 164 rfl) rfl
/-! java/util/Arrays -/
set_option maxRecDepth 100000
def RJ10 : String := "java/util/Arrays"
abbrev cJ10_copyOf : ByteArray := prog_50_method_119_code
def yJ10_copyOf : MethodName := ⟨RJ10, "copyOf", "([Ljava/lang/Object;I)[Ljava/lang/Object;"⟩
def dkwJ10_copyOf_0 : List UInt8 := [42, 27, 42, 182, 0, 86, 184, 1, 44, 176]
abbrev dktJ10_copyOf_0 : List UInt8 := dkwJ10_copyOf_0 ++ []
theorem dksJ10_copyOf_0 : cJ10_copyOf.data.toList.drop 0 = dktJ10_copyOf_0 := by decide +kernel
theorem dJ10_copyOf_0 : decode cJ10_copyOf 0 = .ok (.aload_n 0, 1) := dk_42 (dk_at dksJ10_copyOf_0 0 rfl rfl)
theorem dJ10_copyOf_1 : decode cJ10_copyOf 1 = .ok (.iload_n 1, 1) := dk_27 (dk_at dksJ10_copyOf_0 1 rfl rfl)
theorem dJ10_copyOf_2 : decode cJ10_copyOf 2 = .ok (.aload_n 0, 1) := dk_42 (dk_at dksJ10_copyOf_0 2 rfl rfl)
theorem dJ10_copyOf_3 : decode cJ10_copyOf 3 = .ok (.invokevirtual 86, 3) := dk_182 0 86 (dk_at dksJ10_copyOf_0 3 rfl rfl)
theorem dJ10_copyOf_6 : decode cJ10_copyOf 6 = .ok (.invokestatic 300, 3) := dk_184 1 44 (dk_at dksJ10_copyOf_0 6 rfl rfl)
theorem dJ10_copyOf_9 : decode cJ10_copyOf 9 = .ok (.areturn, 1) := dk_176 (dk_at dksJ10_copyOf_0 9 rfl rfl)
abbrev cJ10_copyOf_2 : ByteArray := prog_50_method_120_code
def yJ10_copyOf_2 : MethodName := ⟨RJ10, "copyOf", "([Ljava/lang/Object;ILjava/lang/Class;)[Ljava/lang/Object;"⟩
def dkwJ10_copyOf_2_1 : List UInt8 := [78, 42, 3, 45, 3, 42, 190, 27, 184, 1, 48, 184, 0, 150, 45, 176]
abbrev dktJ10_copyOf_2_1 : List UInt8 := dkwJ10_copyOf_2_1 ++ []
def dkwJ10_copyOf_2_0 : List UInt8 := [44, 18, 110, 166, 0, 10, 27, 189, 0, 2, 167, 0, 14, 44, 182, 0, 90, 27, 184, 0, 95, 192, 0, 110]
abbrev dktJ10_copyOf_2_0 : List UInt8 := dkwJ10_copyOf_2_0 ++ dktJ10_copyOf_2_1
theorem dksJ10_copyOf_2_0 : cJ10_copyOf_2.data.toList.drop 0 = dktJ10_copyOf_2_0 := by decide +kernel
theorem dksJ10_copyOf_2_1 : cJ10_copyOf_2.data.toList.drop 24 = dktJ10_copyOf_2_1 := dk_seg dksJ10_copyOf_2_0 24 rfl rfl
theorem dJ10_copyOf_2_0 : decode cJ10_copyOf_2 0 = .ok (.aload_n 2, 1) := dk_44 (dk_at dksJ10_copyOf_2_0 0 rfl rfl)
theorem dJ10_copyOf_2_1 : decode cJ10_copyOf_2 1 = .ok (.ldc 110, 2) := dk_18 110 (dk_at dksJ10_copyOf_2_0 1 rfl rfl)
theorem dJ10_copyOf_2_3 : decode cJ10_copyOf_2 3 = .ok (.if_acmp .ne 10, 3) := dk_166 0 10 (dk_at dksJ10_copyOf_2_0 3 rfl rfl)
theorem dJ10_copyOf_2_6 : decode cJ10_copyOf_2 6 = .ok (.iload_n 1, 1) := dk_27 (dk_at dksJ10_copyOf_2_0 6 rfl rfl)
theorem dJ10_copyOf_2_7 : decode cJ10_copyOf_2 7 = .ok (.anewarray 2, 3) := dk_189 0 2 (dk_at dksJ10_copyOf_2_0 7 rfl rfl)
theorem dJ10_copyOf_2_10 : decode cJ10_copyOf_2 10 = .ok (.goto 14, 3) := dk_167 0 14 (dk_at dksJ10_copyOf_2_0 10 rfl rfl)
theorem dJ10_copyOf_2_13 : decode cJ10_copyOf_2 13 = .ok (.aload_n 2, 1) := dk_44 (dk_at dksJ10_copyOf_2_0 13 rfl rfl)
theorem dJ10_copyOf_2_14 : decode cJ10_copyOf_2 14 = .ok (.invokevirtual 90, 3) := dk_182 0 90 (dk_at dksJ10_copyOf_2_0 14 rfl rfl)
theorem dJ10_copyOf_2_17 : decode cJ10_copyOf_2 17 = .ok (.iload_n 1, 1) := dk_27 (dk_at dksJ10_copyOf_2_0 17 rfl rfl)
theorem dJ10_copyOf_2_18 : decode cJ10_copyOf_2 18 = .ok (.invokestatic 95, 3) := dk_184 0 95 (dk_at dksJ10_copyOf_2_0 18 rfl rfl)
theorem dJ10_copyOf_2_21 : decode cJ10_copyOf_2 21 = .ok (.checkcast 110, 3) := dk_192 0 110 (dk_at dksJ10_copyOf_2_0 21 rfl rfl)
theorem dJ10_copyOf_2_24 : decode cJ10_copyOf_2 24 = .ok (.astore_n 3, 1) := dk_78 (dk_at dksJ10_copyOf_2_1 0 rfl rfl)
theorem dJ10_copyOf_2_25 : decode cJ10_copyOf_2 25 = .ok (.aload_n 0, 1) := dk_42 (dk_at dksJ10_copyOf_2_1 1 rfl rfl)
theorem dJ10_copyOf_2_26 : decode cJ10_copyOf_2 26 = .ok (.iconst 0, 1) := dk_3 (dk_at dksJ10_copyOf_2_1 2 rfl rfl)
theorem dJ10_copyOf_2_27 : decode cJ10_copyOf_2 27 = .ok (.aload_n 3, 1) := dk_45 (dk_at dksJ10_copyOf_2_1 3 rfl rfl)
theorem dJ10_copyOf_2_28 : decode cJ10_copyOf_2 28 = .ok (.iconst 0, 1) := dk_3 (dk_at dksJ10_copyOf_2_1 4 rfl rfl)
theorem dJ10_copyOf_2_29 : decode cJ10_copyOf_2 29 = .ok (.aload_n 0, 1) := dk_42 (dk_at dksJ10_copyOf_2_1 5 rfl rfl)
theorem dJ10_copyOf_2_30 : decode cJ10_copyOf_2 30 = .ok (.arraylength, 1) := dk_190 (dk_at dksJ10_copyOf_2_1 6 rfl rfl)
theorem dJ10_copyOf_2_31 : decode cJ10_copyOf_2 31 = .ok (.iload_n 1, 1) := dk_27 (dk_at dksJ10_copyOf_2_1 7 rfl rfl)
theorem dJ10_copyOf_2_32 : decode cJ10_copyOf_2 32 = .ok (.invokestatic 304, 3) := dk_184 1 48 (dk_at dksJ10_copyOf_2_1 8 rfl rfl)
theorem dJ10_copyOf_2_35 : decode cJ10_copyOf_2 35 = .ok (.invokestatic 150, 3) := dk_184 0 150 (dk_at dksJ10_copyOf_2_1 11 rfl rfl)
theorem dJ10_copyOf_2_38 : decode cJ10_copyOf_2 38 = .ok (.aload_n 3, 1) := dk_45 (dk_at dksJ10_copyOf_2_1 14 rfl rfl)
theorem dJ10_copyOf_2_39 : decode cJ10_copyOf_2 39 = .ok (.areturn, 1) := dk_176 (dk_at dksJ10_copyOf_2_1 15 rfl rfl)
abbrev cJ10_copyOf_3 : ByteArray := prog_50_method_121_code
def yJ10_copyOf_3 : MethodName := ⟨RJ10, "copyOf", "([BI)[B"⟩
def dkwJ10_copyOf_3_1 : List UInt8 := [27, 184, 1, 48, 184, 0, 150, 44, 176]
abbrev dktJ10_copyOf_3_1 : List UInt8 := dkwJ10_copyOf_3_1 ++ []
def dkwJ10_copyOf_3_0 : List UInt8 := [27, 42, 190, 160, 0, 11, 42, 182, 1, 54, 192, 1, 55, 176, 27, 188, 8, 77, 42, 3, 44, 3, 42, 190]
abbrev dktJ10_copyOf_3_0 : List UInt8 := dkwJ10_copyOf_3_0 ++ dktJ10_copyOf_3_1
theorem dksJ10_copyOf_3_0 : cJ10_copyOf_3.data.toList.drop 0 = dktJ10_copyOf_3_0 := by decide +kernel
theorem dksJ10_copyOf_3_1 : cJ10_copyOf_3.data.toList.drop 24 = dktJ10_copyOf_3_1 := dk_seg dksJ10_copyOf_3_0 24 rfl rfl
theorem dJ10_copyOf_3_0 : decode cJ10_copyOf_3 0 = .ok (.iload_n 1, 1) := dk_27 (dk_at dksJ10_copyOf_3_0 0 rfl rfl)
theorem dJ10_copyOf_3_1 : decode cJ10_copyOf_3 1 = .ok (.aload_n 0, 1) := dk_42 (dk_at dksJ10_copyOf_3_0 1 rfl rfl)
theorem dJ10_copyOf_3_2 : decode cJ10_copyOf_3 2 = .ok (.arraylength, 1) := dk_190 (dk_at dksJ10_copyOf_3_0 2 rfl rfl)
theorem dJ10_copyOf_3_3 : decode cJ10_copyOf_3 3 = .ok (.if_icmp .ne 11, 3) := dk_160 0 11 (dk_at dksJ10_copyOf_3_0 3 rfl rfl)
theorem dJ10_copyOf_3_6 : decode cJ10_copyOf_3 6 = .ok (.aload_n 0, 1) := dk_42 (dk_at dksJ10_copyOf_3_0 6 rfl rfl)
theorem dJ10_copyOf_3_7 : decode cJ10_copyOf_3 7 = .ok (.invokevirtual 310, 3) := dk_182 1 54 (dk_at dksJ10_copyOf_3_0 7 rfl rfl)
theorem dJ10_copyOf_3_10 : decode cJ10_copyOf_3 10 = .ok (.checkcast 311, 3) := dk_192 1 55 (dk_at dksJ10_copyOf_3_0 10 rfl rfl)
theorem dJ10_copyOf_3_13 : decode cJ10_copyOf_3 13 = .ok (.areturn, 1) := dk_176 (dk_at dksJ10_copyOf_3_0 13 rfl rfl)
theorem dJ10_copyOf_3_14 : decode cJ10_copyOf_3 14 = .ok (.iload_n 1, 1) := dk_27 (dk_at dksJ10_copyOf_3_0 14 rfl rfl)
theorem dJ10_copyOf_3_15 : decode cJ10_copyOf_3 15 = .ok (.newarray .byte, 2) := dk_188_8 (dk_at dksJ10_copyOf_3_0 15 rfl rfl)
theorem dJ10_copyOf_3_17 : decode cJ10_copyOf_3 17 = .ok (.astore_n 2, 1) := dk_77 (dk_at dksJ10_copyOf_3_0 17 rfl rfl)
theorem dJ10_copyOf_3_18 : decode cJ10_copyOf_3 18 = .ok (.aload_n 0, 1) := dk_42 (dk_at dksJ10_copyOf_3_0 18 rfl rfl)
theorem dJ10_copyOf_3_19 : decode cJ10_copyOf_3 19 = .ok (.iconst 0, 1) := dk_3 (dk_at dksJ10_copyOf_3_0 19 rfl rfl)
theorem dJ10_copyOf_3_20 : decode cJ10_copyOf_3 20 = .ok (.aload_n 2, 1) := dk_44 (dk_at dksJ10_copyOf_3_0 20 rfl rfl)
theorem dJ10_copyOf_3_21 : decode cJ10_copyOf_3 21 = .ok (.iconst 0, 1) := dk_3 (dk_at dksJ10_copyOf_3_0 21 rfl rfl)
theorem dJ10_copyOf_3_22 : decode cJ10_copyOf_3 22 = .ok (.aload_n 0, 1) := dk_42 (dk_at dksJ10_copyOf_3_0 22 rfl rfl)
theorem dJ10_copyOf_3_23 : decode cJ10_copyOf_3 23 = .ok (.arraylength, 1) := dk_190 (dk_at dksJ10_copyOf_3_0 23 rfl rfl)
theorem dJ10_copyOf_3_24 : decode cJ10_copyOf_3 24 = .ok (.iload_n 1, 1) := dk_27 (dk_at dksJ10_copyOf_3_1 0 rfl rfl)
theorem dJ10_copyOf_3_25 : decode cJ10_copyOf_3 25 = .ok (.invokestatic 304, 3) := dk_184 1 48 (dk_at dksJ10_copyOf_3_1 1 rfl rfl)
theorem dJ10_copyOf_3_28 : decode cJ10_copyOf_3 28 = .ok (.invokestatic 150, 3) := dk_184 0 150 (dk_at dksJ10_copyOf_3_1 4 rfl rfl)
theorem dJ10_copyOf_3_31 : decode cJ10_copyOf_3 31 = .ok (.aload_n 2, 1) := dk_44 (dk_at dksJ10_copyOf_3_1 7 rfl rfl)
theorem dJ10_copyOf_3_32 : decode cJ10_copyOf_3 32 = .ok (.areturn, 1) := dk_176 (dk_at dksJ10_copyOf_3_1 8 rfl rfl)
abbrev cJ10_copyOfRange : ByteArray := prog_50_method_132_code
def yJ10_copyOfRange : MethodName := ⟨RJ10, "copyOfRange", "([BII)[B"⟩
def dkwJ10_copyOfRange_1 : List UInt8 := [176]
abbrev dktJ10_copyOfRange_1 : List UInt8 := dkwJ10_copyOfRange_1 ++ []
def dkwJ10_copyOfRange_0 : List UInt8 := [27, 154, 0, 9, 28, 42, 190, 159, 0, 10, 42, 27, 28, 184, 1, 83, 176, 42, 182, 1, 54, 192, 1, 55]
abbrev dktJ10_copyOfRange_0 : List UInt8 := dkwJ10_copyOfRange_0 ++ dktJ10_copyOfRange_1
theorem dksJ10_copyOfRange_0 : cJ10_copyOfRange.data.toList.drop 0 = dktJ10_copyOfRange_0 := by decide +kernel
theorem dksJ10_copyOfRange_1 : cJ10_copyOfRange.data.toList.drop 24 = dktJ10_copyOfRange_1 := dk_seg dksJ10_copyOfRange_0 24 rfl rfl
theorem dJ10_copyOfRange_0 : decode cJ10_copyOfRange 0 = .ok (.iload_n 1, 1) := dk_27 (dk_at dksJ10_copyOfRange_0 0 rfl rfl)
theorem dJ10_copyOfRange_1 : decode cJ10_copyOfRange 1 = .ok (.ifCond .ne 9, 3) := dk_154 0 9 (dk_at dksJ10_copyOfRange_0 1 rfl rfl)
theorem dJ10_copyOfRange_4 : decode cJ10_copyOfRange 4 = .ok (.iload_n 2, 1) := dk_28 (dk_at dksJ10_copyOfRange_0 4 rfl rfl)
theorem dJ10_copyOfRange_5 : decode cJ10_copyOfRange 5 = .ok (.aload_n 0, 1) := dk_42 (dk_at dksJ10_copyOfRange_0 5 rfl rfl)
theorem dJ10_copyOfRange_6 : decode cJ10_copyOfRange 6 = .ok (.arraylength, 1) := dk_190 (dk_at dksJ10_copyOfRange_0 6 rfl rfl)
theorem dJ10_copyOfRange_7 : decode cJ10_copyOfRange 7 = .ok (.if_icmp .eq 10, 3) := dk_159 0 10 (dk_at dksJ10_copyOfRange_0 7 rfl rfl)
theorem dJ10_copyOfRange_10 : decode cJ10_copyOfRange 10 = .ok (.aload_n 0, 1) := dk_42 (dk_at dksJ10_copyOfRange_0 10 rfl rfl)
theorem dJ10_copyOfRange_11 : decode cJ10_copyOfRange 11 = .ok (.iload_n 1, 1) := dk_27 (dk_at dksJ10_copyOfRange_0 11 rfl rfl)
theorem dJ10_copyOfRange_12 : decode cJ10_copyOfRange 12 = .ok (.iload_n 2, 1) := dk_28 (dk_at dksJ10_copyOfRange_0 12 rfl rfl)
theorem dJ10_copyOfRange_13 : decode cJ10_copyOfRange 13 = .ok (.invokestatic 339, 3) := dk_184 1 83 (dk_at dksJ10_copyOfRange_0 13 rfl rfl)
theorem dJ10_copyOfRange_16 : decode cJ10_copyOfRange 16 = .ok (.areturn, 1) := dk_176 (dk_at dksJ10_copyOfRange_0 16 rfl rfl)
theorem dJ10_copyOfRange_17 : decode cJ10_copyOfRange 17 = .ok (.aload_n 0, 1) := dk_42 (dk_at dksJ10_copyOfRange_0 17 rfl rfl)
theorem dJ10_copyOfRange_18 : decode cJ10_copyOfRange 18 = .ok (.invokevirtual 310, 3) := dk_182 1 54 (dk_at dksJ10_copyOfRange_0 18 rfl rfl)
theorem dJ10_copyOfRange_21 : decode cJ10_copyOfRange 21 = .ok (.checkcast 311, 3) := dk_192 1 55 (dk_at dksJ10_copyOfRange_0 21 rfl rfl)
theorem dJ10_copyOfRange_24 : decode cJ10_copyOfRange 24 = .ok (.areturn, 1) := dk_176 (dk_at dksJ10_copyOfRange_1 0 rfl rfl)
abbrev cJ10_copyOfRangeByte : ByteArray := prog_50_method_133_code
def yJ10_copyOfRangeByte : MethodName := ⟨RJ10, "copyOfRangeByte", "([BII)[B"⟩
def dkwJ10_copyOfRangeByte_1 : List UInt8 := [184, 1, 48, 184, 0, 150, 25, 4, 176]
abbrev dktJ10_copyOfRangeByte_1 : List UInt8 := dkwJ10_copyOfRangeByte_1 ++ []
def dkwJ10_copyOfRangeByte_0 : List UInt8 := [27, 28, 184, 1, 87, 28, 27, 100, 62, 29, 188, 8, 58, 4, 42, 27, 25, 4, 3, 42, 190, 27, 100, 29]
abbrev dktJ10_copyOfRangeByte_0 : List UInt8 := dkwJ10_copyOfRangeByte_0 ++ dktJ10_copyOfRangeByte_1
theorem dksJ10_copyOfRangeByte_0 : cJ10_copyOfRangeByte.data.toList.drop 0 = dktJ10_copyOfRangeByte_0 := by decide +kernel
theorem dksJ10_copyOfRangeByte_1 : cJ10_copyOfRangeByte.data.toList.drop 24 = dktJ10_copyOfRangeByte_1 := dk_seg dksJ10_copyOfRangeByte_0 24 rfl rfl
theorem dJ10_copyOfRangeByte_0 : decode cJ10_copyOfRangeByte 0 = .ok (.iload_n 1, 1) := dk_27 (dk_at dksJ10_copyOfRangeByte_0 0 rfl rfl)
theorem dJ10_copyOfRangeByte_1 : decode cJ10_copyOfRangeByte 1 = .ok (.iload_n 2, 1) := dk_28 (dk_at dksJ10_copyOfRangeByte_0 1 rfl rfl)
theorem dJ10_copyOfRangeByte_2 : decode cJ10_copyOfRangeByte 2 = .ok (.invokestatic 343, 3) := dk_184 1 87 (dk_at dksJ10_copyOfRangeByte_0 2 rfl rfl)
theorem dJ10_copyOfRangeByte_5 : decode cJ10_copyOfRangeByte 5 = .ok (.iload_n 2, 1) := dk_28 (dk_at dksJ10_copyOfRangeByte_0 5 rfl rfl)
theorem dJ10_copyOfRangeByte_6 : decode cJ10_copyOfRangeByte 6 = .ok (.iload_n 1, 1) := dk_27 (dk_at dksJ10_copyOfRangeByte_0 6 rfl rfl)
theorem dJ10_copyOfRangeByte_7 : decode cJ10_copyOfRangeByte 7 = .ok (.isub, 1) := dk_100 (dk_at dksJ10_copyOfRangeByte_0 7 rfl rfl)
theorem dJ10_copyOfRangeByte_8 : decode cJ10_copyOfRangeByte 8 = .ok (.istore_n 3, 1) := dk_62 (dk_at dksJ10_copyOfRangeByte_0 8 rfl rfl)
theorem dJ10_copyOfRangeByte_9 : decode cJ10_copyOfRangeByte 9 = .ok (.iload_n 3, 1) := dk_29 (dk_at dksJ10_copyOfRangeByte_0 9 rfl rfl)
theorem dJ10_copyOfRangeByte_10 : decode cJ10_copyOfRangeByte 10 = .ok (.newarray .byte, 2) := dk_188_8 (dk_at dksJ10_copyOfRangeByte_0 10 rfl rfl)
theorem dJ10_copyOfRangeByte_12 : decode cJ10_copyOfRangeByte 12 = .ok (.astore 4, 2) := dk_58 4 (dk_at dksJ10_copyOfRangeByte_0 12 rfl rfl)
theorem dJ10_copyOfRangeByte_14 : decode cJ10_copyOfRangeByte 14 = .ok (.aload_n 0, 1) := dk_42 (dk_at dksJ10_copyOfRangeByte_0 14 rfl rfl)
theorem dJ10_copyOfRangeByte_15 : decode cJ10_copyOfRangeByte 15 = .ok (.iload_n 1, 1) := dk_27 (dk_at dksJ10_copyOfRangeByte_0 15 rfl rfl)
theorem dJ10_copyOfRangeByte_16 : decode cJ10_copyOfRangeByte 16 = .ok (.aload 4, 2) := dk_25 4 (dk_at dksJ10_copyOfRangeByte_0 16 rfl rfl)
theorem dJ10_copyOfRangeByte_18 : decode cJ10_copyOfRangeByte 18 = .ok (.iconst 0, 1) := dk_3 (dk_at dksJ10_copyOfRangeByte_0 18 rfl rfl)
theorem dJ10_copyOfRangeByte_19 : decode cJ10_copyOfRangeByte 19 = .ok (.aload_n 0, 1) := dk_42 (dk_at dksJ10_copyOfRangeByte_0 19 rfl rfl)
theorem dJ10_copyOfRangeByte_20 : decode cJ10_copyOfRangeByte 20 = .ok (.arraylength, 1) := dk_190 (dk_at dksJ10_copyOfRangeByte_0 20 rfl rfl)
theorem dJ10_copyOfRangeByte_21 : decode cJ10_copyOfRangeByte 21 = .ok (.iload_n 1, 1) := dk_27 (dk_at dksJ10_copyOfRangeByte_0 21 rfl rfl)
theorem dJ10_copyOfRangeByte_22 : decode cJ10_copyOfRangeByte 22 = .ok (.isub, 1) := dk_100 (dk_at dksJ10_copyOfRangeByte_0 22 rfl rfl)
theorem dJ10_copyOfRangeByte_23 : decode cJ10_copyOfRangeByte 23 = .ok (.iload_n 3, 1) := dk_29 (dk_at dksJ10_copyOfRangeByte_0 23 rfl rfl)
theorem dJ10_copyOfRangeByte_24 : decode cJ10_copyOfRangeByte 24 = .ok (.invokestatic 304, 3) := dk_184 1 48 (dk_at dksJ10_copyOfRangeByte_1 0 rfl rfl)
theorem dJ10_copyOfRangeByte_27 : decode cJ10_copyOfRangeByte 27 = .ok (.invokestatic 150, 3) := dk_184 0 150 (dk_at dksJ10_copyOfRangeByte_1 3 rfl rfl)
theorem dJ10_copyOfRangeByte_30 : decode cJ10_copyOfRangeByte 30 = .ok (.aload 4, 2) := dk_25 4 (dk_at dksJ10_copyOfRangeByte_1 6 rfl rfl)
theorem dJ10_copyOfRangeByte_32 : decode cJ10_copyOfRangeByte 32 = .ok (.areturn, 1) := dk_176 (dk_at dksJ10_copyOfRangeByte_1 8 rfl rfl)
abbrev cJ10_checkLength : ByteArray := prog_50_method_131_code
def yJ10_checkLength : MethodName := ⟨RJ10, "checkLength", "(II)V"⟩
def dkwJ10_checkLength_1 : List UInt8 := [182, 0, 50, 27, 182, 0, 54, 182, 0, 61, 183, 0, 65, 191, 177]
abbrev dktJ10_checkLength_1 : List UInt8 := dkwJ10_checkLength_1 ++ []
def dkwJ10_checkLength_0 : List UInt8 := [27, 26, 162, 0, 35, 187, 0, 43, 89, 187, 0, 45, 89, 183, 0, 47, 26, 182, 0, 54, 19, 1, 81]
abbrev dktJ10_checkLength_0 : List UInt8 := dkwJ10_checkLength_0 ++ dktJ10_checkLength_1
theorem dksJ10_checkLength_0 : cJ10_checkLength.data.toList.drop 0 = dktJ10_checkLength_0 := by decide +kernel
theorem dksJ10_checkLength_1 : cJ10_checkLength.data.toList.drop 23 = dktJ10_checkLength_1 := dk_seg dksJ10_checkLength_0 23 rfl rfl
theorem dJ10_checkLength_0 : decode cJ10_checkLength 0 = .ok (.iload_n 1, 1) := dk_27 (dk_at dksJ10_checkLength_0 0 rfl rfl)
theorem dJ10_checkLength_1 : decode cJ10_checkLength 1 = .ok (.iload_n 0, 1) := dk_26 (dk_at dksJ10_checkLength_0 1 rfl rfl)
theorem dJ10_checkLength_2 : decode cJ10_checkLength 2 = .ok (.if_icmp .ge 35, 3) := dk_162 0 35 (dk_at dksJ10_checkLength_0 2 rfl rfl)
theorem dJ10_checkLength_5 : decode cJ10_checkLength 5 = .ok (.new 43, 3) := dk_187 0 43 (dk_at dksJ10_checkLength_0 5 rfl rfl)
theorem dJ10_checkLength_8 : decode cJ10_checkLength 8 = .ok (.dup, 1) := dk_89 (dk_at dksJ10_checkLength_0 8 rfl rfl)
theorem dJ10_checkLength_9 : decode cJ10_checkLength 9 = .ok (.new 45, 3) := dk_187 0 45 (dk_at dksJ10_checkLength_0 9 rfl rfl)
theorem dJ10_checkLength_12 : decode cJ10_checkLength 12 = .ok (.dup, 1) := dk_89 (dk_at dksJ10_checkLength_0 12 rfl rfl)
theorem dJ10_checkLength_13 : decode cJ10_checkLength 13 = .ok (.invokespecial 47, 3) := dk_183 0 47 (dk_at dksJ10_checkLength_0 13 rfl rfl)
theorem dJ10_checkLength_16 : decode cJ10_checkLength 16 = .ok (.iload_n 0, 1) := dk_26 (dk_at dksJ10_checkLength_0 16 rfl rfl)
theorem dJ10_checkLength_17 : decode cJ10_checkLength 17 = .ok (.invokevirtual 54, 3) := dk_182 0 54 (dk_at dksJ10_checkLength_0 17 rfl rfl)
theorem dJ10_checkLength_20 : decode cJ10_checkLength 20 = .ok (.ldc_w 337, 3) := dk_19 1 81 (dk_at dksJ10_checkLength_0 20 rfl rfl)
theorem dJ10_checkLength_23 : decode cJ10_checkLength 23 = .ok (.invokevirtual 50, 3) := dk_182 0 50 (dk_at dksJ10_checkLength_1 0 rfl rfl)
theorem dJ10_checkLength_26 : decode cJ10_checkLength 26 = .ok (.iload_n 1, 1) := dk_27 (dk_at dksJ10_checkLength_1 3 rfl rfl)
theorem dJ10_checkLength_27 : decode cJ10_checkLength 27 = .ok (.invokevirtual 54, 3) := dk_182 0 54 (dk_at dksJ10_checkLength_1 4 rfl rfl)
theorem dJ10_checkLength_30 : decode cJ10_checkLength 30 = .ok (.invokevirtual 61, 3) := dk_182 0 61 (dk_at dksJ10_checkLength_1 7 rfl rfl)
theorem dJ10_checkLength_33 : decode cJ10_checkLength 33 = .ok (.invokespecial 65, 3) := dk_183 0 65 (dk_at dksJ10_checkLength_1 10 rfl rfl)
theorem dJ10_checkLength_36 : decode cJ10_checkLength 36 = .ok (.athrow, 1) := dk_191 (dk_at dksJ10_checkLength_1 13 rfl rfl)
theorem dJ10_checkLength_37 : decode cJ10_checkLength 37 = .ok (.return_, 1) := dk_177 (dk_at dksJ10_checkLength_1 14 rfl rfl)
abbrev cJ10_fill : ByteArray := prog_50_method_103_code
def yJ10_fill : MethodName := ⟨RJ10, "fill", "([II)V"⟩
def dkwJ10_fill_0 : List UInt8 := [3, 61, 42, 190, 62, 28, 29, 162, 0, 13, 42, 28, 27, 79, 132, 2, 1, 167, 255, 244, 177]
abbrev dktJ10_fill_0 : List UInt8 := dkwJ10_fill_0 ++ []
theorem dksJ10_fill_0 : cJ10_fill.data.toList.drop 0 = dktJ10_fill_0 := by decide +kernel
theorem dJ10_fill_0 : decode cJ10_fill 0 = .ok (.iconst 0, 1) := dk_3 (dk_at dksJ10_fill_0 0 rfl rfl)
theorem dJ10_fill_1 : decode cJ10_fill 1 = .ok (.istore_n 2, 1) := dk_61 (dk_at dksJ10_fill_0 1 rfl rfl)
theorem dJ10_fill_2 : decode cJ10_fill 2 = .ok (.aload_n 0, 1) := dk_42 (dk_at dksJ10_fill_0 2 rfl rfl)
theorem dJ10_fill_3 : decode cJ10_fill 3 = .ok (.arraylength, 1) := dk_190 (dk_at dksJ10_fill_0 3 rfl rfl)
theorem dJ10_fill_4 : decode cJ10_fill 4 = .ok (.istore_n 3, 1) := dk_62 (dk_at dksJ10_fill_0 4 rfl rfl)
theorem dJ10_fill_5 : decode cJ10_fill 5 = .ok (.iload_n 2, 1) := dk_28 (dk_at dksJ10_fill_0 5 rfl rfl)
theorem dJ10_fill_6 : decode cJ10_fill 6 = .ok (.iload_n 3, 1) := dk_29 (dk_at dksJ10_fill_0 6 rfl rfl)
theorem dJ10_fill_7 : decode cJ10_fill 7 = .ok (.if_icmp .ge 13, 3) := dk_162 0 13 (dk_at dksJ10_fill_0 7 rfl rfl)
theorem dJ10_fill_10 : decode cJ10_fill 10 = .ok (.aload_n 0, 1) := dk_42 (dk_at dksJ10_fill_0 10 rfl rfl)
theorem dJ10_fill_11 : decode cJ10_fill 11 = .ok (.iload_n 2, 1) := dk_28 (dk_at dksJ10_fill_0 11 rfl rfl)
theorem dJ10_fill_12 : decode cJ10_fill 12 = .ok (.iload_n 1, 1) := dk_27 (dk_at dksJ10_fill_0 12 rfl rfl)
theorem dJ10_fill_13 : decode cJ10_fill 13 = .ok (.iastore, 1) := dk_79 (dk_at dksJ10_fill_0 13 rfl rfl)
theorem dJ10_fill_14 : decode cJ10_fill 14 = .ok (.iinc 2 1, 3) := dk_132 2 1 (dk_at dksJ10_fill_0 14 rfl rfl)
theorem dJ10_fill_17 : decode cJ10_fill 17 = .ok (.goto (-12), 3) := dk_167 255 244 (dk_at dksJ10_fill_0 17 rfl rfl)
theorem dJ10_fill_20 : decode cJ10_fill 20 = .ok (.return_, 1) := dk_177 (dk_at dksJ10_fill_0 20 rfl rfl)
theorem q148 : (Jvm.Cond.initialized "java/util/Arrays") ∈ lw_all := lw_g (lw_at lw_m1 20 rfl) rfl
theorem q690 : (Jvm.Cond.static ({ cls := "java/util/Arrays", name := "copyOf", desc := "([Ljava/lang/Object;I)[Ljava/lang/Object;" } : Jvm.MethodName)) ∈ lw_all := lw_g (lw_at lw_m3 82 rfl) rfl
theorem q691 : (Jvm.Cond.code ({ cls := "java/util/Arrays", name := "copyOf", desc := "([Ljava/lang/Object;I)[Ljava/lang/Object;" } : Jvm.MethodName) prog_50_method_119_code (2 : Nat) (Option.some (Jvm.ClassFile.FieldType.array (Jvm.ClassFile.FieldType.object "java/lang/Object")))) ∈ lw_all := lw_g (lw_at lw_m3 83 rfl) rfl
theorem q692 : (Jvm.Cond.methodLink "java/util/Arrays" (86 : Nat) ({ cls := "java/lang/Object", name := "getClass", desc := "()Ljava/lang/Class;" } : Jvm.MethodName)) ∈ lw_all := lw_g (lw_at lw_m3 84 rfl) rfl
theorem q721 : (Jvm.Cond.methodLink "java/util/Arrays" (300 : Nat) ({ cls := "java/util/Arrays", name := "copyOf", desc := "([Ljava/lang/Object;ILjava/lang/Class;)[Ljava/lang/Object;" } : Jvm.MethodName)) ∈ lw_all := lw_g (lw_at lw_m3 113 rfl) rfl
theorem q722 : (Jvm.Cond.static ({ cls := "java/util/Arrays", name := "copyOf", desc := "([Ljava/lang/Object;ILjava/lang/Class;)[Ljava/lang/Object;" } : Jvm.MethodName)) ∈ lw_all := lw_g (lw_at lw_m3 114 rfl) rfl
theorem q723 : (Jvm.Cond.code ({ cls := "java/util/Arrays", name := "copyOf", desc := "([Ljava/lang/Object;ILjava/lang/Class;)[Ljava/lang/Object;" } : Jvm.MethodName) prog_50_method_120_code (4 : Nat) (Option.some (Jvm.ClassFile.FieldType.array (Jvm.ClassFile.FieldType.object "java/lang/Object")))) ∈ lw_all := lw_g (lw_at lw_m3 115 rfl) rfl
theorem q724 : (Jvm.Cond.classLink "java/util/Arrays" (110 : Nat) "[Ljava/lang/Object;") ∈ lw_all := lw_g (lw_at lw_m3 116 rfl) rfl
theorem q726 : (Jvm.Cond.classLink "java/util/Arrays" (2 : Nat) "java/lang/Object") ∈ lw_all := lw_g (lw_at lw_m3 118 rfl) rfl
theorem q727 : (Jvm.Cond.methodLink "java/util/Arrays" (304 : Nat) ({ cls := "java/lang/Math", name := "min", desc := "(II)I" } : Jvm.MethodName)) ∈ lw_all := lw_g (lw_at lw_m3 119 rfl) rfl
theorem q728 : (Jvm.Cond.methodLink "java/util/Arrays" (150 : Nat) ({ cls := "java/lang/System", name := "arraycopy", desc := "(Ljava/lang/Object;ILjava/lang/Object;II)V" } : Jvm.MethodName)) ∈ lw_all := lw_g (lw_at lw_m3 120 rfl) rfl
theorem q1033 : (Jvm.Cond.static ({ cls := "java/util/Arrays", name := "copyOf", desc := "([BI)[B" } : Jvm.MethodName)) ∈ lw_all := lw_g (lw_at lw_m4 185 rfl) rfl
theorem q1034 : (Jvm.Cond.code ({ cls := "java/util/Arrays", name := "copyOf", desc := "([BI)[B" } : Jvm.MethodName) prog_50_method_121_code (3 : Nat) (Option.some (Jvm.ClassFile.FieldType.array Jvm.ClassFile.FieldType.byte))) ∈ lw_all := lw_g (lw_at lw_m4 186 rfl) rfl
theorem q1035 : (Jvm.Cond.methodLink "java/util/Arrays" (310 : Nat) ({ cls := "[B", name := "clone", desc := "()Ljava/lang/Object;" } : Jvm.MethodName)) ∈ lw_all := lw_g (lw_at lw_m4 187 rfl) rfl
theorem q1039 : (Jvm.Cond.classLink "java/util/Arrays" (311 : Nat) "[B") ∈ lw_all := lw_g (lw_at lw_m4 191 rfl) rfl
theorem q1119 : (Jvm.Cond.static ({ cls := "java/util/Arrays", name := "copyOfRange", desc := "([BII)[B" } : Jvm.MethodName)) ∈ lw_all := lw_g (lw_at lw_m5 31 rfl) rfl
theorem q1120 : (Jvm.Cond.code ({ cls := "java/util/Arrays", name := "copyOfRange", desc := "([BII)[B" } : Jvm.MethodName) prog_50_method_132_code (3 : Nat) (Option.some (Jvm.ClassFile.FieldType.array Jvm.ClassFile.FieldType.byte))) ∈ lw_all := lw_g (lw_at lw_m5 32 rfl) rfl
theorem q1121 : (Jvm.Cond.methodLink "java/util/Arrays" (339 : Nat) ({ cls := "java/util/Arrays", name := "copyOfRangeByte", desc := "([BII)[B" } : Jvm.MethodName)) ∈ lw_all := lw_g (lw_at lw_m5 33 rfl) rfl
theorem q1122 : (Jvm.Cond.static ({ cls := "java/util/Arrays", name := "copyOfRangeByte", desc := "([BII)[B" } : Jvm.MethodName)) ∈ lw_all := lw_g (lw_at lw_m5 34 rfl) rfl
theorem q1123 : (Jvm.Cond.code ({ cls := "java/util/Arrays", name := "copyOfRangeByte", desc := "([BII)[B" } : Jvm.MethodName) prog_50_method_133_code (5 : Nat) (Option.some (Jvm.ClassFile.FieldType.array Jvm.ClassFile.FieldType.byte))) ∈ lw_all := lw_g (lw_at lw_m5 35 rfl) rfl
theorem q1124 : (Jvm.Cond.methodLink "java/util/Arrays" (343 : Nat) ({ cls := "java/util/Arrays", name := "checkLength", desc := "(II)V" } : Jvm.MethodName)) ∈ lw_all := lw_g (lw_at lw_m5 36 rfl) rfl
theorem q1125 : (Jvm.Cond.static ({ cls := "java/util/Arrays", name := "checkLength", desc := "(II)V" } : Jvm.MethodName)) ∈ lw_all := lw_g (lw_at lw_m5 37 rfl) rfl
theorem q1126 : (Jvm.Cond.code ({ cls := "java/util/Arrays", name := "checkLength", desc := "(II)V" } : Jvm.MethodName) prog_50_method_131_code (2 : Nat) (Option.none : Option Jvm.ClassFile.FieldType)) ∈ lw_all := lw_g (lw_at lw_m5 38 rfl) rfl
theorem q1942 : (Jvm.Cond.static ({ cls := "java/util/Arrays", name := "fill", desc := "([II)V" } : Jvm.MethodName)) ∈ lw_all := lw_g (lw_at lw_m8 134 rfl) rfl
theorem q1943 : (Jvm.Cond.code ({ cls := "java/util/Arrays", name := "fill", desc := "([II)V" } : Jvm.MethodName) prog_50_method_103_code (4 : Nat) (Option.none : Option Jvm.ClassFile.FieldType)) ∈ lw_all := lw_g (lw_at lw_m8 135 rfl) rfl
/-! java/lang/Integer -/
set_option maxRecDepth 100000
def RJ11 : String := "java/lang/Integer"
abbrev cJ11_compare : ByteArray := prog_31_method_40_code
def yJ11_compare : MethodName := ⟨RJ11, "compare", "(II)I"⟩
def dkwJ11_compare_0 : List UInt8 := [26, 27, 162, 0, 7, 2, 167, 0, 13, 26, 27, 160, 0, 7, 3, 167, 0, 4, 4, 172]
abbrev dktJ11_compare_0 : List UInt8 := dkwJ11_compare_0 ++ []
theorem dksJ11_compare_0 : cJ11_compare.data.toList.drop 0 = dktJ11_compare_0 := by decide +kernel
theorem dJ11_compare_0 : decode cJ11_compare 0 = .ok (.iload_n 0, 1) := dk_26 (dk_at dksJ11_compare_0 0 rfl rfl)
theorem dJ11_compare_1 : decode cJ11_compare 1 = .ok (.iload_n 1, 1) := dk_27 (dk_at dksJ11_compare_0 1 rfl rfl)
theorem dJ11_compare_2 : decode cJ11_compare 2 = .ok (.if_icmp .ge 7, 3) := dk_162 0 7 (dk_at dksJ11_compare_0 2 rfl rfl)
theorem dJ11_compare_5 : decode cJ11_compare 5 = .ok (.iconst (-1), 1) := dk_2 (dk_at dksJ11_compare_0 5 rfl rfl)
theorem dJ11_compare_6 : decode cJ11_compare 6 = .ok (.goto 13, 3) := dk_167 0 13 (dk_at dksJ11_compare_0 6 rfl rfl)
theorem dJ11_compare_9 : decode cJ11_compare 9 = .ok (.iload_n 0, 1) := dk_26 (dk_at dksJ11_compare_0 9 rfl rfl)
theorem dJ11_compare_10 : decode cJ11_compare 10 = .ok (.iload_n 1, 1) := dk_27 (dk_at dksJ11_compare_0 10 rfl rfl)
theorem dJ11_compare_11 : decode cJ11_compare 11 = .ok (.if_icmp .ne 7, 3) := dk_160 0 7 (dk_at dksJ11_compare_0 11 rfl rfl)
theorem dJ11_compare_14 : decode cJ11_compare 14 = .ok (.iconst 0, 1) := dk_3 (dk_at dksJ11_compare_0 14 rfl rfl)
theorem dJ11_compare_15 : decode cJ11_compare 15 = .ok (.goto 4, 3) := dk_167 0 4 (dk_at dksJ11_compare_0 15 rfl rfl)
theorem dJ11_compare_18 : decode cJ11_compare 18 = .ok (.iconst 1, 1) := dk_4 (dk_at dksJ11_compare_0 18 rfl rfl)
theorem dJ11_compare_19 : decode cJ11_compare 19 = .ok (.ireturn, 1) := dk_172 (dk_at dksJ11_compare_0 19 rfl rfl)
abbrev cJ11_numberOfLeadingZeros : ByteArray := prog_31_method_47_code
def yJ11_numberOfLeadingZeros : MethodName := ⟨RJ11, "numberOfLeadingZeros", "(I)I"⟩
def dkwJ11_numberOfLeadingZeros_3 : List UInt8 := [5, 124, 59, 27, 26, 4, 124, 100, 172]
abbrev dktJ11_numberOfLeadingZeros_3 : List UInt8 := dkwJ11_numberOfLeadingZeros_3 ++ []
def dkwJ11_numberOfLeadingZeros_2 : List UInt8 := [124, 59, 26, 16, 16, 161, 0, 10, 132, 1, 252, 26, 7, 124, 59, 26, 7, 161, 0, 10, 132, 1, 254, 26]
abbrev dktJ11_numberOfLeadingZeros_2 : List UInt8 := dkwJ11_numberOfLeadingZeros_2 ++ dktJ11_numberOfLeadingZeros_3
def dkwJ11_numberOfLeadingZeros_1 : List UInt8 := [161, 0, 11, 132, 1, 240, 26, 16, 16, 124, 59, 26, 17, 1, 0, 161, 0, 11, 132, 1, 248, 26, 16, 8]
abbrev dktJ11_numberOfLeadingZeros_1 : List UInt8 := dkwJ11_numberOfLeadingZeros_1 ++ dktJ11_numberOfLeadingZeros_2
def dkwJ11_numberOfLeadingZeros_0 : List UInt8 := [26, 157, 0, 14, 26, 154, 0, 8, 16, 32, 167, 0, 4, 3, 172, 16, 31, 60, 26, 19, 1, 8]
abbrev dktJ11_numberOfLeadingZeros_0 : List UInt8 := dkwJ11_numberOfLeadingZeros_0 ++ dktJ11_numberOfLeadingZeros_1
theorem dksJ11_numberOfLeadingZeros_0 : cJ11_numberOfLeadingZeros.data.toList.drop 0 = dktJ11_numberOfLeadingZeros_0 := by decide +kernel
theorem dksJ11_numberOfLeadingZeros_1 : cJ11_numberOfLeadingZeros.data.toList.drop 22 = dktJ11_numberOfLeadingZeros_1 := dk_seg dksJ11_numberOfLeadingZeros_0 22 rfl rfl
theorem dksJ11_numberOfLeadingZeros_2 : cJ11_numberOfLeadingZeros.data.toList.drop 46 = dktJ11_numberOfLeadingZeros_2 := dk_seg dksJ11_numberOfLeadingZeros_1 24 rfl rfl
theorem dksJ11_numberOfLeadingZeros_3 : cJ11_numberOfLeadingZeros.data.toList.drop 70 = dktJ11_numberOfLeadingZeros_3 := dk_seg dksJ11_numberOfLeadingZeros_2 24 rfl rfl
theorem dJ11_numberOfLeadingZeros_0 : decode cJ11_numberOfLeadingZeros 0 = .ok (.iload_n 0, 1) := dk_26 (dk_at dksJ11_numberOfLeadingZeros_0 0 rfl rfl)
theorem dJ11_numberOfLeadingZeros_1 : decode cJ11_numberOfLeadingZeros 1 = .ok (.ifCond .gt 14, 3) := dk_157 0 14 (dk_at dksJ11_numberOfLeadingZeros_0 1 rfl rfl)
theorem dJ11_numberOfLeadingZeros_4 : decode cJ11_numberOfLeadingZeros 4 = .ok (.iload_n 0, 1) := dk_26 (dk_at dksJ11_numberOfLeadingZeros_0 4 rfl rfl)
theorem dJ11_numberOfLeadingZeros_5 : decode cJ11_numberOfLeadingZeros 5 = .ok (.ifCond .ne 8, 3) := dk_154 0 8 (dk_at dksJ11_numberOfLeadingZeros_0 5 rfl rfl)
theorem dJ11_numberOfLeadingZeros_8 : decode cJ11_numberOfLeadingZeros 8 = .ok (.bipush 32, 2) := dk_16 32 (dk_at dksJ11_numberOfLeadingZeros_0 8 rfl rfl)
theorem dJ11_numberOfLeadingZeros_10 : decode cJ11_numberOfLeadingZeros 10 = .ok (.goto 4, 3) := dk_167 0 4 (dk_at dksJ11_numberOfLeadingZeros_0 10 rfl rfl)
theorem dJ11_numberOfLeadingZeros_13 : decode cJ11_numberOfLeadingZeros 13 = .ok (.iconst 0, 1) := dk_3 (dk_at dksJ11_numberOfLeadingZeros_0 13 rfl rfl)
theorem dJ11_numberOfLeadingZeros_14 : decode cJ11_numberOfLeadingZeros 14 = .ok (.ireturn, 1) := dk_172 (dk_at dksJ11_numberOfLeadingZeros_0 14 rfl rfl)
theorem dJ11_numberOfLeadingZeros_15 : decode cJ11_numberOfLeadingZeros 15 = .ok (.bipush 31, 2) := dk_16 31 (dk_at dksJ11_numberOfLeadingZeros_0 15 rfl rfl)
theorem dJ11_numberOfLeadingZeros_17 : decode cJ11_numberOfLeadingZeros 17 = .ok (.istore_n 1, 1) := dk_60 (dk_at dksJ11_numberOfLeadingZeros_0 17 rfl rfl)
theorem dJ11_numberOfLeadingZeros_18 : decode cJ11_numberOfLeadingZeros 18 = .ok (.iload_n 0, 1) := dk_26 (dk_at dksJ11_numberOfLeadingZeros_0 18 rfl rfl)
theorem dJ11_numberOfLeadingZeros_19 : decode cJ11_numberOfLeadingZeros 19 = .ok (.ldc_w 264, 3) := dk_19 1 8 (dk_at dksJ11_numberOfLeadingZeros_0 19 rfl rfl)
theorem dJ11_numberOfLeadingZeros_22 : decode cJ11_numberOfLeadingZeros 22 = .ok (.if_icmp .lt 11, 3) := dk_161 0 11 (dk_at dksJ11_numberOfLeadingZeros_1 0 rfl rfl)
theorem dJ11_numberOfLeadingZeros_25 : decode cJ11_numberOfLeadingZeros 25 = .ok (.iinc 1 (-16), 3) := dk_132 1 240 (dk_at dksJ11_numberOfLeadingZeros_1 3 rfl rfl)
theorem dJ11_numberOfLeadingZeros_28 : decode cJ11_numberOfLeadingZeros 28 = .ok (.iload_n 0, 1) := dk_26 (dk_at dksJ11_numberOfLeadingZeros_1 6 rfl rfl)
theorem dJ11_numberOfLeadingZeros_29 : decode cJ11_numberOfLeadingZeros 29 = .ok (.bipush 16, 2) := dk_16 16 (dk_at dksJ11_numberOfLeadingZeros_1 7 rfl rfl)
theorem dJ11_numberOfLeadingZeros_31 : decode cJ11_numberOfLeadingZeros 31 = .ok (.iushr, 1) := dk_124 (dk_at dksJ11_numberOfLeadingZeros_1 9 rfl rfl)
theorem dJ11_numberOfLeadingZeros_32 : decode cJ11_numberOfLeadingZeros 32 = .ok (.istore_n 0, 1) := dk_59 (dk_at dksJ11_numberOfLeadingZeros_1 10 rfl rfl)
theorem dJ11_numberOfLeadingZeros_33 : decode cJ11_numberOfLeadingZeros 33 = .ok (.iload_n 0, 1) := dk_26 (dk_at dksJ11_numberOfLeadingZeros_1 11 rfl rfl)
theorem dJ11_numberOfLeadingZeros_34 : decode cJ11_numberOfLeadingZeros 34 = .ok (.sipush 256, 3) := dk_17 1 0 (dk_at dksJ11_numberOfLeadingZeros_1 12 rfl rfl)
theorem dJ11_numberOfLeadingZeros_37 : decode cJ11_numberOfLeadingZeros 37 = .ok (.if_icmp .lt 11, 3) := dk_161 0 11 (dk_at dksJ11_numberOfLeadingZeros_1 15 rfl rfl)
theorem dJ11_numberOfLeadingZeros_40 : decode cJ11_numberOfLeadingZeros 40 = .ok (.iinc 1 (-8), 3) := dk_132 1 248 (dk_at dksJ11_numberOfLeadingZeros_1 18 rfl rfl)
theorem dJ11_numberOfLeadingZeros_43 : decode cJ11_numberOfLeadingZeros 43 = .ok (.iload_n 0, 1) := dk_26 (dk_at dksJ11_numberOfLeadingZeros_1 21 rfl rfl)
theorem dJ11_numberOfLeadingZeros_44 : decode cJ11_numberOfLeadingZeros 44 = .ok (.bipush 8, 2) := dk_16 8 (dk_at dksJ11_numberOfLeadingZeros_1 22 rfl rfl)
theorem dJ11_numberOfLeadingZeros_46 : decode cJ11_numberOfLeadingZeros 46 = .ok (.iushr, 1) := dk_124 (dk_at dksJ11_numberOfLeadingZeros_2 0 rfl rfl)
theorem dJ11_numberOfLeadingZeros_47 : decode cJ11_numberOfLeadingZeros 47 = .ok (.istore_n 0, 1) := dk_59 (dk_at dksJ11_numberOfLeadingZeros_2 1 rfl rfl)
theorem dJ11_numberOfLeadingZeros_48 : decode cJ11_numberOfLeadingZeros 48 = .ok (.iload_n 0, 1) := dk_26 (dk_at dksJ11_numberOfLeadingZeros_2 2 rfl rfl)
theorem dJ11_numberOfLeadingZeros_49 : decode cJ11_numberOfLeadingZeros 49 = .ok (.bipush 16, 2) := dk_16 16 (dk_at dksJ11_numberOfLeadingZeros_2 3 rfl rfl)
theorem dJ11_numberOfLeadingZeros_51 : decode cJ11_numberOfLeadingZeros 51 = .ok (.if_icmp .lt 10, 3) := dk_161 0 10 (dk_at dksJ11_numberOfLeadingZeros_2 5 rfl rfl)
theorem dJ11_numberOfLeadingZeros_54 : decode cJ11_numberOfLeadingZeros 54 = .ok (.iinc 1 (-4), 3) := dk_132 1 252 (dk_at dksJ11_numberOfLeadingZeros_2 8 rfl rfl)
theorem dJ11_numberOfLeadingZeros_57 : decode cJ11_numberOfLeadingZeros 57 = .ok (.iload_n 0, 1) := dk_26 (dk_at dksJ11_numberOfLeadingZeros_2 11 rfl rfl)
theorem dJ11_numberOfLeadingZeros_58 : decode cJ11_numberOfLeadingZeros 58 = .ok (.iconst 4, 1) := dk_7 (dk_at dksJ11_numberOfLeadingZeros_2 12 rfl rfl)
theorem dJ11_numberOfLeadingZeros_59 : decode cJ11_numberOfLeadingZeros 59 = .ok (.iushr, 1) := dk_124 (dk_at dksJ11_numberOfLeadingZeros_2 13 rfl rfl)
theorem dJ11_numberOfLeadingZeros_60 : decode cJ11_numberOfLeadingZeros 60 = .ok (.istore_n 0, 1) := dk_59 (dk_at dksJ11_numberOfLeadingZeros_2 14 rfl rfl)
theorem dJ11_numberOfLeadingZeros_61 : decode cJ11_numberOfLeadingZeros 61 = .ok (.iload_n 0, 1) := dk_26 (dk_at dksJ11_numberOfLeadingZeros_2 15 rfl rfl)
theorem dJ11_numberOfLeadingZeros_62 : decode cJ11_numberOfLeadingZeros 62 = .ok (.iconst 4, 1) := dk_7 (dk_at dksJ11_numberOfLeadingZeros_2 16 rfl rfl)
theorem dJ11_numberOfLeadingZeros_63 : decode cJ11_numberOfLeadingZeros 63 = .ok (.if_icmp .lt 10, 3) := dk_161 0 10 (dk_at dksJ11_numberOfLeadingZeros_2 17 rfl rfl)
theorem dJ11_numberOfLeadingZeros_66 : decode cJ11_numberOfLeadingZeros 66 = .ok (.iinc 1 (-2), 3) := dk_132 1 254 (dk_at dksJ11_numberOfLeadingZeros_2 20 rfl rfl)
theorem dJ11_numberOfLeadingZeros_69 : decode cJ11_numberOfLeadingZeros 69 = .ok (.iload_n 0, 1) := dk_26 (dk_at dksJ11_numberOfLeadingZeros_2 23 rfl rfl)
theorem dJ11_numberOfLeadingZeros_70 : decode cJ11_numberOfLeadingZeros 70 = .ok (.iconst 2, 1) := dk_5 (dk_at dksJ11_numberOfLeadingZeros_3 0 rfl rfl)
theorem dJ11_numberOfLeadingZeros_71 : decode cJ11_numberOfLeadingZeros 71 = .ok (.iushr, 1) := dk_124 (dk_at dksJ11_numberOfLeadingZeros_3 1 rfl rfl)
theorem dJ11_numberOfLeadingZeros_72 : decode cJ11_numberOfLeadingZeros 72 = .ok (.istore_n 0, 1) := dk_59 (dk_at dksJ11_numberOfLeadingZeros_3 2 rfl rfl)
theorem dJ11_numberOfLeadingZeros_73 : decode cJ11_numberOfLeadingZeros 73 = .ok (.iload_n 1, 1) := dk_27 (dk_at dksJ11_numberOfLeadingZeros_3 3 rfl rfl)
theorem dJ11_numberOfLeadingZeros_74 : decode cJ11_numberOfLeadingZeros 74 = .ok (.iload_n 0, 1) := dk_26 (dk_at dksJ11_numberOfLeadingZeros_3 4 rfl rfl)
theorem dJ11_numberOfLeadingZeros_75 : decode cJ11_numberOfLeadingZeros 75 = .ok (.iconst 1, 1) := dk_4 (dk_at dksJ11_numberOfLeadingZeros_3 5 rfl rfl)
theorem dJ11_numberOfLeadingZeros_76 : decode cJ11_numberOfLeadingZeros 76 = .ok (.iushr, 1) := dk_124 (dk_at dksJ11_numberOfLeadingZeros_3 6 rfl rfl)
theorem dJ11_numberOfLeadingZeros_77 : decode cJ11_numberOfLeadingZeros 77 = .ok (.isub, 1) := dk_100 (dk_at dksJ11_numberOfLeadingZeros_3 7 rfl rfl)
theorem dJ11_numberOfLeadingZeros_78 : decode cJ11_numberOfLeadingZeros 78 = .ok (.ireturn, 1) := dk_172 (dk_at dksJ11_numberOfLeadingZeros_3 8 rfl rfl)
abbrev cJ11_numberOfTrailingZeros : ByteArray := prog_31_method_48_code
def yJ11_numberOfTrailingZeros : MethodName := ⟨RJ11, "numberOfTrailingZeros", "(I)I"⟩
def dkwJ11_numberOfTrailingZeros_3 : List UInt8 := [5, 124, 59, 27, 26, 4, 124, 96, 172]
abbrev dktJ11_numberOfTrailingZeros_3 : List UInt8 := dkwJ11_numberOfTrailingZeros_3 ++ []
def dkwJ11_numberOfTrailingZeros_2 : List UInt8 := [124, 59, 26, 16, 16, 164, 0, 10, 132, 1, 4, 26, 7, 124, 59, 26, 7, 164, 0, 10, 132, 1, 2, 26]
abbrev dktJ11_numberOfTrailingZeros_2 : List UInt8 := dkwJ11_numberOfTrailingZeros_2 ++ dktJ11_numberOfTrailingZeros_3
def dkwJ11_numberOfTrailingZeros_1 : List UInt8 := [164, 0, 11, 132, 1, 16, 26, 16, 16, 124, 59, 26, 17, 1, 0, 164, 0, 11, 132, 1, 8, 26, 16, 8]
abbrev dktJ11_numberOfTrailingZeros_1 : List UInt8 := dkwJ11_numberOfTrailingZeros_1 ++ dktJ11_numberOfTrailingZeros_2
def dkwJ11_numberOfTrailingZeros_0 : List UInt8 := [26, 2, 130, 26, 4, 100, 126, 59, 26, 157, 0, 8, 26, 16, 32, 126, 172, 4, 60, 26, 19, 1, 8]
abbrev dktJ11_numberOfTrailingZeros_0 : List UInt8 := dkwJ11_numberOfTrailingZeros_0 ++ dktJ11_numberOfTrailingZeros_1
theorem dksJ11_numberOfTrailingZeros_0 : cJ11_numberOfTrailingZeros.data.toList.drop 0 = dktJ11_numberOfTrailingZeros_0 := by decide +kernel
theorem dksJ11_numberOfTrailingZeros_1 : cJ11_numberOfTrailingZeros.data.toList.drop 23 = dktJ11_numberOfTrailingZeros_1 := dk_seg dksJ11_numberOfTrailingZeros_0 23 rfl rfl
theorem dksJ11_numberOfTrailingZeros_2 : cJ11_numberOfTrailingZeros.data.toList.drop 47 = dktJ11_numberOfTrailingZeros_2 := dk_seg dksJ11_numberOfTrailingZeros_1 24 rfl rfl
theorem dksJ11_numberOfTrailingZeros_3 : cJ11_numberOfTrailingZeros.data.toList.drop 71 = dktJ11_numberOfTrailingZeros_3 := dk_seg dksJ11_numberOfTrailingZeros_2 24 rfl rfl
theorem dJ11_numberOfTrailingZeros_0 : decode cJ11_numberOfTrailingZeros 0 = .ok (.iload_n 0, 1) := dk_26 (dk_at dksJ11_numberOfTrailingZeros_0 0 rfl rfl)
theorem dJ11_numberOfTrailingZeros_1 : decode cJ11_numberOfTrailingZeros 1 = .ok (.iconst (-1), 1) := dk_2 (dk_at dksJ11_numberOfTrailingZeros_0 1 rfl rfl)
theorem dJ11_numberOfTrailingZeros_2 : decode cJ11_numberOfTrailingZeros 2 = .ok (.ixor, 1) := dk_130 (dk_at dksJ11_numberOfTrailingZeros_0 2 rfl rfl)
theorem dJ11_numberOfTrailingZeros_3 : decode cJ11_numberOfTrailingZeros 3 = .ok (.iload_n 0, 1) := dk_26 (dk_at dksJ11_numberOfTrailingZeros_0 3 rfl rfl)
theorem dJ11_numberOfTrailingZeros_4 : decode cJ11_numberOfTrailingZeros 4 = .ok (.iconst 1, 1) := dk_4 (dk_at dksJ11_numberOfTrailingZeros_0 4 rfl rfl)
theorem dJ11_numberOfTrailingZeros_5 : decode cJ11_numberOfTrailingZeros 5 = .ok (.isub, 1) := dk_100 (dk_at dksJ11_numberOfTrailingZeros_0 5 rfl rfl)
theorem dJ11_numberOfTrailingZeros_6 : decode cJ11_numberOfTrailingZeros 6 = .ok (.iand, 1) := dk_126 (dk_at dksJ11_numberOfTrailingZeros_0 6 rfl rfl)
theorem dJ11_numberOfTrailingZeros_7 : decode cJ11_numberOfTrailingZeros 7 = .ok (.istore_n 0, 1) := dk_59 (dk_at dksJ11_numberOfTrailingZeros_0 7 rfl rfl)
theorem dJ11_numberOfTrailingZeros_8 : decode cJ11_numberOfTrailingZeros 8 = .ok (.iload_n 0, 1) := dk_26 (dk_at dksJ11_numberOfTrailingZeros_0 8 rfl rfl)
theorem dJ11_numberOfTrailingZeros_9 : decode cJ11_numberOfTrailingZeros 9 = .ok (.ifCond .gt 8, 3) := dk_157 0 8 (dk_at dksJ11_numberOfTrailingZeros_0 9 rfl rfl)
theorem dJ11_numberOfTrailingZeros_12 : decode cJ11_numberOfTrailingZeros 12 = .ok (.iload_n 0, 1) := dk_26 (dk_at dksJ11_numberOfTrailingZeros_0 12 rfl rfl)
theorem dJ11_numberOfTrailingZeros_13 : decode cJ11_numberOfTrailingZeros 13 = .ok (.bipush 32, 2) := dk_16 32 (dk_at dksJ11_numberOfTrailingZeros_0 13 rfl rfl)
theorem dJ11_numberOfTrailingZeros_15 : decode cJ11_numberOfTrailingZeros 15 = .ok (.iand, 1) := dk_126 (dk_at dksJ11_numberOfTrailingZeros_0 15 rfl rfl)
theorem dJ11_numberOfTrailingZeros_16 : decode cJ11_numberOfTrailingZeros 16 = .ok (.ireturn, 1) := dk_172 (dk_at dksJ11_numberOfTrailingZeros_0 16 rfl rfl)
theorem dJ11_numberOfTrailingZeros_17 : decode cJ11_numberOfTrailingZeros 17 = .ok (.iconst 1, 1) := dk_4 (dk_at dksJ11_numberOfTrailingZeros_0 17 rfl rfl)
theorem dJ11_numberOfTrailingZeros_18 : decode cJ11_numberOfTrailingZeros 18 = .ok (.istore_n 1, 1) := dk_60 (dk_at dksJ11_numberOfTrailingZeros_0 18 rfl rfl)
theorem dJ11_numberOfTrailingZeros_19 : decode cJ11_numberOfTrailingZeros 19 = .ok (.iload_n 0, 1) := dk_26 (dk_at dksJ11_numberOfTrailingZeros_0 19 rfl rfl)
theorem dJ11_numberOfTrailingZeros_20 : decode cJ11_numberOfTrailingZeros 20 = .ok (.ldc_w 264, 3) := dk_19 1 8 (dk_at dksJ11_numberOfTrailingZeros_0 20 rfl rfl)
theorem dJ11_numberOfTrailingZeros_23 : decode cJ11_numberOfTrailingZeros 23 = .ok (.if_icmp .le 11, 3) := dk_164 0 11 (dk_at dksJ11_numberOfTrailingZeros_1 0 rfl rfl)
theorem dJ11_numberOfTrailingZeros_26 : decode cJ11_numberOfTrailingZeros 26 = .ok (.iinc 1 16, 3) := dk_132 1 16 (dk_at dksJ11_numberOfTrailingZeros_1 3 rfl rfl)
theorem dJ11_numberOfTrailingZeros_29 : decode cJ11_numberOfTrailingZeros 29 = .ok (.iload_n 0, 1) := dk_26 (dk_at dksJ11_numberOfTrailingZeros_1 6 rfl rfl)
theorem dJ11_numberOfTrailingZeros_30 : decode cJ11_numberOfTrailingZeros 30 = .ok (.bipush 16, 2) := dk_16 16 (dk_at dksJ11_numberOfTrailingZeros_1 7 rfl rfl)
theorem dJ11_numberOfTrailingZeros_32 : decode cJ11_numberOfTrailingZeros 32 = .ok (.iushr, 1) := dk_124 (dk_at dksJ11_numberOfTrailingZeros_1 9 rfl rfl)
theorem dJ11_numberOfTrailingZeros_33 : decode cJ11_numberOfTrailingZeros 33 = .ok (.istore_n 0, 1) := dk_59 (dk_at dksJ11_numberOfTrailingZeros_1 10 rfl rfl)
theorem dJ11_numberOfTrailingZeros_34 : decode cJ11_numberOfTrailingZeros 34 = .ok (.iload_n 0, 1) := dk_26 (dk_at dksJ11_numberOfTrailingZeros_1 11 rfl rfl)
theorem dJ11_numberOfTrailingZeros_35 : decode cJ11_numberOfTrailingZeros 35 = .ok (.sipush 256, 3) := dk_17 1 0 (dk_at dksJ11_numberOfTrailingZeros_1 12 rfl rfl)
theorem dJ11_numberOfTrailingZeros_38 : decode cJ11_numberOfTrailingZeros 38 = .ok (.if_icmp .le 11, 3) := dk_164 0 11 (dk_at dksJ11_numberOfTrailingZeros_1 15 rfl rfl)
theorem dJ11_numberOfTrailingZeros_41 : decode cJ11_numberOfTrailingZeros 41 = .ok (.iinc 1 8, 3) := dk_132 1 8 (dk_at dksJ11_numberOfTrailingZeros_1 18 rfl rfl)
theorem dJ11_numberOfTrailingZeros_44 : decode cJ11_numberOfTrailingZeros 44 = .ok (.iload_n 0, 1) := dk_26 (dk_at dksJ11_numberOfTrailingZeros_1 21 rfl rfl)
theorem dJ11_numberOfTrailingZeros_45 : decode cJ11_numberOfTrailingZeros 45 = .ok (.bipush 8, 2) := dk_16 8 (dk_at dksJ11_numberOfTrailingZeros_1 22 rfl rfl)
theorem dJ11_numberOfTrailingZeros_47 : decode cJ11_numberOfTrailingZeros 47 = .ok (.iushr, 1) := dk_124 (dk_at dksJ11_numberOfTrailingZeros_2 0 rfl rfl)
theorem dJ11_numberOfTrailingZeros_48 : decode cJ11_numberOfTrailingZeros 48 = .ok (.istore_n 0, 1) := dk_59 (dk_at dksJ11_numberOfTrailingZeros_2 1 rfl rfl)
theorem dJ11_numberOfTrailingZeros_49 : decode cJ11_numberOfTrailingZeros 49 = .ok (.iload_n 0, 1) := dk_26 (dk_at dksJ11_numberOfTrailingZeros_2 2 rfl rfl)
theorem dJ11_numberOfTrailingZeros_50 : decode cJ11_numberOfTrailingZeros 50 = .ok (.bipush 16, 2) := dk_16 16 (dk_at dksJ11_numberOfTrailingZeros_2 3 rfl rfl)
theorem dJ11_numberOfTrailingZeros_52 : decode cJ11_numberOfTrailingZeros 52 = .ok (.if_icmp .le 10, 3) := dk_164 0 10 (dk_at dksJ11_numberOfTrailingZeros_2 5 rfl rfl)
theorem dJ11_numberOfTrailingZeros_55 : decode cJ11_numberOfTrailingZeros 55 = .ok (.iinc 1 4, 3) := dk_132 1 4 (dk_at dksJ11_numberOfTrailingZeros_2 8 rfl rfl)
theorem dJ11_numberOfTrailingZeros_58 : decode cJ11_numberOfTrailingZeros 58 = .ok (.iload_n 0, 1) := dk_26 (dk_at dksJ11_numberOfTrailingZeros_2 11 rfl rfl)
theorem dJ11_numberOfTrailingZeros_59 : decode cJ11_numberOfTrailingZeros 59 = .ok (.iconst 4, 1) := dk_7 (dk_at dksJ11_numberOfTrailingZeros_2 12 rfl rfl)
theorem dJ11_numberOfTrailingZeros_60 : decode cJ11_numberOfTrailingZeros 60 = .ok (.iushr, 1) := dk_124 (dk_at dksJ11_numberOfTrailingZeros_2 13 rfl rfl)
theorem dJ11_numberOfTrailingZeros_61 : decode cJ11_numberOfTrailingZeros 61 = .ok (.istore_n 0, 1) := dk_59 (dk_at dksJ11_numberOfTrailingZeros_2 14 rfl rfl)
theorem dJ11_numberOfTrailingZeros_62 : decode cJ11_numberOfTrailingZeros 62 = .ok (.iload_n 0, 1) := dk_26 (dk_at dksJ11_numberOfTrailingZeros_2 15 rfl rfl)
theorem dJ11_numberOfTrailingZeros_63 : decode cJ11_numberOfTrailingZeros 63 = .ok (.iconst 4, 1) := dk_7 (dk_at dksJ11_numberOfTrailingZeros_2 16 rfl rfl)
theorem dJ11_numberOfTrailingZeros_64 : decode cJ11_numberOfTrailingZeros 64 = .ok (.if_icmp .le 10, 3) := dk_164 0 10 (dk_at dksJ11_numberOfTrailingZeros_2 17 rfl rfl)
theorem dJ11_numberOfTrailingZeros_67 : decode cJ11_numberOfTrailingZeros 67 = .ok (.iinc 1 2, 3) := dk_132 1 2 (dk_at dksJ11_numberOfTrailingZeros_2 20 rfl rfl)
theorem dJ11_numberOfTrailingZeros_70 : decode cJ11_numberOfTrailingZeros 70 = .ok (.iload_n 0, 1) := dk_26 (dk_at dksJ11_numberOfTrailingZeros_2 23 rfl rfl)
theorem dJ11_numberOfTrailingZeros_71 : decode cJ11_numberOfTrailingZeros 71 = .ok (.iconst 2, 1) := dk_5 (dk_at dksJ11_numberOfTrailingZeros_3 0 rfl rfl)
theorem dJ11_numberOfTrailingZeros_72 : decode cJ11_numberOfTrailingZeros 72 = .ok (.iushr, 1) := dk_124 (dk_at dksJ11_numberOfTrailingZeros_3 1 rfl rfl)
theorem dJ11_numberOfTrailingZeros_73 : decode cJ11_numberOfTrailingZeros 73 = .ok (.istore_n 0, 1) := dk_59 (dk_at dksJ11_numberOfTrailingZeros_3 2 rfl rfl)
theorem dJ11_numberOfTrailingZeros_74 : decode cJ11_numberOfTrailingZeros 74 = .ok (.iload_n 1, 1) := dk_27 (dk_at dksJ11_numberOfTrailingZeros_3 3 rfl rfl)
theorem dJ11_numberOfTrailingZeros_75 : decode cJ11_numberOfTrailingZeros 75 = .ok (.iload_n 0, 1) := dk_26 (dk_at dksJ11_numberOfTrailingZeros_3 4 rfl rfl)
theorem dJ11_numberOfTrailingZeros_76 : decode cJ11_numberOfTrailingZeros 76 = .ok (.iconst 1, 1) := dk_4 (dk_at dksJ11_numberOfTrailingZeros_3 5 rfl rfl)
theorem dJ11_numberOfTrailingZeros_77 : decode cJ11_numberOfTrailingZeros 77 = .ok (.iushr, 1) := dk_124 (dk_at dksJ11_numberOfTrailingZeros_3 6 rfl rfl)
theorem dJ11_numberOfTrailingZeros_78 : decode cJ11_numberOfTrailingZeros 78 = .ok (.iadd, 1) := dk_96 (dk_at dksJ11_numberOfTrailingZeros_3 7 rfl rfl)
theorem dJ11_numberOfTrailingZeros_79 : decode cJ11_numberOfTrailingZeros 79 = .ok (.ireturn, 1) := dk_172 (dk_at dksJ11_numberOfTrailingZeros_3 8 rfl rfl)
abbrev cJ11_bitCount : ByteArray := prog_31_method_49_code
def yJ11_bitCount : MethodName := ⟨RJ11, "bitCount", "(I)I"⟩
def dkwJ11_bitCount_2 : List UInt8 := [26, 16, 63, 126, 172]
abbrev dktJ11_bitCount_2 : List UInt8 := dkwJ11_bitCount_2 ++ []
def dkwJ11_bitCount_1 : List UInt8 := [26, 26, 7, 124, 96, 19, 1, 11, 126, 59, 26, 26, 16, 8, 124, 96, 59, 26, 26, 16, 16, 124, 96, 59]
abbrev dktJ11_bitCount_1 : List UInt8 := dkwJ11_bitCount_1 ++ dktJ11_bitCount_2
def dkwJ11_bitCount_0 : List UInt8 := [26, 26, 4, 124, 19, 1, 9, 126, 100, 59, 26, 19, 1, 10, 126, 26, 5, 124, 19, 1, 10, 126, 96, 59]
abbrev dktJ11_bitCount_0 : List UInt8 := dkwJ11_bitCount_0 ++ dktJ11_bitCount_1
theorem dksJ11_bitCount_0 : cJ11_bitCount.data.toList.drop 0 = dktJ11_bitCount_0 := by decide +kernel
theorem dksJ11_bitCount_1 : cJ11_bitCount.data.toList.drop 24 = dktJ11_bitCount_1 := dk_seg dksJ11_bitCount_0 24 rfl rfl
theorem dksJ11_bitCount_2 : cJ11_bitCount.data.toList.drop 48 = dktJ11_bitCount_2 := dk_seg dksJ11_bitCount_1 24 rfl rfl
theorem dJ11_bitCount_0 : decode cJ11_bitCount 0 = .ok (.iload_n 0, 1) := dk_26 (dk_at dksJ11_bitCount_0 0 rfl rfl)
theorem dJ11_bitCount_1 : decode cJ11_bitCount 1 = .ok (.iload_n 0, 1) := dk_26 (dk_at dksJ11_bitCount_0 1 rfl rfl)
theorem dJ11_bitCount_2 : decode cJ11_bitCount 2 = .ok (.iconst 1, 1) := dk_4 (dk_at dksJ11_bitCount_0 2 rfl rfl)
theorem dJ11_bitCount_3 : decode cJ11_bitCount 3 = .ok (.iushr, 1) := dk_124 (dk_at dksJ11_bitCount_0 3 rfl rfl)
theorem dJ11_bitCount_4 : decode cJ11_bitCount 4 = .ok (.ldc_w 265, 3) := dk_19 1 9 (dk_at dksJ11_bitCount_0 4 rfl rfl)
theorem dJ11_bitCount_7 : decode cJ11_bitCount 7 = .ok (.iand, 1) := dk_126 (dk_at dksJ11_bitCount_0 7 rfl rfl)
theorem dJ11_bitCount_8 : decode cJ11_bitCount 8 = .ok (.isub, 1) := dk_100 (dk_at dksJ11_bitCount_0 8 rfl rfl)
theorem dJ11_bitCount_9 : decode cJ11_bitCount 9 = .ok (.istore_n 0, 1) := dk_59 (dk_at dksJ11_bitCount_0 9 rfl rfl)
theorem dJ11_bitCount_10 : decode cJ11_bitCount 10 = .ok (.iload_n 0, 1) := dk_26 (dk_at dksJ11_bitCount_0 10 rfl rfl)
theorem dJ11_bitCount_11 : decode cJ11_bitCount 11 = .ok (.ldc_w 266, 3) := dk_19 1 10 (dk_at dksJ11_bitCount_0 11 rfl rfl)
theorem dJ11_bitCount_14 : decode cJ11_bitCount 14 = .ok (.iand, 1) := dk_126 (dk_at dksJ11_bitCount_0 14 rfl rfl)
theorem dJ11_bitCount_15 : decode cJ11_bitCount 15 = .ok (.iload_n 0, 1) := dk_26 (dk_at dksJ11_bitCount_0 15 rfl rfl)
theorem dJ11_bitCount_16 : decode cJ11_bitCount 16 = .ok (.iconst 2, 1) := dk_5 (dk_at dksJ11_bitCount_0 16 rfl rfl)
theorem dJ11_bitCount_17 : decode cJ11_bitCount 17 = .ok (.iushr, 1) := dk_124 (dk_at dksJ11_bitCount_0 17 rfl rfl)
theorem dJ11_bitCount_18 : decode cJ11_bitCount 18 = .ok (.ldc_w 266, 3) := dk_19 1 10 (dk_at dksJ11_bitCount_0 18 rfl rfl)
theorem dJ11_bitCount_21 : decode cJ11_bitCount 21 = .ok (.iand, 1) := dk_126 (dk_at dksJ11_bitCount_0 21 rfl rfl)
theorem dJ11_bitCount_22 : decode cJ11_bitCount 22 = .ok (.iadd, 1) := dk_96 (dk_at dksJ11_bitCount_0 22 rfl rfl)
theorem dJ11_bitCount_23 : decode cJ11_bitCount 23 = .ok (.istore_n 0, 1) := dk_59 (dk_at dksJ11_bitCount_0 23 rfl rfl)
theorem dJ11_bitCount_24 : decode cJ11_bitCount 24 = .ok (.iload_n 0, 1) := dk_26 (dk_at dksJ11_bitCount_1 0 rfl rfl)
theorem dJ11_bitCount_25 : decode cJ11_bitCount 25 = .ok (.iload_n 0, 1) := dk_26 (dk_at dksJ11_bitCount_1 1 rfl rfl)
theorem dJ11_bitCount_26 : decode cJ11_bitCount 26 = .ok (.iconst 4, 1) := dk_7 (dk_at dksJ11_bitCount_1 2 rfl rfl)
theorem dJ11_bitCount_27 : decode cJ11_bitCount 27 = .ok (.iushr, 1) := dk_124 (dk_at dksJ11_bitCount_1 3 rfl rfl)
theorem dJ11_bitCount_28 : decode cJ11_bitCount 28 = .ok (.iadd, 1) := dk_96 (dk_at dksJ11_bitCount_1 4 rfl rfl)
theorem dJ11_bitCount_29 : decode cJ11_bitCount 29 = .ok (.ldc_w 267, 3) := dk_19 1 11 (dk_at dksJ11_bitCount_1 5 rfl rfl)
theorem dJ11_bitCount_32 : decode cJ11_bitCount 32 = .ok (.iand, 1) := dk_126 (dk_at dksJ11_bitCount_1 8 rfl rfl)
theorem dJ11_bitCount_33 : decode cJ11_bitCount 33 = .ok (.istore_n 0, 1) := dk_59 (dk_at dksJ11_bitCount_1 9 rfl rfl)
theorem dJ11_bitCount_34 : decode cJ11_bitCount 34 = .ok (.iload_n 0, 1) := dk_26 (dk_at dksJ11_bitCount_1 10 rfl rfl)
theorem dJ11_bitCount_35 : decode cJ11_bitCount 35 = .ok (.iload_n 0, 1) := dk_26 (dk_at dksJ11_bitCount_1 11 rfl rfl)
theorem dJ11_bitCount_36 : decode cJ11_bitCount 36 = .ok (.bipush 8, 2) := dk_16 8 (dk_at dksJ11_bitCount_1 12 rfl rfl)
theorem dJ11_bitCount_38 : decode cJ11_bitCount 38 = .ok (.iushr, 1) := dk_124 (dk_at dksJ11_bitCount_1 14 rfl rfl)
theorem dJ11_bitCount_39 : decode cJ11_bitCount 39 = .ok (.iadd, 1) := dk_96 (dk_at dksJ11_bitCount_1 15 rfl rfl)
theorem dJ11_bitCount_40 : decode cJ11_bitCount 40 = .ok (.istore_n 0, 1) := dk_59 (dk_at dksJ11_bitCount_1 16 rfl rfl)
theorem dJ11_bitCount_41 : decode cJ11_bitCount 41 = .ok (.iload_n 0, 1) := dk_26 (dk_at dksJ11_bitCount_1 17 rfl rfl)
theorem dJ11_bitCount_42 : decode cJ11_bitCount 42 = .ok (.iload_n 0, 1) := dk_26 (dk_at dksJ11_bitCount_1 18 rfl rfl)
theorem dJ11_bitCount_43 : decode cJ11_bitCount 43 = .ok (.bipush 16, 2) := dk_16 16 (dk_at dksJ11_bitCount_1 19 rfl rfl)
theorem dJ11_bitCount_45 : decode cJ11_bitCount 45 = .ok (.iushr, 1) := dk_124 (dk_at dksJ11_bitCount_1 21 rfl rfl)
theorem dJ11_bitCount_46 : decode cJ11_bitCount 46 = .ok (.iadd, 1) := dk_96 (dk_at dksJ11_bitCount_1 22 rfl rfl)
theorem dJ11_bitCount_47 : decode cJ11_bitCount 47 = .ok (.istore_n 0, 1) := dk_59 (dk_at dksJ11_bitCount_1 23 rfl rfl)
theorem dJ11_bitCount_48 : decode cJ11_bitCount 48 = .ok (.iload_n 0, 1) := dk_26 (dk_at dksJ11_bitCount_2 0 rfl rfl)
theorem dJ11_bitCount_49 : decode cJ11_bitCount 49 = .ok (.bipush 63, 2) := dk_16 63 (dk_at dksJ11_bitCount_2 1 rfl rfl)
theorem dJ11_bitCount_51 : decode cJ11_bitCount 51 = .ok (.iand, 1) := dk_126 (dk_at dksJ11_bitCount_2 3 rfl rfl)
theorem dJ11_bitCount_52 : decode cJ11_bitCount 52 = .ok (.ireturn, 1) := dk_172 (dk_at dksJ11_bitCount_2 4 rfl rfl)
abbrev cJ11_signum : ByteArray := prog_31_method_56_code
def yJ11_signum : MethodName := ⟨RJ11, "signum", "(I)I"⟩
def dkwJ11_signum_0 : List UInt8 := [26, 16, 31, 122, 26, 116, 16, 31, 124, 128, 172]
abbrev dktJ11_signum_0 : List UInt8 := dkwJ11_signum_0 ++ []
theorem dksJ11_signum_0 : cJ11_signum.data.toList.drop 0 = dktJ11_signum_0 := by decide +kernel
theorem dJ11_signum_0 : decode cJ11_signum 0 = .ok (.iload_n 0, 1) := dk_26 (dk_at dksJ11_signum_0 0 rfl rfl)
theorem dJ11_signum_1 : decode cJ11_signum 1 = .ok (.bipush 31, 2) := dk_16 31 (dk_at dksJ11_signum_0 1 rfl rfl)
theorem dJ11_signum_3 : decode cJ11_signum 3 = .ok (.ishr, 1) := dk_122 (dk_at dksJ11_signum_0 3 rfl rfl)
theorem dJ11_signum_4 : decode cJ11_signum 4 = .ok (.iload_n 0, 1) := dk_26 (dk_at dksJ11_signum_0 4 rfl rfl)
theorem dJ11_signum_5 : decode cJ11_signum 5 = .ok (.ineg, 1) := dk_116 (dk_at dksJ11_signum_0 5 rfl rfl)
theorem dJ11_signum_6 : decode cJ11_signum 6 = .ok (.bipush 31, 2) := dk_16 31 (dk_at dksJ11_signum_0 6 rfl rfl)
theorem dJ11_signum_8 : decode cJ11_signum 8 = .ok (.iushr, 1) := dk_124 (dk_at dksJ11_signum_0 8 rfl rfl)
theorem dJ11_signum_9 : decode cJ11_signum 9 = .ok (.ior, 1) := dk_128 (dk_at dksJ11_signum_0 9 rfl rfl)
theorem dJ11_signum_10 : decode cJ11_signum 10 = .ok (.ireturn, 1) := dk_172 (dk_at dksJ11_signum_0 10 rfl rfl)
abbrev cJ11_stringSize : ByteArray := prog_31_method_13_code
def yJ11_stringSize : MethodName := ⟨RJ11, "stringSize", "(I)I"⟩
def dkwJ11_stringSize_1 : List UInt8 := [164, 0, 7, 29, 27, 96, 172, 16, 10, 28, 104, 61, 132, 3, 1, 167, 255, 233, 16, 10, 27, 96, 172]
abbrev dktJ11_stringSize_1 : List UInt8 := dkwJ11_stringSize_1 ++ []
def dkwJ11_stringSize_0 : List UInt8 := [4, 60, 26, 155, 0, 8, 3, 60, 26, 116, 59, 16, 246, 61, 4, 62, 29, 16, 10, 162, 0, 23, 26, 28]
abbrev dktJ11_stringSize_0 : List UInt8 := dkwJ11_stringSize_0 ++ dktJ11_stringSize_1
theorem dksJ11_stringSize_0 : cJ11_stringSize.data.toList.drop 0 = dktJ11_stringSize_0 := by decide +kernel
theorem dksJ11_stringSize_1 : cJ11_stringSize.data.toList.drop 24 = dktJ11_stringSize_1 := dk_seg dksJ11_stringSize_0 24 rfl rfl
theorem dJ11_stringSize_0 : decode cJ11_stringSize 0 = .ok (.iconst 1, 1) := dk_4 (dk_at dksJ11_stringSize_0 0 rfl rfl)
theorem dJ11_stringSize_1 : decode cJ11_stringSize 1 = .ok (.istore_n 1, 1) := dk_60 (dk_at dksJ11_stringSize_0 1 rfl rfl)
theorem dJ11_stringSize_2 : decode cJ11_stringSize 2 = .ok (.iload_n 0, 1) := dk_26 (dk_at dksJ11_stringSize_0 2 rfl rfl)
theorem dJ11_stringSize_3 : decode cJ11_stringSize 3 = .ok (.ifCond .lt 8, 3) := dk_155 0 8 (dk_at dksJ11_stringSize_0 3 rfl rfl)
theorem dJ11_stringSize_6 : decode cJ11_stringSize 6 = .ok (.iconst 0, 1) := dk_3 (dk_at dksJ11_stringSize_0 6 rfl rfl)
theorem dJ11_stringSize_7 : decode cJ11_stringSize 7 = .ok (.istore_n 1, 1) := dk_60 (dk_at dksJ11_stringSize_0 7 rfl rfl)
theorem dJ11_stringSize_8 : decode cJ11_stringSize 8 = .ok (.iload_n 0, 1) := dk_26 (dk_at dksJ11_stringSize_0 8 rfl rfl)
theorem dJ11_stringSize_9 : decode cJ11_stringSize 9 = .ok (.ineg, 1) := dk_116 (dk_at dksJ11_stringSize_0 9 rfl rfl)
theorem dJ11_stringSize_10 : decode cJ11_stringSize 10 = .ok (.istore_n 0, 1) := dk_59 (dk_at dksJ11_stringSize_0 10 rfl rfl)
theorem dJ11_stringSize_11 : decode cJ11_stringSize 11 = .ok (.bipush (-10), 2) := dk_16 246 (dk_at dksJ11_stringSize_0 11 rfl rfl)
theorem dJ11_stringSize_13 : decode cJ11_stringSize 13 = .ok (.istore_n 2, 1) := dk_61 (dk_at dksJ11_stringSize_0 13 rfl rfl)
theorem dJ11_stringSize_14 : decode cJ11_stringSize 14 = .ok (.iconst 1, 1) := dk_4 (dk_at dksJ11_stringSize_0 14 rfl rfl)
theorem dJ11_stringSize_15 : decode cJ11_stringSize 15 = .ok (.istore_n 3, 1) := dk_62 (dk_at dksJ11_stringSize_0 15 rfl rfl)
theorem dJ11_stringSize_16 : decode cJ11_stringSize 16 = .ok (.iload_n 3, 1) := dk_29 (dk_at dksJ11_stringSize_0 16 rfl rfl)
theorem dJ11_stringSize_17 : decode cJ11_stringSize 17 = .ok (.bipush 10, 2) := dk_16 10 (dk_at dksJ11_stringSize_0 17 rfl rfl)
theorem dJ11_stringSize_19 : decode cJ11_stringSize 19 = .ok (.if_icmp .ge 23, 3) := dk_162 0 23 (dk_at dksJ11_stringSize_0 19 rfl rfl)
theorem dJ11_stringSize_22 : decode cJ11_stringSize 22 = .ok (.iload_n 0, 1) := dk_26 (dk_at dksJ11_stringSize_0 22 rfl rfl)
theorem dJ11_stringSize_23 : decode cJ11_stringSize 23 = .ok (.iload_n 2, 1) := dk_28 (dk_at dksJ11_stringSize_0 23 rfl rfl)
theorem dJ11_stringSize_24 : decode cJ11_stringSize 24 = .ok (.if_icmp .le 7, 3) := dk_164 0 7 (dk_at dksJ11_stringSize_1 0 rfl rfl)
theorem dJ11_stringSize_27 : decode cJ11_stringSize 27 = .ok (.iload_n 3, 1) := dk_29 (dk_at dksJ11_stringSize_1 3 rfl rfl)
theorem dJ11_stringSize_28 : decode cJ11_stringSize 28 = .ok (.iload_n 1, 1) := dk_27 (dk_at dksJ11_stringSize_1 4 rfl rfl)
theorem dJ11_stringSize_29 : decode cJ11_stringSize 29 = .ok (.iadd, 1) := dk_96 (dk_at dksJ11_stringSize_1 5 rfl rfl)
theorem dJ11_stringSize_30 : decode cJ11_stringSize 30 = .ok (.ireturn, 1) := dk_172 (dk_at dksJ11_stringSize_1 6 rfl rfl)
theorem dJ11_stringSize_31 : decode cJ11_stringSize 31 = .ok (.bipush 10, 2) := dk_16 10 (dk_at dksJ11_stringSize_1 7 rfl rfl)
theorem dJ11_stringSize_33 : decode cJ11_stringSize 33 = .ok (.iload_n 2, 1) := dk_28 (dk_at dksJ11_stringSize_1 9 rfl rfl)
theorem dJ11_stringSize_34 : decode cJ11_stringSize 34 = .ok (.imul, 1) := dk_104 (dk_at dksJ11_stringSize_1 10 rfl rfl)
theorem dJ11_stringSize_35 : decode cJ11_stringSize 35 = .ok (.istore_n 2, 1) := dk_61 (dk_at dksJ11_stringSize_1 11 rfl rfl)
theorem dJ11_stringSize_36 : decode cJ11_stringSize 36 = .ok (.iinc 3 1, 3) := dk_132 3 1 (dk_at dksJ11_stringSize_1 12 rfl rfl)
theorem dJ11_stringSize_39 : decode cJ11_stringSize 39 = .ok (.goto (-23), 3) := dk_167 255 233 (dk_at dksJ11_stringSize_1 15 rfl rfl)
theorem dJ11_stringSize_42 : decode cJ11_stringSize 42 = .ok (.bipush 10, 2) := dk_16 10 (dk_at dksJ11_stringSize_1 18 rfl rfl)
theorem dJ11_stringSize_44 : decode cJ11_stringSize 44 = .ok (.iload_n 1, 1) := dk_27 (dk_at dksJ11_stringSize_1 20 rfl rfl)
theorem dJ11_stringSize_45 : decode cJ11_stringSize 45 = .ok (.iadd, 1) := dk_96 (dk_at dksJ11_stringSize_1 21 rfl rfl)
theorem dJ11_stringSize_46 : decode cJ11_stringSize 46 = .ok (.ireturn, 1) := dk_172 (dk_at dksJ11_stringSize_1 22 rfl rfl)
abbrev cJ11_getChars : ByteArray := prog_31_method_12_code
def yJ11_getChars : MethodName := ⟨RJ11, "getChars", "(II[B)I"⟩
def dkwJ11_getChars_5 : List UInt8 := [16, 45, 84, 21, 5, 172]
abbrev dktJ11_getChars_5 : List UInt8 := dkwJ11_getChars_5 ++ []
def dkwJ11_getChars_4 : List UInt8 := [132, 5, 255, 21, 5, 178, 0, 87, 26, 116, 51, 84, 21, 6, 153, 0, 12, 44, 132, 5, 255, 21, 5]
abbrev dktJ11_getChars_4 : List UInt8 := dkwJ11_getChars_4 ++ dktJ11_getChars_5
def dkwJ11_getChars_3 : List UInt8 := [167, 255, 209, 44, 132, 5, 255, 21, 5, 178, 0, 83, 26, 116, 51, 84, 26, 16, 247, 162, 0, 16, 44]
abbrev dktJ11_getChars_3 : List UInt8 := dkwJ11_getChars_3 ++ dktJ11_getChars_4
def dkwJ11_getChars_2 : List UInt8 := [21, 5, 178, 0, 83, 21, 4, 51, 84, 44, 132, 5, 255, 21, 5, 178, 0, 87, 21, 4, 51, 84]
abbrev dktJ11_getChars_2 : List UInt8 := dkwJ11_getChars_2 ++ dktJ11_getChars_3
def dkwJ11_getChars_1 : List UInt8 := [16, 156, 163, 0, 47, 26, 16, 100, 108, 62, 29, 16, 100, 104, 26, 100, 54, 4, 29, 59, 44, 132, 5, 255]
abbrev dktJ11_getChars_1 : List UInt8 := dkwJ11_getChars_1 ++ dktJ11_getChars_2
def dkwJ11_getChars_0 : List UInt8 := [27, 54, 5, 26, 156, 0, 7, 4, 167, 0, 4, 3, 54, 6, 21, 6, 154, 0, 6, 26, 116, 59, 26]
abbrev dktJ11_getChars_0 : List UInt8 := dkwJ11_getChars_0 ++ dktJ11_getChars_1
theorem dksJ11_getChars_0 : cJ11_getChars.data.toList.drop 0 = dktJ11_getChars_0 := by decide +kernel
theorem dksJ11_getChars_1 : cJ11_getChars.data.toList.drop 23 = dktJ11_getChars_1 := dk_seg dksJ11_getChars_0 23 rfl rfl
theorem dksJ11_getChars_2 : cJ11_getChars.data.toList.drop 47 = dktJ11_getChars_2 := dk_seg dksJ11_getChars_1 24 rfl rfl
theorem dksJ11_getChars_3 : cJ11_getChars.data.toList.drop 69 = dktJ11_getChars_3 := dk_seg dksJ11_getChars_2 22 rfl rfl
theorem dksJ11_getChars_4 : cJ11_getChars.data.toList.drop 92 = dktJ11_getChars_4 := dk_seg dksJ11_getChars_3 23 rfl rfl
theorem dksJ11_getChars_5 : cJ11_getChars.data.toList.drop 115 = dktJ11_getChars_5 := dk_seg dksJ11_getChars_4 23 rfl rfl
theorem dJ11_getChars_0 : decode cJ11_getChars 0 = .ok (.iload_n 1, 1) := dk_27 (dk_at dksJ11_getChars_0 0 rfl rfl)
theorem dJ11_getChars_1 : decode cJ11_getChars 1 = .ok (.istore 5, 2) := dk_54 5 (dk_at dksJ11_getChars_0 1 rfl rfl)
theorem dJ11_getChars_3 : decode cJ11_getChars 3 = .ok (.iload_n 0, 1) := dk_26 (dk_at dksJ11_getChars_0 3 rfl rfl)
theorem dJ11_getChars_4 : decode cJ11_getChars 4 = .ok (.ifCond .ge 7, 3) := dk_156 0 7 (dk_at dksJ11_getChars_0 4 rfl rfl)
theorem dJ11_getChars_7 : decode cJ11_getChars 7 = .ok (.iconst 1, 1) := dk_4 (dk_at dksJ11_getChars_0 7 rfl rfl)
theorem dJ11_getChars_8 : decode cJ11_getChars 8 = .ok (.goto 4, 3) := dk_167 0 4 (dk_at dksJ11_getChars_0 8 rfl rfl)
theorem dJ11_getChars_11 : decode cJ11_getChars 11 = .ok (.iconst 0, 1) := dk_3 (dk_at dksJ11_getChars_0 11 rfl rfl)
theorem dJ11_getChars_12 : decode cJ11_getChars 12 = .ok (.istore 6, 2) := dk_54 6 (dk_at dksJ11_getChars_0 12 rfl rfl)
theorem dJ11_getChars_14 : decode cJ11_getChars 14 = .ok (.iload 6, 2) := dk_21 6 (dk_at dksJ11_getChars_0 14 rfl rfl)
theorem dJ11_getChars_16 : decode cJ11_getChars 16 = .ok (.ifCond .ne 6, 3) := dk_154 0 6 (dk_at dksJ11_getChars_0 16 rfl rfl)
theorem dJ11_getChars_19 : decode cJ11_getChars 19 = .ok (.iload_n 0, 1) := dk_26 (dk_at dksJ11_getChars_0 19 rfl rfl)
theorem dJ11_getChars_20 : decode cJ11_getChars 20 = .ok (.ineg, 1) := dk_116 (dk_at dksJ11_getChars_0 20 rfl rfl)
theorem dJ11_getChars_21 : decode cJ11_getChars 21 = .ok (.istore_n 0, 1) := dk_59 (dk_at dksJ11_getChars_0 21 rfl rfl)
theorem dJ11_getChars_22 : decode cJ11_getChars 22 = .ok (.iload_n 0, 1) := dk_26 (dk_at dksJ11_getChars_0 22 rfl rfl)
theorem dJ11_getChars_23 : decode cJ11_getChars 23 = .ok (.bipush (-100), 2) := dk_16 156 (dk_at dksJ11_getChars_1 0 rfl rfl)
theorem dJ11_getChars_25 : decode cJ11_getChars 25 = .ok (.if_icmp .gt 47, 3) := dk_163 0 47 (dk_at dksJ11_getChars_1 2 rfl rfl)
theorem dJ11_getChars_28 : decode cJ11_getChars 28 = .ok (.iload_n 0, 1) := dk_26 (dk_at dksJ11_getChars_1 5 rfl rfl)
theorem dJ11_getChars_29 : decode cJ11_getChars 29 = .ok (.bipush 100, 2) := dk_16 100 (dk_at dksJ11_getChars_1 6 rfl rfl)
theorem dJ11_getChars_31 : decode cJ11_getChars 31 = .ok (.idiv, 1) := dk_108 (dk_at dksJ11_getChars_1 8 rfl rfl)
theorem dJ11_getChars_32 : decode cJ11_getChars 32 = .ok (.istore_n 3, 1) := dk_62 (dk_at dksJ11_getChars_1 9 rfl rfl)
theorem dJ11_getChars_33 : decode cJ11_getChars 33 = .ok (.iload_n 3, 1) := dk_29 (dk_at dksJ11_getChars_1 10 rfl rfl)
theorem dJ11_getChars_34 : decode cJ11_getChars 34 = .ok (.bipush 100, 2) := dk_16 100 (dk_at dksJ11_getChars_1 11 rfl rfl)
theorem dJ11_getChars_36 : decode cJ11_getChars 36 = .ok (.imul, 1) := dk_104 (dk_at dksJ11_getChars_1 13 rfl rfl)
theorem dJ11_getChars_37 : decode cJ11_getChars 37 = .ok (.iload_n 0, 1) := dk_26 (dk_at dksJ11_getChars_1 14 rfl rfl)
theorem dJ11_getChars_38 : decode cJ11_getChars 38 = .ok (.isub, 1) := dk_100 (dk_at dksJ11_getChars_1 15 rfl rfl)
theorem dJ11_getChars_39 : decode cJ11_getChars 39 = .ok (.istore 4, 2) := dk_54 4 (dk_at dksJ11_getChars_1 16 rfl rfl)
theorem dJ11_getChars_41 : decode cJ11_getChars 41 = .ok (.iload_n 3, 1) := dk_29 (dk_at dksJ11_getChars_1 18 rfl rfl)
theorem dJ11_getChars_42 : decode cJ11_getChars 42 = .ok (.istore_n 0, 1) := dk_59 (dk_at dksJ11_getChars_1 19 rfl rfl)
theorem dJ11_getChars_43 : decode cJ11_getChars 43 = .ok (.aload_n 2, 1) := dk_44 (dk_at dksJ11_getChars_1 20 rfl rfl)
theorem dJ11_getChars_44 : decode cJ11_getChars 44 = .ok (.iinc 5 (-1), 3) := dk_132 5 255 (dk_at dksJ11_getChars_1 21 rfl rfl)
theorem dJ11_getChars_47 : decode cJ11_getChars 47 = .ok (.iload 5, 2) := dk_21 5 (dk_at dksJ11_getChars_2 0 rfl rfl)
theorem dJ11_getChars_49 : decode cJ11_getChars 49 = .ok (.getstatic 83, 3) := dk_178 0 83 (dk_at dksJ11_getChars_2 2 rfl rfl)
theorem dJ11_getChars_52 : decode cJ11_getChars 52 = .ok (.iload 4, 2) := dk_21 4 (dk_at dksJ11_getChars_2 5 rfl rfl)
theorem dJ11_getChars_54 : decode cJ11_getChars 54 = .ok (.baload, 1) := dk_51 (dk_at dksJ11_getChars_2 7 rfl rfl)
theorem dJ11_getChars_55 : decode cJ11_getChars 55 = .ok (.bastore, 1) := dk_84 (dk_at dksJ11_getChars_2 8 rfl rfl)
theorem dJ11_getChars_56 : decode cJ11_getChars 56 = .ok (.aload_n 2, 1) := dk_44 (dk_at dksJ11_getChars_2 9 rfl rfl)
theorem dJ11_getChars_57 : decode cJ11_getChars 57 = .ok (.iinc 5 (-1), 3) := dk_132 5 255 (dk_at dksJ11_getChars_2 10 rfl rfl)
theorem dJ11_getChars_60 : decode cJ11_getChars 60 = .ok (.iload 5, 2) := dk_21 5 (dk_at dksJ11_getChars_2 13 rfl rfl)
theorem dJ11_getChars_62 : decode cJ11_getChars 62 = .ok (.getstatic 87, 3) := dk_178 0 87 (dk_at dksJ11_getChars_2 15 rfl rfl)
theorem dJ11_getChars_65 : decode cJ11_getChars 65 = .ok (.iload 4, 2) := dk_21 4 (dk_at dksJ11_getChars_2 18 rfl rfl)
theorem dJ11_getChars_67 : decode cJ11_getChars 67 = .ok (.baload, 1) := dk_51 (dk_at dksJ11_getChars_2 20 rfl rfl)
theorem dJ11_getChars_68 : decode cJ11_getChars 68 = .ok (.bastore, 1) := dk_84 (dk_at dksJ11_getChars_2 21 rfl rfl)
theorem dJ11_getChars_69 : decode cJ11_getChars 69 = .ok (.goto (-47), 3) := dk_167 255 209 (dk_at dksJ11_getChars_3 0 rfl rfl)
theorem dJ11_getChars_72 : decode cJ11_getChars 72 = .ok (.aload_n 2, 1) := dk_44 (dk_at dksJ11_getChars_3 3 rfl rfl)
theorem dJ11_getChars_73 : decode cJ11_getChars 73 = .ok (.iinc 5 (-1), 3) := dk_132 5 255 (dk_at dksJ11_getChars_3 4 rfl rfl)
theorem dJ11_getChars_76 : decode cJ11_getChars 76 = .ok (.iload 5, 2) := dk_21 5 (dk_at dksJ11_getChars_3 7 rfl rfl)
theorem dJ11_getChars_78 : decode cJ11_getChars 78 = .ok (.getstatic 83, 3) := dk_178 0 83 (dk_at dksJ11_getChars_3 9 rfl rfl)
theorem dJ11_getChars_81 : decode cJ11_getChars 81 = .ok (.iload_n 0, 1) := dk_26 (dk_at dksJ11_getChars_3 12 rfl rfl)
theorem dJ11_getChars_82 : decode cJ11_getChars 82 = .ok (.ineg, 1) := dk_116 (dk_at dksJ11_getChars_3 13 rfl rfl)
theorem dJ11_getChars_83 : decode cJ11_getChars 83 = .ok (.baload, 1) := dk_51 (dk_at dksJ11_getChars_3 14 rfl rfl)
theorem dJ11_getChars_84 : decode cJ11_getChars 84 = .ok (.bastore, 1) := dk_84 (dk_at dksJ11_getChars_3 15 rfl rfl)
theorem dJ11_getChars_85 : decode cJ11_getChars 85 = .ok (.iload_n 0, 1) := dk_26 (dk_at dksJ11_getChars_3 16 rfl rfl)
theorem dJ11_getChars_86 : decode cJ11_getChars 86 = .ok (.bipush (-9), 2) := dk_16 247 (dk_at dksJ11_getChars_3 17 rfl rfl)
theorem dJ11_getChars_88 : decode cJ11_getChars 88 = .ok (.if_icmp .ge 16, 3) := dk_162 0 16 (dk_at dksJ11_getChars_3 19 rfl rfl)
theorem dJ11_getChars_91 : decode cJ11_getChars 91 = .ok (.aload_n 2, 1) := dk_44 (dk_at dksJ11_getChars_3 22 rfl rfl)
theorem dJ11_getChars_92 : decode cJ11_getChars 92 = .ok (.iinc 5 (-1), 3) := dk_132 5 255 (dk_at dksJ11_getChars_4 0 rfl rfl)
theorem dJ11_getChars_95 : decode cJ11_getChars 95 = .ok (.iload 5, 2) := dk_21 5 (dk_at dksJ11_getChars_4 3 rfl rfl)
theorem dJ11_getChars_97 : decode cJ11_getChars 97 = .ok (.getstatic 87, 3) := dk_178 0 87 (dk_at dksJ11_getChars_4 5 rfl rfl)
theorem dJ11_getChars_100 : decode cJ11_getChars 100 = .ok (.iload_n 0, 1) := dk_26 (dk_at dksJ11_getChars_4 8 rfl rfl)
theorem dJ11_getChars_101 : decode cJ11_getChars 101 = .ok (.ineg, 1) := dk_116 (dk_at dksJ11_getChars_4 9 rfl rfl)
theorem dJ11_getChars_102 : decode cJ11_getChars 102 = .ok (.baload, 1) := dk_51 (dk_at dksJ11_getChars_4 10 rfl rfl)
theorem dJ11_getChars_103 : decode cJ11_getChars 103 = .ok (.bastore, 1) := dk_84 (dk_at dksJ11_getChars_4 11 rfl rfl)
theorem dJ11_getChars_104 : decode cJ11_getChars 104 = .ok (.iload 6, 2) := dk_21 6 (dk_at dksJ11_getChars_4 12 rfl rfl)
theorem dJ11_getChars_106 : decode cJ11_getChars 106 = .ok (.ifCond .eq 12, 3) := dk_153 0 12 (dk_at dksJ11_getChars_4 14 rfl rfl)
theorem dJ11_getChars_109 : decode cJ11_getChars 109 = .ok (.aload_n 2, 1) := dk_44 (dk_at dksJ11_getChars_4 17 rfl rfl)
theorem dJ11_getChars_110 : decode cJ11_getChars 110 = .ok (.iinc 5 (-1), 3) := dk_132 5 255 (dk_at dksJ11_getChars_4 18 rfl rfl)
theorem dJ11_getChars_113 : decode cJ11_getChars 113 = .ok (.iload 5, 2) := dk_21 5 (dk_at dksJ11_getChars_4 21 rfl rfl)
theorem dJ11_getChars_115 : decode cJ11_getChars 115 = .ok (.bipush 45, 2) := dk_16 45 (dk_at dksJ11_getChars_5 0 rfl rfl)
theorem dJ11_getChars_117 : decode cJ11_getChars 117 = .ok (.bastore, 1) := dk_84 (dk_at dksJ11_getChars_5 2 rfl rfl)
theorem dJ11_getChars_118 : decode cJ11_getChars 118 = .ok (.iload 5, 2) := dk_21 5 (dk_at dksJ11_getChars_5 3 rfl rfl)
theorem dJ11_getChars_120 : decode cJ11_getChars 120 = .ok (.ireturn, 1) := dk_172 (dk_at dksJ11_getChars_5 5 rfl rfl)
theorem q151 : (Jvm.Cond.initialized "java/lang/Integer") ∈ lw_all := lw_g (lw_at lw_m1 23 rfl) rfl
theorem q762 : (Jvm.Cond.static ({ cls := "java/lang/Integer", name := "compare", desc := "(II)I" } : Jvm.MethodName)) ∈ lw_all := lw_g (lw_at lw_m3 154 rfl) rfl
theorem q763 : (Jvm.Cond.code ({ cls := "java/lang/Integer", name := "compare", desc := "(II)I" } : Jvm.MethodName) prog_31_method_40_code (2 : Nat) (Option.some Jvm.ClassFile.FieldType.int)) ∈ lw_all := lw_g (lw_at lw_m3 155 rfl) rfl
theorem q1322 : (Jvm.Cond.static ({ cls := "java/lang/Integer", name := "numberOfLeadingZeros", desc := "(I)I" } : Jvm.MethodName)) ∈ lw_all := lw_g (lw_at lw_m5 234 rfl) rfl
theorem q1323 : (Jvm.Cond.code ({ cls := "java/lang/Integer", name := "numberOfLeadingZeros", desc := "(I)I" } : Jvm.MethodName) prog_31_method_47_code (2 : Nat) (Option.some Jvm.ClassFile.FieldType.int)) ∈ lw_all := lw_g (lw_at lw_m5 235 rfl) rfl
theorem q1324 : (Jvm.Cond.constant "java/lang/Integer" (264 : Nat) (65536 : Int32)) ∈ lw_all := lw_g (lw_at lw_m5 236 rfl) rfl
theorem q1331 : (Jvm.Cond.static ({ cls := "java/lang/Integer", name := "numberOfTrailingZeros", desc := "(I)I" } : Jvm.MethodName)) ∈ lw_all := lw_g (lw_at lw_m6 3 rfl) rfl
theorem q1332 : (Jvm.Cond.code ({ cls := "java/lang/Integer", name := "numberOfTrailingZeros", desc := "(I)I" } : Jvm.MethodName) prog_31_method_48_code (2 : Nat) (Option.some Jvm.ClassFile.FieldType.int)) ∈ lw_all := lw_g (lw_at lw_m6 4 rfl) rfl
theorem q1630 : (Jvm.Cond.static ({ cls := "java/lang/Integer", name := "bitCount", desc := "(I)I" } : Jvm.MethodName)) ∈ lw_all := lw_g (lw_at lw_m7 62 rfl) rfl
theorem q1631 : (Jvm.Cond.code ({ cls := "java/lang/Integer", name := "bitCount", desc := "(I)I" } : Jvm.MethodName) prog_31_method_49_code (1 : Nat) (Option.some Jvm.ClassFile.FieldType.int)) ∈ lw_all := lw_g (lw_at lw_m7 63 rfl) rfl
theorem q1632 : (Jvm.Cond.constant "java/lang/Integer" (265 : Nat) (1431655765 : Int32)) ∈ lw_all := lw_g (lw_at lw_m7 64 rfl) rfl
theorem q1633 : (Jvm.Cond.constant "java/lang/Integer" (266 : Nat) (858993459 : Int32)) ∈ lw_all := lw_g (lw_at lw_m7 65 rfl) rfl
theorem q1634 : (Jvm.Cond.constant "java/lang/Integer" (267 : Nat) (252645135 : Int32)) ∈ lw_all := lw_g (lw_at lw_m7 66 rfl) rfl
theorem q1753 : (Jvm.Cond.static ({ cls := "java/lang/Integer", name := "signum", desc := "(I)I" } : Jvm.MethodName)) ∈ lw_all := lw_g (lw_at lw_m7 185 rfl) rfl
theorem q1754 : (Jvm.Cond.code ({ cls := "java/lang/Integer", name := "signum", desc := "(I)I" } : Jvm.MethodName) prog_31_method_56_code (1 : Nat) (Option.some Jvm.ClassFile.FieldType.int)) ∈ lw_all := lw_g (lw_at lw_m7 186 rfl) rfl
theorem q1908 : (Jvm.Cond.static ({ cls := "java/lang/Integer", name := "stringSize", desc := "(I)I" } : Jvm.MethodName)) ∈ lw_all := lw_g (lw_at lw_m8 100 rfl) rfl
theorem q1909 : (Jvm.Cond.code ({ cls := "java/lang/Integer", name := "stringSize", desc := "(I)I" } : Jvm.MethodName) prog_31_method_13_code (4 : Nat) (Option.some Jvm.ClassFile.FieldType.int)) ∈ lw_all := lw_g (lw_at lw_m8 101 rfl) rfl
theorem q1911 : (Jvm.Cond.static ({ cls := "java/lang/Integer", name := "getChars", desc := "(II[B)I" } : Jvm.MethodName)) ∈ lw_all := lw_g (lw_at lw_m8 103 rfl) rfl
theorem q1912 : (Jvm.Cond.code ({ cls := "java/lang/Integer", name := "getChars", desc := "(II[B)I" } : Jvm.MethodName) prog_31_method_12_code (7 : Nat) (Option.some Jvm.ClassFile.FieldType.int)) ∈ lw_all := lw_g (lw_at lw_m8 104 rfl) rfl
theorem q1913 : (Jvm.Cond.fieldLink "java/lang/Integer" (83 : Nat) "java/lang/Integer" "DigitOnes" "[B") ∈ lw_all := lw_g (lw_at lw_m8 105 rfl) rfl
theorem q1914 : (Jvm.Cond.laysStatic "java/lang/Integer" "DigitOnes" "[B") ∈ lw_tbl := lw_at lw_m8 106 rfl
theorem q1915 : (Jvm.Cond.fieldLink "java/lang/Integer" (87 : Nat) "java/lang/Integer" "DigitTens" "[B") ∈ lw_all := lw_g (lw_at lw_m8 107 rfl) rfl
theorem q1916 : (Jvm.Cond.laysStatic "java/lang/Integer" "DigitTens" "[B") ∈ lw_tbl := lw_at lw_m8 108 rfl
/-! java/util/ArrayList$Itr -/
set_option maxRecDepth 100000
def RJ12 : String := "java/util/ArrayList$Itr"
def TJ12 : u_T := fun k => match k with
  | 0 => ("java/util/ArrayList$Itr", "cursor", "I", false)
  | 1 => ("java/util/ArrayList$Itr", "lastRet", "I", false)
  | 2 => ("java/util/ArrayList$Itr", "expectedModCount", "I", false)
  | _ => ("java/util/ArrayList$Itr", "this$0", "Ljava/util/ArrayList;", true)
def tyJ12 : Nat → FieldType := fun k => match k with
  | 0 => .int
  | 1 => .int
  | 2 => .int
  | _ => .object "java/util/ArrayList"
abbrev wsJ120 : List Cond := u_ws RJ12 TJ12 4
theorem nmJ12 : ∀ a, a < 4 → ∀ b, b < 4 → a ≠ b → (TJ12 a).2.1 ≠ (TJ12 b).2.1 := by decide +kernel
theorem tyJ12_ok : ∀ k, k < 4 → parseFieldDescriptor (TJ12 k).2.2.1 = some (tyJ12 k) := by decide +kernel
abbrev cJ12_init : ByteArray := prog_49_method_1_code
def yJ12_init : MethodName := ⟨RJ12, "<init>", "(Ljava/util/ArrayList;)V"⟩
def dkwJ12_init_1 : List UInt8 := [181, 0, 22, 177]
abbrev dktJ12_init_1 : List UInt8 := dkwJ12_init_1 ++ []
def dkwJ12_init_0 : List UInt8 := [42, 43, 181, 0, 1, 42, 183, 0, 7, 42, 2, 181, 0, 13, 42, 42, 180, 0, 1, 180, 0, 17]
abbrev dktJ12_init_0 : List UInt8 := dkwJ12_init_0 ++ dktJ12_init_1
theorem dksJ12_init_0 : cJ12_init.data.toList.drop 0 = dktJ12_init_0 := by decide +kernel
theorem dksJ12_init_1 : cJ12_init.data.toList.drop 22 = dktJ12_init_1 := dk_seg dksJ12_init_0 22 rfl rfl
theorem dJ12_init_0 : decode cJ12_init 0 = .ok (.aload_n 0, 1) := dk_42 (dk_at dksJ12_init_0 0 rfl rfl)
theorem dJ12_init_1 : decode cJ12_init 1 = .ok (.aload_n 1, 1) := dk_43 (dk_at dksJ12_init_0 1 rfl rfl)
theorem dJ12_init_2 : decode cJ12_init 2 = .ok (.putfield 1, 3) := dk_181 0 1 (dk_at dksJ12_init_0 2 rfl rfl)
theorem dJ12_init_5 : decode cJ12_init 5 = .ok (.aload_n 0, 1) := dk_42 (dk_at dksJ12_init_0 5 rfl rfl)
theorem dJ12_init_6 : decode cJ12_init 6 = .ok (.invokespecial 7, 3) := dk_183 0 7 (dk_at dksJ12_init_0 6 rfl rfl)
theorem dJ12_init_9 : decode cJ12_init 9 = .ok (.aload_n 0, 1) := dk_42 (dk_at dksJ12_init_0 9 rfl rfl)
theorem dJ12_init_10 : decode cJ12_init 10 = .ok (.iconst (-1), 1) := dk_2 (dk_at dksJ12_init_0 10 rfl rfl)
theorem dJ12_init_11 : decode cJ12_init 11 = .ok (.putfield 13, 3) := dk_181 0 13 (dk_at dksJ12_init_0 11 rfl rfl)
theorem dJ12_init_14 : decode cJ12_init 14 = .ok (.aload_n 0, 1) := dk_42 (dk_at dksJ12_init_0 14 rfl rfl)
theorem dJ12_init_15 : decode cJ12_init 15 = .ok (.aload_n 0, 1) := dk_42 (dk_at dksJ12_init_0 15 rfl rfl)
theorem dJ12_init_16 : decode cJ12_init 16 = .ok (.getfield 1, 3) := dk_180 0 1 (dk_at dksJ12_init_0 16 rfl rfl)
theorem dJ12_init_19 : decode cJ12_init 19 = .ok (.getfield 17, 3) := dk_180 0 17 (dk_at dksJ12_init_0 19 rfl rfl)
theorem dJ12_init_22 : decode cJ12_init 22 = .ok (.putfield 22, 3) := dk_181 0 22 (dk_at dksJ12_init_1 0 rfl rfl)
theorem dJ12_init_25 : decode cJ12_init 25 = .ok (.return_, 1) := dk_177 (dk_at dksJ12_init_1 3 rfl rfl)
abbrev cJ12_hasNext : ByteArray := prog_49_method_2_code
def yJ12_hasNext : MethodName := ⟨RJ12, "hasNext", "()Z"⟩
def dkwJ12_hasNext_0 : List UInt8 := [42, 180, 0, 25, 42, 180, 0, 1, 180, 0, 28, 159, 0, 7, 4, 167, 0, 4, 3, 172]
abbrev dktJ12_hasNext_0 : List UInt8 := dkwJ12_hasNext_0 ++ []
theorem dksJ12_hasNext_0 : cJ12_hasNext.data.toList.drop 0 = dktJ12_hasNext_0 := by decide +kernel
theorem dJ12_hasNext_0 : decode cJ12_hasNext 0 = .ok (.aload_n 0, 1) := dk_42 (dk_at dksJ12_hasNext_0 0 rfl rfl)
theorem dJ12_hasNext_1 : decode cJ12_hasNext 1 = .ok (.getfield 25, 3) := dk_180 0 25 (dk_at dksJ12_hasNext_0 1 rfl rfl)
theorem dJ12_hasNext_4 : decode cJ12_hasNext 4 = .ok (.aload_n 0, 1) := dk_42 (dk_at dksJ12_hasNext_0 4 rfl rfl)
theorem dJ12_hasNext_5 : decode cJ12_hasNext 5 = .ok (.getfield 1, 3) := dk_180 0 1 (dk_at dksJ12_hasNext_0 5 rfl rfl)
theorem dJ12_hasNext_8 : decode cJ12_hasNext 8 = .ok (.getfield 28, 3) := dk_180 0 28 (dk_at dksJ12_hasNext_0 8 rfl rfl)
theorem dJ12_hasNext_11 : decode cJ12_hasNext 11 = .ok (.if_icmp .eq 7, 3) := dk_159 0 7 (dk_at dksJ12_hasNext_0 11 rfl rfl)
theorem dJ12_hasNext_14 : decode cJ12_hasNext 14 = .ok (.iconst 1, 1) := dk_4 (dk_at dksJ12_hasNext_0 14 rfl rfl)
theorem dJ12_hasNext_15 : decode cJ12_hasNext 15 = .ok (.goto 4, 3) := dk_167 0 4 (dk_at dksJ12_hasNext_0 15 rfl rfl)
theorem dJ12_hasNext_18 : decode cJ12_hasNext 18 = .ok (.iconst 0, 1) := dk_3 (dk_at dksJ12_hasNext_0 18 rfl rfl)
theorem dJ12_hasNext_19 : decode cJ12_hasNext 19 = .ok (.ireturn, 1) := dk_172 (dk_at dksJ12_hasNext_0 19 rfl rfl)
abbrev cJ12_next : ByteArray := prog_49_method_3_code
def yJ12_next : MethodName := ⟨RJ12, "next", "()Ljava/lang/Object;"⟩
def dkwJ12_next_2 : List UInt8 := [183, 0, 43, 191, 42, 27, 4, 96, 181, 0, 25, 44, 42, 27, 90, 181, 0, 13, 50, 176]
abbrev dktJ12_next_2 : List UInt8 := dkwJ12_next_2 ++ []
def dkwJ12_next_1 : List UInt8 := [183, 0, 36, 191, 42, 180, 0, 1, 180, 0, 37, 77, 27, 44, 190, 161, 0, 11, 187, 0, 41, 89]
abbrev dktJ12_next_1 : List UInt8 := dkwJ12_next_1 ++ dktJ12_next_2
def dkwJ12_next_0 : List UInt8 := [42, 182, 0, 31, 42, 180, 0, 25, 60, 27, 42, 180, 0, 1, 180, 0, 28, 161, 0, 11, 187, 0, 34, 89]
abbrev dktJ12_next_0 : List UInt8 := dkwJ12_next_0 ++ dktJ12_next_1
theorem dksJ12_next_0 : cJ12_next.data.toList.drop 0 = dktJ12_next_0 := by decide +kernel
theorem dksJ12_next_1 : cJ12_next.data.toList.drop 24 = dktJ12_next_1 := dk_seg dksJ12_next_0 24 rfl rfl
theorem dksJ12_next_2 : cJ12_next.data.toList.drop 46 = dktJ12_next_2 := dk_seg dksJ12_next_1 22 rfl rfl
theorem dJ12_next_0 : decode cJ12_next 0 = .ok (.aload_n 0, 1) := dk_42 (dk_at dksJ12_next_0 0 rfl rfl)
theorem dJ12_next_1 : decode cJ12_next 1 = .ok (.invokevirtual 31, 3) := dk_182 0 31 (dk_at dksJ12_next_0 1 rfl rfl)
theorem dJ12_next_4 : decode cJ12_next 4 = .ok (.aload_n 0, 1) := dk_42 (dk_at dksJ12_next_0 4 rfl rfl)
theorem dJ12_next_5 : decode cJ12_next 5 = .ok (.getfield 25, 3) := dk_180 0 25 (dk_at dksJ12_next_0 5 rfl rfl)
theorem dJ12_next_8 : decode cJ12_next 8 = .ok (.istore_n 1, 1) := dk_60 (dk_at dksJ12_next_0 8 rfl rfl)
theorem dJ12_next_9 : decode cJ12_next 9 = .ok (.iload_n 1, 1) := dk_27 (dk_at dksJ12_next_0 9 rfl rfl)
theorem dJ12_next_10 : decode cJ12_next 10 = .ok (.aload_n 0, 1) := dk_42 (dk_at dksJ12_next_0 10 rfl rfl)
theorem dJ12_next_11 : decode cJ12_next 11 = .ok (.getfield 1, 3) := dk_180 0 1 (dk_at dksJ12_next_0 11 rfl rfl)
theorem dJ12_next_14 : decode cJ12_next 14 = .ok (.getfield 28, 3) := dk_180 0 28 (dk_at dksJ12_next_0 14 rfl rfl)
theorem dJ12_next_17 : decode cJ12_next 17 = .ok (.if_icmp .lt 11, 3) := dk_161 0 11 (dk_at dksJ12_next_0 17 rfl rfl)
theorem dJ12_next_20 : decode cJ12_next 20 = .ok (.new 34, 3) := dk_187 0 34 (dk_at dksJ12_next_0 20 rfl rfl)
theorem dJ12_next_23 : decode cJ12_next 23 = .ok (.dup, 1) := dk_89 (dk_at dksJ12_next_0 23 rfl rfl)
theorem dJ12_next_24 : decode cJ12_next 24 = .ok (.invokespecial 36, 3) := dk_183 0 36 (dk_at dksJ12_next_1 0 rfl rfl)
theorem dJ12_next_27 : decode cJ12_next 27 = .ok (.athrow, 1) := dk_191 (dk_at dksJ12_next_1 3 rfl rfl)
theorem dJ12_next_28 : decode cJ12_next 28 = .ok (.aload_n 0, 1) := dk_42 (dk_at dksJ12_next_1 4 rfl rfl)
theorem dJ12_next_29 : decode cJ12_next 29 = .ok (.getfield 1, 3) := dk_180 0 1 (dk_at dksJ12_next_1 5 rfl rfl)
theorem dJ12_next_32 : decode cJ12_next 32 = .ok (.getfield 37, 3) := dk_180 0 37 (dk_at dksJ12_next_1 8 rfl rfl)
theorem dJ12_next_35 : decode cJ12_next 35 = .ok (.astore_n 2, 1) := dk_77 (dk_at dksJ12_next_1 11 rfl rfl)
theorem dJ12_next_36 : decode cJ12_next 36 = .ok (.iload_n 1, 1) := dk_27 (dk_at dksJ12_next_1 12 rfl rfl)
theorem dJ12_next_37 : decode cJ12_next 37 = .ok (.aload_n 2, 1) := dk_44 (dk_at dksJ12_next_1 13 rfl rfl)
theorem dJ12_next_38 : decode cJ12_next 38 = .ok (.arraylength, 1) := dk_190 (dk_at dksJ12_next_1 14 rfl rfl)
theorem dJ12_next_39 : decode cJ12_next 39 = .ok (.if_icmp .lt 11, 3) := dk_161 0 11 (dk_at dksJ12_next_1 15 rfl rfl)
theorem dJ12_next_42 : decode cJ12_next 42 = .ok (.new 41, 3) := dk_187 0 41 (dk_at dksJ12_next_1 18 rfl rfl)
theorem dJ12_next_45 : decode cJ12_next 45 = .ok (.dup, 1) := dk_89 (dk_at dksJ12_next_1 21 rfl rfl)
theorem dJ12_next_46 : decode cJ12_next 46 = .ok (.invokespecial 43, 3) := dk_183 0 43 (dk_at dksJ12_next_2 0 rfl rfl)
theorem dJ12_next_49 : decode cJ12_next 49 = .ok (.athrow, 1) := dk_191 (dk_at dksJ12_next_2 3 rfl rfl)
theorem dJ12_next_50 : decode cJ12_next 50 = .ok (.aload_n 0, 1) := dk_42 (dk_at dksJ12_next_2 4 rfl rfl)
theorem dJ12_next_51 : decode cJ12_next 51 = .ok (.iload_n 1, 1) := dk_27 (dk_at dksJ12_next_2 5 rfl rfl)
theorem dJ12_next_52 : decode cJ12_next 52 = .ok (.iconst 1, 1) := dk_4 (dk_at dksJ12_next_2 6 rfl rfl)
theorem dJ12_next_53 : decode cJ12_next 53 = .ok (.iadd, 1) := dk_96 (dk_at dksJ12_next_2 7 rfl rfl)
theorem dJ12_next_54 : decode cJ12_next 54 = .ok (.putfield 25, 3) := dk_181 0 25 (dk_at dksJ12_next_2 8 rfl rfl)
theorem dJ12_next_57 : decode cJ12_next 57 = .ok (.aload_n 2, 1) := dk_44 (dk_at dksJ12_next_2 11 rfl rfl)
theorem dJ12_next_58 : decode cJ12_next 58 = .ok (.aload_n 0, 1) := dk_42 (dk_at dksJ12_next_2 12 rfl rfl)
theorem dJ12_next_59 : decode cJ12_next 59 = .ok (.iload_n 1, 1) := dk_27 (dk_at dksJ12_next_2 13 rfl rfl)
theorem dJ12_next_60 : decode cJ12_next 60 = .ok (.dup_x1, 1) := dk_90 (dk_at dksJ12_next_2 14 rfl rfl)
theorem dJ12_next_61 : decode cJ12_next 61 = .ok (.putfield 13, 3) := dk_181 0 13 (dk_at dksJ12_next_2 15 rfl rfl)
theorem dJ12_next_64 : decode cJ12_next 64 = .ok (.aaload, 1) := dk_50 (dk_at dksJ12_next_2 18 rfl rfl)
theorem dJ12_next_65 : decode cJ12_next 65 = .ok (.areturn, 1) := dk_176 (dk_at dksJ12_next_2 19 rfl rfl)
abbrev cJ12_checkForComodification : ByteArray := prog_49_method_6_code
def yJ12_checkForComodification : MethodName := ⟨RJ12, "checkForComodification", "()V"⟩
def dkwJ12_checkForComodification_0 : List UInt8 := [42, 180, 0, 1, 180, 0, 17, 42, 180, 0, 22, 159, 0, 11, 187, 0, 41, 89, 183, 0, 43, 191, 177]
abbrev dktJ12_checkForComodification_0 : List UInt8 := dkwJ12_checkForComodification_0 ++ []
theorem dksJ12_checkForComodification_0 : cJ12_checkForComodification.data.toList.drop 0 = dktJ12_checkForComodification_0 := by decide +kernel
theorem dJ12_checkForComodification_0 : decode cJ12_checkForComodification 0 = .ok (.aload_n 0, 1) := dk_42 (dk_at dksJ12_checkForComodification_0 0 rfl rfl)
theorem dJ12_checkForComodification_1 : decode cJ12_checkForComodification 1 = .ok (.getfield 1, 3) := dk_180 0 1 (dk_at dksJ12_checkForComodification_0 1 rfl rfl)
theorem dJ12_checkForComodification_4 : decode cJ12_checkForComodification 4 = .ok (.getfield 17, 3) := dk_180 0 17 (dk_at dksJ12_checkForComodification_0 4 rfl rfl)
theorem dJ12_checkForComodification_7 : decode cJ12_checkForComodification 7 = .ok (.aload_n 0, 1) := dk_42 (dk_at dksJ12_checkForComodification_0 7 rfl rfl)
theorem dJ12_checkForComodification_8 : decode cJ12_checkForComodification 8 = .ok (.getfield 22, 3) := dk_180 0 22 (dk_at dksJ12_checkForComodification_0 8 rfl rfl)
theorem dJ12_checkForComodification_11 : decode cJ12_checkForComodification 11 = .ok (.if_icmp .eq 11, 3) := dk_159 0 11 (dk_at dksJ12_checkForComodification_0 11 rfl rfl)
theorem dJ12_checkForComodification_14 : decode cJ12_checkForComodification 14 = .ok (.new 41, 3) := dk_187 0 41 (dk_at dksJ12_checkForComodification_0 14 rfl rfl)
theorem dJ12_checkForComodification_17 : decode cJ12_checkForComodification 17 = .ok (.dup, 1) := dk_89 (dk_at dksJ12_checkForComodification_0 17 rfl rfl)
theorem dJ12_checkForComodification_18 : decode cJ12_checkForComodification 18 = .ok (.invokespecial 43, 3) := dk_183 0 43 (dk_at dksJ12_checkForComodification_0 18 rfl rfl)
theorem dJ12_checkForComodification_21 : decode cJ12_checkForComodification 21 = .ok (.athrow, 1) := dk_191 (dk_at dksJ12_checkForComodification_0 21 rfl rfl)
theorem dJ12_checkForComodification_22 : decode cJ12_checkForComodification 22 = .ok (.return_, 1) := dk_177 (dk_at dksJ12_checkForComodification_0 22 rfl rfl)
theorem q152 : (Jvm.Cond.initialized "java/util/ArrayList$Itr") ∈ lw_all := lw_g (lw_at lw_m1 24 rfl) rfl
theorem q280 : (Jvm.Cond.fieldLink "java/util/ArrayList$Itr" (37 : Nat) "java/util/ArrayList" "elementData" "[Ljava/lang/Object;") ∈ lw_all := lw_g (lw_at lw_m1 152 rfl) rfl
theorem q281 : (Jvm.Cond.fieldLinkNest "java/util/ArrayList$Itr" (28 : Nat) "java/util/ArrayList" "size" "I" "java/util/ArrayList") ∈ lw_tbl := lw_at lw_m1 153 rfl
theorem q284 : (Jvm.Cond.fieldLink "java/util/ArrayList$Itr" (17 : Nat) "java/util/ArrayList" "modCount" "I") ∈ lw_all := lw_g (lw_at lw_m1 156 rfl) rfl
theorem q714 : (Jvm.Cond.selects "java/util/ArrayList$Itr" ({ cls := "java/lang/Object", name := "getClass", desc := "()Ljava/lang/Class;" } : Jvm.MethodName) ({ cls := "java/lang/Object", name := "getClass", desc := "()Ljava/lang/Class;" } : Jvm.MethodName)) ∈ lw_all := lw_g (lw_at lw_m3 106 rfl) rfl
theorem q838 : (Jvm.Cond.instantiable "java/util/ArrayList$Itr" (4 : Nat)) ∈ lw_all := lw_g (lw_at lw_m3 230 rfl) rfl
theorem q840 : (Jvm.Cond.instanceMethod ({ cls := "java/util/ArrayList$Itr", name := "<init>", desc := "(Ljava/util/ArrayList;)V" } : Jvm.MethodName)) ∈ lw_all := lw_g (lw_at lw_m3 232 rfl) rfl
theorem q841 : (Jvm.Cond.code ({ cls := "java/util/ArrayList$Itr", name := "<init>", desc := "(Ljava/util/ArrayList;)V" } : Jvm.MethodName) prog_49_method_1_code (2 : Nat) (Option.none : Option Jvm.ClassFile.FieldType)) ∈ lw_all := lw_g (lw_at lw_m3 233 rfl) rfl
theorem q842 : (Jvm.Cond.methodLink "java/util/ArrayList$Itr" (7 : Nat) ({ cls := "java/lang/Object", name := "<init>", desc := "()V" } : Jvm.MethodName)) ∈ lw_all := lw_g (lw_at lw_m3 234 rfl) rfl
theorem q843 : (Jvm.Cond.fieldLink "java/util/ArrayList$Itr" (25 : Nat) "java/util/ArrayList$Itr" "cursor" "I") ∈ lw_all := lw_g (lw_at lw_m3 235 rfl) rfl
theorem q844 : (Jvm.Cond.fieldLink "java/util/ArrayList$Itr" (13 : Nat) "java/util/ArrayList$Itr" "lastRet" "I") ∈ lw_all := lw_g (lw_at lw_m3 236 rfl) rfl
theorem q845 : (Jvm.Cond.fieldLink "java/util/ArrayList$Itr" (22 : Nat) "java/util/ArrayList$Itr" "expectedModCount" "I") ∈ lw_all := lw_g (lw_at lw_m3 237 rfl) rfl
theorem q846 : (Jvm.Cond.fieldLink "java/util/ArrayList$Itr" (1 : Nat) "java/util/ArrayList$Itr" "this$0" "Ljava/util/ArrayList;") ∈ lw_all := lw_g (lw_at lw_m3 238 rfl) rfl
theorem q847 : (Jvm.Cond.lays "java/util/ArrayList$Itr" "java/util/ArrayList$Itr" "cursor" "I") ∈ lw_all := lw_g (lw_at lw_m3 239 rfl) rfl
theorem q848 : (Jvm.Cond.soleField "java/util/ArrayList$Itr" "cursor") ∈ lw_all := lw_g (lw_at lw_m4 0 rfl) rfl
theorem q849 : (Jvm.Cond.lays "java/util/ArrayList$Itr" "java/util/ArrayList$Itr" "lastRet" "I") ∈ lw_all := lw_g (lw_at lw_m4 1 rfl) rfl
theorem q850 : (Jvm.Cond.soleField "java/util/ArrayList$Itr" "lastRet") ∈ lw_all := lw_g (lw_at lw_m4 2 rfl) rfl
theorem q851 : (Jvm.Cond.lays "java/util/ArrayList$Itr" "java/util/ArrayList$Itr" "expectedModCount" "I") ∈ lw_all := lw_g (lw_at lw_m4 3 rfl) rfl
theorem q852 : (Jvm.Cond.soleField "java/util/ArrayList$Itr" "expectedModCount") ∈ lw_all := lw_g (lw_at lw_m4 4 rfl) rfl
theorem q853 : (Jvm.Cond.laysFinal "java/util/ArrayList$Itr" "java/util/ArrayList$Itr" "this$0" "Ljava/util/ArrayList;") ∈ lw_all := lw_g (lw_at lw_m4 5 rfl) rfl
theorem q854 : (Jvm.Cond.soleField "java/util/ArrayList$Itr" "this$0") ∈ lw_all := lw_g (lw_at lw_m4 6 rfl) rfl
theorem q855 : (Jvm.Cond.superclass "java/util/ArrayList$Itr" "java/lang/Object") ∈ lw_all := lw_g (lw_at lw_m4 7 rfl) rfl
theorem q860 : (Jvm.Cond.castable "java/util/ArrayList$Itr" "java/util/Iterator") ∈ lw_tbl := lw_at lw_m4 12 rfl
theorem q861 : (Jvm.Cond.selects "java/util/ArrayList$Itr" ({ cls := "java/util/Iterator", name := "hasNext", desc := "()Z" } : Jvm.MethodName) ({ cls := "java/util/ArrayList$Itr", name := "hasNext", desc := "()Z" } : Jvm.MethodName)) ∈ lw_all := lw_g (lw_at lw_m4 13 rfl) rfl
theorem q862 : (Jvm.Cond.unhidden "java/util/ArrayList$Itr" "hasNext" "()Z") ∈ lw_tbl := lw_at lw_m4 14 rfl
theorem q863 : (Jvm.Cond.instanceMethod ({ cls := "java/util/ArrayList$Itr", name := "hasNext", desc := "()Z" } : Jvm.MethodName)) ∈ lw_all := lw_g (lw_at lw_m4 15 rfl) rfl
theorem q864 : (Jvm.Cond.publicMethod ({ cls := "java/util/ArrayList$Itr", name := "hasNext", desc := "()Z" } : Jvm.MethodName)) ∈ lw_tbl := lw_at lw_m4 16 rfl
theorem q865 : (Jvm.Cond.code ({ cls := "java/util/ArrayList$Itr", name := "hasNext", desc := "()Z" } : Jvm.MethodName) prog_49_method_2_code (1 : Nat) (Option.some Jvm.ClassFile.FieldType.boolean)) ∈ lw_all := lw_g (lw_at lw_m4 17 rfl) rfl
theorem q876 : (Jvm.Cond.selects "java/util/ArrayList$Itr" ({ cls := "java/util/Iterator", name := "next", desc := "()Ljava/lang/Object;" } : Jvm.MethodName) ({ cls := "java/util/ArrayList$Itr", name := "next", desc := "()Ljava/lang/Object;" } : Jvm.MethodName)) ∈ lw_all := lw_g (lw_at lw_m4 28 rfl) rfl
theorem q877 : (Jvm.Cond.unhidden "java/util/ArrayList$Itr" "next" "()Ljava/lang/Object;") ∈ lw_tbl := lw_at lw_m4 29 rfl
theorem q878 : (Jvm.Cond.instanceMethod ({ cls := "java/util/ArrayList$Itr", name := "next", desc := "()Ljava/lang/Object;" } : Jvm.MethodName)) ∈ lw_all := lw_g (lw_at lw_m4 30 rfl) rfl
theorem q879 : (Jvm.Cond.publicMethod ({ cls := "java/util/ArrayList$Itr", name := "next", desc := "()Ljava/lang/Object;" } : Jvm.MethodName)) ∈ lw_tbl := lw_at lw_m4 31 rfl
theorem q880 : (Jvm.Cond.code ({ cls := "java/util/ArrayList$Itr", name := "next", desc := "()Ljava/lang/Object;" } : Jvm.MethodName) prog_49_method_3_code (3 : Nat) (Option.some (Jvm.ClassFile.FieldType.object "java/lang/Object"))) ∈ lw_all := lw_g (lw_at lw_m4 32 rfl) rfl
theorem q881 : (Jvm.Cond.methodLink "java/util/ArrayList$Itr" (31 : Nat) ({ cls := "java/util/ArrayList$Itr", name := "checkForComodification", desc := "()V" } : Jvm.MethodName)) ∈ lw_all := lw_g (lw_at lw_m4 33 rfl) rfl
theorem q882 : (Jvm.Cond.instanceMethod ({ cls := "java/util/ArrayList$Itr", name := "checkForComodification", desc := "()V" } : Jvm.MethodName)) ∈ lw_all := lw_g (lw_at lw_m4 34 rfl) rfl
theorem q883 : (Jvm.Cond.selects "java/util/ArrayList$Itr" ({ cls := "java/util/ArrayList$Itr", name := "checkForComodification", desc := "()V" } : Jvm.MethodName) ({ cls := "java/util/ArrayList$Itr", name := "checkForComodification", desc := "()V" } : Jvm.MethodName)) ∈ lw_all := lw_g (lw_at lw_m4 35 rfl) rfl
theorem q884 : (Jvm.Cond.code ({ cls := "java/util/ArrayList$Itr", name := "checkForComodification", desc := "()V" } : Jvm.MethodName) prog_49_method_6_code (1 : Nat) (Option.none : Option Jvm.ClassFile.FieldType)) ∈ lw_all := lw_g (lw_at lw_m4 36 rfl) rfl
theorem q2787 : (Jvm.Cond.castable "java/util/ArrayList$Itr" "java/lang/Object") ∈ lw_tbl := lw_at lw_m12 19 rfl
theorem in_J12 : ∀ w ∈ wsJ120, w ∈ lw_all := lw_in wsJ120 [847, 849, 851, 853] (by decide +kernel) (by decide +kernel)
/-! java/util/AbstractMap -/
set_option maxRecDepth 100000
def RJ13 : String := "java/util/AbstractMap"
abbrev cJ13_init : ByteArray := prog_47_method_1_code
def yJ13_init : MethodName := ⟨RJ13, "<init>", "()V"⟩
theorem dJ13_init_0 : decode cJ13_init 0 = .ok (.aload_n 0, 1) := by decide +kernel
theorem dJ13_init_1 : decode cJ13_init 1 = .ok (.invokespecial 1, 3) := by decide +kernel
theorem dJ13_init_4 : decode cJ13_init 4 = .ok (.return_, 1) := by decide +kernel
theorem q153 : (Jvm.Cond.initialized "java/util/AbstractMap") ∈ lw_all := lw_g (lw_at lw_m1 25 rfl) rfl
theorem q906 : (Jvm.Cond.instanceMethod ({ cls := "java/util/AbstractMap", name := "<init>", desc := "()V" } : Jvm.MethodName)) ∈ lw_all := lw_g (lw_at lw_m4 58 rfl) rfl
theorem q907 : (Jvm.Cond.code ({ cls := "java/util/AbstractMap", name := "<init>", desc := "()V" } : Jvm.MethodName) prog_47_method_1_code (1 : Nat) (Option.none : Option Jvm.ClassFile.FieldType)) ∈ lw_all := lw_g (lw_at lw_m4 59 rfl) rfl
theorem q908 : (Jvm.Cond.methodLink "java/util/AbstractMap" (1 : Nat) ({ cls := "java/lang/Object", name := "<init>", desc := "()V" } : Jvm.MethodName)) ∈ lw_all := lw_g (lw_at lw_m4 60 rfl) rfl
theorem q931 : (Jvm.Cond.soleField "java/util/AbstractMap" "keySet") ∈ lw_all := lw_g (lw_at lw_m4 83 rfl) rfl
theorem q933 : (Jvm.Cond.soleField "java/util/AbstractMap" "values") ∈ lw_all := lw_g (lw_at lw_m4 85 rfl) rfl
/-! java/util/TreeMap -/
set_option maxRecDepth 100000
def RJ14 : String := "java/util/TreeMap"
def TJ14 : u_T := fun k => match k with
  | 0 => ("java/util/AbstractMap", "keySet", "Ljava/util/Set;", false)
  | 1 => ("java/util/AbstractMap", "values", "Ljava/util/Collection;", false)
  | 2 => ("java/util/TreeMap", "comparator", "Ljava/util/Comparator;", true)
  | 3 => ("java/util/TreeMap", "root", "Ljava/util/TreeMap$Entry;", false)
  | 4 => ("java/util/TreeMap", "size", "I", false)
  | 5 => ("java/util/TreeMap", "modCount", "I", false)
  | 6 => ("java/util/TreeMap", "entrySet", "Ljava/util/TreeMap$EntrySet;", false)
  | 7 => ("java/util/TreeMap", "navigableKeySet", "Ljava/util/TreeMap$KeySet;", false)
  | _ => ("java/util/TreeMap", "descendingMap", "Ljava/util/NavigableMap;", false)
def tyJ14 : Nat → FieldType := fun k => match k with
  | 0 => .object "java/util/Set"
  | 1 => .object "java/util/Collection"
  | 2 => .object "java/util/Comparator"
  | 3 => .object "java/util/TreeMap$Entry"
  | 4 => .int
  | 5 => .int
  | 6 => .object "java/util/TreeMap$EntrySet"
  | 7 => .object "java/util/TreeMap$KeySet"
  | _ => .object "java/util/NavigableMap"
abbrev wsJ140 : List Cond := u_ws RJ14 TJ14 9
theorem nmJ14 : ∀ a, a < 9 → ∀ b, b < 9 → a ≠ b → (TJ14 a).2.1 ≠ (TJ14 b).2.1 := by decide +kernel
theorem tyJ14_ok : ∀ k, k < 9 → parseFieldDescriptor (TJ14 k).2.2.1 = some (tyJ14 k) := by decide +kernel
abbrev cJ14_successor : ByteArray := prog_63_method_74_code
def yJ14_successor : MethodName := ⟨RJ14, "successor", "(Ljava/util/TreeMap$Entry;)Ljava/util/TreeMap$Entry;"⟩
def dkwJ14_successor_2 : List UInt8 := [44, 43, 180, 0, 114, 166, 0, 13, 43, 77, 43, 180, 0, 124, 76, 167, 255, 237, 43, 176]
abbrev dktJ14_successor_2 : List UInt8 := dkwJ14_successor_2 ++ []
def dkwJ14_successor_1 : List UInt8 := [198, 0, 11, 43, 180, 0, 111, 76, 167, 255, 244, 43, 176, 42, 180, 0, 124, 76, 42, 77, 43, 198, 0, 21]
abbrev dktJ14_successor_1 : List UInt8 := dkwJ14_successor_1 ++ dktJ14_successor_2
def dkwJ14_successor_0 : List UInt8 := [42, 199, 0, 5, 1, 176, 42, 180, 0, 114, 198, 0, 25, 42, 180, 0, 114, 76, 43, 180, 0, 111]
abbrev dktJ14_successor_0 : List UInt8 := dkwJ14_successor_0 ++ dktJ14_successor_1
theorem dksJ14_successor_0 : cJ14_successor.data.toList.drop 0 = dktJ14_successor_0 := by decide +kernel
theorem dksJ14_successor_1 : cJ14_successor.data.toList.drop 22 = dktJ14_successor_1 := dk_seg dksJ14_successor_0 22 rfl rfl
theorem dksJ14_successor_2 : cJ14_successor.data.toList.drop 46 = dktJ14_successor_2 := dk_seg dksJ14_successor_1 24 rfl rfl
theorem dJ14_successor_0 : decode cJ14_successor 0 = .ok (.aload_n 0, 1) := dk_42 (dk_at dksJ14_successor_0 0 rfl rfl)
theorem dJ14_successor_1 : decode cJ14_successor 1 = .ok (.ifnonnull 5, 3) := dk_199 0 5 (dk_at dksJ14_successor_0 1 rfl rfl)
theorem dJ14_successor_4 : decode cJ14_successor 4 = .ok (.aconst_null, 1) := dk_1 (dk_at dksJ14_successor_0 4 rfl rfl)
theorem dJ14_successor_5 : decode cJ14_successor 5 = .ok (.areturn, 1) := dk_176 (dk_at dksJ14_successor_0 5 rfl rfl)
theorem dJ14_successor_6 : decode cJ14_successor 6 = .ok (.aload_n 0, 1) := dk_42 (dk_at dksJ14_successor_0 6 rfl rfl)
theorem dJ14_successor_7 : decode cJ14_successor 7 = .ok (.getfield 114, 3) := dk_180 0 114 (dk_at dksJ14_successor_0 7 rfl rfl)
theorem dJ14_successor_10 : decode cJ14_successor 10 = .ok (.ifnull 25, 3) := dk_198 0 25 (dk_at dksJ14_successor_0 10 rfl rfl)
theorem dJ14_successor_13 : decode cJ14_successor 13 = .ok (.aload_n 0, 1) := dk_42 (dk_at dksJ14_successor_0 13 rfl rfl)
theorem dJ14_successor_14 : decode cJ14_successor 14 = .ok (.getfield 114, 3) := dk_180 0 114 (dk_at dksJ14_successor_0 14 rfl rfl)
theorem dJ14_successor_17 : decode cJ14_successor 17 = .ok (.astore_n 1, 1) := dk_76 (dk_at dksJ14_successor_0 17 rfl rfl)
theorem dJ14_successor_18 : decode cJ14_successor 18 = .ok (.aload_n 1, 1) := dk_43 (dk_at dksJ14_successor_0 18 rfl rfl)
theorem dJ14_successor_19 : decode cJ14_successor 19 = .ok (.getfield 111, 3) := dk_180 0 111 (dk_at dksJ14_successor_0 19 rfl rfl)
theorem dJ14_successor_22 : decode cJ14_successor 22 = .ok (.ifnull 11, 3) := dk_198 0 11 (dk_at dksJ14_successor_1 0 rfl rfl)
theorem dJ14_successor_25 : decode cJ14_successor 25 = .ok (.aload_n 1, 1) := dk_43 (dk_at dksJ14_successor_1 3 rfl rfl)
theorem dJ14_successor_26 : decode cJ14_successor 26 = .ok (.getfield 111, 3) := dk_180 0 111 (dk_at dksJ14_successor_1 4 rfl rfl)
theorem dJ14_successor_29 : decode cJ14_successor 29 = .ok (.astore_n 1, 1) := dk_76 (dk_at dksJ14_successor_1 7 rfl rfl)
theorem dJ14_successor_30 : decode cJ14_successor 30 = .ok (.goto (-12), 3) := dk_167 255 244 (dk_at dksJ14_successor_1 8 rfl rfl)
theorem dJ14_successor_33 : decode cJ14_successor 33 = .ok (.aload_n 1, 1) := dk_43 (dk_at dksJ14_successor_1 11 rfl rfl)
theorem dJ14_successor_34 : decode cJ14_successor 34 = .ok (.areturn, 1) := dk_176 (dk_at dksJ14_successor_1 12 rfl rfl)
theorem dJ14_successor_35 : decode cJ14_successor 35 = .ok (.aload_n 0, 1) := dk_42 (dk_at dksJ14_successor_1 13 rfl rfl)
theorem dJ14_successor_36 : decode cJ14_successor 36 = .ok (.getfield 124, 3) := dk_180 0 124 (dk_at dksJ14_successor_1 14 rfl rfl)
theorem dJ14_successor_39 : decode cJ14_successor 39 = .ok (.astore_n 1, 1) := dk_76 (dk_at dksJ14_successor_1 17 rfl rfl)
theorem dJ14_successor_40 : decode cJ14_successor 40 = .ok (.aload_n 0, 1) := dk_42 (dk_at dksJ14_successor_1 18 rfl rfl)
theorem dJ14_successor_41 : decode cJ14_successor 41 = .ok (.astore_n 2, 1) := dk_77 (dk_at dksJ14_successor_1 19 rfl rfl)
theorem dJ14_successor_42 : decode cJ14_successor 42 = .ok (.aload_n 1, 1) := dk_43 (dk_at dksJ14_successor_1 20 rfl rfl)
theorem dJ14_successor_43 : decode cJ14_successor 43 = .ok (.ifnull 21, 3) := dk_198 0 21 (dk_at dksJ14_successor_1 21 rfl rfl)
theorem dJ14_successor_46 : decode cJ14_successor 46 = .ok (.aload_n 2, 1) := dk_44 (dk_at dksJ14_successor_2 0 rfl rfl)
theorem dJ14_successor_47 : decode cJ14_successor 47 = .ok (.aload_n 1, 1) := dk_43 (dk_at dksJ14_successor_2 1 rfl rfl)
theorem dJ14_successor_48 : decode cJ14_successor 48 = .ok (.getfield 114, 3) := dk_180 0 114 (dk_at dksJ14_successor_2 2 rfl rfl)
theorem dJ14_successor_51 : decode cJ14_successor 51 = .ok (.if_acmp .ne 13, 3) := dk_166 0 13 (dk_at dksJ14_successor_2 5 rfl rfl)
theorem dJ14_successor_54 : decode cJ14_successor 54 = .ok (.aload_n 1, 1) := dk_43 (dk_at dksJ14_successor_2 8 rfl rfl)
theorem dJ14_successor_55 : decode cJ14_successor 55 = .ok (.astore_n 2, 1) := dk_77 (dk_at dksJ14_successor_2 9 rfl rfl)
theorem dJ14_successor_56 : decode cJ14_successor 56 = .ok (.aload_n 1, 1) := dk_43 (dk_at dksJ14_successor_2 10 rfl rfl)
theorem dJ14_successor_57 : decode cJ14_successor 57 = .ok (.getfield 124, 3) := dk_180 0 124 (dk_at dksJ14_successor_2 11 rfl rfl)
theorem dJ14_successor_60 : decode cJ14_successor 60 = .ok (.astore_n 1, 1) := dk_76 (dk_at dksJ14_successor_2 14 rfl rfl)
theorem dJ14_successor_61 : decode cJ14_successor 61 = .ok (.goto (-19), 3) := dk_167 255 237 (dk_at dksJ14_successor_2 15 rfl rfl)
theorem dJ14_successor_64 : decode cJ14_successor 64 = .ok (.aload_n 1, 1) := dk_43 (dk_at dksJ14_successor_2 18 rfl rfl)
theorem dJ14_successor_65 : decode cJ14_successor 65 = .ok (.areturn, 1) := dk_176 (dk_at dksJ14_successor_2 19 rfl rfl)
abbrev cJ14_init : ByteArray := prog_63_method_1_code
def yJ14_init : MethodName := ⟨RJ14, "<init>", "()V"⟩
def dkwJ14_init_0 : List UInt8 := [42, 183, 0, 1, 42, 3, 181, 0, 7, 42, 3, 181, 0, 13, 42, 1, 181, 0, 16, 177]
abbrev dktJ14_init_0 : List UInt8 := dkwJ14_init_0 ++ []
theorem dksJ14_init_0 : cJ14_init.data.toList.drop 0 = dktJ14_init_0 := by decide +kernel
theorem dJ14_init_0 : decode cJ14_init 0 = .ok (.aload_n 0, 1) := dk_42 (dk_at dksJ14_init_0 0 rfl rfl)
theorem dJ14_init_1 : decode cJ14_init 1 = .ok (.invokespecial 1, 3) := dk_183 0 1 (dk_at dksJ14_init_0 1 rfl rfl)
theorem dJ14_init_4 : decode cJ14_init 4 = .ok (.aload_n 0, 1) := dk_42 (dk_at dksJ14_init_0 4 rfl rfl)
theorem dJ14_init_5 : decode cJ14_init 5 = .ok (.iconst 0, 1) := dk_3 (dk_at dksJ14_init_0 5 rfl rfl)
theorem dJ14_init_6 : decode cJ14_init 6 = .ok (.putfield 7, 3) := dk_181 0 7 (dk_at dksJ14_init_0 6 rfl rfl)
theorem dJ14_init_9 : decode cJ14_init 9 = .ok (.aload_n 0, 1) := dk_42 (dk_at dksJ14_init_0 9 rfl rfl)
theorem dJ14_init_10 : decode cJ14_init 10 = .ok (.iconst 0, 1) := dk_3 (dk_at dksJ14_init_0 10 rfl rfl)
theorem dJ14_init_11 : decode cJ14_init 11 = .ok (.putfield 13, 3) := dk_181 0 13 (dk_at dksJ14_init_0 11 rfl rfl)
theorem dJ14_init_14 : decode cJ14_init 14 = .ok (.aload_n 0, 1) := dk_42 (dk_at dksJ14_init_0 14 rfl rfl)
theorem dJ14_init_15 : decode cJ14_init 15 = .ok (.aconst_null, 1) := dk_1 (dk_at dksJ14_init_0 15 rfl rfl)
theorem dJ14_init_16 : decode cJ14_init 16 = .ok (.putfield 16, 3) := dk_181 0 16 (dk_at dksJ14_init_0 16 rfl rfl)
theorem dJ14_init_19 : decode cJ14_init 19 = .ok (.return_, 1) := dk_177 (dk_at dksJ14_init_0 19 rfl rfl)
abbrev cJ14_put : ByteArray := prog_63_method_21_code
def yJ14_put : MethodName := ⟨RJ14, "put", "(Ljava/lang/Object;Ljava/lang/Object;)Ljava/lang/Object;"⟩
def dkwJ14_put_0 : List UInt8 := [42, 43, 44, 4, 182, 0, 127, 176]
abbrev dktJ14_put_0 : List UInt8 := dkwJ14_put_0 ++ []
theorem dksJ14_put_0 : cJ14_put.data.toList.drop 0 = dktJ14_put_0 := by decide +kernel
theorem dJ14_put_0 : decode cJ14_put 0 = .ok (.aload_n 0, 1) := dk_42 (dk_at dksJ14_put_0 0 rfl rfl)
theorem dJ14_put_1 : decode cJ14_put 1 = .ok (.aload_n 1, 1) := dk_43 (dk_at dksJ14_put_0 1 rfl rfl)
theorem dJ14_put_2 : decode cJ14_put 2 = .ok (.aload_n 2, 1) := dk_44 (dk_at dksJ14_put_0 2 rfl rfl)
theorem dJ14_put_3 : decode cJ14_put 3 = .ok (.iconst 1, 1) := dk_4 (dk_at dksJ14_put_0 3 rfl rfl)
theorem dJ14_put_4 : decode cJ14_put 4 = .ok (.invokevirtual 127, 3) := dk_182 0 127 (dk_at dksJ14_put_0 4 rfl rfl)
theorem dJ14_put_7 : decode cJ14_put 7 = .ok (.areturn, 1) := dk_176 (dk_at dksJ14_put_0 7 rfl rfl)
abbrev cJ14_put_2 : ByteArray := prog_63_method_31_code
def yJ14_put_2 : MethodName := ⟨RJ14, "put", "(Ljava/lang/Object;Ljava/lang/Object;Z)Ljava/lang/Object;"⟩
def dkwJ14_put_2_9 : List UInt8 := [4, 167, 0, 4, 3, 182, 0, 139, 1, 176]
abbrev dktJ14_put_2_9 : List UInt8 := dkwJ14_put_2_9 ++ []
def dkwJ14_put_2_8 : List UInt8 := [25, 4, 44, 181, 0, 58, 25, 9, 176, 25, 4, 199, 255, 181, 42, 43, 44, 25, 6, 21, 5, 156, 0, 7]
abbrev dktJ14_put_2_8 : List UInt8 := dkwJ14_put_2_8 ++ dktJ14_put_2_9
def dkwJ14_put_2_7 : List UInt8 := [180, 0, 114, 58, 4, 167, 0, 28, 25, 4, 180, 0, 58, 58, 9, 29, 154, 0, 8, 25, 9, 199, 0, 9]
abbrev dktJ14_put_2_7 : List UInt8 := dkwJ14_put_2_7 ++ dktJ14_put_2_8
def dkwJ14_put_2_6 : List UInt8 := [21, 5, 156, 0, 13, 25, 4, 180, 0, 111, 58, 4, 167, 0, 43, 21, 5, 158, 0, 13, 25, 4]
abbrev dktJ14_put_2_6 : List UInt8 := dkwJ14_put_2_6 ++ dktJ14_put_2_7
def dkwJ14_put_2_5 : List UInt8 := [192, 0, 99, 58, 8, 25, 4, 58, 6, 25, 8, 25, 4, 180, 0, 105, 185, 0, 107, 2, 0, 54, 5]
abbrev dktJ14_put_2_5 : List UInt8 := dkwJ14_put_2_5 ++ dktJ14_put_2_6
def dkwJ14_put_2_4 : List UInt8 := [25, 4, 44, 181, 0, 58, 25, 8, 176, 25, 4, 199, 255, 180, 167, 0, 92, 43, 184, 0, 95, 87, 43]
abbrev dktJ14_put_2_4 : List UInt8 := dkwJ14_put_2_4 ++ dktJ14_put_2_5
def dkwJ14_put_2_3 : List UInt8 := [180, 0, 114, 58, 4, 167, 0, 28, 25, 4, 180, 0, 58, 58, 8, 29, 154, 0, 8, 25, 8, 199, 0, 9]
abbrev dktJ14_put_2_3 : List UInt8 := dkwJ14_put_2_3 ++ dktJ14_put_2_4
def dkwJ14_put_2_2 : List UInt8 := [54, 5, 21, 5, 156, 0, 13, 25, 4, 180, 0, 111, 58, 4, 167, 0, 43, 21, 5, 158, 0, 13, 25, 4]
abbrev dktJ14_put_2_2 : List UInt8 := dkwJ14_put_2_2 ++ dktJ14_put_2_3
def dkwJ14_put_2_1 : List UInt8 := [58, 7, 25, 7, 198, 0, 85, 25, 4, 58, 6, 25, 7, 43, 25, 4, 180, 0, 105, 185, 0, 117, 3, 0]
abbrev dktJ14_put_2_1 : List UInt8 := dkwJ14_put_2_1 ++ dktJ14_put_2_2
def dkwJ14_put_2_0 : List UInt8 := [42, 180, 0, 101, 58, 4, 25, 4, 199, 0, 11, 42, 43, 44, 182, 0, 135, 1, 176, 42, 180, 0, 16]
abbrev dktJ14_put_2_0 : List UInt8 := dkwJ14_put_2_0 ++ dktJ14_put_2_1
theorem dksJ14_put_2_0 : cJ14_put_2.data.toList.drop 0 = dktJ14_put_2_0 := by decide +kernel
theorem dksJ14_put_2_1 : cJ14_put_2.data.toList.drop 23 = dktJ14_put_2_1 := dk_seg dksJ14_put_2_0 23 rfl rfl
theorem dksJ14_put_2_2 : cJ14_put_2.data.toList.drop 47 = dktJ14_put_2_2 := dk_seg dksJ14_put_2_1 24 rfl rfl
theorem dksJ14_put_2_3 : cJ14_put_2.data.toList.drop 71 = dktJ14_put_2_3 := dk_seg dksJ14_put_2_2 24 rfl rfl
theorem dksJ14_put_2_4 : cJ14_put_2.data.toList.drop 95 = dktJ14_put_2_4 := dk_seg dksJ14_put_2_3 24 rfl rfl
theorem dksJ14_put_2_5 : cJ14_put_2.data.toList.drop 118 = dktJ14_put_2_5 := dk_seg dksJ14_put_2_4 23 rfl rfl
theorem dksJ14_put_2_6 : cJ14_put_2.data.toList.drop 141 = dktJ14_put_2_6 := dk_seg dksJ14_put_2_5 23 rfl rfl
theorem dksJ14_put_2_7 : cJ14_put_2.data.toList.drop 163 = dktJ14_put_2_7 := dk_seg dksJ14_put_2_6 22 rfl rfl
theorem dksJ14_put_2_8 : cJ14_put_2.data.toList.drop 187 = dktJ14_put_2_8 := dk_seg dksJ14_put_2_7 24 rfl rfl
theorem dksJ14_put_2_9 : cJ14_put_2.data.toList.drop 211 = dktJ14_put_2_9 := dk_seg dksJ14_put_2_8 24 rfl rfl
theorem dJ14_put_2_0 : decode cJ14_put_2 0 = .ok (.aload_n 0, 1) := dk_42 (dk_at dksJ14_put_2_0 0 rfl rfl)
theorem dJ14_put_2_1 : decode cJ14_put_2 1 = .ok (.getfield 101, 3) := dk_180 0 101 (dk_at dksJ14_put_2_0 1 rfl rfl)
theorem dJ14_put_2_4 : decode cJ14_put_2 4 = .ok (.astore 4, 2) := dk_58 4 (dk_at dksJ14_put_2_0 4 rfl rfl)
theorem dJ14_put_2_6 : decode cJ14_put_2 6 = .ok (.aload 4, 2) := dk_25 4 (dk_at dksJ14_put_2_0 6 rfl rfl)
theorem dJ14_put_2_8 : decode cJ14_put_2 8 = .ok (.ifnonnull 11, 3) := dk_199 0 11 (dk_at dksJ14_put_2_0 8 rfl rfl)
theorem dJ14_put_2_11 : decode cJ14_put_2 11 = .ok (.aload_n 0, 1) := dk_42 (dk_at dksJ14_put_2_0 11 rfl rfl)
theorem dJ14_put_2_12 : decode cJ14_put_2 12 = .ok (.aload_n 1, 1) := dk_43 (dk_at dksJ14_put_2_0 12 rfl rfl)
theorem dJ14_put_2_13 : decode cJ14_put_2 13 = .ok (.aload_n 2, 1) := dk_44 (dk_at dksJ14_put_2_0 13 rfl rfl)
theorem dJ14_put_2_14 : decode cJ14_put_2 14 = .ok (.invokevirtual 135, 3) := dk_182 0 135 (dk_at dksJ14_put_2_0 14 rfl rfl)
theorem dJ14_put_2_17 : decode cJ14_put_2 17 = .ok (.aconst_null, 1) := dk_1 (dk_at dksJ14_put_2_0 17 rfl rfl)
theorem dJ14_put_2_18 : decode cJ14_put_2 18 = .ok (.areturn, 1) := dk_176 (dk_at dksJ14_put_2_0 18 rfl rfl)
theorem dJ14_put_2_19 : decode cJ14_put_2 19 = .ok (.aload_n 0, 1) := dk_42 (dk_at dksJ14_put_2_0 19 rfl rfl)
theorem dJ14_put_2_20 : decode cJ14_put_2 20 = .ok (.getfield 16, 3) := dk_180 0 16 (dk_at dksJ14_put_2_0 20 rfl rfl)
theorem dJ14_put_2_23 : decode cJ14_put_2 23 = .ok (.astore 7, 2) := dk_58 7 (dk_at dksJ14_put_2_1 0 rfl rfl)
theorem dJ14_put_2_25 : decode cJ14_put_2 25 = .ok (.aload 7, 2) := dk_25 7 (dk_at dksJ14_put_2_1 2 rfl rfl)
theorem dJ14_put_2_27 : decode cJ14_put_2 27 = .ok (.ifnull 85, 3) := dk_198 0 85 (dk_at dksJ14_put_2_1 4 rfl rfl)
theorem dJ14_put_2_30 : decode cJ14_put_2 30 = .ok (.aload 4, 2) := dk_25 4 (dk_at dksJ14_put_2_1 7 rfl rfl)
theorem dJ14_put_2_32 : decode cJ14_put_2 32 = .ok (.astore 6, 2) := dk_58 6 (dk_at dksJ14_put_2_1 9 rfl rfl)
theorem dJ14_put_2_34 : decode cJ14_put_2 34 = .ok (.aload 7, 2) := dk_25 7 (dk_at dksJ14_put_2_1 11 rfl rfl)
theorem dJ14_put_2_36 : decode cJ14_put_2 36 = .ok (.aload_n 1, 1) := dk_43 (dk_at dksJ14_put_2_1 13 rfl rfl)
theorem dJ14_put_2_37 : decode cJ14_put_2 37 = .ok (.aload 4, 2) := dk_25 4 (dk_at dksJ14_put_2_1 14 rfl rfl)
theorem dJ14_put_2_39 : decode cJ14_put_2 39 = .ok (.getfield 105, 3) := dk_180 0 105 (dk_at dksJ14_put_2_1 16 rfl rfl)
theorem dJ14_put_2_42 : decode cJ14_put_2 42 = .ok (.invokeinterface 117 3, 5) := by decide +kernel
theorem dJ14_put_2_47 : decode cJ14_put_2 47 = .ok (.istore 5, 2) := dk_54 5 (dk_at dksJ14_put_2_2 0 rfl rfl)
theorem dJ14_put_2_49 : decode cJ14_put_2 49 = .ok (.iload 5, 2) := dk_21 5 (dk_at dksJ14_put_2_2 2 rfl rfl)
theorem dJ14_put_2_51 : decode cJ14_put_2 51 = .ok (.ifCond .ge 13, 3) := dk_156 0 13 (dk_at dksJ14_put_2_2 4 rfl rfl)
theorem dJ14_put_2_54 : decode cJ14_put_2 54 = .ok (.aload 4, 2) := dk_25 4 (dk_at dksJ14_put_2_2 7 rfl rfl)
theorem dJ14_put_2_56 : decode cJ14_put_2 56 = .ok (.getfield 111, 3) := dk_180 0 111 (dk_at dksJ14_put_2_2 9 rfl rfl)
theorem dJ14_put_2_59 : decode cJ14_put_2 59 = .ok (.astore 4, 2) := dk_58 4 (dk_at dksJ14_put_2_2 12 rfl rfl)
theorem dJ14_put_2_61 : decode cJ14_put_2 61 = .ok (.goto 43, 3) := dk_167 0 43 (dk_at dksJ14_put_2_2 14 rfl rfl)
theorem dJ14_put_2_64 : decode cJ14_put_2 64 = .ok (.iload 5, 2) := dk_21 5 (dk_at dksJ14_put_2_2 17 rfl rfl)
theorem dJ14_put_2_66 : decode cJ14_put_2 66 = .ok (.ifCond .le 13, 3) := dk_158 0 13 (dk_at dksJ14_put_2_2 19 rfl rfl)
theorem dJ14_put_2_69 : decode cJ14_put_2 69 = .ok (.aload 4, 2) := dk_25 4 (dk_at dksJ14_put_2_2 22 rfl rfl)
theorem dJ14_put_2_71 : decode cJ14_put_2 71 = .ok (.getfield 114, 3) := dk_180 0 114 (dk_at dksJ14_put_2_3 0 rfl rfl)
theorem dJ14_put_2_74 : decode cJ14_put_2 74 = .ok (.astore 4, 2) := dk_58 4 (dk_at dksJ14_put_2_3 3 rfl rfl)
theorem dJ14_put_2_76 : decode cJ14_put_2 76 = .ok (.goto 28, 3) := dk_167 0 28 (dk_at dksJ14_put_2_3 5 rfl rfl)
theorem dJ14_put_2_79 : decode cJ14_put_2 79 = .ok (.aload 4, 2) := dk_25 4 (dk_at dksJ14_put_2_3 8 rfl rfl)
theorem dJ14_put_2_81 : decode cJ14_put_2 81 = .ok (.getfield 58, 3) := dk_180 0 58 (dk_at dksJ14_put_2_3 10 rfl rfl)
theorem dJ14_put_2_84 : decode cJ14_put_2 84 = .ok (.astore 8, 2) := dk_58 8 (dk_at dksJ14_put_2_3 13 rfl rfl)
theorem dJ14_put_2_86 : decode cJ14_put_2 86 = .ok (.iload_n 3, 1) := dk_29 (dk_at dksJ14_put_2_3 15 rfl rfl)
theorem dJ14_put_2_87 : decode cJ14_put_2 87 = .ok (.ifCond .ne 8, 3) := dk_154 0 8 (dk_at dksJ14_put_2_3 16 rfl rfl)
theorem dJ14_put_2_90 : decode cJ14_put_2 90 = .ok (.aload 8, 2) := dk_25 8 (dk_at dksJ14_put_2_3 19 rfl rfl)
theorem dJ14_put_2_92 : decode cJ14_put_2 92 = .ok (.ifnonnull 9, 3) := dk_199 0 9 (dk_at dksJ14_put_2_3 21 rfl rfl)
theorem dJ14_put_2_95 : decode cJ14_put_2 95 = .ok (.aload 4, 2) := dk_25 4 (dk_at dksJ14_put_2_4 0 rfl rfl)
theorem dJ14_put_2_97 : decode cJ14_put_2 97 = .ok (.aload_n 2, 1) := dk_44 (dk_at dksJ14_put_2_4 2 rfl rfl)
theorem dJ14_put_2_98 : decode cJ14_put_2 98 = .ok (.putfield 58, 3) := dk_181 0 58 (dk_at dksJ14_put_2_4 3 rfl rfl)
theorem dJ14_put_2_101 : decode cJ14_put_2 101 = .ok (.aload 8, 2) := dk_25 8 (dk_at dksJ14_put_2_4 6 rfl rfl)
theorem dJ14_put_2_103 : decode cJ14_put_2 103 = .ok (.areturn, 1) := dk_176 (dk_at dksJ14_put_2_4 8 rfl rfl)
theorem dJ14_put_2_104 : decode cJ14_put_2 104 = .ok (.aload 4, 2) := dk_25 4 (dk_at dksJ14_put_2_4 9 rfl rfl)
theorem dJ14_put_2_106 : decode cJ14_put_2 106 = .ok (.ifnonnull (-76), 3) := dk_199 255 180 (dk_at dksJ14_put_2_4 11 rfl rfl)
theorem dJ14_put_2_109 : decode cJ14_put_2 109 = .ok (.goto 92, 3) := dk_167 0 92 (dk_at dksJ14_put_2_4 14 rfl rfl)
theorem dJ14_put_2_112 : decode cJ14_put_2 112 = .ok (.aload_n 1, 1) := dk_43 (dk_at dksJ14_put_2_4 17 rfl rfl)
theorem dJ14_put_2_113 : decode cJ14_put_2 113 = .ok (.invokestatic 95, 3) := dk_184 0 95 (dk_at dksJ14_put_2_4 18 rfl rfl)
theorem dJ14_put_2_116 : decode cJ14_put_2 116 = .ok (.pop, 1) := dk_87 (dk_at dksJ14_put_2_4 21 rfl rfl)
theorem dJ14_put_2_117 : decode cJ14_put_2 117 = .ok (.aload_n 1, 1) := dk_43 (dk_at dksJ14_put_2_4 22 rfl rfl)
theorem dJ14_put_2_118 : decode cJ14_put_2 118 = .ok (.checkcast 99, 3) := dk_192 0 99 (dk_at dksJ14_put_2_5 0 rfl rfl)
theorem dJ14_put_2_121 : decode cJ14_put_2 121 = .ok (.astore 8, 2) := dk_58 8 (dk_at dksJ14_put_2_5 3 rfl rfl)
theorem dJ14_put_2_123 : decode cJ14_put_2 123 = .ok (.aload 4, 2) := dk_25 4 (dk_at dksJ14_put_2_5 5 rfl rfl)
theorem dJ14_put_2_125 : decode cJ14_put_2 125 = .ok (.astore 6, 2) := dk_58 6 (dk_at dksJ14_put_2_5 7 rfl rfl)
theorem dJ14_put_2_127 : decode cJ14_put_2 127 = .ok (.aload 8, 2) := dk_25 8 (dk_at dksJ14_put_2_5 9 rfl rfl)
theorem dJ14_put_2_129 : decode cJ14_put_2 129 = .ok (.aload 4, 2) := dk_25 4 (dk_at dksJ14_put_2_5 11 rfl rfl)
theorem dJ14_put_2_131 : decode cJ14_put_2 131 = .ok (.getfield 105, 3) := dk_180 0 105 (dk_at dksJ14_put_2_5 13 rfl rfl)
theorem dJ14_put_2_134 : decode cJ14_put_2 134 = .ok (.invokeinterface 107 2, 5) := by decide +kernel
theorem dJ14_put_2_139 : decode cJ14_put_2 139 = .ok (.istore 5, 2) := dk_54 5 (dk_at dksJ14_put_2_5 21 rfl rfl)
theorem dJ14_put_2_141 : decode cJ14_put_2 141 = .ok (.iload 5, 2) := dk_21 5 (dk_at dksJ14_put_2_6 0 rfl rfl)
theorem dJ14_put_2_143 : decode cJ14_put_2 143 = .ok (.ifCond .ge 13, 3) := dk_156 0 13 (dk_at dksJ14_put_2_6 2 rfl rfl)
theorem dJ14_put_2_146 : decode cJ14_put_2 146 = .ok (.aload 4, 2) := dk_25 4 (dk_at dksJ14_put_2_6 5 rfl rfl)
theorem dJ14_put_2_148 : decode cJ14_put_2 148 = .ok (.getfield 111, 3) := dk_180 0 111 (dk_at dksJ14_put_2_6 7 rfl rfl)
theorem dJ14_put_2_151 : decode cJ14_put_2 151 = .ok (.astore 4, 2) := dk_58 4 (dk_at dksJ14_put_2_6 10 rfl rfl)
theorem dJ14_put_2_153 : decode cJ14_put_2 153 = .ok (.goto 43, 3) := dk_167 0 43 (dk_at dksJ14_put_2_6 12 rfl rfl)
theorem dJ14_put_2_156 : decode cJ14_put_2 156 = .ok (.iload 5, 2) := dk_21 5 (dk_at dksJ14_put_2_6 15 rfl rfl)
theorem dJ14_put_2_158 : decode cJ14_put_2 158 = .ok (.ifCond .le 13, 3) := dk_158 0 13 (dk_at dksJ14_put_2_6 17 rfl rfl)
theorem dJ14_put_2_161 : decode cJ14_put_2 161 = .ok (.aload 4, 2) := dk_25 4 (dk_at dksJ14_put_2_6 20 rfl rfl)
theorem dJ14_put_2_163 : decode cJ14_put_2 163 = .ok (.getfield 114, 3) := dk_180 0 114 (dk_at dksJ14_put_2_7 0 rfl rfl)
theorem dJ14_put_2_166 : decode cJ14_put_2 166 = .ok (.astore 4, 2) := dk_58 4 (dk_at dksJ14_put_2_7 3 rfl rfl)
theorem dJ14_put_2_168 : decode cJ14_put_2 168 = .ok (.goto 28, 3) := dk_167 0 28 (dk_at dksJ14_put_2_7 5 rfl rfl)
theorem dJ14_put_2_171 : decode cJ14_put_2 171 = .ok (.aload 4, 2) := dk_25 4 (dk_at dksJ14_put_2_7 8 rfl rfl)
theorem dJ14_put_2_173 : decode cJ14_put_2 173 = .ok (.getfield 58, 3) := dk_180 0 58 (dk_at dksJ14_put_2_7 10 rfl rfl)
theorem dJ14_put_2_176 : decode cJ14_put_2 176 = .ok (.astore 9, 2) := dk_58 9 (dk_at dksJ14_put_2_7 13 rfl rfl)
theorem dJ14_put_2_178 : decode cJ14_put_2 178 = .ok (.iload_n 3, 1) := dk_29 (dk_at dksJ14_put_2_7 15 rfl rfl)
theorem dJ14_put_2_179 : decode cJ14_put_2 179 = .ok (.ifCond .ne 8, 3) := dk_154 0 8 (dk_at dksJ14_put_2_7 16 rfl rfl)
theorem dJ14_put_2_182 : decode cJ14_put_2 182 = .ok (.aload 9, 2) := dk_25 9 (dk_at dksJ14_put_2_7 19 rfl rfl)
theorem dJ14_put_2_184 : decode cJ14_put_2 184 = .ok (.ifnonnull 9, 3) := dk_199 0 9 (dk_at dksJ14_put_2_7 21 rfl rfl)
theorem dJ14_put_2_187 : decode cJ14_put_2 187 = .ok (.aload 4, 2) := dk_25 4 (dk_at dksJ14_put_2_8 0 rfl rfl)
theorem dJ14_put_2_189 : decode cJ14_put_2 189 = .ok (.aload_n 2, 1) := dk_44 (dk_at dksJ14_put_2_8 2 rfl rfl)
theorem dJ14_put_2_190 : decode cJ14_put_2 190 = .ok (.putfield 58, 3) := dk_181 0 58 (dk_at dksJ14_put_2_8 3 rfl rfl)
theorem dJ14_put_2_193 : decode cJ14_put_2 193 = .ok (.aload 9, 2) := dk_25 9 (dk_at dksJ14_put_2_8 6 rfl rfl)
theorem dJ14_put_2_195 : decode cJ14_put_2 195 = .ok (.areturn, 1) := dk_176 (dk_at dksJ14_put_2_8 8 rfl rfl)
theorem dJ14_put_2_196 : decode cJ14_put_2 196 = .ok (.aload 4, 2) := dk_25 4 (dk_at dksJ14_put_2_8 9 rfl rfl)
theorem dJ14_put_2_198 : decode cJ14_put_2 198 = .ok (.ifnonnull (-75), 3) := dk_199 255 181 (dk_at dksJ14_put_2_8 11 rfl rfl)
theorem dJ14_put_2_201 : decode cJ14_put_2 201 = .ok (.aload_n 0, 1) := dk_42 (dk_at dksJ14_put_2_8 14 rfl rfl)
theorem dJ14_put_2_202 : decode cJ14_put_2 202 = .ok (.aload_n 1, 1) := dk_43 (dk_at dksJ14_put_2_8 15 rfl rfl)
theorem dJ14_put_2_203 : decode cJ14_put_2 203 = .ok (.aload_n 2, 1) := dk_44 (dk_at dksJ14_put_2_8 16 rfl rfl)
theorem dJ14_put_2_204 : decode cJ14_put_2 204 = .ok (.aload 6, 2) := dk_25 6 (dk_at dksJ14_put_2_8 17 rfl rfl)
theorem dJ14_put_2_206 : decode cJ14_put_2 206 = .ok (.iload 5, 2) := dk_21 5 (dk_at dksJ14_put_2_8 19 rfl rfl)
theorem dJ14_put_2_208 : decode cJ14_put_2 208 = .ok (.ifCond .ge 7, 3) := dk_156 0 7 (dk_at dksJ14_put_2_8 21 rfl rfl)
theorem dJ14_put_2_211 : decode cJ14_put_2 211 = .ok (.iconst 1, 1) := dk_4 (dk_at dksJ14_put_2_9 0 rfl rfl)
theorem dJ14_put_2_212 : decode cJ14_put_2 212 = .ok (.goto 4, 3) := dk_167 0 4 (dk_at dksJ14_put_2_9 1 rfl rfl)
theorem dJ14_put_2_215 : decode cJ14_put_2 215 = .ok (.iconst 0, 1) := dk_3 (dk_at dksJ14_put_2_9 4 rfl rfl)
theorem dJ14_put_2_216 : decode cJ14_put_2 216 = .ok (.invokevirtual 139, 3) := dk_182 0 139 (dk_at dksJ14_put_2_9 5 rfl rfl)
theorem dJ14_put_2_219 : decode cJ14_put_2 219 = .ok (.aconst_null, 1) := dk_1 (dk_at dksJ14_put_2_9 8 rfl rfl)
theorem dJ14_put_2_220 : decode cJ14_put_2 220 = .ok (.areturn, 1) := dk_176 (dk_at dksJ14_put_2_9 9 rfl rfl)
abbrev cJ14_addEntryToEmptyMap : ByteArray := prog_63_method_30_code
def yJ14_addEntryToEmptyMap : MethodName := ⟨RJ14, "addEntryToEmptyMap", "(Ljava/lang/Object;Ljava/lang/Object;)V"⟩
def dkwJ14_addEntryToEmptyMap_1 : List UInt8 := [181, 0, 7, 42, 89, 180, 0, 13, 4, 96, 181, 0, 13, 177]
abbrev dktJ14_addEntryToEmptyMap_1 : List UInt8 := dkwJ14_addEntryToEmptyMap_1 ++ []
def dkwJ14_addEntryToEmptyMap_0 : List UInt8 := [42, 43, 43, 182, 0, 123, 87, 42, 187, 0, 59, 89, 43, 44, 1, 183, 0, 167, 181, 0, 101, 42, 4]
abbrev dktJ14_addEntryToEmptyMap_0 : List UInt8 := dkwJ14_addEntryToEmptyMap_0 ++ dktJ14_addEntryToEmptyMap_1
theorem dksJ14_addEntryToEmptyMap_0 : cJ14_addEntryToEmptyMap.data.toList.drop 0 = dktJ14_addEntryToEmptyMap_0 := by decide +kernel
theorem dksJ14_addEntryToEmptyMap_1 : cJ14_addEntryToEmptyMap.data.toList.drop 23 = dktJ14_addEntryToEmptyMap_1 := dk_seg dksJ14_addEntryToEmptyMap_0 23 rfl rfl
theorem dJ14_addEntryToEmptyMap_0 : decode cJ14_addEntryToEmptyMap 0 = .ok (.aload_n 0, 1) := dk_42 (dk_at dksJ14_addEntryToEmptyMap_0 0 rfl rfl)
theorem dJ14_addEntryToEmptyMap_1 : decode cJ14_addEntryToEmptyMap 1 = .ok (.aload_n 1, 1) := dk_43 (dk_at dksJ14_addEntryToEmptyMap_0 1 rfl rfl)
theorem dJ14_addEntryToEmptyMap_2 : decode cJ14_addEntryToEmptyMap 2 = .ok (.aload_n 1, 1) := dk_43 (dk_at dksJ14_addEntryToEmptyMap_0 2 rfl rfl)
theorem dJ14_addEntryToEmptyMap_3 : decode cJ14_addEntryToEmptyMap 3 = .ok (.invokevirtual 123, 3) := dk_182 0 123 (dk_at dksJ14_addEntryToEmptyMap_0 3 rfl rfl)
theorem dJ14_addEntryToEmptyMap_6 : decode cJ14_addEntryToEmptyMap 6 = .ok (.pop, 1) := dk_87 (dk_at dksJ14_addEntryToEmptyMap_0 6 rfl rfl)
theorem dJ14_addEntryToEmptyMap_7 : decode cJ14_addEntryToEmptyMap 7 = .ok (.aload_n 0, 1) := dk_42 (dk_at dksJ14_addEntryToEmptyMap_0 7 rfl rfl)
theorem dJ14_addEntryToEmptyMap_8 : decode cJ14_addEntryToEmptyMap 8 = .ok (.new 59, 3) := dk_187 0 59 (dk_at dksJ14_addEntryToEmptyMap_0 8 rfl rfl)
theorem dJ14_addEntryToEmptyMap_11 : decode cJ14_addEntryToEmptyMap 11 = .ok (.dup, 1) := dk_89 (dk_at dksJ14_addEntryToEmptyMap_0 11 rfl rfl)
theorem dJ14_addEntryToEmptyMap_12 : decode cJ14_addEntryToEmptyMap 12 = .ok (.aload_n 1, 1) := dk_43 (dk_at dksJ14_addEntryToEmptyMap_0 12 rfl rfl)
theorem dJ14_addEntryToEmptyMap_13 : decode cJ14_addEntryToEmptyMap 13 = .ok (.aload_n 2, 1) := dk_44 (dk_at dksJ14_addEntryToEmptyMap_0 13 rfl rfl)
theorem dJ14_addEntryToEmptyMap_14 : decode cJ14_addEntryToEmptyMap 14 = .ok (.aconst_null, 1) := dk_1 (dk_at dksJ14_addEntryToEmptyMap_0 14 rfl rfl)
theorem dJ14_addEntryToEmptyMap_15 : decode cJ14_addEntryToEmptyMap 15 = .ok (.invokespecial 167, 3) := dk_183 0 167 (dk_at dksJ14_addEntryToEmptyMap_0 15 rfl rfl)
theorem dJ14_addEntryToEmptyMap_18 : decode cJ14_addEntryToEmptyMap 18 = .ok (.putfield 101, 3) := dk_181 0 101 (dk_at dksJ14_addEntryToEmptyMap_0 18 rfl rfl)
theorem dJ14_addEntryToEmptyMap_21 : decode cJ14_addEntryToEmptyMap 21 = .ok (.aload_n 0, 1) := dk_42 (dk_at dksJ14_addEntryToEmptyMap_0 21 rfl rfl)
theorem dJ14_addEntryToEmptyMap_22 : decode cJ14_addEntryToEmptyMap 22 = .ok (.iconst 1, 1) := dk_4 (dk_at dksJ14_addEntryToEmptyMap_0 22 rfl rfl)
theorem dJ14_addEntryToEmptyMap_23 : decode cJ14_addEntryToEmptyMap 23 = .ok (.putfield 7, 3) := dk_181 0 7 (dk_at dksJ14_addEntryToEmptyMap_1 0 rfl rfl)
theorem dJ14_addEntryToEmptyMap_26 : decode cJ14_addEntryToEmptyMap 26 = .ok (.aload_n 0, 1) := dk_42 (dk_at dksJ14_addEntryToEmptyMap_1 3 rfl rfl)
theorem dJ14_addEntryToEmptyMap_27 : decode cJ14_addEntryToEmptyMap 27 = .ok (.dup, 1) := dk_89 (dk_at dksJ14_addEntryToEmptyMap_1 4 rfl rfl)
theorem dJ14_addEntryToEmptyMap_28 : decode cJ14_addEntryToEmptyMap 28 = .ok (.getfield 13, 3) := dk_180 0 13 (dk_at dksJ14_addEntryToEmptyMap_1 5 rfl rfl)
theorem dJ14_addEntryToEmptyMap_31 : decode cJ14_addEntryToEmptyMap 31 = .ok (.iconst 1, 1) := dk_4 (dk_at dksJ14_addEntryToEmptyMap_1 8 rfl rfl)
theorem dJ14_addEntryToEmptyMap_32 : decode cJ14_addEntryToEmptyMap 32 = .ok (.iadd, 1) := dk_96 (dk_at dksJ14_addEntryToEmptyMap_1 9 rfl rfl)
theorem dJ14_addEntryToEmptyMap_33 : decode cJ14_addEntryToEmptyMap 33 = .ok (.putfield 13, 3) := dk_181 0 13 (dk_at dksJ14_addEntryToEmptyMap_1 10 rfl rfl)
theorem dJ14_addEntryToEmptyMap_36 : decode cJ14_addEntryToEmptyMap 36 = .ok (.return_, 1) := dk_177 (dk_at dksJ14_addEntryToEmptyMap_1 13 rfl rfl)
abbrev cJ14_compare : ByteArray := prog_63_method_67_code
def yJ14_compare : MethodName := ⟨RJ14, "compare", "(Ljava/lang/Object;Ljava/lang/Object;)I"⟩
def dkwJ14_compare_1 : List UInt8 := [43, 44, 185, 0, 117, 3, 0, 172]
abbrev dktJ14_compare_1 : List UInt8 := dkwJ14_compare_1 ++ []
def dkwJ14_compare_0 : List UInt8 := [42, 180, 0, 16, 199, 0, 16, 43, 192, 0, 99, 44, 185, 0, 107, 2, 0, 167, 0, 14, 42, 180, 0, 16]
abbrev dktJ14_compare_0 : List UInt8 := dkwJ14_compare_0 ++ dktJ14_compare_1
theorem dksJ14_compare_0 : cJ14_compare.data.toList.drop 0 = dktJ14_compare_0 := by decide +kernel
theorem dksJ14_compare_1 : cJ14_compare.data.toList.drop 24 = dktJ14_compare_1 := dk_seg dksJ14_compare_0 24 rfl rfl
theorem dJ14_compare_0 : decode cJ14_compare 0 = .ok (.aload_n 0, 1) := dk_42 (dk_at dksJ14_compare_0 0 rfl rfl)
theorem dJ14_compare_1 : decode cJ14_compare 1 = .ok (.getfield 16, 3) := dk_180 0 16 (dk_at dksJ14_compare_0 1 rfl rfl)
theorem dJ14_compare_4 : decode cJ14_compare 4 = .ok (.ifnonnull 16, 3) := dk_199 0 16 (dk_at dksJ14_compare_0 4 rfl rfl)
theorem dJ14_compare_7 : decode cJ14_compare 7 = .ok (.aload_n 1, 1) := dk_43 (dk_at dksJ14_compare_0 7 rfl rfl)
theorem dJ14_compare_8 : decode cJ14_compare 8 = .ok (.checkcast 99, 3) := dk_192 0 99 (dk_at dksJ14_compare_0 8 rfl rfl)
theorem dJ14_compare_11 : decode cJ14_compare 11 = .ok (.aload_n 2, 1) := dk_44 (dk_at dksJ14_compare_0 11 rfl rfl)
theorem dJ14_compare_12 : decode cJ14_compare 12 = .ok (.invokeinterface 107 2, 5) := by decide +kernel
theorem dJ14_compare_17 : decode cJ14_compare 17 = .ok (.goto 14, 3) := dk_167 0 14 (dk_at dksJ14_compare_0 17 rfl rfl)
theorem dJ14_compare_20 : decode cJ14_compare 20 = .ok (.aload_n 0, 1) := dk_42 (dk_at dksJ14_compare_0 20 rfl rfl)
theorem dJ14_compare_21 : decode cJ14_compare 21 = .ok (.getfield 16, 3) := dk_180 0 16 (dk_at dksJ14_compare_0 21 rfl rfl)
theorem dJ14_compare_24 : decode cJ14_compare 24 = .ok (.aload_n 1, 1) := dk_43 (dk_at dksJ14_compare_1 0 rfl rfl)
theorem dJ14_compare_25 : decode cJ14_compare 25 = .ok (.aload_n 2, 1) := dk_44 (dk_at dksJ14_compare_1 1 rfl rfl)
theorem dJ14_compare_26 : decode cJ14_compare 26 = .ok (.invokeinterface 117 3, 5) := by decide +kernel
theorem dJ14_compare_31 : decode cJ14_compare 31 = .ok (.ireturn, 1) := dk_172 (dk_at dksJ14_compare_1 7 rfl rfl)
abbrev cJ14_addEntry : ByteArray := prog_63_method_29_code
def yJ14_addEntry : MethodName := ⟨RJ14, "addEntry", "(Ljava/lang/Object;Ljava/lang/Object;Ljava/util/TreeMap$Entry;Z)V"⟩
def dkwJ14_addEntry_2 : List UInt8 := [181, 0, 7, 42, 89, 180, 0, 13, 4, 96, 181, 0, 13, 177]
abbrev dktJ14_addEntry_2 : List UInt8 := dkwJ14_addEntry_2 ++ []
def dkwJ14_addEntry_1 : List UInt8 := [167, 0, 9, 45, 25, 5, 181, 0, 114, 42, 25, 5, 182, 0, 170, 42, 89, 180, 0, 7, 4, 96]
abbrev dktJ14_addEntry_1 : List UInt8 := dkwJ14_addEntry_1 ++ dktJ14_addEntry_2
def dkwJ14_addEntry_0 : List UInt8 := [187, 0, 59, 89, 43, 44, 45, 183, 0, 167, 58, 5, 21, 4, 153, 0, 12, 45, 25, 5, 181, 0, 111]
abbrev dktJ14_addEntry_0 : List UInt8 := dkwJ14_addEntry_0 ++ dktJ14_addEntry_1
theorem dksJ14_addEntry_0 : cJ14_addEntry.data.toList.drop 0 = dktJ14_addEntry_0 := by decide +kernel
theorem dksJ14_addEntry_1 : cJ14_addEntry.data.toList.drop 23 = dktJ14_addEntry_1 := dk_seg dksJ14_addEntry_0 23 rfl rfl
theorem dksJ14_addEntry_2 : cJ14_addEntry.data.toList.drop 45 = dktJ14_addEntry_2 := dk_seg dksJ14_addEntry_1 22 rfl rfl
theorem dJ14_addEntry_0 : decode cJ14_addEntry 0 = .ok (.new 59, 3) := dk_187 0 59 (dk_at dksJ14_addEntry_0 0 rfl rfl)
theorem dJ14_addEntry_3 : decode cJ14_addEntry 3 = .ok (.dup, 1) := dk_89 (dk_at dksJ14_addEntry_0 3 rfl rfl)
theorem dJ14_addEntry_4 : decode cJ14_addEntry 4 = .ok (.aload_n 1, 1) := dk_43 (dk_at dksJ14_addEntry_0 4 rfl rfl)
theorem dJ14_addEntry_5 : decode cJ14_addEntry 5 = .ok (.aload_n 2, 1) := dk_44 (dk_at dksJ14_addEntry_0 5 rfl rfl)
theorem dJ14_addEntry_6 : decode cJ14_addEntry 6 = .ok (.aload_n 3, 1) := dk_45 (dk_at dksJ14_addEntry_0 6 rfl rfl)
theorem dJ14_addEntry_7 : decode cJ14_addEntry 7 = .ok (.invokespecial 167, 3) := dk_183 0 167 (dk_at dksJ14_addEntry_0 7 rfl rfl)
theorem dJ14_addEntry_10 : decode cJ14_addEntry 10 = .ok (.astore 5, 2) := dk_58 5 (dk_at dksJ14_addEntry_0 10 rfl rfl)
theorem dJ14_addEntry_12 : decode cJ14_addEntry 12 = .ok (.iload 4, 2) := dk_21 4 (dk_at dksJ14_addEntry_0 12 rfl rfl)
theorem dJ14_addEntry_14 : decode cJ14_addEntry 14 = .ok (.ifCond .eq 12, 3) := dk_153 0 12 (dk_at dksJ14_addEntry_0 14 rfl rfl)
theorem dJ14_addEntry_17 : decode cJ14_addEntry 17 = .ok (.aload_n 3, 1) := dk_45 (dk_at dksJ14_addEntry_0 17 rfl rfl)
theorem dJ14_addEntry_18 : decode cJ14_addEntry 18 = .ok (.aload 5, 2) := dk_25 5 (dk_at dksJ14_addEntry_0 18 rfl rfl)
theorem dJ14_addEntry_20 : decode cJ14_addEntry 20 = .ok (.putfield 111, 3) := dk_181 0 111 (dk_at dksJ14_addEntry_0 20 rfl rfl)
theorem dJ14_addEntry_23 : decode cJ14_addEntry 23 = .ok (.goto 9, 3) := dk_167 0 9 (dk_at dksJ14_addEntry_1 0 rfl rfl)
theorem dJ14_addEntry_26 : decode cJ14_addEntry 26 = .ok (.aload_n 3, 1) := dk_45 (dk_at dksJ14_addEntry_1 3 rfl rfl)
theorem dJ14_addEntry_27 : decode cJ14_addEntry 27 = .ok (.aload 5, 2) := dk_25 5 (dk_at dksJ14_addEntry_1 4 rfl rfl)
theorem dJ14_addEntry_29 : decode cJ14_addEntry 29 = .ok (.putfield 114, 3) := dk_181 0 114 (dk_at dksJ14_addEntry_1 6 rfl rfl)
theorem dJ14_addEntry_32 : decode cJ14_addEntry 32 = .ok (.aload_n 0, 1) := dk_42 (dk_at dksJ14_addEntry_1 9 rfl rfl)
theorem dJ14_addEntry_33 : decode cJ14_addEntry 33 = .ok (.aload 5, 2) := dk_25 5 (dk_at dksJ14_addEntry_1 10 rfl rfl)
theorem dJ14_addEntry_35 : decode cJ14_addEntry 35 = .ok (.invokevirtual 170, 3) := dk_182 0 170 (dk_at dksJ14_addEntry_1 12 rfl rfl)
theorem dJ14_addEntry_38 : decode cJ14_addEntry 38 = .ok (.aload_n 0, 1) := dk_42 (dk_at dksJ14_addEntry_1 15 rfl rfl)
theorem dJ14_addEntry_39 : decode cJ14_addEntry 39 = .ok (.dup, 1) := dk_89 (dk_at dksJ14_addEntry_1 16 rfl rfl)
theorem dJ14_addEntry_40 : decode cJ14_addEntry 40 = .ok (.getfield 7, 3) := dk_180 0 7 (dk_at dksJ14_addEntry_1 17 rfl rfl)
theorem dJ14_addEntry_43 : decode cJ14_addEntry 43 = .ok (.iconst 1, 1) := dk_4 (dk_at dksJ14_addEntry_1 20 rfl rfl)
theorem dJ14_addEntry_44 : decode cJ14_addEntry 44 = .ok (.iadd, 1) := dk_96 (dk_at dksJ14_addEntry_1 21 rfl rfl)
theorem dJ14_addEntry_45 : decode cJ14_addEntry 45 = .ok (.putfield 7, 3) := dk_181 0 7 (dk_at dksJ14_addEntry_2 0 rfl rfl)
theorem dJ14_addEntry_48 : decode cJ14_addEntry 48 = .ok (.aload_n 0, 1) := dk_42 (dk_at dksJ14_addEntry_2 3 rfl rfl)
theorem dJ14_addEntry_49 : decode cJ14_addEntry 49 = .ok (.dup, 1) := dk_89 (dk_at dksJ14_addEntry_2 4 rfl rfl)
theorem dJ14_addEntry_50 : decode cJ14_addEntry 50 = .ok (.getfield 13, 3) := dk_180 0 13 (dk_at dksJ14_addEntry_2 5 rfl rfl)
theorem dJ14_addEntry_53 : decode cJ14_addEntry 53 = .ok (.iconst 1, 1) := dk_4 (dk_at dksJ14_addEntry_2 8 rfl rfl)
theorem dJ14_addEntry_54 : decode cJ14_addEntry 54 = .ok (.iadd, 1) := dk_96 (dk_at dksJ14_addEntry_2 9 rfl rfl)
theorem dJ14_addEntry_55 : decode cJ14_addEntry 55 = .ok (.putfield 13, 3) := dk_181 0 13 (dk_at dksJ14_addEntry_2 10 rfl rfl)
theorem dJ14_addEntry_58 : decode cJ14_addEntry 58 = .ok (.return_, 1) := dk_177 (dk_at dksJ14_addEntry_2 13 rfl rfl)
abbrev cJ14_fixAfterInsertion : ByteArray := prog_63_method_83_code
def yJ14_fixAfterInsertion : MethodName := ⟨RJ14, "fixAfterInsertion", "(Ljava/util/TreeMap$Entry;)V"⟩
def dkwJ14_fixAfterInsertion_11 : List UInt8 := [42, 180, 0, 101, 4, 181, 1, 34, 177]
abbrev dktJ14_fixAfterInsertion_11 : List UInt8 := dkwJ14_fixAfterInsertion_11 ++ []
def dkwJ14_fixAfterInsertion_10 : List UInt8 := [184, 1, 38, 184, 1, 38, 3, 184, 1, 51, 42, 43, 184, 1, 38, 184, 1, 38, 182, 1, 55, 167, 255, 6]
abbrev dktJ14_fixAfterInsertion_10 : List UInt8 := dkwJ14_fixAfterInsertion_10 ++ dktJ14_fixAfterInsertion_11
def dkwJ14_fixAfterInsertion_9 : List UInt8 := [166, 0, 13, 43, 184, 1, 38, 76, 42, 43, 182, 1, 58, 43, 184, 1, 38, 4, 184, 1, 51, 43]
abbrev dktJ14_fixAfterInsertion_9 : List UInt8 := dkwJ14_fixAfterInsertion_9 ++ dktJ14_fixAfterInsertion_10
def dkwJ14_fixAfterInsertion_8 : List UInt8 := [184, 1, 51, 43, 184, 1, 38, 184, 1, 38, 76, 167, 0, 54, 43, 43, 184, 1, 38, 184, 1, 41]
abbrev dktJ14_fixAfterInsertion_8 : List UInt8 := dkwJ14_fixAfterInsertion_8 ++ dktJ14_fixAfterInsertion_9
def dkwJ14_fixAfterInsertion_7 : List UInt8 := [154, 0, 38, 43, 184, 1, 38, 4, 184, 1, 51, 44, 4, 184, 1, 51, 43, 184, 1, 38, 184, 1, 38, 3]
abbrev dktJ14_fixAfterInsertion_7 : List UInt8 := dkwJ14_fixAfterInsertion_7 ++ dktJ14_fixAfterInsertion_8
def dkwJ14_fixAfterInsertion_6 : List UInt8 := [184, 1, 38, 182, 1, 58, 167, 255, 113, 43, 184, 1, 38, 184, 1, 38, 184, 1, 41, 77, 44, 184, 1, 47]
abbrev dktJ14_fixAfterInsertion_6 : List UInt8 := dkwJ14_fixAfterInsertion_6 ++ dktJ14_fixAfterInsertion_7
def dkwJ14_fixAfterInsertion_5 : List UInt8 := [43, 184, 1, 38, 4, 184, 1, 51, 43, 184, 1, 38, 184, 1, 38, 3, 184, 1, 51, 42, 43, 184, 1, 38]
abbrev dktJ14_fixAfterInsertion_5 : List UInt8 := dkwJ14_fixAfterInsertion_5 ++ dktJ14_fixAfterInsertion_6
def dkwJ14_fixAfterInsertion_4 : List UInt8 := [167, 0, 54, 43, 43, 184, 1, 38, 184, 1, 44, 166, 0, 13, 43, 184, 1, 38, 76, 42, 43, 182, 1, 55]
abbrev dktJ14_fixAfterInsertion_4 : List UInt8 := dkwJ14_fixAfterInsertion_4 ++ dktJ14_fixAfterInsertion_5
def dkwJ14_fixAfterInsertion_3 : List UInt8 := [184, 1, 51, 43, 184, 1, 38, 184, 1, 38, 3, 184, 1, 51, 43, 184, 1, 38, 184, 1, 38, 76]
abbrev dktJ14_fixAfterInsertion_3 : List UInt8 := dkwJ14_fixAfterInsertion_3 ++ dktJ14_fixAfterInsertion_4
def dkwJ14_fixAfterInsertion_2 : List UInt8 := [184, 1, 38, 184, 1, 44, 77, 44, 184, 1, 47, 154, 0, 38, 43, 184, 1, 38, 4, 184, 1, 51, 44, 4]
abbrev dktJ14_fixAfterInsertion_2 : List UInt8 := dkwJ14_fixAfterInsertion_2 ++ dktJ14_fixAfterInsertion_3
def dkwJ14_fixAfterInsertion_1 : List UInt8 := [154, 0, 234, 43, 184, 1, 38, 43, 184, 1, 38, 184, 1, 38, 184, 1, 41, 166, 0, 110, 43, 184, 1, 38]
abbrev dktJ14_fixAfterInsertion_1 : List UInt8 := dkwJ14_fixAfterInsertion_1 ++ dktJ14_fixAfterInsertion_2
def dkwJ14_fixAfterInsertion_0 : List UInt8 := [43, 3, 181, 1, 34, 43, 198, 0, 252, 43, 42, 180, 0, 101, 165, 0, 244, 43, 180, 0, 124, 180, 1, 34]
abbrev dktJ14_fixAfterInsertion_0 : List UInt8 := dkwJ14_fixAfterInsertion_0 ++ dktJ14_fixAfterInsertion_1
theorem dksJ14_fixAfterInsertion_0 : cJ14_fixAfterInsertion.data.toList.drop 0 = dktJ14_fixAfterInsertion_0 := by decide +kernel
theorem dksJ14_fixAfterInsertion_1 : cJ14_fixAfterInsertion.data.toList.drop 24 = dktJ14_fixAfterInsertion_1 := dk_seg dksJ14_fixAfterInsertion_0 24 rfl rfl
theorem dksJ14_fixAfterInsertion_2 : cJ14_fixAfterInsertion.data.toList.drop 48 = dktJ14_fixAfterInsertion_2 := dk_seg dksJ14_fixAfterInsertion_1 24 rfl rfl
theorem dksJ14_fixAfterInsertion_3 : cJ14_fixAfterInsertion.data.toList.drop 72 = dktJ14_fixAfterInsertion_3 := dk_seg dksJ14_fixAfterInsertion_2 24 rfl rfl
theorem dksJ14_fixAfterInsertion_4 : cJ14_fixAfterInsertion.data.toList.drop 94 = dktJ14_fixAfterInsertion_4 := dk_seg dksJ14_fixAfterInsertion_3 22 rfl rfl
theorem dksJ14_fixAfterInsertion_5 : cJ14_fixAfterInsertion.data.toList.drop 118 = dktJ14_fixAfterInsertion_5 := dk_seg dksJ14_fixAfterInsertion_4 24 rfl rfl
theorem dksJ14_fixAfterInsertion_6 : cJ14_fixAfterInsertion.data.toList.drop 142 = dktJ14_fixAfterInsertion_6 := dk_seg dksJ14_fixAfterInsertion_5 24 rfl rfl
theorem dksJ14_fixAfterInsertion_7 : cJ14_fixAfterInsertion.data.toList.drop 166 = dktJ14_fixAfterInsertion_7 := dk_seg dksJ14_fixAfterInsertion_6 24 rfl rfl
theorem dksJ14_fixAfterInsertion_8 : cJ14_fixAfterInsertion.data.toList.drop 190 = dktJ14_fixAfterInsertion_8 := dk_seg dksJ14_fixAfterInsertion_7 24 rfl rfl
theorem dksJ14_fixAfterInsertion_9 : cJ14_fixAfterInsertion.data.toList.drop 212 = dktJ14_fixAfterInsertion_9 := dk_seg dksJ14_fixAfterInsertion_8 22 rfl rfl
theorem dksJ14_fixAfterInsertion_10 : cJ14_fixAfterInsertion.data.toList.drop 234 = dktJ14_fixAfterInsertion_10 := dk_seg dksJ14_fixAfterInsertion_9 22 rfl rfl
theorem dksJ14_fixAfterInsertion_11 : cJ14_fixAfterInsertion.data.toList.drop 258 = dktJ14_fixAfterInsertion_11 := dk_seg dksJ14_fixAfterInsertion_10 24 rfl rfl
theorem dJ14_fixAfterInsertion_0 : decode cJ14_fixAfterInsertion 0 = .ok (.aload_n 1, 1) := dk_43 (dk_at dksJ14_fixAfterInsertion_0 0 rfl rfl)
theorem dJ14_fixAfterInsertion_1 : decode cJ14_fixAfterInsertion 1 = .ok (.iconst 0, 1) := dk_3 (dk_at dksJ14_fixAfterInsertion_0 1 rfl rfl)
theorem dJ14_fixAfterInsertion_2 : decode cJ14_fixAfterInsertion 2 = .ok (.putfield 290, 3) := dk_181 1 34 (dk_at dksJ14_fixAfterInsertion_0 2 rfl rfl)
theorem dJ14_fixAfterInsertion_5 : decode cJ14_fixAfterInsertion 5 = .ok (.aload_n 1, 1) := dk_43 (dk_at dksJ14_fixAfterInsertion_0 5 rfl rfl)
theorem dJ14_fixAfterInsertion_6 : decode cJ14_fixAfterInsertion 6 = .ok (.ifnull 252, 3) := dk_198 0 252 (dk_at dksJ14_fixAfterInsertion_0 6 rfl rfl)
theorem dJ14_fixAfterInsertion_9 : decode cJ14_fixAfterInsertion 9 = .ok (.aload_n 1, 1) := dk_43 (dk_at dksJ14_fixAfterInsertion_0 9 rfl rfl)
theorem dJ14_fixAfterInsertion_10 : decode cJ14_fixAfterInsertion 10 = .ok (.aload_n 0, 1) := dk_42 (dk_at dksJ14_fixAfterInsertion_0 10 rfl rfl)
theorem dJ14_fixAfterInsertion_11 : decode cJ14_fixAfterInsertion 11 = .ok (.getfield 101, 3) := dk_180 0 101 (dk_at dksJ14_fixAfterInsertion_0 11 rfl rfl)
theorem dJ14_fixAfterInsertion_14 : decode cJ14_fixAfterInsertion 14 = .ok (.if_acmp .eq 244, 3) := dk_165 0 244 (dk_at dksJ14_fixAfterInsertion_0 14 rfl rfl)
theorem dJ14_fixAfterInsertion_17 : decode cJ14_fixAfterInsertion 17 = .ok (.aload_n 1, 1) := dk_43 (dk_at dksJ14_fixAfterInsertion_0 17 rfl rfl)
theorem dJ14_fixAfterInsertion_18 : decode cJ14_fixAfterInsertion 18 = .ok (.getfield 124, 3) := dk_180 0 124 (dk_at dksJ14_fixAfterInsertion_0 18 rfl rfl)
theorem dJ14_fixAfterInsertion_21 : decode cJ14_fixAfterInsertion 21 = .ok (.getfield 290, 3) := dk_180 1 34 (dk_at dksJ14_fixAfterInsertion_0 21 rfl rfl)
theorem dJ14_fixAfterInsertion_24 : decode cJ14_fixAfterInsertion 24 = .ok (.ifCond .ne 234, 3) := dk_154 0 234 (dk_at dksJ14_fixAfterInsertion_1 0 rfl rfl)
theorem dJ14_fixAfterInsertion_27 : decode cJ14_fixAfterInsertion 27 = .ok (.aload_n 1, 1) := dk_43 (dk_at dksJ14_fixAfterInsertion_1 3 rfl rfl)
theorem dJ14_fixAfterInsertion_28 : decode cJ14_fixAfterInsertion 28 = .ok (.invokestatic 294, 3) := dk_184 1 38 (dk_at dksJ14_fixAfterInsertion_1 4 rfl rfl)
theorem dJ14_fixAfterInsertion_31 : decode cJ14_fixAfterInsertion 31 = .ok (.aload_n 1, 1) := dk_43 (dk_at dksJ14_fixAfterInsertion_1 7 rfl rfl)
theorem dJ14_fixAfterInsertion_32 : decode cJ14_fixAfterInsertion 32 = .ok (.invokestatic 294, 3) := dk_184 1 38 (dk_at dksJ14_fixAfterInsertion_1 8 rfl rfl)
theorem dJ14_fixAfterInsertion_35 : decode cJ14_fixAfterInsertion 35 = .ok (.invokestatic 294, 3) := dk_184 1 38 (dk_at dksJ14_fixAfterInsertion_1 11 rfl rfl)
theorem dJ14_fixAfterInsertion_38 : decode cJ14_fixAfterInsertion 38 = .ok (.invokestatic 297, 3) := dk_184 1 41 (dk_at dksJ14_fixAfterInsertion_1 14 rfl rfl)
theorem dJ14_fixAfterInsertion_41 : decode cJ14_fixAfterInsertion 41 = .ok (.if_acmp .ne 110, 3) := dk_166 0 110 (dk_at dksJ14_fixAfterInsertion_1 17 rfl rfl)
theorem dJ14_fixAfterInsertion_44 : decode cJ14_fixAfterInsertion 44 = .ok (.aload_n 1, 1) := dk_43 (dk_at dksJ14_fixAfterInsertion_1 20 rfl rfl)
theorem dJ14_fixAfterInsertion_45 : decode cJ14_fixAfterInsertion 45 = .ok (.invokestatic 294, 3) := dk_184 1 38 (dk_at dksJ14_fixAfterInsertion_1 21 rfl rfl)
theorem dJ14_fixAfterInsertion_48 : decode cJ14_fixAfterInsertion 48 = .ok (.invokestatic 294, 3) := dk_184 1 38 (dk_at dksJ14_fixAfterInsertion_2 0 rfl rfl)
theorem dJ14_fixAfterInsertion_51 : decode cJ14_fixAfterInsertion 51 = .ok (.invokestatic 300, 3) := dk_184 1 44 (dk_at dksJ14_fixAfterInsertion_2 3 rfl rfl)
theorem dJ14_fixAfterInsertion_54 : decode cJ14_fixAfterInsertion 54 = .ok (.astore_n 2, 1) := dk_77 (dk_at dksJ14_fixAfterInsertion_2 6 rfl rfl)
theorem dJ14_fixAfterInsertion_55 : decode cJ14_fixAfterInsertion 55 = .ok (.aload_n 2, 1) := dk_44 (dk_at dksJ14_fixAfterInsertion_2 7 rfl rfl)
theorem dJ14_fixAfterInsertion_56 : decode cJ14_fixAfterInsertion 56 = .ok (.invokestatic 303, 3) := dk_184 1 47 (dk_at dksJ14_fixAfterInsertion_2 8 rfl rfl)
theorem dJ14_fixAfterInsertion_59 : decode cJ14_fixAfterInsertion 59 = .ok (.ifCond .ne 38, 3) := dk_154 0 38 (dk_at dksJ14_fixAfterInsertion_2 11 rfl rfl)
theorem dJ14_fixAfterInsertion_62 : decode cJ14_fixAfterInsertion 62 = .ok (.aload_n 1, 1) := dk_43 (dk_at dksJ14_fixAfterInsertion_2 14 rfl rfl)
theorem dJ14_fixAfterInsertion_63 : decode cJ14_fixAfterInsertion 63 = .ok (.invokestatic 294, 3) := dk_184 1 38 (dk_at dksJ14_fixAfterInsertion_2 15 rfl rfl)
theorem dJ14_fixAfterInsertion_66 : decode cJ14_fixAfterInsertion 66 = .ok (.iconst 1, 1) := dk_4 (dk_at dksJ14_fixAfterInsertion_2 18 rfl rfl)
theorem dJ14_fixAfterInsertion_67 : decode cJ14_fixAfterInsertion 67 = .ok (.invokestatic 307, 3) := dk_184 1 51 (dk_at dksJ14_fixAfterInsertion_2 19 rfl rfl)
theorem dJ14_fixAfterInsertion_70 : decode cJ14_fixAfterInsertion 70 = .ok (.aload_n 2, 1) := dk_44 (dk_at dksJ14_fixAfterInsertion_2 22 rfl rfl)
theorem dJ14_fixAfterInsertion_71 : decode cJ14_fixAfterInsertion 71 = .ok (.iconst 1, 1) := dk_4 (dk_at dksJ14_fixAfterInsertion_2 23 rfl rfl)
theorem dJ14_fixAfterInsertion_72 : decode cJ14_fixAfterInsertion 72 = .ok (.invokestatic 307, 3) := dk_184 1 51 (dk_at dksJ14_fixAfterInsertion_3 0 rfl rfl)
theorem dJ14_fixAfterInsertion_75 : decode cJ14_fixAfterInsertion 75 = .ok (.aload_n 1, 1) := dk_43 (dk_at dksJ14_fixAfterInsertion_3 3 rfl rfl)
theorem dJ14_fixAfterInsertion_76 : decode cJ14_fixAfterInsertion 76 = .ok (.invokestatic 294, 3) := dk_184 1 38 (dk_at dksJ14_fixAfterInsertion_3 4 rfl rfl)
theorem dJ14_fixAfterInsertion_79 : decode cJ14_fixAfterInsertion 79 = .ok (.invokestatic 294, 3) := dk_184 1 38 (dk_at dksJ14_fixAfterInsertion_3 7 rfl rfl)
theorem dJ14_fixAfterInsertion_82 : decode cJ14_fixAfterInsertion 82 = .ok (.iconst 0, 1) := dk_3 (dk_at dksJ14_fixAfterInsertion_3 10 rfl rfl)
theorem dJ14_fixAfterInsertion_83 : decode cJ14_fixAfterInsertion 83 = .ok (.invokestatic 307, 3) := dk_184 1 51 (dk_at dksJ14_fixAfterInsertion_3 11 rfl rfl)
theorem dJ14_fixAfterInsertion_86 : decode cJ14_fixAfterInsertion 86 = .ok (.aload_n 1, 1) := dk_43 (dk_at dksJ14_fixAfterInsertion_3 14 rfl rfl)
theorem dJ14_fixAfterInsertion_87 : decode cJ14_fixAfterInsertion 87 = .ok (.invokestatic 294, 3) := dk_184 1 38 (dk_at dksJ14_fixAfterInsertion_3 15 rfl rfl)
theorem dJ14_fixAfterInsertion_90 : decode cJ14_fixAfterInsertion 90 = .ok (.invokestatic 294, 3) := dk_184 1 38 (dk_at dksJ14_fixAfterInsertion_3 18 rfl rfl)
theorem dJ14_fixAfterInsertion_93 : decode cJ14_fixAfterInsertion 93 = .ok (.astore_n 1, 1) := dk_76 (dk_at dksJ14_fixAfterInsertion_3 21 rfl rfl)
theorem dJ14_fixAfterInsertion_94 : decode cJ14_fixAfterInsertion 94 = .ok (.goto 54, 3) := dk_167 0 54 (dk_at dksJ14_fixAfterInsertion_4 0 rfl rfl)
theorem dJ14_fixAfterInsertion_97 : decode cJ14_fixAfterInsertion 97 = .ok (.aload_n 1, 1) := dk_43 (dk_at dksJ14_fixAfterInsertion_4 3 rfl rfl)
theorem dJ14_fixAfterInsertion_98 : decode cJ14_fixAfterInsertion 98 = .ok (.aload_n 1, 1) := dk_43 (dk_at dksJ14_fixAfterInsertion_4 4 rfl rfl)
theorem dJ14_fixAfterInsertion_99 : decode cJ14_fixAfterInsertion 99 = .ok (.invokestatic 294, 3) := dk_184 1 38 (dk_at dksJ14_fixAfterInsertion_4 5 rfl rfl)
theorem dJ14_fixAfterInsertion_102 : decode cJ14_fixAfterInsertion 102 = .ok (.invokestatic 300, 3) := dk_184 1 44 (dk_at dksJ14_fixAfterInsertion_4 8 rfl rfl)
theorem dJ14_fixAfterInsertion_105 : decode cJ14_fixAfterInsertion 105 = .ok (.if_acmp .ne 13, 3) := dk_166 0 13 (dk_at dksJ14_fixAfterInsertion_4 11 rfl rfl)
theorem dJ14_fixAfterInsertion_108 : decode cJ14_fixAfterInsertion 108 = .ok (.aload_n 1, 1) := dk_43 (dk_at dksJ14_fixAfterInsertion_4 14 rfl rfl)
theorem dJ14_fixAfterInsertion_109 : decode cJ14_fixAfterInsertion 109 = .ok (.invokestatic 294, 3) := dk_184 1 38 (dk_at dksJ14_fixAfterInsertion_4 15 rfl rfl)
theorem dJ14_fixAfterInsertion_112 : decode cJ14_fixAfterInsertion 112 = .ok (.astore_n 1, 1) := dk_76 (dk_at dksJ14_fixAfterInsertion_4 18 rfl rfl)
theorem dJ14_fixAfterInsertion_113 : decode cJ14_fixAfterInsertion 113 = .ok (.aload_n 0, 1) := dk_42 (dk_at dksJ14_fixAfterInsertion_4 19 rfl rfl)
theorem dJ14_fixAfterInsertion_114 : decode cJ14_fixAfterInsertion 114 = .ok (.aload_n 1, 1) := dk_43 (dk_at dksJ14_fixAfterInsertion_4 20 rfl rfl)
theorem dJ14_fixAfterInsertion_115 : decode cJ14_fixAfterInsertion 115 = .ok (.invokevirtual 311, 3) := dk_182 1 55 (dk_at dksJ14_fixAfterInsertion_4 21 rfl rfl)
theorem dJ14_fixAfterInsertion_118 : decode cJ14_fixAfterInsertion 118 = .ok (.aload_n 1, 1) := dk_43 (dk_at dksJ14_fixAfterInsertion_5 0 rfl rfl)
theorem dJ14_fixAfterInsertion_119 : decode cJ14_fixAfterInsertion 119 = .ok (.invokestatic 294, 3) := dk_184 1 38 (dk_at dksJ14_fixAfterInsertion_5 1 rfl rfl)
theorem dJ14_fixAfterInsertion_122 : decode cJ14_fixAfterInsertion 122 = .ok (.iconst 1, 1) := dk_4 (dk_at dksJ14_fixAfterInsertion_5 4 rfl rfl)
theorem dJ14_fixAfterInsertion_123 : decode cJ14_fixAfterInsertion 123 = .ok (.invokestatic 307, 3) := dk_184 1 51 (dk_at dksJ14_fixAfterInsertion_5 5 rfl rfl)
theorem dJ14_fixAfterInsertion_126 : decode cJ14_fixAfterInsertion 126 = .ok (.aload_n 1, 1) := dk_43 (dk_at dksJ14_fixAfterInsertion_5 8 rfl rfl)
theorem dJ14_fixAfterInsertion_127 : decode cJ14_fixAfterInsertion 127 = .ok (.invokestatic 294, 3) := dk_184 1 38 (dk_at dksJ14_fixAfterInsertion_5 9 rfl rfl)
theorem dJ14_fixAfterInsertion_130 : decode cJ14_fixAfterInsertion 130 = .ok (.invokestatic 294, 3) := dk_184 1 38 (dk_at dksJ14_fixAfterInsertion_5 12 rfl rfl)
theorem dJ14_fixAfterInsertion_133 : decode cJ14_fixAfterInsertion 133 = .ok (.iconst 0, 1) := dk_3 (dk_at dksJ14_fixAfterInsertion_5 15 rfl rfl)
theorem dJ14_fixAfterInsertion_134 : decode cJ14_fixAfterInsertion 134 = .ok (.invokestatic 307, 3) := dk_184 1 51 (dk_at dksJ14_fixAfterInsertion_5 16 rfl rfl)
theorem dJ14_fixAfterInsertion_137 : decode cJ14_fixAfterInsertion 137 = .ok (.aload_n 0, 1) := dk_42 (dk_at dksJ14_fixAfterInsertion_5 19 rfl rfl)
theorem dJ14_fixAfterInsertion_138 : decode cJ14_fixAfterInsertion 138 = .ok (.aload_n 1, 1) := dk_43 (dk_at dksJ14_fixAfterInsertion_5 20 rfl rfl)
theorem dJ14_fixAfterInsertion_139 : decode cJ14_fixAfterInsertion 139 = .ok (.invokestatic 294, 3) := dk_184 1 38 (dk_at dksJ14_fixAfterInsertion_5 21 rfl rfl)
theorem dJ14_fixAfterInsertion_142 : decode cJ14_fixAfterInsertion 142 = .ok (.invokestatic 294, 3) := dk_184 1 38 (dk_at dksJ14_fixAfterInsertion_6 0 rfl rfl)
theorem dJ14_fixAfterInsertion_145 : decode cJ14_fixAfterInsertion 145 = .ok (.invokevirtual 314, 3) := dk_182 1 58 (dk_at dksJ14_fixAfterInsertion_6 3 rfl rfl)
theorem dJ14_fixAfterInsertion_148 : decode cJ14_fixAfterInsertion 148 = .ok (.goto (-143), 3) := dk_167 255 113 (dk_at dksJ14_fixAfterInsertion_6 6 rfl rfl)
theorem dJ14_fixAfterInsertion_151 : decode cJ14_fixAfterInsertion 151 = .ok (.aload_n 1, 1) := dk_43 (dk_at dksJ14_fixAfterInsertion_6 9 rfl rfl)
theorem dJ14_fixAfterInsertion_152 : decode cJ14_fixAfterInsertion 152 = .ok (.invokestatic 294, 3) := dk_184 1 38 (dk_at dksJ14_fixAfterInsertion_6 10 rfl rfl)
theorem dJ14_fixAfterInsertion_155 : decode cJ14_fixAfterInsertion 155 = .ok (.invokestatic 294, 3) := dk_184 1 38 (dk_at dksJ14_fixAfterInsertion_6 13 rfl rfl)
theorem dJ14_fixAfterInsertion_158 : decode cJ14_fixAfterInsertion 158 = .ok (.invokestatic 297, 3) := dk_184 1 41 (dk_at dksJ14_fixAfterInsertion_6 16 rfl rfl)
theorem dJ14_fixAfterInsertion_161 : decode cJ14_fixAfterInsertion 161 = .ok (.astore_n 2, 1) := dk_77 (dk_at dksJ14_fixAfterInsertion_6 19 rfl rfl)
theorem dJ14_fixAfterInsertion_162 : decode cJ14_fixAfterInsertion 162 = .ok (.aload_n 2, 1) := dk_44 (dk_at dksJ14_fixAfterInsertion_6 20 rfl rfl)
theorem dJ14_fixAfterInsertion_163 : decode cJ14_fixAfterInsertion 163 = .ok (.invokestatic 303, 3) := dk_184 1 47 (dk_at dksJ14_fixAfterInsertion_6 21 rfl rfl)
theorem dJ14_fixAfterInsertion_166 : decode cJ14_fixAfterInsertion 166 = .ok (.ifCond .ne 38, 3) := dk_154 0 38 (dk_at dksJ14_fixAfterInsertion_7 0 rfl rfl)
theorem dJ14_fixAfterInsertion_169 : decode cJ14_fixAfterInsertion 169 = .ok (.aload_n 1, 1) := dk_43 (dk_at dksJ14_fixAfterInsertion_7 3 rfl rfl)
theorem dJ14_fixAfterInsertion_170 : decode cJ14_fixAfterInsertion 170 = .ok (.invokestatic 294, 3) := dk_184 1 38 (dk_at dksJ14_fixAfterInsertion_7 4 rfl rfl)
theorem dJ14_fixAfterInsertion_173 : decode cJ14_fixAfterInsertion 173 = .ok (.iconst 1, 1) := dk_4 (dk_at dksJ14_fixAfterInsertion_7 7 rfl rfl)
theorem dJ14_fixAfterInsertion_174 : decode cJ14_fixAfterInsertion 174 = .ok (.invokestatic 307, 3) := dk_184 1 51 (dk_at dksJ14_fixAfterInsertion_7 8 rfl rfl)
theorem dJ14_fixAfterInsertion_177 : decode cJ14_fixAfterInsertion 177 = .ok (.aload_n 2, 1) := dk_44 (dk_at dksJ14_fixAfterInsertion_7 11 rfl rfl)
theorem dJ14_fixAfterInsertion_178 : decode cJ14_fixAfterInsertion 178 = .ok (.iconst 1, 1) := dk_4 (dk_at dksJ14_fixAfterInsertion_7 12 rfl rfl)
theorem dJ14_fixAfterInsertion_179 : decode cJ14_fixAfterInsertion 179 = .ok (.invokestatic 307, 3) := dk_184 1 51 (dk_at dksJ14_fixAfterInsertion_7 13 rfl rfl)
theorem dJ14_fixAfterInsertion_182 : decode cJ14_fixAfterInsertion 182 = .ok (.aload_n 1, 1) := dk_43 (dk_at dksJ14_fixAfterInsertion_7 16 rfl rfl)
theorem dJ14_fixAfterInsertion_183 : decode cJ14_fixAfterInsertion 183 = .ok (.invokestatic 294, 3) := dk_184 1 38 (dk_at dksJ14_fixAfterInsertion_7 17 rfl rfl)
theorem dJ14_fixAfterInsertion_186 : decode cJ14_fixAfterInsertion 186 = .ok (.invokestatic 294, 3) := dk_184 1 38 (dk_at dksJ14_fixAfterInsertion_7 20 rfl rfl)
theorem dJ14_fixAfterInsertion_189 : decode cJ14_fixAfterInsertion 189 = .ok (.iconst 0, 1) := dk_3 (dk_at dksJ14_fixAfterInsertion_7 23 rfl rfl)
theorem dJ14_fixAfterInsertion_190 : decode cJ14_fixAfterInsertion 190 = .ok (.invokestatic 307, 3) := dk_184 1 51 (dk_at dksJ14_fixAfterInsertion_8 0 rfl rfl)
theorem dJ14_fixAfterInsertion_193 : decode cJ14_fixAfterInsertion 193 = .ok (.aload_n 1, 1) := dk_43 (dk_at dksJ14_fixAfterInsertion_8 3 rfl rfl)
theorem dJ14_fixAfterInsertion_194 : decode cJ14_fixAfterInsertion 194 = .ok (.invokestatic 294, 3) := dk_184 1 38 (dk_at dksJ14_fixAfterInsertion_8 4 rfl rfl)
theorem dJ14_fixAfterInsertion_197 : decode cJ14_fixAfterInsertion 197 = .ok (.invokestatic 294, 3) := dk_184 1 38 (dk_at dksJ14_fixAfterInsertion_8 7 rfl rfl)
theorem dJ14_fixAfterInsertion_200 : decode cJ14_fixAfterInsertion 200 = .ok (.astore_n 1, 1) := dk_76 (dk_at dksJ14_fixAfterInsertion_8 10 rfl rfl)
theorem dJ14_fixAfterInsertion_201 : decode cJ14_fixAfterInsertion 201 = .ok (.goto 54, 3) := dk_167 0 54 (dk_at dksJ14_fixAfterInsertion_8 11 rfl rfl)
theorem dJ14_fixAfterInsertion_204 : decode cJ14_fixAfterInsertion 204 = .ok (.aload_n 1, 1) := dk_43 (dk_at dksJ14_fixAfterInsertion_8 14 rfl rfl)
theorem dJ14_fixAfterInsertion_205 : decode cJ14_fixAfterInsertion 205 = .ok (.aload_n 1, 1) := dk_43 (dk_at dksJ14_fixAfterInsertion_8 15 rfl rfl)
theorem dJ14_fixAfterInsertion_206 : decode cJ14_fixAfterInsertion 206 = .ok (.invokestatic 294, 3) := dk_184 1 38 (dk_at dksJ14_fixAfterInsertion_8 16 rfl rfl)
theorem dJ14_fixAfterInsertion_209 : decode cJ14_fixAfterInsertion 209 = .ok (.invokestatic 297, 3) := dk_184 1 41 (dk_at dksJ14_fixAfterInsertion_8 19 rfl rfl)
theorem dJ14_fixAfterInsertion_212 : decode cJ14_fixAfterInsertion 212 = .ok (.if_acmp .ne 13, 3) := dk_166 0 13 (dk_at dksJ14_fixAfterInsertion_9 0 rfl rfl)
theorem dJ14_fixAfterInsertion_215 : decode cJ14_fixAfterInsertion 215 = .ok (.aload_n 1, 1) := dk_43 (dk_at dksJ14_fixAfterInsertion_9 3 rfl rfl)
theorem dJ14_fixAfterInsertion_216 : decode cJ14_fixAfterInsertion 216 = .ok (.invokestatic 294, 3) := dk_184 1 38 (dk_at dksJ14_fixAfterInsertion_9 4 rfl rfl)
theorem dJ14_fixAfterInsertion_219 : decode cJ14_fixAfterInsertion 219 = .ok (.astore_n 1, 1) := dk_76 (dk_at dksJ14_fixAfterInsertion_9 7 rfl rfl)
theorem dJ14_fixAfterInsertion_220 : decode cJ14_fixAfterInsertion 220 = .ok (.aload_n 0, 1) := dk_42 (dk_at dksJ14_fixAfterInsertion_9 8 rfl rfl)
theorem dJ14_fixAfterInsertion_221 : decode cJ14_fixAfterInsertion 221 = .ok (.aload_n 1, 1) := dk_43 (dk_at dksJ14_fixAfterInsertion_9 9 rfl rfl)
theorem dJ14_fixAfterInsertion_222 : decode cJ14_fixAfterInsertion 222 = .ok (.invokevirtual 314, 3) := dk_182 1 58 (dk_at dksJ14_fixAfterInsertion_9 10 rfl rfl)
theorem dJ14_fixAfterInsertion_225 : decode cJ14_fixAfterInsertion 225 = .ok (.aload_n 1, 1) := dk_43 (dk_at dksJ14_fixAfterInsertion_9 13 rfl rfl)
theorem dJ14_fixAfterInsertion_226 : decode cJ14_fixAfterInsertion 226 = .ok (.invokestatic 294, 3) := dk_184 1 38 (dk_at dksJ14_fixAfterInsertion_9 14 rfl rfl)
theorem dJ14_fixAfterInsertion_229 : decode cJ14_fixAfterInsertion 229 = .ok (.iconst 1, 1) := dk_4 (dk_at dksJ14_fixAfterInsertion_9 17 rfl rfl)
theorem dJ14_fixAfterInsertion_230 : decode cJ14_fixAfterInsertion 230 = .ok (.invokestatic 307, 3) := dk_184 1 51 (dk_at dksJ14_fixAfterInsertion_9 18 rfl rfl)
theorem dJ14_fixAfterInsertion_233 : decode cJ14_fixAfterInsertion 233 = .ok (.aload_n 1, 1) := dk_43 (dk_at dksJ14_fixAfterInsertion_9 21 rfl rfl)
theorem dJ14_fixAfterInsertion_234 : decode cJ14_fixAfterInsertion 234 = .ok (.invokestatic 294, 3) := dk_184 1 38 (dk_at dksJ14_fixAfterInsertion_10 0 rfl rfl)
theorem dJ14_fixAfterInsertion_237 : decode cJ14_fixAfterInsertion 237 = .ok (.invokestatic 294, 3) := dk_184 1 38 (dk_at dksJ14_fixAfterInsertion_10 3 rfl rfl)
theorem dJ14_fixAfterInsertion_240 : decode cJ14_fixAfterInsertion 240 = .ok (.iconst 0, 1) := dk_3 (dk_at dksJ14_fixAfterInsertion_10 6 rfl rfl)
theorem dJ14_fixAfterInsertion_241 : decode cJ14_fixAfterInsertion 241 = .ok (.invokestatic 307, 3) := dk_184 1 51 (dk_at dksJ14_fixAfterInsertion_10 7 rfl rfl)
theorem dJ14_fixAfterInsertion_244 : decode cJ14_fixAfterInsertion 244 = .ok (.aload_n 0, 1) := dk_42 (dk_at dksJ14_fixAfterInsertion_10 10 rfl rfl)
theorem dJ14_fixAfterInsertion_245 : decode cJ14_fixAfterInsertion 245 = .ok (.aload_n 1, 1) := dk_43 (dk_at dksJ14_fixAfterInsertion_10 11 rfl rfl)
theorem dJ14_fixAfterInsertion_246 : decode cJ14_fixAfterInsertion 246 = .ok (.invokestatic 294, 3) := dk_184 1 38 (dk_at dksJ14_fixAfterInsertion_10 12 rfl rfl)
theorem dJ14_fixAfterInsertion_249 : decode cJ14_fixAfterInsertion 249 = .ok (.invokestatic 294, 3) := dk_184 1 38 (dk_at dksJ14_fixAfterInsertion_10 15 rfl rfl)
theorem dJ14_fixAfterInsertion_252 : decode cJ14_fixAfterInsertion 252 = .ok (.invokevirtual 311, 3) := dk_182 1 55 (dk_at dksJ14_fixAfterInsertion_10 18 rfl rfl)
theorem dJ14_fixAfterInsertion_255 : decode cJ14_fixAfterInsertion 255 = .ok (.goto (-250), 3) := dk_167 255 6 (dk_at dksJ14_fixAfterInsertion_10 21 rfl rfl)
theorem dJ14_fixAfterInsertion_258 : decode cJ14_fixAfterInsertion 258 = .ok (.aload_n 0, 1) := dk_42 (dk_at dksJ14_fixAfterInsertion_11 0 rfl rfl)
theorem dJ14_fixAfterInsertion_259 : decode cJ14_fixAfterInsertion 259 = .ok (.getfield 101, 3) := dk_180 0 101 (dk_at dksJ14_fixAfterInsertion_11 1 rfl rfl)
theorem dJ14_fixAfterInsertion_262 : decode cJ14_fixAfterInsertion 262 = .ok (.iconst 1, 1) := dk_4 (dk_at dksJ14_fixAfterInsertion_11 4 rfl rfl)
theorem dJ14_fixAfterInsertion_263 : decode cJ14_fixAfterInsertion 263 = .ok (.putfield 290, 3) := dk_181 1 34 (dk_at dksJ14_fixAfterInsertion_11 5 rfl rfl)
theorem dJ14_fixAfterInsertion_266 : decode cJ14_fixAfterInsertion 266 = .ok (.return_, 1) := dk_177 (dk_at dksJ14_fixAfterInsertion_11 8 rfl rfl)
abbrev cJ14_parentOf : ByteArray := prog_63_method_77_code
def yJ14_parentOf : MethodName := ⟨RJ14, "parentOf", "(Ljava/util/TreeMap$Entry;)Ljava/util/TreeMap$Entry;"⟩
def dkwJ14_parentOf_0 : List UInt8 := [42, 199, 0, 7, 1, 167, 0, 7, 42, 180, 0, 124, 176]
abbrev dktJ14_parentOf_0 : List UInt8 := dkwJ14_parentOf_0 ++ []
theorem dksJ14_parentOf_0 : cJ14_parentOf.data.toList.drop 0 = dktJ14_parentOf_0 := by decide +kernel
theorem dJ14_parentOf_0 : decode cJ14_parentOf 0 = .ok (.aload_n 0, 1) := dk_42 (dk_at dksJ14_parentOf_0 0 rfl rfl)
theorem dJ14_parentOf_1 : decode cJ14_parentOf 1 = .ok (.ifnonnull 7, 3) := dk_199 0 7 (dk_at dksJ14_parentOf_0 1 rfl rfl)
theorem dJ14_parentOf_4 : decode cJ14_parentOf 4 = .ok (.aconst_null, 1) := dk_1 (dk_at dksJ14_parentOf_0 4 rfl rfl)
theorem dJ14_parentOf_5 : decode cJ14_parentOf 5 = .ok (.goto 7, 3) := dk_167 0 7 (dk_at dksJ14_parentOf_0 5 rfl rfl)
theorem dJ14_parentOf_8 : decode cJ14_parentOf 8 = .ok (.aload_n 0, 1) := dk_42 (dk_at dksJ14_parentOf_0 8 rfl rfl)
theorem dJ14_parentOf_9 : decode cJ14_parentOf 9 = .ok (.getfield 124, 3) := dk_180 0 124 (dk_at dksJ14_parentOf_0 9 rfl rfl)
theorem dJ14_parentOf_12 : decode cJ14_parentOf 12 = .ok (.areturn, 1) := dk_176 (dk_at dksJ14_parentOf_0 12 rfl rfl)
abbrev cJ14_leftOf : ByteArray := prog_63_method_79_code
def yJ14_leftOf : MethodName := ⟨RJ14, "leftOf", "(Ljava/util/TreeMap$Entry;)Ljava/util/TreeMap$Entry;"⟩
def dkwJ14_leftOf_0 : List UInt8 := [42, 199, 0, 7, 1, 167, 0, 7, 42, 180, 0, 111, 176]
abbrev dktJ14_leftOf_0 : List UInt8 := dkwJ14_leftOf_0 ++ []
theorem dksJ14_leftOf_0 : cJ14_leftOf.data.toList.drop 0 = dktJ14_leftOf_0 := by decide +kernel
theorem dJ14_leftOf_0 : decode cJ14_leftOf 0 = .ok (.aload_n 0, 1) := dk_42 (dk_at dksJ14_leftOf_0 0 rfl rfl)
theorem dJ14_leftOf_1 : decode cJ14_leftOf 1 = .ok (.ifnonnull 7, 3) := dk_199 0 7 (dk_at dksJ14_leftOf_0 1 rfl rfl)
theorem dJ14_leftOf_4 : decode cJ14_leftOf 4 = .ok (.aconst_null, 1) := dk_1 (dk_at dksJ14_leftOf_0 4 rfl rfl)
theorem dJ14_leftOf_5 : decode cJ14_leftOf 5 = .ok (.goto 7, 3) := dk_167 0 7 (dk_at dksJ14_leftOf_0 5 rfl rfl)
theorem dJ14_leftOf_8 : decode cJ14_leftOf 8 = .ok (.aload_n 0, 1) := dk_42 (dk_at dksJ14_leftOf_0 8 rfl rfl)
theorem dJ14_leftOf_9 : decode cJ14_leftOf 9 = .ok (.getfield 111, 3) := dk_180 0 111 (dk_at dksJ14_leftOf_0 9 rfl rfl)
theorem dJ14_leftOf_12 : decode cJ14_leftOf 12 = .ok (.areturn, 1) := dk_176 (dk_at dksJ14_leftOf_0 12 rfl rfl)
abbrev cJ14_rightOf : ByteArray := prog_63_method_80_code
def yJ14_rightOf : MethodName := ⟨RJ14, "rightOf", "(Ljava/util/TreeMap$Entry;)Ljava/util/TreeMap$Entry;"⟩
def dkwJ14_rightOf_0 : List UInt8 := [42, 199, 0, 7, 1, 167, 0, 7, 42, 180, 0, 114, 176]
abbrev dktJ14_rightOf_0 : List UInt8 := dkwJ14_rightOf_0 ++ []
theorem dksJ14_rightOf_0 : cJ14_rightOf.data.toList.drop 0 = dktJ14_rightOf_0 := by decide +kernel
theorem dJ14_rightOf_0 : decode cJ14_rightOf 0 = .ok (.aload_n 0, 1) := dk_42 (dk_at dksJ14_rightOf_0 0 rfl rfl)
theorem dJ14_rightOf_1 : decode cJ14_rightOf 1 = .ok (.ifnonnull 7, 3) := dk_199 0 7 (dk_at dksJ14_rightOf_0 1 rfl rfl)
theorem dJ14_rightOf_4 : decode cJ14_rightOf 4 = .ok (.aconst_null, 1) := dk_1 (dk_at dksJ14_rightOf_0 4 rfl rfl)
theorem dJ14_rightOf_5 : decode cJ14_rightOf 5 = .ok (.goto 7, 3) := dk_167 0 7 (dk_at dksJ14_rightOf_0 5 rfl rfl)
theorem dJ14_rightOf_8 : decode cJ14_rightOf 8 = .ok (.aload_n 0, 1) := dk_42 (dk_at dksJ14_rightOf_0 8 rfl rfl)
theorem dJ14_rightOf_9 : decode cJ14_rightOf 9 = .ok (.getfield 114, 3) := dk_180 0 114 (dk_at dksJ14_rightOf_0 9 rfl rfl)
theorem dJ14_rightOf_12 : decode cJ14_rightOf 12 = .ok (.areturn, 1) := dk_176 (dk_at dksJ14_rightOf_0 12 rfl rfl)
abbrev cJ14_colorOf : ByteArray := prog_63_method_76_code
def yJ14_colorOf : MethodName := ⟨RJ14, "colorOf", "(Ljava/util/TreeMap$Entry;)Z"⟩
def dkwJ14_colorOf_0 : List UInt8 := [42, 199, 0, 7, 4, 167, 0, 7, 42, 180, 1, 34, 172]
abbrev dktJ14_colorOf_0 : List UInt8 := dkwJ14_colorOf_0 ++ []
theorem dksJ14_colorOf_0 : cJ14_colorOf.data.toList.drop 0 = dktJ14_colorOf_0 := by decide +kernel
theorem dJ14_colorOf_0 : decode cJ14_colorOf 0 = .ok (.aload_n 0, 1) := dk_42 (dk_at dksJ14_colorOf_0 0 rfl rfl)
theorem dJ14_colorOf_1 : decode cJ14_colorOf 1 = .ok (.ifnonnull 7, 3) := dk_199 0 7 (dk_at dksJ14_colorOf_0 1 rfl rfl)
theorem dJ14_colorOf_4 : decode cJ14_colorOf 4 = .ok (.iconst 1, 1) := dk_4 (dk_at dksJ14_colorOf_0 4 rfl rfl)
theorem dJ14_colorOf_5 : decode cJ14_colorOf 5 = .ok (.goto 7, 3) := dk_167 0 7 (dk_at dksJ14_colorOf_0 5 rfl rfl)
theorem dJ14_colorOf_8 : decode cJ14_colorOf 8 = .ok (.aload_n 0, 1) := dk_42 (dk_at dksJ14_colorOf_0 8 rfl rfl)
theorem dJ14_colorOf_9 : decode cJ14_colorOf 9 = .ok (.getfield 290, 3) := dk_180 1 34 (dk_at dksJ14_colorOf_0 9 rfl rfl)
theorem dJ14_colorOf_12 : decode cJ14_colorOf 12 = .ok (.ireturn, 1) := dk_172 (dk_at dksJ14_colorOf_0 12 rfl rfl)
abbrev cJ14_setColor : ByteArray := prog_63_method_78_code
def yJ14_setColor : MethodName := ⟨RJ14, "setColor", "(Ljava/util/TreeMap$Entry;Z)V"⟩
def dkwJ14_setColor_0 : List UInt8 := [42, 198, 0, 8, 42, 27, 181, 1, 34, 177]
abbrev dktJ14_setColor_0 : List UInt8 := dkwJ14_setColor_0 ++ []
theorem dksJ14_setColor_0 : cJ14_setColor.data.toList.drop 0 = dktJ14_setColor_0 := by decide +kernel
theorem dJ14_setColor_0 : decode cJ14_setColor 0 = .ok (.aload_n 0, 1) := dk_42 (dk_at dksJ14_setColor_0 0 rfl rfl)
theorem dJ14_setColor_1 : decode cJ14_setColor 1 = .ok (.ifnull 8, 3) := dk_198 0 8 (dk_at dksJ14_setColor_0 1 rfl rfl)
theorem dJ14_setColor_4 : decode cJ14_setColor 4 = .ok (.aload_n 0, 1) := dk_42 (dk_at dksJ14_setColor_0 4 rfl rfl)
theorem dJ14_setColor_5 : decode cJ14_setColor 5 = .ok (.iload_n 1, 1) := dk_27 (dk_at dksJ14_setColor_0 5 rfl rfl)
theorem dJ14_setColor_6 : decode cJ14_setColor 6 = .ok (.putfield 290, 3) := dk_181 1 34 (dk_at dksJ14_setColor_0 6 rfl rfl)
theorem dJ14_setColor_9 : decode cJ14_setColor 9 = .ok (.return_, 1) := dk_177 (dk_at dksJ14_setColor_0 9 rfl rfl)
abbrev cJ14_rotateLeft : ByteArray := prog_63_method_81_code
def yJ14_rotateLeft : MethodName := ⟨RJ14, "rotateLeft", "(Ljava/util/TreeMap$Entry;)V"⟩
def dkwJ14_rotateLeft_4 : List UInt8 := [177]
abbrev dktJ14_rotateLeft_4 : List UInt8 := dkwJ14_rotateLeft_4 ++ []
def dkwJ14_rotateLeft_3 : List UInt8 := [181, 0, 111, 167, 0, 11, 43, 180, 0, 124, 44, 181, 0, 114, 44, 43, 181, 0, 111, 43, 44, 181, 0, 124]
abbrev dktJ14_rotateLeft_3 : List UInt8 := dkwJ14_rotateLeft_3 ++ dktJ14_rotateLeft_4
def dkwJ14_rotateLeft_2 : List UInt8 := [44, 181, 0, 101, 167, 0, 33, 43, 180, 0, 124, 180, 0, 111, 43, 166, 0, 14, 43, 180, 0, 124, 44]
abbrev dktJ14_rotateLeft_2 : List UInt8 := dkwJ14_rotateLeft_2 ++ dktJ14_rotateLeft_3
def dkwJ14_rotateLeft_1 : List UInt8 := [44, 180, 0, 111, 43, 181, 0, 124, 44, 43, 180, 0, 124, 181, 0, 124, 43, 180, 0, 124, 199, 0, 11, 42]
abbrev dktJ14_rotateLeft_1 : List UInt8 := dkwJ14_rotateLeft_1 ++ dktJ14_rotateLeft_2
def dkwJ14_rotateLeft_0 : List UInt8 := [43, 198, 0, 94, 43, 180, 0, 114, 77, 43, 44, 180, 0, 111, 181, 0, 114, 44, 180, 0, 111, 198, 0, 11]
abbrev dktJ14_rotateLeft_0 : List UInt8 := dkwJ14_rotateLeft_0 ++ dktJ14_rotateLeft_1
theorem dksJ14_rotateLeft_0 : cJ14_rotateLeft.data.toList.drop 0 = dktJ14_rotateLeft_0 := by decide +kernel
theorem dksJ14_rotateLeft_1 : cJ14_rotateLeft.data.toList.drop 24 = dktJ14_rotateLeft_1 := dk_seg dksJ14_rotateLeft_0 24 rfl rfl
theorem dksJ14_rotateLeft_2 : cJ14_rotateLeft.data.toList.drop 48 = dktJ14_rotateLeft_2 := dk_seg dksJ14_rotateLeft_1 24 rfl rfl
theorem dksJ14_rotateLeft_3 : cJ14_rotateLeft.data.toList.drop 71 = dktJ14_rotateLeft_3 := dk_seg dksJ14_rotateLeft_2 23 rfl rfl
theorem dksJ14_rotateLeft_4 : cJ14_rotateLeft.data.toList.drop 95 = dktJ14_rotateLeft_4 := dk_seg dksJ14_rotateLeft_3 24 rfl rfl
theorem dJ14_rotateLeft_0 : decode cJ14_rotateLeft 0 = .ok (.aload_n 1, 1) := dk_43 (dk_at dksJ14_rotateLeft_0 0 rfl rfl)
theorem dJ14_rotateLeft_1 : decode cJ14_rotateLeft 1 = .ok (.ifnull 94, 3) := dk_198 0 94 (dk_at dksJ14_rotateLeft_0 1 rfl rfl)
theorem dJ14_rotateLeft_4 : decode cJ14_rotateLeft 4 = .ok (.aload_n 1, 1) := dk_43 (dk_at dksJ14_rotateLeft_0 4 rfl rfl)
theorem dJ14_rotateLeft_5 : decode cJ14_rotateLeft 5 = .ok (.getfield 114, 3) := dk_180 0 114 (dk_at dksJ14_rotateLeft_0 5 rfl rfl)
theorem dJ14_rotateLeft_8 : decode cJ14_rotateLeft 8 = .ok (.astore_n 2, 1) := dk_77 (dk_at dksJ14_rotateLeft_0 8 rfl rfl)
theorem dJ14_rotateLeft_9 : decode cJ14_rotateLeft 9 = .ok (.aload_n 1, 1) := dk_43 (dk_at dksJ14_rotateLeft_0 9 rfl rfl)
theorem dJ14_rotateLeft_10 : decode cJ14_rotateLeft 10 = .ok (.aload_n 2, 1) := dk_44 (dk_at dksJ14_rotateLeft_0 10 rfl rfl)
theorem dJ14_rotateLeft_11 : decode cJ14_rotateLeft 11 = .ok (.getfield 111, 3) := dk_180 0 111 (dk_at dksJ14_rotateLeft_0 11 rfl rfl)
theorem dJ14_rotateLeft_14 : decode cJ14_rotateLeft 14 = .ok (.putfield 114, 3) := dk_181 0 114 (dk_at dksJ14_rotateLeft_0 14 rfl rfl)
theorem dJ14_rotateLeft_17 : decode cJ14_rotateLeft 17 = .ok (.aload_n 2, 1) := dk_44 (dk_at dksJ14_rotateLeft_0 17 rfl rfl)
theorem dJ14_rotateLeft_18 : decode cJ14_rotateLeft 18 = .ok (.getfield 111, 3) := dk_180 0 111 (dk_at dksJ14_rotateLeft_0 18 rfl rfl)
theorem dJ14_rotateLeft_21 : decode cJ14_rotateLeft 21 = .ok (.ifnull 11, 3) := dk_198 0 11 (dk_at dksJ14_rotateLeft_0 21 rfl rfl)
theorem dJ14_rotateLeft_24 : decode cJ14_rotateLeft 24 = .ok (.aload_n 2, 1) := dk_44 (dk_at dksJ14_rotateLeft_1 0 rfl rfl)
theorem dJ14_rotateLeft_25 : decode cJ14_rotateLeft 25 = .ok (.getfield 111, 3) := dk_180 0 111 (dk_at dksJ14_rotateLeft_1 1 rfl rfl)
theorem dJ14_rotateLeft_28 : decode cJ14_rotateLeft 28 = .ok (.aload_n 1, 1) := dk_43 (dk_at dksJ14_rotateLeft_1 4 rfl rfl)
theorem dJ14_rotateLeft_29 : decode cJ14_rotateLeft 29 = .ok (.putfield 124, 3) := dk_181 0 124 (dk_at dksJ14_rotateLeft_1 5 rfl rfl)
theorem dJ14_rotateLeft_32 : decode cJ14_rotateLeft 32 = .ok (.aload_n 2, 1) := dk_44 (dk_at dksJ14_rotateLeft_1 8 rfl rfl)
theorem dJ14_rotateLeft_33 : decode cJ14_rotateLeft 33 = .ok (.aload_n 1, 1) := dk_43 (dk_at dksJ14_rotateLeft_1 9 rfl rfl)
theorem dJ14_rotateLeft_34 : decode cJ14_rotateLeft 34 = .ok (.getfield 124, 3) := dk_180 0 124 (dk_at dksJ14_rotateLeft_1 10 rfl rfl)
theorem dJ14_rotateLeft_37 : decode cJ14_rotateLeft 37 = .ok (.putfield 124, 3) := dk_181 0 124 (dk_at dksJ14_rotateLeft_1 13 rfl rfl)
theorem dJ14_rotateLeft_40 : decode cJ14_rotateLeft 40 = .ok (.aload_n 1, 1) := dk_43 (dk_at dksJ14_rotateLeft_1 16 rfl rfl)
theorem dJ14_rotateLeft_41 : decode cJ14_rotateLeft 41 = .ok (.getfield 124, 3) := dk_180 0 124 (dk_at dksJ14_rotateLeft_1 17 rfl rfl)
theorem dJ14_rotateLeft_44 : decode cJ14_rotateLeft 44 = .ok (.ifnonnull 11, 3) := dk_199 0 11 (dk_at dksJ14_rotateLeft_1 20 rfl rfl)
theorem dJ14_rotateLeft_47 : decode cJ14_rotateLeft 47 = .ok (.aload_n 0, 1) := dk_42 (dk_at dksJ14_rotateLeft_1 23 rfl rfl)
theorem dJ14_rotateLeft_48 : decode cJ14_rotateLeft 48 = .ok (.aload_n 2, 1) := dk_44 (dk_at dksJ14_rotateLeft_2 0 rfl rfl)
theorem dJ14_rotateLeft_49 : decode cJ14_rotateLeft 49 = .ok (.putfield 101, 3) := dk_181 0 101 (dk_at dksJ14_rotateLeft_2 1 rfl rfl)
theorem dJ14_rotateLeft_52 : decode cJ14_rotateLeft 52 = .ok (.goto 33, 3) := dk_167 0 33 (dk_at dksJ14_rotateLeft_2 4 rfl rfl)
theorem dJ14_rotateLeft_55 : decode cJ14_rotateLeft 55 = .ok (.aload_n 1, 1) := dk_43 (dk_at dksJ14_rotateLeft_2 7 rfl rfl)
theorem dJ14_rotateLeft_56 : decode cJ14_rotateLeft 56 = .ok (.getfield 124, 3) := dk_180 0 124 (dk_at dksJ14_rotateLeft_2 8 rfl rfl)
theorem dJ14_rotateLeft_59 : decode cJ14_rotateLeft 59 = .ok (.getfield 111, 3) := dk_180 0 111 (dk_at dksJ14_rotateLeft_2 11 rfl rfl)
theorem dJ14_rotateLeft_62 : decode cJ14_rotateLeft 62 = .ok (.aload_n 1, 1) := dk_43 (dk_at dksJ14_rotateLeft_2 14 rfl rfl)
theorem dJ14_rotateLeft_63 : decode cJ14_rotateLeft 63 = .ok (.if_acmp .ne 14, 3) := dk_166 0 14 (dk_at dksJ14_rotateLeft_2 15 rfl rfl)
theorem dJ14_rotateLeft_66 : decode cJ14_rotateLeft 66 = .ok (.aload_n 1, 1) := dk_43 (dk_at dksJ14_rotateLeft_2 18 rfl rfl)
theorem dJ14_rotateLeft_67 : decode cJ14_rotateLeft 67 = .ok (.getfield 124, 3) := dk_180 0 124 (dk_at dksJ14_rotateLeft_2 19 rfl rfl)
theorem dJ14_rotateLeft_70 : decode cJ14_rotateLeft 70 = .ok (.aload_n 2, 1) := dk_44 (dk_at dksJ14_rotateLeft_2 22 rfl rfl)
theorem dJ14_rotateLeft_71 : decode cJ14_rotateLeft 71 = .ok (.putfield 111, 3) := dk_181 0 111 (dk_at dksJ14_rotateLeft_3 0 rfl rfl)
theorem dJ14_rotateLeft_74 : decode cJ14_rotateLeft 74 = .ok (.goto 11, 3) := dk_167 0 11 (dk_at dksJ14_rotateLeft_3 3 rfl rfl)
theorem dJ14_rotateLeft_77 : decode cJ14_rotateLeft 77 = .ok (.aload_n 1, 1) := dk_43 (dk_at dksJ14_rotateLeft_3 6 rfl rfl)
theorem dJ14_rotateLeft_78 : decode cJ14_rotateLeft 78 = .ok (.getfield 124, 3) := dk_180 0 124 (dk_at dksJ14_rotateLeft_3 7 rfl rfl)
theorem dJ14_rotateLeft_81 : decode cJ14_rotateLeft 81 = .ok (.aload_n 2, 1) := dk_44 (dk_at dksJ14_rotateLeft_3 10 rfl rfl)
theorem dJ14_rotateLeft_82 : decode cJ14_rotateLeft 82 = .ok (.putfield 114, 3) := dk_181 0 114 (dk_at dksJ14_rotateLeft_3 11 rfl rfl)
theorem dJ14_rotateLeft_85 : decode cJ14_rotateLeft 85 = .ok (.aload_n 2, 1) := dk_44 (dk_at dksJ14_rotateLeft_3 14 rfl rfl)
theorem dJ14_rotateLeft_86 : decode cJ14_rotateLeft 86 = .ok (.aload_n 1, 1) := dk_43 (dk_at dksJ14_rotateLeft_3 15 rfl rfl)
theorem dJ14_rotateLeft_87 : decode cJ14_rotateLeft 87 = .ok (.putfield 111, 3) := dk_181 0 111 (dk_at dksJ14_rotateLeft_3 16 rfl rfl)
theorem dJ14_rotateLeft_90 : decode cJ14_rotateLeft 90 = .ok (.aload_n 1, 1) := dk_43 (dk_at dksJ14_rotateLeft_3 19 rfl rfl)
theorem dJ14_rotateLeft_91 : decode cJ14_rotateLeft 91 = .ok (.aload_n 2, 1) := dk_44 (dk_at dksJ14_rotateLeft_3 20 rfl rfl)
theorem dJ14_rotateLeft_92 : decode cJ14_rotateLeft 92 = .ok (.putfield 124, 3) := dk_181 0 124 (dk_at dksJ14_rotateLeft_3 21 rfl rfl)
theorem dJ14_rotateLeft_95 : decode cJ14_rotateLeft 95 = .ok (.return_, 1) := dk_177 (dk_at dksJ14_rotateLeft_4 0 rfl rfl)
abbrev cJ14_rotateRight : ByteArray := prog_63_method_82_code
def yJ14_rotateRight : MethodName := ⟨RJ14, "rotateRight", "(Ljava/util/TreeMap$Entry;)V"⟩
def dkwJ14_rotateRight_4 : List UInt8 := [177]
abbrev dktJ14_rotateRight_4 : List UInt8 := dkwJ14_rotateRight_4 ++ []
def dkwJ14_rotateRight_3 : List UInt8 := [181, 0, 114, 167, 0, 11, 43, 180, 0, 124, 44, 181, 0, 111, 44, 43, 181, 0, 114, 43, 44, 181, 0, 124]
abbrev dktJ14_rotateRight_3 : List UInt8 := dkwJ14_rotateRight_3 ++ dktJ14_rotateRight_4
def dkwJ14_rotateRight_2 : List UInt8 := [44, 181, 0, 101, 167, 0, 33, 43, 180, 0, 124, 180, 0, 114, 43, 166, 0, 14, 43, 180, 0, 124, 44]
abbrev dktJ14_rotateRight_2 : List UInt8 := dkwJ14_rotateRight_2 ++ dktJ14_rotateRight_3
def dkwJ14_rotateRight_1 : List UInt8 := [44, 180, 0, 114, 43, 181, 0, 124, 44, 43, 180, 0, 124, 181, 0, 124, 43, 180, 0, 124, 199, 0, 11, 42]
abbrev dktJ14_rotateRight_1 : List UInt8 := dkwJ14_rotateRight_1 ++ dktJ14_rotateRight_2
def dkwJ14_rotateRight_0 : List UInt8 := [43, 198, 0, 94, 43, 180, 0, 111, 77, 43, 44, 180, 0, 114, 181, 0, 111, 44, 180, 0, 114, 198, 0, 11]
abbrev dktJ14_rotateRight_0 : List UInt8 := dkwJ14_rotateRight_0 ++ dktJ14_rotateRight_1
theorem dksJ14_rotateRight_0 : cJ14_rotateRight.data.toList.drop 0 = dktJ14_rotateRight_0 := by decide +kernel
theorem dksJ14_rotateRight_1 : cJ14_rotateRight.data.toList.drop 24 = dktJ14_rotateRight_1 := dk_seg dksJ14_rotateRight_0 24 rfl rfl
theorem dksJ14_rotateRight_2 : cJ14_rotateRight.data.toList.drop 48 = dktJ14_rotateRight_2 := dk_seg dksJ14_rotateRight_1 24 rfl rfl
theorem dksJ14_rotateRight_3 : cJ14_rotateRight.data.toList.drop 71 = dktJ14_rotateRight_3 := dk_seg dksJ14_rotateRight_2 23 rfl rfl
theorem dksJ14_rotateRight_4 : cJ14_rotateRight.data.toList.drop 95 = dktJ14_rotateRight_4 := dk_seg dksJ14_rotateRight_3 24 rfl rfl
theorem dJ14_rotateRight_0 : decode cJ14_rotateRight 0 = .ok (.aload_n 1, 1) := dk_43 (dk_at dksJ14_rotateRight_0 0 rfl rfl)
theorem dJ14_rotateRight_1 : decode cJ14_rotateRight 1 = .ok (.ifnull 94, 3) := dk_198 0 94 (dk_at dksJ14_rotateRight_0 1 rfl rfl)
theorem dJ14_rotateRight_4 : decode cJ14_rotateRight 4 = .ok (.aload_n 1, 1) := dk_43 (dk_at dksJ14_rotateRight_0 4 rfl rfl)
theorem dJ14_rotateRight_5 : decode cJ14_rotateRight 5 = .ok (.getfield 111, 3) := dk_180 0 111 (dk_at dksJ14_rotateRight_0 5 rfl rfl)
theorem dJ14_rotateRight_8 : decode cJ14_rotateRight 8 = .ok (.astore_n 2, 1) := dk_77 (dk_at dksJ14_rotateRight_0 8 rfl rfl)
theorem dJ14_rotateRight_9 : decode cJ14_rotateRight 9 = .ok (.aload_n 1, 1) := dk_43 (dk_at dksJ14_rotateRight_0 9 rfl rfl)
theorem dJ14_rotateRight_10 : decode cJ14_rotateRight 10 = .ok (.aload_n 2, 1) := dk_44 (dk_at dksJ14_rotateRight_0 10 rfl rfl)
theorem dJ14_rotateRight_11 : decode cJ14_rotateRight 11 = .ok (.getfield 114, 3) := dk_180 0 114 (dk_at dksJ14_rotateRight_0 11 rfl rfl)
theorem dJ14_rotateRight_14 : decode cJ14_rotateRight 14 = .ok (.putfield 111, 3) := dk_181 0 111 (dk_at dksJ14_rotateRight_0 14 rfl rfl)
theorem dJ14_rotateRight_17 : decode cJ14_rotateRight 17 = .ok (.aload_n 2, 1) := dk_44 (dk_at dksJ14_rotateRight_0 17 rfl rfl)
theorem dJ14_rotateRight_18 : decode cJ14_rotateRight 18 = .ok (.getfield 114, 3) := dk_180 0 114 (dk_at dksJ14_rotateRight_0 18 rfl rfl)
theorem dJ14_rotateRight_21 : decode cJ14_rotateRight 21 = .ok (.ifnull 11, 3) := dk_198 0 11 (dk_at dksJ14_rotateRight_0 21 rfl rfl)
theorem dJ14_rotateRight_24 : decode cJ14_rotateRight 24 = .ok (.aload_n 2, 1) := dk_44 (dk_at dksJ14_rotateRight_1 0 rfl rfl)
theorem dJ14_rotateRight_25 : decode cJ14_rotateRight 25 = .ok (.getfield 114, 3) := dk_180 0 114 (dk_at dksJ14_rotateRight_1 1 rfl rfl)
theorem dJ14_rotateRight_28 : decode cJ14_rotateRight 28 = .ok (.aload_n 1, 1) := dk_43 (dk_at dksJ14_rotateRight_1 4 rfl rfl)
theorem dJ14_rotateRight_29 : decode cJ14_rotateRight 29 = .ok (.putfield 124, 3) := dk_181 0 124 (dk_at dksJ14_rotateRight_1 5 rfl rfl)
theorem dJ14_rotateRight_32 : decode cJ14_rotateRight 32 = .ok (.aload_n 2, 1) := dk_44 (dk_at dksJ14_rotateRight_1 8 rfl rfl)
theorem dJ14_rotateRight_33 : decode cJ14_rotateRight 33 = .ok (.aload_n 1, 1) := dk_43 (dk_at dksJ14_rotateRight_1 9 rfl rfl)
theorem dJ14_rotateRight_34 : decode cJ14_rotateRight 34 = .ok (.getfield 124, 3) := dk_180 0 124 (dk_at dksJ14_rotateRight_1 10 rfl rfl)
theorem dJ14_rotateRight_37 : decode cJ14_rotateRight 37 = .ok (.putfield 124, 3) := dk_181 0 124 (dk_at dksJ14_rotateRight_1 13 rfl rfl)
theorem dJ14_rotateRight_40 : decode cJ14_rotateRight 40 = .ok (.aload_n 1, 1) := dk_43 (dk_at dksJ14_rotateRight_1 16 rfl rfl)
theorem dJ14_rotateRight_41 : decode cJ14_rotateRight 41 = .ok (.getfield 124, 3) := dk_180 0 124 (dk_at dksJ14_rotateRight_1 17 rfl rfl)
theorem dJ14_rotateRight_44 : decode cJ14_rotateRight 44 = .ok (.ifnonnull 11, 3) := dk_199 0 11 (dk_at dksJ14_rotateRight_1 20 rfl rfl)
theorem dJ14_rotateRight_47 : decode cJ14_rotateRight 47 = .ok (.aload_n 0, 1) := dk_42 (dk_at dksJ14_rotateRight_1 23 rfl rfl)
theorem dJ14_rotateRight_48 : decode cJ14_rotateRight 48 = .ok (.aload_n 2, 1) := dk_44 (dk_at dksJ14_rotateRight_2 0 rfl rfl)
theorem dJ14_rotateRight_49 : decode cJ14_rotateRight 49 = .ok (.putfield 101, 3) := dk_181 0 101 (dk_at dksJ14_rotateRight_2 1 rfl rfl)
theorem dJ14_rotateRight_52 : decode cJ14_rotateRight 52 = .ok (.goto 33, 3) := dk_167 0 33 (dk_at dksJ14_rotateRight_2 4 rfl rfl)
theorem dJ14_rotateRight_55 : decode cJ14_rotateRight 55 = .ok (.aload_n 1, 1) := dk_43 (dk_at dksJ14_rotateRight_2 7 rfl rfl)
theorem dJ14_rotateRight_56 : decode cJ14_rotateRight 56 = .ok (.getfield 124, 3) := dk_180 0 124 (dk_at dksJ14_rotateRight_2 8 rfl rfl)
theorem dJ14_rotateRight_59 : decode cJ14_rotateRight 59 = .ok (.getfield 114, 3) := dk_180 0 114 (dk_at dksJ14_rotateRight_2 11 rfl rfl)
theorem dJ14_rotateRight_62 : decode cJ14_rotateRight 62 = .ok (.aload_n 1, 1) := dk_43 (dk_at dksJ14_rotateRight_2 14 rfl rfl)
theorem dJ14_rotateRight_63 : decode cJ14_rotateRight 63 = .ok (.if_acmp .ne 14, 3) := dk_166 0 14 (dk_at dksJ14_rotateRight_2 15 rfl rfl)
theorem dJ14_rotateRight_66 : decode cJ14_rotateRight 66 = .ok (.aload_n 1, 1) := dk_43 (dk_at dksJ14_rotateRight_2 18 rfl rfl)
theorem dJ14_rotateRight_67 : decode cJ14_rotateRight 67 = .ok (.getfield 124, 3) := dk_180 0 124 (dk_at dksJ14_rotateRight_2 19 rfl rfl)
theorem dJ14_rotateRight_70 : decode cJ14_rotateRight 70 = .ok (.aload_n 2, 1) := dk_44 (dk_at dksJ14_rotateRight_2 22 rfl rfl)
theorem dJ14_rotateRight_71 : decode cJ14_rotateRight 71 = .ok (.putfield 114, 3) := dk_181 0 114 (dk_at dksJ14_rotateRight_3 0 rfl rfl)
theorem dJ14_rotateRight_74 : decode cJ14_rotateRight 74 = .ok (.goto 11, 3) := dk_167 0 11 (dk_at dksJ14_rotateRight_3 3 rfl rfl)
theorem dJ14_rotateRight_77 : decode cJ14_rotateRight 77 = .ok (.aload_n 1, 1) := dk_43 (dk_at dksJ14_rotateRight_3 6 rfl rfl)
theorem dJ14_rotateRight_78 : decode cJ14_rotateRight 78 = .ok (.getfield 124, 3) := dk_180 0 124 (dk_at dksJ14_rotateRight_3 7 rfl rfl)
theorem dJ14_rotateRight_81 : decode cJ14_rotateRight 81 = .ok (.aload_n 2, 1) := dk_44 (dk_at dksJ14_rotateRight_3 10 rfl rfl)
theorem dJ14_rotateRight_82 : decode cJ14_rotateRight 82 = .ok (.putfield 111, 3) := dk_181 0 111 (dk_at dksJ14_rotateRight_3 11 rfl rfl)
theorem dJ14_rotateRight_85 : decode cJ14_rotateRight 85 = .ok (.aload_n 2, 1) := dk_44 (dk_at dksJ14_rotateRight_3 14 rfl rfl)
theorem dJ14_rotateRight_86 : decode cJ14_rotateRight 86 = .ok (.aload_n 1, 1) := dk_43 (dk_at dksJ14_rotateRight_3 15 rfl rfl)
theorem dJ14_rotateRight_87 : decode cJ14_rotateRight 87 = .ok (.putfield 114, 3) := dk_181 0 114 (dk_at dksJ14_rotateRight_3 16 rfl rfl)
theorem dJ14_rotateRight_90 : decode cJ14_rotateRight 90 = .ok (.aload_n 1, 1) := dk_43 (dk_at dksJ14_rotateRight_3 19 rfl rfl)
theorem dJ14_rotateRight_91 : decode cJ14_rotateRight 91 = .ok (.aload_n 2, 1) := dk_44 (dk_at dksJ14_rotateRight_3 20 rfl rfl)
theorem dJ14_rotateRight_92 : decode cJ14_rotateRight 92 = .ok (.putfield 124, 3) := dk_181 0 124 (dk_at dksJ14_rotateRight_3 21 rfl rfl)
theorem dJ14_rotateRight_95 : decode cJ14_rotateRight 95 = .ok (.return_, 1) := dk_177 (dk_at dksJ14_rotateRight_4 0 rfl rfl)
abbrev cJ14_size : ByteArray := prog_63_method_5_code
def yJ14_size : MethodName := ⟨RJ14, "size", "()I"⟩
theorem dJ14_size_0 : decode cJ14_size 0 = .ok (.aload_n 0, 1) := by decide +kernel
theorem dJ14_size_1 : decode cJ14_size 1 = .ok (.getfield 7, 3) := by decide +kernel
theorem dJ14_size_4 : decode cJ14_size 4 = .ok (.ireturn, 1) := by decide +kernel
abbrev cJ14_values : ByteArray := prog_63_method_52_code
def yJ14_values : MethodName := ⟨RJ14, "values", "()Ljava/util/Collection;"⟩
def dkwJ14_values_1 : List UInt8 := [176]
abbrev dktJ14_values_1 : List UInt8 := dkwJ14_values_1 ++ []
def dkwJ14_values_0 : List UInt8 := [42, 180, 0, 233, 76, 43, 199, 0, 17, 187, 0, 237, 89, 42, 183, 0, 239, 76, 42, 43, 181, 0, 233, 43]
abbrev dktJ14_values_0 : List UInt8 := dkwJ14_values_0 ++ dktJ14_values_1
theorem dksJ14_values_0 : cJ14_values.data.toList.drop 0 = dktJ14_values_0 := by decide +kernel
theorem dksJ14_values_1 : cJ14_values.data.toList.drop 24 = dktJ14_values_1 := dk_seg dksJ14_values_0 24 rfl rfl
theorem dJ14_values_0 : decode cJ14_values 0 = .ok (.aload_n 0, 1) := dk_42 (dk_at dksJ14_values_0 0 rfl rfl)
theorem dJ14_values_1 : decode cJ14_values 1 = .ok (.getfield 233, 3) := dk_180 0 233 (dk_at dksJ14_values_0 1 rfl rfl)
theorem dJ14_values_4 : decode cJ14_values 4 = .ok (.astore_n 1, 1) := dk_76 (dk_at dksJ14_values_0 4 rfl rfl)
theorem dJ14_values_5 : decode cJ14_values 5 = .ok (.aload_n 1, 1) := dk_43 (dk_at dksJ14_values_0 5 rfl rfl)
theorem dJ14_values_6 : decode cJ14_values 6 = .ok (.ifnonnull 17, 3) := dk_199 0 17 (dk_at dksJ14_values_0 6 rfl rfl)
theorem dJ14_values_9 : decode cJ14_values 9 = .ok (.new 237, 3) := dk_187 0 237 (dk_at dksJ14_values_0 9 rfl rfl)
theorem dJ14_values_12 : decode cJ14_values 12 = .ok (.dup, 1) := dk_89 (dk_at dksJ14_values_0 12 rfl rfl)
theorem dJ14_values_13 : decode cJ14_values 13 = .ok (.aload_n 0, 1) := dk_42 (dk_at dksJ14_values_0 13 rfl rfl)
theorem dJ14_values_14 : decode cJ14_values 14 = .ok (.invokespecial 239, 3) := dk_183 0 239 (dk_at dksJ14_values_0 14 rfl rfl)
theorem dJ14_values_17 : decode cJ14_values 17 = .ok (.astore_n 1, 1) := dk_76 (dk_at dksJ14_values_0 17 rfl rfl)
theorem dJ14_values_18 : decode cJ14_values 18 = .ok (.aload_n 0, 1) := dk_42 (dk_at dksJ14_values_0 18 rfl rfl)
theorem dJ14_values_19 : decode cJ14_values 19 = .ok (.aload_n 1, 1) := dk_43 (dk_at dksJ14_values_0 19 rfl rfl)
theorem dJ14_values_20 : decode cJ14_values 20 = .ok (.putfield 233, 3) := dk_181 0 233 (dk_at dksJ14_values_0 20 rfl rfl)
theorem dJ14_values_23 : decode cJ14_values 23 = .ok (.aload_n 1, 1) := dk_43 (dk_at dksJ14_values_0 23 rfl rfl)
theorem dJ14_values_24 : decode cJ14_values 24 = .ok (.areturn, 1) := dk_176 (dk_at dksJ14_values_1 0 rfl rfl)
abbrev cJ14_getFirstEntry : ByteArray := prog_63_method_72_code
def yJ14_getFirstEntry : MethodName := ⟨RJ14, "getFirstEntry", "()Ljava/util/TreeMap$Entry;"⟩
def dkwJ14_getFirstEntry_1 : List UInt8 := [43, 176]
abbrev dktJ14_getFirstEntry_1 : List UInt8 := dkwJ14_getFirstEntry_1 ++ []
def dkwJ14_getFirstEntry_0 : List UInt8 := [42, 180, 0, 101, 76, 43, 198, 0, 18, 43, 180, 0, 111, 198, 0, 11, 43, 180, 0, 111, 76, 167, 255, 244]
abbrev dktJ14_getFirstEntry_0 : List UInt8 := dkwJ14_getFirstEntry_0 ++ dktJ14_getFirstEntry_1
theorem dksJ14_getFirstEntry_0 : cJ14_getFirstEntry.data.toList.drop 0 = dktJ14_getFirstEntry_0 := by decide +kernel
theorem dksJ14_getFirstEntry_1 : cJ14_getFirstEntry.data.toList.drop 24 = dktJ14_getFirstEntry_1 := dk_seg dksJ14_getFirstEntry_0 24 rfl rfl
theorem dJ14_getFirstEntry_0 : decode cJ14_getFirstEntry 0 = .ok (.aload_n 0, 1) := dk_42 (dk_at dksJ14_getFirstEntry_0 0 rfl rfl)
theorem dJ14_getFirstEntry_1 : decode cJ14_getFirstEntry 1 = .ok (.getfield 101, 3) := dk_180 0 101 (dk_at dksJ14_getFirstEntry_0 1 rfl rfl)
theorem dJ14_getFirstEntry_4 : decode cJ14_getFirstEntry 4 = .ok (.astore_n 1, 1) := dk_76 (dk_at dksJ14_getFirstEntry_0 4 rfl rfl)
theorem dJ14_getFirstEntry_5 : decode cJ14_getFirstEntry 5 = .ok (.aload_n 1, 1) := dk_43 (dk_at dksJ14_getFirstEntry_0 5 rfl rfl)
theorem dJ14_getFirstEntry_6 : decode cJ14_getFirstEntry 6 = .ok (.ifnull 18, 3) := dk_198 0 18 (dk_at dksJ14_getFirstEntry_0 6 rfl rfl)
theorem dJ14_getFirstEntry_9 : decode cJ14_getFirstEntry 9 = .ok (.aload_n 1, 1) := dk_43 (dk_at dksJ14_getFirstEntry_0 9 rfl rfl)
theorem dJ14_getFirstEntry_10 : decode cJ14_getFirstEntry 10 = .ok (.getfield 111, 3) := dk_180 0 111 (dk_at dksJ14_getFirstEntry_0 10 rfl rfl)
theorem dJ14_getFirstEntry_13 : decode cJ14_getFirstEntry 13 = .ok (.ifnull 11, 3) := dk_198 0 11 (dk_at dksJ14_getFirstEntry_0 13 rfl rfl)
theorem dJ14_getFirstEntry_16 : decode cJ14_getFirstEntry 16 = .ok (.aload_n 1, 1) := dk_43 (dk_at dksJ14_getFirstEntry_0 16 rfl rfl)
theorem dJ14_getFirstEntry_17 : decode cJ14_getFirstEntry 17 = .ok (.getfield 111, 3) := dk_180 0 111 (dk_at dksJ14_getFirstEntry_0 17 rfl rfl)
theorem dJ14_getFirstEntry_20 : decode cJ14_getFirstEntry 20 = .ok (.astore_n 1, 1) := dk_76 (dk_at dksJ14_getFirstEntry_0 20 rfl rfl)
theorem dJ14_getFirstEntry_21 : decode cJ14_getFirstEntry 21 = .ok (.goto (-12), 3) := dk_167 255 244 (dk_at dksJ14_getFirstEntry_0 21 rfl rfl)
theorem dJ14_getFirstEntry_24 : decode cJ14_getFirstEntry 24 = .ok (.aload_n 1, 1) := dk_43 (dk_at dksJ14_getFirstEntry_1 0 rfl rfl)
theorem dJ14_getFirstEntry_25 : decode cJ14_getFirstEntry 25 = .ok (.areturn, 1) := dk_176 (dk_at dksJ14_getFirstEntry_1 1 rfl rfl)
theorem q154 : (Jvm.Cond.initialized "java/util/TreeMap") ∈ lw_all := lw_g (lw_at lw_m1 26 rfl) rfl
theorem q715 : (Jvm.Cond.selects "java/util/TreeMap" ({ cls := "java/lang/Object", name := "getClass", desc := "()Ljava/lang/Class;" } : Jvm.MethodName) ({ cls := "java/lang/Object", name := "getClass", desc := "()Ljava/lang/Class;" } : Jvm.MethodName)) ∈ lw_all := lw_g (lw_at lw_m3 107 rfl) rfl
theorem q897 : (Jvm.Cond.static ({ cls := "java/util/TreeMap", name := "successor", desc := "(Ljava/util/TreeMap$Entry;)Ljava/util/TreeMap$Entry;" } : Jvm.MethodName)) ∈ lw_all := lw_g (lw_at lw_m4 49 rfl) rfl
theorem q898 : (Jvm.Cond.code ({ cls := "java/util/TreeMap", name := "successor", desc := "(Ljava/util/TreeMap$Entry;)Ljava/util/TreeMap$Entry;" } : Jvm.MethodName) prog_63_method_74_code (3 : Nat) (Option.some (Jvm.ClassFile.FieldType.object "java/util/TreeMap$Entry"))) ∈ lw_all := lw_g (lw_at lw_m4 50 rfl) rfl
theorem q901 : (Jvm.Cond.instantiable "java/util/TreeMap" (9 : Nat)) ∈ lw_all := lw_g (lw_at lw_m4 53 rfl) rfl
theorem q903 : (Jvm.Cond.instanceMethod ({ cls := "java/util/TreeMap", name := "<init>", desc := "()V" } : Jvm.MethodName)) ∈ lw_all := lw_g (lw_at lw_m4 55 rfl) rfl
theorem q904 : (Jvm.Cond.code ({ cls := "java/util/TreeMap", name := "<init>", desc := "()V" } : Jvm.MethodName) prog_63_method_1_code (1 : Nat) (Option.none : Option Jvm.ClassFile.FieldType)) ∈ lw_all := lw_g (lw_at lw_m4 56 rfl) rfl
theorem q905 : (Jvm.Cond.methodLink "java/util/TreeMap" (1 : Nat) ({ cls := "java/util/AbstractMap", name := "<init>", desc := "()V" } : Jvm.MethodName)) ∈ lw_all := lw_g (lw_at lw_m4 57 rfl) rfl
theorem q909 : (Jvm.Cond.fieldLink "java/util/TreeMap" (16 : Nat) "java/util/TreeMap" "comparator" "Ljava/util/Comparator;") ∈ lw_all := lw_g (lw_at lw_m4 61 rfl) rfl
theorem q910 : (Jvm.Cond.fieldLink "java/util/TreeMap" (101 : Nat) "java/util/TreeMap" "root" "Ljava/util/TreeMap$Entry;") ∈ lw_all := lw_g (lw_at lw_m4 62 rfl) rfl
theorem q911 : (Jvm.Cond.fieldLink "java/util/TreeMap" (7 : Nat) "java/util/TreeMap" "size" "I") ∈ lw_all := lw_g (lw_at lw_m4 63 rfl) rfl
theorem q912 : (Jvm.Cond.fieldLink "java/util/TreeMap" (13 : Nat) "java/util/TreeMap" "modCount" "I") ∈ lw_all := lw_g (lw_at lw_m4 64 rfl) rfl
theorem q914 : (Jvm.Cond.fieldLink "java/util/TreeMap" (233 : Nat) "java/util/TreeMap" "values" "Ljava/util/Collection;") ∈ lw_all := lw_g (lw_at lw_m4 66 rfl) rfl
theorem q915 : (Jvm.Cond.sameField "java/util/TreeMap" "java/util/AbstractMap" "values" "Ljava/util/Collection;") ∈ lw_all := lw_g (lw_at lw_m4 67 rfl) rfl
theorem q916 : (Jvm.Cond.laysFinal "java/util/TreeMap" "java/util/TreeMap" "comparator" "Ljava/util/Comparator;") ∈ lw_all := lw_g (lw_at lw_m4 68 rfl) rfl
theorem q917 : (Jvm.Cond.soleField "java/util/TreeMap" "comparator") ∈ lw_all := lw_g (lw_at lw_m4 69 rfl) rfl
theorem q918 : (Jvm.Cond.lays "java/util/TreeMap" "java/util/TreeMap" "root" "Ljava/util/TreeMap$Entry;") ∈ lw_all := lw_g (lw_at lw_m4 70 rfl) rfl
theorem q919 : (Jvm.Cond.soleField "java/util/TreeMap" "root") ∈ lw_all := lw_g (lw_at lw_m4 71 rfl) rfl
theorem q920 : (Jvm.Cond.lays "java/util/TreeMap" "java/util/TreeMap" "size" "I") ∈ lw_all := lw_g (lw_at lw_m4 72 rfl) rfl
theorem q921 : (Jvm.Cond.soleField "java/util/TreeMap" "size") ∈ lw_all := lw_g (lw_at lw_m4 73 rfl) rfl
theorem q922 : (Jvm.Cond.lays "java/util/TreeMap" "java/util/TreeMap" "modCount" "I") ∈ lw_all := lw_g (lw_at lw_m4 74 rfl) rfl
theorem q923 : (Jvm.Cond.soleField "java/util/TreeMap" "modCount") ∈ lw_all := lw_g (lw_at lw_m4 75 rfl) rfl
theorem q924 : (Jvm.Cond.lays "java/util/TreeMap" "java/util/TreeMap" "entrySet" "Ljava/util/TreeMap$EntrySet;") ∈ lw_all := lw_g (lw_at lw_m4 76 rfl) rfl
theorem q925 : (Jvm.Cond.soleField "java/util/TreeMap" "entrySet") ∈ lw_all := lw_g (lw_at lw_m4 77 rfl) rfl
theorem q926 : (Jvm.Cond.lays "java/util/TreeMap" "java/util/TreeMap" "navigableKeySet" "Ljava/util/TreeMap$KeySet;") ∈ lw_all := lw_g (lw_at lw_m4 78 rfl) rfl
theorem q927 : (Jvm.Cond.soleField "java/util/TreeMap" "navigableKeySet") ∈ lw_all := lw_g (lw_at lw_m4 79 rfl) rfl
theorem q928 : (Jvm.Cond.lays "java/util/TreeMap" "java/util/TreeMap" "descendingMap" "Ljava/util/NavigableMap;") ∈ lw_all := lw_g (lw_at lw_m4 80 rfl) rfl
theorem q929 : (Jvm.Cond.soleField "java/util/TreeMap" "descendingMap") ∈ lw_all := lw_g (lw_at lw_m4 81 rfl) rfl
theorem q930 : (Jvm.Cond.lays "java/util/TreeMap" "java/util/AbstractMap" "keySet" "Ljava/util/Set;") ∈ lw_all := lw_g (lw_at lw_m4 82 rfl) rfl
theorem q932 : (Jvm.Cond.lays "java/util/TreeMap" "java/util/AbstractMap" "values" "Ljava/util/Collection;") ∈ lw_all := lw_g (lw_at lw_m4 84 rfl) rfl
theorem q934 : (Jvm.Cond.superclass "java/util/TreeMap" "java/util/AbstractMap") ∈ lw_all := lw_g (lw_at lw_m4 86 rfl) rfl
theorem q1153 : (Jvm.Cond.instanceMethod ({ cls := "java/util/TreeMap", name := "put", desc := "(Ljava/lang/Object;Ljava/lang/Object;)Ljava/lang/Object;" } : Jvm.MethodName)) ∈ lw_all := lw_g (lw_at lw_m5 65 rfl) rfl
theorem q1154 : (Jvm.Cond.selects "java/util/TreeMap" ({ cls := "java/util/TreeMap", name := "put", desc := "(Ljava/lang/Object;Ljava/lang/Object;)Ljava/lang/Object;" } : Jvm.MethodName) ({ cls := "java/util/TreeMap", name := "put", desc := "(Ljava/lang/Object;Ljava/lang/Object;)Ljava/lang/Object;" } : Jvm.MethodName)) ∈ lw_all := lw_g (lw_at lw_m5 66 rfl) rfl
theorem q1155 : (Jvm.Cond.code ({ cls := "java/util/TreeMap", name := "put", desc := "(Ljava/lang/Object;Ljava/lang/Object;)Ljava/lang/Object;" } : Jvm.MethodName) prog_63_method_21_code (3 : Nat) (Option.some (Jvm.ClassFile.FieldType.object "java/lang/Object"))) ∈ lw_all := lw_g (lw_at lw_m5 67 rfl) rfl
theorem q1156 : (Jvm.Cond.methodLink "java/util/TreeMap" (127 : Nat) ({ cls := "java/util/TreeMap", name := "put", desc := "(Ljava/lang/Object;Ljava/lang/Object;Z)Ljava/lang/Object;" } : Jvm.MethodName)) ∈ lw_all := lw_g (lw_at lw_m5 68 rfl) rfl
theorem q1157 : (Jvm.Cond.privateMethod ({ cls := "java/util/TreeMap", name := "put", desc := "(Ljava/lang/Object;Ljava/lang/Object;Z)Ljava/lang/Object;" } : Jvm.MethodName)) ∈ lw_tbl := lw_at lw_m5 69 rfl
theorem q1158 : (Jvm.Cond.instanceMethod ({ cls := "java/util/TreeMap", name := "put", desc := "(Ljava/lang/Object;Ljava/lang/Object;Z)Ljava/lang/Object;" } : Jvm.MethodName)) ∈ lw_all := lw_g (lw_at lw_m5 70 rfl) rfl
theorem q1159 : (Jvm.Cond.code ({ cls := "java/util/TreeMap", name := "put", desc := "(Ljava/lang/Object;Ljava/lang/Object;Z)Ljava/lang/Object;" } : Jvm.MethodName) prog_63_method_31_code (10 : Nat) (Option.some (Jvm.ClassFile.FieldType.object "java/lang/Object"))) ∈ lw_all := lw_g (lw_at lw_m5 71 rfl) rfl
theorem q1160 : (Jvm.Cond.methodLink "java/util/TreeMap" (135 : Nat) ({ cls := "java/util/TreeMap", name := "addEntryToEmptyMap", desc := "(Ljava/lang/Object;Ljava/lang/Object;)V" } : Jvm.MethodName)) ∈ lw_all := lw_g (lw_at lw_m5 72 rfl) rfl
theorem q1161 : (Jvm.Cond.privateMethod ({ cls := "java/util/TreeMap", name := "addEntryToEmptyMap", desc := "(Ljava/lang/Object;Ljava/lang/Object;)V" } : Jvm.MethodName)) ∈ lw_tbl := lw_at lw_m5 73 rfl
theorem q1162 : (Jvm.Cond.instanceMethod ({ cls := "java/util/TreeMap", name := "addEntryToEmptyMap", desc := "(Ljava/lang/Object;Ljava/lang/Object;)V" } : Jvm.MethodName)) ∈ lw_all := lw_g (lw_at lw_m5 74 rfl) rfl
theorem q1163 : (Jvm.Cond.code ({ cls := "java/util/TreeMap", name := "addEntryToEmptyMap", desc := "(Ljava/lang/Object;Ljava/lang/Object;)V" } : Jvm.MethodName) prog_63_method_30_code (3 : Nat) (Option.none : Option Jvm.ClassFile.FieldType)) ∈ lw_all := lw_g (lw_at lw_m5 75 rfl) rfl
theorem q1164 : (Jvm.Cond.methodLink "java/util/TreeMap" (123 : Nat) ({ cls := "java/util/TreeMap", name := "compare", desc := "(Ljava/lang/Object;Ljava/lang/Object;)I" } : Jvm.MethodName)) ∈ lw_all := lw_g (lw_at lw_m5 76 rfl) rfl
theorem q1165 : (Jvm.Cond.instanceMethod ({ cls := "java/util/TreeMap", name := "compare", desc := "(Ljava/lang/Object;Ljava/lang/Object;)I" } : Jvm.MethodName)) ∈ lw_all := lw_g (lw_at lw_m5 77 rfl) rfl
theorem q1166 : (Jvm.Cond.selects "java/util/TreeMap" ({ cls := "java/util/TreeMap", name := "compare", desc := "(Ljava/lang/Object;Ljava/lang/Object;)I" } : Jvm.MethodName) ({ cls := "java/util/TreeMap", name := "compare", desc := "(Ljava/lang/Object;Ljava/lang/Object;)I" } : Jvm.MethodName)) ∈ lw_all := lw_g (lw_at lw_m5 78 rfl) rfl
theorem q1167 : (Jvm.Cond.code ({ cls := "java/util/TreeMap", name := "compare", desc := "(Ljava/lang/Object;Ljava/lang/Object;)I" } : Jvm.MethodName) prog_63_method_67_code (3 : Nat) (Option.some Jvm.ClassFile.FieldType.int)) ∈ lw_all := lw_g (lw_at lw_m5 79 rfl) rfl
theorem q1168 : (Jvm.Cond.classLink "java/util/TreeMap" (99 : Nat) "java/lang/Comparable") ∈ lw_all := lw_g (lw_at lw_m5 80 rfl) rfl
theorem q1169 : (Jvm.Cond.interfaceEntry "java/util/TreeMap" (107 : Nat)) ∈ lw_tbl := lw_at lw_m5 81 rfl
theorem q1170 : (Jvm.Cond.methodLink "java/util/TreeMap" (107 : Nat) ({ cls := "java/lang/Comparable", name := "compareTo", desc := "(Ljava/lang/Object;)I" } : Jvm.MethodName)) ∈ lw_all := lw_g (lw_at lw_m5 82 rfl) rfl
theorem q1414 : (Jvm.Cond.interfaceEntry "java/util/TreeMap" (117 : Nat)) ∈ lw_tbl := lw_at lw_m6 86 rfl
theorem q1415 : (Jvm.Cond.methodLink "java/util/TreeMap" (117 : Nat) ({ cls := "java/util/Comparator", name := "compare", desc := "(Ljava/lang/Object;Ljava/lang/Object;)I" } : Jvm.MethodName)) ∈ lw_all := lw_g (lw_at lw_m6 87 rfl) rfl
theorem q1418 : (Jvm.Cond.classLink "java/util/TreeMap" (59 : Nat) "java/util/TreeMap$Entry") ∈ lw_all := lw_g (lw_at lw_m6 90 rfl) rfl
theorem q1420 : (Jvm.Cond.methodLink "java/util/TreeMap" (167 : Nat) ({ cls := "java/util/TreeMap$Entry", name := "<init>", desc := "(Ljava/lang/Object;Ljava/lang/Object;Ljava/util/TreeMap$Entry;)V" } : Jvm.MethodName)) ∈ lw_all := lw_g (lw_at lw_m6 92 rfl) rfl
theorem q1425 : (Jvm.Cond.fieldLink "java/util/TreeMap" (105 : Nat) "java/util/TreeMap$Entry" "key" "Ljava/lang/Object;") ∈ lw_all := lw_g (lw_at lw_m6 97 rfl) rfl
theorem q1428 : (Jvm.Cond.fieldLink "java/util/TreeMap" (58 : Nat) "java/util/TreeMap$Entry" "value" "Ljava/lang/Object;") ∈ lw_all := lw_g (lw_at lw_m6 100 rfl) rfl
theorem q1429 : (Jvm.Cond.fieldLink "java/util/TreeMap" (111 : Nat) "java/util/TreeMap$Entry" "left" "Ljava/util/TreeMap$Entry;") ∈ lw_all := lw_g (lw_at lw_m6 101 rfl) rfl
theorem q1430 : (Jvm.Cond.fieldLink "java/util/TreeMap" (114 : Nat) "java/util/TreeMap$Entry" "right" "Ljava/util/TreeMap$Entry;") ∈ lw_all := lw_g (lw_at lw_m6 102 rfl) rfl
theorem q1432 : (Jvm.Cond.fieldLink "java/util/TreeMap" (124 : Nat) "java/util/TreeMap$Entry" "parent" "Ljava/util/TreeMap$Entry;") ∈ lw_all := lw_g (lw_at lw_m6 104 rfl) rfl
theorem q1434 : (Jvm.Cond.fieldLink "java/util/TreeMap" (290 : Nat) "java/util/TreeMap$Entry" "color" "Z") ∈ lw_all := lw_g (lw_at lw_m6 106 rfl) rfl
theorem q1448 : (Jvm.Cond.methodLink "java/util/TreeMap" (95 : Nat) ({ cls := "java/util/Objects", name := "requireNonNull", desc := "(Ljava/lang/Object;)Ljava/lang/Object;" } : Jvm.MethodName)) ∈ lw_all := lw_g (lw_at lw_m6 120 rfl) rfl
theorem q1451 : (Jvm.Cond.methodLink "java/util/TreeMap" (139 : Nat) ({ cls := "java/util/TreeMap", name := "addEntry", desc := "(Ljava/lang/Object;Ljava/lang/Object;Ljava/util/TreeMap$Entry;Z)V" } : Jvm.MethodName)) ∈ lw_all := lw_g (lw_at lw_m6 123 rfl) rfl
theorem q1452 : (Jvm.Cond.privateMethod ({ cls := "java/util/TreeMap", name := "addEntry", desc := "(Ljava/lang/Object;Ljava/lang/Object;Ljava/util/TreeMap$Entry;Z)V" } : Jvm.MethodName)) ∈ lw_tbl := lw_at lw_m6 124 rfl
theorem q1453 : (Jvm.Cond.instanceMethod ({ cls := "java/util/TreeMap", name := "addEntry", desc := "(Ljava/lang/Object;Ljava/lang/Object;Ljava/util/TreeMap$Entry;Z)V" } : Jvm.MethodName)) ∈ lw_all := lw_g (lw_at lw_m6 125 rfl) rfl
theorem q1454 : (Jvm.Cond.code ({ cls := "java/util/TreeMap", name := "addEntry", desc := "(Ljava/lang/Object;Ljava/lang/Object;Ljava/util/TreeMap$Entry;Z)V" } : Jvm.MethodName) prog_63_method_29_code (6 : Nat) (Option.none : Option Jvm.ClassFile.FieldType)) ∈ lw_all := lw_g (lw_at lw_m6 126 rfl) rfl
theorem q1455 : (Jvm.Cond.methodLink "java/util/TreeMap" (170 : Nat) ({ cls := "java/util/TreeMap", name := "fixAfterInsertion", desc := "(Ljava/util/TreeMap$Entry;)V" } : Jvm.MethodName)) ∈ lw_all := lw_g (lw_at lw_m6 127 rfl) rfl
theorem q1456 : (Jvm.Cond.privateMethod ({ cls := "java/util/TreeMap", name := "fixAfterInsertion", desc := "(Ljava/util/TreeMap$Entry;)V" } : Jvm.MethodName)) ∈ lw_tbl := lw_at lw_m6 128 rfl
theorem q1457 : (Jvm.Cond.instanceMethod ({ cls := "java/util/TreeMap", name := "fixAfterInsertion", desc := "(Ljava/util/TreeMap$Entry;)V" } : Jvm.MethodName)) ∈ lw_all := lw_g (lw_at lw_m6 129 rfl) rfl
theorem q1458 : (Jvm.Cond.code ({ cls := "java/util/TreeMap", name := "fixAfterInsertion", desc := "(Ljava/util/TreeMap$Entry;)V" } : Jvm.MethodName) prog_63_method_83_code (3 : Nat) (Option.none : Option Jvm.ClassFile.FieldType)) ∈ lw_all := lw_g (lw_at lw_m6 130 rfl) rfl
theorem q1459 : (Jvm.Cond.methodLink "java/util/TreeMap" (294 : Nat) ({ cls := "java/util/TreeMap", name := "parentOf", desc := "(Ljava/util/TreeMap$Entry;)Ljava/util/TreeMap$Entry;" } : Jvm.MethodName)) ∈ lw_all := lw_g (lw_at lw_m6 131 rfl) rfl
theorem q1460 : (Jvm.Cond.static ({ cls := "java/util/TreeMap", name := "parentOf", desc := "(Ljava/util/TreeMap$Entry;)Ljava/util/TreeMap$Entry;" } : Jvm.MethodName)) ∈ lw_all := lw_g (lw_at lw_m6 132 rfl) rfl
theorem q1461 : (Jvm.Cond.code ({ cls := "java/util/TreeMap", name := "parentOf", desc := "(Ljava/util/TreeMap$Entry;)Ljava/util/TreeMap$Entry;" } : Jvm.MethodName) prog_63_method_77_code (1 : Nat) (Option.some (Jvm.ClassFile.FieldType.object "java/util/TreeMap$Entry"))) ∈ lw_all := lw_g (lw_at lw_m6 133 rfl) rfl
theorem q1462 : (Jvm.Cond.methodLink "java/util/TreeMap" (297 : Nat) ({ cls := "java/util/TreeMap", name := "leftOf", desc := "(Ljava/util/TreeMap$Entry;)Ljava/util/TreeMap$Entry;" } : Jvm.MethodName)) ∈ lw_all := lw_g (lw_at lw_m6 134 rfl) rfl
theorem q1463 : (Jvm.Cond.static ({ cls := "java/util/TreeMap", name := "leftOf", desc := "(Ljava/util/TreeMap$Entry;)Ljava/util/TreeMap$Entry;" } : Jvm.MethodName)) ∈ lw_all := lw_g (lw_at lw_m6 135 rfl) rfl
theorem q1464 : (Jvm.Cond.code ({ cls := "java/util/TreeMap", name := "leftOf", desc := "(Ljava/util/TreeMap$Entry;)Ljava/util/TreeMap$Entry;" } : Jvm.MethodName) prog_63_method_79_code (1 : Nat) (Option.some (Jvm.ClassFile.FieldType.object "java/util/TreeMap$Entry"))) ∈ lw_all := lw_g (lw_at lw_m6 136 rfl) rfl
theorem q1465 : (Jvm.Cond.methodLink "java/util/TreeMap" (300 : Nat) ({ cls := "java/util/TreeMap", name := "rightOf", desc := "(Ljava/util/TreeMap$Entry;)Ljava/util/TreeMap$Entry;" } : Jvm.MethodName)) ∈ lw_all := lw_g (lw_at lw_m6 137 rfl) rfl
theorem q1466 : (Jvm.Cond.static ({ cls := "java/util/TreeMap", name := "rightOf", desc := "(Ljava/util/TreeMap$Entry;)Ljava/util/TreeMap$Entry;" } : Jvm.MethodName)) ∈ lw_all := lw_g (lw_at lw_m6 138 rfl) rfl
theorem q1467 : (Jvm.Cond.code ({ cls := "java/util/TreeMap", name := "rightOf", desc := "(Ljava/util/TreeMap$Entry;)Ljava/util/TreeMap$Entry;" } : Jvm.MethodName) prog_63_method_80_code (1 : Nat) (Option.some (Jvm.ClassFile.FieldType.object "java/util/TreeMap$Entry"))) ∈ lw_all := lw_g (lw_at lw_m6 139 rfl) rfl
theorem q1468 : (Jvm.Cond.methodLink "java/util/TreeMap" (303 : Nat) ({ cls := "java/util/TreeMap", name := "colorOf", desc := "(Ljava/util/TreeMap$Entry;)Z" } : Jvm.MethodName)) ∈ lw_all := lw_g (lw_at lw_m6 140 rfl) rfl
theorem q1469 : (Jvm.Cond.static ({ cls := "java/util/TreeMap", name := "colorOf", desc := "(Ljava/util/TreeMap$Entry;)Z" } : Jvm.MethodName)) ∈ lw_all := lw_g (lw_at lw_m6 141 rfl) rfl
theorem q1470 : (Jvm.Cond.code ({ cls := "java/util/TreeMap", name := "colorOf", desc := "(Ljava/util/TreeMap$Entry;)Z" } : Jvm.MethodName) prog_63_method_76_code (1 : Nat) (Option.some Jvm.ClassFile.FieldType.boolean)) ∈ lw_all := lw_g (lw_at lw_m6 142 rfl) rfl
theorem q1471 : (Jvm.Cond.methodLink "java/util/TreeMap" (307 : Nat) ({ cls := "java/util/TreeMap", name := "setColor", desc := "(Ljava/util/TreeMap$Entry;Z)V" } : Jvm.MethodName)) ∈ lw_all := lw_g (lw_at lw_m6 143 rfl) rfl
theorem q1472 : (Jvm.Cond.static ({ cls := "java/util/TreeMap", name := "setColor", desc := "(Ljava/util/TreeMap$Entry;Z)V" } : Jvm.MethodName)) ∈ lw_all := lw_g (lw_at lw_m6 144 rfl) rfl
theorem q1473 : (Jvm.Cond.code ({ cls := "java/util/TreeMap", name := "setColor", desc := "(Ljava/util/TreeMap$Entry;Z)V" } : Jvm.MethodName) prog_63_method_78_code (2 : Nat) (Option.none : Option Jvm.ClassFile.FieldType)) ∈ lw_all := lw_g (lw_at lw_m6 145 rfl) rfl
theorem q1474 : (Jvm.Cond.methodLink "java/util/TreeMap" (311 : Nat) ({ cls := "java/util/TreeMap", name := "rotateLeft", desc := "(Ljava/util/TreeMap$Entry;)V" } : Jvm.MethodName)) ∈ lw_all := lw_g (lw_at lw_m6 146 rfl) rfl
theorem q1475 : (Jvm.Cond.privateMethod ({ cls := "java/util/TreeMap", name := "rotateLeft", desc := "(Ljava/util/TreeMap$Entry;)V" } : Jvm.MethodName)) ∈ lw_tbl := lw_at lw_m6 147 rfl
theorem q1476 : (Jvm.Cond.instanceMethod ({ cls := "java/util/TreeMap", name := "rotateLeft", desc := "(Ljava/util/TreeMap$Entry;)V" } : Jvm.MethodName)) ∈ lw_all := lw_g (lw_at lw_m6 148 rfl) rfl
theorem q1477 : (Jvm.Cond.code ({ cls := "java/util/TreeMap", name := "rotateLeft", desc := "(Ljava/util/TreeMap$Entry;)V" } : Jvm.MethodName) prog_63_method_81_code (3 : Nat) (Option.none : Option Jvm.ClassFile.FieldType)) ∈ lw_all := lw_g (lw_at lw_m6 149 rfl) rfl
theorem q1478 : (Jvm.Cond.methodLink "java/util/TreeMap" (314 : Nat) ({ cls := "java/util/TreeMap", name := "rotateRight", desc := "(Ljava/util/TreeMap$Entry;)V" } : Jvm.MethodName)) ∈ lw_all := lw_g (lw_at lw_m6 150 rfl) rfl
theorem q1479 : (Jvm.Cond.privateMethod ({ cls := "java/util/TreeMap", name := "rotateRight", desc := "(Ljava/util/TreeMap$Entry;)V" } : Jvm.MethodName)) ∈ lw_tbl := lw_at lw_m6 151 rfl
theorem q1480 : (Jvm.Cond.instanceMethod ({ cls := "java/util/TreeMap", name := "rotateRight", desc := "(Ljava/util/TreeMap$Entry;)V" } : Jvm.MethodName)) ∈ lw_all := lw_g (lw_at lw_m6 152 rfl) rfl
theorem q1481 : (Jvm.Cond.code ({ cls := "java/util/TreeMap", name := "rotateRight", desc := "(Ljava/util/TreeMap$Entry;)V" } : Jvm.MethodName) prog_63_method_82_code (3 : Nat) (Option.none : Option Jvm.ClassFile.FieldType)) ∈ lw_all := lw_g (lw_at lw_m6 153 rfl) rfl
theorem q1496 : (Jvm.Cond.instanceMethod ({ cls := "java/util/TreeMap", name := "size", desc := "()I" } : Jvm.MethodName)) ∈ lw_all := lw_g (lw_at lw_m6 168 rfl) rfl
theorem q1497 : (Jvm.Cond.selects "java/util/TreeMap" ({ cls := "java/util/TreeMap", name := "size", desc := "()I" } : Jvm.MethodName) ({ cls := "java/util/TreeMap", name := "size", desc := "()I" } : Jvm.MethodName)) ∈ lw_all := lw_g (lw_at lw_m6 169 rfl) rfl
theorem q1498 : (Jvm.Cond.code ({ cls := "java/util/TreeMap", name := "size", desc := "()I" } : Jvm.MethodName) prog_63_method_5_code (1 : Nat) (Option.some Jvm.ClassFile.FieldType.int)) ∈ lw_all := lw_g (lw_at lw_m6 170 rfl) rfl
theorem q1501 : (Jvm.Cond.instanceMethod ({ cls := "java/util/TreeMap", name := "values", desc := "()Ljava/util/Collection;" } : Jvm.MethodName)) ∈ lw_all := lw_g (lw_at lw_m6 173 rfl) rfl
theorem q1502 : (Jvm.Cond.selects "java/util/TreeMap" ({ cls := "java/util/TreeMap", name := "values", desc := "()Ljava/util/Collection;" } : Jvm.MethodName) ({ cls := "java/util/TreeMap", name := "values", desc := "()Ljava/util/Collection;" } : Jvm.MethodName)) ∈ lw_all := lw_g (lw_at lw_m6 174 rfl) rfl
theorem q1503 : (Jvm.Cond.code ({ cls := "java/util/TreeMap", name := "values", desc := "()Ljava/util/Collection;" } : Jvm.MethodName) prog_63_method_52_code (2 : Nat) (Option.some (Jvm.ClassFile.FieldType.object "java/util/Collection"))) ∈ lw_all := lw_g (lw_at lw_m6 175 rfl) rfl
theorem q1504 : (Jvm.Cond.classLink "java/util/TreeMap" (237 : Nat) "java/util/TreeMap$Values") ∈ lw_all := lw_g (lw_at lw_m6 176 rfl) rfl
theorem q1506 : (Jvm.Cond.methodLink "java/util/TreeMap" (239 : Nat) ({ cls := "java/util/TreeMap$Values", name := "<init>", desc := "(Ljava/util/TreeMap;)V" } : Jvm.MethodName)) ∈ lw_all := lw_g (lw_at lw_m6 178 rfl) rfl
theorem q1531 : (Jvm.Cond.instanceMethod ({ cls := "java/util/TreeMap", name := "getFirstEntry", desc := "()Ljava/util/TreeMap$Entry;" } : Jvm.MethodName)) ∈ lw_all := lw_g (lw_at lw_m6 203 rfl) rfl
theorem q1532 : (Jvm.Cond.selects "java/util/TreeMap" ({ cls := "java/util/TreeMap", name := "getFirstEntry", desc := "()Ljava/util/TreeMap$Entry;" } : Jvm.MethodName) ({ cls := "java/util/TreeMap", name := "getFirstEntry", desc := "()Ljava/util/TreeMap$Entry;" } : Jvm.MethodName)) ∈ lw_all := lw_g (lw_at lw_m6 204 rfl) rfl
theorem q1533 : (Jvm.Cond.code ({ cls := "java/util/TreeMap", name := "getFirstEntry", desc := "()Ljava/util/TreeMap$Entry;" } : Jvm.MethodName) prog_63_method_72_code (2 : Nat) (Option.some (Jvm.ClassFile.FieldType.object "java/util/TreeMap$Entry"))) ∈ lw_all := lw_g (lw_at lw_m6 205 rfl) rfl
theorem q2788 : (Jvm.Cond.castable "java/util/TreeMap" "java/lang/Object") ∈ lw_tbl := lw_at lw_m12 20 rfl
theorem in_J14 : ∀ w ∈ wsJ140, w ∈ lw_all := lw_in wsJ140 [930, 932, 916, 918, 920, 922, 924, 926, 928] (by decide +kernel) (by decide +kernel)
/-! java/lang/Record -/
set_option maxRecDepth 100000
def RJ15 : String := "java/lang/Record"
abbrev cJ15_init : ByteArray := prog_36_method_1_code
def yJ15_init : MethodName := ⟨RJ15, "<init>", "()V"⟩
theorem dJ15_init_0 : decode cJ15_init 0 = .ok (.aload_n 0, 1) := by decide +kernel
theorem dJ15_init_1 : decode cJ15_init 1 = .ok (.invokespecial 1, 3) := by decide +kernel
theorem dJ15_init_4 : decode cJ15_init 4 = .ok (.return_, 1) := by decide +kernel
theorem q155 : (Jvm.Cond.initialized "java/lang/Record") ∈ lw_all := lw_g (lw_at lw_m1 27 rfl) rfl
theorem q941 : (Jvm.Cond.instanceMethod ({ cls := "java/lang/Record", name := "<init>", desc := "()V" } : Jvm.MethodName)) ∈ lw_all := lw_g (lw_at lw_m4 93 rfl) rfl
theorem q942 : (Jvm.Cond.code ({ cls := "java/lang/Record", name := "<init>", desc := "()V" } : Jvm.MethodName) prog_36_method_1_code (1 : Nat) (Option.none : Option Jvm.ClassFile.FieldType)) ∈ lw_all := lw_g (lw_at lw_m4 94 rfl) rfl
theorem q943 : (Jvm.Cond.methodLink "java/lang/Record" (1 : Nat) ({ cls := "java/lang/Object", name := "<init>", desc := "()V" } : Jvm.MethodName)) ∈ lw_all := lw_g (lw_at lw_m4 95 rfl) rfl
/-! java/lang/AbstractStringBuilder -/
set_option maxRecDepth 100000
def RJ16 : String := "java/lang/AbstractStringBuilder"
abbrev cJ16_init : ByteArray := prog_23_method_2_code
def yJ16_init : MethodName := ⟨RJ16, "<init>", "(I)V"⟩
def dkwJ16_init_1 : List UInt8 := [167, 0, 16, 42, 27, 184, 0, 26, 181, 0, 15, 42, 4, 181, 0, 22, 177]
abbrev dktJ16_init_1 : List UInt8 := dkwJ16_init_1 ++ []
def dkwJ16_init_0 : List UInt8 := [42, 183, 0, 3, 178, 0, 18, 153, 0, 18, 42, 27, 188, 8, 181, 0, 15, 42, 3, 181, 0, 22]
abbrev dktJ16_init_0 : List UInt8 := dkwJ16_init_0 ++ dktJ16_init_1
theorem dksJ16_init_0 : cJ16_init.data.toList.drop 0 = dktJ16_init_0 := by decide +kernel
theorem dksJ16_init_1 : cJ16_init.data.toList.drop 22 = dktJ16_init_1 := dk_seg dksJ16_init_0 22 rfl rfl
theorem dJ16_init_0 : decode cJ16_init 0 = .ok (.aload_n 0, 1) := dk_42 (dk_at dksJ16_init_0 0 rfl rfl)
theorem dJ16_init_1 : decode cJ16_init 1 = .ok (.invokespecial 3, 3) := dk_183 0 3 (dk_at dksJ16_init_0 1 rfl rfl)
theorem dJ16_init_4 : decode cJ16_init 4 = .ok (.getstatic 18, 3) := dk_178 0 18 (dk_at dksJ16_init_0 4 rfl rfl)
theorem dJ16_init_7 : decode cJ16_init 7 = .ok (.ifCond .eq 18, 3) := dk_153 0 18 (dk_at dksJ16_init_0 7 rfl rfl)
theorem dJ16_init_10 : decode cJ16_init 10 = .ok (.aload_n 0, 1) := dk_42 (dk_at dksJ16_init_0 10 rfl rfl)
theorem dJ16_init_11 : decode cJ16_init 11 = .ok (.iload_n 1, 1) := dk_27 (dk_at dksJ16_init_0 11 rfl rfl)
theorem dJ16_init_12 : decode cJ16_init 12 = .ok (.newarray .byte, 2) := dk_188_8 (dk_at dksJ16_init_0 12 rfl rfl)
theorem dJ16_init_14 : decode cJ16_init 14 = .ok (.putfield 15, 3) := dk_181 0 15 (dk_at dksJ16_init_0 14 rfl rfl)
theorem dJ16_init_17 : decode cJ16_init 17 = .ok (.aload_n 0, 1) := dk_42 (dk_at dksJ16_init_0 17 rfl rfl)
theorem dJ16_init_18 : decode cJ16_init 18 = .ok (.iconst 0, 1) := dk_3 (dk_at dksJ16_init_0 18 rfl rfl)
theorem dJ16_init_19 : decode cJ16_init 19 = .ok (.putfield 22, 3) := dk_181 0 22 (dk_at dksJ16_init_0 19 rfl rfl)
theorem dJ16_init_22 : decode cJ16_init 22 = .ok (.goto 16, 3) := dk_167 0 16 (dk_at dksJ16_init_1 0 rfl rfl)
theorem dJ16_init_25 : decode cJ16_init 25 = .ok (.aload_n 0, 1) := dk_42 (dk_at dksJ16_init_1 3 rfl rfl)
theorem dJ16_init_26 : decode cJ16_init 26 = .ok (.iload_n 1, 1) := dk_27 (dk_at dksJ16_init_1 4 rfl rfl)
theorem dJ16_init_27 : decode cJ16_init 27 = .ok (.invokestatic 26, 3) := dk_184 0 26 (dk_at dksJ16_init_1 5 rfl rfl)
theorem dJ16_init_30 : decode cJ16_init 30 = .ok (.putfield 15, 3) := dk_181 0 15 (dk_at dksJ16_init_1 8 rfl rfl)
theorem dJ16_init_33 : decode cJ16_init 33 = .ok (.aload_n 0, 1) := dk_42 (dk_at dksJ16_init_1 11 rfl rfl)
theorem dJ16_init_34 : decode cJ16_init 34 = .ok (.iconst 1, 1) := dk_4 (dk_at dksJ16_init_1 12 rfl rfl)
theorem dJ16_init_35 : decode cJ16_init 35 = .ok (.putfield 22, 3) := dk_181 0 22 (dk_at dksJ16_init_1 13 rfl rfl)
theorem dJ16_init_38 : decode cJ16_init 38 = .ok (.return_, 1) := dk_177 (dk_at dksJ16_init_1 16 rfl rfl)
abbrev cJ16_append : ByteArray := prog_23_method_31_code
def yJ16_append : MethodName := ⟨RJ16, "append", "(C)Ljava/lang/AbstractStringBuilder;"⟩
def dkwJ16_append_3 : List UInt8 := [181, 0, 79, 27, 184, 0, 197, 42, 176]
abbrev dktJ16_append_3 : List UInt8 := dkwJ16_append_3 ++ []
def dkwJ16_append_2 : List UInt8 := [182, 0, 83, 153, 0, 7, 42, 182, 0, 195, 42, 180, 0, 15, 42, 89, 180, 0, 79, 90, 4, 96]
abbrev dktJ16_append_2 : List UInt8 := dkwJ16_append_2 ++ dktJ16_append_3
def dkwJ16_append_1 : List UInt8 := [42, 180, 0, 15, 42, 89, 180, 0, 79, 90, 4, 96, 181, 0, 79, 27, 145, 84, 167, 0, 33, 42]
abbrev dktJ16_append_1 : List UInt8 := dkwJ16_append_1 ++ dktJ16_append_2
def dkwJ16_append_0 : List UInt8 := [42, 42, 180, 0, 79, 4, 96, 182, 0, 100, 42, 182, 0, 83, 153, 0, 31, 27, 184, 0, 191, 153, 0, 24]
abbrev dktJ16_append_0 : List UInt8 := dkwJ16_append_0 ++ dktJ16_append_1
theorem dksJ16_append_0 : cJ16_append.data.toList.drop 0 = dktJ16_append_0 := by decide +kernel
theorem dksJ16_append_1 : cJ16_append.data.toList.drop 24 = dktJ16_append_1 := dk_seg dksJ16_append_0 24 rfl rfl
theorem dksJ16_append_2 : cJ16_append.data.toList.drop 46 = dktJ16_append_2 := dk_seg dksJ16_append_1 22 rfl rfl
theorem dksJ16_append_3 : cJ16_append.data.toList.drop 68 = dktJ16_append_3 := dk_seg dksJ16_append_2 22 rfl rfl
theorem dJ16_append_0 : decode cJ16_append 0 = .ok (.aload_n 0, 1) := dk_42 (dk_at dksJ16_append_0 0 rfl rfl)
theorem dJ16_append_1 : decode cJ16_append 1 = .ok (.aload_n 0, 1) := dk_42 (dk_at dksJ16_append_0 1 rfl rfl)
theorem dJ16_append_2 : decode cJ16_append 2 = .ok (.getfield 79, 3) := dk_180 0 79 (dk_at dksJ16_append_0 2 rfl rfl)
theorem dJ16_append_5 : decode cJ16_append 5 = .ok (.iconst 1, 1) := dk_4 (dk_at dksJ16_append_0 5 rfl rfl)
theorem dJ16_append_6 : decode cJ16_append 6 = .ok (.iadd, 1) := dk_96 (dk_at dksJ16_append_0 6 rfl rfl)
theorem dJ16_append_7 : decode cJ16_append 7 = .ok (.invokevirtual 100, 3) := dk_182 0 100 (dk_at dksJ16_append_0 7 rfl rfl)
theorem dJ16_append_10 : decode cJ16_append 10 = .ok (.aload_n 0, 1) := dk_42 (dk_at dksJ16_append_0 10 rfl rfl)
theorem dJ16_append_11 : decode cJ16_append 11 = .ok (.invokevirtual 83, 3) := dk_182 0 83 (dk_at dksJ16_append_0 11 rfl rfl)
theorem dJ16_append_14 : decode cJ16_append 14 = .ok (.ifCond .eq 31, 3) := dk_153 0 31 (dk_at dksJ16_append_0 14 rfl rfl)
theorem dJ16_append_17 : decode cJ16_append 17 = .ok (.iload_n 1, 1) := dk_27 (dk_at dksJ16_append_0 17 rfl rfl)
theorem dJ16_append_18 : decode cJ16_append 18 = .ok (.invokestatic 191, 3) := dk_184 0 191 (dk_at dksJ16_append_0 18 rfl rfl)
theorem dJ16_append_21 : decode cJ16_append 21 = .ok (.ifCond .eq 24, 3) := dk_153 0 24 (dk_at dksJ16_append_0 21 rfl rfl)
theorem dJ16_append_24 : decode cJ16_append 24 = .ok (.aload_n 0, 1) := dk_42 (dk_at dksJ16_append_1 0 rfl rfl)
theorem dJ16_append_25 : decode cJ16_append 25 = .ok (.getfield 15, 3) := dk_180 0 15 (dk_at dksJ16_append_1 1 rfl rfl)
theorem dJ16_append_28 : decode cJ16_append 28 = .ok (.aload_n 0, 1) := dk_42 (dk_at dksJ16_append_1 4 rfl rfl)
theorem dJ16_append_29 : decode cJ16_append 29 = .ok (.dup, 1) := dk_89 (dk_at dksJ16_append_1 5 rfl rfl)
theorem dJ16_append_30 : decode cJ16_append 30 = .ok (.getfield 79, 3) := dk_180 0 79 (dk_at dksJ16_append_1 6 rfl rfl)
theorem dJ16_append_33 : decode cJ16_append 33 = .ok (.dup_x1, 1) := dk_90 (dk_at dksJ16_append_1 9 rfl rfl)
theorem dJ16_append_34 : decode cJ16_append 34 = .ok (.iconst 1, 1) := dk_4 (dk_at dksJ16_append_1 10 rfl rfl)
theorem dJ16_append_35 : decode cJ16_append 35 = .ok (.iadd, 1) := dk_96 (dk_at dksJ16_append_1 11 rfl rfl)
theorem dJ16_append_36 : decode cJ16_append 36 = .ok (.putfield 79, 3) := dk_181 0 79 (dk_at dksJ16_append_1 12 rfl rfl)
theorem dJ16_append_39 : decode cJ16_append 39 = .ok (.iload_n 1, 1) := dk_27 (dk_at dksJ16_append_1 15 rfl rfl)
theorem dJ16_append_40 : decode cJ16_append 40 = .ok (.i2b, 1) := dk_145 (dk_at dksJ16_append_1 16 rfl rfl)
theorem dJ16_append_41 : decode cJ16_append 41 = .ok (.bastore, 1) := dk_84 (dk_at dksJ16_append_1 17 rfl rfl)
theorem dJ16_append_42 : decode cJ16_append 42 = .ok (.goto 33, 3) := dk_167 0 33 (dk_at dksJ16_append_1 18 rfl rfl)
theorem dJ16_append_45 : decode cJ16_append 45 = .ok (.aload_n 0, 1) := dk_42 (dk_at dksJ16_append_1 21 rfl rfl)
theorem dJ16_append_46 : decode cJ16_append 46 = .ok (.invokevirtual 83, 3) := dk_182 0 83 (dk_at dksJ16_append_2 0 rfl rfl)
theorem dJ16_append_49 : decode cJ16_append 49 = .ok (.ifCond .eq 7, 3) := dk_153 0 7 (dk_at dksJ16_append_2 3 rfl rfl)
theorem dJ16_append_52 : decode cJ16_append 52 = .ok (.aload_n 0, 1) := dk_42 (dk_at dksJ16_append_2 6 rfl rfl)
theorem dJ16_append_53 : decode cJ16_append 53 = .ok (.invokevirtual 195, 3) := dk_182 0 195 (dk_at dksJ16_append_2 7 rfl rfl)
theorem dJ16_append_56 : decode cJ16_append 56 = .ok (.aload_n 0, 1) := dk_42 (dk_at dksJ16_append_2 10 rfl rfl)
theorem dJ16_append_57 : decode cJ16_append 57 = .ok (.getfield 15, 3) := dk_180 0 15 (dk_at dksJ16_append_2 11 rfl rfl)
theorem dJ16_append_60 : decode cJ16_append 60 = .ok (.aload_n 0, 1) := dk_42 (dk_at dksJ16_append_2 14 rfl rfl)
theorem dJ16_append_61 : decode cJ16_append 61 = .ok (.dup, 1) := dk_89 (dk_at dksJ16_append_2 15 rfl rfl)
theorem dJ16_append_62 : decode cJ16_append 62 = .ok (.getfield 79, 3) := dk_180 0 79 (dk_at dksJ16_append_2 16 rfl rfl)
theorem dJ16_append_65 : decode cJ16_append 65 = .ok (.dup_x1, 1) := dk_90 (dk_at dksJ16_append_2 19 rfl rfl)
theorem dJ16_append_66 : decode cJ16_append 66 = .ok (.iconst 1, 1) := dk_4 (dk_at dksJ16_append_2 20 rfl rfl)
theorem dJ16_append_67 : decode cJ16_append 67 = .ok (.iadd, 1) := dk_96 (dk_at dksJ16_append_2 21 rfl rfl)
theorem dJ16_append_68 : decode cJ16_append 68 = .ok (.putfield 79, 3) := dk_181 0 79 (dk_at dksJ16_append_3 0 rfl rfl)
theorem dJ16_append_71 : decode cJ16_append 71 = .ok (.iload_n 1, 1) := dk_27 (dk_at dksJ16_append_3 3 rfl rfl)
theorem dJ16_append_72 : decode cJ16_append 72 = .ok (.invokestatic 197, 3) := dk_184 0 197 (dk_at dksJ16_append_3 4 rfl rfl)
theorem dJ16_append_75 : decode cJ16_append 75 = .ok (.aload_n 0, 1) := dk_42 (dk_at dksJ16_append_3 7 rfl rfl)
theorem dJ16_append_76 : decode cJ16_append 76 = .ok (.areturn, 1) := dk_176 (dk_at dksJ16_append_3 8 rfl rfl)
abbrev cJ16_ensureCapacityInternal : ByteArray := prog_23_method_9_code
def yJ16_ensureCapacityInternal : MethodName := ⟨RJ16, "ensureCapacityInternal", "(I)V"⟩
def dkwJ16_ensureCapacityInternal_1 : List UInt8 := [182, 0, 104, 42, 180, 0, 22, 120, 184, 0, 108, 181, 0, 15, 177]
abbrev dktJ16_ensureCapacityInternal_1 : List UInt8 := dkwJ16_ensureCapacityInternal_1 ++ []
def dkwJ16_ensureCapacityInternal_0 : List UInt8 := [42, 180, 0, 15, 190, 42, 180, 0, 22, 122, 61, 27, 28, 100, 158, 0, 24, 42, 42, 180, 0, 15, 42, 27]
abbrev dktJ16_ensureCapacityInternal_0 : List UInt8 := dkwJ16_ensureCapacityInternal_0 ++ dktJ16_ensureCapacityInternal_1
theorem dksJ16_ensureCapacityInternal_0 : cJ16_ensureCapacityInternal.data.toList.drop 0 = dktJ16_ensureCapacityInternal_0 := by decide +kernel
theorem dksJ16_ensureCapacityInternal_1 : cJ16_ensureCapacityInternal.data.toList.drop 24 = dktJ16_ensureCapacityInternal_1 := dk_seg dksJ16_ensureCapacityInternal_0 24 rfl rfl
theorem dJ16_ensureCapacityInternal_0 : decode cJ16_ensureCapacityInternal 0 = .ok (.aload_n 0, 1) := dk_42 (dk_at dksJ16_ensureCapacityInternal_0 0 rfl rfl)
theorem dJ16_ensureCapacityInternal_1 : decode cJ16_ensureCapacityInternal 1 = .ok (.getfield 15, 3) := dk_180 0 15 (dk_at dksJ16_ensureCapacityInternal_0 1 rfl rfl)
theorem dJ16_ensureCapacityInternal_4 : decode cJ16_ensureCapacityInternal 4 = .ok (.arraylength, 1) := dk_190 (dk_at dksJ16_ensureCapacityInternal_0 4 rfl rfl)
theorem dJ16_ensureCapacityInternal_5 : decode cJ16_ensureCapacityInternal 5 = .ok (.aload_n 0, 1) := dk_42 (dk_at dksJ16_ensureCapacityInternal_0 5 rfl rfl)
theorem dJ16_ensureCapacityInternal_6 : decode cJ16_ensureCapacityInternal 6 = .ok (.getfield 22, 3) := dk_180 0 22 (dk_at dksJ16_ensureCapacityInternal_0 6 rfl rfl)
theorem dJ16_ensureCapacityInternal_9 : decode cJ16_ensureCapacityInternal 9 = .ok (.ishr, 1) := dk_122 (dk_at dksJ16_ensureCapacityInternal_0 9 rfl rfl)
theorem dJ16_ensureCapacityInternal_10 : decode cJ16_ensureCapacityInternal 10 = .ok (.istore_n 2, 1) := dk_61 (dk_at dksJ16_ensureCapacityInternal_0 10 rfl rfl)
theorem dJ16_ensureCapacityInternal_11 : decode cJ16_ensureCapacityInternal 11 = .ok (.iload_n 1, 1) := dk_27 (dk_at dksJ16_ensureCapacityInternal_0 11 rfl rfl)
theorem dJ16_ensureCapacityInternal_12 : decode cJ16_ensureCapacityInternal 12 = .ok (.iload_n 2, 1) := dk_28 (dk_at dksJ16_ensureCapacityInternal_0 12 rfl rfl)
theorem dJ16_ensureCapacityInternal_13 : decode cJ16_ensureCapacityInternal 13 = .ok (.isub, 1) := dk_100 (dk_at dksJ16_ensureCapacityInternal_0 13 rfl rfl)
theorem dJ16_ensureCapacityInternal_14 : decode cJ16_ensureCapacityInternal 14 = .ok (.ifCond .le 24, 3) := dk_158 0 24 (dk_at dksJ16_ensureCapacityInternal_0 14 rfl rfl)
theorem dJ16_ensureCapacityInternal_17 : decode cJ16_ensureCapacityInternal 17 = .ok (.aload_n 0, 1) := dk_42 (dk_at dksJ16_ensureCapacityInternal_0 17 rfl rfl)
theorem dJ16_ensureCapacityInternal_18 : decode cJ16_ensureCapacityInternal 18 = .ok (.aload_n 0, 1) := dk_42 (dk_at dksJ16_ensureCapacityInternal_0 18 rfl rfl)
theorem dJ16_ensureCapacityInternal_19 : decode cJ16_ensureCapacityInternal 19 = .ok (.getfield 15, 3) := dk_180 0 15 (dk_at dksJ16_ensureCapacityInternal_0 19 rfl rfl)
theorem dJ16_ensureCapacityInternal_22 : decode cJ16_ensureCapacityInternal 22 = .ok (.aload_n 0, 1) := dk_42 (dk_at dksJ16_ensureCapacityInternal_0 22 rfl rfl)
theorem dJ16_ensureCapacityInternal_23 : decode cJ16_ensureCapacityInternal 23 = .ok (.iload_n 1, 1) := dk_27 (dk_at dksJ16_ensureCapacityInternal_0 23 rfl rfl)
theorem dJ16_ensureCapacityInternal_24 : decode cJ16_ensureCapacityInternal 24 = .ok (.invokevirtual 104, 3) := dk_182 0 104 (dk_at dksJ16_ensureCapacityInternal_1 0 rfl rfl)
theorem dJ16_ensureCapacityInternal_27 : decode cJ16_ensureCapacityInternal 27 = .ok (.aload_n 0, 1) := dk_42 (dk_at dksJ16_ensureCapacityInternal_1 3 rfl rfl)
theorem dJ16_ensureCapacityInternal_28 : decode cJ16_ensureCapacityInternal 28 = .ok (.getfield 22, 3) := dk_180 0 22 (dk_at dksJ16_ensureCapacityInternal_1 4 rfl rfl)
theorem dJ16_ensureCapacityInternal_31 : decode cJ16_ensureCapacityInternal 31 = .ok (.ishl, 1) := dk_120 (dk_at dksJ16_ensureCapacityInternal_1 7 rfl rfl)
theorem dJ16_ensureCapacityInternal_32 : decode cJ16_ensureCapacityInternal 32 = .ok (.invokestatic 108, 3) := dk_184 0 108 (dk_at dksJ16_ensureCapacityInternal_1 8 rfl rfl)
theorem dJ16_ensureCapacityInternal_35 : decode cJ16_ensureCapacityInternal 35 = .ok (.putfield 15, 3) := dk_181 0 15 (dk_at dksJ16_ensureCapacityInternal_1 11 rfl rfl)
theorem dJ16_ensureCapacityInternal_38 : decode cJ16_ensureCapacityInternal 38 = .ok (.return_, 1) := dk_177 (dk_at dksJ16_ensureCapacityInternal_1 14 rfl rfl)
abbrev cJ16_newCapacity : ByteArray := prog_23_method_10_code
def yJ16_newCapacity : MethodName := ⟨RJ16, "newCapacity", "(I)I"⟩
def dkwJ16_newCapacity_2 : List UInt8 := [183, 0, 124, 191, 21, 5, 42, 180, 0, 22, 122, 172]
abbrev dktJ16_newCapacity_2 : List UInt8 := dkwJ16_newCapacity_2 ++ []
def dkwJ16_newCapacity_1 : List UInt8 := [180, 0, 22, 120, 96, 184, 0, 114, 54, 5, 21, 5, 18, 39, 160, 0, 13, 187, 0, 120, 89, 18, 122]
abbrev dktJ16_newCapacity_1 : List UInt8 := dkwJ16_newCapacity_1 ++ dktJ16_newCapacity_2
def dkwJ16_newCapacity_0 : List UInt8 := [42, 180, 0, 15, 190, 61, 27, 42, 180, 0, 22, 120, 62, 29, 28, 100, 54, 4, 28, 21, 4, 28, 5, 42]
abbrev dktJ16_newCapacity_0 : List UInt8 := dkwJ16_newCapacity_0 ++ dktJ16_newCapacity_1
theorem dksJ16_newCapacity_0 : cJ16_newCapacity.data.toList.drop 0 = dktJ16_newCapacity_0 := by decide +kernel
theorem dksJ16_newCapacity_1 : cJ16_newCapacity.data.toList.drop 24 = dktJ16_newCapacity_1 := dk_seg dksJ16_newCapacity_0 24 rfl rfl
theorem dksJ16_newCapacity_2 : cJ16_newCapacity.data.toList.drop 47 = dktJ16_newCapacity_2 := dk_seg dksJ16_newCapacity_1 23 rfl rfl
theorem dJ16_newCapacity_0 : decode cJ16_newCapacity 0 = .ok (.aload_n 0, 1) := dk_42 (dk_at dksJ16_newCapacity_0 0 rfl rfl)
theorem dJ16_newCapacity_1 : decode cJ16_newCapacity 1 = .ok (.getfield 15, 3) := dk_180 0 15 (dk_at dksJ16_newCapacity_0 1 rfl rfl)
theorem dJ16_newCapacity_4 : decode cJ16_newCapacity 4 = .ok (.arraylength, 1) := dk_190 (dk_at dksJ16_newCapacity_0 4 rfl rfl)
theorem dJ16_newCapacity_5 : decode cJ16_newCapacity 5 = .ok (.istore_n 2, 1) := dk_61 (dk_at dksJ16_newCapacity_0 5 rfl rfl)
theorem dJ16_newCapacity_6 : decode cJ16_newCapacity 6 = .ok (.iload_n 1, 1) := dk_27 (dk_at dksJ16_newCapacity_0 6 rfl rfl)
theorem dJ16_newCapacity_7 : decode cJ16_newCapacity 7 = .ok (.aload_n 0, 1) := dk_42 (dk_at dksJ16_newCapacity_0 7 rfl rfl)
theorem dJ16_newCapacity_8 : decode cJ16_newCapacity 8 = .ok (.getfield 22, 3) := dk_180 0 22 (dk_at dksJ16_newCapacity_0 8 rfl rfl)
theorem dJ16_newCapacity_11 : decode cJ16_newCapacity 11 = .ok (.ishl, 1) := dk_120 (dk_at dksJ16_newCapacity_0 11 rfl rfl)
theorem dJ16_newCapacity_12 : decode cJ16_newCapacity 12 = .ok (.istore_n 3, 1) := dk_62 (dk_at dksJ16_newCapacity_0 12 rfl rfl)
theorem dJ16_newCapacity_13 : decode cJ16_newCapacity 13 = .ok (.iload_n 3, 1) := dk_29 (dk_at dksJ16_newCapacity_0 13 rfl rfl)
theorem dJ16_newCapacity_14 : decode cJ16_newCapacity 14 = .ok (.iload_n 2, 1) := dk_28 (dk_at dksJ16_newCapacity_0 14 rfl rfl)
theorem dJ16_newCapacity_15 : decode cJ16_newCapacity 15 = .ok (.isub, 1) := dk_100 (dk_at dksJ16_newCapacity_0 15 rfl rfl)
theorem dJ16_newCapacity_16 : decode cJ16_newCapacity 16 = .ok (.istore 4, 2) := dk_54 4 (dk_at dksJ16_newCapacity_0 16 rfl rfl)
theorem dJ16_newCapacity_18 : decode cJ16_newCapacity 18 = .ok (.iload_n 2, 1) := dk_28 (dk_at dksJ16_newCapacity_0 18 rfl rfl)
theorem dJ16_newCapacity_19 : decode cJ16_newCapacity 19 = .ok (.iload 4, 2) := dk_21 4 (dk_at dksJ16_newCapacity_0 19 rfl rfl)
theorem dJ16_newCapacity_21 : decode cJ16_newCapacity 21 = .ok (.iload_n 2, 1) := dk_28 (dk_at dksJ16_newCapacity_0 21 rfl rfl)
theorem dJ16_newCapacity_22 : decode cJ16_newCapacity 22 = .ok (.iconst 2, 1) := dk_5 (dk_at dksJ16_newCapacity_0 22 rfl rfl)
theorem dJ16_newCapacity_23 : decode cJ16_newCapacity 23 = .ok (.aload_n 0, 1) := dk_42 (dk_at dksJ16_newCapacity_0 23 rfl rfl)
theorem dJ16_newCapacity_24 : decode cJ16_newCapacity 24 = .ok (.getfield 22, 3) := dk_180 0 22 (dk_at dksJ16_newCapacity_1 0 rfl rfl)
theorem dJ16_newCapacity_27 : decode cJ16_newCapacity 27 = .ok (.ishl, 1) := dk_120 (dk_at dksJ16_newCapacity_1 3 rfl rfl)
theorem dJ16_newCapacity_28 : decode cJ16_newCapacity 28 = .ok (.iadd, 1) := dk_96 (dk_at dksJ16_newCapacity_1 4 rfl rfl)
theorem dJ16_newCapacity_29 : decode cJ16_newCapacity 29 = .ok (.invokestatic 114, 3) := dk_184 0 114 (dk_at dksJ16_newCapacity_1 5 rfl rfl)
theorem dJ16_newCapacity_32 : decode cJ16_newCapacity 32 = .ok (.istore 5, 2) := dk_54 5 (dk_at dksJ16_newCapacity_1 8 rfl rfl)
theorem dJ16_newCapacity_34 : decode cJ16_newCapacity 34 = .ok (.iload 5, 2) := dk_21 5 (dk_at dksJ16_newCapacity_1 10 rfl rfl)
theorem dJ16_newCapacity_36 : decode cJ16_newCapacity 36 = .ok (.ldc 39, 2) := dk_18 39 (dk_at dksJ16_newCapacity_1 12 rfl rfl)
theorem dJ16_newCapacity_38 : decode cJ16_newCapacity 38 = .ok (.if_icmp .ne 13, 3) := dk_160 0 13 (dk_at dksJ16_newCapacity_1 14 rfl rfl)
theorem dJ16_newCapacity_41 : decode cJ16_newCapacity 41 = .ok (.new 120, 3) := dk_187 0 120 (dk_at dksJ16_newCapacity_1 17 rfl rfl)
theorem dJ16_newCapacity_44 : decode cJ16_newCapacity 44 = .ok (.dup, 1) := dk_89 (dk_at dksJ16_newCapacity_1 20 rfl rfl)
theorem dJ16_newCapacity_45 : decode cJ16_newCapacity 45 = .ok (.ldc 122, 2) := dk_18 122 (dk_at dksJ16_newCapacity_1 21 rfl rfl)
theorem dJ16_newCapacity_47 : decode cJ16_newCapacity 47 = .ok (.invokespecial 124, 3) := dk_183 0 124 (dk_at dksJ16_newCapacity_2 0 rfl rfl)
theorem dJ16_newCapacity_50 : decode cJ16_newCapacity 50 = .ok (.athrow, 1) := dk_191 (dk_at dksJ16_newCapacity_2 3 rfl rfl)
theorem dJ16_newCapacity_51 : decode cJ16_newCapacity 51 = .ok (.iload 5, 2) := dk_21 5 (dk_at dksJ16_newCapacity_2 4 rfl rfl)
theorem dJ16_newCapacity_53 : decode cJ16_newCapacity 53 = .ok (.aload_n 0, 1) := dk_42 (dk_at dksJ16_newCapacity_2 6 rfl rfl)
theorem dJ16_newCapacity_54 : decode cJ16_newCapacity 54 = .ok (.getfield 22, 3) := dk_180 0 22 (dk_at dksJ16_newCapacity_2 7 rfl rfl)
theorem dJ16_newCapacity_57 : decode cJ16_newCapacity 57 = .ok (.ishr, 1) := dk_122 (dk_at dksJ16_newCapacity_2 10 rfl rfl)
theorem dJ16_newCapacity_58 : decode cJ16_newCapacity 58 = .ok (.ireturn, 1) := dk_172 (dk_at dksJ16_newCapacity_2 11 rfl rfl)
abbrev cJ16_isLatin1 : ByteArray := prog_23_method_68_code
def yJ16_isLatin1 : MethodName := ⟨RJ16, "isLatin1", "()Z"⟩
def dkwJ16_isLatin1_0 : List UInt8 := [178, 0, 18, 153, 0, 14, 42, 180, 0, 22, 154, 0, 7, 4, 167, 0, 4, 3, 172]
abbrev dktJ16_isLatin1_0 : List UInt8 := dkwJ16_isLatin1_0 ++ []
theorem dksJ16_isLatin1_0 : cJ16_isLatin1.data.toList.drop 0 = dktJ16_isLatin1_0 := by decide +kernel
theorem dJ16_isLatin1_0 : decode cJ16_isLatin1 0 = .ok (.getstatic 18, 3) := dk_178 0 18 (dk_at dksJ16_isLatin1_0 0 rfl rfl)
theorem dJ16_isLatin1_3 : decode cJ16_isLatin1 3 = .ok (.ifCond .eq 14, 3) := dk_153 0 14 (dk_at dksJ16_isLatin1_0 3 rfl rfl)
theorem dJ16_isLatin1_6 : decode cJ16_isLatin1 6 = .ok (.aload_n 0, 1) := dk_42 (dk_at dksJ16_isLatin1_0 6 rfl rfl)
theorem dJ16_isLatin1_7 : decode cJ16_isLatin1 7 = .ok (.getfield 22, 3) := dk_180 0 22 (dk_at dksJ16_isLatin1_0 7 rfl rfl)
theorem dJ16_isLatin1_10 : decode cJ16_isLatin1 10 = .ok (.ifCond .ne 7, 3) := dk_154 0 7 (dk_at dksJ16_isLatin1_0 10 rfl rfl)
theorem dJ16_isLatin1_13 : decode cJ16_isLatin1 13 = .ok (.iconst 1, 1) := dk_4 (dk_at dksJ16_isLatin1_0 13 rfl rfl)
theorem dJ16_isLatin1_14 : decode cJ16_isLatin1 14 = .ok (.goto 4, 3) := dk_167 0 4 (dk_at dksJ16_isLatin1_0 14 rfl rfl)
theorem dJ16_isLatin1_17 : decode cJ16_isLatin1 17 = .ok (.iconst 0, 1) := dk_3 (dk_at dksJ16_isLatin1_0 17 rfl rfl)
theorem dJ16_isLatin1_18 : decode cJ16_isLatin1 18 = .ok (.ireturn, 1) := dk_172 (dk_at dksJ16_isLatin1_0 18 rfl rfl)
abbrev cJ16_inflate : ByteArray := prog_23_method_11_code
def yJ16_inflate : MethodName := ⟨RJ16, "inflate", "()V"⟩
def dkwJ16_inflate_1 : List UInt8 := [42, 180, 0, 79, 184, 0, 125, 42, 43, 181, 0, 15, 42, 4, 181, 0, 22, 177]
abbrev dktJ16_inflate_1 : List UInt8 := dkwJ16_inflate_1 ++ []
def dkwJ16_inflate_0 : List UInt8 := [42, 182, 0, 83, 154, 0, 4, 177, 42, 180, 0, 15, 190, 184, 0, 26, 76, 42, 180, 0, 15, 3, 43, 3]
abbrev dktJ16_inflate_0 : List UInt8 := dkwJ16_inflate_0 ++ dktJ16_inflate_1
theorem dksJ16_inflate_0 : cJ16_inflate.data.toList.drop 0 = dktJ16_inflate_0 := by decide +kernel
theorem dksJ16_inflate_1 : cJ16_inflate.data.toList.drop 24 = dktJ16_inflate_1 := dk_seg dksJ16_inflate_0 24 rfl rfl
theorem dJ16_inflate_0 : decode cJ16_inflate 0 = .ok (.aload_n 0, 1) := dk_42 (dk_at dksJ16_inflate_0 0 rfl rfl)
theorem dJ16_inflate_1 : decode cJ16_inflate 1 = .ok (.invokevirtual 83, 3) := dk_182 0 83 (dk_at dksJ16_inflate_0 1 rfl rfl)
theorem dJ16_inflate_4 : decode cJ16_inflate 4 = .ok (.ifCond .ne 4, 3) := dk_154 0 4 (dk_at dksJ16_inflate_0 4 rfl rfl)
theorem dJ16_inflate_7 : decode cJ16_inflate 7 = .ok (.return_, 1) := dk_177 (dk_at dksJ16_inflate_0 7 rfl rfl)
theorem dJ16_inflate_8 : decode cJ16_inflate 8 = .ok (.aload_n 0, 1) := dk_42 (dk_at dksJ16_inflate_0 8 rfl rfl)
theorem dJ16_inflate_9 : decode cJ16_inflate 9 = .ok (.getfield 15, 3) := dk_180 0 15 (dk_at dksJ16_inflate_0 9 rfl rfl)
theorem dJ16_inflate_12 : decode cJ16_inflate 12 = .ok (.arraylength, 1) := dk_190 (dk_at dksJ16_inflate_0 12 rfl rfl)
theorem dJ16_inflate_13 : decode cJ16_inflate 13 = .ok (.invokestatic 26, 3) := dk_184 0 26 (dk_at dksJ16_inflate_0 13 rfl rfl)
theorem dJ16_inflate_16 : decode cJ16_inflate 16 = .ok (.astore_n 1, 1) := dk_76 (dk_at dksJ16_inflate_0 16 rfl rfl)
theorem dJ16_inflate_17 : decode cJ16_inflate 17 = .ok (.aload_n 0, 1) := dk_42 (dk_at dksJ16_inflate_0 17 rfl rfl)
theorem dJ16_inflate_18 : decode cJ16_inflate 18 = .ok (.getfield 15, 3) := dk_180 0 15 (dk_at dksJ16_inflate_0 18 rfl rfl)
theorem dJ16_inflate_21 : decode cJ16_inflate 21 = .ok (.iconst 0, 1) := dk_3 (dk_at dksJ16_inflate_0 21 rfl rfl)
theorem dJ16_inflate_22 : decode cJ16_inflate 22 = .ok (.aload_n 1, 1) := dk_43 (dk_at dksJ16_inflate_0 22 rfl rfl)
theorem dJ16_inflate_23 : decode cJ16_inflate 23 = .ok (.iconst 0, 1) := dk_3 (dk_at dksJ16_inflate_0 23 rfl rfl)
theorem dJ16_inflate_24 : decode cJ16_inflate 24 = .ok (.aload_n 0, 1) := dk_42 (dk_at dksJ16_inflate_1 0 rfl rfl)
theorem dJ16_inflate_25 : decode cJ16_inflate 25 = .ok (.getfield 79, 3) := dk_180 0 79 (dk_at dksJ16_inflate_1 1 rfl rfl)
theorem dJ16_inflate_28 : decode cJ16_inflate 28 = .ok (.invokestatic 125, 3) := dk_184 0 125 (dk_at dksJ16_inflate_1 4 rfl rfl)
theorem dJ16_inflate_31 : decode cJ16_inflate 31 = .ok (.aload_n 0, 1) := dk_42 (dk_at dksJ16_inflate_1 7 rfl rfl)
theorem dJ16_inflate_32 : decode cJ16_inflate 32 = .ok (.aload_n 1, 1) := dk_43 (dk_at dksJ16_inflate_1 8 rfl rfl)
theorem dJ16_inflate_33 : decode cJ16_inflate 33 = .ok (.putfield 15, 3) := dk_181 0 15 (dk_at dksJ16_inflate_1 9 rfl rfl)
theorem dJ16_inflate_36 : decode cJ16_inflate 36 = .ok (.aload_n 0, 1) := dk_42 (dk_at dksJ16_inflate_1 12 rfl rfl)
theorem dJ16_inflate_37 : decode cJ16_inflate 37 = .ok (.iconst 1, 1) := dk_4 (dk_at dksJ16_inflate_1 13 rfl rfl)
theorem dJ16_inflate_38 : decode cJ16_inflate 38 = .ok (.putfield 22, 3) := dk_181 0 22 (dk_at dksJ16_inflate_1 14 rfl rfl)
theorem dJ16_inflate_41 : decode cJ16_inflate 41 = .ok (.return_, 1) := dk_177 (dk_at dksJ16_inflate_1 17 rfl rfl)
abbrev cJ16_getValue : ByteArray := prog_23_method_64_code
def yJ16_getValue : MethodName := ⟨RJ16, "getValue", "()[B"⟩
theorem dJ16_getValue_0 : decode cJ16_getValue 0 = .ok (.aload_n 0, 1) := by decide +kernel
theorem dJ16_getValue_1 : decode cJ16_getValue 1 = .ok (.getfield 15, 3) := by decide +kernel
theorem dJ16_getValue_4 : decode cJ16_getValue 4 = .ok (.areturn, 1) := by decide +kernel
abbrev cJ16_length : ByteArray := prog_23_method_6_code
def yJ16_length : MethodName := ⟨RJ16, "length", "()I"⟩
theorem dJ16_length_0 : decode cJ16_length 0 = .ok (.aload_n 0, 1) := by decide +kernel
theorem dJ16_length_1 : decode cJ16_length 1 = .ok (.getfield 79, 3) := by decide +kernel
theorem dJ16_length_4 : decode cJ16_length 4 = .ok (.ireturn, 1) := by decide +kernel
abbrev cJ16_compareTo : ByteArray := prog_23_method_5_code
def yJ16_compareTo : MethodName := ⟨RJ16, "compareTo", "(Ljava/lang/AbstractStringBuilder;)I"⟩
def dkwJ16_compareTo_4 : List UInt8 := [184, 0, 97, 172]
abbrev dktJ16_compareTo_4 : List UInt8 := dkwJ16_compareTo_4 ++ []
def dkwJ16_compareTo_3 : List UInt8 := [182, 0, 83, 153, 0, 15, 44, 45, 21, 4, 21, 5, 184, 0, 94, 167, 0, 12, 44, 45, 21, 4, 21, 5]
abbrev dktJ16_compareTo_3 : List UInt8 := dkwJ16_compareTo_3 ++ dktJ16_compareTo_4
def dkwJ16_compareTo_2 : List UInt8 := [45, 21, 4, 21, 5, 184, 0, 87, 167, 0, 12, 44, 45, 21, 4, 21, 5, 184, 0, 93, 172, 42]
abbrev dktJ16_compareTo_2 : List UInt8 := dkwJ16_compareTo_2 ++ dktJ16_compareTo_3
def dkwJ16_compareTo_1 : List UInt8 := [180, 0, 79, 54, 5, 42, 180, 0, 22, 43, 180, 0, 22, 160, 0, 32, 42, 182, 0, 83, 153, 0, 15, 44]
abbrev dktJ16_compareTo_1 : List UInt8 := dkwJ16_compareTo_1 ++ dktJ16_compareTo_2
def dkwJ16_compareTo_0 : List UInt8 := [42, 43, 166, 0, 5, 3, 172, 42, 180, 0, 15, 77, 43, 180, 0, 15, 78, 42, 180, 0, 79, 54, 4, 43]
abbrev dktJ16_compareTo_0 : List UInt8 := dkwJ16_compareTo_0 ++ dktJ16_compareTo_1
theorem dksJ16_compareTo_0 : cJ16_compareTo.data.toList.drop 0 = dktJ16_compareTo_0 := by decide +kernel
theorem dksJ16_compareTo_1 : cJ16_compareTo.data.toList.drop 24 = dktJ16_compareTo_1 := dk_seg dksJ16_compareTo_0 24 rfl rfl
theorem dksJ16_compareTo_2 : cJ16_compareTo.data.toList.drop 48 = dktJ16_compareTo_2 := dk_seg dksJ16_compareTo_1 24 rfl rfl
theorem dksJ16_compareTo_3 : cJ16_compareTo.data.toList.drop 70 = dktJ16_compareTo_3 := dk_seg dksJ16_compareTo_2 22 rfl rfl
theorem dksJ16_compareTo_4 : cJ16_compareTo.data.toList.drop 94 = dktJ16_compareTo_4 := dk_seg dksJ16_compareTo_3 24 rfl rfl
theorem dJ16_compareTo_0 : decode cJ16_compareTo 0 = .ok (.aload_n 0, 1) := dk_42 (dk_at dksJ16_compareTo_0 0 rfl rfl)
theorem dJ16_compareTo_1 : decode cJ16_compareTo 1 = .ok (.aload_n 1, 1) := dk_43 (dk_at dksJ16_compareTo_0 1 rfl rfl)
theorem dJ16_compareTo_2 : decode cJ16_compareTo 2 = .ok (.if_acmp .ne 5, 3) := dk_166 0 5 (dk_at dksJ16_compareTo_0 2 rfl rfl)
theorem dJ16_compareTo_5 : decode cJ16_compareTo 5 = .ok (.iconst 0, 1) := dk_3 (dk_at dksJ16_compareTo_0 5 rfl rfl)
theorem dJ16_compareTo_6 : decode cJ16_compareTo 6 = .ok (.ireturn, 1) := dk_172 (dk_at dksJ16_compareTo_0 6 rfl rfl)
theorem dJ16_compareTo_7 : decode cJ16_compareTo 7 = .ok (.aload_n 0, 1) := dk_42 (dk_at dksJ16_compareTo_0 7 rfl rfl)
theorem dJ16_compareTo_8 : decode cJ16_compareTo 8 = .ok (.getfield 15, 3) := dk_180 0 15 (dk_at dksJ16_compareTo_0 8 rfl rfl)
theorem dJ16_compareTo_11 : decode cJ16_compareTo 11 = .ok (.astore_n 2, 1) := dk_77 (dk_at dksJ16_compareTo_0 11 rfl rfl)
theorem dJ16_compareTo_12 : decode cJ16_compareTo 12 = .ok (.aload_n 1, 1) := dk_43 (dk_at dksJ16_compareTo_0 12 rfl rfl)
theorem dJ16_compareTo_13 : decode cJ16_compareTo 13 = .ok (.getfield 15, 3) := dk_180 0 15 (dk_at dksJ16_compareTo_0 13 rfl rfl)
theorem dJ16_compareTo_16 : decode cJ16_compareTo 16 = .ok (.astore_n 3, 1) := dk_78 (dk_at dksJ16_compareTo_0 16 rfl rfl)
theorem dJ16_compareTo_17 : decode cJ16_compareTo 17 = .ok (.aload_n 0, 1) := dk_42 (dk_at dksJ16_compareTo_0 17 rfl rfl)
theorem dJ16_compareTo_18 : decode cJ16_compareTo 18 = .ok (.getfield 79, 3) := dk_180 0 79 (dk_at dksJ16_compareTo_0 18 rfl rfl)
theorem dJ16_compareTo_21 : decode cJ16_compareTo 21 = .ok (.istore 4, 2) := dk_54 4 (dk_at dksJ16_compareTo_0 21 rfl rfl)
theorem dJ16_compareTo_23 : decode cJ16_compareTo 23 = .ok (.aload_n 1, 1) := dk_43 (dk_at dksJ16_compareTo_0 23 rfl rfl)
theorem dJ16_compareTo_24 : decode cJ16_compareTo 24 = .ok (.getfield 79, 3) := dk_180 0 79 (dk_at dksJ16_compareTo_1 0 rfl rfl)
theorem dJ16_compareTo_27 : decode cJ16_compareTo 27 = .ok (.istore 5, 2) := dk_54 5 (dk_at dksJ16_compareTo_1 3 rfl rfl)
theorem dJ16_compareTo_29 : decode cJ16_compareTo 29 = .ok (.aload_n 0, 1) := dk_42 (dk_at dksJ16_compareTo_1 5 rfl rfl)
theorem dJ16_compareTo_30 : decode cJ16_compareTo 30 = .ok (.getfield 22, 3) := dk_180 0 22 (dk_at dksJ16_compareTo_1 6 rfl rfl)
theorem dJ16_compareTo_33 : decode cJ16_compareTo 33 = .ok (.aload_n 1, 1) := dk_43 (dk_at dksJ16_compareTo_1 9 rfl rfl)
theorem dJ16_compareTo_34 : decode cJ16_compareTo 34 = .ok (.getfield 22, 3) := dk_180 0 22 (dk_at dksJ16_compareTo_1 10 rfl rfl)
theorem dJ16_compareTo_37 : decode cJ16_compareTo 37 = .ok (.if_icmp .ne 32, 3) := dk_160 0 32 (dk_at dksJ16_compareTo_1 13 rfl rfl)
theorem dJ16_compareTo_40 : decode cJ16_compareTo 40 = .ok (.aload_n 0, 1) := dk_42 (dk_at dksJ16_compareTo_1 16 rfl rfl)
theorem dJ16_compareTo_41 : decode cJ16_compareTo 41 = .ok (.invokevirtual 83, 3) := dk_182 0 83 (dk_at dksJ16_compareTo_1 17 rfl rfl)
theorem dJ16_compareTo_44 : decode cJ16_compareTo 44 = .ok (.ifCond .eq 15, 3) := dk_153 0 15 (dk_at dksJ16_compareTo_1 20 rfl rfl)
theorem dJ16_compareTo_47 : decode cJ16_compareTo 47 = .ok (.aload_n 2, 1) := dk_44 (dk_at dksJ16_compareTo_1 23 rfl rfl)
theorem dJ16_compareTo_48 : decode cJ16_compareTo 48 = .ok (.aload_n 3, 1) := dk_45 (dk_at dksJ16_compareTo_2 0 rfl rfl)
theorem dJ16_compareTo_49 : decode cJ16_compareTo 49 = .ok (.iload 4, 2) := dk_21 4 (dk_at dksJ16_compareTo_2 1 rfl rfl)
theorem dJ16_compareTo_51 : decode cJ16_compareTo 51 = .ok (.iload 5, 2) := dk_21 5 (dk_at dksJ16_compareTo_2 3 rfl rfl)
theorem dJ16_compareTo_53 : decode cJ16_compareTo 53 = .ok (.invokestatic 87, 3) := dk_184 0 87 (dk_at dksJ16_compareTo_2 5 rfl rfl)
theorem dJ16_compareTo_56 : decode cJ16_compareTo 56 = .ok (.goto 12, 3) := dk_167 0 12 (dk_at dksJ16_compareTo_2 8 rfl rfl)
theorem dJ16_compareTo_59 : decode cJ16_compareTo 59 = .ok (.aload_n 2, 1) := dk_44 (dk_at dksJ16_compareTo_2 11 rfl rfl)
theorem dJ16_compareTo_60 : decode cJ16_compareTo 60 = .ok (.aload_n 3, 1) := dk_45 (dk_at dksJ16_compareTo_2 12 rfl rfl)
theorem dJ16_compareTo_61 : decode cJ16_compareTo 61 = .ok (.iload 4, 2) := dk_21 4 (dk_at dksJ16_compareTo_2 13 rfl rfl)
theorem dJ16_compareTo_63 : decode cJ16_compareTo 63 = .ok (.iload 5, 2) := dk_21 5 (dk_at dksJ16_compareTo_2 15 rfl rfl)
theorem dJ16_compareTo_65 : decode cJ16_compareTo 65 = .ok (.invokestatic 93, 3) := dk_184 0 93 (dk_at dksJ16_compareTo_2 17 rfl rfl)
theorem dJ16_compareTo_68 : decode cJ16_compareTo 68 = .ok (.ireturn, 1) := dk_172 (dk_at dksJ16_compareTo_2 20 rfl rfl)
theorem dJ16_compareTo_69 : decode cJ16_compareTo 69 = .ok (.aload_n 0, 1) := dk_42 (dk_at dksJ16_compareTo_2 21 rfl rfl)
theorem dJ16_compareTo_70 : decode cJ16_compareTo 70 = .ok (.invokevirtual 83, 3) := dk_182 0 83 (dk_at dksJ16_compareTo_3 0 rfl rfl)
theorem dJ16_compareTo_73 : decode cJ16_compareTo 73 = .ok (.ifCond .eq 15, 3) := dk_153 0 15 (dk_at dksJ16_compareTo_3 3 rfl rfl)
theorem dJ16_compareTo_76 : decode cJ16_compareTo 76 = .ok (.aload_n 2, 1) := dk_44 (dk_at dksJ16_compareTo_3 6 rfl rfl)
theorem dJ16_compareTo_77 : decode cJ16_compareTo 77 = .ok (.aload_n 3, 1) := dk_45 (dk_at dksJ16_compareTo_3 7 rfl rfl)
theorem dJ16_compareTo_78 : decode cJ16_compareTo 78 = .ok (.iload 4, 2) := dk_21 4 (dk_at dksJ16_compareTo_3 8 rfl rfl)
theorem dJ16_compareTo_80 : decode cJ16_compareTo 80 = .ok (.iload 5, 2) := dk_21 5 (dk_at dksJ16_compareTo_3 10 rfl rfl)
theorem dJ16_compareTo_82 : decode cJ16_compareTo 82 = .ok (.invokestatic 94, 3) := dk_184 0 94 (dk_at dksJ16_compareTo_3 12 rfl rfl)
theorem dJ16_compareTo_85 : decode cJ16_compareTo 85 = .ok (.goto 12, 3) := dk_167 0 12 (dk_at dksJ16_compareTo_3 15 rfl rfl)
theorem dJ16_compareTo_88 : decode cJ16_compareTo 88 = .ok (.aload_n 2, 1) := dk_44 (dk_at dksJ16_compareTo_3 18 rfl rfl)
theorem dJ16_compareTo_89 : decode cJ16_compareTo 89 = .ok (.aload_n 3, 1) := dk_45 (dk_at dksJ16_compareTo_3 19 rfl rfl)
theorem dJ16_compareTo_90 : decode cJ16_compareTo 90 = .ok (.iload 4, 2) := dk_21 4 (dk_at dksJ16_compareTo_3 20 rfl rfl)
theorem dJ16_compareTo_92 : decode cJ16_compareTo 92 = .ok (.iload 5, 2) := dk_21 5 (dk_at dksJ16_compareTo_3 22 rfl rfl)
theorem dJ16_compareTo_94 : decode cJ16_compareTo 94 = .ok (.invokestatic 97, 3) := dk_184 0 97 (dk_at dksJ16_compareTo_4 0 rfl rfl)
theorem dJ16_compareTo_97 : decode cJ16_compareTo 97 = .ok (.ireturn, 1) := dk_172 (dk_at dksJ16_compareTo_4 3 rfl rfl)
abbrev cJ16_append_2 : ByteArray := prog_23_method_32_code
def yJ16_append_2 : MethodName := ⟨RJ16, "append", "(I)Ljava/lang/AbstractStringBuilder;"⟩
def dkwJ16_append_2_2 : List UInt8 := [42, 29, 181, 0, 79, 42, 176]
abbrev dktJ16_append_2_2 : List UInt8 := dkwJ16_append_2_2 ++ []
def dkwJ16_append_2_1 : List UInt8 := [27, 29, 42, 180, 0, 15, 184, 0, 248, 87, 167, 0, 14, 27, 28, 29, 42, 180, 0, 15, 184, 0, 251, 87]
abbrev dktJ16_append_2_1 : List UInt8 := dkwJ16_append_2_1 ++ dktJ16_append_2_2
def dkwJ16_append_2_0 : List UInt8 := [42, 180, 0, 79, 61, 28, 27, 184, 0, 245, 96, 62, 42, 29, 182, 0, 100, 42, 182, 0, 83, 153, 0, 16]
abbrev dktJ16_append_2_0 : List UInt8 := dkwJ16_append_2_0 ++ dktJ16_append_2_1
theorem dksJ16_append_2_0 : cJ16_append_2.data.toList.drop 0 = dktJ16_append_2_0 := by decide +kernel
theorem dksJ16_append_2_1 : cJ16_append_2.data.toList.drop 24 = dktJ16_append_2_1 := dk_seg dksJ16_append_2_0 24 rfl rfl
theorem dksJ16_append_2_2 : cJ16_append_2.data.toList.drop 48 = dktJ16_append_2_2 := dk_seg dksJ16_append_2_1 24 rfl rfl
theorem dJ16_append_2_0 : decode cJ16_append_2 0 = .ok (.aload_n 0, 1) := dk_42 (dk_at dksJ16_append_2_0 0 rfl rfl)
theorem dJ16_append_2_1 : decode cJ16_append_2 1 = .ok (.getfield 79, 3) := dk_180 0 79 (dk_at dksJ16_append_2_0 1 rfl rfl)
theorem dJ16_append_2_4 : decode cJ16_append_2 4 = .ok (.istore_n 2, 1) := dk_61 (dk_at dksJ16_append_2_0 4 rfl rfl)
theorem dJ16_append_2_5 : decode cJ16_append_2 5 = .ok (.iload_n 2, 1) := dk_28 (dk_at dksJ16_append_2_0 5 rfl rfl)
theorem dJ16_append_2_6 : decode cJ16_append_2 6 = .ok (.iload_n 1, 1) := dk_27 (dk_at dksJ16_append_2_0 6 rfl rfl)
theorem dJ16_append_2_7 : decode cJ16_append_2 7 = .ok (.invokestatic 245, 3) := dk_184 0 245 (dk_at dksJ16_append_2_0 7 rfl rfl)
theorem dJ16_append_2_10 : decode cJ16_append_2 10 = .ok (.iadd, 1) := dk_96 (dk_at dksJ16_append_2_0 10 rfl rfl)
theorem dJ16_append_2_11 : decode cJ16_append_2 11 = .ok (.istore_n 3, 1) := dk_62 (dk_at dksJ16_append_2_0 11 rfl rfl)
theorem dJ16_append_2_12 : decode cJ16_append_2 12 = .ok (.aload_n 0, 1) := dk_42 (dk_at dksJ16_append_2_0 12 rfl rfl)
theorem dJ16_append_2_13 : decode cJ16_append_2 13 = .ok (.iload_n 3, 1) := dk_29 (dk_at dksJ16_append_2_0 13 rfl rfl)
theorem dJ16_append_2_14 : decode cJ16_append_2 14 = .ok (.invokevirtual 100, 3) := dk_182 0 100 (dk_at dksJ16_append_2_0 14 rfl rfl)
theorem dJ16_append_2_17 : decode cJ16_append_2 17 = .ok (.aload_n 0, 1) := dk_42 (dk_at dksJ16_append_2_0 17 rfl rfl)
theorem dJ16_append_2_18 : decode cJ16_append_2 18 = .ok (.invokevirtual 83, 3) := dk_182 0 83 (dk_at dksJ16_append_2_0 18 rfl rfl)
theorem dJ16_append_2_21 : decode cJ16_append_2 21 = .ok (.ifCond .eq 16, 3) := dk_153 0 16 (dk_at dksJ16_append_2_0 21 rfl rfl)
theorem dJ16_append_2_24 : decode cJ16_append_2 24 = .ok (.iload_n 1, 1) := dk_27 (dk_at dksJ16_append_2_1 0 rfl rfl)
theorem dJ16_append_2_25 : decode cJ16_append_2 25 = .ok (.iload_n 3, 1) := dk_29 (dk_at dksJ16_append_2_1 1 rfl rfl)
theorem dJ16_append_2_26 : decode cJ16_append_2 26 = .ok (.aload_n 0, 1) := dk_42 (dk_at dksJ16_append_2_1 2 rfl rfl)
theorem dJ16_append_2_27 : decode cJ16_append_2 27 = .ok (.getfield 15, 3) := dk_180 0 15 (dk_at dksJ16_append_2_1 3 rfl rfl)
theorem dJ16_append_2_30 : decode cJ16_append_2 30 = .ok (.invokestatic 248, 3) := dk_184 0 248 (dk_at dksJ16_append_2_1 6 rfl rfl)
theorem dJ16_append_2_33 : decode cJ16_append_2 33 = .ok (.pop, 1) := dk_87 (dk_at dksJ16_append_2_1 9 rfl rfl)
theorem dJ16_append_2_34 : decode cJ16_append_2 34 = .ok (.goto 14, 3) := dk_167 0 14 (dk_at dksJ16_append_2_1 10 rfl rfl)
theorem dJ16_append_2_37 : decode cJ16_append_2 37 = .ok (.iload_n 1, 1) := dk_27 (dk_at dksJ16_append_2_1 13 rfl rfl)
theorem dJ16_append_2_38 : decode cJ16_append_2 38 = .ok (.iload_n 2, 1) := dk_28 (dk_at dksJ16_append_2_1 14 rfl rfl)
theorem dJ16_append_2_39 : decode cJ16_append_2 39 = .ok (.iload_n 3, 1) := dk_29 (dk_at dksJ16_append_2_1 15 rfl rfl)
theorem dJ16_append_2_40 : decode cJ16_append_2 40 = .ok (.aload_n 0, 1) := dk_42 (dk_at dksJ16_append_2_1 16 rfl rfl)
theorem dJ16_append_2_41 : decode cJ16_append_2 41 = .ok (.getfield 15, 3) := dk_180 0 15 (dk_at dksJ16_append_2_1 17 rfl rfl)
theorem dJ16_append_2_44 : decode cJ16_append_2 44 = .ok (.invokestatic 251, 3) := dk_184 0 251 (dk_at dksJ16_append_2_1 20 rfl rfl)
theorem dJ16_append_2_47 : decode cJ16_append_2 47 = .ok (.pop, 1) := dk_87 (dk_at dksJ16_append_2_1 23 rfl rfl)
theorem dJ16_append_2_48 : decode cJ16_append_2 48 = .ok (.aload_n 0, 1) := dk_42 (dk_at dksJ16_append_2_2 0 rfl rfl)
theorem dJ16_append_2_49 : decode cJ16_append_2 49 = .ok (.iload_n 3, 1) := dk_29 (dk_at dksJ16_append_2_2 1 rfl rfl)
theorem dJ16_append_2_50 : decode cJ16_append_2 50 = .ok (.putfield 79, 3) := dk_181 0 79 (dk_at dksJ16_append_2_2 2 rfl rfl)
theorem dJ16_append_2_53 : decode cJ16_append_2 53 = .ok (.aload_n 0, 1) := dk_42 (dk_at dksJ16_append_2_2 5 rfl rfl)
theorem dJ16_append_2_54 : decode cJ16_append_2 54 = .ok (.areturn, 1) := dk_176 (dk_at dksJ16_append_2_2 6 rfl rfl)
abbrev cJ16_append_3 : ByteArray := prog_23_method_22_code
def yJ16_append_3 : MethodName := ⟨RJ16, "append", "(Ljava/lang/String;)Ljava/lang/AbstractStringBuilder;"⟩
def dkwJ16_append_3_1 : List UInt8 := [42, 42, 180, 0, 79, 43, 182, 0, 208, 42, 89, 180, 0, 79, 28, 96, 181, 0, 79, 42, 176]
abbrev dktJ16_append_3_1 : List UInt8 := dkwJ16_append_3_1 ++ []
def dkwJ16_append_3_0 : List UInt8 := [43, 199, 0, 8, 42, 182, 0, 204, 176, 43, 182, 0, 32, 61, 42, 42, 180, 0, 79, 28, 96, 182, 0, 100]
abbrev dktJ16_append_3_0 : List UInt8 := dkwJ16_append_3_0 ++ dktJ16_append_3_1
theorem dksJ16_append_3_0 : cJ16_append_3.data.toList.drop 0 = dktJ16_append_3_0 := by decide +kernel
theorem dksJ16_append_3_1 : cJ16_append_3.data.toList.drop 24 = dktJ16_append_3_1 := dk_seg dksJ16_append_3_0 24 rfl rfl
theorem dJ16_append_3_0 : decode cJ16_append_3 0 = .ok (.aload_n 1, 1) := dk_43 (dk_at dksJ16_append_3_0 0 rfl rfl)
theorem dJ16_append_3_1 : decode cJ16_append_3 1 = .ok (.ifnonnull 8, 3) := dk_199 0 8 (dk_at dksJ16_append_3_0 1 rfl rfl)
theorem dJ16_append_3_4 : decode cJ16_append_3 4 = .ok (.aload_n 0, 1) := dk_42 (dk_at dksJ16_append_3_0 4 rfl rfl)
theorem dJ16_append_3_5 : decode cJ16_append_3 5 = .ok (.invokevirtual 204, 3) := dk_182 0 204 (dk_at dksJ16_append_3_0 5 rfl rfl)
theorem dJ16_append_3_8 : decode cJ16_append_3 8 = .ok (.areturn, 1) := dk_176 (dk_at dksJ16_append_3_0 8 rfl rfl)
theorem dJ16_append_3_9 : decode cJ16_append_3 9 = .ok (.aload_n 1, 1) := dk_43 (dk_at dksJ16_append_3_0 9 rfl rfl)
theorem dJ16_append_3_10 : decode cJ16_append_3 10 = .ok (.invokevirtual 32, 3) := dk_182 0 32 (dk_at dksJ16_append_3_0 10 rfl rfl)
theorem dJ16_append_3_13 : decode cJ16_append_3 13 = .ok (.istore_n 2, 1) := dk_61 (dk_at dksJ16_append_3_0 13 rfl rfl)
theorem dJ16_append_3_14 : decode cJ16_append_3 14 = .ok (.aload_n 0, 1) := dk_42 (dk_at dksJ16_append_3_0 14 rfl rfl)
theorem dJ16_append_3_15 : decode cJ16_append_3 15 = .ok (.aload_n 0, 1) := dk_42 (dk_at dksJ16_append_3_0 15 rfl rfl)
theorem dJ16_append_3_16 : decode cJ16_append_3 16 = .ok (.getfield 79, 3) := dk_180 0 79 (dk_at dksJ16_append_3_0 16 rfl rfl)
theorem dJ16_append_3_19 : decode cJ16_append_3 19 = .ok (.iload_n 2, 1) := dk_28 (dk_at dksJ16_append_3_0 19 rfl rfl)
theorem dJ16_append_3_20 : decode cJ16_append_3 20 = .ok (.iadd, 1) := dk_96 (dk_at dksJ16_append_3_0 20 rfl rfl)
theorem dJ16_append_3_21 : decode cJ16_append_3 21 = .ok (.invokevirtual 100, 3) := dk_182 0 100 (dk_at dksJ16_append_3_0 21 rfl rfl)
theorem dJ16_append_3_24 : decode cJ16_append_3 24 = .ok (.aload_n 0, 1) := dk_42 (dk_at dksJ16_append_3_1 0 rfl rfl)
theorem dJ16_append_3_25 : decode cJ16_append_3 25 = .ok (.aload_n 0, 1) := dk_42 (dk_at dksJ16_append_3_1 1 rfl rfl)
theorem dJ16_append_3_26 : decode cJ16_append_3 26 = .ok (.getfield 79, 3) := dk_180 0 79 (dk_at dksJ16_append_3_1 2 rfl rfl)
theorem dJ16_append_3_29 : decode cJ16_append_3 29 = .ok (.aload_n 1, 1) := dk_43 (dk_at dksJ16_append_3_1 5 rfl rfl)
theorem dJ16_append_3_30 : decode cJ16_append_3 30 = .ok (.invokevirtual 208, 3) := dk_182 0 208 (dk_at dksJ16_append_3_1 6 rfl rfl)
theorem dJ16_append_3_33 : decode cJ16_append_3 33 = .ok (.aload_n 0, 1) := dk_42 (dk_at dksJ16_append_3_1 9 rfl rfl)
theorem dJ16_append_3_34 : decode cJ16_append_3 34 = .ok (.dup, 1) := dk_89 (dk_at dksJ16_append_3_1 10 rfl rfl)
theorem dJ16_append_3_35 : decode cJ16_append_3 35 = .ok (.getfield 79, 3) := dk_180 0 79 (dk_at dksJ16_append_3_1 11 rfl rfl)
theorem dJ16_append_3_38 : decode cJ16_append_3 38 = .ok (.iload_n 2, 1) := dk_28 (dk_at dksJ16_append_3_1 14 rfl rfl)
theorem dJ16_append_3_39 : decode cJ16_append_3 39 = .ok (.iadd, 1) := dk_96 (dk_at dksJ16_append_3_1 15 rfl rfl)
theorem dJ16_append_3_40 : decode cJ16_append_3 40 = .ok (.putfield 79, 3) := dk_181 0 79 (dk_at dksJ16_append_3_1 16 rfl rfl)
theorem dJ16_append_3_43 : decode cJ16_append_3 43 = .ok (.aload_n 0, 1) := dk_42 (dk_at dksJ16_append_3_1 19 rfl rfl)
theorem dJ16_append_3_44 : decode cJ16_append_3 44 = .ok (.areturn, 1) := dk_176 (dk_at dksJ16_append_3_1 20 rfl rfl)
abbrev cJ16_appendNull : ByteArray := prog_23_method_26_code
def yJ16_appendNull : MethodName := ⟨RJ16, "appendNull", "()Ljava/lang/AbstractStringBuilder;"⟩
def dkwJ16_appendNull_3 : List UInt8 := [184, 0, 226, 60, 42, 27, 181, 0, 79, 42, 176]
abbrev dktJ16_appendNull_3 : List UInt8 := dkwJ16_appendNull_3 ++ []
def dkwJ16_appendNull_2 : List UInt8 := [16, 108, 84, 44, 27, 132, 1, 1, 16, 108, 84, 167, 0, 17, 44, 27, 16, 110, 16, 117, 16, 108, 16, 108]
abbrev dktJ16_appendNull_2 : List UInt8 := dkwJ16_appendNull_2 ++ dktJ16_appendNull_3
def dkwJ16_appendNull_1 : List UInt8 := [153, 0, 38, 44, 27, 132, 1, 1, 16, 110, 84, 44, 27, 132, 1, 1, 16, 117, 84, 44, 27, 132, 1, 1]
abbrev dktJ16_appendNull_1 : List UInt8 := dkwJ16_appendNull_1 ++ dktJ16_appendNull_2
def dkwJ16_appendNull_0 : List UInt8 := [42, 42, 180, 0, 79, 7, 96, 182, 0, 100, 42, 180, 0, 79, 60, 42, 180, 0, 15, 77, 42, 182, 0, 83]
abbrev dktJ16_appendNull_0 : List UInt8 := dkwJ16_appendNull_0 ++ dktJ16_appendNull_1
theorem dksJ16_appendNull_0 : cJ16_appendNull.data.toList.drop 0 = dktJ16_appendNull_0 := by decide +kernel
theorem dksJ16_appendNull_1 : cJ16_appendNull.data.toList.drop 24 = dktJ16_appendNull_1 := dk_seg dksJ16_appendNull_0 24 rfl rfl
theorem dksJ16_appendNull_2 : cJ16_appendNull.data.toList.drop 48 = dktJ16_appendNull_2 := dk_seg dksJ16_appendNull_1 24 rfl rfl
theorem dksJ16_appendNull_3 : cJ16_appendNull.data.toList.drop 72 = dktJ16_appendNull_3 := dk_seg dksJ16_appendNull_2 24 rfl rfl
theorem dJ16_appendNull_0 : decode cJ16_appendNull 0 = .ok (.aload_n 0, 1) := dk_42 (dk_at dksJ16_appendNull_0 0 rfl rfl)
theorem dJ16_appendNull_1 : decode cJ16_appendNull 1 = .ok (.aload_n 0, 1) := dk_42 (dk_at dksJ16_appendNull_0 1 rfl rfl)
theorem dJ16_appendNull_2 : decode cJ16_appendNull 2 = .ok (.getfield 79, 3) := dk_180 0 79 (dk_at dksJ16_appendNull_0 2 rfl rfl)
theorem dJ16_appendNull_5 : decode cJ16_appendNull 5 = .ok (.iconst 4, 1) := dk_7 (dk_at dksJ16_appendNull_0 5 rfl rfl)
theorem dJ16_appendNull_6 : decode cJ16_appendNull 6 = .ok (.iadd, 1) := dk_96 (dk_at dksJ16_appendNull_0 6 rfl rfl)
theorem dJ16_appendNull_7 : decode cJ16_appendNull 7 = .ok (.invokevirtual 100, 3) := dk_182 0 100 (dk_at dksJ16_appendNull_0 7 rfl rfl)
theorem dJ16_appendNull_10 : decode cJ16_appendNull 10 = .ok (.aload_n 0, 1) := dk_42 (dk_at dksJ16_appendNull_0 10 rfl rfl)
theorem dJ16_appendNull_11 : decode cJ16_appendNull 11 = .ok (.getfield 79, 3) := dk_180 0 79 (dk_at dksJ16_appendNull_0 11 rfl rfl)
theorem dJ16_appendNull_14 : decode cJ16_appendNull 14 = .ok (.istore_n 1, 1) := dk_60 (dk_at dksJ16_appendNull_0 14 rfl rfl)
theorem dJ16_appendNull_15 : decode cJ16_appendNull 15 = .ok (.aload_n 0, 1) := dk_42 (dk_at dksJ16_appendNull_0 15 rfl rfl)
theorem dJ16_appendNull_16 : decode cJ16_appendNull 16 = .ok (.getfield 15, 3) := dk_180 0 15 (dk_at dksJ16_appendNull_0 16 rfl rfl)
theorem dJ16_appendNull_19 : decode cJ16_appendNull 19 = .ok (.astore_n 2, 1) := dk_77 (dk_at dksJ16_appendNull_0 19 rfl rfl)
theorem dJ16_appendNull_20 : decode cJ16_appendNull 20 = .ok (.aload_n 0, 1) := dk_42 (dk_at dksJ16_appendNull_0 20 rfl rfl)
theorem dJ16_appendNull_21 : decode cJ16_appendNull 21 = .ok (.invokevirtual 83, 3) := dk_182 0 83 (dk_at dksJ16_appendNull_0 21 rfl rfl)
theorem dJ16_appendNull_24 : decode cJ16_appendNull 24 = .ok (.ifCond .eq 38, 3) := dk_153 0 38 (dk_at dksJ16_appendNull_1 0 rfl rfl)
theorem dJ16_appendNull_27 : decode cJ16_appendNull 27 = .ok (.aload_n 2, 1) := dk_44 (dk_at dksJ16_appendNull_1 3 rfl rfl)
theorem dJ16_appendNull_28 : decode cJ16_appendNull 28 = .ok (.iload_n 1, 1) := dk_27 (dk_at dksJ16_appendNull_1 4 rfl rfl)
theorem dJ16_appendNull_29 : decode cJ16_appendNull 29 = .ok (.iinc 1 1, 3) := dk_132 1 1 (dk_at dksJ16_appendNull_1 5 rfl rfl)
theorem dJ16_appendNull_32 : decode cJ16_appendNull 32 = .ok (.bipush 110, 2) := dk_16 110 (dk_at dksJ16_appendNull_1 8 rfl rfl)
theorem dJ16_appendNull_34 : decode cJ16_appendNull 34 = .ok (.bastore, 1) := dk_84 (dk_at dksJ16_appendNull_1 10 rfl rfl)
theorem dJ16_appendNull_35 : decode cJ16_appendNull 35 = .ok (.aload_n 2, 1) := dk_44 (dk_at dksJ16_appendNull_1 11 rfl rfl)
theorem dJ16_appendNull_36 : decode cJ16_appendNull 36 = .ok (.iload_n 1, 1) := dk_27 (dk_at dksJ16_appendNull_1 12 rfl rfl)
theorem dJ16_appendNull_37 : decode cJ16_appendNull 37 = .ok (.iinc 1 1, 3) := dk_132 1 1 (dk_at dksJ16_appendNull_1 13 rfl rfl)
theorem dJ16_appendNull_40 : decode cJ16_appendNull 40 = .ok (.bipush 117, 2) := dk_16 117 (dk_at dksJ16_appendNull_1 16 rfl rfl)
theorem dJ16_appendNull_42 : decode cJ16_appendNull 42 = .ok (.bastore, 1) := dk_84 (dk_at dksJ16_appendNull_1 18 rfl rfl)
theorem dJ16_appendNull_43 : decode cJ16_appendNull 43 = .ok (.aload_n 2, 1) := dk_44 (dk_at dksJ16_appendNull_1 19 rfl rfl)
theorem dJ16_appendNull_44 : decode cJ16_appendNull 44 = .ok (.iload_n 1, 1) := dk_27 (dk_at dksJ16_appendNull_1 20 rfl rfl)
theorem dJ16_appendNull_45 : decode cJ16_appendNull 45 = .ok (.iinc 1 1, 3) := dk_132 1 1 (dk_at dksJ16_appendNull_1 21 rfl rfl)
theorem dJ16_appendNull_48 : decode cJ16_appendNull 48 = .ok (.bipush 108, 2) := dk_16 108 (dk_at dksJ16_appendNull_2 0 rfl rfl)
theorem dJ16_appendNull_50 : decode cJ16_appendNull 50 = .ok (.bastore, 1) := dk_84 (dk_at dksJ16_appendNull_2 2 rfl rfl)
theorem dJ16_appendNull_51 : decode cJ16_appendNull 51 = .ok (.aload_n 2, 1) := dk_44 (dk_at dksJ16_appendNull_2 3 rfl rfl)
theorem dJ16_appendNull_52 : decode cJ16_appendNull 52 = .ok (.iload_n 1, 1) := dk_27 (dk_at dksJ16_appendNull_2 4 rfl rfl)
theorem dJ16_appendNull_53 : decode cJ16_appendNull 53 = .ok (.iinc 1 1, 3) := dk_132 1 1 (dk_at dksJ16_appendNull_2 5 rfl rfl)
theorem dJ16_appendNull_56 : decode cJ16_appendNull 56 = .ok (.bipush 108, 2) := dk_16 108 (dk_at dksJ16_appendNull_2 8 rfl rfl)
theorem dJ16_appendNull_58 : decode cJ16_appendNull 58 = .ok (.bastore, 1) := dk_84 (dk_at dksJ16_appendNull_2 10 rfl rfl)
theorem dJ16_appendNull_59 : decode cJ16_appendNull 59 = .ok (.goto 17, 3) := dk_167 0 17 (dk_at dksJ16_appendNull_2 11 rfl rfl)
theorem dJ16_appendNull_62 : decode cJ16_appendNull 62 = .ok (.aload_n 2, 1) := dk_44 (dk_at dksJ16_appendNull_2 14 rfl rfl)
theorem dJ16_appendNull_63 : decode cJ16_appendNull 63 = .ok (.iload_n 1, 1) := dk_27 (dk_at dksJ16_appendNull_2 15 rfl rfl)
theorem dJ16_appendNull_64 : decode cJ16_appendNull 64 = .ok (.bipush 110, 2) := dk_16 110 (dk_at dksJ16_appendNull_2 16 rfl rfl)
theorem dJ16_appendNull_66 : decode cJ16_appendNull 66 = .ok (.bipush 117, 2) := dk_16 117 (dk_at dksJ16_appendNull_2 18 rfl rfl)
theorem dJ16_appendNull_68 : decode cJ16_appendNull 68 = .ok (.bipush 108, 2) := dk_16 108 (dk_at dksJ16_appendNull_2 20 rfl rfl)
theorem dJ16_appendNull_70 : decode cJ16_appendNull 70 = .ok (.bipush 108, 2) := dk_16 108 (dk_at dksJ16_appendNull_2 22 rfl rfl)
theorem dJ16_appendNull_72 : decode cJ16_appendNull 72 = .ok (.invokestatic 226, 3) := dk_184 0 226 (dk_at dksJ16_appendNull_3 0 rfl rfl)
theorem dJ16_appendNull_75 : decode cJ16_appendNull 75 = .ok (.istore_n 1, 1) := dk_60 (dk_at dksJ16_appendNull_3 3 rfl rfl)
theorem dJ16_appendNull_76 : decode cJ16_appendNull 76 = .ok (.aload_n 0, 1) := dk_42 (dk_at dksJ16_appendNull_3 4 rfl rfl)
theorem dJ16_appendNull_77 : decode cJ16_appendNull 77 = .ok (.iload_n 1, 1) := dk_27 (dk_at dksJ16_appendNull_3 5 rfl rfl)
theorem dJ16_appendNull_78 : decode cJ16_appendNull 78 = .ok (.putfield 79, 3) := dk_181 0 79 (dk_at dksJ16_appendNull_3 6 rfl rfl)
theorem dJ16_appendNull_81 : decode cJ16_appendNull 81 = .ok (.aload_n 0, 1) := dk_42 (dk_at dksJ16_appendNull_3 9 rfl rfl)
theorem dJ16_appendNull_82 : decode cJ16_appendNull 82 = .ok (.areturn, 1) := dk_176 (dk_at dksJ16_appendNull_3 10 rfl rfl)
abbrev cJ16_putStringAt : ByteArray := prog_23_method_73_code
def yJ16_putStringAt : MethodName := ⟨RJ16, "putStringAt", "(ILjava/lang/String;)V"⟩
def dkwJ16_putStringAt_0 : List UInt8 := [42, 44, 182, 1, 141, 44, 42, 180, 0, 15, 27, 42, 180, 0, 22, 182, 1, 143, 177]
abbrev dktJ16_putStringAt_0 : List UInt8 := dkwJ16_putStringAt_0 ++ []
theorem dksJ16_putStringAt_0 : cJ16_putStringAt.data.toList.drop 0 = dktJ16_putStringAt_0 := by decide +kernel
theorem dJ16_putStringAt_0 : decode cJ16_putStringAt 0 = .ok (.aload_n 0, 1) := dk_42 (dk_at dksJ16_putStringAt_0 0 rfl rfl)
theorem dJ16_putStringAt_1 : decode cJ16_putStringAt 1 = .ok (.aload_n 2, 1) := dk_44 (dk_at dksJ16_putStringAt_0 1 rfl rfl)
theorem dJ16_putStringAt_2 : decode cJ16_putStringAt 2 = .ok (.invokevirtual 397, 3) := dk_182 1 141 (dk_at dksJ16_putStringAt_0 2 rfl rfl)
theorem dJ16_putStringAt_5 : decode cJ16_putStringAt 5 = .ok (.aload_n 2, 1) := dk_44 (dk_at dksJ16_putStringAt_0 5 rfl rfl)
theorem dJ16_putStringAt_6 : decode cJ16_putStringAt 6 = .ok (.aload_n 0, 1) := dk_42 (dk_at dksJ16_putStringAt_0 6 rfl rfl)
theorem dJ16_putStringAt_7 : decode cJ16_putStringAt 7 = .ok (.getfield 15, 3) := dk_180 0 15 (dk_at dksJ16_putStringAt_0 7 rfl rfl)
theorem dJ16_putStringAt_10 : decode cJ16_putStringAt 10 = .ok (.iload_n 1, 1) := dk_27 (dk_at dksJ16_putStringAt_0 10 rfl rfl)
theorem dJ16_putStringAt_11 : decode cJ16_putStringAt 11 = .ok (.aload_n 0, 1) := dk_42 (dk_at dksJ16_putStringAt_0 11 rfl rfl)
theorem dJ16_putStringAt_12 : decode cJ16_putStringAt 12 = .ok (.getfield 22, 3) := dk_180 0 22 (dk_at dksJ16_putStringAt_0 12 rfl rfl)
theorem dJ16_putStringAt_15 : decode cJ16_putStringAt 15 = .ok (.invokevirtual 399, 3) := dk_182 1 143 (dk_at dksJ16_putStringAt_0 15 rfl rfl)
theorem dJ16_putStringAt_18 : decode cJ16_putStringAt 18 = .ok (.return_, 1) := dk_177 (dk_at dksJ16_putStringAt_0 18 rfl rfl)
abbrev cJ16_inflateIfNeededFor : ByteArray := prog_23_method_71_code
def yJ16_inflateIfNeededFor : MethodName := ⟨RJ16, "inflateIfNeededFor", "(Ljava/lang/String;)V"⟩
def dkwJ16_inflateIfNeededFor_0 : List UInt8 := [178, 0, 18, 153, 0, 18, 42, 180, 0, 22, 43, 182, 0, 40, 159, 0, 7, 42, 182, 0, 195, 177]
abbrev dktJ16_inflateIfNeededFor_0 : List UInt8 := dkwJ16_inflateIfNeededFor_0 ++ []
theorem dksJ16_inflateIfNeededFor_0 : cJ16_inflateIfNeededFor.data.toList.drop 0 = dktJ16_inflateIfNeededFor_0 := by decide +kernel
theorem dJ16_inflateIfNeededFor_0 : decode cJ16_inflateIfNeededFor 0 = .ok (.getstatic 18, 3) := dk_178 0 18 (dk_at dksJ16_inflateIfNeededFor_0 0 rfl rfl)
theorem dJ16_inflateIfNeededFor_3 : decode cJ16_inflateIfNeededFor 3 = .ok (.ifCond .eq 18, 3) := dk_153 0 18 (dk_at dksJ16_inflateIfNeededFor_0 3 rfl rfl)
theorem dJ16_inflateIfNeededFor_6 : decode cJ16_inflateIfNeededFor 6 = .ok (.aload_n 0, 1) := dk_42 (dk_at dksJ16_inflateIfNeededFor_0 6 rfl rfl)
theorem dJ16_inflateIfNeededFor_7 : decode cJ16_inflateIfNeededFor 7 = .ok (.getfield 22, 3) := dk_180 0 22 (dk_at dksJ16_inflateIfNeededFor_0 7 rfl rfl)
theorem dJ16_inflateIfNeededFor_10 : decode cJ16_inflateIfNeededFor 10 = .ok (.aload_n 1, 1) := dk_43 (dk_at dksJ16_inflateIfNeededFor_0 10 rfl rfl)
theorem dJ16_inflateIfNeededFor_11 : decode cJ16_inflateIfNeededFor 11 = .ok (.invokevirtual 40, 3) := dk_182 0 40 (dk_at dksJ16_inflateIfNeededFor_0 11 rfl rfl)
theorem dJ16_inflateIfNeededFor_14 : decode cJ16_inflateIfNeededFor 14 = .ok (.if_icmp .eq 7, 3) := dk_159 0 7 (dk_at dksJ16_inflateIfNeededFor_0 14 rfl rfl)
theorem dJ16_inflateIfNeededFor_17 : decode cJ16_inflateIfNeededFor 17 = .ok (.aload_n 0, 1) := dk_42 (dk_at dksJ16_inflateIfNeededFor_0 17 rfl rfl)
theorem dJ16_inflateIfNeededFor_18 : decode cJ16_inflateIfNeededFor 18 = .ok (.invokevirtual 195, 3) := dk_182 0 195 (dk_at dksJ16_inflateIfNeededFor_0 18 rfl rfl)
theorem dJ16_inflateIfNeededFor_21 : decode cJ16_inflateIfNeededFor 21 = .ok (.return_, 1) := dk_177 (dk_at dksJ16_inflateIfNeededFor_0 21 rfl rfl)
theorem q157 : (Jvm.Cond.initialized "java/lang/AbstractStringBuilder") ∈ lw_all := lw_g (lw_at lw_m1 29 rfl) rfl
theorem q990 : (Jvm.Cond.instanceMethod ({ cls := "java/lang/AbstractStringBuilder", name := "<init>", desc := "(I)V" } : Jvm.MethodName)) ∈ lw_all := lw_g (lw_at lw_m4 142 rfl) rfl
theorem q991 : (Jvm.Cond.code ({ cls := "java/lang/AbstractStringBuilder", name := "<init>", desc := "(I)V" } : Jvm.MethodName) prog_23_method_2_code (2 : Nat) (Option.none : Option Jvm.ClassFile.FieldType)) ∈ lw_all := lw_g (lw_at lw_m4 143 rfl) rfl
theorem q992 : (Jvm.Cond.methodLink "java/lang/AbstractStringBuilder" (3 : Nat) ({ cls := "java/lang/Object", name := "<init>", desc := "()V" } : Jvm.MethodName)) ∈ lw_all := lw_g (lw_at lw_m4 144 rfl) rfl
theorem q993 : (Jvm.Cond.fieldLink "java/lang/AbstractStringBuilder" (18 : Nat) "java/lang/String" "COMPACT_STRINGS" "Z") ∈ lw_all := lw_g (lw_at lw_m4 145 rfl) rfl
theorem q995 : (Jvm.Cond.methodLink "java/lang/AbstractStringBuilder" (26 : Nat) ({ cls := "java/lang/StringUTF16", name := "newBytesFor", desc := "(I)[B" } : Jvm.MethodName)) ∈ lw_all := lw_g (lw_at lw_m4 147 rfl) rfl
theorem q1002 : (Jvm.Cond.fieldLink "java/lang/AbstractStringBuilder" (15 : Nat) "java/lang/AbstractStringBuilder" "value" "[B") ∈ lw_all := lw_g (lw_at lw_m4 154 rfl) rfl
theorem q1003 : (Jvm.Cond.fieldLink "java/lang/AbstractStringBuilder" (22 : Nat) "java/lang/AbstractStringBuilder" "coder" "B") ∈ lw_all := lw_g (lw_at lw_m4 155 rfl) rfl
theorem q1005 : (Jvm.Cond.fieldLink "java/lang/AbstractStringBuilder" (79 : Nat) "java/lang/AbstractStringBuilder" "count" "I") ∈ lw_all := lw_g (lw_at lw_m4 157 rfl) rfl
theorem q1007 : (Jvm.Cond.soleField "java/lang/AbstractStringBuilder" "value") ∈ lw_all := lw_g (lw_at lw_m4 159 rfl) rfl
theorem q1009 : (Jvm.Cond.soleField "java/lang/AbstractStringBuilder" "coder") ∈ lw_all := lw_g (lw_at lw_m4 161 rfl) rfl
theorem q1011 : (Jvm.Cond.soleField "java/lang/AbstractStringBuilder" "maybeLatin1") ∈ lw_all := lw_g (lw_at lw_m4 163 rfl) rfl
theorem q1013 : (Jvm.Cond.soleField "java/lang/AbstractStringBuilder" "count") ∈ lw_all := lw_g (lw_at lw_m4 165 rfl) rfl
theorem q1020 : (Jvm.Cond.instanceMethod ({ cls := "java/lang/AbstractStringBuilder", name := "append", desc := "(C)Ljava/lang/AbstractStringBuilder;" } : Jvm.MethodName)) ∈ lw_all := lw_g (lw_at lw_m4 172 rfl) rfl
theorem q1021 : (Jvm.Cond.code ({ cls := "java/lang/AbstractStringBuilder", name := "append", desc := "(C)Ljava/lang/AbstractStringBuilder;" } : Jvm.MethodName) prog_23_method_31_code (2 : Nat) (Option.some (Jvm.ClassFile.FieldType.object "java/lang/AbstractStringBuilder"))) ∈ lw_all := lw_g (lw_at lw_m4 173 rfl) rfl
theorem q1022 : (Jvm.Cond.methodLink "java/lang/AbstractStringBuilder" (100 : Nat) ({ cls := "java/lang/AbstractStringBuilder", name := "ensureCapacityInternal", desc := "(I)V" } : Jvm.MethodName)) ∈ lw_all := lw_g (lw_at lw_m4 174 rfl) rfl
theorem q1023 : (Jvm.Cond.privateMethod ({ cls := "java/lang/AbstractStringBuilder", name := "ensureCapacityInternal", desc := "(I)V" } : Jvm.MethodName)) ∈ lw_tbl := lw_at lw_m4 175 rfl
theorem q1024 : (Jvm.Cond.instanceMethod ({ cls := "java/lang/AbstractStringBuilder", name := "ensureCapacityInternal", desc := "(I)V" } : Jvm.MethodName)) ∈ lw_all := lw_g (lw_at lw_m4 176 rfl) rfl
theorem q1025 : (Jvm.Cond.code ({ cls := "java/lang/AbstractStringBuilder", name := "ensureCapacityInternal", desc := "(I)V" } : Jvm.MethodName) prog_23_method_9_code (3 : Nat) (Option.none : Option Jvm.ClassFile.FieldType)) ∈ lw_all := lw_g (lw_at lw_m4 177 rfl) rfl
theorem q1026 : (Jvm.Cond.methodLink "java/lang/AbstractStringBuilder" (104 : Nat) ({ cls := "java/lang/AbstractStringBuilder", name := "newCapacity", desc := "(I)I" } : Jvm.MethodName)) ∈ lw_all := lw_g (lw_at lw_m4 178 rfl) rfl
theorem q1027 : (Jvm.Cond.privateMethod ({ cls := "java/lang/AbstractStringBuilder", name := "newCapacity", desc := "(I)I" } : Jvm.MethodName)) ∈ lw_tbl := lw_at lw_m4 179 rfl
theorem q1028 : (Jvm.Cond.instanceMethod ({ cls := "java/lang/AbstractStringBuilder", name := "newCapacity", desc := "(I)I" } : Jvm.MethodName)) ∈ lw_all := lw_g (lw_at lw_m4 180 rfl) rfl
theorem q1029 : (Jvm.Cond.code ({ cls := "java/lang/AbstractStringBuilder", name := "newCapacity", desc := "(I)I" } : Jvm.MethodName) prog_23_method_10_code (6 : Nat) (Option.some Jvm.ClassFile.FieldType.int)) ∈ lw_all := lw_g (lw_at lw_m4 181 rfl) rfl
theorem q1030 : (Jvm.Cond.methodLink "java/lang/AbstractStringBuilder" (114 : Nat) ({ cls := "jdk/internal/util/ArraysSupport", name := "newLength", desc := "(III)I" } : Jvm.MethodName)) ∈ lw_all := lw_g (lw_at lw_m4 182 rfl) rfl
theorem q1031 : (Jvm.Cond.constant "java/lang/AbstractStringBuilder" (39 : Nat) (2147483647 : Int32)) ∈ lw_all := lw_g (lw_at lw_m4 183 rfl) rfl
theorem q1032 : (Jvm.Cond.methodLink "java/lang/AbstractStringBuilder" (108 : Nat) ({ cls := "java/util/Arrays", name := "copyOf", desc := "([BI)[B" } : Jvm.MethodName)) ∈ lw_all := lw_g (lw_at lw_m4 184 rfl) rfl
theorem q1040 : (Jvm.Cond.methodLink "java/lang/AbstractStringBuilder" (83 : Nat) ({ cls := "java/lang/AbstractStringBuilder", name := "isLatin1", desc := "()Z" } : Jvm.MethodName)) ∈ lw_all := lw_g (lw_at lw_m4 192 rfl) rfl
theorem q1041 : (Jvm.Cond.instanceMethod ({ cls := "java/lang/AbstractStringBuilder", name := "isLatin1", desc := "()Z" } : Jvm.MethodName)) ∈ lw_all := lw_g (lw_at lw_m4 193 rfl) rfl
theorem q1042 : (Jvm.Cond.sameMethod "java/lang/AbstractStringBuilder" "java/lang/AbstractStringBuilder" "isLatin1" "()Z") ∈ lw_all := lw_g (lw_at lw_m4 194 rfl) rfl
theorem q1044 : (Jvm.Cond.code ({ cls := "java/lang/AbstractStringBuilder", name := "isLatin1", desc := "()Z" } : Jvm.MethodName) prog_23_method_68_code (1 : Nat) (Option.some Jvm.ClassFile.FieldType.boolean)) ∈ lw_all := lw_g (lw_at lw_m4 196 rfl) rfl
theorem q1045 : (Jvm.Cond.methodLink "java/lang/AbstractStringBuilder" (191 : Nat) ({ cls := "java/lang/StringLatin1", name := "canEncode", desc := "(C)Z" } : Jvm.MethodName)) ∈ lw_all := lw_g (lw_at lw_m4 197 rfl) rfl
theorem q1048 : (Jvm.Cond.methodLink "java/lang/AbstractStringBuilder" (195 : Nat) ({ cls := "java/lang/AbstractStringBuilder", name := "inflate", desc := "()V" } : Jvm.MethodName)) ∈ lw_all := lw_g (lw_at lw_m4 200 rfl) rfl
theorem q1049 : (Jvm.Cond.privateMethod ({ cls := "java/lang/AbstractStringBuilder", name := "inflate", desc := "()V" } : Jvm.MethodName)) ∈ lw_tbl := lw_at lw_m4 201 rfl
theorem q1050 : (Jvm.Cond.instanceMethod ({ cls := "java/lang/AbstractStringBuilder", name := "inflate", desc := "()V" } : Jvm.MethodName)) ∈ lw_all := lw_g (lw_at lw_m4 202 rfl) rfl
theorem q1051 : (Jvm.Cond.code ({ cls := "java/lang/AbstractStringBuilder", name := "inflate", desc := "()V" } : Jvm.MethodName) prog_23_method_11_code (2 : Nat) (Option.none : Option Jvm.ClassFile.FieldType)) ∈ lw_all := lw_g (lw_at lw_m4 203 rfl) rfl
theorem q1052 : (Jvm.Cond.methodLink "java/lang/AbstractStringBuilder" (125 : Nat) ({ cls := "java/lang/StringLatin1", name := "inflate", desc := "([BI[BII)V" } : Jvm.MethodName)) ∈ lw_all := lw_g (lw_at lw_m4 204 rfl) rfl
theorem q1081 : (Jvm.Cond.methodLink "java/lang/AbstractStringBuilder" (197 : Nat) ({ cls := "java/lang/StringUTF16", name := "putCharSB", desc := "([BII)V" } : Jvm.MethodName)) ∈ lw_all := lw_g (lw_at lw_m4 233 rfl) rfl
theorem q1105 : (Jvm.Cond.instanceMethod ({ cls := "java/lang/AbstractStringBuilder", name := "getValue", desc := "()[B" } : Jvm.MethodName)) ∈ lw_all := lw_g (lw_at lw_m5 17 rfl) rfl
theorem q1106 : (Jvm.Cond.sameMethod "java/lang/AbstractStringBuilder" "java/lang/AbstractStringBuilder" "getValue" "()[B") ∈ lw_all := lw_g (lw_at lw_m5 18 rfl) rfl
theorem q1108 : (Jvm.Cond.code ({ cls := "java/lang/AbstractStringBuilder", name := "getValue", desc := "()[B" } : Jvm.MethodName) prog_23_method_64_code (1 : Nat) (Option.some (Jvm.ClassFile.FieldType.array Jvm.ClassFile.FieldType.byte))) ∈ lw_all := lw_g (lw_at lw_m5 20 rfl) rfl
theorem q1110 : (Jvm.Cond.instanceMethod ({ cls := "java/lang/AbstractStringBuilder", name := "length", desc := "()I" } : Jvm.MethodName)) ∈ lw_all := lw_g (lw_at lw_m5 22 rfl) rfl
theorem q1111 : (Jvm.Cond.sameMethod "java/lang/AbstractStringBuilder" "java/lang/AbstractStringBuilder" "length" "()I") ∈ lw_all := lw_g (lw_at lw_m5 23 rfl) rfl
theorem q1116 : (Jvm.Cond.code ({ cls := "java/lang/AbstractStringBuilder", name := "length", desc := "()I" } : Jvm.MethodName) prog_23_method_6_code (1 : Nat) (Option.some Jvm.ClassFile.FieldType.int)) ∈ lw_all := lw_g (lw_at lw_m5 28 rfl) rfl
theorem q1391 : (Jvm.Cond.instanceMethod ({ cls := "java/lang/AbstractStringBuilder", name := "compareTo", desc := "(Ljava/lang/AbstractStringBuilder;)I" } : Jvm.MethodName)) ∈ lw_all := lw_g (lw_at lw_m6 63 rfl) rfl
theorem q1392 : (Jvm.Cond.code ({ cls := "java/lang/AbstractStringBuilder", name := "compareTo", desc := "(Ljava/lang/AbstractStringBuilder;)I" } : Jvm.MethodName) prog_23_method_5_code (6 : Nat) (Option.some Jvm.ClassFile.FieldType.int)) ∈ lw_all := lw_g (lw_at lw_m6 64 rfl) rfl
theorem q1393 : (Jvm.Cond.methodLink "java/lang/AbstractStringBuilder" (87 : Nat) ({ cls := "java/lang/StringLatin1", name := "compareTo", desc := "([B[BII)I" } : Jvm.MethodName)) ∈ lw_all := lw_g (lw_at lw_m6 65 rfl) rfl
theorem q1394 : (Jvm.Cond.methodLink "java/lang/AbstractStringBuilder" (93 : Nat) ({ cls := "java/lang/StringUTF16", name := "compareTo", desc := "([B[BII)I" } : Jvm.MethodName)) ∈ lw_all := lw_g (lw_at lw_m6 66 rfl) rfl
theorem q1406 : (Jvm.Cond.methodLink "java/lang/AbstractStringBuilder" (94 : Nat) ({ cls := "java/lang/StringLatin1", name := "compareToUTF16", desc := "([B[BII)I" } : Jvm.MethodName)) ∈ lw_all := lw_g (lw_at lw_m6 78 rfl) rfl
theorem q1410 : (Jvm.Cond.methodLink "java/lang/AbstractStringBuilder" (97 : Nat) ({ cls := "java/lang/StringUTF16", name := "compareToLatin1", desc := "([B[BII)I" } : Jvm.MethodName)) ∈ lw_all := lw_g (lw_at lw_m6 82 rfl) rfl
theorem q1905 : (Jvm.Cond.instanceMethod ({ cls := "java/lang/AbstractStringBuilder", name := "append", desc := "(I)Ljava/lang/AbstractStringBuilder;" } : Jvm.MethodName)) ∈ lw_all := lw_g (lw_at lw_m8 97 rfl) rfl
theorem q1906 : (Jvm.Cond.code ({ cls := "java/lang/AbstractStringBuilder", name := "append", desc := "(I)Ljava/lang/AbstractStringBuilder;" } : Jvm.MethodName) prog_23_method_32_code (4 : Nat) (Option.some (Jvm.ClassFile.FieldType.object "java/lang/AbstractStringBuilder"))) ∈ lw_all := lw_g (lw_at lw_m8 98 rfl) rfl
theorem q1907 : (Jvm.Cond.methodLink "java/lang/AbstractStringBuilder" (245 : Nat) ({ cls := "java/lang/Integer", name := "stringSize", desc := "(I)I" } : Jvm.MethodName)) ∈ lw_all := lw_g (lw_at lw_m8 99 rfl) rfl
theorem q1910 : (Jvm.Cond.methodLink "java/lang/AbstractStringBuilder" (248 : Nat) ({ cls := "java/lang/Integer", name := "getChars", desc := "(II[B)I" } : Jvm.MethodName)) ∈ lw_all := lw_g (lw_at lw_m8 102 rfl) rfl
theorem q1917 : (Jvm.Cond.methodLink "java/lang/AbstractStringBuilder" (251 : Nat) ({ cls := "java/lang/StringUTF16", name := "getChars", desc := "(III[B)I" } : Jvm.MethodName)) ∈ lw_all := lw_g (lw_at lw_m8 109 rfl) rfl
theorem q2005 : (Jvm.Cond.instanceMethod ({ cls := "java/lang/AbstractStringBuilder", name := "append", desc := "(Ljava/lang/String;)Ljava/lang/AbstractStringBuilder;" } : Jvm.MethodName)) ∈ lw_all := lw_g (lw_at lw_m8 197 rfl) rfl
theorem q2006 : (Jvm.Cond.code ({ cls := "java/lang/AbstractStringBuilder", name := "append", desc := "(Ljava/lang/String;)Ljava/lang/AbstractStringBuilder;" } : Jvm.MethodName) prog_23_method_22_code (3 : Nat) (Option.some (Jvm.ClassFile.FieldType.object "java/lang/AbstractStringBuilder"))) ∈ lw_all := lw_g (lw_at lw_m8 198 rfl) rfl
theorem q2007 : (Jvm.Cond.methodLink "java/lang/AbstractStringBuilder" (204 : Nat) ({ cls := "java/lang/AbstractStringBuilder", name := "appendNull", desc := "()Ljava/lang/AbstractStringBuilder;" } : Jvm.MethodName)) ∈ lw_all := lw_g (lw_at lw_m8 199 rfl) rfl
theorem q2008 : (Jvm.Cond.privateMethod ({ cls := "java/lang/AbstractStringBuilder", name := "appendNull", desc := "()Ljava/lang/AbstractStringBuilder;" } : Jvm.MethodName)) ∈ lw_tbl := lw_at lw_m8 200 rfl
theorem q2009 : (Jvm.Cond.instanceMethod ({ cls := "java/lang/AbstractStringBuilder", name := "appendNull", desc := "()Ljava/lang/AbstractStringBuilder;" } : Jvm.MethodName)) ∈ lw_all := lw_g (lw_at lw_m8 201 rfl) rfl
theorem q2010 : (Jvm.Cond.code ({ cls := "java/lang/AbstractStringBuilder", name := "appendNull", desc := "()Ljava/lang/AbstractStringBuilder;" } : Jvm.MethodName) prog_23_method_26_code (3 : Nat) (Option.some (Jvm.ClassFile.FieldType.object "java/lang/AbstractStringBuilder"))) ∈ lw_all := lw_g (lw_at lw_m8 202 rfl) rfl
theorem q2011 : (Jvm.Cond.methodLink "java/lang/AbstractStringBuilder" (226 : Nat) ({ cls := "java/lang/StringUTF16", name := "putCharsAt", desc := "([BICCCC)I" } : Jvm.MethodName)) ∈ lw_all := lw_g (lw_at lw_m8 203 rfl) rfl
theorem q2014 : (Jvm.Cond.methodLink "java/lang/AbstractStringBuilder" (32 : Nat) ({ cls := "java/lang/String", name := "length", desc := "()I" } : Jvm.MethodName)) ∈ lw_all := lw_g (lw_at lw_m8 206 rfl) rfl
theorem q2015 : (Jvm.Cond.methodLink "java/lang/AbstractStringBuilder" (208 : Nat) ({ cls := "java/lang/AbstractStringBuilder", name := "putStringAt", desc := "(ILjava/lang/String;)V" } : Jvm.MethodName)) ∈ lw_all := lw_g (lw_at lw_m8 207 rfl) rfl
theorem q2016 : (Jvm.Cond.privateMethod ({ cls := "java/lang/AbstractStringBuilder", name := "putStringAt", desc := "(ILjava/lang/String;)V" } : Jvm.MethodName)) ∈ lw_tbl := lw_at lw_m8 208 rfl
theorem q2017 : (Jvm.Cond.instanceMethod ({ cls := "java/lang/AbstractStringBuilder", name := "putStringAt", desc := "(ILjava/lang/String;)V" } : Jvm.MethodName)) ∈ lw_all := lw_g (lw_at lw_m8 209 rfl) rfl
theorem q2018 : (Jvm.Cond.code ({ cls := "java/lang/AbstractStringBuilder", name := "putStringAt", desc := "(ILjava/lang/String;)V" } : Jvm.MethodName) prog_23_method_73_code (3 : Nat) (Option.none : Option Jvm.ClassFile.FieldType)) ∈ lw_all := lw_g (lw_at lw_m8 210 rfl) rfl
theorem q2019 : (Jvm.Cond.methodLink "java/lang/AbstractStringBuilder" (397 : Nat) ({ cls := "java/lang/AbstractStringBuilder", name := "inflateIfNeededFor", desc := "(Ljava/lang/String;)V" } : Jvm.MethodName)) ∈ lw_all := lw_g (lw_at lw_m8 211 rfl) rfl
theorem q2020 : (Jvm.Cond.privateMethod ({ cls := "java/lang/AbstractStringBuilder", name := "inflateIfNeededFor", desc := "(Ljava/lang/String;)V" } : Jvm.MethodName)) ∈ lw_tbl := lw_at lw_m8 212 rfl
theorem q2021 : (Jvm.Cond.instanceMethod ({ cls := "java/lang/AbstractStringBuilder", name := "inflateIfNeededFor", desc := "(Ljava/lang/String;)V" } : Jvm.MethodName)) ∈ lw_all := lw_g (lw_at lw_m8 213 rfl) rfl
theorem q2022 : (Jvm.Cond.code ({ cls := "java/lang/AbstractStringBuilder", name := "inflateIfNeededFor", desc := "(Ljava/lang/String;)V" } : Jvm.MethodName) prog_23_method_71_code (2 : Nat) (Option.none : Option Jvm.ClassFile.FieldType)) ∈ lw_all := lw_g (lw_at lw_m8 214 rfl) rfl
theorem q2023 : (Jvm.Cond.methodLink "java/lang/AbstractStringBuilder" (40 : Nat) ({ cls := "java/lang/String", name := "coder", desc := "()B" } : Jvm.MethodName)) ∈ lw_all := lw_g (lw_at lw_m8 215 rfl) rfl
theorem q2024 : (Jvm.Cond.methodLink "java/lang/AbstractStringBuilder" (399 : Nat) ({ cls := "java/lang/String", name := "getBytes", desc := "([BIB)V" } : Jvm.MethodName)) ∈ lw_all := lw_g (lw_at lw_m8 216 rfl) rfl
theorem q2754 : (Jvm.Cond.sameMethod "java/lang/AbstractStringBuilder" "java/lang/AbstractStringBuilder" "append" "(C)Ljava/lang/AbstractStringBuilder;") ∈ lw_all := lw_g (lw_at lw_m11 226 rfl) rfl
theorem q2755 : (Jvm.Cond.sameMethod "java/lang/AbstractStringBuilder" "java/lang/AbstractStringBuilder" "ensureCapacityInternal" "(I)V") ∈ lw_all := lw_g (lw_at lw_m11 227 rfl) rfl
theorem q2756 : (Jvm.Cond.sameMethod "java/lang/AbstractStringBuilder" "java/lang/AbstractStringBuilder" "newCapacity" "(I)I") ∈ lw_all := lw_g (lw_at lw_m11 228 rfl) rfl
theorem q2757 : (Jvm.Cond.sameMethod "java/lang/AbstractStringBuilder" "java/lang/AbstractStringBuilder" "inflate" "()V") ∈ lw_all := lw_g (lw_at lw_m11 229 rfl) rfl
theorem q2758 : (Jvm.Cond.sameMethod "java/lang/AbstractStringBuilder" "java/lang/AbstractStringBuilder" "compareTo" "(Ljava/lang/AbstractStringBuilder;)I") ∈ lw_all := lw_g (lw_at lw_m11 230 rfl) rfl
theorem q2759 : (Jvm.Cond.sameMethod "java/lang/AbstractStringBuilder" "java/lang/AbstractStringBuilder" "append" "(I)Ljava/lang/AbstractStringBuilder;") ∈ lw_all := lw_g (lw_at lw_m11 231 rfl) rfl
theorem q2760 : (Jvm.Cond.sameMethod "java/lang/AbstractStringBuilder" "java/lang/AbstractStringBuilder" "append" "(Ljava/lang/String;)Ljava/lang/AbstractStringBuilder;") ∈ lw_all := lw_g (lw_at lw_m11 232 rfl) rfl
theorem q2761 : (Jvm.Cond.sameMethod "java/lang/AbstractStringBuilder" "java/lang/AbstractStringBuilder" "appendNull" "()Ljava/lang/AbstractStringBuilder;") ∈ lw_all := lw_g (lw_at lw_m11 233 rfl) rfl
theorem q2762 : (Jvm.Cond.sameMethod "java/lang/AbstractStringBuilder" "java/lang/AbstractStringBuilder" "putStringAt" "(ILjava/lang/String;)V") ∈ lw_all := lw_g (lw_at lw_m11 234 rfl) rfl
theorem q2763 : (Jvm.Cond.sameMethod "java/lang/AbstractStringBuilder" "java/lang/AbstractStringBuilder" "inflateIfNeededFor" "(Ljava/lang/String;)V") ∈ lw_all := lw_g (lw_at lw_m11 235 rfl) rfl
/-! java/lang/StringBuilder -/
set_option maxRecDepth 100000
def RJ17 : String := "java/lang/StringBuilder"
def TJ17 : u_T := fun k => match k with
  | 0 => ("java/lang/AbstractStringBuilder", "value", "[B", false)
  | 1 => ("java/lang/AbstractStringBuilder", "coder", "B", false)
  | 2 => ("java/lang/AbstractStringBuilder", "maybeLatin1", "Z", false)
  | _ => ("java/lang/AbstractStringBuilder", "count", "I", false)
def tyJ17 : Nat → FieldType := fun k => match k with
  | 0 => .array .byte
  | 1 => .byte
  | 2 => .boolean
  | _ => .int
abbrev wsJ170 : List Cond := u_ws RJ17 TJ17 4
theorem nmJ17 : ∀ a, a < 4 → ∀ b, b < 4 → a ≠ b → (TJ17 a).2.1 ≠ (TJ17 b).2.1 := by decide +kernel
theorem tyJ17_ok : ∀ k, k < 4 → parseFieldDescriptor (TJ17 k).2.2.1 = some (tyJ17 k) := by decide +kernel
abbrev cJ17_init : ByteArray := prog_38_method_1_code
def yJ17_init : MethodName := ⟨RJ17, "<init>", "()V"⟩
def dkwJ17_init_0 : List UInt8 := [42, 16, 16, 183, 0, 1, 177]
abbrev dktJ17_init_0 : List UInt8 := dkwJ17_init_0 ++ []
theorem dksJ17_init_0 : cJ17_init.data.toList.drop 0 = dktJ17_init_0 := by decide +kernel
theorem dJ17_init_0 : decode cJ17_init 0 = .ok (.aload_n 0, 1) := dk_42 (dk_at dksJ17_init_0 0 rfl rfl)
theorem dJ17_init_1 : decode cJ17_init 1 = .ok (.bipush 16, 2) := dk_16 16 (dk_at dksJ17_init_0 1 rfl rfl)
theorem dJ17_init_3 : decode cJ17_init 3 = .ok (.invokespecial 1, 3) := dk_183 0 1 (dk_at dksJ17_init_0 3 rfl rfl)
theorem dJ17_init_6 : decode cJ17_init 6 = .ok (.return_, 1) := dk_177 (dk_at dksJ17_init_0 6 rfl rfl)
abbrev cJ17_append : ByteArray := prog_38_method_14_code
def yJ17_append : MethodName := ⟨RJ17, "append", "(C)Ljava/lang/StringBuilder;"⟩
def dkwJ17_append_0 : List UInt8 := [42, 27, 183, 0, 50, 87, 42, 176]
abbrev dktJ17_append_0 : List UInt8 := dkwJ17_append_0 ++ []
theorem dksJ17_append_0 : cJ17_append.data.toList.drop 0 = dktJ17_append_0 := by decide +kernel
theorem dJ17_append_0 : decode cJ17_append 0 = .ok (.aload_n 0, 1) := dk_42 (dk_at dksJ17_append_0 0 rfl rfl)
theorem dJ17_append_1 : decode cJ17_append 1 = .ok (.iload_n 1, 1) := dk_27 (dk_at dksJ17_append_0 1 rfl rfl)
theorem dJ17_append_2 : decode cJ17_append 2 = .ok (.invokespecial 50, 3) := dk_183 0 50 (dk_at dksJ17_append_0 2 rfl rfl)
theorem dJ17_append_5 : decode cJ17_append 5 = .ok (.pop, 1) := dk_87 (dk_at dksJ17_append_0 5 rfl rfl)
theorem dJ17_append_6 : decode cJ17_append 6 = .ok (.aload_n 0, 1) := dk_42 (dk_at dksJ17_append_0 6 rfl rfl)
theorem dJ17_append_7 : decode cJ17_append 7 = .ok (.areturn, 1) := dk_176 (dk_at dksJ17_append_0 7 rfl rfl)
abbrev cJ17_toString : ByteArray := prog_38_method_42_code
def yJ17_toString : MethodName := ⟨RJ17, "toString", "()Ljava/lang/String;"⟩
def dkwJ17_toString_0 : List UInt8 := [187, 0, 18, 89, 42, 183, 0, 137, 176]
abbrev dktJ17_toString_0 : List UInt8 := dkwJ17_toString_0 ++ []
theorem dksJ17_toString_0 : cJ17_toString.data.toList.drop 0 = dktJ17_toString_0 := by decide +kernel
theorem dJ17_toString_0 : decode cJ17_toString 0 = .ok (.new 18, 3) := dk_187 0 18 (dk_at dksJ17_toString_0 0 rfl rfl)
theorem dJ17_toString_3 : decode cJ17_toString 3 = .ok (.dup, 1) := dk_89 (dk_at dksJ17_toString_0 3 rfl rfl)
theorem dJ17_toString_4 : decode cJ17_toString 4 = .ok (.aload_n 0, 1) := dk_42 (dk_at dksJ17_toString_0 4 rfl rfl)
theorem dJ17_toString_5 : decode cJ17_toString 5 = .ok (.invokespecial 137, 3) := dk_183 0 137 (dk_at dksJ17_toString_0 5 rfl rfl)
theorem dJ17_toString_8 : decode cJ17_toString 8 = .ok (.areturn, 1) := dk_176 (dk_at dksJ17_toString_0 8 rfl rfl)
abbrev cJ17_length : ByteArray := prog_38_method_93_code
def yJ17_length : MethodName := ⟨RJ17, "length", "()I"⟩
theorem dJ17_length_0 : decode cJ17_length 0 = .ok (.aload_n 0, 1) := by decide +kernel
theorem dJ17_length_1 : decode cJ17_length 1 = .ok (.invokespecial 343, 3) := by decide +kernel
theorem dJ17_length_4 : decode cJ17_length 4 = .ok (.ireturn, 1) := by decide +kernel
abbrev cJ17_compareTo : ByteArray := prog_38_method_97_code
def yJ17_compareTo : MethodName := ⟨RJ17, "compareTo", "(Ljava/lang/Object;)I"⟩
def dkwJ17_compareTo_0 : List UInt8 := [42, 43, 192, 0, 24, 182, 1, 90, 172]
abbrev dktJ17_compareTo_0 : List UInt8 := dkwJ17_compareTo_0 ++ []
theorem dksJ17_compareTo_0 : cJ17_compareTo.data.toList.drop 0 = dktJ17_compareTo_0 := by decide +kernel
theorem dJ17_compareTo_0 : decode cJ17_compareTo 0 = .ok (.aload_n 0, 1) := dk_42 (dk_at dksJ17_compareTo_0 0 rfl rfl)
theorem dJ17_compareTo_1 : decode cJ17_compareTo 1 = .ok (.aload_n 1, 1) := dk_43 (dk_at dksJ17_compareTo_0 1 rfl rfl)
theorem dJ17_compareTo_2 : decode cJ17_compareTo 2 = .ok (.checkcast 24, 3) := dk_192 0 24 (dk_at dksJ17_compareTo_0 2 rfl rfl)
theorem dJ17_compareTo_5 : decode cJ17_compareTo 5 = .ok (.invokevirtual 346, 3) := dk_182 1 90 (dk_at dksJ17_compareTo_0 5 rfl rfl)
theorem dJ17_compareTo_8 : decode cJ17_compareTo 8 = .ok (.ireturn, 1) := dk_172 (dk_at dksJ17_compareTo_0 8 rfl rfl)
abbrev cJ17_compareTo_2 : ByteArray := prog_38_method_5_code
def yJ17_compareTo_2 : MethodName := ⟨RJ17, "compareTo", "(Ljava/lang/StringBuilder;)I"⟩
def dkwJ17_compareTo_2_0 : List UInt8 := [42, 43, 183, 0, 13, 172]
abbrev dktJ17_compareTo_2_0 : List UInt8 := dkwJ17_compareTo_2_0 ++ []
theorem dksJ17_compareTo_2_0 : cJ17_compareTo_2.data.toList.drop 0 = dktJ17_compareTo_2_0 := by decide +kernel
theorem dJ17_compareTo_2_0 : decode cJ17_compareTo_2 0 = .ok (.aload_n 0, 1) := dk_42 (dk_at dksJ17_compareTo_2_0 0 rfl rfl)
theorem dJ17_compareTo_2_1 : decode cJ17_compareTo_2 1 = .ok (.aload_n 1, 1) := dk_43 (dk_at dksJ17_compareTo_2_0 1 rfl rfl)
theorem dJ17_compareTo_2_2 : decode cJ17_compareTo_2 2 = .ok (.invokespecial 13, 3) := dk_183 0 13 (dk_at dksJ17_compareTo_2_0 2 rfl rfl)
theorem dJ17_compareTo_2_5 : decode cJ17_compareTo_2 5 = .ok (.ireturn, 1) := dk_172 (dk_at dksJ17_compareTo_2_0 5 rfl rfl)
abbrev cJ17_append_2 : ByteArray := prog_38_method_15_code
def yJ17_append_2 : MethodName := ⟨RJ17, "append", "(I)Ljava/lang/StringBuilder;"⟩
def dkwJ17_append_2_0 : List UInt8 := [42, 27, 183, 0, 53, 87, 42, 176]
abbrev dktJ17_append_2_0 : List UInt8 := dkwJ17_append_2_0 ++ []
theorem dksJ17_append_2_0 : cJ17_append_2.data.toList.drop 0 = dktJ17_append_2_0 := by decide +kernel
theorem dJ17_append_2_0 : decode cJ17_append_2 0 = .ok (.aload_n 0, 1) := dk_42 (dk_at dksJ17_append_2_0 0 rfl rfl)
theorem dJ17_append_2_1 : decode cJ17_append_2 1 = .ok (.iload_n 1, 1) := dk_27 (dk_at dksJ17_append_2_0 1 rfl rfl)
theorem dJ17_append_2_2 : decode cJ17_append_2 2 = .ok (.invokespecial 53, 3) := dk_183 0 53 (dk_at dksJ17_append_2_0 2 rfl rfl)
theorem dJ17_append_2_5 : decode cJ17_append_2 5 = .ok (.pop, 1) := dk_87 (dk_at dksJ17_append_2_0 5 rfl rfl)
theorem dJ17_append_2_6 : decode cJ17_append_2 6 = .ok (.aload_n 0, 1) := dk_42 (dk_at dksJ17_append_2_0 6 rfl rfl)
theorem dJ17_append_2_7 : decode cJ17_append_2 7 = .ok (.areturn, 1) := dk_176 (dk_at dksJ17_append_2_0 7 rfl rfl)
abbrev cJ17_append_3 : ByteArray := prog_38_method_7_code
def yJ17_append_3 : MethodName := ⟨RJ17, "append", "(Ljava/lang/String;)Ljava/lang/StringBuilder;"⟩
def dkwJ17_append_3_0 : List UInt8 := [42, 43, 183, 0, 29, 87, 42, 176]
abbrev dktJ17_append_3_0 : List UInt8 := dkwJ17_append_3_0 ++ []
theorem dksJ17_append_3_0 : cJ17_append_3.data.toList.drop 0 = dktJ17_append_3_0 := by decide +kernel
theorem dJ17_append_3_0 : decode cJ17_append_3 0 = .ok (.aload_n 0, 1) := dk_42 (dk_at dksJ17_append_3_0 0 rfl rfl)
theorem dJ17_append_3_1 : decode cJ17_append_3 1 = .ok (.aload_n 1, 1) := dk_43 (dk_at dksJ17_append_3_0 1 rfl rfl)
theorem dJ17_append_3_2 : decode cJ17_append_3 2 = .ok (.invokespecial 29, 3) := dk_183 0 29 (dk_at dksJ17_append_3_0 2 rfl rfl)
theorem dJ17_append_3_5 : decode cJ17_append_3 5 = .ok (.pop, 1) := dk_87 (dk_at dksJ17_append_3_0 5 rfl rfl)
theorem dJ17_append_3_6 : decode cJ17_append_3 6 = .ok (.aload_n 0, 1) := dk_42 (dk_at dksJ17_append_3_0 6 rfl rfl)
theorem dJ17_append_3_7 : decode cJ17_append_3 7 = .ok (.areturn, 1) := dk_176 (dk_at dksJ17_append_3_0 7 rfl rfl)
theorem q158 : (Jvm.Cond.initialized "java/lang/StringBuilder") ∈ lw_all := lw_g (lw_at lw_m1 30 rfl) rfl
theorem q712 : (Jvm.Cond.selects "java/lang/StringBuilder" ({ cls := "java/lang/Object", name := "getClass", desc := "()Ljava/lang/Class;" } : Jvm.MethodName) ({ cls := "java/lang/Object", name := "getClass", desc := "()Ljava/lang/Class;" } : Jvm.MethodName)) ∈ lw_all := lw_g (lw_at lw_m3 104 rfl) rfl
theorem q985 : (Jvm.Cond.instantiable "java/lang/StringBuilder" (4 : Nat)) ∈ lw_all := lw_g (lw_at lw_m4 137 rfl) rfl
theorem q987 : (Jvm.Cond.instanceMethod ({ cls := "java/lang/StringBuilder", name := "<init>", desc := "()V" } : Jvm.MethodName)) ∈ lw_all := lw_g (lw_at lw_m4 139 rfl) rfl
theorem q988 : (Jvm.Cond.code ({ cls := "java/lang/StringBuilder", name := "<init>", desc := "()V" } : Jvm.MethodName) prog_38_method_1_code (1 : Nat) (Option.none : Option Jvm.ClassFile.FieldType)) ∈ lw_all := lw_g (lw_at lw_m4 140 rfl) rfl
theorem q989 : (Jvm.Cond.methodLink "java/lang/StringBuilder" (1 : Nat) ({ cls := "java/lang/AbstractStringBuilder", name := "<init>", desc := "(I)V" } : Jvm.MethodName)) ∈ lw_all := lw_g (lw_at lw_m4 141 rfl) rfl
theorem q1006 : (Jvm.Cond.lays "java/lang/StringBuilder" "java/lang/AbstractStringBuilder" "value" "[B") ∈ lw_all := lw_g (lw_at lw_m4 158 rfl) rfl
theorem q1008 : (Jvm.Cond.lays "java/lang/StringBuilder" "java/lang/AbstractStringBuilder" "coder" "B") ∈ lw_all := lw_g (lw_at lw_m4 160 rfl) rfl
theorem q1010 : (Jvm.Cond.lays "java/lang/StringBuilder" "java/lang/AbstractStringBuilder" "maybeLatin1" "Z") ∈ lw_all := lw_g (lw_at lw_m4 162 rfl) rfl
theorem q1012 : (Jvm.Cond.lays "java/lang/StringBuilder" "java/lang/AbstractStringBuilder" "count" "I") ∈ lw_all := lw_g (lw_at lw_m4 164 rfl) rfl
theorem q1014 : (Jvm.Cond.superclass "java/lang/StringBuilder" "java/lang/AbstractStringBuilder") ∈ lw_all := lw_g (lw_at lw_m4 166 rfl) rfl
theorem q1016 : (Jvm.Cond.instanceMethod ({ cls := "java/lang/StringBuilder", name := "append", desc := "(C)Ljava/lang/StringBuilder;" } : Jvm.MethodName)) ∈ lw_all := lw_g (lw_at lw_m4 168 rfl) rfl
theorem q1017 : (Jvm.Cond.selects "java/lang/StringBuilder" ({ cls := "java/lang/StringBuilder", name := "append", desc := "(C)Ljava/lang/StringBuilder;" } : Jvm.MethodName) ({ cls := "java/lang/StringBuilder", name := "append", desc := "(C)Ljava/lang/StringBuilder;" } : Jvm.MethodName)) ∈ lw_all := lw_g (lw_at lw_m4 169 rfl) rfl
theorem q1018 : (Jvm.Cond.code ({ cls := "java/lang/StringBuilder", name := "append", desc := "(C)Ljava/lang/StringBuilder;" } : Jvm.MethodName) prog_38_method_14_code (2 : Nat) (Option.some (Jvm.ClassFile.FieldType.object "java/lang/StringBuilder"))) ∈ lw_all := lw_g (lw_at lw_m4 170 rfl) rfl
theorem q1019 : (Jvm.Cond.methodLink "java/lang/StringBuilder" (50 : Nat) ({ cls := "java/lang/AbstractStringBuilder", name := "append", desc := "(C)Ljava/lang/AbstractStringBuilder;" } : Jvm.MethodName)) ∈ lw_all := lw_g (lw_at lw_m4 171 rfl) rfl
theorem q1043 : (Jvm.Cond.selects "java/lang/StringBuilder" ({ cls := "java/lang/AbstractStringBuilder", name := "isLatin1", desc := "()Z" } : Jvm.MethodName) ({ cls := "java/lang/AbstractStringBuilder", name := "isLatin1", desc := "()Z" } : Jvm.MethodName)) ∈ lw_all := lw_g (lw_at lw_m4 195 rfl) rfl
theorem q1092 : (Jvm.Cond.instanceMethod ({ cls := "java/lang/StringBuilder", name := "toString", desc := "()Ljava/lang/String;" } : Jvm.MethodName)) ∈ lw_all := lw_g (lw_at lw_m5 4 rfl) rfl
theorem q1093 : (Jvm.Cond.selects "java/lang/StringBuilder" ({ cls := "java/lang/StringBuilder", name := "toString", desc := "()Ljava/lang/String;" } : Jvm.MethodName) ({ cls := "java/lang/StringBuilder", name := "toString", desc := "()Ljava/lang/String;" } : Jvm.MethodName)) ∈ lw_all := lw_g (lw_at lw_m5 5 rfl) rfl
theorem q1094 : (Jvm.Cond.code ({ cls := "java/lang/StringBuilder", name := "toString", desc := "()Ljava/lang/String;" } : Jvm.MethodName) prog_38_method_42_code (1 : Nat) (Option.some (Jvm.ClassFile.FieldType.object "java/lang/String"))) ∈ lw_all := lw_g (lw_at lw_m5 6 rfl) rfl
theorem q1095 : (Jvm.Cond.classLink "java/lang/StringBuilder" (18 : Nat) "java/lang/String") ∈ lw_all := lw_g (lw_at lw_m5 7 rfl) rfl
theorem q1097 : (Jvm.Cond.methodLink "java/lang/StringBuilder" (137 : Nat) ({ cls := "java/lang/String", name := "<init>", desc := "(Ljava/lang/StringBuilder;)V" } : Jvm.MethodName)) ∈ lw_all := lw_g (lw_at lw_m5 9 rfl) rfl
theorem q1107 : (Jvm.Cond.selects "java/lang/StringBuilder" ({ cls := "java/lang/AbstractStringBuilder", name := "getValue", desc := "()[B" } : Jvm.MethodName) ({ cls := "java/lang/AbstractStringBuilder", name := "getValue", desc := "()[B" } : Jvm.MethodName)) ∈ lw_all := lw_g (lw_at lw_m5 19 rfl) rfl
theorem q1112 : (Jvm.Cond.selects "java/lang/StringBuilder" ({ cls := "java/lang/AbstractStringBuilder", name := "length", desc := "()I" } : Jvm.MethodName) ({ cls := "java/lang/StringBuilder", name := "length", desc := "()I" } : Jvm.MethodName)) ∈ lw_all := lw_g (lw_at lw_m5 24 rfl) rfl
theorem q1113 : (Jvm.Cond.instanceMethod ({ cls := "java/lang/StringBuilder", name := "length", desc := "()I" } : Jvm.MethodName)) ∈ lw_all := lw_g (lw_at lw_m5 25 rfl) rfl
theorem q1114 : (Jvm.Cond.code ({ cls := "java/lang/StringBuilder", name := "length", desc := "()I" } : Jvm.MethodName) prog_38_method_93_code (1 : Nat) (Option.some Jvm.ClassFile.FieldType.int)) ∈ lw_all := lw_g (lw_at lw_m5 26 rfl) rfl
theorem q1115 : (Jvm.Cond.methodLink "java/lang/StringBuilder" (343 : Nat) ({ cls := "java/lang/AbstractStringBuilder", name := "length", desc := "()I" } : Jvm.MethodName)) ∈ lw_all := lw_g (lw_at lw_m5 27 rfl) rfl
theorem q1379 : (Jvm.Cond.castable "java/lang/StringBuilder" "java/lang/Comparable") ∈ lw_tbl := lw_at lw_m6 51 rfl
theorem q1380 : (Jvm.Cond.selects "java/lang/StringBuilder" ({ cls := "java/lang/Comparable", name := "compareTo", desc := "(Ljava/lang/Object;)I" } : Jvm.MethodName) ({ cls := "java/lang/StringBuilder", name := "compareTo", desc := "(Ljava/lang/Object;)I" } : Jvm.MethodName)) ∈ lw_all := lw_g (lw_at lw_m6 52 rfl) rfl
theorem q1381 : (Jvm.Cond.unhidden "java/lang/StringBuilder" "compareTo" "(Ljava/lang/Object;)I") ∈ lw_tbl := lw_at lw_m6 53 rfl
theorem q1382 : (Jvm.Cond.instanceMethod ({ cls := "java/lang/StringBuilder", name := "compareTo", desc := "(Ljava/lang/Object;)I" } : Jvm.MethodName)) ∈ lw_all := lw_g (lw_at lw_m6 54 rfl) rfl
theorem q1383 : (Jvm.Cond.publicMethod ({ cls := "java/lang/StringBuilder", name := "compareTo", desc := "(Ljava/lang/Object;)I" } : Jvm.MethodName)) ∈ lw_tbl := lw_at lw_m6 55 rfl
theorem q1384 : (Jvm.Cond.code ({ cls := "java/lang/StringBuilder", name := "compareTo", desc := "(Ljava/lang/Object;)I" } : Jvm.MethodName) prog_38_method_97_code (2 : Nat) (Option.some Jvm.ClassFile.FieldType.int)) ∈ lw_all := lw_g (lw_at lw_m6 56 rfl) rfl
theorem q1385 : (Jvm.Cond.classLink "java/lang/StringBuilder" (24 : Nat) "java/lang/StringBuilder") ∈ lw_all := lw_g (lw_at lw_m6 57 rfl) rfl
theorem q1386 : (Jvm.Cond.methodLink "java/lang/StringBuilder" (346 : Nat) ({ cls := "java/lang/StringBuilder", name := "compareTo", desc := "(Ljava/lang/StringBuilder;)I" } : Jvm.MethodName)) ∈ lw_all := lw_g (lw_at lw_m6 58 rfl) rfl
theorem q1387 : (Jvm.Cond.instanceMethod ({ cls := "java/lang/StringBuilder", name := "compareTo", desc := "(Ljava/lang/StringBuilder;)I" } : Jvm.MethodName)) ∈ lw_all := lw_g (lw_at lw_m6 59 rfl) rfl
theorem q1388 : (Jvm.Cond.selects "java/lang/StringBuilder" ({ cls := "java/lang/StringBuilder", name := "compareTo", desc := "(Ljava/lang/StringBuilder;)I" } : Jvm.MethodName) ({ cls := "java/lang/StringBuilder", name := "compareTo", desc := "(Ljava/lang/StringBuilder;)I" } : Jvm.MethodName)) ∈ lw_all := lw_g (lw_at lw_m6 60 rfl) rfl
theorem q1389 : (Jvm.Cond.code ({ cls := "java/lang/StringBuilder", name := "compareTo", desc := "(Ljava/lang/StringBuilder;)I" } : Jvm.MethodName) prog_38_method_5_code (2 : Nat) (Option.some Jvm.ClassFile.FieldType.int)) ∈ lw_all := lw_g (lw_at lw_m6 61 rfl) rfl
theorem q1390 : (Jvm.Cond.methodLink "java/lang/StringBuilder" (13 : Nat) ({ cls := "java/lang/AbstractStringBuilder", name := "compareTo", desc := "(Ljava/lang/AbstractStringBuilder;)I" } : Jvm.MethodName)) ∈ lw_all := lw_g (lw_at lw_m6 62 rfl) rfl
theorem q1901 : (Jvm.Cond.instanceMethod ({ cls := "java/lang/StringBuilder", name := "append", desc := "(I)Ljava/lang/StringBuilder;" } : Jvm.MethodName)) ∈ lw_all := lw_g (lw_at lw_m8 93 rfl) rfl
theorem q1902 : (Jvm.Cond.selects "java/lang/StringBuilder" ({ cls := "java/lang/StringBuilder", name := "append", desc := "(I)Ljava/lang/StringBuilder;" } : Jvm.MethodName) ({ cls := "java/lang/StringBuilder", name := "append", desc := "(I)Ljava/lang/StringBuilder;" } : Jvm.MethodName)) ∈ lw_all := lw_g (lw_at lw_m8 94 rfl) rfl
theorem q1903 : (Jvm.Cond.code ({ cls := "java/lang/StringBuilder", name := "append", desc := "(I)Ljava/lang/StringBuilder;" } : Jvm.MethodName) prog_38_method_15_code (2 : Nat) (Option.some (Jvm.ClassFile.FieldType.object "java/lang/StringBuilder"))) ∈ lw_all := lw_g (lw_at lw_m8 95 rfl) rfl
theorem q1904 : (Jvm.Cond.methodLink "java/lang/StringBuilder" (53 : Nat) ({ cls := "java/lang/AbstractStringBuilder", name := "append", desc := "(I)Ljava/lang/AbstractStringBuilder;" } : Jvm.MethodName)) ∈ lw_all := lw_g (lw_at lw_m8 96 rfl) rfl
theorem q2001 : (Jvm.Cond.instanceMethod ({ cls := "java/lang/StringBuilder", name := "append", desc := "(Ljava/lang/String;)Ljava/lang/StringBuilder;" } : Jvm.MethodName)) ∈ lw_all := lw_g (lw_at lw_m8 193 rfl) rfl
theorem q2002 : (Jvm.Cond.selects "java/lang/StringBuilder" ({ cls := "java/lang/StringBuilder", name := "append", desc := "(Ljava/lang/String;)Ljava/lang/StringBuilder;" } : Jvm.MethodName) ({ cls := "java/lang/StringBuilder", name := "append", desc := "(Ljava/lang/String;)Ljava/lang/StringBuilder;" } : Jvm.MethodName)) ∈ lw_all := lw_g (lw_at lw_m8 194 rfl) rfl
theorem q2003 : (Jvm.Cond.code ({ cls := "java/lang/StringBuilder", name := "append", desc := "(Ljava/lang/String;)Ljava/lang/StringBuilder;" } : Jvm.MethodName) prog_38_method_7_code (2 : Nat) (Option.some (Jvm.ClassFile.FieldType.object "java/lang/StringBuilder"))) ∈ lw_all := lw_g (lw_at lw_m8 195 rfl) rfl
theorem q2004 : (Jvm.Cond.methodLink "java/lang/StringBuilder" (29 : Nat) ({ cls := "java/lang/AbstractStringBuilder", name := "append", desc := "(Ljava/lang/String;)Ljava/lang/AbstractStringBuilder;" } : Jvm.MethodName)) ∈ lw_all := lw_g (lw_at lw_m8 196 rfl) rfl
theorem q2790 : (Jvm.Cond.castable "java/lang/StringBuilder" "java/lang/Object") ∈ lw_tbl := lw_at lw_m12 22 rfl
theorem in_J17 : ∀ w ∈ wsJ170, w ∈ lw_all := lw_in wsJ170 [1006, 1008, 1010, 1012] (by decide +kernel) (by decide +kernel)
/-! java/lang/String -/
set_option maxRecDepth 100000
def RJ18 : String := "java/lang/String"
def TJ18 : u_T := fun k => match k with
  | 0 => ("java/lang/String", "value", "[B", true)
  | 1 => ("java/lang/String", "coder", "B", true)
  | 2 => ("java/lang/String", "hash", "I", false)
  | _ => ("java/lang/String", "hashIsZero", "Z", false)
def tyJ18 : Nat → FieldType := fun k => match k with
  | 0 => .array .byte
  | 1 => .byte
  | 2 => .int
  | _ => .boolean
abbrev wsJ180 : List Cond := u_ws RJ18 TJ18 4
theorem nmJ18 : ∀ a, a < 4 → ∀ b, b < 4 → a ≠ b → (TJ18 a).2.1 ≠ (TJ18 b).2.1 := by decide +kernel
theorem tyJ18_ok : ∀ k, k < 4 → parseFieldDescriptor (TJ18 k).2.2.1 = some (tyJ18 k) := by decide +kernel
abbrev cJ18_checkBoundsOffCount : ByteArray := prog_37_method_157_code
def yJ18_checkBoundsOffCount : MethodName := ⟨RJ18, "checkBoundsOffCount", "(III)I"⟩
def dkwJ18_checkBoundsOffCount_0 : List UInt8 := [26, 27, 28, 178, 4, 29, 184, 4, 41, 172]
abbrev dktJ18_checkBoundsOffCount_0 : List UInt8 := dkwJ18_checkBoundsOffCount_0 ++ []
theorem dksJ18_checkBoundsOffCount_0 : cJ18_checkBoundsOffCount.data.toList.drop 0 = dktJ18_checkBoundsOffCount_0 := by decide +kernel
theorem dJ18_checkBoundsOffCount_0 : decode cJ18_checkBoundsOffCount 0 = .ok (.iload_n 0, 1) := dk_26 (dk_at dksJ18_checkBoundsOffCount_0 0 rfl rfl)
theorem dJ18_checkBoundsOffCount_1 : decode cJ18_checkBoundsOffCount 1 = .ok (.iload_n 1, 1) := dk_27 (dk_at dksJ18_checkBoundsOffCount_0 1 rfl rfl)
theorem dJ18_checkBoundsOffCount_2 : decode cJ18_checkBoundsOffCount 2 = .ok (.iload_n 2, 1) := dk_28 (dk_at dksJ18_checkBoundsOffCount_0 2 rfl rfl)
theorem dJ18_checkBoundsOffCount_3 : decode cJ18_checkBoundsOffCount 3 = .ok (.getstatic 1053, 3) := dk_178 4 29 (dk_at dksJ18_checkBoundsOffCount_0 3 rfl rfl)
theorem dJ18_checkBoundsOffCount_6 : decode cJ18_checkBoundsOffCount 6 = .ok (.invokestatic 1065, 3) := dk_184 4 41 (dk_at dksJ18_checkBoundsOffCount_0 6 rfl rfl)
theorem dJ18_checkBoundsOffCount_9 : decode cJ18_checkBoundsOffCount 9 = .ok (.ireturn, 1) := dk_172 (dk_at dksJ18_checkBoundsOffCount_0 9 rfl rfl)
abbrev cJ18_checkIndex : ByteArray := prog_37_method_155_code
def yJ18_checkIndex : MethodName := ⟨RJ18, "checkIndex", "(II)V"⟩
def dkwJ18_checkIndex_0 : List UInt8 := [26, 27, 178, 4, 29, 184, 4, 35, 87, 177]
abbrev dktJ18_checkIndex_0 : List UInt8 := dkwJ18_checkIndex_0 ++ []
theorem dksJ18_checkIndex_0 : cJ18_checkIndex.data.toList.drop 0 = dktJ18_checkIndex_0 := by decide +kernel
theorem dJ18_checkIndex_0 : decode cJ18_checkIndex 0 = .ok (.iload_n 0, 1) := dk_26 (dk_at dksJ18_checkIndex_0 0 rfl rfl)
theorem dJ18_checkIndex_1 : decode cJ18_checkIndex 1 = .ok (.iload_n 1, 1) := dk_27 (dk_at dksJ18_checkIndex_0 1 rfl rfl)
theorem dJ18_checkIndex_2 : decode cJ18_checkIndex 2 = .ok (.getstatic 1053, 3) := dk_178 4 29 (dk_at dksJ18_checkIndex_0 2 rfl rfl)
theorem dJ18_checkIndex_5 : decode cJ18_checkIndex 5 = .ok (.invokestatic 1059, 3) := dk_184 4 35 (dk_at dksJ18_checkIndex_0 5 rfl rfl)
theorem dJ18_checkIndex_8 : decode cJ18_checkIndex 8 = .ok (.pop, 1) := dk_87 (dk_at dksJ18_checkIndex_0 8 rfl rfl)
theorem dJ18_checkIndex_9 : decode cJ18_checkIndex 9 = .ok (.return_, 1) := dk_177 (dk_at dksJ18_checkIndex_0 9 rfl rfl)
abbrev cJ18_init : ByteArray := prog_37_method_53_code
def yJ18_init : MethodName := ⟨RJ18, "<init>", "(Ljava/lang/StringBuilder;)V"⟩
def dkwJ18_init_0 : List UInt8 := [42, 43, 1, 183, 1, 233, 177]
abbrev dktJ18_init_0 : List UInt8 := dkwJ18_init_0 ++ []
theorem dksJ18_init_0 : cJ18_init.data.toList.drop 0 = dktJ18_init_0 := by decide +kernel
theorem dJ18_init_0 : decode cJ18_init 0 = .ok (.aload_n 0, 1) := dk_42 (dk_at dksJ18_init_0 0 rfl rfl)
theorem dJ18_init_1 : decode cJ18_init 1 = .ok (.aload_n 1, 1) := dk_43 (dk_at dksJ18_init_0 1 rfl rfl)
theorem dJ18_init_2 : decode cJ18_init 2 = .ok (.aconst_null, 1) := dk_1 (dk_at dksJ18_init_0 2 rfl rfl)
theorem dJ18_init_3 : decode cJ18_init 3 = .ok (.invokespecial 489, 3) := dk_183 1 233 (dk_at dksJ18_init_0 3 rfl rfl)
theorem dJ18_init_6 : decode cJ18_init 6 = .ok (.return_, 1) := dk_177 (dk_at dksJ18_init_0 6 rfl rfl)
abbrev cJ18_init_2 : ByteArray := prog_37_method_150_code
def yJ18_init_2 : MethodName := ⟨RJ18, "<init>", "(Ljava/lang/AbstractStringBuilder;Ljava/lang/Void;)V"⟩
def dkwJ18_init_2_4 : List UInt8 := [181, 0, 9, 177]
abbrev dktJ18_init_2_4 : List UInt8 := dkwJ18_init_2_4 ++ []
def dkwJ18_init_2_3 : List UInt8 := [184, 0, 47, 181, 0, 15, 177, 42, 4, 181, 0, 15, 42, 45, 3, 21, 4, 4, 120, 184, 0, 54]
abbrev dktJ18_init_2_3 : List UInt8 := dkwJ18_init_2_3 ++ dktJ18_init_2_4
def dkwJ18_init_2_2 : List UInt8 := [180, 4, 24, 153, 0, 28, 42, 45, 3, 21, 4, 184, 4, 27, 181, 0, 9, 42, 42, 180, 0, 9, 21, 4]
abbrev dktJ18_init_2_2 : List UInt8 := dkwJ18_init_2_2 ++ dktJ18_init_2_3
def dkwJ18_init_2_1 : List UInt8 := [181, 0, 15, 42, 45, 3, 21, 4, 184, 0, 54, 181, 0, 9, 167, 0, 59, 178, 0, 38, 153, 0, 35, 43]
abbrev dktJ18_init_2_1 : List UInt8 := dkwJ18_init_2_1 ++ dktJ18_init_2_2
def dkwJ18_init_2_0 : List UInt8 := [42, 183, 0, 1, 43, 182, 2, 40, 78, 43, 182, 2, 37, 54, 4, 43, 182, 4, 23, 153, 0, 22, 42, 3]
abbrev dktJ18_init_2_0 : List UInt8 := dkwJ18_init_2_0 ++ dktJ18_init_2_1
theorem dksJ18_init_2_0 : cJ18_init_2.data.toList.drop 0 = dktJ18_init_2_0 := by decide +kernel
theorem dksJ18_init_2_1 : cJ18_init_2.data.toList.drop 24 = dktJ18_init_2_1 := dk_seg dksJ18_init_2_0 24 rfl rfl
theorem dksJ18_init_2_2 : cJ18_init_2.data.toList.drop 48 = dktJ18_init_2_2 := dk_seg dksJ18_init_2_1 24 rfl rfl
theorem dksJ18_init_2_3 : cJ18_init_2.data.toList.drop 72 = dktJ18_init_2_3 := dk_seg dksJ18_init_2_2 24 rfl rfl
theorem dksJ18_init_2_4 : cJ18_init_2.data.toList.drop 94 = dktJ18_init_2_4 := dk_seg dksJ18_init_2_3 22 rfl rfl
theorem dJ18_init_2_0 : decode cJ18_init_2 0 = .ok (.aload_n 0, 1) := dk_42 (dk_at dksJ18_init_2_0 0 rfl rfl)
theorem dJ18_init_2_1 : decode cJ18_init_2 1 = .ok (.invokespecial 1, 3) := dk_183 0 1 (dk_at dksJ18_init_2_0 1 rfl rfl)
theorem dJ18_init_2_4 : decode cJ18_init_2 4 = .ok (.aload_n 1, 1) := dk_43 (dk_at dksJ18_init_2_0 4 rfl rfl)
theorem dJ18_init_2_5 : decode cJ18_init_2 5 = .ok (.invokevirtual 552, 3) := dk_182 2 40 (dk_at dksJ18_init_2_0 5 rfl rfl)
theorem dJ18_init_2_8 : decode cJ18_init_2 8 = .ok (.astore_n 3, 1) := dk_78 (dk_at dksJ18_init_2_0 8 rfl rfl)
theorem dJ18_init_2_9 : decode cJ18_init_2 9 = .ok (.aload_n 1, 1) := dk_43 (dk_at dksJ18_init_2_0 9 rfl rfl)
theorem dJ18_init_2_10 : decode cJ18_init_2 10 = .ok (.invokevirtual 549, 3) := dk_182 2 37 (dk_at dksJ18_init_2_0 10 rfl rfl)
theorem dJ18_init_2_13 : decode cJ18_init_2 13 = .ok (.istore 4, 2) := dk_54 4 (dk_at dksJ18_init_2_0 13 rfl rfl)
theorem dJ18_init_2_15 : decode cJ18_init_2 15 = .ok (.aload_n 1, 1) := dk_43 (dk_at dksJ18_init_2_0 15 rfl rfl)
theorem dJ18_init_2_16 : decode cJ18_init_2 16 = .ok (.invokevirtual 1047, 3) := dk_182 4 23 (dk_at dksJ18_init_2_0 16 rfl rfl)
theorem dJ18_init_2_19 : decode cJ18_init_2 19 = .ok (.ifCond .eq 22, 3) := dk_153 0 22 (dk_at dksJ18_init_2_0 19 rfl rfl)
theorem dJ18_init_2_22 : decode cJ18_init_2 22 = .ok (.aload_n 0, 1) := dk_42 (dk_at dksJ18_init_2_0 22 rfl rfl)
theorem dJ18_init_2_23 : decode cJ18_init_2 23 = .ok (.iconst 0, 1) := dk_3 (dk_at dksJ18_init_2_0 23 rfl rfl)
theorem dJ18_init_2_24 : decode cJ18_init_2 24 = .ok (.putfield 15, 3) := dk_181 0 15 (dk_at dksJ18_init_2_1 0 rfl rfl)
theorem dJ18_init_2_27 : decode cJ18_init_2 27 = .ok (.aload_n 0, 1) := dk_42 (dk_at dksJ18_init_2_1 3 rfl rfl)
theorem dJ18_init_2_28 : decode cJ18_init_2 28 = .ok (.aload_n 3, 1) := dk_45 (dk_at dksJ18_init_2_1 4 rfl rfl)
theorem dJ18_init_2_29 : decode cJ18_init_2 29 = .ok (.iconst 0, 1) := dk_3 (dk_at dksJ18_init_2_1 5 rfl rfl)
theorem dJ18_init_2_30 : decode cJ18_init_2 30 = .ok (.iload 4, 2) := dk_21 4 (dk_at dksJ18_init_2_1 6 rfl rfl)
theorem dJ18_init_2_32 : decode cJ18_init_2 32 = .ok (.invokestatic 54, 3) := dk_184 0 54 (dk_at dksJ18_init_2_1 8 rfl rfl)
theorem dJ18_init_2_35 : decode cJ18_init_2 35 = .ok (.putfield 9, 3) := dk_181 0 9 (dk_at dksJ18_init_2_1 11 rfl rfl)
theorem dJ18_init_2_38 : decode cJ18_init_2 38 = .ok (.goto 59, 3) := dk_167 0 59 (dk_at dksJ18_init_2_1 14 rfl rfl)
theorem dJ18_init_2_41 : decode cJ18_init_2 41 = .ok (.getstatic 38, 3) := dk_178 0 38 (dk_at dksJ18_init_2_1 17 rfl rfl)
theorem dJ18_init_2_44 : decode cJ18_init_2 44 = .ok (.ifCond .eq 35, 3) := dk_153 0 35 (dk_at dksJ18_init_2_1 20 rfl rfl)
theorem dJ18_init_2_47 : decode cJ18_init_2 47 = .ok (.aload_n 1, 1) := dk_43 (dk_at dksJ18_init_2_1 23 rfl rfl)
theorem dJ18_init_2_48 : decode cJ18_init_2 48 = .ok (.getfield 1048, 3) := dk_180 4 24 (dk_at dksJ18_init_2_2 0 rfl rfl)
theorem dJ18_init_2_51 : decode cJ18_init_2 51 = .ok (.ifCond .eq 28, 3) := dk_153 0 28 (dk_at dksJ18_init_2_2 3 rfl rfl)
theorem dJ18_init_2_54 : decode cJ18_init_2 54 = .ok (.aload_n 0, 1) := dk_42 (dk_at dksJ18_init_2_2 6 rfl rfl)
theorem dJ18_init_2_55 : decode cJ18_init_2 55 = .ok (.aload_n 3, 1) := dk_45 (dk_at dksJ18_init_2_2 7 rfl rfl)
theorem dJ18_init_2_56 : decode cJ18_init_2 56 = .ok (.iconst 0, 1) := dk_3 (dk_at dksJ18_init_2_2 8 rfl rfl)
theorem dJ18_init_2_57 : decode cJ18_init_2 57 = .ok (.iload 4, 2) := dk_21 4 (dk_at dksJ18_init_2_2 9 rfl rfl)
theorem dJ18_init_2_59 : decode cJ18_init_2 59 = .ok (.invokestatic 1051, 3) := dk_184 4 27 (dk_at dksJ18_init_2_2 11 rfl rfl)
theorem dJ18_init_2_62 : decode cJ18_init_2 62 = .ok (.putfield 9, 3) := dk_181 0 9 (dk_at dksJ18_init_2_2 14 rfl rfl)
theorem dJ18_init_2_65 : decode cJ18_init_2 65 = .ok (.aload_n 0, 1) := dk_42 (dk_at dksJ18_init_2_2 17 rfl rfl)
theorem dJ18_init_2_66 : decode cJ18_init_2 66 = .ok (.aload_n 0, 1) := dk_42 (dk_at dksJ18_init_2_2 18 rfl rfl)
theorem dJ18_init_2_67 : decode cJ18_init_2 67 = .ok (.getfield 9, 3) := dk_180 0 9 (dk_at dksJ18_init_2_2 19 rfl rfl)
theorem dJ18_init_2_70 : decode cJ18_init_2 70 = .ok (.iload 4, 2) := dk_21 4 (dk_at dksJ18_init_2_2 22 rfl rfl)
theorem dJ18_init_2_72 : decode cJ18_init_2 72 = .ok (.invokestatic 47, 3) := dk_184 0 47 (dk_at dksJ18_init_2_3 0 rfl rfl)
theorem dJ18_init_2_75 : decode cJ18_init_2 75 = .ok (.putfield 15, 3) := dk_181 0 15 (dk_at dksJ18_init_2_3 3 rfl rfl)
theorem dJ18_init_2_78 : decode cJ18_init_2 78 = .ok (.return_, 1) := dk_177 (dk_at dksJ18_init_2_3 6 rfl rfl)
theorem dJ18_init_2_79 : decode cJ18_init_2 79 = .ok (.aload_n 0, 1) := dk_42 (dk_at dksJ18_init_2_3 7 rfl rfl)
theorem dJ18_init_2_80 : decode cJ18_init_2 80 = .ok (.iconst 1, 1) := dk_4 (dk_at dksJ18_init_2_3 8 rfl rfl)
theorem dJ18_init_2_81 : decode cJ18_init_2 81 = .ok (.putfield 15, 3) := dk_181 0 15 (dk_at dksJ18_init_2_3 9 rfl rfl)
theorem dJ18_init_2_84 : decode cJ18_init_2 84 = .ok (.aload_n 0, 1) := dk_42 (dk_at dksJ18_init_2_3 12 rfl rfl)
theorem dJ18_init_2_85 : decode cJ18_init_2 85 = .ok (.aload_n 3, 1) := dk_45 (dk_at dksJ18_init_2_3 13 rfl rfl)
theorem dJ18_init_2_86 : decode cJ18_init_2 86 = .ok (.iconst 0, 1) := dk_3 (dk_at dksJ18_init_2_3 14 rfl rfl)
theorem dJ18_init_2_87 : decode cJ18_init_2 87 = .ok (.iload 4, 2) := dk_21 4 (dk_at dksJ18_init_2_3 15 rfl rfl)
theorem dJ18_init_2_89 : decode cJ18_init_2 89 = .ok (.iconst 1, 1) := dk_4 (dk_at dksJ18_init_2_3 17 rfl rfl)
theorem dJ18_init_2_90 : decode cJ18_init_2 90 = .ok (.ishl, 1) := dk_120 (dk_at dksJ18_init_2_3 18 rfl rfl)
theorem dJ18_init_2_91 : decode cJ18_init_2 91 = .ok (.invokestatic 54, 3) := dk_184 0 54 (dk_at dksJ18_init_2_3 19 rfl rfl)
theorem dJ18_init_2_94 : decode cJ18_init_2 94 = .ok (.putfield 9, 3) := dk_181 0 9 (dk_at dksJ18_init_2_4 0 rfl rfl)
theorem dJ18_init_2_97 : decode cJ18_init_2 97 = .ok (.return_, 1) := dk_177 (dk_at dksJ18_init_2_4 3 rfl rfl)
abbrev cJ18_compareTo : ByteArray := prog_37_method_162_code
def yJ18_compareTo : MethodName := ⟨RJ18, "compareTo", "(Ljava/lang/Object;)I"⟩
def dkwJ18_compareTo_0 : List UInt8 := [42, 43, 192, 0, 10, 182, 4, 60, 172]
abbrev dktJ18_compareTo_0 : List UInt8 := dkwJ18_compareTo_0 ++ []
theorem dksJ18_compareTo_0 : cJ18_compareTo.data.toList.drop 0 = dktJ18_compareTo_0 := by decide +kernel
theorem dJ18_compareTo_0 : decode cJ18_compareTo 0 = .ok (.aload_n 0, 1) := dk_42 (dk_at dksJ18_compareTo_0 0 rfl rfl)
theorem dJ18_compareTo_1 : decode cJ18_compareTo 1 = .ok (.aload_n 1, 1) := dk_43 (dk_at dksJ18_compareTo_0 1 rfl rfl)
theorem dJ18_compareTo_2 : decode cJ18_compareTo 2 = .ok (.checkcast 10, 3) := dk_192 0 10 (dk_at dksJ18_compareTo_0 2 rfl rfl)
theorem dJ18_compareTo_5 : decode cJ18_compareTo 5 = .ok (.invokevirtual 1084, 3) := dk_182 4 60 (dk_at dksJ18_compareTo_0 5 rfl rfl)
theorem dJ18_compareTo_8 : decode cJ18_compareTo 8 = .ok (.ireturn, 1) := dk_172 (dk_at dksJ18_compareTo_0 8 rfl rfl)
abbrev cJ18_compareTo_2 : ByteArray := prog_37_method_71_code
def yJ18_compareTo_2 : MethodName := ⟨RJ18, "compareTo", "(Ljava/lang/String;)I"⟩
def dkwJ18_compareTo_2_2 : List UInt8 := [154, 0, 11, 44, 45, 184, 2, 79, 167, 0, 8, 44, 45, 184, 2, 82, 172]
abbrev dktJ18_compareTo_2_2 : List UInt8 := dkwJ18_compareTo_2_2 ++ []
def dkwJ18_compareTo_2_1 : List UInt8 := [160, 0, 22, 21, 4, 154, 0, 11, 44, 45, 184, 2, 74, 167, 0, 8, 44, 45, 184, 2, 78, 172, 21, 4]
abbrev dktJ18_compareTo_2_1 : List UInt8 := dkwJ18_compareTo_2_1 ++ dktJ18_compareTo_2_2
def dkwJ18_compareTo_2_0 : List UInt8 := [42, 180, 0, 9, 77, 43, 180, 0, 9, 78, 42, 182, 1, 79, 54, 4, 21, 4, 43, 182, 1, 79]
abbrev dktJ18_compareTo_2_0 : List UInt8 := dkwJ18_compareTo_2_0 ++ dktJ18_compareTo_2_1
theorem dksJ18_compareTo_2_0 : cJ18_compareTo_2.data.toList.drop 0 = dktJ18_compareTo_2_0 := by decide +kernel
theorem dksJ18_compareTo_2_1 : cJ18_compareTo_2.data.toList.drop 22 = dktJ18_compareTo_2_1 := dk_seg dksJ18_compareTo_2_0 22 rfl rfl
theorem dksJ18_compareTo_2_2 : cJ18_compareTo_2.data.toList.drop 46 = dktJ18_compareTo_2_2 := dk_seg dksJ18_compareTo_2_1 24 rfl rfl
theorem dJ18_compareTo_2_0 : decode cJ18_compareTo_2 0 = .ok (.aload_n 0, 1) := dk_42 (dk_at dksJ18_compareTo_2_0 0 rfl rfl)
theorem dJ18_compareTo_2_1 : decode cJ18_compareTo_2 1 = .ok (.getfield 9, 3) := dk_180 0 9 (dk_at dksJ18_compareTo_2_0 1 rfl rfl)
theorem dJ18_compareTo_2_4 : decode cJ18_compareTo_2 4 = .ok (.astore_n 2, 1) := dk_77 (dk_at dksJ18_compareTo_2_0 4 rfl rfl)
theorem dJ18_compareTo_2_5 : decode cJ18_compareTo_2 5 = .ok (.aload_n 1, 1) := dk_43 (dk_at dksJ18_compareTo_2_0 5 rfl rfl)
theorem dJ18_compareTo_2_6 : decode cJ18_compareTo_2 6 = .ok (.getfield 9, 3) := dk_180 0 9 (dk_at dksJ18_compareTo_2_0 6 rfl rfl)
theorem dJ18_compareTo_2_9 : decode cJ18_compareTo_2 9 = .ok (.astore_n 3, 1) := dk_78 (dk_at dksJ18_compareTo_2_0 9 rfl rfl)
theorem dJ18_compareTo_2_10 : decode cJ18_compareTo_2 10 = .ok (.aload_n 0, 1) := dk_42 (dk_at dksJ18_compareTo_2_0 10 rfl rfl)
theorem dJ18_compareTo_2_11 : decode cJ18_compareTo_2 11 = .ok (.invokevirtual 335, 3) := dk_182 1 79 (dk_at dksJ18_compareTo_2_0 11 rfl rfl)
theorem dJ18_compareTo_2_14 : decode cJ18_compareTo_2 14 = .ok (.istore 4, 2) := dk_54 4 (dk_at dksJ18_compareTo_2_0 14 rfl rfl)
theorem dJ18_compareTo_2_16 : decode cJ18_compareTo_2 16 = .ok (.iload 4, 2) := dk_21 4 (dk_at dksJ18_compareTo_2_0 16 rfl rfl)
theorem dJ18_compareTo_2_18 : decode cJ18_compareTo_2 18 = .ok (.aload_n 1, 1) := dk_43 (dk_at dksJ18_compareTo_2_0 18 rfl rfl)
theorem dJ18_compareTo_2_19 : decode cJ18_compareTo_2 19 = .ok (.invokevirtual 335, 3) := dk_182 1 79 (dk_at dksJ18_compareTo_2_0 19 rfl rfl)
theorem dJ18_compareTo_2_22 : decode cJ18_compareTo_2 22 = .ok (.if_icmp .ne 22, 3) := dk_160 0 22 (dk_at dksJ18_compareTo_2_1 0 rfl rfl)
theorem dJ18_compareTo_2_25 : decode cJ18_compareTo_2 25 = .ok (.iload 4, 2) := dk_21 4 (dk_at dksJ18_compareTo_2_1 3 rfl rfl)
theorem dJ18_compareTo_2_27 : decode cJ18_compareTo_2 27 = .ok (.ifCond .ne 11, 3) := dk_154 0 11 (dk_at dksJ18_compareTo_2_1 5 rfl rfl)
theorem dJ18_compareTo_2_30 : decode cJ18_compareTo_2 30 = .ok (.aload_n 2, 1) := dk_44 (dk_at dksJ18_compareTo_2_1 8 rfl rfl)
theorem dJ18_compareTo_2_31 : decode cJ18_compareTo_2 31 = .ok (.aload_n 3, 1) := dk_45 (dk_at dksJ18_compareTo_2_1 9 rfl rfl)
theorem dJ18_compareTo_2_32 : decode cJ18_compareTo_2 32 = .ok (.invokestatic 586, 3) := dk_184 2 74 (dk_at dksJ18_compareTo_2_1 10 rfl rfl)
theorem dJ18_compareTo_2_35 : decode cJ18_compareTo_2 35 = .ok (.goto 8, 3) := dk_167 0 8 (dk_at dksJ18_compareTo_2_1 13 rfl rfl)
theorem dJ18_compareTo_2_38 : decode cJ18_compareTo_2 38 = .ok (.aload_n 2, 1) := dk_44 (dk_at dksJ18_compareTo_2_1 16 rfl rfl)
theorem dJ18_compareTo_2_39 : decode cJ18_compareTo_2 39 = .ok (.aload_n 3, 1) := dk_45 (dk_at dksJ18_compareTo_2_1 17 rfl rfl)
theorem dJ18_compareTo_2_40 : decode cJ18_compareTo_2 40 = .ok (.invokestatic 590, 3) := dk_184 2 78 (dk_at dksJ18_compareTo_2_1 18 rfl rfl)
theorem dJ18_compareTo_2_43 : decode cJ18_compareTo_2 43 = .ok (.ireturn, 1) := dk_172 (dk_at dksJ18_compareTo_2_1 21 rfl rfl)
theorem dJ18_compareTo_2_44 : decode cJ18_compareTo_2 44 = .ok (.iload 4, 2) := dk_21 4 (dk_at dksJ18_compareTo_2_1 22 rfl rfl)
theorem dJ18_compareTo_2_46 : decode cJ18_compareTo_2 46 = .ok (.ifCond .ne 11, 3) := dk_154 0 11 (dk_at dksJ18_compareTo_2_2 0 rfl rfl)
theorem dJ18_compareTo_2_49 : decode cJ18_compareTo_2 49 = .ok (.aload_n 2, 1) := dk_44 (dk_at dksJ18_compareTo_2_2 3 rfl rfl)
theorem dJ18_compareTo_2_50 : decode cJ18_compareTo_2 50 = .ok (.aload_n 3, 1) := dk_45 (dk_at dksJ18_compareTo_2_2 4 rfl rfl)
theorem dJ18_compareTo_2_51 : decode cJ18_compareTo_2 51 = .ok (.invokestatic 591, 3) := dk_184 2 79 (dk_at dksJ18_compareTo_2_2 5 rfl rfl)
theorem dJ18_compareTo_2_54 : decode cJ18_compareTo_2 54 = .ok (.goto 8, 3) := dk_167 0 8 (dk_at dksJ18_compareTo_2_2 8 rfl rfl)
theorem dJ18_compareTo_2_57 : decode cJ18_compareTo_2 57 = .ok (.aload_n 2, 1) := dk_44 (dk_at dksJ18_compareTo_2_2 11 rfl rfl)
theorem dJ18_compareTo_2_58 : decode cJ18_compareTo_2 58 = .ok (.aload_n 3, 1) := dk_45 (dk_at dksJ18_compareTo_2_2 12 rfl rfl)
theorem dJ18_compareTo_2_59 : decode cJ18_compareTo_2 59 = .ok (.invokestatic 594, 3) := dk_184 2 82 (dk_at dksJ18_compareTo_2_2 13 rfl rfl)
theorem dJ18_compareTo_2_62 : decode cJ18_compareTo_2 62 = .ok (.ireturn, 1) := dk_172 (dk_at dksJ18_compareTo_2_2 16 rfl rfl)
abbrev cJ18_coder : ByteArray := prog_37_method_152_code
def yJ18_coder : MethodName := ⟨RJ18, "coder", "()B"⟩
def dkwJ18_coder_0 : List UInt8 := [178, 0, 38, 153, 0, 10, 42, 180, 0, 15, 167, 0, 4, 4, 172]
abbrev dktJ18_coder_0 : List UInt8 := dkwJ18_coder_0 ++ []
theorem dksJ18_coder_0 : cJ18_coder.data.toList.drop 0 = dktJ18_coder_0 := by decide +kernel
theorem dJ18_coder_0 : decode cJ18_coder 0 = .ok (.getstatic 38, 3) := dk_178 0 38 (dk_at dksJ18_coder_0 0 rfl rfl)
theorem dJ18_coder_3 : decode cJ18_coder 3 = .ok (.ifCond .eq 10, 3) := dk_153 0 10 (dk_at dksJ18_coder_0 3 rfl rfl)
theorem dJ18_coder_6 : decode cJ18_coder 6 = .ok (.aload_n 0, 1) := dk_42 (dk_at dksJ18_coder_0 6 rfl rfl)
theorem dJ18_coder_7 : decode cJ18_coder 7 = .ok (.getfield 15, 3) := dk_180 0 15 (dk_at dksJ18_coder_0 7 rfl rfl)
theorem dJ18_coder_10 : decode cJ18_coder 10 = .ok (.goto 4, 3) := dk_167 0 4 (dk_at dksJ18_coder_0 10 rfl rfl)
theorem dJ18_coder_13 : decode cJ18_coder 13 = .ok (.iconst 1, 1) := dk_4 (dk_at dksJ18_coder_0 13 rfl rfl)
theorem dJ18_coder_14 : decode cJ18_coder 14 = .ok (.ireturn, 1) := dk_172 (dk_at dksJ18_coder_0 14 rfl rfl)
abbrev cJ18_checkOffset : ByteArray := prog_37_method_156_code
def yJ18_checkOffset : MethodName := ⟨RJ18, "checkOffset", "(II)V"⟩
def dkwJ18_checkOffset_0 : List UInt8 := [26, 27, 27, 178, 4, 29, 184, 4, 38, 87, 177]
abbrev dktJ18_checkOffset_0 : List UInt8 := dkwJ18_checkOffset_0 ++ []
theorem dksJ18_checkOffset_0 : cJ18_checkOffset.data.toList.drop 0 = dktJ18_checkOffset_0 := by decide +kernel
theorem dJ18_checkOffset_0 : decode cJ18_checkOffset 0 = .ok (.iload_n 0, 1) := dk_26 (dk_at dksJ18_checkOffset_0 0 rfl rfl)
theorem dJ18_checkOffset_1 : decode cJ18_checkOffset 1 = .ok (.iload_n 1, 1) := dk_27 (dk_at dksJ18_checkOffset_0 1 rfl rfl)
theorem dJ18_checkOffset_2 : decode cJ18_checkOffset 2 = .ok (.iload_n 1, 1) := dk_27 (dk_at dksJ18_checkOffset_0 2 rfl rfl)
theorem dJ18_checkOffset_3 : decode cJ18_checkOffset 3 = .ok (.getstatic 1053, 3) := dk_178 4 29 (dk_at dksJ18_checkOffset_0 3 rfl rfl)
theorem dJ18_checkOffset_6 : decode cJ18_checkOffset 6 = .ok (.invokestatic 1062, 3) := dk_184 4 38 (dk_at dksJ18_checkOffset_0 6 rfl rfl)
theorem dJ18_checkOffset_9 : decode cJ18_checkOffset 9 = .ok (.pop, 1) := dk_87 (dk_at dksJ18_checkOffset_0 9 rfl rfl)
theorem dJ18_checkOffset_10 : decode cJ18_checkOffset 10 = .ok (.return_, 1) := dk_177 (dk_at dksJ18_checkOffset_0 10 rfl rfl)
abbrev cJ18_checkBoundsBeginEnd : ByteArray := prog_37_method_158_code
def yJ18_checkBoundsBeginEnd : MethodName := ⟨RJ18, "checkBoundsBeginEnd", "(III)V"⟩
def dkwJ18_checkBoundsBeginEnd_0 : List UInt8 := [26, 27, 28, 178, 4, 29, 184, 4, 38, 87, 177]
abbrev dktJ18_checkBoundsBeginEnd_0 : List UInt8 := dkwJ18_checkBoundsBeginEnd_0 ++ []
theorem dksJ18_checkBoundsBeginEnd_0 : cJ18_checkBoundsBeginEnd.data.toList.drop 0 = dktJ18_checkBoundsBeginEnd_0 := by decide +kernel
theorem dJ18_checkBoundsBeginEnd_0 : decode cJ18_checkBoundsBeginEnd 0 = .ok (.iload_n 0, 1) := dk_26 (dk_at dksJ18_checkBoundsBeginEnd_0 0 rfl rfl)
theorem dJ18_checkBoundsBeginEnd_1 : decode cJ18_checkBoundsBeginEnd 1 = .ok (.iload_n 1, 1) := dk_27 (dk_at dksJ18_checkBoundsBeginEnd_0 1 rfl rfl)
theorem dJ18_checkBoundsBeginEnd_2 : decode cJ18_checkBoundsBeginEnd 2 = .ok (.iload_n 2, 1) := dk_28 (dk_at dksJ18_checkBoundsBeginEnd_0 2 rfl rfl)
theorem dJ18_checkBoundsBeginEnd_3 : decode cJ18_checkBoundsBeginEnd 3 = .ok (.getstatic 1053, 3) := dk_178 4 29 (dk_at dksJ18_checkBoundsBeginEnd_0 3 rfl rfl)
theorem dJ18_checkBoundsBeginEnd_6 : decode cJ18_checkBoundsBeginEnd 6 = .ok (.invokestatic 1062, 3) := dk_184 4 38 (dk_at dksJ18_checkBoundsBeginEnd_0 6 rfl rfl)
theorem dJ18_checkBoundsBeginEnd_9 : decode cJ18_checkBoundsBeginEnd 9 = .ok (.pop, 1) := dk_87 (dk_at dksJ18_checkBoundsBeginEnd_0 9 rfl rfl)
theorem dJ18_checkBoundsBeginEnd_10 : decode cJ18_checkBoundsBeginEnd 10 = .ok (.return_, 1) := dk_177 (dk_at dksJ18_checkBoundsBeginEnd_0 10 rfl rfl)
abbrev cJ18_indexOf : ByteArray := prog_37_method_79_code
def yJ18_indexOf : MethodName := ⟨RJ18, "indexOf", "(I)I"⟩
def dkwJ18_indexOf_0 : List UInt8 := [42, 27, 3, 182, 2, 121, 172]
abbrev dktJ18_indexOf_0 : List UInt8 := dkwJ18_indexOf_0 ++ []
theorem dksJ18_indexOf_0 : cJ18_indexOf.data.toList.drop 0 = dktJ18_indexOf_0 := by decide +kernel
theorem dJ18_indexOf_0 : decode cJ18_indexOf 0 = .ok (.aload_n 0, 1) := dk_42 (dk_at dksJ18_indexOf_0 0 rfl rfl)
theorem dJ18_indexOf_1 : decode cJ18_indexOf 1 = .ok (.iload_n 1, 1) := dk_27 (dk_at dksJ18_indexOf_0 1 rfl rfl)
theorem dJ18_indexOf_2 : decode cJ18_indexOf 2 = .ok (.iconst 0, 1) := dk_3 (dk_at dksJ18_indexOf_0 2 rfl rfl)
theorem dJ18_indexOf_3 : decode cJ18_indexOf 3 = .ok (.invokevirtual 633, 3) := dk_182 2 121 (dk_at dksJ18_indexOf_0 3 rfl rfl)
theorem dJ18_indexOf_6 : decode cJ18_indexOf 6 = .ok (.ireturn, 1) := dk_172 (dk_at dksJ18_indexOf_0 6 rfl rfl)
abbrev cJ18_indexOf_2 : ByteArray := prog_37_method_80_code
def yJ18_indexOf_2 : MethodName := ⟨RJ18, "indexOf", "(II)I"⟩
def dkwJ18_indexOf_2_1 : List UInt8 := [180, 0, 9, 27, 28, 42, 182, 1, 249, 184, 2, 128, 172]
abbrev dktJ18_indexOf_2_1 : List UInt8 := dkwJ18_indexOf_2_1 ++ []
def dkwJ18_indexOf_2_0 : List UInt8 := [42, 182, 1, 236, 153, 0, 19, 42, 180, 0, 9, 27, 28, 42, 182, 1, 249, 184, 2, 125, 167, 0, 16, 42]
abbrev dktJ18_indexOf_2_0 : List UInt8 := dkwJ18_indexOf_2_0 ++ dktJ18_indexOf_2_1
theorem dksJ18_indexOf_2_0 : cJ18_indexOf_2.data.toList.drop 0 = dktJ18_indexOf_2_0 := by decide +kernel
theorem dksJ18_indexOf_2_1 : cJ18_indexOf_2.data.toList.drop 24 = dktJ18_indexOf_2_1 := dk_seg dksJ18_indexOf_2_0 24 rfl rfl
theorem dJ18_indexOf_2_0 : decode cJ18_indexOf_2 0 = .ok (.aload_n 0, 1) := dk_42 (dk_at dksJ18_indexOf_2_0 0 rfl rfl)
theorem dJ18_indexOf_2_1 : decode cJ18_indexOf_2 1 = .ok (.invokevirtual 492, 3) := dk_182 1 236 (dk_at dksJ18_indexOf_2_0 1 rfl rfl)
theorem dJ18_indexOf_2_4 : decode cJ18_indexOf_2 4 = .ok (.ifCond .eq 19, 3) := dk_153 0 19 (dk_at dksJ18_indexOf_2_0 4 rfl rfl)
theorem dJ18_indexOf_2_7 : decode cJ18_indexOf_2 7 = .ok (.aload_n 0, 1) := dk_42 (dk_at dksJ18_indexOf_2_0 7 rfl rfl)
theorem dJ18_indexOf_2_8 : decode cJ18_indexOf_2 8 = .ok (.getfield 9, 3) := dk_180 0 9 (dk_at dksJ18_indexOf_2_0 8 rfl rfl)
theorem dJ18_indexOf_2_11 : decode cJ18_indexOf_2 11 = .ok (.iload_n 1, 1) := dk_27 (dk_at dksJ18_indexOf_2_0 11 rfl rfl)
theorem dJ18_indexOf_2_12 : decode cJ18_indexOf_2 12 = .ok (.iload_n 2, 1) := dk_28 (dk_at dksJ18_indexOf_2_0 12 rfl rfl)
theorem dJ18_indexOf_2_13 : decode cJ18_indexOf_2 13 = .ok (.aload_n 0, 1) := dk_42 (dk_at dksJ18_indexOf_2_0 13 rfl rfl)
theorem dJ18_indexOf_2_14 : decode cJ18_indexOf_2 14 = .ok (.invokevirtual 505, 3) := dk_182 1 249 (dk_at dksJ18_indexOf_2_0 14 rfl rfl)
theorem dJ18_indexOf_2_17 : decode cJ18_indexOf_2 17 = .ok (.invokestatic 637, 3) := dk_184 2 125 (dk_at dksJ18_indexOf_2_0 17 rfl rfl)
theorem dJ18_indexOf_2_20 : decode cJ18_indexOf_2 20 = .ok (.goto 16, 3) := dk_167 0 16 (dk_at dksJ18_indexOf_2_0 20 rfl rfl)
theorem dJ18_indexOf_2_23 : decode cJ18_indexOf_2 23 = .ok (.aload_n 0, 1) := dk_42 (dk_at dksJ18_indexOf_2_0 23 rfl rfl)
theorem dJ18_indexOf_2_24 : decode cJ18_indexOf_2 24 = .ok (.getfield 9, 3) := dk_180 0 9 (dk_at dksJ18_indexOf_2_1 0 rfl rfl)
theorem dJ18_indexOf_2_27 : decode cJ18_indexOf_2 27 = .ok (.iload_n 1, 1) := dk_27 (dk_at dksJ18_indexOf_2_1 3 rfl rfl)
theorem dJ18_indexOf_2_28 : decode cJ18_indexOf_2 28 = .ok (.iload_n 2, 1) := dk_28 (dk_at dksJ18_indexOf_2_1 4 rfl rfl)
theorem dJ18_indexOf_2_29 : decode cJ18_indexOf_2 29 = .ok (.aload_n 0, 1) := dk_42 (dk_at dksJ18_indexOf_2_1 5 rfl rfl)
theorem dJ18_indexOf_2_30 : decode cJ18_indexOf_2 30 = .ok (.invokevirtual 505, 3) := dk_182 1 249 (dk_at dksJ18_indexOf_2_1 6 rfl rfl)
theorem dJ18_indexOf_2_33 : decode cJ18_indexOf_2 33 = .ok (.invokestatic 640, 3) := dk_184 2 128 (dk_at dksJ18_indexOf_2_1 9 rfl rfl)
theorem dJ18_indexOf_2_36 : decode cJ18_indexOf_2 36 = .ok (.ireturn, 1) := dk_172 (dk_at dksJ18_indexOf_2_1 12 rfl rfl)
abbrev cJ18_isLatin1 : ByteArray := prog_37_method_154_code
def yJ18_isLatin1 : MethodName := ⟨RJ18, "isLatin1", "()Z"⟩
def dkwJ18_isLatin1_0 : List UInt8 := [178, 0, 38, 153, 0, 14, 42, 180, 0, 15, 154, 0, 7, 4, 167, 0, 4, 3, 172]
abbrev dktJ18_isLatin1_0 : List UInt8 := dkwJ18_isLatin1_0 ++ []
theorem dksJ18_isLatin1_0 : cJ18_isLatin1.data.toList.drop 0 = dktJ18_isLatin1_0 := by decide +kernel
theorem dJ18_isLatin1_0 : decode cJ18_isLatin1 0 = .ok (.getstatic 38, 3) := dk_178 0 38 (dk_at dksJ18_isLatin1_0 0 rfl rfl)
theorem dJ18_isLatin1_3 : decode cJ18_isLatin1 3 = .ok (.ifCond .eq 14, 3) := dk_153 0 14 (dk_at dksJ18_isLatin1_0 3 rfl rfl)
theorem dJ18_isLatin1_6 : decode cJ18_isLatin1 6 = .ok (.aload_n 0, 1) := dk_42 (dk_at dksJ18_isLatin1_0 6 rfl rfl)
theorem dJ18_isLatin1_7 : decode cJ18_isLatin1 7 = .ok (.getfield 15, 3) := dk_180 0 15 (dk_at dksJ18_isLatin1_0 7 rfl rfl)
theorem dJ18_isLatin1_10 : decode cJ18_isLatin1 10 = .ok (.ifCond .ne 7, 3) := dk_154 0 7 (dk_at dksJ18_isLatin1_0 10 rfl rfl)
theorem dJ18_isLatin1_13 : decode cJ18_isLatin1 13 = .ok (.iconst 1, 1) := dk_4 (dk_at dksJ18_isLatin1_0 13 rfl rfl)
theorem dJ18_isLatin1_14 : decode cJ18_isLatin1 14 = .ok (.goto 4, 3) := dk_167 0 4 (dk_at dksJ18_isLatin1_0 14 rfl rfl)
theorem dJ18_isLatin1_17 : decode cJ18_isLatin1 17 = .ok (.iconst 0, 1) := dk_3 (dk_at dksJ18_isLatin1_0 17 rfl rfl)
theorem dJ18_isLatin1_18 : decode cJ18_isLatin1 18 = .ok (.ireturn, 1) := dk_172 (dk_at dksJ18_isLatin1_0 18 rfl rfl)
abbrev cJ18_length : ByteArray := prog_37_method_54_code
def yJ18_length : MethodName := ⟨RJ18, "length", "()I"⟩
def dkwJ18_length_0 : List UInt8 := [42, 180, 0, 9, 190, 42, 182, 1, 79, 122, 172]
abbrev dktJ18_length_0 : List UInt8 := dkwJ18_length_0 ++ []
theorem dksJ18_length_0 : cJ18_length.data.toList.drop 0 = dktJ18_length_0 := by decide +kernel
theorem dJ18_length_0 : decode cJ18_length 0 = .ok (.aload_n 0, 1) := dk_42 (dk_at dksJ18_length_0 0 rfl rfl)
theorem dJ18_length_1 : decode cJ18_length 1 = .ok (.getfield 9, 3) := dk_180 0 9 (dk_at dksJ18_length_0 1 rfl rfl)
theorem dJ18_length_4 : decode cJ18_length 4 = .ok (.arraylength, 1) := dk_190 (dk_at dksJ18_length_0 4 rfl rfl)
theorem dJ18_length_5 : decode cJ18_length 5 = .ok (.aload_n 0, 1) := dk_42 (dk_at dksJ18_length_0 5 rfl rfl)
theorem dJ18_length_6 : decode cJ18_length 6 = .ok (.invokevirtual 335, 3) := dk_182 1 79 (dk_at dksJ18_length_0 6 rfl rfl)
theorem dJ18_length_9 : decode cJ18_length 9 = .ok (.ishr, 1) := dk_122 (dk_at dksJ18_length_0 9 rfl rfl)
theorem dJ18_length_10 : decode cJ18_length 10 = .ok (.ireturn, 1) := dk_172 (dk_at dksJ18_length_0 10 rfl rfl)
abbrev cJ18_getBytes : ByteArray := prog_37_method_147_code
def yJ18_getBytes : MethodName := ⟨RJ18, "getBytes", "([BIB)V"⟩
def dkwJ18_getBytes_1 : List UInt8 := [184, 0, 212, 167, 0, 18, 42, 180, 0, 9, 3, 43, 28, 42, 180, 0, 9, 190, 184, 0, 106, 177]
abbrev dktJ18_getBytes_1 : List UInt8 := dkwJ18_getBytes_1 ++ []
def dkwJ18_getBytes_0 : List UInt8 := [42, 182, 1, 79, 29, 160, 0, 23, 42, 180, 0, 9, 3, 43, 28, 29, 120, 42, 180, 0, 9, 190]
abbrev dktJ18_getBytes_0 : List UInt8 := dkwJ18_getBytes_0 ++ dktJ18_getBytes_1
theorem dksJ18_getBytes_0 : cJ18_getBytes.data.toList.drop 0 = dktJ18_getBytes_0 := by decide +kernel
theorem dksJ18_getBytes_1 : cJ18_getBytes.data.toList.drop 22 = dktJ18_getBytes_1 := dk_seg dksJ18_getBytes_0 22 rfl rfl
theorem dJ18_getBytes_0 : decode cJ18_getBytes 0 = .ok (.aload_n 0, 1) := dk_42 (dk_at dksJ18_getBytes_0 0 rfl rfl)
theorem dJ18_getBytes_1 : decode cJ18_getBytes 1 = .ok (.invokevirtual 335, 3) := dk_182 1 79 (dk_at dksJ18_getBytes_0 1 rfl rfl)
theorem dJ18_getBytes_4 : decode cJ18_getBytes 4 = .ok (.iload_n 3, 1) := dk_29 (dk_at dksJ18_getBytes_0 4 rfl rfl)
theorem dJ18_getBytes_5 : decode cJ18_getBytes 5 = .ok (.if_icmp .ne 23, 3) := dk_160 0 23 (dk_at dksJ18_getBytes_0 5 rfl rfl)
theorem dJ18_getBytes_8 : decode cJ18_getBytes 8 = .ok (.aload_n 0, 1) := dk_42 (dk_at dksJ18_getBytes_0 8 rfl rfl)
theorem dJ18_getBytes_9 : decode cJ18_getBytes 9 = .ok (.getfield 9, 3) := dk_180 0 9 (dk_at dksJ18_getBytes_0 9 rfl rfl)
theorem dJ18_getBytes_12 : decode cJ18_getBytes 12 = .ok (.iconst 0, 1) := dk_3 (dk_at dksJ18_getBytes_0 12 rfl rfl)
theorem dJ18_getBytes_13 : decode cJ18_getBytes 13 = .ok (.aload_n 1, 1) := dk_43 (dk_at dksJ18_getBytes_0 13 rfl rfl)
theorem dJ18_getBytes_14 : decode cJ18_getBytes 14 = .ok (.iload_n 2, 1) := dk_28 (dk_at dksJ18_getBytes_0 14 rfl rfl)
theorem dJ18_getBytes_15 : decode cJ18_getBytes 15 = .ok (.iload_n 3, 1) := dk_29 (dk_at dksJ18_getBytes_0 15 rfl rfl)
theorem dJ18_getBytes_16 : decode cJ18_getBytes 16 = .ok (.ishl, 1) := dk_120 (dk_at dksJ18_getBytes_0 16 rfl rfl)
theorem dJ18_getBytes_17 : decode cJ18_getBytes 17 = .ok (.aload_n 0, 1) := dk_42 (dk_at dksJ18_getBytes_0 17 rfl rfl)
theorem dJ18_getBytes_18 : decode cJ18_getBytes 18 = .ok (.getfield 9, 3) := dk_180 0 9 (dk_at dksJ18_getBytes_0 18 rfl rfl)
theorem dJ18_getBytes_21 : decode cJ18_getBytes 21 = .ok (.arraylength, 1) := dk_190 (dk_at dksJ18_getBytes_0 21 rfl rfl)
theorem dJ18_getBytes_22 : decode cJ18_getBytes 22 = .ok (.invokestatic 212, 3) := dk_184 0 212 (dk_at dksJ18_getBytes_1 0 rfl rfl)
theorem dJ18_getBytes_25 : decode cJ18_getBytes 25 = .ok (.goto 18, 3) := dk_167 0 18 (dk_at dksJ18_getBytes_1 3 rfl rfl)
theorem dJ18_getBytes_28 : decode cJ18_getBytes 28 = .ok (.aload_n 0, 1) := dk_42 (dk_at dksJ18_getBytes_1 6 rfl rfl)
theorem dJ18_getBytes_29 : decode cJ18_getBytes 29 = .ok (.getfield 9, 3) := dk_180 0 9 (dk_at dksJ18_getBytes_1 7 rfl rfl)
theorem dJ18_getBytes_32 : decode cJ18_getBytes 32 = .ok (.iconst 0, 1) := dk_3 (dk_at dksJ18_getBytes_1 10 rfl rfl)
theorem dJ18_getBytes_33 : decode cJ18_getBytes 33 = .ok (.aload_n 1, 1) := dk_43 (dk_at dksJ18_getBytes_1 11 rfl rfl)
theorem dJ18_getBytes_34 : decode cJ18_getBytes 34 = .ok (.iload_n 2, 1) := dk_28 (dk_at dksJ18_getBytes_1 12 rfl rfl)
theorem dJ18_getBytes_35 : decode cJ18_getBytes 35 = .ok (.aload_n 0, 1) := dk_42 (dk_at dksJ18_getBytes_1 13 rfl rfl)
theorem dJ18_getBytes_36 : decode cJ18_getBytes 36 = .ok (.getfield 9, 3) := dk_180 0 9 (dk_at dksJ18_getBytes_1 14 rfl rfl)
theorem dJ18_getBytes_39 : decode cJ18_getBytes 39 = .ok (.arraylength, 1) := dk_190 (dk_at dksJ18_getBytes_1 17 rfl rfl)
theorem dJ18_getBytes_40 : decode cJ18_getBytes 40 = .ok (.invokestatic 106, 3) := dk_184 0 106 (dk_at dksJ18_getBytes_1 18 rfl rfl)
theorem dJ18_getBytes_43 : decode cJ18_getBytes 43 = .ok (.return_, 1) := dk_177 (dk_at dksJ18_getBytes_1 21 rfl rfl)
abbrev cJ18_charAt : ByteArray := prog_37_method_56_code
def yJ18_charAt : MethodName := ⟨RJ18, "charAt", "(I)C"⟩
def dkwJ18_charAt_1 : List UInt8 := [172]
abbrev dktJ18_charAt_1 : List UInt8 := dkwJ18_charAt_1 ++ []
def dkwJ18_charAt_0 : List UInt8 := [42, 182, 1, 236, 153, 0, 12, 42, 180, 0, 9, 27, 184, 1, 239, 172, 42, 180, 0, 9, 27, 184, 1, 242]
abbrev dktJ18_charAt_0 : List UInt8 := dkwJ18_charAt_0 ++ dktJ18_charAt_1
theorem dksJ18_charAt_0 : cJ18_charAt.data.toList.drop 0 = dktJ18_charAt_0 := by decide +kernel
theorem dksJ18_charAt_1 : cJ18_charAt.data.toList.drop 24 = dktJ18_charAt_1 := dk_seg dksJ18_charAt_0 24 rfl rfl
theorem dJ18_charAt_0 : decode cJ18_charAt 0 = .ok (.aload_n 0, 1) := dk_42 (dk_at dksJ18_charAt_0 0 rfl rfl)
theorem dJ18_charAt_1 : decode cJ18_charAt 1 = .ok (.invokevirtual 492, 3) := dk_182 1 236 (dk_at dksJ18_charAt_0 1 rfl rfl)
theorem dJ18_charAt_4 : decode cJ18_charAt 4 = .ok (.ifCond .eq 12, 3) := dk_153 0 12 (dk_at dksJ18_charAt_0 4 rfl rfl)
theorem dJ18_charAt_7 : decode cJ18_charAt 7 = .ok (.aload_n 0, 1) := dk_42 (dk_at dksJ18_charAt_0 7 rfl rfl)
theorem dJ18_charAt_8 : decode cJ18_charAt 8 = .ok (.getfield 9, 3) := dk_180 0 9 (dk_at dksJ18_charAt_0 8 rfl rfl)
theorem dJ18_charAt_11 : decode cJ18_charAt 11 = .ok (.iload_n 1, 1) := dk_27 (dk_at dksJ18_charAt_0 11 rfl rfl)
theorem dJ18_charAt_12 : decode cJ18_charAt 12 = .ok (.invokestatic 495, 3) := dk_184 1 239 (dk_at dksJ18_charAt_0 12 rfl rfl)
theorem dJ18_charAt_15 : decode cJ18_charAt 15 = .ok (.ireturn, 1) := dk_172 (dk_at dksJ18_charAt_0 15 rfl rfl)
theorem dJ18_charAt_16 : decode cJ18_charAt 16 = .ok (.aload_n 0, 1) := dk_42 (dk_at dksJ18_charAt_0 16 rfl rfl)
theorem dJ18_charAt_17 : decode cJ18_charAt 17 = .ok (.getfield 9, 3) := dk_180 0 9 (dk_at dksJ18_charAt_0 17 rfl rfl)
theorem dJ18_charAt_20 : decode cJ18_charAt 20 = .ok (.iload_n 1, 1) := dk_27 (dk_at dksJ18_charAt_0 20 rfl rfl)
theorem dJ18_charAt_21 : decode cJ18_charAt 21 = .ok (.invokestatic 498, 3) := dk_184 1 242 (dk_at dksJ18_charAt_0 21 rfl rfl)
theorem dJ18_charAt_24 : decode cJ18_charAt 24 = .ok (.ireturn, 1) := dk_172 (dk_at dksJ18_charAt_1 0 rfl rfl)
theorem q159 : (Jvm.Cond.initialized "java/lang/String") ∈ lw_all := lw_g (lw_at lw_m1 31 rfl) rfl
theorem q711 : (Jvm.Cond.selects "java/lang/String" ({ cls := "java/lang/Object", name := "getClass", desc := "()Ljava/lang/Class;" } : Jvm.MethodName) ({ cls := "java/lang/Object", name := "getClass", desc := "()Ljava/lang/Class;" } : Jvm.MethodName)) ∈ lw_all := lw_g (lw_at lw_m3 103 rfl) rfl
theorem q994 : (Jvm.Cond.laysStatic "java/lang/String" "COMPACT_STRINGS" "Z") ∈ lw_tbl := lw_at lw_m4 146 rfl
theorem q1004 : (Jvm.Cond.fieldLink "java/lang/String" (1048 : Nat) "java/lang/AbstractStringBuilder" "maybeLatin1" "Z") ∈ lw_all := lw_g (lw_at lw_m4 156 rfl) rfl
theorem q1065 : (Jvm.Cond.static ({ cls := "java/lang/String", name := "checkBoundsOffCount", desc := "(III)I" } : Jvm.MethodName)) ∈ lw_all := lw_g (lw_at lw_m4 217 rfl) rfl
theorem q1066 : (Jvm.Cond.code ({ cls := "java/lang/String", name := "checkBoundsOffCount", desc := "(III)I" } : Jvm.MethodName) prog_37_method_157_code (3 : Nat) (Option.some Jvm.ClassFile.FieldType.int)) ∈ lw_all := lw_g (lw_at lw_m4 218 rfl) rfl
theorem q1067 : (Jvm.Cond.fieldLink "java/lang/String" (1053 : Nat) "jdk/internal/util/Preconditions" "SIOOBE_FORMATTER" "Ljava/util/function/BiFunction;") ∈ lw_all := lw_g (lw_at lw_m4 219 rfl) rfl
theorem q1069 : (Jvm.Cond.methodLink "java/lang/String" (1065 : Nat) ({ cls := "jdk/internal/util/Preconditions", name := "checkFromIndexSize", desc := "(IIILjava/util/function/BiFunction;)I" } : Jvm.MethodName)) ∈ lw_all := lw_g (lw_at lw_m4 221 rfl) rfl
theorem q1088 : (Jvm.Cond.static ({ cls := "java/lang/String", name := "checkIndex", desc := "(II)V" } : Jvm.MethodName)) ∈ lw_all := lw_g (lw_at lw_m5 0 rfl) rfl
theorem q1089 : (Jvm.Cond.code ({ cls := "java/lang/String", name := "checkIndex", desc := "(II)V" } : Jvm.MethodName) prog_37_method_155_code (2 : Nat) (Option.none : Option Jvm.ClassFile.FieldType)) ∈ lw_all := lw_g (lw_at lw_m5 1 rfl) rfl
theorem q1090 : (Jvm.Cond.methodLink "java/lang/String" (1059 : Nat) ({ cls := "jdk/internal/util/Preconditions", name := "checkIndex", desc := "(IILjava/util/function/BiFunction;)I" } : Jvm.MethodName)) ∈ lw_all := lw_g (lw_at lw_m5 2 rfl) rfl
theorem q1096 : (Jvm.Cond.instantiable "java/lang/String" (4 : Nat)) ∈ lw_all := lw_g (lw_at lw_m5 8 rfl) rfl
theorem q1098 : (Jvm.Cond.instanceMethod ({ cls := "java/lang/String", name := "<init>", desc := "(Ljava/lang/StringBuilder;)V" } : Jvm.MethodName)) ∈ lw_all := lw_g (lw_at lw_m5 10 rfl) rfl
theorem q1099 : (Jvm.Cond.code ({ cls := "java/lang/String", name := "<init>", desc := "(Ljava/lang/StringBuilder;)V" } : Jvm.MethodName) prog_37_method_53_code (2 : Nat) (Option.none : Option Jvm.ClassFile.FieldType)) ∈ lw_all := lw_g (lw_at lw_m5 11 rfl) rfl
theorem q1100 : (Jvm.Cond.methodLink "java/lang/String" (489 : Nat) ({ cls := "java/lang/String", name := "<init>", desc := "(Ljava/lang/AbstractStringBuilder;Ljava/lang/Void;)V" } : Jvm.MethodName)) ∈ lw_all := lw_g (lw_at lw_m5 12 rfl) rfl
theorem q1101 : (Jvm.Cond.instanceMethod ({ cls := "java/lang/String", name := "<init>", desc := "(Ljava/lang/AbstractStringBuilder;Ljava/lang/Void;)V" } : Jvm.MethodName)) ∈ lw_all := lw_g (lw_at lw_m5 13 rfl) rfl
theorem q1102 : (Jvm.Cond.code ({ cls := "java/lang/String", name := "<init>", desc := "(Ljava/lang/AbstractStringBuilder;Ljava/lang/Void;)V" } : Jvm.MethodName) prog_37_method_150_code (5 : Nat) (Option.none : Option Jvm.ClassFile.FieldType)) ∈ lw_all := lw_g (lw_at lw_m5 14 rfl) rfl
theorem q1103 : (Jvm.Cond.methodLink "java/lang/String" (1 : Nat) ({ cls := "java/lang/Object", name := "<init>", desc := "()V" } : Jvm.MethodName)) ∈ lw_all := lw_g (lw_at lw_m5 15 rfl) rfl
theorem q1104 : (Jvm.Cond.methodLink "java/lang/String" (552 : Nat) ({ cls := "java/lang/AbstractStringBuilder", name := "getValue", desc := "()[B" } : Jvm.MethodName)) ∈ lw_all := lw_g (lw_at lw_m5 16 rfl) rfl
theorem q1109 : (Jvm.Cond.methodLink "java/lang/String" (549 : Nat) ({ cls := "java/lang/AbstractStringBuilder", name := "length", desc := "()I" } : Jvm.MethodName)) ∈ lw_all := lw_g (lw_at lw_m5 21 rfl) rfl
theorem q1117 : (Jvm.Cond.methodLink "java/lang/String" (1047 : Nat) ({ cls := "java/lang/AbstractStringBuilder", name := "isLatin1", desc := "()Z" } : Jvm.MethodName)) ∈ lw_all := lw_g (lw_at lw_m5 29 rfl) rfl
theorem q1118 : (Jvm.Cond.methodLink "java/lang/String" (54 : Nat) ({ cls := "java/util/Arrays", name := "copyOfRange", desc := "([BII)[B" } : Jvm.MethodName)) ∈ lw_all := lw_g (lw_at lw_m5 30 rfl) rfl
theorem q1127 : (Jvm.Cond.fieldLink "java/lang/String" (38 : Nat) "java/lang/String" "COMPACT_STRINGS" "Z") ∈ lw_all := lw_g (lw_at lw_m5 39 rfl) rfl
theorem q1128 : (Jvm.Cond.methodLink "java/lang/String" (1051 : Nat) ({ cls := "java/lang/StringUTF16", name := "compress", desc := "([BII)[B" } : Jvm.MethodName)) ∈ lw_all := lw_g (lw_at lw_m5 40 rfl) rfl
theorem q1138 : (Jvm.Cond.methodLink "java/lang/String" (47 : Nat) ({ cls := "java/lang/StringUTF16", name := "coderFromArrayLen", desc := "([BI)B" } : Jvm.MethodName)) ∈ lw_all := lw_g (lw_at lw_m5 50 rfl) rfl
theorem q1141 : (Jvm.Cond.fieldLink "java/lang/String" (9 : Nat) "java/lang/String" "value" "[B") ∈ lw_all := lw_g (lw_at lw_m5 53 rfl) rfl
theorem q1142 : (Jvm.Cond.fieldLink "java/lang/String" (15 : Nat) "java/lang/String" "coder" "B") ∈ lw_all := lw_g (lw_at lw_m5 54 rfl) rfl
theorem q1143 : (Jvm.Cond.laysFinal "java/lang/String" "java/lang/String" "value" "[B") ∈ lw_all := lw_g (lw_at lw_m5 55 rfl) rfl
theorem q1144 : (Jvm.Cond.soleField "java/lang/String" "value") ∈ lw_all := lw_g (lw_at lw_m5 56 rfl) rfl
theorem q1145 : (Jvm.Cond.laysFinal "java/lang/String" "java/lang/String" "coder" "B") ∈ lw_all := lw_g (lw_at lw_m5 57 rfl) rfl
theorem q1146 : (Jvm.Cond.soleField "java/lang/String" "coder") ∈ lw_all := lw_g (lw_at lw_m5 58 rfl) rfl
theorem q1147 : (Jvm.Cond.lays "java/lang/String" "java/lang/String" "hash" "I") ∈ lw_all := lw_g (lw_at lw_m5 59 rfl) rfl
theorem q1148 : (Jvm.Cond.soleField "java/lang/String" "hash") ∈ lw_all := lw_g (lw_at lw_m5 60 rfl) rfl
theorem q1149 : (Jvm.Cond.lays "java/lang/String" "java/lang/String" "hashIsZero" "Z") ∈ lw_all := lw_g (lw_at lw_m5 61 rfl) rfl
theorem q1150 : (Jvm.Cond.soleField "java/lang/String" "hashIsZero") ∈ lw_all := lw_g (lw_at lw_m5 62 rfl) rfl
theorem q1151 : (Jvm.Cond.superclass "java/lang/String" "java/lang/Object") ∈ lw_all := lw_g (lw_at lw_m5 63 rfl) rfl
theorem q1228 : (Jvm.Cond.castable "java/lang/String" "java/lang/Comparable") ∈ lw_tbl := lw_at lw_m5 140 rfl
theorem q1229 : (Jvm.Cond.selects "java/lang/String" ({ cls := "java/lang/Comparable", name := "compareTo", desc := "(Ljava/lang/Object;)I" } : Jvm.MethodName) ({ cls := "java/lang/String", name := "compareTo", desc := "(Ljava/lang/Object;)I" } : Jvm.MethodName)) ∈ lw_all := lw_g (lw_at lw_m5 141 rfl) rfl
theorem q1230 : (Jvm.Cond.unhidden "java/lang/String" "compareTo" "(Ljava/lang/Object;)I") ∈ lw_tbl := lw_at lw_m5 142 rfl
theorem q1231 : (Jvm.Cond.instanceMethod ({ cls := "java/lang/String", name := "compareTo", desc := "(Ljava/lang/Object;)I" } : Jvm.MethodName)) ∈ lw_all := lw_g (lw_at lw_m5 143 rfl) rfl
theorem q1232 : (Jvm.Cond.publicMethod ({ cls := "java/lang/String", name := "compareTo", desc := "(Ljava/lang/Object;)I" } : Jvm.MethodName)) ∈ lw_tbl := lw_at lw_m5 144 rfl
theorem q1233 : (Jvm.Cond.code ({ cls := "java/lang/String", name := "compareTo", desc := "(Ljava/lang/Object;)I" } : Jvm.MethodName) prog_37_method_162_code (2 : Nat) (Option.some Jvm.ClassFile.FieldType.int)) ∈ lw_all := lw_g (lw_at lw_m5 145 rfl) rfl
theorem q1234 : (Jvm.Cond.classLink "java/lang/String" (10 : Nat) "java/lang/String") ∈ lw_all := lw_g (lw_at lw_m5 146 rfl) rfl
theorem q1235 : (Jvm.Cond.methodLink "java/lang/String" (1084 : Nat) ({ cls := "java/lang/String", name := "compareTo", desc := "(Ljava/lang/String;)I" } : Jvm.MethodName)) ∈ lw_all := lw_g (lw_at lw_m5 147 rfl) rfl
theorem q1236 : (Jvm.Cond.instanceMethod ({ cls := "java/lang/String", name := "compareTo", desc := "(Ljava/lang/String;)I" } : Jvm.MethodName)) ∈ lw_all := lw_g (lw_at lw_m5 148 rfl) rfl
theorem q1237 : (Jvm.Cond.selects "java/lang/String" ({ cls := "java/lang/String", name := "compareTo", desc := "(Ljava/lang/String;)I" } : Jvm.MethodName) ({ cls := "java/lang/String", name := "compareTo", desc := "(Ljava/lang/String;)I" } : Jvm.MethodName)) ∈ lw_all := lw_g (lw_at lw_m5 149 rfl) rfl
theorem q1238 : (Jvm.Cond.code ({ cls := "java/lang/String", name := "compareTo", desc := "(Ljava/lang/String;)I" } : Jvm.MethodName) prog_37_method_71_code (5 : Nat) (Option.some Jvm.ClassFile.FieldType.int)) ∈ lw_all := lw_g (lw_at lw_m5 150 rfl) rfl
theorem q1239 : (Jvm.Cond.methodLink "java/lang/String" (335 : Nat) ({ cls := "java/lang/String", name := "coder", desc := "()B" } : Jvm.MethodName)) ∈ lw_all := lw_g (lw_at lw_m5 151 rfl) rfl
theorem q1240 : (Jvm.Cond.instanceMethod ({ cls := "java/lang/String", name := "coder", desc := "()B" } : Jvm.MethodName)) ∈ lw_all := lw_g (lw_at lw_m5 152 rfl) rfl
theorem q1241 : (Jvm.Cond.selects "java/lang/String" ({ cls := "java/lang/String", name := "coder", desc := "()B" } : Jvm.MethodName) ({ cls := "java/lang/String", name := "coder", desc := "()B" } : Jvm.MethodName)) ∈ lw_all := lw_g (lw_at lw_m5 153 rfl) rfl
theorem q1242 : (Jvm.Cond.code ({ cls := "java/lang/String", name := "coder", desc := "()B" } : Jvm.MethodName) prog_37_method_152_code (1 : Nat) (Option.some Jvm.ClassFile.FieldType.byte)) ∈ lw_all := lw_g (lw_at lw_m5 154 rfl) rfl
theorem q1243 : (Jvm.Cond.methodLink "java/lang/String" (586 : Nat) ({ cls := "java/lang/StringLatin1", name := "compareTo", desc := "([B[B)I" } : Jvm.MethodName)) ∈ lw_all := lw_g (lw_at lw_m5 155 rfl) rfl
theorem q1357 : (Jvm.Cond.methodLink "java/lang/String" (590 : Nat) ({ cls := "java/lang/StringUTF16", name := "compareTo", desc := "([B[B)I" } : Jvm.MethodName)) ∈ lw_all := lw_g (lw_at lw_m6 29 rfl) rfl
theorem q1364 : (Jvm.Cond.methodLink "java/lang/String" (591 : Nat) ({ cls := "java/lang/StringLatin1", name := "compareToUTF16", desc := "([B[B)I" } : Jvm.MethodName)) ∈ lw_all := lw_g (lw_at lw_m6 36 rfl) rfl
theorem q1375 : (Jvm.Cond.methodLink "java/lang/String" (594 : Nat) ({ cls := "java/lang/StringUTF16", name := "compareToLatin1", desc := "([B[B)I" } : Jvm.MethodName)) ∈ lw_all := lw_g (lw_at lw_m6 47 rfl) rfl
theorem q1401 : (Jvm.Cond.static ({ cls := "java/lang/String", name := "checkOffset", desc := "(II)V" } : Jvm.MethodName)) ∈ lw_all := lw_g (lw_at lw_m6 73 rfl) rfl
theorem q1402 : (Jvm.Cond.code ({ cls := "java/lang/String", name := "checkOffset", desc := "(II)V" } : Jvm.MethodName) prog_37_method_156_code (2 : Nat) (Option.none : Option Jvm.ClassFile.FieldType)) ∈ lw_all := lw_g (lw_at lw_m6 74 rfl) rfl
theorem q1403 : (Jvm.Cond.methodLink "java/lang/String" (1062 : Nat) ({ cls := "jdk/internal/util/Preconditions", name := "checkFromToIndex", desc := "(IIILjava/util/function/BiFunction;)I" } : Jvm.MethodName)) ∈ lw_all := lw_g (lw_at lw_m6 75 rfl) rfl
theorem q1924 : (Jvm.Cond.static ({ cls := "java/lang/String", name := "checkBoundsBeginEnd", desc := "(III)V" } : Jvm.MethodName)) ∈ lw_all := lw_g (lw_at lw_m8 116 rfl) rfl
theorem q1925 : (Jvm.Cond.code ({ cls := "java/lang/String", name := "checkBoundsBeginEnd", desc := "(III)V" } : Jvm.MethodName) prog_37_method_158_code (3 : Nat) (Option.none : Option Jvm.ClassFile.FieldType)) ∈ lw_all := lw_g (lw_at lw_m8 117 rfl) rfl
theorem q1949 : (Jvm.Cond.instanceMethod ({ cls := "java/lang/String", name := "indexOf", desc := "(I)I" } : Jvm.MethodName)) ∈ lw_all := lw_g (lw_at lw_m8 141 rfl) rfl
theorem q1950 : (Jvm.Cond.selects "java/lang/String" ({ cls := "java/lang/String", name := "indexOf", desc := "(I)I" } : Jvm.MethodName) ({ cls := "java/lang/String", name := "indexOf", desc := "(I)I" } : Jvm.MethodName)) ∈ lw_all := lw_g (lw_at lw_m8 142 rfl) rfl
theorem q1951 : (Jvm.Cond.code ({ cls := "java/lang/String", name := "indexOf", desc := "(I)I" } : Jvm.MethodName) prog_37_method_79_code (2 : Nat) (Option.some Jvm.ClassFile.FieldType.int)) ∈ lw_all := lw_g (lw_at lw_m8 143 rfl) rfl
theorem q1952 : (Jvm.Cond.methodLink "java/lang/String" (633 : Nat) ({ cls := "java/lang/String", name := "indexOf", desc := "(II)I" } : Jvm.MethodName)) ∈ lw_all := lw_g (lw_at lw_m8 144 rfl) rfl
theorem q1953 : (Jvm.Cond.instanceMethod ({ cls := "java/lang/String", name := "indexOf", desc := "(II)I" } : Jvm.MethodName)) ∈ lw_all := lw_g (lw_at lw_m8 145 rfl) rfl
theorem q1954 : (Jvm.Cond.selects "java/lang/String" ({ cls := "java/lang/String", name := "indexOf", desc := "(II)I" } : Jvm.MethodName) ({ cls := "java/lang/String", name := "indexOf", desc := "(II)I" } : Jvm.MethodName)) ∈ lw_all := lw_g (lw_at lw_m8 146 rfl) rfl
theorem q1955 : (Jvm.Cond.code ({ cls := "java/lang/String", name := "indexOf", desc := "(II)I" } : Jvm.MethodName) prog_37_method_80_code (3 : Nat) (Option.some Jvm.ClassFile.FieldType.int)) ∈ lw_all := lw_g (lw_at lw_m8 147 rfl) rfl
theorem q1956 : (Jvm.Cond.methodLink "java/lang/String" (492 : Nat) ({ cls := "java/lang/String", name := "isLatin1", desc := "()Z" } : Jvm.MethodName)) ∈ lw_all := lw_g (lw_at lw_m8 148 rfl) rfl
theorem q1957 : (Jvm.Cond.instanceMethod ({ cls := "java/lang/String", name := "isLatin1", desc := "()Z" } : Jvm.MethodName)) ∈ lw_all := lw_g (lw_at lw_m8 149 rfl) rfl
theorem q1958 : (Jvm.Cond.selects "java/lang/String" ({ cls := "java/lang/String", name := "isLatin1", desc := "()Z" } : Jvm.MethodName) ({ cls := "java/lang/String", name := "isLatin1", desc := "()Z" } : Jvm.MethodName)) ∈ lw_all := lw_g (lw_at lw_m8 150 rfl) rfl
theorem q1959 : (Jvm.Cond.code ({ cls := "java/lang/String", name := "isLatin1", desc := "()Z" } : Jvm.MethodName) prog_37_method_154_code (1 : Nat) (Option.some Jvm.ClassFile.FieldType.boolean)) ∈ lw_all := lw_g (lw_at lw_m8 151 rfl) rfl
theorem q1960 : (Jvm.Cond.methodLink "java/lang/String" (505 : Nat) ({ cls := "java/lang/String", name := "length", desc := "()I" } : Jvm.MethodName)) ∈ lw_all := lw_g (lw_at lw_m8 152 rfl) rfl
theorem q1961 : (Jvm.Cond.instanceMethod ({ cls := "java/lang/String", name := "length", desc := "()I" } : Jvm.MethodName)) ∈ lw_all := lw_g (lw_at lw_m8 153 rfl) rfl
theorem q1962 : (Jvm.Cond.selects "java/lang/String" ({ cls := "java/lang/String", name := "length", desc := "()I" } : Jvm.MethodName) ({ cls := "java/lang/String", name := "length", desc := "()I" } : Jvm.MethodName)) ∈ lw_all := lw_g (lw_at lw_m8 154 rfl) rfl
theorem q1963 : (Jvm.Cond.code ({ cls := "java/lang/String", name := "length", desc := "()I" } : Jvm.MethodName) prog_37_method_54_code (1 : Nat) (Option.some Jvm.ClassFile.FieldType.int)) ∈ lw_all := lw_g (lw_at lw_m8 155 rfl) rfl
theorem q1964 : (Jvm.Cond.methodLink "java/lang/String" (637 : Nat) ({ cls := "java/lang/StringLatin1", name := "indexOf", desc := "([BIII)I" } : Jvm.MethodName)) ∈ lw_all := lw_g (lw_at lw_m8 156 rfl) rfl
theorem q1974 : (Jvm.Cond.methodLink "java/lang/String" (640 : Nat) ({ cls := "java/lang/StringUTF16", name := "indexOf", desc := "([BIII)I" } : Jvm.MethodName)) ∈ lw_all := lw_g (lw_at lw_m8 166 rfl) rfl
theorem q2025 : (Jvm.Cond.instanceMethod ({ cls := "java/lang/String", name := "getBytes", desc := "([BIB)V" } : Jvm.MethodName)) ∈ lw_all := lw_g (lw_at lw_m8 217 rfl) rfl
theorem q2026 : (Jvm.Cond.selects "java/lang/String" ({ cls := "java/lang/String", name := "getBytes", desc := "([BIB)V" } : Jvm.MethodName) ({ cls := "java/lang/String", name := "getBytes", desc := "([BIB)V" } : Jvm.MethodName)) ∈ lw_all := lw_g (lw_at lw_m8 218 rfl) rfl
theorem q2027 : (Jvm.Cond.code ({ cls := "java/lang/String", name := "getBytes", desc := "([BIB)V" } : Jvm.MethodName) prog_37_method_147_code (4 : Nat) (Option.none : Option Jvm.ClassFile.FieldType)) ∈ lw_all := lw_g (lw_at lw_m8 219 rfl) rfl
theorem q2028 : (Jvm.Cond.methodLink "java/lang/String" (212 : Nat) ({ cls := "java/lang/System", name := "arraycopy", desc := "(Ljava/lang/Object;ILjava/lang/Object;II)V" } : Jvm.MethodName)) ∈ lw_all := lw_g (lw_at lw_m8 220 rfl) rfl
theorem q2029 : (Jvm.Cond.methodLink "java/lang/String" (106 : Nat) ({ cls := "java/lang/StringLatin1", name := "inflate", desc := "([BI[BII)V" } : Jvm.MethodName)) ∈ lw_all := lw_g (lw_at lw_m8 221 rfl) rfl
theorem q2035 : (Jvm.Cond.instanceMethod ({ cls := "java/lang/String", name := "charAt", desc := "(I)C" } : Jvm.MethodName)) ∈ lw_all := lw_g (lw_at lw_m8 227 rfl) rfl
theorem q2036 : (Jvm.Cond.selects "java/lang/String" ({ cls := "java/lang/String", name := "charAt", desc := "(I)C" } : Jvm.MethodName) ({ cls := "java/lang/String", name := "charAt", desc := "(I)C" } : Jvm.MethodName)) ∈ lw_all := lw_g (lw_at lw_m8 228 rfl) rfl
theorem q2037 : (Jvm.Cond.code ({ cls := "java/lang/String", name := "charAt", desc := "(I)C" } : Jvm.MethodName) prog_37_method_56_code (2 : Nat) (Option.some Jvm.ClassFile.FieldType.char)) ∈ lw_all := lw_g (lw_at lw_m8 229 rfl) rfl
theorem q2038 : (Jvm.Cond.methodLink "java/lang/String" (495 : Nat) ({ cls := "java/lang/StringLatin1", name := "charAt", desc := "([BI)C" } : Jvm.MethodName)) ∈ lw_all := lw_g (lw_at lw_m8 230 rfl) rfl
theorem q2042 : (Jvm.Cond.methodLink "java/lang/String" (498 : Nat) ({ cls := "java/lang/StringUTF16", name := "charAt", desc := "([BI)C" } : Jvm.MethodName)) ∈ lw_all := lw_g (lw_at lw_m8 234 rfl) rfl
theorem q2776 : (Jvm.Cond.castable "java/lang/String" "java/lang/Object") ∈ lw_tbl := lw_at lw_m12 8 rfl
theorem in_J18 : ∀ w ∈ wsJ180, w ∈ lw_all := lw_in wsJ180 [1143, 1145, 1147, 1149] (by decide +kernel) (by decide +kernel)
/-! java/lang/StringUTF16 -/
set_option maxRecDepth 100000
def RJ19 : String := "java/lang/StringUTF16"
abbrev cJ19_newBytesFor : ByteArray := prog_40_method_2_code
def yJ19_newBytesFor : MethodName := ⟨RJ19, "newBytesFor", "(I)[B"⟩
def dkwJ19_newBytesFor_0 : List UInt8 := [26, 184, 0, 11, 188, 8, 176]
abbrev dktJ19_newBytesFor_0 : List UInt8 := dkwJ19_newBytesFor_0 ++ []
theorem dksJ19_newBytesFor_0 : cJ19_newBytesFor.data.toList.drop 0 = dktJ19_newBytesFor_0 := by decide +kernel
theorem dJ19_newBytesFor_0 : decode cJ19_newBytesFor 0 = .ok (.iload_n 0, 1) := dk_26 (dk_at dksJ19_newBytesFor_0 0 rfl rfl)
theorem dJ19_newBytesFor_1 : decode cJ19_newBytesFor 1 = .ok (.invokestatic 11, 3) := dk_184 0 11 (dk_at dksJ19_newBytesFor_0 1 rfl rfl)
theorem dJ19_newBytesFor_4 : decode cJ19_newBytesFor 4 = .ok (.newarray .byte, 2) := dk_188_8 (dk_at dksJ19_newBytesFor_0 4 rfl rfl)
theorem dJ19_newBytesFor_6 : decode cJ19_newBytesFor 6 = .ok (.areturn, 1) := dk_176 (dk_at dksJ19_newBytesFor_0 6 rfl rfl)
abbrev cJ19_newBytesLength : ByteArray := prog_40_method_3_code
def yJ19_newBytesLength : MethodName := ⟨RJ19, "newBytesLength", "(I)I"⟩
def dkwJ19_newBytesLength_2 : List UInt8 := [182, 0, 32, 182, 0, 37, 183, 0, 41, 191, 26, 4, 120, 172]
abbrev dktJ19_newBytesLength_2 : List UInt8 := dkwJ19_newBytesLength_2 ++ []
def dkwJ19_newBytesLength_1 : List UInt8 := [187, 0, 23, 89, 183, 0, 25, 18, 26, 182, 0, 28, 26, 182, 0, 32, 18, 35, 182, 0, 28, 18, 20]
abbrev dktJ19_newBytesLength_1 : List UInt8 := dkwJ19_newBytesLength_1 ++ dktJ19_newBytesLength_2
def dkwJ19_newBytesLength_0 : List UInt8 := [26, 156, 0, 11, 187, 0, 17, 89, 183, 0, 19, 191, 26, 18, 20, 161, 0, 40, 187, 0, 21, 89]
abbrev dktJ19_newBytesLength_0 : List UInt8 := dkwJ19_newBytesLength_0 ++ dktJ19_newBytesLength_1
theorem dksJ19_newBytesLength_0 : cJ19_newBytesLength.data.toList.drop 0 = dktJ19_newBytesLength_0 := by decide +kernel
theorem dksJ19_newBytesLength_1 : cJ19_newBytesLength.data.toList.drop 22 = dktJ19_newBytesLength_1 := dk_seg dksJ19_newBytesLength_0 22 rfl rfl
theorem dksJ19_newBytesLength_2 : cJ19_newBytesLength.data.toList.drop 45 = dktJ19_newBytesLength_2 := dk_seg dksJ19_newBytesLength_1 23 rfl rfl
theorem dJ19_newBytesLength_0 : decode cJ19_newBytesLength 0 = .ok (.iload_n 0, 1) := dk_26 (dk_at dksJ19_newBytesLength_0 0 rfl rfl)
theorem dJ19_newBytesLength_1 : decode cJ19_newBytesLength 1 = .ok (.ifCond .ge 11, 3) := dk_156 0 11 (dk_at dksJ19_newBytesLength_0 1 rfl rfl)
theorem dJ19_newBytesLength_4 : decode cJ19_newBytesLength 4 = .ok (.new 17, 3) := dk_187 0 17 (dk_at dksJ19_newBytesLength_0 4 rfl rfl)
theorem dJ19_newBytesLength_7 : decode cJ19_newBytesLength 7 = .ok (.dup, 1) := dk_89 (dk_at dksJ19_newBytesLength_0 7 rfl rfl)
theorem dJ19_newBytesLength_8 : decode cJ19_newBytesLength 8 = .ok (.invokespecial 19, 3) := dk_183 0 19 (dk_at dksJ19_newBytesLength_0 8 rfl rfl)
theorem dJ19_newBytesLength_11 : decode cJ19_newBytesLength 11 = .ok (.athrow, 1) := dk_191 (dk_at dksJ19_newBytesLength_0 11 rfl rfl)
theorem dJ19_newBytesLength_12 : decode cJ19_newBytesLength 12 = .ok (.iload_n 0, 1) := dk_26 (dk_at dksJ19_newBytesLength_0 12 rfl rfl)
theorem dJ19_newBytesLength_13 : decode cJ19_newBytesLength 13 = .ok (.ldc 20, 2) := dk_18 20 (dk_at dksJ19_newBytesLength_0 13 rfl rfl)
theorem dJ19_newBytesLength_15 : decode cJ19_newBytesLength 15 = .ok (.if_icmp .lt 40, 3) := dk_161 0 40 (dk_at dksJ19_newBytesLength_0 15 rfl rfl)
theorem dJ19_newBytesLength_18 : decode cJ19_newBytesLength 18 = .ok (.new 21, 3) := dk_187 0 21 (dk_at dksJ19_newBytesLength_0 18 rfl rfl)
theorem dJ19_newBytesLength_21 : decode cJ19_newBytesLength 21 = .ok (.dup, 1) := dk_89 (dk_at dksJ19_newBytesLength_0 21 rfl rfl)
theorem dJ19_newBytesLength_22 : decode cJ19_newBytesLength 22 = .ok (.new 23, 3) := dk_187 0 23 (dk_at dksJ19_newBytesLength_1 0 rfl rfl)
theorem dJ19_newBytesLength_25 : decode cJ19_newBytesLength 25 = .ok (.dup, 1) := dk_89 (dk_at dksJ19_newBytesLength_1 3 rfl rfl)
theorem dJ19_newBytesLength_26 : decode cJ19_newBytesLength 26 = .ok (.invokespecial 25, 3) := dk_183 0 25 (dk_at dksJ19_newBytesLength_1 4 rfl rfl)
theorem dJ19_newBytesLength_29 : decode cJ19_newBytesLength 29 = .ok (.ldc 26, 2) := dk_18 26 (dk_at dksJ19_newBytesLength_1 7 rfl rfl)
theorem dJ19_newBytesLength_31 : decode cJ19_newBytesLength 31 = .ok (.invokevirtual 28, 3) := dk_182 0 28 (dk_at dksJ19_newBytesLength_1 9 rfl rfl)
theorem dJ19_newBytesLength_34 : decode cJ19_newBytesLength 34 = .ok (.iload_n 0, 1) := dk_26 (dk_at dksJ19_newBytesLength_1 12 rfl rfl)
theorem dJ19_newBytesLength_35 : decode cJ19_newBytesLength 35 = .ok (.invokevirtual 32, 3) := dk_182 0 32 (dk_at dksJ19_newBytesLength_1 13 rfl rfl)
theorem dJ19_newBytesLength_38 : decode cJ19_newBytesLength 38 = .ok (.ldc 35, 2) := dk_18 35 (dk_at dksJ19_newBytesLength_1 16 rfl rfl)
theorem dJ19_newBytesLength_40 : decode cJ19_newBytesLength 40 = .ok (.invokevirtual 28, 3) := dk_182 0 28 (dk_at dksJ19_newBytesLength_1 18 rfl rfl)
theorem dJ19_newBytesLength_43 : decode cJ19_newBytesLength 43 = .ok (.ldc 20, 2) := dk_18 20 (dk_at dksJ19_newBytesLength_1 21 rfl rfl)
theorem dJ19_newBytesLength_45 : decode cJ19_newBytesLength 45 = .ok (.invokevirtual 32, 3) := dk_182 0 32 (dk_at dksJ19_newBytesLength_2 0 rfl rfl)
theorem dJ19_newBytesLength_48 : decode cJ19_newBytesLength 48 = .ok (.invokevirtual 37, 3) := dk_182 0 37 (dk_at dksJ19_newBytesLength_2 3 rfl rfl)
theorem dJ19_newBytesLength_51 : decode cJ19_newBytesLength 51 = .ok (.invokespecial 41, 3) := dk_183 0 41 (dk_at dksJ19_newBytesLength_2 6 rfl rfl)
theorem dJ19_newBytesLength_54 : decode cJ19_newBytesLength 54 = .ok (.athrow, 1) := dk_191 (dk_at dksJ19_newBytesLength_2 9 rfl rfl)
theorem dJ19_newBytesLength_55 : decode cJ19_newBytesLength 55 = .ok (.iload_n 0, 1) := dk_26 (dk_at dksJ19_newBytesLength_2 10 rfl rfl)
theorem dJ19_newBytesLength_56 : decode cJ19_newBytesLength 56 = .ok (.iconst 1, 1) := dk_4 (dk_at dksJ19_newBytesLength_2 11 rfl rfl)
theorem dJ19_newBytesLength_57 : decode cJ19_newBytesLength 57 = .ok (.ishl, 1) := dk_120 (dk_at dksJ19_newBytesLength_2 12 rfl rfl)
theorem dJ19_newBytesLength_58 : decode cJ19_newBytesLength 58 = .ok (.ireturn, 1) := dk_172 (dk_at dksJ19_newBytesLength_2 13 rfl rfl)
abbrev cJ19_inflate : ByteArray := prog_40_method_86_code
def yJ19_inflate : MethodName := ⟨RJ19, "inflate", "([BI[BII)V"⟩
def dkwJ19_inflate_1 : List UInt8 := [132, 1, 1, 51, 17, 0, 255, 126, 184, 0, 111, 132, 5, 1, 167, 255, 228, 177]
abbrev dktJ19_inflate_1 : List UInt8 := dkwJ19_inflate_1 ++ []
def dkwJ19_inflate_0 : List UInt8 := [29, 21, 4, 44, 184, 0, 173, 3, 54, 5, 21, 5, 21, 4, 162, 0, 27, 44, 29, 132, 3, 1, 42, 27]
abbrev dktJ19_inflate_0 : List UInt8 := dkwJ19_inflate_0 ++ dktJ19_inflate_1
theorem dksJ19_inflate_0 : cJ19_inflate.data.toList.drop 0 = dktJ19_inflate_0 := by decide +kernel
theorem dksJ19_inflate_1 : cJ19_inflate.data.toList.drop 24 = dktJ19_inflate_1 := dk_seg dksJ19_inflate_0 24 rfl rfl
theorem dJ19_inflate_0 : decode cJ19_inflate 0 = .ok (.iload_n 3, 1) := dk_29 (dk_at dksJ19_inflate_0 0 rfl rfl)
theorem dJ19_inflate_1 : decode cJ19_inflate 1 = .ok (.iload 4, 2) := dk_21 4 (dk_at dksJ19_inflate_0 1 rfl rfl)
theorem dJ19_inflate_3 : decode cJ19_inflate 3 = .ok (.aload_n 2, 1) := dk_44 (dk_at dksJ19_inflate_0 3 rfl rfl)
theorem dJ19_inflate_4 : decode cJ19_inflate 4 = .ok (.invokestatic 173, 3) := dk_184 0 173 (dk_at dksJ19_inflate_0 4 rfl rfl)
theorem dJ19_inflate_7 : decode cJ19_inflate 7 = .ok (.iconst 0, 1) := dk_3 (dk_at dksJ19_inflate_0 7 rfl rfl)
theorem dJ19_inflate_8 : decode cJ19_inflate 8 = .ok (.istore 5, 2) := dk_54 5 (dk_at dksJ19_inflate_0 8 rfl rfl)
theorem dJ19_inflate_10 : decode cJ19_inflate 10 = .ok (.iload 5, 2) := dk_21 5 (dk_at dksJ19_inflate_0 10 rfl rfl)
theorem dJ19_inflate_12 : decode cJ19_inflate 12 = .ok (.iload 4, 2) := dk_21 4 (dk_at dksJ19_inflate_0 12 rfl rfl)
theorem dJ19_inflate_14 : decode cJ19_inflate 14 = .ok (.if_icmp .ge 27, 3) := dk_162 0 27 (dk_at dksJ19_inflate_0 14 rfl rfl)
theorem dJ19_inflate_17 : decode cJ19_inflate 17 = .ok (.aload_n 2, 1) := dk_44 (dk_at dksJ19_inflate_0 17 rfl rfl)
theorem dJ19_inflate_18 : decode cJ19_inflate 18 = .ok (.iload_n 3, 1) := dk_29 (dk_at dksJ19_inflate_0 18 rfl rfl)
theorem dJ19_inflate_19 : decode cJ19_inflate 19 = .ok (.iinc 3 1, 3) := dk_132 3 1 (dk_at dksJ19_inflate_0 19 rfl rfl)
theorem dJ19_inflate_22 : decode cJ19_inflate 22 = .ok (.aload_n 0, 1) := dk_42 (dk_at dksJ19_inflate_0 22 rfl rfl)
theorem dJ19_inflate_23 : decode cJ19_inflate 23 = .ok (.iload_n 1, 1) := dk_27 (dk_at dksJ19_inflate_0 23 rfl rfl)
theorem dJ19_inflate_24 : decode cJ19_inflate 24 = .ok (.iinc 1 1, 3) := dk_132 1 1 (dk_at dksJ19_inflate_1 0 rfl rfl)
theorem dJ19_inflate_27 : decode cJ19_inflate 27 = .ok (.baload, 1) := dk_51 (dk_at dksJ19_inflate_1 3 rfl rfl)
theorem dJ19_inflate_28 : decode cJ19_inflate 28 = .ok (.sipush 255, 3) := dk_17 0 255 (dk_at dksJ19_inflate_1 4 rfl rfl)
theorem dJ19_inflate_31 : decode cJ19_inflate 31 = .ok (.iand, 1) := dk_126 (dk_at dksJ19_inflate_1 7 rfl rfl)
theorem dJ19_inflate_32 : decode cJ19_inflate 32 = .ok (.invokestatic 111, 3) := dk_184 0 111 (dk_at dksJ19_inflate_1 8 rfl rfl)
theorem dJ19_inflate_35 : decode cJ19_inflate 35 = .ok (.iinc 5 1, 3) := dk_132 5 1 (dk_at dksJ19_inflate_1 11 rfl rfl)
theorem dJ19_inflate_38 : decode cJ19_inflate 38 = .ok (.goto (-28), 3) := dk_167 255 228 (dk_at dksJ19_inflate_1 14 rfl rfl)
theorem dJ19_inflate_41 : decode cJ19_inflate 41 = .ok (.return_, 1) := dk_177 (dk_at dksJ19_inflate_1 17 rfl rfl)
abbrev cJ19_checkBoundsOffCount : ByteArray := prog_40_method_94_code
def yJ19_checkBoundsOffCount : MethodName := ⟨RJ19, "checkBoundsOffCount", "(II[B)V"⟩
def dkwJ19_checkBoundsOffCount_0 : List UInt8 := [26, 27, 44, 184, 0, 48, 184, 1, 163, 87, 177]
abbrev dktJ19_checkBoundsOffCount_0 : List UInt8 := dkwJ19_checkBoundsOffCount_0 ++ []
theorem dksJ19_checkBoundsOffCount_0 : cJ19_checkBoundsOffCount.data.toList.drop 0 = dktJ19_checkBoundsOffCount_0 := by decide +kernel
theorem dJ19_checkBoundsOffCount_0 : decode cJ19_checkBoundsOffCount 0 = .ok (.iload_n 0, 1) := dk_26 (dk_at dksJ19_checkBoundsOffCount_0 0 rfl rfl)
theorem dJ19_checkBoundsOffCount_1 : decode cJ19_checkBoundsOffCount 1 = .ok (.iload_n 1, 1) := dk_27 (dk_at dksJ19_checkBoundsOffCount_0 1 rfl rfl)
theorem dJ19_checkBoundsOffCount_2 : decode cJ19_checkBoundsOffCount 2 = .ok (.aload_n 2, 1) := dk_44 (dk_at dksJ19_checkBoundsOffCount_0 2 rfl rfl)
theorem dJ19_checkBoundsOffCount_3 : decode cJ19_checkBoundsOffCount 3 = .ok (.invokestatic 48, 3) := dk_184 0 48 (dk_at dksJ19_checkBoundsOffCount_0 3 rfl rfl)
theorem dJ19_checkBoundsOffCount_6 : decode cJ19_checkBoundsOffCount 6 = .ok (.invokestatic 419, 3) := dk_184 1 163 (dk_at dksJ19_checkBoundsOffCount_0 6 rfl rfl)
theorem dJ19_checkBoundsOffCount_9 : decode cJ19_checkBoundsOffCount 9 = .ok (.pop, 1) := dk_87 (dk_at dksJ19_checkBoundsOffCount_0 9 rfl rfl)
theorem dJ19_checkBoundsOffCount_10 : decode cJ19_checkBoundsOffCount 10 = .ok (.return_, 1) := dk_177 (dk_at dksJ19_checkBoundsOffCount_0 10 rfl rfl)
abbrev cJ19_length : ByteArray := prog_40_method_6_code
def yJ19_length : MethodName := ⟨RJ19, "length", "([B)I"⟩
def dkwJ19_length_0 : List UInt8 := [42, 190, 4, 122, 172]
abbrev dktJ19_length_0 : List UInt8 := dkwJ19_length_0 ++ []
theorem dksJ19_length_0 : cJ19_length.data.toList.drop 0 = dktJ19_length_0 := by decide +kernel
theorem dJ19_length_0 : decode cJ19_length 0 = .ok (.aload_n 0, 1) := dk_42 (dk_at dksJ19_length_0 0 rfl rfl)
theorem dJ19_length_1 : decode cJ19_length 1 = .ok (.arraylength, 1) := dk_190 (dk_at dksJ19_length_0 1 rfl rfl)
theorem dJ19_length_2 : decode cJ19_length 2 = .ok (.iconst 1, 1) := dk_4 (dk_at dksJ19_length_0 2 rfl rfl)
theorem dJ19_length_3 : decode cJ19_length 3 = .ok (.ishr, 1) := dk_122 (dk_at dksJ19_length_0 3 rfl rfl)
theorem dJ19_length_4 : decode cJ19_length 4 = .ok (.ireturn, 1) := dk_172 (dk_at dksJ19_length_0 4 rfl rfl)
abbrev cJ19_putChar : ByteArray := prog_40_method_4_code
def yJ19_putChar : MethodName := ⟨RJ19, "putChar", "([BII)V"⟩
def dkwJ19_putChar_2 : List UInt8 := [178, 0, 63, 122, 145, 84, 177]
abbrev dktJ19_putChar_2 : List UInt8 := dkwJ19_putChar_2 ++ []
def dkwJ19_putChar_1 : List UInt8 := [183, 0, 56, 191, 27, 4, 120, 60, 42, 27, 132, 1, 1, 28, 178, 0, 59, 122, 145, 84, 42, 27, 28]
abbrev dktJ19_putChar_1 : List UInt8 := dkwJ19_putChar_1 ++ dktJ19_putChar_2
def dkwJ19_putChar_0 : List UInt8 := [178, 0, 44, 154, 0, 25, 27, 155, 0, 11, 27, 42, 184, 0, 48, 161, 0, 13, 187, 0, 52, 89, 18, 54]
abbrev dktJ19_putChar_0 : List UInt8 := dkwJ19_putChar_0 ++ dktJ19_putChar_1
theorem dksJ19_putChar_0 : cJ19_putChar.data.toList.drop 0 = dktJ19_putChar_0 := by decide +kernel
theorem dksJ19_putChar_1 : cJ19_putChar.data.toList.drop 24 = dktJ19_putChar_1 := dk_seg dksJ19_putChar_0 24 rfl rfl
theorem dksJ19_putChar_2 : cJ19_putChar.data.toList.drop 47 = dktJ19_putChar_2 := dk_seg dksJ19_putChar_1 23 rfl rfl
theorem dJ19_putChar_0 : decode cJ19_putChar 0 = .ok (.getstatic 44, 3) := dk_178 0 44 (dk_at dksJ19_putChar_0 0 rfl rfl)
theorem dJ19_putChar_3 : decode cJ19_putChar 3 = .ok (.ifCond .ne 25, 3) := dk_154 0 25 (dk_at dksJ19_putChar_0 3 rfl rfl)
theorem dJ19_putChar_6 : decode cJ19_putChar 6 = .ok (.iload_n 1, 1) := dk_27 (dk_at dksJ19_putChar_0 6 rfl rfl)
theorem dJ19_putChar_7 : decode cJ19_putChar 7 = .ok (.ifCond .lt 11, 3) := dk_155 0 11 (dk_at dksJ19_putChar_0 7 rfl rfl)
theorem dJ19_putChar_10 : decode cJ19_putChar 10 = .ok (.iload_n 1, 1) := dk_27 (dk_at dksJ19_putChar_0 10 rfl rfl)
theorem dJ19_putChar_11 : decode cJ19_putChar 11 = .ok (.aload_n 0, 1) := dk_42 (dk_at dksJ19_putChar_0 11 rfl rfl)
theorem dJ19_putChar_12 : decode cJ19_putChar 12 = .ok (.invokestatic 48, 3) := dk_184 0 48 (dk_at dksJ19_putChar_0 12 rfl rfl)
theorem dJ19_putChar_15 : decode cJ19_putChar 15 = .ok (.if_icmp .lt 13, 3) := dk_161 0 13 (dk_at dksJ19_putChar_0 15 rfl rfl)
theorem dJ19_putChar_18 : decode cJ19_putChar 18 = .ok (.new 52, 3) := dk_187 0 52 (dk_at dksJ19_putChar_0 18 rfl rfl)
theorem dJ19_putChar_21 : decode cJ19_putChar 21 = .ok (.dup, 1) := dk_89 (dk_at dksJ19_putChar_0 21 rfl rfl)
theorem dJ19_putChar_22 : decode cJ19_putChar 22 = .ok (.ldc 54, 2) := dk_18 54 (dk_at dksJ19_putChar_0 22 rfl rfl)
theorem dJ19_putChar_24 : decode cJ19_putChar 24 = .ok (.invokespecial 56, 3) := dk_183 0 56 (dk_at dksJ19_putChar_1 0 rfl rfl)
theorem dJ19_putChar_27 : decode cJ19_putChar 27 = .ok (.athrow, 1) := dk_191 (dk_at dksJ19_putChar_1 3 rfl rfl)
theorem dJ19_putChar_28 : decode cJ19_putChar 28 = .ok (.iload_n 1, 1) := dk_27 (dk_at dksJ19_putChar_1 4 rfl rfl)
theorem dJ19_putChar_29 : decode cJ19_putChar 29 = .ok (.iconst 1, 1) := dk_4 (dk_at dksJ19_putChar_1 5 rfl rfl)
theorem dJ19_putChar_30 : decode cJ19_putChar 30 = .ok (.ishl, 1) := dk_120 (dk_at dksJ19_putChar_1 6 rfl rfl)
theorem dJ19_putChar_31 : decode cJ19_putChar 31 = .ok (.istore_n 1, 1) := dk_60 (dk_at dksJ19_putChar_1 7 rfl rfl)
theorem dJ19_putChar_32 : decode cJ19_putChar 32 = .ok (.aload_n 0, 1) := dk_42 (dk_at dksJ19_putChar_1 8 rfl rfl)
theorem dJ19_putChar_33 : decode cJ19_putChar 33 = .ok (.iload_n 1, 1) := dk_27 (dk_at dksJ19_putChar_1 9 rfl rfl)
theorem dJ19_putChar_34 : decode cJ19_putChar 34 = .ok (.iinc 1 1, 3) := dk_132 1 1 (dk_at dksJ19_putChar_1 10 rfl rfl)
theorem dJ19_putChar_37 : decode cJ19_putChar 37 = .ok (.iload_n 2, 1) := dk_28 (dk_at dksJ19_putChar_1 13 rfl rfl)
theorem dJ19_putChar_38 : decode cJ19_putChar 38 = .ok (.getstatic 59, 3) := dk_178 0 59 (dk_at dksJ19_putChar_1 14 rfl rfl)
theorem dJ19_putChar_41 : decode cJ19_putChar 41 = .ok (.ishr, 1) := dk_122 (dk_at dksJ19_putChar_1 17 rfl rfl)
theorem dJ19_putChar_42 : decode cJ19_putChar 42 = .ok (.i2b, 1) := dk_145 (dk_at dksJ19_putChar_1 18 rfl rfl)
theorem dJ19_putChar_43 : decode cJ19_putChar 43 = .ok (.bastore, 1) := dk_84 (dk_at dksJ19_putChar_1 19 rfl rfl)
theorem dJ19_putChar_44 : decode cJ19_putChar 44 = .ok (.aload_n 0, 1) := dk_42 (dk_at dksJ19_putChar_1 20 rfl rfl)
theorem dJ19_putChar_45 : decode cJ19_putChar 45 = .ok (.iload_n 1, 1) := dk_27 (dk_at dksJ19_putChar_1 21 rfl rfl)
theorem dJ19_putChar_46 : decode cJ19_putChar 46 = .ok (.iload_n 2, 1) := dk_28 (dk_at dksJ19_putChar_1 22 rfl rfl)
theorem dJ19_putChar_47 : decode cJ19_putChar 47 = .ok (.getstatic 63, 3) := dk_178 0 63 (dk_at dksJ19_putChar_2 0 rfl rfl)
theorem dJ19_putChar_50 : decode cJ19_putChar 50 = .ok (.ishr, 1) := dk_122 (dk_at dksJ19_putChar_2 3 rfl rfl)
theorem dJ19_putChar_51 : decode cJ19_putChar 51 = .ok (.i2b, 1) := dk_145 (dk_at dksJ19_putChar_2 4 rfl rfl)
theorem dJ19_putChar_52 : decode cJ19_putChar 52 = .ok (.bastore, 1) := dk_84 (dk_at dksJ19_putChar_2 5 rfl rfl)
theorem dJ19_putChar_53 : decode cJ19_putChar 53 = .ok (.return_, 1) := dk_177 (dk_at dksJ19_putChar_2 6 rfl rfl)
abbrev cJ19_putCharSB : ByteArray := prog_40_method_71_code
def yJ19_putCharSB : MethodName := ⟨RJ19, "putCharSB", "([BII)V"⟩
def dkwJ19_putCharSB_0 : List UInt8 := [27, 42, 184, 0, 67, 42, 27, 28, 184, 0, 111, 177]
abbrev dktJ19_putCharSB_0 : List UInt8 := dkwJ19_putCharSB_0 ++ []
theorem dksJ19_putCharSB_0 : cJ19_putCharSB.data.toList.drop 0 = dktJ19_putCharSB_0 := by decide +kernel
theorem dJ19_putCharSB_0 : decode cJ19_putCharSB 0 = .ok (.iload_n 1, 1) := dk_27 (dk_at dksJ19_putCharSB_0 0 rfl rfl)
theorem dJ19_putCharSB_1 : decode cJ19_putCharSB 1 = .ok (.aload_n 0, 1) := dk_42 (dk_at dksJ19_putCharSB_0 1 rfl rfl)
theorem dJ19_putCharSB_2 : decode cJ19_putCharSB 2 = .ok (.invokestatic 67, 3) := dk_184 0 67 (dk_at dksJ19_putCharSB_0 2 rfl rfl)
theorem dJ19_putCharSB_5 : decode cJ19_putCharSB 5 = .ok (.aload_n 0, 1) := dk_42 (dk_at dksJ19_putCharSB_0 5 rfl rfl)
theorem dJ19_putCharSB_6 : decode cJ19_putCharSB 6 = .ok (.iload_n 1, 1) := dk_27 (dk_at dksJ19_putCharSB_0 6 rfl rfl)
theorem dJ19_putCharSB_7 : decode cJ19_putCharSB 7 = .ok (.iload_n 2, 1) := dk_28 (dk_at dksJ19_putCharSB_0 7 rfl rfl)
theorem dJ19_putCharSB_8 : decode cJ19_putCharSB 8 = .ok (.invokestatic 111, 3) := dk_184 0 111 (dk_at dksJ19_putCharSB_0 8 rfl rfl)
theorem dJ19_putCharSB_11 : decode cJ19_putCharSB 11 = .ok (.return_, 1) := dk_177 (dk_at dksJ19_putCharSB_0 11 rfl rfl)
abbrev cJ19_checkIndex : ByteArray := prog_40_method_91_code
def yJ19_checkIndex : MethodName := ⟨RJ19, "checkIndex", "(I[B)V"⟩
def dkwJ19_checkIndex_0 : List UInt8 := [26, 43, 184, 0, 48, 184, 1, 158, 177]
abbrev dktJ19_checkIndex_0 : List UInt8 := dkwJ19_checkIndex_0 ++ []
theorem dksJ19_checkIndex_0 : cJ19_checkIndex.data.toList.drop 0 = dktJ19_checkIndex_0 := by decide +kernel
theorem dJ19_checkIndex_0 : decode cJ19_checkIndex 0 = .ok (.iload_n 0, 1) := dk_26 (dk_at dksJ19_checkIndex_0 0 rfl rfl)
theorem dJ19_checkIndex_1 : decode cJ19_checkIndex 1 = .ok (.aload_n 1, 1) := dk_43 (dk_at dksJ19_checkIndex_0 1 rfl rfl)
theorem dJ19_checkIndex_2 : decode cJ19_checkIndex 2 = .ok (.invokestatic 48, 3) := dk_184 0 48 (dk_at dksJ19_checkIndex_0 2 rfl rfl)
theorem dJ19_checkIndex_5 : decode cJ19_checkIndex 5 = .ok (.invokestatic 414, 3) := dk_184 1 158 (dk_at dksJ19_checkIndex_0 5 rfl rfl)
theorem dJ19_checkIndex_8 : decode cJ19_checkIndex 8 = .ok (.return_, 1) := dk_177 (dk_at dksJ19_checkIndex_0 8 rfl rfl)
abbrev cJ19_compress : ByteArray := prog_40_method_17_code
def yJ19_compress : MethodName := ⟨RJ19, "compress", "([BII)[B"⟩
def dkwJ19_compress_2 : List UInt8 := [25, 5, 3, 45, 3, 28, 184, 0, 123, 28, 159, 0, 6, 25, 5, 176, 45, 176]
abbrev dktJ19_compress_2 : List UInt8 := dkwJ19_compress_2 ++ []
def dkwJ19_compress_1 : List UInt8 := [27, 28, 96, 184, 0, 11, 184, 0, 126, 58, 5, 25, 5, 21, 4, 184, 0, 71, 17, 0, 255, 163, 0, 16]
abbrev dktJ19_compress_1 : List UInt8 := dkwJ19_compress_1 ++ dktJ19_compress_2
def dkwJ19_compress_0 : List UInt8 := [28, 188, 8, 78, 42, 27, 45, 3, 28, 184, 0, 123, 54, 4, 21, 4, 28, 159, 0, 47, 42, 27, 4, 120]
abbrev dktJ19_compress_0 : List UInt8 := dkwJ19_compress_0 ++ dktJ19_compress_1
theorem dksJ19_compress_0 : cJ19_compress.data.toList.drop 0 = dktJ19_compress_0 := by decide +kernel
theorem dksJ19_compress_1 : cJ19_compress.data.toList.drop 24 = dktJ19_compress_1 := dk_seg dksJ19_compress_0 24 rfl rfl
theorem dksJ19_compress_2 : cJ19_compress.data.toList.drop 48 = dktJ19_compress_2 := dk_seg dksJ19_compress_1 24 rfl rfl
theorem dJ19_compress_0 : decode cJ19_compress 0 = .ok (.iload_n 2, 1) := dk_28 (dk_at dksJ19_compress_0 0 rfl rfl)
theorem dJ19_compress_1 : decode cJ19_compress 1 = .ok (.newarray .byte, 2) := dk_188_8 (dk_at dksJ19_compress_0 1 rfl rfl)
theorem dJ19_compress_3 : decode cJ19_compress 3 = .ok (.astore_n 3, 1) := dk_78 (dk_at dksJ19_compress_0 3 rfl rfl)
theorem dJ19_compress_4 : decode cJ19_compress 4 = .ok (.aload_n 0, 1) := dk_42 (dk_at dksJ19_compress_0 4 rfl rfl)
theorem dJ19_compress_5 : decode cJ19_compress 5 = .ok (.iload_n 1, 1) := dk_27 (dk_at dksJ19_compress_0 5 rfl rfl)
theorem dJ19_compress_6 : decode cJ19_compress 6 = .ok (.aload_n 3, 1) := dk_45 (dk_at dksJ19_compress_0 6 rfl rfl)
theorem dJ19_compress_7 : decode cJ19_compress 7 = .ok (.iconst 0, 1) := dk_3 (dk_at dksJ19_compress_0 7 rfl rfl)
theorem dJ19_compress_8 : decode cJ19_compress 8 = .ok (.iload_n 2, 1) := dk_28 (dk_at dksJ19_compress_0 8 rfl rfl)
theorem dJ19_compress_9 : decode cJ19_compress 9 = .ok (.invokestatic 123, 3) := dk_184 0 123 (dk_at dksJ19_compress_0 9 rfl rfl)
theorem dJ19_compress_12 : decode cJ19_compress 12 = .ok (.istore 4, 2) := dk_54 4 (dk_at dksJ19_compress_0 12 rfl rfl)
theorem dJ19_compress_14 : decode cJ19_compress 14 = .ok (.iload 4, 2) := dk_21 4 (dk_at dksJ19_compress_0 14 rfl rfl)
theorem dJ19_compress_16 : decode cJ19_compress 16 = .ok (.iload_n 2, 1) := dk_28 (dk_at dksJ19_compress_0 16 rfl rfl)
theorem dJ19_compress_17 : decode cJ19_compress 17 = .ok (.if_icmp .eq 47, 3) := dk_159 0 47 (dk_at dksJ19_compress_0 17 rfl rfl)
theorem dJ19_compress_20 : decode cJ19_compress 20 = .ok (.aload_n 0, 1) := dk_42 (dk_at dksJ19_compress_0 20 rfl rfl)
theorem dJ19_compress_21 : decode cJ19_compress 21 = .ok (.iload_n 1, 1) := dk_27 (dk_at dksJ19_compress_0 21 rfl rfl)
theorem dJ19_compress_22 : decode cJ19_compress 22 = .ok (.iconst 1, 1) := dk_4 (dk_at dksJ19_compress_0 22 rfl rfl)
theorem dJ19_compress_23 : decode cJ19_compress 23 = .ok (.ishl, 1) := dk_120 (dk_at dksJ19_compress_0 23 rfl rfl)
theorem dJ19_compress_24 : decode cJ19_compress 24 = .ok (.iload_n 1, 1) := dk_27 (dk_at dksJ19_compress_1 0 rfl rfl)
theorem dJ19_compress_25 : decode cJ19_compress 25 = .ok (.iload_n 2, 1) := dk_28 (dk_at dksJ19_compress_1 1 rfl rfl)
theorem dJ19_compress_26 : decode cJ19_compress 26 = .ok (.iadd, 1) := dk_96 (dk_at dksJ19_compress_1 2 rfl rfl)
theorem dJ19_compress_27 : decode cJ19_compress 27 = .ok (.invokestatic 11, 3) := dk_184 0 11 (dk_at dksJ19_compress_1 3 rfl rfl)
theorem dJ19_compress_30 : decode cJ19_compress 30 = .ok (.invokestatic 126, 3) := dk_184 0 126 (dk_at dksJ19_compress_1 6 rfl rfl)
theorem dJ19_compress_33 : decode cJ19_compress 33 = .ok (.astore 5, 2) := dk_58 5 (dk_at dksJ19_compress_1 9 rfl rfl)
theorem dJ19_compress_35 : decode cJ19_compress 35 = .ok (.aload 5, 2) := dk_25 5 (dk_at dksJ19_compress_1 11 rfl rfl)
theorem dJ19_compress_37 : decode cJ19_compress 37 = .ok (.iload 4, 2) := dk_21 4 (dk_at dksJ19_compress_1 13 rfl rfl)
theorem dJ19_compress_39 : decode cJ19_compress 39 = .ok (.invokestatic 71, 3) := dk_184 0 71 (dk_at dksJ19_compress_1 15 rfl rfl)
theorem dJ19_compress_42 : decode cJ19_compress 42 = .ok (.sipush 255, 3) := dk_17 0 255 (dk_at dksJ19_compress_1 18 rfl rfl)
theorem dJ19_compress_45 : decode cJ19_compress 45 = .ok (.if_icmp .gt 16, 3) := dk_163 0 16 (dk_at dksJ19_compress_1 21 rfl rfl)
theorem dJ19_compress_48 : decode cJ19_compress 48 = .ok (.aload 5, 2) := dk_25 5 (dk_at dksJ19_compress_2 0 rfl rfl)
theorem dJ19_compress_50 : decode cJ19_compress 50 = .ok (.iconst 0, 1) := dk_3 (dk_at dksJ19_compress_2 2 rfl rfl)
theorem dJ19_compress_51 : decode cJ19_compress 51 = .ok (.aload_n 3, 1) := dk_45 (dk_at dksJ19_compress_2 3 rfl rfl)
theorem dJ19_compress_52 : decode cJ19_compress 52 = .ok (.iconst 0, 1) := dk_3 (dk_at dksJ19_compress_2 4 rfl rfl)
theorem dJ19_compress_53 : decode cJ19_compress 53 = .ok (.iload_n 2, 1) := dk_28 (dk_at dksJ19_compress_2 5 rfl rfl)
theorem dJ19_compress_54 : decode cJ19_compress 54 = .ok (.invokestatic 123, 3) := dk_184 0 123 (dk_at dksJ19_compress_2 6 rfl rfl)
theorem dJ19_compress_57 : decode cJ19_compress 57 = .ok (.iload_n 2, 1) := dk_28 (dk_at dksJ19_compress_2 9 rfl rfl)
theorem dJ19_compress_58 : decode cJ19_compress 58 = .ok (.if_icmp .eq 6, 3) := dk_159 0 6 (dk_at dksJ19_compress_2 10 rfl rfl)
theorem dJ19_compress_61 : decode cJ19_compress 61 = .ok (.aload 5, 2) := dk_25 5 (dk_at dksJ19_compress_2 13 rfl rfl)
theorem dJ19_compress_63 : decode cJ19_compress 63 = .ok (.areturn, 1) := dk_176 (dk_at dksJ19_compress_2 15 rfl rfl)
theorem dJ19_compress_64 : decode cJ19_compress 64 = .ok (.aload_n 3, 1) := dk_45 (dk_at dksJ19_compress_2 16 rfl rfl)
theorem dJ19_compress_65 : decode cJ19_compress 65 = .ok (.areturn, 1) := dk_176 (dk_at dksJ19_compress_2 17 rfl rfl)
abbrev cJ19_compress_2 : ByteArray := prog_40_method_22_code
def yJ19_compress_2 : MethodName := ⟨RJ19, "compress", "([BI[BII)I"⟩
def dkwJ19_compress_2_2 : List UInt8 := [132, 5, 1, 167, 255, 216, 21, 4, 172]
abbrev dktJ19_compress_2_2 : List UInt8 := dkwJ19_compress_2_2 ++ []
def dkwJ19_compress_2_1 : List UInt8 := [21, 6, 17, 0, 255, 164, 0, 6, 21, 5, 172, 44, 29, 21, 6, 145, 84, 132, 1, 1, 132, 3, 1]
abbrev dktJ19_compress_2_1 : List UInt8 := dkwJ19_compress_2_1 ++ dktJ19_compress_2_2
def dkwJ19_compress_2_0 : List UInt8 := [27, 21, 4, 42, 184, 0, 173, 3, 54, 5, 21, 5, 21, 4, 162, 0, 39, 42, 27, 184, 0, 71, 54, 6]
abbrev dktJ19_compress_2_0 : List UInt8 := dkwJ19_compress_2_0 ++ dktJ19_compress_2_1
theorem dksJ19_compress_2_0 : cJ19_compress_2.data.toList.drop 0 = dktJ19_compress_2_0 := by decide +kernel
theorem dksJ19_compress_2_1 : cJ19_compress_2.data.toList.drop 24 = dktJ19_compress_2_1 := dk_seg dksJ19_compress_2_0 24 rfl rfl
theorem dksJ19_compress_2_2 : cJ19_compress_2.data.toList.drop 47 = dktJ19_compress_2_2 := dk_seg dksJ19_compress_2_1 23 rfl rfl
theorem dJ19_compress_2_0 : decode cJ19_compress_2 0 = .ok (.iload_n 1, 1) := dk_27 (dk_at dksJ19_compress_2_0 0 rfl rfl)
theorem dJ19_compress_2_1 : decode cJ19_compress_2 1 = .ok (.iload 4, 2) := dk_21 4 (dk_at dksJ19_compress_2_0 1 rfl rfl)
theorem dJ19_compress_2_3 : decode cJ19_compress_2 3 = .ok (.aload_n 0, 1) := dk_42 (dk_at dksJ19_compress_2_0 3 rfl rfl)
theorem dJ19_compress_2_4 : decode cJ19_compress_2 4 = .ok (.invokestatic 173, 3) := dk_184 0 173 (dk_at dksJ19_compress_2_0 4 rfl rfl)
theorem dJ19_compress_2_7 : decode cJ19_compress_2 7 = .ok (.iconst 0, 1) := dk_3 (dk_at dksJ19_compress_2_0 7 rfl rfl)
theorem dJ19_compress_2_8 : decode cJ19_compress_2 8 = .ok (.istore 5, 2) := dk_54 5 (dk_at dksJ19_compress_2_0 8 rfl rfl)
theorem dJ19_compress_2_10 : decode cJ19_compress_2 10 = .ok (.iload 5, 2) := dk_21 5 (dk_at dksJ19_compress_2_0 10 rfl rfl)
theorem dJ19_compress_2_12 : decode cJ19_compress_2 12 = .ok (.iload 4, 2) := dk_21 4 (dk_at dksJ19_compress_2_0 12 rfl rfl)
theorem dJ19_compress_2_14 : decode cJ19_compress_2 14 = .ok (.if_icmp .ge 39, 3) := dk_162 0 39 (dk_at dksJ19_compress_2_0 14 rfl rfl)
theorem dJ19_compress_2_17 : decode cJ19_compress_2 17 = .ok (.aload_n 0, 1) := dk_42 (dk_at dksJ19_compress_2_0 17 rfl rfl)
theorem dJ19_compress_2_18 : decode cJ19_compress_2 18 = .ok (.iload_n 1, 1) := dk_27 (dk_at dksJ19_compress_2_0 18 rfl rfl)
theorem dJ19_compress_2_19 : decode cJ19_compress_2 19 = .ok (.invokestatic 71, 3) := dk_184 0 71 (dk_at dksJ19_compress_2_0 19 rfl rfl)
theorem dJ19_compress_2_22 : decode cJ19_compress_2 22 = .ok (.istore 6, 2) := dk_54 6 (dk_at dksJ19_compress_2_0 22 rfl rfl)
theorem dJ19_compress_2_24 : decode cJ19_compress_2 24 = .ok (.iload 6, 2) := dk_21 6 (dk_at dksJ19_compress_2_1 0 rfl rfl)
theorem dJ19_compress_2_26 : decode cJ19_compress_2 26 = .ok (.sipush 255, 3) := dk_17 0 255 (dk_at dksJ19_compress_2_1 2 rfl rfl)
theorem dJ19_compress_2_29 : decode cJ19_compress_2 29 = .ok (.if_icmp .le 6, 3) := dk_164 0 6 (dk_at dksJ19_compress_2_1 5 rfl rfl)
theorem dJ19_compress_2_32 : decode cJ19_compress_2 32 = .ok (.iload 5, 2) := dk_21 5 (dk_at dksJ19_compress_2_1 8 rfl rfl)
theorem dJ19_compress_2_34 : decode cJ19_compress_2 34 = .ok (.ireturn, 1) := dk_172 (dk_at dksJ19_compress_2_1 10 rfl rfl)
theorem dJ19_compress_2_35 : decode cJ19_compress_2 35 = .ok (.aload_n 2, 1) := dk_44 (dk_at dksJ19_compress_2_1 11 rfl rfl)
theorem dJ19_compress_2_36 : decode cJ19_compress_2 36 = .ok (.iload_n 3, 1) := dk_29 (dk_at dksJ19_compress_2_1 12 rfl rfl)
theorem dJ19_compress_2_37 : decode cJ19_compress_2 37 = .ok (.iload 6, 2) := dk_21 6 (dk_at dksJ19_compress_2_1 13 rfl rfl)
theorem dJ19_compress_2_39 : decode cJ19_compress_2 39 = .ok (.i2b, 1) := dk_145 (dk_at dksJ19_compress_2_1 15 rfl rfl)
theorem dJ19_compress_2_40 : decode cJ19_compress_2 40 = .ok (.bastore, 1) := dk_84 (dk_at dksJ19_compress_2_1 16 rfl rfl)
theorem dJ19_compress_2_41 : decode cJ19_compress_2 41 = .ok (.iinc 1 1, 3) := dk_132 1 1 (dk_at dksJ19_compress_2_1 17 rfl rfl)
theorem dJ19_compress_2_44 : decode cJ19_compress_2 44 = .ok (.iinc 3 1, 3) := dk_132 3 1 (dk_at dksJ19_compress_2_1 20 rfl rfl)
theorem dJ19_compress_2_47 : decode cJ19_compress_2 47 = .ok (.iinc 5 1, 3) := dk_132 5 1 (dk_at dksJ19_compress_2_2 0 rfl rfl)
theorem dJ19_compress_2_50 : decode cJ19_compress_2 50 = .ok (.goto (-40), 3) := dk_167 255 216 (dk_at dksJ19_compress_2_2 3 rfl rfl)
theorem dJ19_compress_2_53 : decode cJ19_compress_2 53 = .ok (.iload 4, 2) := dk_21 4 (dk_at dksJ19_compress_2_2 6 rfl rfl)
theorem dJ19_compress_2_55 : decode cJ19_compress_2 55 = .ok (.ireturn, 1) := dk_172 (dk_at dksJ19_compress_2_2 8 rfl rfl)
abbrev cJ19_getChar : ByteArray := prog_40_method_5_code
def yJ19_getChar : MethodName := ⟨RJ19, "getChar", "([BI)C"⟩
def dkwJ19_getChar_2 : List UInt8 := [51, 17, 0, 255, 126, 178, 0, 63, 120, 128, 146, 172]
abbrev dktJ19_getChar_2 : List UInt8 := dkwJ19_getChar_2 ++ []
def dkwJ19_getChar_1 : List UInt8 := [183, 0, 56, 191, 27, 4, 120, 60, 42, 27, 132, 1, 1, 51, 17, 0, 255, 126, 178, 0, 59, 120, 42, 27]
abbrev dktJ19_getChar_1 : List UInt8 := dkwJ19_getChar_1 ++ dktJ19_getChar_2
def dkwJ19_getChar_0 : List UInt8 := [178, 0, 44, 154, 0, 25, 27, 155, 0, 11, 27, 42, 184, 0, 48, 161, 0, 13, 187, 0, 52, 89, 18, 54]
abbrev dktJ19_getChar_0 : List UInt8 := dkwJ19_getChar_0 ++ dktJ19_getChar_1
theorem dksJ19_getChar_0 : cJ19_getChar.data.toList.drop 0 = dktJ19_getChar_0 := by decide +kernel
theorem dksJ19_getChar_1 : cJ19_getChar.data.toList.drop 24 = dktJ19_getChar_1 := dk_seg dksJ19_getChar_0 24 rfl rfl
theorem dksJ19_getChar_2 : cJ19_getChar.data.toList.drop 48 = dktJ19_getChar_2 := dk_seg dksJ19_getChar_1 24 rfl rfl
theorem dJ19_getChar_0 : decode cJ19_getChar 0 = .ok (.getstatic 44, 3) := dk_178 0 44 (dk_at dksJ19_getChar_0 0 rfl rfl)
theorem dJ19_getChar_3 : decode cJ19_getChar 3 = .ok (.ifCond .ne 25, 3) := dk_154 0 25 (dk_at dksJ19_getChar_0 3 rfl rfl)
theorem dJ19_getChar_6 : decode cJ19_getChar 6 = .ok (.iload_n 1, 1) := dk_27 (dk_at dksJ19_getChar_0 6 rfl rfl)
theorem dJ19_getChar_7 : decode cJ19_getChar 7 = .ok (.ifCond .lt 11, 3) := dk_155 0 11 (dk_at dksJ19_getChar_0 7 rfl rfl)
theorem dJ19_getChar_10 : decode cJ19_getChar 10 = .ok (.iload_n 1, 1) := dk_27 (dk_at dksJ19_getChar_0 10 rfl rfl)
theorem dJ19_getChar_11 : decode cJ19_getChar 11 = .ok (.aload_n 0, 1) := dk_42 (dk_at dksJ19_getChar_0 11 rfl rfl)
theorem dJ19_getChar_12 : decode cJ19_getChar 12 = .ok (.invokestatic 48, 3) := dk_184 0 48 (dk_at dksJ19_getChar_0 12 rfl rfl)
theorem dJ19_getChar_15 : decode cJ19_getChar 15 = .ok (.if_icmp .lt 13, 3) := dk_161 0 13 (dk_at dksJ19_getChar_0 15 rfl rfl)
theorem dJ19_getChar_18 : decode cJ19_getChar 18 = .ok (.new 52, 3) := dk_187 0 52 (dk_at dksJ19_getChar_0 18 rfl rfl)
theorem dJ19_getChar_21 : decode cJ19_getChar 21 = .ok (.dup, 1) := dk_89 (dk_at dksJ19_getChar_0 21 rfl rfl)
theorem dJ19_getChar_22 : decode cJ19_getChar 22 = .ok (.ldc 54, 2) := dk_18 54 (dk_at dksJ19_getChar_0 22 rfl rfl)
theorem dJ19_getChar_24 : decode cJ19_getChar 24 = .ok (.invokespecial 56, 3) := dk_183 0 56 (dk_at dksJ19_getChar_1 0 rfl rfl)
theorem dJ19_getChar_27 : decode cJ19_getChar 27 = .ok (.athrow, 1) := dk_191 (dk_at dksJ19_getChar_1 3 rfl rfl)
theorem dJ19_getChar_28 : decode cJ19_getChar 28 = .ok (.iload_n 1, 1) := dk_27 (dk_at dksJ19_getChar_1 4 rfl rfl)
theorem dJ19_getChar_29 : decode cJ19_getChar 29 = .ok (.iconst 1, 1) := dk_4 (dk_at dksJ19_getChar_1 5 rfl rfl)
theorem dJ19_getChar_30 : decode cJ19_getChar 30 = .ok (.ishl, 1) := dk_120 (dk_at dksJ19_getChar_1 6 rfl rfl)
theorem dJ19_getChar_31 : decode cJ19_getChar 31 = .ok (.istore_n 1, 1) := dk_60 (dk_at dksJ19_getChar_1 7 rfl rfl)
theorem dJ19_getChar_32 : decode cJ19_getChar 32 = .ok (.aload_n 0, 1) := dk_42 (dk_at dksJ19_getChar_1 8 rfl rfl)
theorem dJ19_getChar_33 : decode cJ19_getChar 33 = .ok (.iload_n 1, 1) := dk_27 (dk_at dksJ19_getChar_1 9 rfl rfl)
theorem dJ19_getChar_34 : decode cJ19_getChar 34 = .ok (.iinc 1 1, 3) := dk_132 1 1 (dk_at dksJ19_getChar_1 10 rfl rfl)
theorem dJ19_getChar_37 : decode cJ19_getChar 37 = .ok (.baload, 1) := dk_51 (dk_at dksJ19_getChar_1 13 rfl rfl)
theorem dJ19_getChar_38 : decode cJ19_getChar 38 = .ok (.sipush 255, 3) := dk_17 0 255 (dk_at dksJ19_getChar_1 14 rfl rfl)
theorem dJ19_getChar_41 : decode cJ19_getChar 41 = .ok (.iand, 1) := dk_126 (dk_at dksJ19_getChar_1 17 rfl rfl)
theorem dJ19_getChar_42 : decode cJ19_getChar 42 = .ok (.getstatic 59, 3) := dk_178 0 59 (dk_at dksJ19_getChar_1 18 rfl rfl)
theorem dJ19_getChar_45 : decode cJ19_getChar 45 = .ok (.ishl, 1) := dk_120 (dk_at dksJ19_getChar_1 21 rfl rfl)
theorem dJ19_getChar_46 : decode cJ19_getChar 46 = .ok (.aload_n 0, 1) := dk_42 (dk_at dksJ19_getChar_1 22 rfl rfl)
theorem dJ19_getChar_47 : decode cJ19_getChar 47 = .ok (.iload_n 1, 1) := dk_27 (dk_at dksJ19_getChar_1 23 rfl rfl)
theorem dJ19_getChar_48 : decode cJ19_getChar 48 = .ok (.baload, 1) := dk_51 (dk_at dksJ19_getChar_2 0 rfl rfl)
theorem dJ19_getChar_49 : decode cJ19_getChar 49 = .ok (.sipush 255, 3) := dk_17 0 255 (dk_at dksJ19_getChar_2 1 rfl rfl)
theorem dJ19_getChar_52 : decode cJ19_getChar 52 = .ok (.iand, 1) := dk_126 (dk_at dksJ19_getChar_2 4 rfl rfl)
theorem dJ19_getChar_53 : decode cJ19_getChar 53 = .ok (.getstatic 63, 3) := dk_178 0 63 (dk_at dksJ19_getChar_2 5 rfl rfl)
theorem dJ19_getChar_56 : decode cJ19_getChar 56 = .ok (.ishl, 1) := dk_120 (dk_at dksJ19_getChar_2 8 rfl rfl)
theorem dJ19_getChar_57 : decode cJ19_getChar 57 = .ok (.ior, 1) := dk_128 (dk_at dksJ19_getChar_2 9 rfl rfl)
theorem dJ19_getChar_58 : decode cJ19_getChar 58 = .ok (.i2c, 1) := dk_146 (dk_at dksJ19_getChar_2 10 rfl rfl)
theorem dJ19_getChar_59 : decode cJ19_getChar 59 = .ok (.ireturn, 1) := dk_172 (dk_at dksJ19_getChar_2 11 rfl rfl)
abbrev cJ19_coderFromArrayLen : ByteArray := prog_40_method_15_code
def yJ19_coderFromArrayLen : MethodName := ⟨RJ19, "coderFromArrayLen", "([BI)B"⟩
def dkwJ19_coderFromArrayLen_0 : List UInt8 := [27, 42, 190, 100, 16, 31, 124, 145, 172]
abbrev dktJ19_coderFromArrayLen_0 : List UInt8 := dkwJ19_coderFromArrayLen_0 ++ []
theorem dksJ19_coderFromArrayLen_0 : cJ19_coderFromArrayLen.data.toList.drop 0 = dktJ19_coderFromArrayLen_0 := by decide +kernel
theorem dJ19_coderFromArrayLen_0 : decode cJ19_coderFromArrayLen 0 = .ok (.iload_n 1, 1) := dk_27 (dk_at dksJ19_coderFromArrayLen_0 0 rfl rfl)
theorem dJ19_coderFromArrayLen_1 : decode cJ19_coderFromArrayLen 1 = .ok (.aload_n 0, 1) := dk_42 (dk_at dksJ19_coderFromArrayLen_0 1 rfl rfl)
theorem dJ19_coderFromArrayLen_2 : decode cJ19_coderFromArrayLen 2 = .ok (.arraylength, 1) := dk_190 (dk_at dksJ19_coderFromArrayLen_0 2 rfl rfl)
theorem dJ19_coderFromArrayLen_3 : decode cJ19_coderFromArrayLen 3 = .ok (.isub, 1) := dk_100 (dk_at dksJ19_coderFromArrayLen_0 3 rfl rfl)
theorem dJ19_coderFromArrayLen_4 : decode cJ19_coderFromArrayLen 4 = .ok (.bipush 31, 2) := dk_16 31 (dk_at dksJ19_coderFromArrayLen_0 4 rfl rfl)
theorem dJ19_coderFromArrayLen_6 : decode cJ19_coderFromArrayLen 6 = .ok (.iushr, 1) := dk_124 (dk_at dksJ19_coderFromArrayLen_0 6 rfl rfl)
theorem dJ19_coderFromArrayLen_7 : decode cJ19_coderFromArrayLen 7 = .ok (.i2b, 1) := dk_145 (dk_at dksJ19_coderFromArrayLen_0 7 rfl rfl)
theorem dJ19_coderFromArrayLen_8 : decode cJ19_coderFromArrayLen 8 = .ok (.ireturn, 1) := dk_172 (dk_at dksJ19_coderFromArrayLen_0 8 rfl rfl)
abbrev cJ19_compareTo : ByteArray := prog_40_method_29_code
def yJ19_compareTo : MethodName := ⟨RJ19, "compareTo", "([B[B)I"⟩
def dkwJ19_compareTo_0 : List UInt8 := [42, 184, 0, 48, 61, 43, 184, 0, 48, 62, 42, 43, 28, 29, 184, 0, 176, 172]
abbrev dktJ19_compareTo_0 : List UInt8 := dkwJ19_compareTo_0 ++ []
theorem dksJ19_compareTo_0 : cJ19_compareTo.data.toList.drop 0 = dktJ19_compareTo_0 := by decide +kernel
theorem dJ19_compareTo_0 : decode cJ19_compareTo 0 = .ok (.aload_n 0, 1) := dk_42 (dk_at dksJ19_compareTo_0 0 rfl rfl)
theorem dJ19_compareTo_1 : decode cJ19_compareTo 1 = .ok (.invokestatic 48, 3) := dk_184 0 48 (dk_at dksJ19_compareTo_0 1 rfl rfl)
theorem dJ19_compareTo_4 : decode cJ19_compareTo 4 = .ok (.istore_n 2, 1) := dk_61 (dk_at dksJ19_compareTo_0 4 rfl rfl)
theorem dJ19_compareTo_5 : decode cJ19_compareTo 5 = .ok (.aload_n 1, 1) := dk_43 (dk_at dksJ19_compareTo_0 5 rfl rfl)
theorem dJ19_compareTo_6 : decode cJ19_compareTo 6 = .ok (.invokestatic 48, 3) := dk_184 0 48 (dk_at dksJ19_compareTo_0 6 rfl rfl)
theorem dJ19_compareTo_9 : decode cJ19_compareTo 9 = .ok (.istore_n 3, 1) := dk_62 (dk_at dksJ19_compareTo_0 9 rfl rfl)
theorem dJ19_compareTo_10 : decode cJ19_compareTo 10 = .ok (.aload_n 0, 1) := dk_42 (dk_at dksJ19_compareTo_0 10 rfl rfl)
theorem dJ19_compareTo_11 : decode cJ19_compareTo 11 = .ok (.aload_n 1, 1) := dk_43 (dk_at dksJ19_compareTo_0 11 rfl rfl)
theorem dJ19_compareTo_12 : decode cJ19_compareTo 12 = .ok (.iload_n 2, 1) := dk_28 (dk_at dksJ19_compareTo_0 12 rfl rfl)
theorem dJ19_compareTo_13 : decode cJ19_compareTo 13 = .ok (.iload_n 3, 1) := dk_29 (dk_at dksJ19_compareTo_0 13 rfl rfl)
theorem dJ19_compareTo_14 : decode cJ19_compareTo 14 = .ok (.invokestatic 176, 3) := dk_184 0 176 (dk_at dksJ19_compareTo_0 14 rfl rfl)
theorem dJ19_compareTo_17 : decode cJ19_compareTo 17 = .ok (.ireturn, 1) := dk_172 (dk_at dksJ19_compareTo_0 17 rfl rfl)
abbrev cJ19_compareValues : ByteArray := prog_40_method_31_code
def yJ19_compareValues : MethodName := ⟨RJ19, "compareValues", "([B[BII)I"⟩
def dkwJ19_compareValues_2 : List UInt8 := [132, 5, 1, 167, 255, 217, 28, 29, 100, 172]
abbrev dktJ19_compareValues_2 : List UInt8 := dkwJ19_compareValues_2 ++ []
def dkwJ19_compareValues_1 : List UInt8 := [54, 6, 43, 21, 5, 184, 0, 71, 54, 7, 21, 6, 21, 7, 159, 0, 9, 21, 6, 21, 7, 100, 172]
abbrev dktJ19_compareValues_1 : List UInt8 := dkwJ19_compareValues_1 ++ dktJ19_compareValues_2
def dkwJ19_compareValues_0 : List UInt8 := [28, 29, 184, 0, 183, 54, 4, 3, 54, 5, 21, 5, 21, 4, 162, 0, 38, 42, 21, 5, 184, 0, 71]
abbrev dktJ19_compareValues_0 : List UInt8 := dkwJ19_compareValues_0 ++ dktJ19_compareValues_1
theorem dksJ19_compareValues_0 : cJ19_compareValues.data.toList.drop 0 = dktJ19_compareValues_0 := by decide +kernel
theorem dksJ19_compareValues_1 : cJ19_compareValues.data.toList.drop 23 = dktJ19_compareValues_1 := dk_seg dksJ19_compareValues_0 23 rfl rfl
theorem dksJ19_compareValues_2 : cJ19_compareValues.data.toList.drop 46 = dktJ19_compareValues_2 := dk_seg dksJ19_compareValues_1 23 rfl rfl
theorem dJ19_compareValues_0 : decode cJ19_compareValues 0 = .ok (.iload_n 2, 1) := dk_28 (dk_at dksJ19_compareValues_0 0 rfl rfl)
theorem dJ19_compareValues_1 : decode cJ19_compareValues 1 = .ok (.iload_n 3, 1) := dk_29 (dk_at dksJ19_compareValues_0 1 rfl rfl)
theorem dJ19_compareValues_2 : decode cJ19_compareValues 2 = .ok (.invokestatic 183, 3) := dk_184 0 183 (dk_at dksJ19_compareValues_0 2 rfl rfl)
theorem dJ19_compareValues_5 : decode cJ19_compareValues 5 = .ok (.istore 4, 2) := dk_54 4 (dk_at dksJ19_compareValues_0 5 rfl rfl)
theorem dJ19_compareValues_7 : decode cJ19_compareValues 7 = .ok (.iconst 0, 1) := dk_3 (dk_at dksJ19_compareValues_0 7 rfl rfl)
theorem dJ19_compareValues_8 : decode cJ19_compareValues 8 = .ok (.istore 5, 2) := dk_54 5 (dk_at dksJ19_compareValues_0 8 rfl rfl)
theorem dJ19_compareValues_10 : decode cJ19_compareValues 10 = .ok (.iload 5, 2) := dk_21 5 (dk_at dksJ19_compareValues_0 10 rfl rfl)
theorem dJ19_compareValues_12 : decode cJ19_compareValues 12 = .ok (.iload 4, 2) := dk_21 4 (dk_at dksJ19_compareValues_0 12 rfl rfl)
theorem dJ19_compareValues_14 : decode cJ19_compareValues 14 = .ok (.if_icmp .ge 38, 3) := dk_162 0 38 (dk_at dksJ19_compareValues_0 14 rfl rfl)
theorem dJ19_compareValues_17 : decode cJ19_compareValues 17 = .ok (.aload_n 0, 1) := dk_42 (dk_at dksJ19_compareValues_0 17 rfl rfl)
theorem dJ19_compareValues_18 : decode cJ19_compareValues 18 = .ok (.iload 5, 2) := dk_21 5 (dk_at dksJ19_compareValues_0 18 rfl rfl)
theorem dJ19_compareValues_20 : decode cJ19_compareValues 20 = .ok (.invokestatic 71, 3) := dk_184 0 71 (dk_at dksJ19_compareValues_0 20 rfl rfl)
theorem dJ19_compareValues_23 : decode cJ19_compareValues 23 = .ok (.istore 6, 2) := dk_54 6 (dk_at dksJ19_compareValues_1 0 rfl rfl)
theorem dJ19_compareValues_25 : decode cJ19_compareValues 25 = .ok (.aload_n 1, 1) := dk_43 (dk_at dksJ19_compareValues_1 2 rfl rfl)
theorem dJ19_compareValues_26 : decode cJ19_compareValues 26 = .ok (.iload 5, 2) := dk_21 5 (dk_at dksJ19_compareValues_1 3 rfl rfl)
theorem dJ19_compareValues_28 : decode cJ19_compareValues 28 = .ok (.invokestatic 71, 3) := dk_184 0 71 (dk_at dksJ19_compareValues_1 5 rfl rfl)
theorem dJ19_compareValues_31 : decode cJ19_compareValues 31 = .ok (.istore 7, 2) := dk_54 7 (dk_at dksJ19_compareValues_1 8 rfl rfl)
theorem dJ19_compareValues_33 : decode cJ19_compareValues 33 = .ok (.iload 6, 2) := dk_21 6 (dk_at dksJ19_compareValues_1 10 rfl rfl)
theorem dJ19_compareValues_35 : decode cJ19_compareValues 35 = .ok (.iload 7, 2) := dk_21 7 (dk_at dksJ19_compareValues_1 12 rfl rfl)
theorem dJ19_compareValues_37 : decode cJ19_compareValues 37 = .ok (.if_icmp .eq 9, 3) := dk_159 0 9 (dk_at dksJ19_compareValues_1 14 rfl rfl)
theorem dJ19_compareValues_40 : decode cJ19_compareValues 40 = .ok (.iload 6, 2) := dk_21 6 (dk_at dksJ19_compareValues_1 17 rfl rfl)
theorem dJ19_compareValues_42 : decode cJ19_compareValues 42 = .ok (.iload 7, 2) := dk_21 7 (dk_at dksJ19_compareValues_1 19 rfl rfl)
theorem dJ19_compareValues_44 : decode cJ19_compareValues 44 = .ok (.isub, 1) := dk_100 (dk_at dksJ19_compareValues_1 21 rfl rfl)
theorem dJ19_compareValues_45 : decode cJ19_compareValues 45 = .ok (.ireturn, 1) := dk_172 (dk_at dksJ19_compareValues_1 22 rfl rfl)
theorem dJ19_compareValues_46 : decode cJ19_compareValues 46 = .ok (.iinc 5 1, 3) := dk_132 5 1 (dk_at dksJ19_compareValues_2 0 rfl rfl)
theorem dJ19_compareValues_49 : decode cJ19_compareValues 49 = .ok (.goto (-39), 3) := dk_167 255 217 (dk_at dksJ19_compareValues_2 3 rfl rfl)
theorem dJ19_compareValues_52 : decode cJ19_compareValues 52 = .ok (.iload_n 2, 1) := dk_28 (dk_at dksJ19_compareValues_2 6 rfl rfl)
theorem dJ19_compareValues_53 : decode cJ19_compareValues 53 = .ok (.iload_n 3, 1) := dk_29 (dk_at dksJ19_compareValues_2 7 rfl rfl)
theorem dJ19_compareValues_54 : decode cJ19_compareValues 54 = .ok (.isub, 1) := dk_100 (dk_at dksJ19_compareValues_2 8 rfl rfl)
theorem dJ19_compareValues_55 : decode cJ19_compareValues 55 = .ok (.ireturn, 1) := dk_172 (dk_at dksJ19_compareValues_2 9 rfl rfl)
abbrev cJ19_compareToLatin1 : ByteArray := prog_40_method_32_code
def yJ19_compareToLatin1 : MethodName := ⟨RJ19, "compareToLatin1", "([B[B)I"⟩
def dkwJ19_compareToLatin1_0 : List UInt8 := [43, 42, 184, 0, 189, 116, 172]
abbrev dktJ19_compareToLatin1_0 : List UInt8 := dkwJ19_compareToLatin1_0 ++ []
theorem dksJ19_compareToLatin1_0 : cJ19_compareToLatin1.data.toList.drop 0 = dktJ19_compareToLatin1_0 := by decide +kernel
theorem dJ19_compareToLatin1_0 : decode cJ19_compareToLatin1 0 = .ok (.aload_n 1, 1) := dk_43 (dk_at dksJ19_compareToLatin1_0 0 rfl rfl)
theorem dJ19_compareToLatin1_1 : decode cJ19_compareToLatin1 1 = .ok (.aload_n 0, 1) := dk_42 (dk_at dksJ19_compareToLatin1_0 1 rfl rfl)
theorem dJ19_compareToLatin1_2 : decode cJ19_compareToLatin1 2 = .ok (.invokestatic 189, 3) := dk_184 0 189 (dk_at dksJ19_compareToLatin1_0 2 rfl rfl)
theorem dJ19_compareToLatin1_5 : decode cJ19_compareToLatin1 5 = .ok (.ineg, 1) := dk_116 (dk_at dksJ19_compareToLatin1_0 5 rfl rfl)
theorem dJ19_compareToLatin1_6 : decode cJ19_compareToLatin1 6 = .ok (.ireturn, 1) := dk_172 (dk_at dksJ19_compareToLatin1_0 6 rfl rfl)
abbrev cJ19_compareTo_2 : ByteArray := prog_40_method_30_code
def yJ19_compareTo_2 : MethodName := ⟨RJ19, "compareTo", "([B[BII)I"⟩
def dkwJ19_compareTo_2_0 : List UInt8 := [28, 42, 184, 0, 180, 29, 43, 184, 0, 180, 42, 43, 28, 29, 184, 0, 176, 172]
abbrev dktJ19_compareTo_2_0 : List UInt8 := dkwJ19_compareTo_2_0 ++ []
theorem dksJ19_compareTo_2_0 : cJ19_compareTo_2.data.toList.drop 0 = dktJ19_compareTo_2_0 := by decide +kernel
theorem dJ19_compareTo_2_0 : decode cJ19_compareTo_2 0 = .ok (.iload_n 2, 1) := dk_28 (dk_at dksJ19_compareTo_2_0 0 rfl rfl)
theorem dJ19_compareTo_2_1 : decode cJ19_compareTo_2 1 = .ok (.aload_n 0, 1) := dk_42 (dk_at dksJ19_compareTo_2_0 1 rfl rfl)
theorem dJ19_compareTo_2_2 : decode cJ19_compareTo_2 2 = .ok (.invokestatic 180, 3) := dk_184 0 180 (dk_at dksJ19_compareTo_2_0 2 rfl rfl)
theorem dJ19_compareTo_2_5 : decode cJ19_compareTo_2 5 = .ok (.iload_n 3, 1) := dk_29 (dk_at dksJ19_compareTo_2_0 5 rfl rfl)
theorem dJ19_compareTo_2_6 : decode cJ19_compareTo_2 6 = .ok (.aload_n 1, 1) := dk_43 (dk_at dksJ19_compareTo_2_0 6 rfl rfl)
theorem dJ19_compareTo_2_7 : decode cJ19_compareTo_2 7 = .ok (.invokestatic 180, 3) := dk_184 0 180 (dk_at dksJ19_compareTo_2_0 7 rfl rfl)
theorem dJ19_compareTo_2_10 : decode cJ19_compareTo_2 10 = .ok (.aload_n 0, 1) := dk_42 (dk_at dksJ19_compareTo_2_0 10 rfl rfl)
theorem dJ19_compareTo_2_11 : decode cJ19_compareTo_2 11 = .ok (.aload_n 1, 1) := dk_43 (dk_at dksJ19_compareTo_2_0 11 rfl rfl)
theorem dJ19_compareTo_2_12 : decode cJ19_compareTo_2 12 = .ok (.iload_n 2, 1) := dk_28 (dk_at dksJ19_compareTo_2_0 12 rfl rfl)
theorem dJ19_compareTo_2_13 : decode cJ19_compareTo_2 13 = .ok (.iload_n 3, 1) := dk_29 (dk_at dksJ19_compareTo_2_0 13 rfl rfl)
theorem dJ19_compareTo_2_14 : decode cJ19_compareTo_2 14 = .ok (.invokestatic 176, 3) := dk_184 0 176 (dk_at dksJ19_compareTo_2_0 14 rfl rfl)
theorem dJ19_compareTo_2_17 : decode cJ19_compareTo_2 17 = .ok (.ireturn, 1) := dk_172 (dk_at dksJ19_compareTo_2_0 17 rfl rfl)
abbrev cJ19_checkOffset : ByteArray := prog_40_method_92_code
def yJ19_checkOffset : MethodName := ⟨RJ19, "checkOffset", "(I[B)V"⟩
def dkwJ19_checkOffset_0 : List UInt8 := [26, 43, 184, 0, 48, 184, 1, 161, 177]
abbrev dktJ19_checkOffset_0 : List UInt8 := dkwJ19_checkOffset_0 ++ []
theorem dksJ19_checkOffset_0 : cJ19_checkOffset.data.toList.drop 0 = dktJ19_checkOffset_0 := by decide +kernel
theorem dJ19_checkOffset_0 : decode cJ19_checkOffset 0 = .ok (.iload_n 0, 1) := dk_26 (dk_at dksJ19_checkOffset_0 0 rfl rfl)
theorem dJ19_checkOffset_1 : decode cJ19_checkOffset 1 = .ok (.aload_n 1, 1) := dk_43 (dk_at dksJ19_checkOffset_0 1 rfl rfl)
theorem dJ19_checkOffset_2 : decode cJ19_checkOffset 2 = .ok (.invokestatic 48, 3) := dk_184 0 48 (dk_at dksJ19_checkOffset_0 2 rfl rfl)
theorem dJ19_checkOffset_5 : decode cJ19_checkOffset 5 = .ok (.invokestatic 417, 3) := dk_184 1 161 (dk_at dksJ19_checkOffset_0 5 rfl rfl)
theorem dJ19_checkOffset_8 : decode cJ19_checkOffset 8 = .ok (.return_, 1) := dk_177 (dk_at dksJ19_checkOffset_0 8 rfl rfl)
abbrev cJ19_compareToLatin1_2 : ByteArray := prog_40_method_33_code
def yJ19_compareToLatin1_2 : MethodName := ⟨RJ19, "compareToLatin1", "([B[BII)I"⟩
def dkwJ19_compareToLatin1_2_0 : List UInt8 := [43, 42, 29, 28, 184, 0, 193, 116, 172]
abbrev dktJ19_compareToLatin1_2_0 : List UInt8 := dkwJ19_compareToLatin1_2_0 ++ []
theorem dksJ19_compareToLatin1_2_0 : cJ19_compareToLatin1_2.data.toList.drop 0 = dktJ19_compareToLatin1_2_0 := by decide +kernel
theorem dJ19_compareToLatin1_2_0 : decode cJ19_compareToLatin1_2 0 = .ok (.aload_n 1, 1) := dk_43 (dk_at dksJ19_compareToLatin1_2_0 0 rfl rfl)
theorem dJ19_compareToLatin1_2_1 : decode cJ19_compareToLatin1_2 1 = .ok (.aload_n 0, 1) := dk_42 (dk_at dksJ19_compareToLatin1_2_0 1 rfl rfl)
theorem dJ19_compareToLatin1_2_2 : decode cJ19_compareToLatin1_2 2 = .ok (.iload_n 3, 1) := dk_29 (dk_at dksJ19_compareToLatin1_2_0 2 rfl rfl)
theorem dJ19_compareToLatin1_2_3 : decode cJ19_compareToLatin1_2 3 = .ok (.iload_n 2, 1) := dk_28 (dk_at dksJ19_compareToLatin1_2_0 3 rfl rfl)
theorem dJ19_compareToLatin1_2_4 : decode cJ19_compareToLatin1_2 4 = .ok (.invokestatic 193, 3) := dk_184 0 193 (dk_at dksJ19_compareToLatin1_2_0 4 rfl rfl)
theorem dJ19_compareToLatin1_2_7 : decode cJ19_compareToLatin1_2 7 = .ok (.ineg, 1) := dk_116 (dk_at dksJ19_compareToLatin1_2_0 7 rfl rfl)
theorem dJ19_compareToLatin1_2_8 : decode cJ19_compareToLatin1_2 8 = .ok (.ireturn, 1) := dk_172 (dk_at dksJ19_compareToLatin1_2_0 8 rfl rfl)
abbrev cJ19_getChars : ByteArray := prog_40_method_77_code
def yJ19_getChars : MethodName := ⟨RJ19, "getChars", "(III[B)I"⟩
def dkwJ19_getChars_1 : List UInt8 := [159, 0, 11, 187, 0, 52, 89, 183, 0, 66, 191, 21, 4, 172]
abbrev dktJ19_getChars_1 : List UInt8 := dkwJ19_getChars_1 ++ []
def dkwJ19_getChars_0 : List UInt8 := [27, 28, 45, 184, 0, 96, 26, 28, 45, 184, 1, 137, 54, 4, 178, 0, 44, 154, 0, 17, 27, 21, 4]
abbrev dktJ19_getChars_0 : List UInt8 := dkwJ19_getChars_0 ++ dktJ19_getChars_1
theorem dksJ19_getChars_0 : cJ19_getChars.data.toList.drop 0 = dktJ19_getChars_0 := by decide +kernel
theorem dksJ19_getChars_1 : cJ19_getChars.data.toList.drop 23 = dktJ19_getChars_1 := dk_seg dksJ19_getChars_0 23 rfl rfl
theorem dJ19_getChars_0 : decode cJ19_getChars 0 = .ok (.iload_n 1, 1) := dk_27 (dk_at dksJ19_getChars_0 0 rfl rfl)
theorem dJ19_getChars_1 : decode cJ19_getChars 1 = .ok (.iload_n 2, 1) := dk_28 (dk_at dksJ19_getChars_0 1 rfl rfl)
theorem dJ19_getChars_2 : decode cJ19_getChars 2 = .ok (.aload_n 3, 1) := dk_45 (dk_at dksJ19_getChars_0 2 rfl rfl)
theorem dJ19_getChars_3 : decode cJ19_getChars 3 = .ok (.invokestatic 96, 3) := dk_184 0 96 (dk_at dksJ19_getChars_0 3 rfl rfl)
theorem dJ19_getChars_6 : decode cJ19_getChars 6 = .ok (.iload_n 0, 1) := dk_26 (dk_at dksJ19_getChars_0 6 rfl rfl)
theorem dJ19_getChars_7 : decode cJ19_getChars 7 = .ok (.iload_n 2, 1) := dk_28 (dk_at dksJ19_getChars_0 7 rfl rfl)
theorem dJ19_getChars_8 : decode cJ19_getChars 8 = .ok (.aload_n 3, 1) := dk_45 (dk_at dksJ19_getChars_0 8 rfl rfl)
theorem dJ19_getChars_9 : decode cJ19_getChars 9 = .ok (.invokestatic 393, 3) := dk_184 1 137 (dk_at dksJ19_getChars_0 9 rfl rfl)
theorem dJ19_getChars_12 : decode cJ19_getChars 12 = .ok (.istore 4, 2) := dk_54 4 (dk_at dksJ19_getChars_0 12 rfl rfl)
theorem dJ19_getChars_14 : decode cJ19_getChars 14 = .ok (.getstatic 44, 3) := dk_178 0 44 (dk_at dksJ19_getChars_0 14 rfl rfl)
theorem dJ19_getChars_17 : decode cJ19_getChars 17 = .ok (.ifCond .ne 17, 3) := dk_154 0 17 (dk_at dksJ19_getChars_0 17 rfl rfl)
theorem dJ19_getChars_20 : decode cJ19_getChars 20 = .ok (.iload_n 1, 1) := dk_27 (dk_at dksJ19_getChars_0 20 rfl rfl)
theorem dJ19_getChars_21 : decode cJ19_getChars 21 = .ok (.iload 4, 2) := dk_21 4 (dk_at dksJ19_getChars_0 21 rfl rfl)
theorem dJ19_getChars_23 : decode cJ19_getChars 23 = .ok (.if_icmp .eq 11, 3) := dk_159 0 11 (dk_at dksJ19_getChars_1 0 rfl rfl)
theorem dJ19_getChars_26 : decode cJ19_getChars 26 = .ok (.new 52, 3) := dk_187 0 52 (dk_at dksJ19_getChars_1 3 rfl rfl)
theorem dJ19_getChars_29 : decode cJ19_getChars 29 = .ok (.dup, 1) := dk_89 (dk_at dksJ19_getChars_1 6 rfl rfl)
theorem dJ19_getChars_30 : decode cJ19_getChars 30 = .ok (.invokespecial 66, 3) := dk_183 0 66 (dk_at dksJ19_getChars_1 7 rfl rfl)
theorem dJ19_getChars_33 : decode cJ19_getChars 33 = .ok (.athrow, 1) := dk_191 (dk_at dksJ19_getChars_1 10 rfl rfl)
theorem dJ19_getChars_34 : decode cJ19_getChars 34 = .ok (.iload 4, 2) := dk_21 4 (dk_at dksJ19_getChars_1 11 rfl rfl)
theorem dJ19_getChars_36 : decode cJ19_getChars 36 = .ok (.ireturn, 1) := dk_172 (dk_at dksJ19_getChars_1 13 rfl rfl)
abbrev cJ19_checkBoundsBeginEnd : ByteArray := prog_40_method_93_code
def yJ19_checkBoundsBeginEnd : MethodName := ⟨RJ19, "checkBoundsBeginEnd", "(II[B)V"⟩
def dkwJ19_checkBoundsBeginEnd_0 : List UInt8 := [26, 27, 44, 184, 0, 48, 184, 0, 241, 177]
abbrev dktJ19_checkBoundsBeginEnd_0 : List UInt8 := dkwJ19_checkBoundsBeginEnd_0 ++ []
theorem dksJ19_checkBoundsBeginEnd_0 : cJ19_checkBoundsBeginEnd.data.toList.drop 0 = dktJ19_checkBoundsBeginEnd_0 := by decide +kernel
theorem dJ19_checkBoundsBeginEnd_0 : decode cJ19_checkBoundsBeginEnd 0 = .ok (.iload_n 0, 1) := dk_26 (dk_at dksJ19_checkBoundsBeginEnd_0 0 rfl rfl)
theorem dJ19_checkBoundsBeginEnd_1 : decode cJ19_checkBoundsBeginEnd 1 = .ok (.iload_n 1, 1) := dk_27 (dk_at dksJ19_checkBoundsBeginEnd_0 1 rfl rfl)
theorem dJ19_checkBoundsBeginEnd_2 : decode cJ19_checkBoundsBeginEnd 2 = .ok (.aload_n 2, 1) := dk_44 (dk_at dksJ19_checkBoundsBeginEnd_0 2 rfl rfl)
theorem dJ19_checkBoundsBeginEnd_3 : decode cJ19_checkBoundsBeginEnd 3 = .ok (.invokestatic 48, 3) := dk_184 0 48 (dk_at dksJ19_checkBoundsBeginEnd_0 3 rfl rfl)
theorem dJ19_checkBoundsBeginEnd_6 : decode cJ19_checkBoundsBeginEnd 6 = .ok (.invokestatic 241, 3) := dk_184 0 241 (dk_at dksJ19_checkBoundsBeginEnd_0 6 rfl rfl)
theorem dJ19_checkBoundsBeginEnd_9 : decode cJ19_checkBoundsBeginEnd 9 = .ok (.return_, 1) := dk_177 (dk_at dksJ19_checkBoundsBeginEnd_0 9 rfl rfl)
abbrev cJ19_getChars_2 : ByteArray := prog_40_method_89_code
def yJ19_getChars_2 : MethodName := ⟨RJ19, "getChars", "(II[B)I"⟩
def dkwJ19_getChars_2_5 : List UInt8 := [132, 5, 255, 21, 5, 16, 45, 184, 0, 111, 21, 5, 172]
abbrev dktJ19_getChars_2_5 : List UInt8 := dkwJ19_getChars_2_5 ++ []
def dkwJ19_getChars_2_4 : List UInt8 := [162, 0, 18, 44, 132, 5, 255, 21, 5, 178, 1, 151, 26, 116, 51, 184, 0, 111, 21, 6, 153, 0, 14, 44]
abbrev dktJ19_getChars_2_4 : List UInt8 := dkwJ19_getChars_2_4 ++ dktJ19_getChars_2_5
def dkwJ19_getChars_2_3 : List UInt8 := [184, 0, 111, 167, 255, 205, 44, 132, 5, 255, 21, 5, 178, 1, 147, 26, 116, 51, 184, 0, 111, 26, 16, 247]
abbrev dktJ19_getChars_2_3 : List UInt8 := dkwJ19_getChars_2_3 ++ dktJ19_getChars_2_4
def dkwJ19_getChars_2_2 : List UInt8 := [21, 5, 178, 1, 147, 21, 4, 51, 184, 0, 111, 44, 132, 5, 255, 21, 5, 178, 1, 151, 21, 4, 51]
abbrev dktJ19_getChars_2_2 : List UInt8 := dkwJ19_getChars_2_2 ++ dktJ19_getChars_2_3
def dkwJ19_getChars_2_1 : List UInt8 := [16, 156, 163, 0, 51, 26, 16, 100, 108, 62, 29, 16, 100, 104, 26, 100, 54, 4, 29, 59, 44, 132, 5, 255]
abbrev dktJ19_getChars_2_1 : List UInt8 := dkwJ19_getChars_2_1 ++ dktJ19_getChars_2_2
def dkwJ19_getChars_2_0 : List UInt8 := [27, 54, 5, 26, 156, 0, 7, 4, 167, 0, 4, 3, 54, 6, 21, 6, 154, 0, 6, 26, 116, 59, 26]
abbrev dktJ19_getChars_2_0 : List UInt8 := dkwJ19_getChars_2_0 ++ dktJ19_getChars_2_1
theorem dksJ19_getChars_2_0 : cJ19_getChars_2.data.toList.drop 0 = dktJ19_getChars_2_0 := by decide +kernel
theorem dksJ19_getChars_2_1 : cJ19_getChars_2.data.toList.drop 23 = dktJ19_getChars_2_1 := dk_seg dksJ19_getChars_2_0 23 rfl rfl
theorem dksJ19_getChars_2_2 : cJ19_getChars_2.data.toList.drop 47 = dktJ19_getChars_2_2 := dk_seg dksJ19_getChars_2_1 24 rfl rfl
theorem dksJ19_getChars_2_3 : cJ19_getChars_2.data.toList.drop 70 = dktJ19_getChars_2_3 := dk_seg dksJ19_getChars_2_2 23 rfl rfl
theorem dksJ19_getChars_2_4 : cJ19_getChars_2.data.toList.drop 94 = dktJ19_getChars_2_4 := dk_seg dksJ19_getChars_2_3 24 rfl rfl
theorem dksJ19_getChars_2_5 : cJ19_getChars_2.data.toList.drop 118 = dktJ19_getChars_2_5 := dk_seg dksJ19_getChars_2_4 24 rfl rfl
theorem dJ19_getChars_2_0 : decode cJ19_getChars_2 0 = .ok (.iload_n 1, 1) := dk_27 (dk_at dksJ19_getChars_2_0 0 rfl rfl)
theorem dJ19_getChars_2_1 : decode cJ19_getChars_2 1 = .ok (.istore 5, 2) := dk_54 5 (dk_at dksJ19_getChars_2_0 1 rfl rfl)
theorem dJ19_getChars_2_3 : decode cJ19_getChars_2 3 = .ok (.iload_n 0, 1) := dk_26 (dk_at dksJ19_getChars_2_0 3 rfl rfl)
theorem dJ19_getChars_2_4 : decode cJ19_getChars_2 4 = .ok (.ifCond .ge 7, 3) := dk_156 0 7 (dk_at dksJ19_getChars_2_0 4 rfl rfl)
theorem dJ19_getChars_2_7 : decode cJ19_getChars_2 7 = .ok (.iconst 1, 1) := dk_4 (dk_at dksJ19_getChars_2_0 7 rfl rfl)
theorem dJ19_getChars_2_8 : decode cJ19_getChars_2 8 = .ok (.goto 4, 3) := dk_167 0 4 (dk_at dksJ19_getChars_2_0 8 rfl rfl)
theorem dJ19_getChars_2_11 : decode cJ19_getChars_2 11 = .ok (.iconst 0, 1) := dk_3 (dk_at dksJ19_getChars_2_0 11 rfl rfl)
theorem dJ19_getChars_2_12 : decode cJ19_getChars_2 12 = .ok (.istore 6, 2) := dk_54 6 (dk_at dksJ19_getChars_2_0 12 rfl rfl)
theorem dJ19_getChars_2_14 : decode cJ19_getChars_2 14 = .ok (.iload 6, 2) := dk_21 6 (dk_at dksJ19_getChars_2_0 14 rfl rfl)
theorem dJ19_getChars_2_16 : decode cJ19_getChars_2 16 = .ok (.ifCond .ne 6, 3) := dk_154 0 6 (dk_at dksJ19_getChars_2_0 16 rfl rfl)
theorem dJ19_getChars_2_19 : decode cJ19_getChars_2 19 = .ok (.iload_n 0, 1) := dk_26 (dk_at dksJ19_getChars_2_0 19 rfl rfl)
theorem dJ19_getChars_2_20 : decode cJ19_getChars_2 20 = .ok (.ineg, 1) := dk_116 (dk_at dksJ19_getChars_2_0 20 rfl rfl)
theorem dJ19_getChars_2_21 : decode cJ19_getChars_2 21 = .ok (.istore_n 0, 1) := dk_59 (dk_at dksJ19_getChars_2_0 21 rfl rfl)
theorem dJ19_getChars_2_22 : decode cJ19_getChars_2 22 = .ok (.iload_n 0, 1) := dk_26 (dk_at dksJ19_getChars_2_0 22 rfl rfl)
theorem dJ19_getChars_2_23 : decode cJ19_getChars_2 23 = .ok (.bipush (-100), 2) := dk_16 156 (dk_at dksJ19_getChars_2_1 0 rfl rfl)
theorem dJ19_getChars_2_25 : decode cJ19_getChars_2 25 = .ok (.if_icmp .gt 51, 3) := dk_163 0 51 (dk_at dksJ19_getChars_2_1 2 rfl rfl)
theorem dJ19_getChars_2_28 : decode cJ19_getChars_2 28 = .ok (.iload_n 0, 1) := dk_26 (dk_at dksJ19_getChars_2_1 5 rfl rfl)
theorem dJ19_getChars_2_29 : decode cJ19_getChars_2 29 = .ok (.bipush 100, 2) := dk_16 100 (dk_at dksJ19_getChars_2_1 6 rfl rfl)
theorem dJ19_getChars_2_31 : decode cJ19_getChars_2 31 = .ok (.idiv, 1) := dk_108 (dk_at dksJ19_getChars_2_1 8 rfl rfl)
theorem dJ19_getChars_2_32 : decode cJ19_getChars_2 32 = .ok (.istore_n 3, 1) := dk_62 (dk_at dksJ19_getChars_2_1 9 rfl rfl)
theorem dJ19_getChars_2_33 : decode cJ19_getChars_2 33 = .ok (.iload_n 3, 1) := dk_29 (dk_at dksJ19_getChars_2_1 10 rfl rfl)
theorem dJ19_getChars_2_34 : decode cJ19_getChars_2 34 = .ok (.bipush 100, 2) := dk_16 100 (dk_at dksJ19_getChars_2_1 11 rfl rfl)
theorem dJ19_getChars_2_36 : decode cJ19_getChars_2 36 = .ok (.imul, 1) := dk_104 (dk_at dksJ19_getChars_2_1 13 rfl rfl)
theorem dJ19_getChars_2_37 : decode cJ19_getChars_2 37 = .ok (.iload_n 0, 1) := dk_26 (dk_at dksJ19_getChars_2_1 14 rfl rfl)
theorem dJ19_getChars_2_38 : decode cJ19_getChars_2 38 = .ok (.isub, 1) := dk_100 (dk_at dksJ19_getChars_2_1 15 rfl rfl)
theorem dJ19_getChars_2_39 : decode cJ19_getChars_2 39 = .ok (.istore 4, 2) := dk_54 4 (dk_at dksJ19_getChars_2_1 16 rfl rfl)
theorem dJ19_getChars_2_41 : decode cJ19_getChars_2 41 = .ok (.iload_n 3, 1) := dk_29 (dk_at dksJ19_getChars_2_1 18 rfl rfl)
theorem dJ19_getChars_2_42 : decode cJ19_getChars_2 42 = .ok (.istore_n 0, 1) := dk_59 (dk_at dksJ19_getChars_2_1 19 rfl rfl)
theorem dJ19_getChars_2_43 : decode cJ19_getChars_2 43 = .ok (.aload_n 2, 1) := dk_44 (dk_at dksJ19_getChars_2_1 20 rfl rfl)
theorem dJ19_getChars_2_44 : decode cJ19_getChars_2 44 = .ok (.iinc 5 (-1), 3) := dk_132 5 255 (dk_at dksJ19_getChars_2_1 21 rfl rfl)
theorem dJ19_getChars_2_47 : decode cJ19_getChars_2 47 = .ok (.iload 5, 2) := dk_21 5 (dk_at dksJ19_getChars_2_2 0 rfl rfl)
theorem dJ19_getChars_2_49 : decode cJ19_getChars_2 49 = .ok (.getstatic 403, 3) := dk_178 1 147 (dk_at dksJ19_getChars_2_2 2 rfl rfl)
theorem dJ19_getChars_2_52 : decode cJ19_getChars_2 52 = .ok (.iload 4, 2) := dk_21 4 (dk_at dksJ19_getChars_2_2 5 rfl rfl)
theorem dJ19_getChars_2_54 : decode cJ19_getChars_2 54 = .ok (.baload, 1) := dk_51 (dk_at dksJ19_getChars_2_2 7 rfl rfl)
theorem dJ19_getChars_2_55 : decode cJ19_getChars_2 55 = .ok (.invokestatic 111, 3) := dk_184 0 111 (dk_at dksJ19_getChars_2_2 8 rfl rfl)
theorem dJ19_getChars_2_58 : decode cJ19_getChars_2 58 = .ok (.aload_n 2, 1) := dk_44 (dk_at dksJ19_getChars_2_2 11 rfl rfl)
theorem dJ19_getChars_2_59 : decode cJ19_getChars_2 59 = .ok (.iinc 5 (-1), 3) := dk_132 5 255 (dk_at dksJ19_getChars_2_2 12 rfl rfl)
theorem dJ19_getChars_2_62 : decode cJ19_getChars_2 62 = .ok (.iload 5, 2) := dk_21 5 (dk_at dksJ19_getChars_2_2 15 rfl rfl)
theorem dJ19_getChars_2_64 : decode cJ19_getChars_2 64 = .ok (.getstatic 407, 3) := dk_178 1 151 (dk_at dksJ19_getChars_2_2 17 rfl rfl)
theorem dJ19_getChars_2_67 : decode cJ19_getChars_2 67 = .ok (.iload 4, 2) := dk_21 4 (dk_at dksJ19_getChars_2_2 20 rfl rfl)
theorem dJ19_getChars_2_69 : decode cJ19_getChars_2 69 = .ok (.baload, 1) := dk_51 (dk_at dksJ19_getChars_2_2 22 rfl rfl)
theorem dJ19_getChars_2_70 : decode cJ19_getChars_2 70 = .ok (.invokestatic 111, 3) := dk_184 0 111 (dk_at dksJ19_getChars_2_3 0 rfl rfl)
theorem dJ19_getChars_2_73 : decode cJ19_getChars_2 73 = .ok (.goto (-51), 3) := dk_167 255 205 (dk_at dksJ19_getChars_2_3 3 rfl rfl)
theorem dJ19_getChars_2_76 : decode cJ19_getChars_2 76 = .ok (.aload_n 2, 1) := dk_44 (dk_at dksJ19_getChars_2_3 6 rfl rfl)
theorem dJ19_getChars_2_77 : decode cJ19_getChars_2 77 = .ok (.iinc 5 (-1), 3) := dk_132 5 255 (dk_at dksJ19_getChars_2_3 7 rfl rfl)
theorem dJ19_getChars_2_80 : decode cJ19_getChars_2 80 = .ok (.iload 5, 2) := dk_21 5 (dk_at dksJ19_getChars_2_3 10 rfl rfl)
theorem dJ19_getChars_2_82 : decode cJ19_getChars_2 82 = .ok (.getstatic 403, 3) := dk_178 1 147 (dk_at dksJ19_getChars_2_3 12 rfl rfl)
theorem dJ19_getChars_2_85 : decode cJ19_getChars_2 85 = .ok (.iload_n 0, 1) := dk_26 (dk_at dksJ19_getChars_2_3 15 rfl rfl)
theorem dJ19_getChars_2_86 : decode cJ19_getChars_2 86 = .ok (.ineg, 1) := dk_116 (dk_at dksJ19_getChars_2_3 16 rfl rfl)
theorem dJ19_getChars_2_87 : decode cJ19_getChars_2 87 = .ok (.baload, 1) := dk_51 (dk_at dksJ19_getChars_2_3 17 rfl rfl)
theorem dJ19_getChars_2_88 : decode cJ19_getChars_2 88 = .ok (.invokestatic 111, 3) := dk_184 0 111 (dk_at dksJ19_getChars_2_3 18 rfl rfl)
theorem dJ19_getChars_2_91 : decode cJ19_getChars_2 91 = .ok (.iload_n 0, 1) := dk_26 (dk_at dksJ19_getChars_2_3 21 rfl rfl)
theorem dJ19_getChars_2_92 : decode cJ19_getChars_2 92 = .ok (.bipush (-9), 2) := dk_16 247 (dk_at dksJ19_getChars_2_3 22 rfl rfl)
theorem dJ19_getChars_2_94 : decode cJ19_getChars_2 94 = .ok (.if_icmp .ge 18, 3) := dk_162 0 18 (dk_at dksJ19_getChars_2_4 0 rfl rfl)
theorem dJ19_getChars_2_97 : decode cJ19_getChars_2 97 = .ok (.aload_n 2, 1) := dk_44 (dk_at dksJ19_getChars_2_4 3 rfl rfl)
theorem dJ19_getChars_2_98 : decode cJ19_getChars_2 98 = .ok (.iinc 5 (-1), 3) := dk_132 5 255 (dk_at dksJ19_getChars_2_4 4 rfl rfl)
theorem dJ19_getChars_2_101 : decode cJ19_getChars_2 101 = .ok (.iload 5, 2) := dk_21 5 (dk_at dksJ19_getChars_2_4 7 rfl rfl)
theorem dJ19_getChars_2_103 : decode cJ19_getChars_2 103 = .ok (.getstatic 407, 3) := dk_178 1 151 (dk_at dksJ19_getChars_2_4 9 rfl rfl)
theorem dJ19_getChars_2_106 : decode cJ19_getChars_2 106 = .ok (.iload_n 0, 1) := dk_26 (dk_at dksJ19_getChars_2_4 12 rfl rfl)
theorem dJ19_getChars_2_107 : decode cJ19_getChars_2 107 = .ok (.ineg, 1) := dk_116 (dk_at dksJ19_getChars_2_4 13 rfl rfl)
theorem dJ19_getChars_2_108 : decode cJ19_getChars_2 108 = .ok (.baload, 1) := dk_51 (dk_at dksJ19_getChars_2_4 14 rfl rfl)
theorem dJ19_getChars_2_109 : decode cJ19_getChars_2 109 = .ok (.invokestatic 111, 3) := dk_184 0 111 (dk_at dksJ19_getChars_2_4 15 rfl rfl)
theorem dJ19_getChars_2_112 : decode cJ19_getChars_2 112 = .ok (.iload 6, 2) := dk_21 6 (dk_at dksJ19_getChars_2_4 18 rfl rfl)
theorem dJ19_getChars_2_114 : decode cJ19_getChars_2 114 = .ok (.ifCond .eq 14, 3) := dk_153 0 14 (dk_at dksJ19_getChars_2_4 20 rfl rfl)
theorem dJ19_getChars_2_117 : decode cJ19_getChars_2 117 = .ok (.aload_n 2, 1) := dk_44 (dk_at dksJ19_getChars_2_4 23 rfl rfl)
theorem dJ19_getChars_2_118 : decode cJ19_getChars_2 118 = .ok (.iinc 5 (-1), 3) := dk_132 5 255 (dk_at dksJ19_getChars_2_5 0 rfl rfl)
theorem dJ19_getChars_2_121 : decode cJ19_getChars_2 121 = .ok (.iload 5, 2) := dk_21 5 (dk_at dksJ19_getChars_2_5 3 rfl rfl)
theorem dJ19_getChars_2_123 : decode cJ19_getChars_2 123 = .ok (.bipush 45, 2) := dk_16 45 (dk_at dksJ19_getChars_2_5 5 rfl rfl)
theorem dJ19_getChars_2_125 : decode cJ19_getChars_2 125 = .ok (.invokestatic 111, 3) := dk_184 0 111 (dk_at dksJ19_getChars_2_5 7 rfl rfl)
theorem dJ19_getChars_2_128 : decode cJ19_getChars_2 128 = .ok (.iload 5, 2) := dk_21 5 (dk_at dksJ19_getChars_2_5 10 rfl rfl)
theorem dJ19_getChars_2_130 : decode cJ19_getChars_2 130 = .ok (.ireturn, 1) := dk_172 (dk_at dksJ19_getChars_2_5 12 rfl rfl)
abbrev cJ19_indexOf : ByteArray := prog_40_method_40_code
def yJ19_indexOf : MethodName := ⟨RJ19, "indexOf", "([BIII)I"⟩
def dkwJ19_indexOf_1 : List UInt8 := [18, 227, 162, 0, 11, 42, 27, 28, 29, 184, 0, 228, 172, 42, 27, 28, 29, 184, 0, 232, 172]
abbrev dktJ19_indexOf_1 : List UInt8 := dkwJ19_indexOf_1 ++ []
def dkwJ19_indexOf_0 : List UInt8 := [28, 3, 184, 0, 224, 61, 29, 42, 190, 4, 122, 184, 0, 183, 62, 28, 29, 161, 0, 5, 2, 172, 27]
abbrev dktJ19_indexOf_0 : List UInt8 := dkwJ19_indexOf_0 ++ dktJ19_indexOf_1
theorem dksJ19_indexOf_0 : cJ19_indexOf.data.toList.drop 0 = dktJ19_indexOf_0 := by decide +kernel
theorem dksJ19_indexOf_1 : cJ19_indexOf.data.toList.drop 23 = dktJ19_indexOf_1 := dk_seg dksJ19_indexOf_0 23 rfl rfl
theorem dJ19_indexOf_0 : decode cJ19_indexOf 0 = .ok (.iload_n 2, 1) := dk_28 (dk_at dksJ19_indexOf_0 0 rfl rfl)
theorem dJ19_indexOf_1 : decode cJ19_indexOf 1 = .ok (.iconst 0, 1) := dk_3 (dk_at dksJ19_indexOf_0 1 rfl rfl)
theorem dJ19_indexOf_2 : decode cJ19_indexOf 2 = .ok (.invokestatic 224, 3) := dk_184 0 224 (dk_at dksJ19_indexOf_0 2 rfl rfl)
theorem dJ19_indexOf_5 : decode cJ19_indexOf 5 = .ok (.istore_n 2, 1) := dk_61 (dk_at dksJ19_indexOf_0 5 rfl rfl)
theorem dJ19_indexOf_6 : decode cJ19_indexOf 6 = .ok (.iload_n 3, 1) := dk_29 (dk_at dksJ19_indexOf_0 6 rfl rfl)
theorem dJ19_indexOf_7 : decode cJ19_indexOf 7 = .ok (.aload_n 0, 1) := dk_42 (dk_at dksJ19_indexOf_0 7 rfl rfl)
theorem dJ19_indexOf_8 : decode cJ19_indexOf 8 = .ok (.arraylength, 1) := dk_190 (dk_at dksJ19_indexOf_0 8 rfl rfl)
theorem dJ19_indexOf_9 : decode cJ19_indexOf 9 = .ok (.iconst 1, 1) := dk_4 (dk_at dksJ19_indexOf_0 9 rfl rfl)
theorem dJ19_indexOf_10 : decode cJ19_indexOf 10 = .ok (.ishr, 1) := dk_122 (dk_at dksJ19_indexOf_0 10 rfl rfl)
theorem dJ19_indexOf_11 : decode cJ19_indexOf 11 = .ok (.invokestatic 183, 3) := dk_184 0 183 (dk_at dksJ19_indexOf_0 11 rfl rfl)
theorem dJ19_indexOf_14 : decode cJ19_indexOf 14 = .ok (.istore_n 3, 1) := dk_62 (dk_at dksJ19_indexOf_0 14 rfl rfl)
theorem dJ19_indexOf_15 : decode cJ19_indexOf 15 = .ok (.iload_n 2, 1) := dk_28 (dk_at dksJ19_indexOf_0 15 rfl rfl)
theorem dJ19_indexOf_16 : decode cJ19_indexOf 16 = .ok (.iload_n 3, 1) := dk_29 (dk_at dksJ19_indexOf_0 16 rfl rfl)
theorem dJ19_indexOf_17 : decode cJ19_indexOf 17 = .ok (.if_icmp .lt 5, 3) := dk_161 0 5 (dk_at dksJ19_indexOf_0 17 rfl rfl)
theorem dJ19_indexOf_20 : decode cJ19_indexOf 20 = .ok (.iconst (-1), 1) := dk_2 (dk_at dksJ19_indexOf_0 20 rfl rfl)
theorem dJ19_indexOf_21 : decode cJ19_indexOf 21 = .ok (.ireturn, 1) := dk_172 (dk_at dksJ19_indexOf_0 21 rfl rfl)
theorem dJ19_indexOf_22 : decode cJ19_indexOf 22 = .ok (.iload_n 1, 1) := dk_27 (dk_at dksJ19_indexOf_0 22 rfl rfl)
theorem dJ19_indexOf_23 : decode cJ19_indexOf 23 = .ok (.ldc 227, 2) := dk_18 227 (dk_at dksJ19_indexOf_1 0 rfl rfl)
theorem dJ19_indexOf_25 : decode cJ19_indexOf 25 = .ok (.if_icmp .ge 11, 3) := dk_162 0 11 (dk_at dksJ19_indexOf_1 2 rfl rfl)
theorem dJ19_indexOf_28 : decode cJ19_indexOf 28 = .ok (.aload_n 0, 1) := dk_42 (dk_at dksJ19_indexOf_1 5 rfl rfl)
theorem dJ19_indexOf_29 : decode cJ19_indexOf 29 = .ok (.iload_n 1, 1) := dk_27 (dk_at dksJ19_indexOf_1 6 rfl rfl)
theorem dJ19_indexOf_30 : decode cJ19_indexOf 30 = .ok (.iload_n 2, 1) := dk_28 (dk_at dksJ19_indexOf_1 7 rfl rfl)
theorem dJ19_indexOf_31 : decode cJ19_indexOf 31 = .ok (.iload_n 3, 1) := dk_29 (dk_at dksJ19_indexOf_1 8 rfl rfl)
theorem dJ19_indexOf_32 : decode cJ19_indexOf 32 = .ok (.invokestatic 228, 3) := dk_184 0 228 (dk_at dksJ19_indexOf_1 9 rfl rfl)
theorem dJ19_indexOf_35 : decode cJ19_indexOf 35 = .ok (.ireturn, 1) := dk_172 (dk_at dksJ19_indexOf_1 12 rfl rfl)
theorem dJ19_indexOf_36 : decode cJ19_indexOf 36 = .ok (.aload_n 0, 1) := dk_42 (dk_at dksJ19_indexOf_1 13 rfl rfl)
theorem dJ19_indexOf_37 : decode cJ19_indexOf 37 = .ok (.iload_n 1, 1) := dk_27 (dk_at dksJ19_indexOf_1 14 rfl rfl)
theorem dJ19_indexOf_38 : decode cJ19_indexOf 38 = .ok (.iload_n 2, 1) := dk_28 (dk_at dksJ19_indexOf_1 15 rfl rfl)
theorem dJ19_indexOf_39 : decode cJ19_indexOf 39 = .ok (.iload_n 3, 1) := dk_29 (dk_at dksJ19_indexOf_1 16 rfl rfl)
theorem dJ19_indexOf_40 : decode cJ19_indexOf 40 = .ok (.invokestatic 232, 3) := dk_184 0 232 (dk_at dksJ19_indexOf_1 17 rfl rfl)
theorem dJ19_indexOf_43 : decode cJ19_indexOf 43 = .ok (.ireturn, 1) := dk_172 (dk_at dksJ19_indexOf_1 20 rfl rfl)
abbrev cJ19_indexOfChar : ByteArray := prog_40_method_47_code
def yJ19_indexOfChar : MethodName := ⟨RJ19, "indexOfChar", "([BIII)I"⟩
def dkwJ19_indexOfChar_0 : List UInt8 := [28, 29, 42, 184, 0, 96, 42, 27, 28, 29, 184, 0, 244, 172]
abbrev dktJ19_indexOfChar_0 : List UInt8 := dkwJ19_indexOfChar_0 ++ []
theorem dksJ19_indexOfChar_0 : cJ19_indexOfChar.data.toList.drop 0 = dktJ19_indexOfChar_0 := by decide +kernel
theorem dJ19_indexOfChar_0 : decode cJ19_indexOfChar 0 = .ok (.iload_n 2, 1) := dk_28 (dk_at dksJ19_indexOfChar_0 0 rfl rfl)
theorem dJ19_indexOfChar_1 : decode cJ19_indexOfChar 1 = .ok (.iload_n 3, 1) := dk_29 (dk_at dksJ19_indexOfChar_0 1 rfl rfl)
theorem dJ19_indexOfChar_2 : decode cJ19_indexOfChar 2 = .ok (.aload_n 0, 1) := dk_42 (dk_at dksJ19_indexOfChar_0 2 rfl rfl)
theorem dJ19_indexOfChar_3 : decode cJ19_indexOfChar 3 = .ok (.invokestatic 96, 3) := dk_184 0 96 (dk_at dksJ19_indexOfChar_0 3 rfl rfl)
theorem dJ19_indexOfChar_6 : decode cJ19_indexOfChar 6 = .ok (.aload_n 0, 1) := dk_42 (dk_at dksJ19_indexOfChar_0 6 rfl rfl)
theorem dJ19_indexOfChar_7 : decode cJ19_indexOfChar 7 = .ok (.iload_n 1, 1) := dk_27 (dk_at dksJ19_indexOfChar_0 7 rfl rfl)
theorem dJ19_indexOfChar_8 : decode cJ19_indexOfChar 8 = .ok (.iload_n 2, 1) := dk_28 (dk_at dksJ19_indexOfChar_0 8 rfl rfl)
theorem dJ19_indexOfChar_9 : decode cJ19_indexOfChar 9 = .ok (.iload_n 3, 1) := dk_29 (dk_at dksJ19_indexOfChar_0 9 rfl rfl)
theorem dJ19_indexOfChar_10 : decode cJ19_indexOfChar 10 = .ok (.invokestatic 244, 3) := dk_184 0 244 (dk_at dksJ19_indexOfChar_0 10 rfl rfl)
theorem dJ19_indexOfChar_13 : decode cJ19_indexOfChar 13 = .ok (.ireturn, 1) := dk_172 (dk_at dksJ19_indexOfChar_0 13 rfl rfl)
abbrev cJ19_indexOfCharUnsafe : ByteArray := prog_40_method_48_code
def yJ19_indexOfCharUnsafe : MethodName := ⟨RJ19, "indexOfCharUnsafe", "([BIII)I"⟩
def dkwJ19_indexOfCharUnsafe_1 : List UInt8 := [132, 4, 1, 167, 255, 234, 2, 172]
abbrev dktJ19_indexOfCharUnsafe_1 : List UInt8 := dkwJ19_indexOfCharUnsafe_1 ++ []
def dkwJ19_indexOfCharUnsafe_0 : List UInt8 := [28, 54, 4, 21, 4, 29, 162, 0, 22, 42, 21, 4, 184, 0, 71, 27, 160, 0, 6, 21, 4, 172]
abbrev dktJ19_indexOfCharUnsafe_0 : List UInt8 := dkwJ19_indexOfCharUnsafe_0 ++ dktJ19_indexOfCharUnsafe_1
theorem dksJ19_indexOfCharUnsafe_0 : cJ19_indexOfCharUnsafe.data.toList.drop 0 = dktJ19_indexOfCharUnsafe_0 := by decide +kernel
theorem dksJ19_indexOfCharUnsafe_1 : cJ19_indexOfCharUnsafe.data.toList.drop 22 = dktJ19_indexOfCharUnsafe_1 := dk_seg dksJ19_indexOfCharUnsafe_0 22 rfl rfl
theorem dJ19_indexOfCharUnsafe_0 : decode cJ19_indexOfCharUnsafe 0 = .ok (.iload_n 2, 1) := dk_28 (dk_at dksJ19_indexOfCharUnsafe_0 0 rfl rfl)
theorem dJ19_indexOfCharUnsafe_1 : decode cJ19_indexOfCharUnsafe 1 = .ok (.istore 4, 2) := dk_54 4 (dk_at dksJ19_indexOfCharUnsafe_0 1 rfl rfl)
theorem dJ19_indexOfCharUnsafe_3 : decode cJ19_indexOfCharUnsafe 3 = .ok (.iload 4, 2) := dk_21 4 (dk_at dksJ19_indexOfCharUnsafe_0 3 rfl rfl)
theorem dJ19_indexOfCharUnsafe_5 : decode cJ19_indexOfCharUnsafe 5 = .ok (.iload_n 3, 1) := dk_29 (dk_at dksJ19_indexOfCharUnsafe_0 5 rfl rfl)
theorem dJ19_indexOfCharUnsafe_6 : decode cJ19_indexOfCharUnsafe 6 = .ok (.if_icmp .ge 22, 3) := dk_162 0 22 (dk_at dksJ19_indexOfCharUnsafe_0 6 rfl rfl)
theorem dJ19_indexOfCharUnsafe_9 : decode cJ19_indexOfCharUnsafe 9 = .ok (.aload_n 0, 1) := dk_42 (dk_at dksJ19_indexOfCharUnsafe_0 9 rfl rfl)
theorem dJ19_indexOfCharUnsafe_10 : decode cJ19_indexOfCharUnsafe 10 = .ok (.iload 4, 2) := dk_21 4 (dk_at dksJ19_indexOfCharUnsafe_0 10 rfl rfl)
theorem dJ19_indexOfCharUnsafe_12 : decode cJ19_indexOfCharUnsafe 12 = .ok (.invokestatic 71, 3) := dk_184 0 71 (dk_at dksJ19_indexOfCharUnsafe_0 12 rfl rfl)
theorem dJ19_indexOfCharUnsafe_15 : decode cJ19_indexOfCharUnsafe 15 = .ok (.iload_n 1, 1) := dk_27 (dk_at dksJ19_indexOfCharUnsafe_0 15 rfl rfl)
theorem dJ19_indexOfCharUnsafe_16 : decode cJ19_indexOfCharUnsafe 16 = .ok (.if_icmp .ne 6, 3) := dk_160 0 6 (dk_at dksJ19_indexOfCharUnsafe_0 16 rfl rfl)
theorem dJ19_indexOfCharUnsafe_19 : decode cJ19_indexOfCharUnsafe 19 = .ok (.iload 4, 2) := dk_21 4 (dk_at dksJ19_indexOfCharUnsafe_0 19 rfl rfl)
theorem dJ19_indexOfCharUnsafe_21 : decode cJ19_indexOfCharUnsafe 21 = .ok (.ireturn, 1) := dk_172 (dk_at dksJ19_indexOfCharUnsafe_0 21 rfl rfl)
theorem dJ19_indexOfCharUnsafe_22 : decode cJ19_indexOfCharUnsafe 22 = .ok (.iinc 4 1, 3) := dk_132 4 1 (dk_at dksJ19_indexOfCharUnsafe_1 0 rfl rfl)
theorem dJ19_indexOfCharUnsafe_25 : decode cJ19_indexOfCharUnsafe 25 = .ok (.goto (-22), 3) := dk_167 255 234 (dk_at dksJ19_indexOfCharUnsafe_1 3 rfl rfl)
theorem dJ19_indexOfCharUnsafe_28 : decode cJ19_indexOfCharUnsafe 28 = .ok (.iconst (-1), 1) := dk_2 (dk_at dksJ19_indexOfCharUnsafe_1 6 rfl rfl)
theorem dJ19_indexOfCharUnsafe_29 : decode cJ19_indexOfCharUnsafe 29 = .ok (.ireturn, 1) := dk_172 (dk_at dksJ19_indexOfCharUnsafe_1 7 rfl rfl)
abbrev cJ19_indexOfSupplementary : ByteArray := prog_40_method_49_code
def yJ19_indexOfSupplementary : MethodName := ⟨RJ19, "indexOfSupplementary", "([BIII)I"⟩
def dkwJ19_indexOfSupplementary_3 : List UInt8 := [167, 255, 218, 2, 172]
abbrev dktJ19_indexOfSupplementary_3 : List UInt8 := dkwJ19_indexOfSupplementary_3 ++ []
def dkwJ19_indexOfSupplementary_2 : List UInt8 := [160, 0, 19, 42, 21, 6, 4, 96, 184, 0, 71, 21, 5, 160, 0, 6, 21, 6, 172, 132, 6, 1]
abbrev dktJ19_indexOfSupplementary_2 : List UInt8 := dkwJ19_indexOfSupplementary_2 ++ dktJ19_indexOfSupplementary_3
def dkwJ19_indexOfSupplementary_1 : List UInt8 := [184, 0, 96, 28, 54, 6, 21, 6, 29, 4, 100, 162, 0, 36, 42, 21, 6, 184, 0, 71, 21, 4]
abbrev dktJ19_indexOfSupplementary_1 : List UInt8 := dkwJ19_indexOfSupplementary_1 ++ dktJ19_indexOfSupplementary_2
def dkwJ19_indexOfSupplementary_0 : List UInt8 := [27, 184, 0, 164, 153, 0, 65, 27, 184, 0, 157, 54, 4, 27, 184, 0, 161, 54, 5, 28, 29, 42]
abbrev dktJ19_indexOfSupplementary_0 : List UInt8 := dkwJ19_indexOfSupplementary_0 ++ dktJ19_indexOfSupplementary_1
theorem dksJ19_indexOfSupplementary_0 : cJ19_indexOfSupplementary.data.toList.drop 0 = dktJ19_indexOfSupplementary_0 := by decide +kernel
theorem dksJ19_indexOfSupplementary_1 : cJ19_indexOfSupplementary.data.toList.drop 22 = dktJ19_indexOfSupplementary_1 := dk_seg dksJ19_indexOfSupplementary_0 22 rfl rfl
theorem dksJ19_indexOfSupplementary_2 : cJ19_indexOfSupplementary.data.toList.drop 44 = dktJ19_indexOfSupplementary_2 := dk_seg dksJ19_indexOfSupplementary_1 22 rfl rfl
theorem dksJ19_indexOfSupplementary_3 : cJ19_indexOfSupplementary.data.toList.drop 66 = dktJ19_indexOfSupplementary_3 := dk_seg dksJ19_indexOfSupplementary_2 22 rfl rfl
theorem dJ19_indexOfSupplementary_0 : decode cJ19_indexOfSupplementary 0 = .ok (.iload_n 1, 1) := dk_27 (dk_at dksJ19_indexOfSupplementary_0 0 rfl rfl)
theorem dJ19_indexOfSupplementary_1 : decode cJ19_indexOfSupplementary 1 = .ok (.invokestatic 164, 3) := dk_184 0 164 (dk_at dksJ19_indexOfSupplementary_0 1 rfl rfl)
theorem dJ19_indexOfSupplementary_4 : decode cJ19_indexOfSupplementary 4 = .ok (.ifCond .eq 65, 3) := dk_153 0 65 (dk_at dksJ19_indexOfSupplementary_0 4 rfl rfl)
theorem dJ19_indexOfSupplementary_7 : decode cJ19_indexOfSupplementary 7 = .ok (.iload_n 1, 1) := dk_27 (dk_at dksJ19_indexOfSupplementary_0 7 rfl rfl)
theorem dJ19_indexOfSupplementary_8 : decode cJ19_indexOfSupplementary 8 = .ok (.invokestatic 157, 3) := dk_184 0 157 (dk_at dksJ19_indexOfSupplementary_0 8 rfl rfl)
theorem dJ19_indexOfSupplementary_11 : decode cJ19_indexOfSupplementary 11 = .ok (.istore 4, 2) := dk_54 4 (dk_at dksJ19_indexOfSupplementary_0 11 rfl rfl)
theorem dJ19_indexOfSupplementary_13 : decode cJ19_indexOfSupplementary 13 = .ok (.iload_n 1, 1) := dk_27 (dk_at dksJ19_indexOfSupplementary_0 13 rfl rfl)
theorem dJ19_indexOfSupplementary_14 : decode cJ19_indexOfSupplementary 14 = .ok (.invokestatic 161, 3) := dk_184 0 161 (dk_at dksJ19_indexOfSupplementary_0 14 rfl rfl)
theorem dJ19_indexOfSupplementary_17 : decode cJ19_indexOfSupplementary 17 = .ok (.istore 5, 2) := dk_54 5 (dk_at dksJ19_indexOfSupplementary_0 17 rfl rfl)
theorem dJ19_indexOfSupplementary_19 : decode cJ19_indexOfSupplementary 19 = .ok (.iload_n 2, 1) := dk_28 (dk_at dksJ19_indexOfSupplementary_0 19 rfl rfl)
theorem dJ19_indexOfSupplementary_20 : decode cJ19_indexOfSupplementary 20 = .ok (.iload_n 3, 1) := dk_29 (dk_at dksJ19_indexOfSupplementary_0 20 rfl rfl)
theorem dJ19_indexOfSupplementary_21 : decode cJ19_indexOfSupplementary 21 = .ok (.aload_n 0, 1) := dk_42 (dk_at dksJ19_indexOfSupplementary_0 21 rfl rfl)
theorem dJ19_indexOfSupplementary_22 : decode cJ19_indexOfSupplementary 22 = .ok (.invokestatic 96, 3) := dk_184 0 96 (dk_at dksJ19_indexOfSupplementary_1 0 rfl rfl)
theorem dJ19_indexOfSupplementary_25 : decode cJ19_indexOfSupplementary 25 = .ok (.iload_n 2, 1) := dk_28 (dk_at dksJ19_indexOfSupplementary_1 3 rfl rfl)
theorem dJ19_indexOfSupplementary_26 : decode cJ19_indexOfSupplementary 26 = .ok (.istore 6, 2) := dk_54 6 (dk_at dksJ19_indexOfSupplementary_1 4 rfl rfl)
theorem dJ19_indexOfSupplementary_28 : decode cJ19_indexOfSupplementary 28 = .ok (.iload 6, 2) := dk_21 6 (dk_at dksJ19_indexOfSupplementary_1 6 rfl rfl)
theorem dJ19_indexOfSupplementary_30 : decode cJ19_indexOfSupplementary 30 = .ok (.iload_n 3, 1) := dk_29 (dk_at dksJ19_indexOfSupplementary_1 8 rfl rfl)
theorem dJ19_indexOfSupplementary_31 : decode cJ19_indexOfSupplementary 31 = .ok (.iconst 1, 1) := dk_4 (dk_at dksJ19_indexOfSupplementary_1 9 rfl rfl)
theorem dJ19_indexOfSupplementary_32 : decode cJ19_indexOfSupplementary 32 = .ok (.isub, 1) := dk_100 (dk_at dksJ19_indexOfSupplementary_1 10 rfl rfl)
theorem dJ19_indexOfSupplementary_33 : decode cJ19_indexOfSupplementary 33 = .ok (.if_icmp .ge 36, 3) := dk_162 0 36 (dk_at dksJ19_indexOfSupplementary_1 11 rfl rfl)
theorem dJ19_indexOfSupplementary_36 : decode cJ19_indexOfSupplementary 36 = .ok (.aload_n 0, 1) := dk_42 (dk_at dksJ19_indexOfSupplementary_1 14 rfl rfl)
theorem dJ19_indexOfSupplementary_37 : decode cJ19_indexOfSupplementary 37 = .ok (.iload 6, 2) := dk_21 6 (dk_at dksJ19_indexOfSupplementary_1 15 rfl rfl)
theorem dJ19_indexOfSupplementary_39 : decode cJ19_indexOfSupplementary 39 = .ok (.invokestatic 71, 3) := dk_184 0 71 (dk_at dksJ19_indexOfSupplementary_1 17 rfl rfl)
theorem dJ19_indexOfSupplementary_42 : decode cJ19_indexOfSupplementary 42 = .ok (.iload 4, 2) := dk_21 4 (dk_at dksJ19_indexOfSupplementary_1 20 rfl rfl)
theorem dJ19_indexOfSupplementary_44 : decode cJ19_indexOfSupplementary 44 = .ok (.if_icmp .ne 19, 3) := dk_160 0 19 (dk_at dksJ19_indexOfSupplementary_2 0 rfl rfl)
theorem dJ19_indexOfSupplementary_47 : decode cJ19_indexOfSupplementary 47 = .ok (.aload_n 0, 1) := dk_42 (dk_at dksJ19_indexOfSupplementary_2 3 rfl rfl)
theorem dJ19_indexOfSupplementary_48 : decode cJ19_indexOfSupplementary 48 = .ok (.iload 6, 2) := dk_21 6 (dk_at dksJ19_indexOfSupplementary_2 4 rfl rfl)
theorem dJ19_indexOfSupplementary_50 : decode cJ19_indexOfSupplementary 50 = .ok (.iconst 1, 1) := dk_4 (dk_at dksJ19_indexOfSupplementary_2 6 rfl rfl)
theorem dJ19_indexOfSupplementary_51 : decode cJ19_indexOfSupplementary 51 = .ok (.iadd, 1) := dk_96 (dk_at dksJ19_indexOfSupplementary_2 7 rfl rfl)
theorem dJ19_indexOfSupplementary_52 : decode cJ19_indexOfSupplementary 52 = .ok (.invokestatic 71, 3) := dk_184 0 71 (dk_at dksJ19_indexOfSupplementary_2 8 rfl rfl)
theorem dJ19_indexOfSupplementary_55 : decode cJ19_indexOfSupplementary 55 = .ok (.iload 5, 2) := dk_21 5 (dk_at dksJ19_indexOfSupplementary_2 11 rfl rfl)
theorem dJ19_indexOfSupplementary_57 : decode cJ19_indexOfSupplementary 57 = .ok (.if_icmp .ne 6, 3) := dk_160 0 6 (dk_at dksJ19_indexOfSupplementary_2 13 rfl rfl)
theorem dJ19_indexOfSupplementary_60 : decode cJ19_indexOfSupplementary 60 = .ok (.iload 6, 2) := dk_21 6 (dk_at dksJ19_indexOfSupplementary_2 16 rfl rfl)
theorem dJ19_indexOfSupplementary_62 : decode cJ19_indexOfSupplementary 62 = .ok (.ireturn, 1) := dk_172 (dk_at dksJ19_indexOfSupplementary_2 18 rfl rfl)
theorem dJ19_indexOfSupplementary_63 : decode cJ19_indexOfSupplementary 63 = .ok (.iinc 6 1, 3) := dk_132 6 1 (dk_at dksJ19_indexOfSupplementary_2 19 rfl rfl)
theorem dJ19_indexOfSupplementary_66 : decode cJ19_indexOfSupplementary 66 = .ok (.goto (-38), 3) := dk_167 255 218 (dk_at dksJ19_indexOfSupplementary_3 0 rfl rfl)
theorem dJ19_indexOfSupplementary_69 : decode cJ19_indexOfSupplementary 69 = .ok (.iconst (-1), 1) := dk_2 (dk_at dksJ19_indexOfSupplementary_3 3 rfl rfl)
theorem dJ19_indexOfSupplementary_70 : decode cJ19_indexOfSupplementary 70 = .ok (.ireturn, 1) := dk_172 (dk_at dksJ19_indexOfSupplementary_3 4 rfl rfl)
abbrev cJ19_putCharsAt : ByteArray := prog_40_method_81_code
def yJ19_putCharsAt : MethodName := ⟨RJ19, "putCharsAt", "([BICCCC)I"⟩
def dkwJ19_putCharsAt_3 : List UInt8 := [21, 6, 172]
abbrev dktJ19_putCharsAt_3 : List UInt8 := dkwJ19_putCharsAt_3 ++ []
def dkwJ19_putCharsAt_2 : List UInt8 := [184, 0, 111, 178, 0, 44, 154, 0, 17, 27, 21, 6, 159, 0, 11, 187, 0, 52, 89, 183, 0, 66, 191]
abbrev dktJ19_putCharsAt_2 : List UInt8 := dkwJ19_putCharsAt_2 ++ dktJ19_putCharsAt_3
def dkwJ19_putCharsAt_1 : List UInt8 := [132, 1, 1, 29, 184, 0, 111, 42, 27, 132, 1, 1, 21, 4, 184, 0, 111, 42, 27, 132, 1, 1, 21, 5]
abbrev dktJ19_putCharsAt_1 : List UInt8 := dkwJ19_putCharsAt_1 ++ dktJ19_putCharsAt_2
def dkwJ19_putCharsAt_0 : List UInt8 := [27, 7, 96, 54, 6, 27, 21, 6, 42, 184, 0, 96, 42, 27, 132, 1, 1, 28, 184, 0, 111, 42, 27]
abbrev dktJ19_putCharsAt_0 : List UInt8 := dkwJ19_putCharsAt_0 ++ dktJ19_putCharsAt_1
theorem dksJ19_putCharsAt_0 : cJ19_putCharsAt.data.toList.drop 0 = dktJ19_putCharsAt_0 := by decide +kernel
theorem dksJ19_putCharsAt_1 : cJ19_putCharsAt.data.toList.drop 23 = dktJ19_putCharsAt_1 := dk_seg dksJ19_putCharsAt_0 23 rfl rfl
theorem dksJ19_putCharsAt_2 : cJ19_putCharsAt.data.toList.drop 47 = dktJ19_putCharsAt_2 := dk_seg dksJ19_putCharsAt_1 24 rfl rfl
theorem dksJ19_putCharsAt_3 : cJ19_putCharsAt.data.toList.drop 70 = dktJ19_putCharsAt_3 := dk_seg dksJ19_putCharsAt_2 23 rfl rfl
theorem dJ19_putCharsAt_0 : decode cJ19_putCharsAt 0 = .ok (.iload_n 1, 1) := dk_27 (dk_at dksJ19_putCharsAt_0 0 rfl rfl)
theorem dJ19_putCharsAt_1 : decode cJ19_putCharsAt 1 = .ok (.iconst 4, 1) := dk_7 (dk_at dksJ19_putCharsAt_0 1 rfl rfl)
theorem dJ19_putCharsAt_2 : decode cJ19_putCharsAt 2 = .ok (.iadd, 1) := dk_96 (dk_at dksJ19_putCharsAt_0 2 rfl rfl)
theorem dJ19_putCharsAt_3 : decode cJ19_putCharsAt 3 = .ok (.istore 6, 2) := dk_54 6 (dk_at dksJ19_putCharsAt_0 3 rfl rfl)
theorem dJ19_putCharsAt_5 : decode cJ19_putCharsAt 5 = .ok (.iload_n 1, 1) := dk_27 (dk_at dksJ19_putCharsAt_0 5 rfl rfl)
theorem dJ19_putCharsAt_6 : decode cJ19_putCharsAt 6 = .ok (.iload 6, 2) := dk_21 6 (dk_at dksJ19_putCharsAt_0 6 rfl rfl)
theorem dJ19_putCharsAt_8 : decode cJ19_putCharsAt 8 = .ok (.aload_n 0, 1) := dk_42 (dk_at dksJ19_putCharsAt_0 8 rfl rfl)
theorem dJ19_putCharsAt_9 : decode cJ19_putCharsAt 9 = .ok (.invokestatic 96, 3) := dk_184 0 96 (dk_at dksJ19_putCharsAt_0 9 rfl rfl)
theorem dJ19_putCharsAt_12 : decode cJ19_putCharsAt 12 = .ok (.aload_n 0, 1) := dk_42 (dk_at dksJ19_putCharsAt_0 12 rfl rfl)
theorem dJ19_putCharsAt_13 : decode cJ19_putCharsAt 13 = .ok (.iload_n 1, 1) := dk_27 (dk_at dksJ19_putCharsAt_0 13 rfl rfl)
theorem dJ19_putCharsAt_14 : decode cJ19_putCharsAt 14 = .ok (.iinc 1 1, 3) := dk_132 1 1 (dk_at dksJ19_putCharsAt_0 14 rfl rfl)
theorem dJ19_putCharsAt_17 : decode cJ19_putCharsAt 17 = .ok (.iload_n 2, 1) := dk_28 (dk_at dksJ19_putCharsAt_0 17 rfl rfl)
theorem dJ19_putCharsAt_18 : decode cJ19_putCharsAt 18 = .ok (.invokestatic 111, 3) := dk_184 0 111 (dk_at dksJ19_putCharsAt_0 18 rfl rfl)
theorem dJ19_putCharsAt_21 : decode cJ19_putCharsAt 21 = .ok (.aload_n 0, 1) := dk_42 (dk_at dksJ19_putCharsAt_0 21 rfl rfl)
theorem dJ19_putCharsAt_22 : decode cJ19_putCharsAt 22 = .ok (.iload_n 1, 1) := dk_27 (dk_at dksJ19_putCharsAt_0 22 rfl rfl)
theorem dJ19_putCharsAt_23 : decode cJ19_putCharsAt 23 = .ok (.iinc 1 1, 3) := dk_132 1 1 (dk_at dksJ19_putCharsAt_1 0 rfl rfl)
theorem dJ19_putCharsAt_26 : decode cJ19_putCharsAt 26 = .ok (.iload_n 3, 1) := dk_29 (dk_at dksJ19_putCharsAt_1 3 rfl rfl)
theorem dJ19_putCharsAt_27 : decode cJ19_putCharsAt 27 = .ok (.invokestatic 111, 3) := dk_184 0 111 (dk_at dksJ19_putCharsAt_1 4 rfl rfl)
theorem dJ19_putCharsAt_30 : decode cJ19_putCharsAt 30 = .ok (.aload_n 0, 1) := dk_42 (dk_at dksJ19_putCharsAt_1 7 rfl rfl)
theorem dJ19_putCharsAt_31 : decode cJ19_putCharsAt 31 = .ok (.iload_n 1, 1) := dk_27 (dk_at dksJ19_putCharsAt_1 8 rfl rfl)
theorem dJ19_putCharsAt_32 : decode cJ19_putCharsAt 32 = .ok (.iinc 1 1, 3) := dk_132 1 1 (dk_at dksJ19_putCharsAt_1 9 rfl rfl)
theorem dJ19_putCharsAt_35 : decode cJ19_putCharsAt 35 = .ok (.iload 4, 2) := dk_21 4 (dk_at dksJ19_putCharsAt_1 12 rfl rfl)
theorem dJ19_putCharsAt_37 : decode cJ19_putCharsAt 37 = .ok (.invokestatic 111, 3) := dk_184 0 111 (dk_at dksJ19_putCharsAt_1 14 rfl rfl)
theorem dJ19_putCharsAt_40 : decode cJ19_putCharsAt 40 = .ok (.aload_n 0, 1) := dk_42 (dk_at dksJ19_putCharsAt_1 17 rfl rfl)
theorem dJ19_putCharsAt_41 : decode cJ19_putCharsAt 41 = .ok (.iload_n 1, 1) := dk_27 (dk_at dksJ19_putCharsAt_1 18 rfl rfl)
theorem dJ19_putCharsAt_42 : decode cJ19_putCharsAt 42 = .ok (.iinc 1 1, 3) := dk_132 1 1 (dk_at dksJ19_putCharsAt_1 19 rfl rfl)
theorem dJ19_putCharsAt_45 : decode cJ19_putCharsAt 45 = .ok (.iload 5, 2) := dk_21 5 (dk_at dksJ19_putCharsAt_1 22 rfl rfl)
theorem dJ19_putCharsAt_47 : decode cJ19_putCharsAt 47 = .ok (.invokestatic 111, 3) := dk_184 0 111 (dk_at dksJ19_putCharsAt_2 0 rfl rfl)
theorem dJ19_putCharsAt_50 : decode cJ19_putCharsAt 50 = .ok (.getstatic 44, 3) := dk_178 0 44 (dk_at dksJ19_putCharsAt_2 3 rfl rfl)
theorem dJ19_putCharsAt_53 : decode cJ19_putCharsAt 53 = .ok (.ifCond .ne 17, 3) := dk_154 0 17 (dk_at dksJ19_putCharsAt_2 6 rfl rfl)
theorem dJ19_putCharsAt_56 : decode cJ19_putCharsAt 56 = .ok (.iload_n 1, 1) := dk_27 (dk_at dksJ19_putCharsAt_2 9 rfl rfl)
theorem dJ19_putCharsAt_57 : decode cJ19_putCharsAt 57 = .ok (.iload 6, 2) := dk_21 6 (dk_at dksJ19_putCharsAt_2 10 rfl rfl)
theorem dJ19_putCharsAt_59 : decode cJ19_putCharsAt 59 = .ok (.if_icmp .eq 11, 3) := dk_159 0 11 (dk_at dksJ19_putCharsAt_2 12 rfl rfl)
theorem dJ19_putCharsAt_62 : decode cJ19_putCharsAt 62 = .ok (.new 52, 3) := dk_187 0 52 (dk_at dksJ19_putCharsAt_2 15 rfl rfl)
theorem dJ19_putCharsAt_65 : decode cJ19_putCharsAt 65 = .ok (.dup, 1) := dk_89 (dk_at dksJ19_putCharsAt_2 18 rfl rfl)
theorem dJ19_putCharsAt_66 : decode cJ19_putCharsAt 66 = .ok (.invokespecial 66, 3) := dk_183 0 66 (dk_at dksJ19_putCharsAt_2 19 rfl rfl)
theorem dJ19_putCharsAt_69 : decode cJ19_putCharsAt 69 = .ok (.athrow, 1) := dk_191 (dk_at dksJ19_putCharsAt_2 22 rfl rfl)
theorem dJ19_putCharsAt_70 : decode cJ19_putCharsAt 70 = .ok (.iload 6, 2) := dk_21 6 (dk_at dksJ19_putCharsAt_3 0 rfl rfl)
theorem dJ19_putCharsAt_72 : decode cJ19_putCharsAt 72 = .ok (.ireturn, 1) := dk_172 (dk_at dksJ19_putCharsAt_3 2 rfl rfl)
abbrev cJ19_charAt : ByteArray := prog_40_method_83_code
def yJ19_charAt : MethodName := ⟨RJ19, "charAt", "([BI)C"⟩
def dkwJ19_charAt_0 : List UInt8 := [27, 42, 184, 0, 67, 42, 27, 184, 0, 71, 172]
abbrev dktJ19_charAt_0 : List UInt8 := dkwJ19_charAt_0 ++ []
theorem dksJ19_charAt_0 : cJ19_charAt.data.toList.drop 0 = dktJ19_charAt_0 := by decide +kernel
theorem dJ19_charAt_0 : decode cJ19_charAt 0 = .ok (.iload_n 1, 1) := dk_27 (dk_at dksJ19_charAt_0 0 rfl rfl)
theorem dJ19_charAt_1 : decode cJ19_charAt 1 = .ok (.aload_n 0, 1) := dk_42 (dk_at dksJ19_charAt_0 1 rfl rfl)
theorem dJ19_charAt_2 : decode cJ19_charAt 2 = .ok (.invokestatic 67, 3) := dk_184 0 67 (dk_at dksJ19_charAt_0 2 rfl rfl)
theorem dJ19_charAt_5 : decode cJ19_charAt 5 = .ok (.aload_n 0, 1) := dk_42 (dk_at dksJ19_charAt_0 5 rfl rfl)
theorem dJ19_charAt_6 : decode cJ19_charAt 6 = .ok (.iload_n 1, 1) := dk_27 (dk_at dksJ19_charAt_0 6 rfl rfl)
theorem dJ19_charAt_7 : decode cJ19_charAt 7 = .ok (.invokestatic 71, 3) := dk_184 0 71 (dk_at dksJ19_charAt_0 7 rfl rfl)
theorem dJ19_charAt_10 : decode cJ19_charAt 10 = .ok (.ireturn, 1) := dk_172 (dk_at dksJ19_charAt_0 10 rfl rfl)
theorem q160 : (Jvm.Cond.initialized "java/lang/StringUTF16") ∈ lw_all := lw_g (lw_at lw_m1 32 rfl) rfl
theorem q996 : (Jvm.Cond.static ({ cls := "java/lang/StringUTF16", name := "newBytesFor", desc := "(I)[B" } : Jvm.MethodName)) ∈ lw_all := lw_g (lw_at lw_m4 148 rfl) rfl
theorem q997 : (Jvm.Cond.code ({ cls := "java/lang/StringUTF16", name := "newBytesFor", desc := "(I)[B" } : Jvm.MethodName) prog_40_method_2_code (1 : Nat) (Option.some (Jvm.ClassFile.FieldType.array Jvm.ClassFile.FieldType.byte))) ∈ lw_all := lw_g (lw_at lw_m4 149 rfl) rfl
theorem q998 : (Jvm.Cond.methodLink "java/lang/StringUTF16" (11 : Nat) ({ cls := "java/lang/StringUTF16", name := "newBytesLength", desc := "(I)I" } : Jvm.MethodName)) ∈ lw_all := lw_g (lw_at lw_m4 150 rfl) rfl
theorem q999 : (Jvm.Cond.static ({ cls := "java/lang/StringUTF16", name := "newBytesLength", desc := "(I)I" } : Jvm.MethodName)) ∈ lw_all := lw_g (lw_at lw_m4 151 rfl) rfl
theorem q1000 : (Jvm.Cond.code ({ cls := "java/lang/StringUTF16", name := "newBytesLength", desc := "(I)I" } : Jvm.MethodName) prog_40_method_3_code (1 : Nat) (Option.some Jvm.ClassFile.FieldType.int)) ∈ lw_all := lw_g (lw_at lw_m4 152 rfl) rfl
theorem q1001 : (Jvm.Cond.constant "java/lang/StringUTF16" (20 : Nat) (1073741823 : Int32)) ∈ lw_all := lw_g (lw_at lw_m4 153 rfl) rfl
theorem q1056 : (Jvm.Cond.static ({ cls := "java/lang/StringUTF16", name := "inflate", desc := "([BI[BII)V" } : Jvm.MethodName)) ∈ lw_all := lw_g (lw_at lw_m4 208 rfl) rfl
theorem q1057 : (Jvm.Cond.code ({ cls := "java/lang/StringUTF16", name := "inflate", desc := "([BI[BII)V" } : Jvm.MethodName) prog_40_method_86_code (6 : Nat) (Option.none : Option Jvm.ClassFile.FieldType)) ∈ lw_all := lw_g (lw_at lw_m4 209 rfl) rfl
theorem q1058 : (Jvm.Cond.methodLink "java/lang/StringUTF16" (173 : Nat) ({ cls := "java/lang/StringUTF16", name := "checkBoundsOffCount", desc := "(II[B)V" } : Jvm.MethodName)) ∈ lw_all := lw_g (lw_at lw_m4 210 rfl) rfl
theorem q1059 : (Jvm.Cond.static ({ cls := "java/lang/StringUTF16", name := "checkBoundsOffCount", desc := "(II[B)V" } : Jvm.MethodName)) ∈ lw_all := lw_g (lw_at lw_m4 211 rfl) rfl
theorem q1060 : (Jvm.Cond.code ({ cls := "java/lang/StringUTF16", name := "checkBoundsOffCount", desc := "(II[B)V" } : Jvm.MethodName) prog_40_method_94_code (3 : Nat) (Option.none : Option Jvm.ClassFile.FieldType)) ∈ lw_all := lw_g (lw_at lw_m4 212 rfl) rfl
theorem q1061 : (Jvm.Cond.methodLink "java/lang/StringUTF16" (48 : Nat) ({ cls := "java/lang/StringUTF16", name := "length", desc := "([B)I" } : Jvm.MethodName)) ∈ lw_all := lw_g (lw_at lw_m4 213 rfl) rfl
theorem q1062 : (Jvm.Cond.static ({ cls := "java/lang/StringUTF16", name := "length", desc := "([B)I" } : Jvm.MethodName)) ∈ lw_all := lw_g (lw_at lw_m4 214 rfl) rfl
theorem q1063 : (Jvm.Cond.code ({ cls := "java/lang/StringUTF16", name := "length", desc := "([B)I" } : Jvm.MethodName) prog_40_method_6_code (1 : Nat) (Option.some Jvm.ClassFile.FieldType.int)) ∈ lw_all := lw_g (lw_at lw_m4 215 rfl) rfl
theorem q1064 : (Jvm.Cond.methodLink "java/lang/StringUTF16" (419 : Nat) ({ cls := "java/lang/String", name := "checkBoundsOffCount", desc := "(III)I" } : Jvm.MethodName)) ∈ lw_all := lw_g (lw_at lw_m4 216 rfl) rfl
theorem q1072 : (Jvm.Cond.methodLink "java/lang/StringUTF16" (111 : Nat) ({ cls := "java/lang/StringUTF16", name := "putChar", desc := "([BII)V" } : Jvm.MethodName)) ∈ lw_all := lw_g (lw_at lw_m4 224 rfl) rfl
theorem q1073 : (Jvm.Cond.static ({ cls := "java/lang/StringUTF16", name := "putChar", desc := "([BII)V" } : Jvm.MethodName)) ∈ lw_all := lw_g (lw_at lw_m4 225 rfl) rfl
theorem q1074 : (Jvm.Cond.code ({ cls := "java/lang/StringUTF16", name := "putChar", desc := "([BII)V" } : Jvm.MethodName) prog_40_method_4_code (3 : Nat) (Option.none : Option Jvm.ClassFile.FieldType)) ∈ lw_all := lw_g (lw_at lw_m4 226 rfl) rfl
theorem q1075 : (Jvm.Cond.fieldLink "java/lang/StringUTF16" (44 : Nat) "java/lang/StringUTF16" "$assertionsDisabled" "Z") ∈ lw_all := lw_g (lw_at lw_m4 227 rfl) rfl
theorem q1076 : (Jvm.Cond.laysStatic "java/lang/StringUTF16" "$assertionsDisabled" "Z") ∈ lw_tbl := lw_at lw_m4 228 rfl
theorem q1077 : (Jvm.Cond.fieldLink "java/lang/StringUTF16" (59 : Nat) "java/lang/StringUTF16" "HI_BYTE_SHIFT" "I") ∈ lw_all := lw_g (lw_at lw_m4 229 rfl) rfl
theorem q1078 : (Jvm.Cond.laysStatic "java/lang/StringUTF16" "HI_BYTE_SHIFT" "I") ∈ lw_tbl := lw_at lw_m4 230 rfl
theorem q1079 : (Jvm.Cond.fieldLink "java/lang/StringUTF16" (63 : Nat) "java/lang/StringUTF16" "LO_BYTE_SHIFT" "I") ∈ lw_all := lw_g (lw_at lw_m4 231 rfl) rfl
theorem q1080 : (Jvm.Cond.laysStatic "java/lang/StringUTF16" "LO_BYTE_SHIFT" "I") ∈ lw_tbl := lw_at lw_m4 232 rfl
theorem q1082 : (Jvm.Cond.static ({ cls := "java/lang/StringUTF16", name := "putCharSB", desc := "([BII)V" } : Jvm.MethodName)) ∈ lw_all := lw_g (lw_at lw_m4 234 rfl) rfl
theorem q1083 : (Jvm.Cond.code ({ cls := "java/lang/StringUTF16", name := "putCharSB", desc := "([BII)V" } : Jvm.MethodName) prog_40_method_71_code (3 : Nat) (Option.none : Option Jvm.ClassFile.FieldType)) ∈ lw_all := lw_g (lw_at lw_m4 235 rfl) rfl
theorem q1084 : (Jvm.Cond.methodLink "java/lang/StringUTF16" (67 : Nat) ({ cls := "java/lang/StringUTF16", name := "checkIndex", desc := "(I[B)V" } : Jvm.MethodName)) ∈ lw_all := lw_g (lw_at lw_m4 236 rfl) rfl
theorem q1085 : (Jvm.Cond.static ({ cls := "java/lang/StringUTF16", name := "checkIndex", desc := "(I[B)V" } : Jvm.MethodName)) ∈ lw_all := lw_g (lw_at lw_m4 237 rfl) rfl
theorem q1086 : (Jvm.Cond.code ({ cls := "java/lang/StringUTF16", name := "checkIndex", desc := "(I[B)V" } : Jvm.MethodName) prog_40_method_91_code (2 : Nat) (Option.none : Option Jvm.ClassFile.FieldType)) ∈ lw_all := lw_g (lw_at lw_m4 238 rfl) rfl
theorem q1087 : (Jvm.Cond.methodLink "java/lang/StringUTF16" (414 : Nat) ({ cls := "java/lang/String", name := "checkIndex", desc := "(II)V" } : Jvm.MethodName)) ∈ lw_all := lw_g (lw_at lw_m4 239 rfl) rfl
theorem q1129 : (Jvm.Cond.static ({ cls := "java/lang/StringUTF16", name := "compress", desc := "([BII)[B" } : Jvm.MethodName)) ∈ lw_all := lw_g (lw_at lw_m5 41 rfl) rfl
theorem q1130 : (Jvm.Cond.code ({ cls := "java/lang/StringUTF16", name := "compress", desc := "([BII)[B" } : Jvm.MethodName) prog_40_method_17_code (6 : Nat) (Option.some (Jvm.ClassFile.FieldType.array Jvm.ClassFile.FieldType.byte))) ∈ lw_all := lw_g (lw_at lw_m5 42 rfl) rfl
theorem q1131 : (Jvm.Cond.methodLink "java/lang/StringUTF16" (123 : Nat) ({ cls := "java/lang/StringUTF16", name := "compress", desc := "([BI[BII)I" } : Jvm.MethodName)) ∈ lw_all := lw_g (lw_at lw_m5 43 rfl) rfl
theorem q1132 : (Jvm.Cond.static ({ cls := "java/lang/StringUTF16", name := "compress", desc := "([BI[BII)I" } : Jvm.MethodName)) ∈ lw_all := lw_g (lw_at lw_m5 44 rfl) rfl
theorem q1133 : (Jvm.Cond.code ({ cls := "java/lang/StringUTF16", name := "compress", desc := "([BI[BII)I" } : Jvm.MethodName) prog_40_method_22_code (7 : Nat) (Option.some Jvm.ClassFile.FieldType.int)) ∈ lw_all := lw_g (lw_at lw_m5 45 rfl) rfl
theorem q1134 : (Jvm.Cond.methodLink "java/lang/StringUTF16" (71 : Nat) ({ cls := "java/lang/StringUTF16", name := "getChar", desc := "([BI)C" } : Jvm.MethodName)) ∈ lw_all := lw_g (lw_at lw_m5 46 rfl) rfl
theorem q1135 : (Jvm.Cond.static ({ cls := "java/lang/StringUTF16", name := "getChar", desc := "([BI)C" } : Jvm.MethodName)) ∈ lw_all := lw_g (lw_at lw_m5 47 rfl) rfl
theorem q1136 : (Jvm.Cond.code ({ cls := "java/lang/StringUTF16", name := "getChar", desc := "([BI)C" } : Jvm.MethodName) prog_40_method_5_code (2 : Nat) (Option.some Jvm.ClassFile.FieldType.char)) ∈ lw_all := lw_g (lw_at lw_m5 48 rfl) rfl
theorem q1137 : (Jvm.Cond.methodLink "java/lang/StringUTF16" (126 : Nat) ({ cls := "java/util/Arrays", name := "copyOfRange", desc := "([BII)[B" } : Jvm.MethodName)) ∈ lw_all := lw_g (lw_at lw_m5 49 rfl) rfl
theorem q1139 : (Jvm.Cond.static ({ cls := "java/lang/StringUTF16", name := "coderFromArrayLen", desc := "([BI)B" } : Jvm.MethodName)) ∈ lw_all := lw_g (lw_at lw_m5 51 rfl) rfl
theorem q1140 : (Jvm.Cond.code ({ cls := "java/lang/StringUTF16", name := "coderFromArrayLen", desc := "([BI)B" } : Jvm.MethodName) prog_40_method_15_code (2 : Nat) (Option.some Jvm.ClassFile.FieldType.byte)) ∈ lw_all := lw_g (lw_at lw_m5 52 rfl) rfl
theorem q1358 : (Jvm.Cond.static ({ cls := "java/lang/StringUTF16", name := "compareTo", desc := "([B[B)I" } : Jvm.MethodName)) ∈ lw_all := lw_g (lw_at lw_m6 30 rfl) rfl
theorem q1359 : (Jvm.Cond.code ({ cls := "java/lang/StringUTF16", name := "compareTo", desc := "([B[B)I" } : Jvm.MethodName) prog_40_method_29_code (4 : Nat) (Option.some Jvm.ClassFile.FieldType.int)) ∈ lw_all := lw_g (lw_at lw_m6 31 rfl) rfl
theorem q1360 : (Jvm.Cond.methodLink "java/lang/StringUTF16" (176 : Nat) ({ cls := "java/lang/StringUTF16", name := "compareValues", desc := "([B[BII)I" } : Jvm.MethodName)) ∈ lw_all := lw_g (lw_at lw_m6 32 rfl) rfl
theorem q1361 : (Jvm.Cond.static ({ cls := "java/lang/StringUTF16", name := "compareValues", desc := "([B[BII)I" } : Jvm.MethodName)) ∈ lw_all := lw_g (lw_at lw_m6 33 rfl) rfl
theorem q1362 : (Jvm.Cond.code ({ cls := "java/lang/StringUTF16", name := "compareValues", desc := "([B[BII)I" } : Jvm.MethodName) prog_40_method_31_code (8 : Nat) (Option.some Jvm.ClassFile.FieldType.int)) ∈ lw_all := lw_g (lw_at lw_m6 34 rfl) rfl
theorem q1363 : (Jvm.Cond.methodLink "java/lang/StringUTF16" (183 : Nat) ({ cls := "java/lang/Math", name := "min", desc := "(II)I" } : Jvm.MethodName)) ∈ lw_all := lw_g (lw_at lw_m6 35 rfl) rfl
theorem q1376 : (Jvm.Cond.static ({ cls := "java/lang/StringUTF16", name := "compareToLatin1", desc := "([B[B)I" } : Jvm.MethodName)) ∈ lw_all := lw_g (lw_at lw_m6 48 rfl) rfl
theorem q1377 : (Jvm.Cond.code ({ cls := "java/lang/StringUTF16", name := "compareToLatin1", desc := "([B[B)I" } : Jvm.MethodName) prog_40_method_32_code (2 : Nat) (Option.some Jvm.ClassFile.FieldType.int)) ∈ lw_all := lw_g (lw_at lw_m6 49 rfl) rfl
theorem q1378 : (Jvm.Cond.methodLink "java/lang/StringUTF16" (189 : Nat) ({ cls := "java/lang/StringLatin1", name := "compareToUTF16", desc := "([B[B)I" } : Jvm.MethodName)) ∈ lw_all := lw_g (lw_at lw_m6 50 rfl) rfl
theorem q1395 : (Jvm.Cond.static ({ cls := "java/lang/StringUTF16", name := "compareTo", desc := "([B[BII)I" } : Jvm.MethodName)) ∈ lw_all := lw_g (lw_at lw_m6 67 rfl) rfl
theorem q1396 : (Jvm.Cond.code ({ cls := "java/lang/StringUTF16", name := "compareTo", desc := "([B[BII)I" } : Jvm.MethodName) prog_40_method_30_code (4 : Nat) (Option.some Jvm.ClassFile.FieldType.int)) ∈ lw_all := lw_g (lw_at lw_m6 68 rfl) rfl
theorem q1397 : (Jvm.Cond.methodLink "java/lang/StringUTF16" (180 : Nat) ({ cls := "java/lang/StringUTF16", name := "checkOffset", desc := "(I[B)V" } : Jvm.MethodName)) ∈ lw_all := lw_g (lw_at lw_m6 69 rfl) rfl
theorem q1398 : (Jvm.Cond.static ({ cls := "java/lang/StringUTF16", name := "checkOffset", desc := "(I[B)V" } : Jvm.MethodName)) ∈ lw_all := lw_g (lw_at lw_m6 70 rfl) rfl
theorem q1399 : (Jvm.Cond.code ({ cls := "java/lang/StringUTF16", name := "checkOffset", desc := "(I[B)V" } : Jvm.MethodName) prog_40_method_92_code (2 : Nat) (Option.none : Option Jvm.ClassFile.FieldType)) ∈ lw_all := lw_g (lw_at lw_m6 71 rfl) rfl
theorem q1400 : (Jvm.Cond.methodLink "java/lang/StringUTF16" (417 : Nat) ({ cls := "java/lang/String", name := "checkOffset", desc := "(II)V" } : Jvm.MethodName)) ∈ lw_all := lw_g (lw_at lw_m6 72 rfl) rfl
theorem q1411 : (Jvm.Cond.static ({ cls := "java/lang/StringUTF16", name := "compareToLatin1", desc := "([B[BII)I" } : Jvm.MethodName)) ∈ lw_all := lw_g (lw_at lw_m6 83 rfl) rfl
theorem q1412 : (Jvm.Cond.code ({ cls := "java/lang/StringUTF16", name := "compareToLatin1", desc := "([B[BII)I" } : Jvm.MethodName) prog_40_method_33_code (4 : Nat) (Option.some Jvm.ClassFile.FieldType.int)) ∈ lw_all := lw_g (lw_at lw_m6 84 rfl) rfl
theorem q1413 : (Jvm.Cond.methodLink "java/lang/StringUTF16" (193 : Nat) ({ cls := "java/lang/StringLatin1", name := "compareToUTF16", desc := "([B[BII)I" } : Jvm.MethodName)) ∈ lw_all := lw_g (lw_at lw_m6 85 rfl) rfl
theorem q1918 : (Jvm.Cond.static ({ cls := "java/lang/StringUTF16", name := "getChars", desc := "(III[B)I" } : Jvm.MethodName)) ∈ lw_all := lw_g (lw_at lw_m8 110 rfl) rfl
theorem q1919 : (Jvm.Cond.code ({ cls := "java/lang/StringUTF16", name := "getChars", desc := "(III[B)I" } : Jvm.MethodName) prog_40_method_77_code (5 : Nat) (Option.some Jvm.ClassFile.FieldType.int)) ∈ lw_all := lw_g (lw_at lw_m8 111 rfl) rfl
theorem q1920 : (Jvm.Cond.methodLink "java/lang/StringUTF16" (96 : Nat) ({ cls := "java/lang/StringUTF16", name := "checkBoundsBeginEnd", desc := "(II[B)V" } : Jvm.MethodName)) ∈ lw_all := lw_g (lw_at lw_m8 112 rfl) rfl
theorem q1921 : (Jvm.Cond.static ({ cls := "java/lang/StringUTF16", name := "checkBoundsBeginEnd", desc := "(II[B)V" } : Jvm.MethodName)) ∈ lw_all := lw_g (lw_at lw_m8 113 rfl) rfl
theorem q1922 : (Jvm.Cond.code ({ cls := "java/lang/StringUTF16", name := "checkBoundsBeginEnd", desc := "(II[B)V" } : Jvm.MethodName) prog_40_method_93_code (3 : Nat) (Option.none : Option Jvm.ClassFile.FieldType)) ∈ lw_all := lw_g (lw_at lw_m8 114 rfl) rfl
theorem q1923 : (Jvm.Cond.methodLink "java/lang/StringUTF16" (241 : Nat) ({ cls := "java/lang/String", name := "checkBoundsBeginEnd", desc := "(III)V" } : Jvm.MethodName)) ∈ lw_all := lw_g (lw_at lw_m8 115 rfl) rfl
theorem q1926 : (Jvm.Cond.methodLink "java/lang/StringUTF16" (393 : Nat) ({ cls := "java/lang/StringUTF16", name := "getChars", desc := "(II[B)I" } : Jvm.MethodName)) ∈ lw_all := lw_g (lw_at lw_m8 118 rfl) rfl
theorem q1927 : (Jvm.Cond.static ({ cls := "java/lang/StringUTF16", name := "getChars", desc := "(II[B)I" } : Jvm.MethodName)) ∈ lw_all := lw_g (lw_at lw_m8 119 rfl) rfl
theorem q1928 : (Jvm.Cond.code ({ cls := "java/lang/StringUTF16", name := "getChars", desc := "(II[B)I" } : Jvm.MethodName) prog_40_method_89_code (7 : Nat) (Option.some Jvm.ClassFile.FieldType.int)) ∈ lw_all := lw_g (lw_at lw_m8 120 rfl) rfl
theorem q1929 : (Jvm.Cond.fieldLink "java/lang/StringUTF16" (403 : Nat) "java/lang/Integer" "DigitOnes" "[B") ∈ lw_all := lw_g (lw_at lw_m8 121 rfl) rfl
theorem q1930 : (Jvm.Cond.fieldLink "java/lang/StringUTF16" (407 : Nat) "java/lang/Integer" "DigitTens" "[B") ∈ lw_all := lw_g (lw_at lw_m8 122 rfl) rfl
theorem q1975 : (Jvm.Cond.static ({ cls := "java/lang/StringUTF16", name := "indexOf", desc := "([BIII)I" } : Jvm.MethodName)) ∈ lw_all := lw_g (lw_at lw_m8 167 rfl) rfl
theorem q1976 : (Jvm.Cond.code ({ cls := "java/lang/StringUTF16", name := "indexOf", desc := "([BIII)I" } : Jvm.MethodName) prog_40_method_40_code (4 : Nat) (Option.some Jvm.ClassFile.FieldType.int)) ∈ lw_all := lw_g (lw_at lw_m8 168 rfl) rfl
theorem q1977 : (Jvm.Cond.methodLink "java/lang/StringUTF16" (224 : Nat) ({ cls := "java/lang/Math", name := "max", desc := "(II)I" } : Jvm.MethodName)) ∈ lw_all := lw_g (lw_at lw_m8 169 rfl) rfl
theorem q1978 : (Jvm.Cond.constant "java/lang/StringUTF16" (227 : Nat) (65536 : Int32)) ∈ lw_all := lw_g (lw_at lw_m8 170 rfl) rfl
theorem q1979 : (Jvm.Cond.methodLink "java/lang/StringUTF16" (228 : Nat) ({ cls := "java/lang/StringUTF16", name := "indexOfChar", desc := "([BIII)I" } : Jvm.MethodName)) ∈ lw_all := lw_g (lw_at lw_m8 171 rfl) rfl
theorem q1980 : (Jvm.Cond.static ({ cls := "java/lang/StringUTF16", name := "indexOfChar", desc := "([BIII)I" } : Jvm.MethodName)) ∈ lw_all := lw_g (lw_at lw_m8 172 rfl) rfl
theorem q1981 : (Jvm.Cond.code ({ cls := "java/lang/StringUTF16", name := "indexOfChar", desc := "([BIII)I" } : Jvm.MethodName) prog_40_method_47_code (4 : Nat) (Option.some Jvm.ClassFile.FieldType.int)) ∈ lw_all := lw_g (lw_at lw_m8 173 rfl) rfl
theorem q1982 : (Jvm.Cond.methodLink "java/lang/StringUTF16" (244 : Nat) ({ cls := "java/lang/StringUTF16", name := "indexOfCharUnsafe", desc := "([BIII)I" } : Jvm.MethodName)) ∈ lw_all := lw_g (lw_at lw_m8 174 rfl) rfl
theorem q1983 : (Jvm.Cond.static ({ cls := "java/lang/StringUTF16", name := "indexOfCharUnsafe", desc := "([BIII)I" } : Jvm.MethodName)) ∈ lw_all := lw_g (lw_at lw_m8 175 rfl) rfl
theorem q1984 : (Jvm.Cond.code ({ cls := "java/lang/StringUTF16", name := "indexOfCharUnsafe", desc := "([BIII)I" } : Jvm.MethodName) prog_40_method_48_code (5 : Nat) (Option.some Jvm.ClassFile.FieldType.int)) ∈ lw_all := lw_g (lw_at lw_m8 176 rfl) rfl
theorem q1985 : (Jvm.Cond.methodLink "java/lang/StringUTF16" (232 : Nat) ({ cls := "java/lang/StringUTF16", name := "indexOfSupplementary", desc := "([BIII)I" } : Jvm.MethodName)) ∈ lw_all := lw_g (lw_at lw_m8 177 rfl) rfl
theorem q1986 : (Jvm.Cond.static ({ cls := "java/lang/StringUTF16", name := "indexOfSupplementary", desc := "([BIII)I" } : Jvm.MethodName)) ∈ lw_all := lw_g (lw_at lw_m8 178 rfl) rfl
theorem q1987 : (Jvm.Cond.code ({ cls := "java/lang/StringUTF16", name := "indexOfSupplementary", desc := "([BIII)I" } : Jvm.MethodName) prog_40_method_49_code (7 : Nat) (Option.some Jvm.ClassFile.FieldType.int)) ∈ lw_all := lw_g (lw_at lw_m8 179 rfl) rfl
theorem q1988 : (Jvm.Cond.methodLink "java/lang/StringUTF16" (164 : Nat) ({ cls := "java/lang/Character", name := "isValidCodePoint", desc := "(I)Z" } : Jvm.MethodName)) ∈ lw_all := lw_g (lw_at lw_m8 180 rfl) rfl
theorem q1991 : (Jvm.Cond.methodLink "java/lang/StringUTF16" (157 : Nat) ({ cls := "java/lang/Character", name := "highSurrogate", desc := "(I)C" } : Jvm.MethodName)) ∈ lw_all := lw_g (lw_at lw_m8 183 rfl) rfl
theorem q1995 : (Jvm.Cond.methodLink "java/lang/StringUTF16" (161 : Nat) ({ cls := "java/lang/Character", name := "lowSurrogate", desc := "(I)C" } : Jvm.MethodName)) ∈ lw_all := lw_g (lw_at lw_m8 187 rfl) rfl
theorem q2012 : (Jvm.Cond.static ({ cls := "java/lang/StringUTF16", name := "putCharsAt", desc := "([BICCCC)I" } : Jvm.MethodName)) ∈ lw_all := lw_g (lw_at lw_m8 204 rfl) rfl
theorem q2013 : (Jvm.Cond.code ({ cls := "java/lang/StringUTF16", name := "putCharsAt", desc := "([BICCCC)I" } : Jvm.MethodName) prog_40_method_81_code (7 : Nat) (Option.some Jvm.ClassFile.FieldType.int)) ∈ lw_all := lw_g (lw_at lw_m8 205 rfl) rfl
theorem q2043 : (Jvm.Cond.static ({ cls := "java/lang/StringUTF16", name := "charAt", desc := "([BI)C" } : Jvm.MethodName)) ∈ lw_all := lw_g (lw_at lw_m8 235 rfl) rfl
theorem q2044 : (Jvm.Cond.code ({ cls := "java/lang/StringUTF16", name := "charAt", desc := "([BI)C" } : Jvm.MethodName) prog_40_method_83_code (2 : Nat) (Option.some Jvm.ClassFile.FieldType.char)) ∈ lw_all := lw_g (lw_at lw_m8 236 rfl) rfl
/-! java/util/ArrayList -/
set_option maxRecDepth 100000
def RJ2 : String := "java/util/ArrayList"
def TJ2 : u_T := fun k => match k with
  | 0 => ("java/util/AbstractList", "modCount", "I", false)
  | 1 => ("java/util/ArrayList", "elementData", "[Ljava/lang/Object;", false)
  | _ => ("java/util/ArrayList", "size", "I", false)
def tyJ2 : Nat → FieldType := fun k => match k with
  | 0 => .int
  | 1 => .array (.object "java/lang/Object")
  | _ => .int
abbrev wsJ20 : List Cond := u_ws RJ2 TJ2 3
theorem nmJ2 : ∀ a, a < 3 → ∀ b, b < 3 → a ≠ b → (TJ2 a).2.1 ≠ (TJ2 b).2.1 := by decide +kernel
theorem tyJ2_ok : ∀ k, k < 3 → parseFieldDescriptor (TJ2 k).2.2.1 = some (tyJ2 k) := by decide +kernel
abbrev cJ2_init : ByteArray := prog_48_method_2_code
def yJ2_init : MethodName := ⟨RJ2, "<init>", "()V"⟩
def dkwJ2_init_0 : List UInt8 := [42, 183, 0, 1, 42, 178, 0, 39, 181, 0, 9, 177]
abbrev dktJ2_init_0 : List UInt8 := dkwJ2_init_0 ++ []
theorem dksJ2_init_0 : cJ2_init.data.toList.drop 0 = dktJ2_init_0 := by decide +kernel
theorem dJ2_init_0 : decode cJ2_init 0 = .ok (.aload_n 0, 1) := dk_42 (dk_at dksJ2_init_0 0 rfl rfl)
theorem dJ2_init_1 : decode cJ2_init 1 = .ok (.invokespecial 1, 3) := dk_183 0 1 (dk_at dksJ2_init_0 1 rfl rfl)
theorem dJ2_init_4 : decode cJ2_init 4 = .ok (.aload_n 0, 1) := dk_42 (dk_at dksJ2_init_0 4 rfl rfl)
theorem dJ2_init_5 : decode cJ2_init 5 = .ok (.getstatic 39, 3) := dk_178 0 39 (dk_at dksJ2_init_0 5 rfl rfl)
theorem dJ2_init_8 : decode cJ2_init 8 = .ok (.putfield 9, 3) := dk_181 0 9 (dk_at dksJ2_init_0 8 rfl rfl)
theorem dJ2_init_11 : decode cJ2_init 11 = .ok (.return_, 1) := dk_177 (dk_at dksJ2_init_0 11 rfl rfl)
abbrev cJ2_size : ByteArray := prog_48_method_8_code
def yJ2_size : MethodName := ⟨RJ2, "size", "()I"⟩
theorem dJ2_size_0 : decode cJ2_size 0 = .ok (.aload_n 0, 1) := by decide +kernel
theorem dJ2_size_1 : decode cJ2_size 1 = .ok (.getfield 48, 3) := by decide +kernel
theorem dJ2_size_4 : decode cJ2_size 4 = .ok (.ireturn, 1) := by decide +kernel
abbrev cJ2_remove : ByteArray := prog_48_method_29_code
def yJ2_remove : MethodName := ⟨RJ2, "remove", "(I)Ljava/lang/Object;"⟩
def dkwJ2_remove_1 : List UInt8 := [45, 176]
abbrev dktJ2_remove_1 : List UInt8 := dkwJ2_remove_1 ++ []
def dkwJ2_remove_0 : List UInt8 := [27, 42, 180, 0, 48, 184, 0, 118, 87, 42, 180, 0, 9, 77, 44, 27, 50, 78, 42, 44, 27, 182, 0, 144]
abbrev dktJ2_remove_0 : List UInt8 := dkwJ2_remove_0 ++ dktJ2_remove_1
theorem dksJ2_remove_0 : cJ2_remove.data.toList.drop 0 = dktJ2_remove_0 := by decide +kernel
theorem dksJ2_remove_1 : cJ2_remove.data.toList.drop 24 = dktJ2_remove_1 := dk_seg dksJ2_remove_0 24 rfl rfl
theorem dJ2_remove_0 : decode cJ2_remove 0 = .ok (.iload_n 1, 1) := dk_27 (dk_at dksJ2_remove_0 0 rfl rfl)
theorem dJ2_remove_1 : decode cJ2_remove 1 = .ok (.aload_n 0, 1) := dk_42 (dk_at dksJ2_remove_0 1 rfl rfl)
theorem dJ2_remove_2 : decode cJ2_remove 2 = .ok (.getfield 48, 3) := dk_180 0 48 (dk_at dksJ2_remove_0 2 rfl rfl)
theorem dJ2_remove_5 : decode cJ2_remove 5 = .ok (.invokestatic 118, 3) := dk_184 0 118 (dk_at dksJ2_remove_0 5 rfl rfl)
theorem dJ2_remove_8 : decode cJ2_remove 8 = .ok (.pop, 1) := dk_87 (dk_at dksJ2_remove_0 8 rfl rfl)
theorem dJ2_remove_9 : decode cJ2_remove 9 = .ok (.aload_n 0, 1) := dk_42 (dk_at dksJ2_remove_0 9 rfl rfl)
theorem dJ2_remove_10 : decode cJ2_remove 10 = .ok (.getfield 9, 3) := dk_180 0 9 (dk_at dksJ2_remove_0 10 rfl rfl)
theorem dJ2_remove_13 : decode cJ2_remove 13 = .ok (.astore_n 2, 1) := dk_77 (dk_at dksJ2_remove_0 13 rfl rfl)
theorem dJ2_remove_14 : decode cJ2_remove 14 = .ok (.aload_n 2, 1) := dk_44 (dk_at dksJ2_remove_0 14 rfl rfl)
theorem dJ2_remove_15 : decode cJ2_remove 15 = .ok (.iload_n 1, 1) := dk_27 (dk_at dksJ2_remove_0 15 rfl rfl)
theorem dJ2_remove_16 : decode cJ2_remove 16 = .ok (.aaload, 1) := dk_50 (dk_at dksJ2_remove_0 16 rfl rfl)
theorem dJ2_remove_17 : decode cJ2_remove 17 = .ok (.astore_n 3, 1) := dk_78 (dk_at dksJ2_remove_0 17 rfl rfl)
theorem dJ2_remove_18 : decode cJ2_remove 18 = .ok (.aload_n 0, 1) := dk_42 (dk_at dksJ2_remove_0 18 rfl rfl)
theorem dJ2_remove_19 : decode cJ2_remove 19 = .ok (.aload_n 2, 1) := dk_44 (dk_at dksJ2_remove_0 19 rfl rfl)
theorem dJ2_remove_20 : decode cJ2_remove 20 = .ok (.iload_n 1, 1) := dk_27 (dk_at dksJ2_remove_0 20 rfl rfl)
theorem dJ2_remove_21 : decode cJ2_remove 21 = .ok (.invokevirtual 144, 3) := dk_182 0 144 (dk_at dksJ2_remove_0 21 rfl rfl)
theorem dJ2_remove_24 : decode cJ2_remove 24 = .ok (.aload_n 3, 1) := dk_45 (dk_at dksJ2_remove_1 0 rfl rfl)
theorem dJ2_remove_25 : decode cJ2_remove 25 = .ok (.areturn, 1) := dk_176 (dk_at dksJ2_remove_1 1 rfl rfl)
abbrev cJ2_fastRemove : ByteArray := prog_48_method_39_code
def yJ2_fastRemove : MethodName := ⟨RJ2, "fastRemove", "([Ljava/lang/Object;I)V"⟩
def dkwJ2_fastRemove_1 : List UInt8 := [4, 96, 43, 28, 29, 28, 100, 184, 0, 112, 43, 42, 29, 90, 181, 0, 48, 1, 83, 177]
abbrev dktJ2_fastRemove_1 : List UInt8 := dkwJ2_fastRemove_1 ++ []
def dkwJ2_fastRemove_0 : List UInt8 := [42, 89, 180, 0, 63, 4, 96, 181, 0, 63, 42, 180, 0, 48, 4, 100, 89, 62, 28, 164, 0, 15, 43, 28]
abbrev dktJ2_fastRemove_0 : List UInt8 := dkwJ2_fastRemove_0 ++ dktJ2_fastRemove_1
theorem dksJ2_fastRemove_0 : cJ2_fastRemove.data.toList.drop 0 = dktJ2_fastRemove_0 := by decide +kernel
theorem dksJ2_fastRemove_1 : cJ2_fastRemove.data.toList.drop 24 = dktJ2_fastRemove_1 := dk_seg dksJ2_fastRemove_0 24 rfl rfl
theorem dJ2_fastRemove_0 : decode cJ2_fastRemove 0 = .ok (.aload_n 0, 1) := dk_42 (dk_at dksJ2_fastRemove_0 0 rfl rfl)
theorem dJ2_fastRemove_1 : decode cJ2_fastRemove 1 = .ok (.dup, 1) := dk_89 (dk_at dksJ2_fastRemove_0 1 rfl rfl)
theorem dJ2_fastRemove_2 : decode cJ2_fastRemove 2 = .ok (.getfield 63, 3) := dk_180 0 63 (dk_at dksJ2_fastRemove_0 2 rfl rfl)
theorem dJ2_fastRemove_5 : decode cJ2_fastRemove 5 = .ok (.iconst 1, 1) := dk_4 (dk_at dksJ2_fastRemove_0 5 rfl rfl)
theorem dJ2_fastRemove_6 : decode cJ2_fastRemove 6 = .ok (.iadd, 1) := dk_96 (dk_at dksJ2_fastRemove_0 6 rfl rfl)
theorem dJ2_fastRemove_7 : decode cJ2_fastRemove 7 = .ok (.putfield 63, 3) := dk_181 0 63 (dk_at dksJ2_fastRemove_0 7 rfl rfl)
theorem dJ2_fastRemove_10 : decode cJ2_fastRemove 10 = .ok (.aload_n 0, 1) := dk_42 (dk_at dksJ2_fastRemove_0 10 rfl rfl)
theorem dJ2_fastRemove_11 : decode cJ2_fastRemove 11 = .ok (.getfield 48, 3) := dk_180 0 48 (dk_at dksJ2_fastRemove_0 11 rfl rfl)
theorem dJ2_fastRemove_14 : decode cJ2_fastRemove 14 = .ok (.iconst 1, 1) := dk_4 (dk_at dksJ2_fastRemove_0 14 rfl rfl)
theorem dJ2_fastRemove_15 : decode cJ2_fastRemove 15 = .ok (.isub, 1) := dk_100 (dk_at dksJ2_fastRemove_0 15 rfl rfl)
theorem dJ2_fastRemove_16 : decode cJ2_fastRemove 16 = .ok (.dup, 1) := dk_89 (dk_at dksJ2_fastRemove_0 16 rfl rfl)
theorem dJ2_fastRemove_17 : decode cJ2_fastRemove 17 = .ok (.istore_n 3, 1) := dk_62 (dk_at dksJ2_fastRemove_0 17 rfl rfl)
theorem dJ2_fastRemove_18 : decode cJ2_fastRemove 18 = .ok (.iload_n 2, 1) := dk_28 (dk_at dksJ2_fastRemove_0 18 rfl rfl)
theorem dJ2_fastRemove_19 : decode cJ2_fastRemove 19 = .ok (.if_icmp .le 15, 3) := dk_164 0 15 (dk_at dksJ2_fastRemove_0 19 rfl rfl)
theorem dJ2_fastRemove_22 : decode cJ2_fastRemove 22 = .ok (.aload_n 1, 1) := dk_43 (dk_at dksJ2_fastRemove_0 22 rfl rfl)
theorem dJ2_fastRemove_23 : decode cJ2_fastRemove 23 = .ok (.iload_n 2, 1) := dk_28 (dk_at dksJ2_fastRemove_0 23 rfl rfl)
theorem dJ2_fastRemove_24 : decode cJ2_fastRemove 24 = .ok (.iconst 1, 1) := dk_4 (dk_at dksJ2_fastRemove_1 0 rfl rfl)
theorem dJ2_fastRemove_25 : decode cJ2_fastRemove 25 = .ok (.iadd, 1) := dk_96 (dk_at dksJ2_fastRemove_1 1 rfl rfl)
theorem dJ2_fastRemove_26 : decode cJ2_fastRemove 26 = .ok (.aload_n 1, 1) := dk_43 (dk_at dksJ2_fastRemove_1 2 rfl rfl)
theorem dJ2_fastRemove_27 : decode cJ2_fastRemove 27 = .ok (.iload_n 2, 1) := dk_28 (dk_at dksJ2_fastRemove_1 3 rfl rfl)
theorem dJ2_fastRemove_28 : decode cJ2_fastRemove 28 = .ok (.iload_n 3, 1) := dk_29 (dk_at dksJ2_fastRemove_1 4 rfl rfl)
theorem dJ2_fastRemove_29 : decode cJ2_fastRemove 29 = .ok (.iload_n 2, 1) := dk_28 (dk_at dksJ2_fastRemove_1 5 rfl rfl)
theorem dJ2_fastRemove_30 : decode cJ2_fastRemove 30 = .ok (.isub, 1) := dk_100 (dk_at dksJ2_fastRemove_1 6 rfl rfl)
theorem dJ2_fastRemove_31 : decode cJ2_fastRemove 31 = .ok (.invokestatic 112, 3) := dk_184 0 112 (dk_at dksJ2_fastRemove_1 7 rfl rfl)
theorem dJ2_fastRemove_34 : decode cJ2_fastRemove 34 = .ok (.aload_n 1, 1) := dk_43 (dk_at dksJ2_fastRemove_1 10 rfl rfl)
theorem dJ2_fastRemove_35 : decode cJ2_fastRemove 35 = .ok (.aload_n 0, 1) := dk_42 (dk_at dksJ2_fastRemove_1 11 rfl rfl)
theorem dJ2_fastRemove_36 : decode cJ2_fastRemove 36 = .ok (.iload_n 3, 1) := dk_29 (dk_at dksJ2_fastRemove_1 12 rfl rfl)
theorem dJ2_fastRemove_37 : decode cJ2_fastRemove 37 = .ok (.dup_x1, 1) := dk_90 (dk_at dksJ2_fastRemove_1 13 rfl rfl)
theorem dJ2_fastRemove_38 : decode cJ2_fastRemove 38 = .ok (.putfield 48, 3) := dk_181 0 48 (dk_at dksJ2_fastRemove_1 14 rfl rfl)
theorem dJ2_fastRemove_41 : decode cJ2_fastRemove 41 = .ok (.aconst_null, 1) := dk_1 (dk_at dksJ2_fastRemove_1 17 rfl rfl)
theorem dJ2_fastRemove_42 : decode cJ2_fastRemove 42 = .ok (.aastore, 1) := dk_83 (dk_at dksJ2_fastRemove_1 18 rfl rfl)
theorem dJ2_fastRemove_43 : decode cJ2_fastRemove 43 = .ok (.return_, 1) := dk_177 (dk_at dksJ2_fastRemove_1 19 rfl rfl)
abbrev cJ2_add : ByteArray := prog_48_method_25_code
def yJ2_add : MethodName := ⟨RJ2, "add", "(Ljava/lang/Object;)Z"⟩
def dkwJ2_add_1 : List UInt8 := [172]
abbrev dktJ2_add_1 : List UInt8 := dkwJ2_add_1 ++ []
def dkwJ2_add_0 : List UInt8 := [42, 89, 180, 0, 63, 4, 96, 181, 0, 63, 42, 43, 42, 180, 0, 9, 42, 180, 0, 48, 182, 0, 131, 4]
abbrev dktJ2_add_0 : List UInt8 := dkwJ2_add_0 ++ dktJ2_add_1
theorem dksJ2_add_0 : cJ2_add.data.toList.drop 0 = dktJ2_add_0 := by decide +kernel
theorem dksJ2_add_1 : cJ2_add.data.toList.drop 24 = dktJ2_add_1 := dk_seg dksJ2_add_0 24 rfl rfl
theorem dJ2_add_0 : decode cJ2_add 0 = .ok (.aload_n 0, 1) := dk_42 (dk_at dksJ2_add_0 0 rfl rfl)
theorem dJ2_add_1 : decode cJ2_add 1 = .ok (.dup, 1) := dk_89 (dk_at dksJ2_add_0 1 rfl rfl)
theorem dJ2_add_2 : decode cJ2_add 2 = .ok (.getfield 63, 3) := dk_180 0 63 (dk_at dksJ2_add_0 2 rfl rfl)
theorem dJ2_add_5 : decode cJ2_add 5 = .ok (.iconst 1, 1) := dk_4 (dk_at dksJ2_add_0 5 rfl rfl)
theorem dJ2_add_6 : decode cJ2_add 6 = .ok (.iadd, 1) := dk_96 (dk_at dksJ2_add_0 6 rfl rfl)
theorem dJ2_add_7 : decode cJ2_add 7 = .ok (.putfield 63, 3) := dk_181 0 63 (dk_at dksJ2_add_0 7 rfl rfl)
theorem dJ2_add_10 : decode cJ2_add 10 = .ok (.aload_n 0, 1) := dk_42 (dk_at dksJ2_add_0 10 rfl rfl)
theorem dJ2_add_11 : decode cJ2_add 11 = .ok (.aload_n 1, 1) := dk_43 (dk_at dksJ2_add_0 11 rfl rfl)
theorem dJ2_add_12 : decode cJ2_add 12 = .ok (.aload_n 0, 1) := dk_42 (dk_at dksJ2_add_0 12 rfl rfl)
theorem dJ2_add_13 : decode cJ2_add 13 = .ok (.getfield 9, 3) := dk_180 0 9 (dk_at dksJ2_add_0 13 rfl rfl)
theorem dJ2_add_16 : decode cJ2_add 16 = .ok (.aload_n 0, 1) := dk_42 (dk_at dksJ2_add_0 16 rfl rfl)
theorem dJ2_add_17 : decode cJ2_add 17 = .ok (.getfield 48, 3) := dk_180 0 48 (dk_at dksJ2_add_0 17 rfl rfl)
theorem dJ2_add_20 : decode cJ2_add 20 = .ok (.invokevirtual 131, 3) := dk_182 0 131 (dk_at dksJ2_add_0 20 rfl rfl)
theorem dJ2_add_23 : decode cJ2_add 23 = .ok (.iconst 1, 1) := dk_4 (dk_at dksJ2_add_0 23 rfl rfl)
theorem dJ2_add_24 : decode cJ2_add 24 = .ok (.ireturn, 1) := dk_172 (dk_at dksJ2_add_1 0 rfl rfl)
abbrev cJ2_add_2 : ByteArray := prog_48_method_24_code
def yJ2_add_2 : MethodName := ⟨RJ2, "add", "(Ljava/lang/Object;[Ljava/lang/Object;I)V"⟩
def dkwJ2_add_2_0 : List UInt8 := [29, 44, 190, 160, 0, 8, 42, 182, 0, 129, 77, 44, 29, 43, 83, 42, 29, 4, 96, 181, 0, 48, 177]
abbrev dktJ2_add_2_0 : List UInt8 := dkwJ2_add_2_0 ++ []
theorem dksJ2_add_2_0 : cJ2_add_2.data.toList.drop 0 = dktJ2_add_2_0 := by decide +kernel
theorem dJ2_add_2_0 : decode cJ2_add_2 0 = .ok (.iload_n 3, 1) := dk_29 (dk_at dksJ2_add_2_0 0 rfl rfl)
theorem dJ2_add_2_1 : decode cJ2_add_2 1 = .ok (.aload_n 2, 1) := dk_44 (dk_at dksJ2_add_2_0 1 rfl rfl)
theorem dJ2_add_2_2 : decode cJ2_add_2 2 = .ok (.arraylength, 1) := dk_190 (dk_at dksJ2_add_2_0 2 rfl rfl)
theorem dJ2_add_2_3 : decode cJ2_add_2 3 = .ok (.if_icmp .ne 8, 3) := dk_160 0 8 (dk_at dksJ2_add_2_0 3 rfl rfl)
theorem dJ2_add_2_6 : decode cJ2_add_2 6 = .ok (.aload_n 0, 1) := dk_42 (dk_at dksJ2_add_2_0 6 rfl rfl)
theorem dJ2_add_2_7 : decode cJ2_add_2 7 = .ok (.invokevirtual 129, 3) := dk_182 0 129 (dk_at dksJ2_add_2_0 7 rfl rfl)
theorem dJ2_add_2_10 : decode cJ2_add_2 10 = .ok (.astore_n 2, 1) := dk_77 (dk_at dksJ2_add_2_0 10 rfl rfl)
theorem dJ2_add_2_11 : decode cJ2_add_2 11 = .ok (.aload_n 2, 1) := dk_44 (dk_at dksJ2_add_2_0 11 rfl rfl)
theorem dJ2_add_2_12 : decode cJ2_add_2 12 = .ok (.iload_n 3, 1) := dk_29 (dk_at dksJ2_add_2_0 12 rfl rfl)
theorem dJ2_add_2_13 : decode cJ2_add_2 13 = .ok (.aload_n 1, 1) := dk_43 (dk_at dksJ2_add_2_0 13 rfl rfl)
theorem dJ2_add_2_14 : decode cJ2_add_2 14 = .ok (.aastore, 1) := dk_83 (dk_at dksJ2_add_2_0 14 rfl rfl)
theorem dJ2_add_2_15 : decode cJ2_add_2 15 = .ok (.aload_n 0, 1) := dk_42 (dk_at dksJ2_add_2_0 15 rfl rfl)
theorem dJ2_add_2_16 : decode cJ2_add_2 16 = .ok (.iload_n 3, 1) := dk_29 (dk_at dksJ2_add_2_0 16 rfl rfl)
theorem dJ2_add_2_17 : decode cJ2_add_2 17 = .ok (.iconst 1, 1) := dk_4 (dk_at dksJ2_add_2_0 17 rfl rfl)
theorem dJ2_add_2_18 : decode cJ2_add_2 18 = .ok (.iadd, 1) := dk_96 (dk_at dksJ2_add_2_0 18 rfl rfl)
theorem dJ2_add_2_19 : decode cJ2_add_2 19 = .ok (.putfield 48, 3) := dk_181 0 48 (dk_at dksJ2_add_2_0 19 rfl rfl)
theorem dJ2_add_2_22 : decode cJ2_add_2 22 = .ok (.return_, 1) := dk_177 (dk_at dksJ2_add_2_0 22 rfl rfl)
abbrev cJ2_grow : ByteArray := prog_48_method_7_code
def yJ2_grow : MethodName := ⟨RJ2, "grow", "()[Ljava/lang/Object;"⟩
def dkwJ2_grow_0 : List UInt8 := [42, 42, 180, 0, 48, 4, 96, 182, 0, 69, 176]
abbrev dktJ2_grow_0 : List UInt8 := dkwJ2_grow_0 ++ []
theorem dksJ2_grow_0 : cJ2_grow.data.toList.drop 0 = dktJ2_grow_0 := by decide +kernel
theorem dJ2_grow_0 : decode cJ2_grow 0 = .ok (.aload_n 0, 1) := dk_42 (dk_at dksJ2_grow_0 0 rfl rfl)
theorem dJ2_grow_1 : decode cJ2_grow 1 = .ok (.aload_n 0, 1) := dk_42 (dk_at dksJ2_grow_0 1 rfl rfl)
theorem dJ2_grow_2 : decode cJ2_grow 2 = .ok (.getfield 48, 3) := dk_180 0 48 (dk_at dksJ2_grow_0 2 rfl rfl)
theorem dJ2_grow_5 : decode cJ2_grow 5 = .ok (.iconst 1, 1) := dk_4 (dk_at dksJ2_grow_0 5 rfl rfl)
theorem dJ2_grow_6 : decode cJ2_grow 6 = .ok (.iadd, 1) := dk_96 (dk_at dksJ2_grow_0 6 rfl rfl)
theorem dJ2_grow_7 : decode cJ2_grow 7 = .ok (.invokevirtual 69, 3) := dk_182 0 69 (dk_at dksJ2_grow_0 7 rfl rfl)
theorem dJ2_grow_10 : decode cJ2_grow 10 = .ok (.areturn, 1) := dk_176 (dk_at dksJ2_grow_0 10 rfl rfl)
abbrev cJ2_grow_2 : ByteArray := prog_48_method_6_code
def yJ2_grow_2 : MethodName := ⟨RJ2, "grow", "(I)[Ljava/lang/Object;"⟩
def dkwJ2_grow_2_2 : List UInt8 := [27, 184, 0, 79, 189, 0, 7, 90, 181, 0, 9, 176]
abbrev dktJ2_grow_2_2 : List UInt8 := dkwJ2_grow_2_2 ++ []
def dkwJ2_grow_2_1 : List UInt8 := [28, 4, 122, 184, 0, 73, 62, 42, 42, 180, 0, 9, 29, 184, 0, 66, 90, 181, 0, 9, 176, 42, 16, 10]
abbrev dktJ2_grow_2_1 : List UInt8 := dkwJ2_grow_2_1 ++ dktJ2_grow_2_2
def dkwJ2_grow_2_0 : List UInt8 := [42, 180, 0, 9, 190, 61, 28, 157, 0, 13, 42, 180, 0, 9, 178, 0, 39, 165, 0, 28, 28, 27, 28, 100]
abbrev dktJ2_grow_2_0 : List UInt8 := dkwJ2_grow_2_0 ++ dktJ2_grow_2_1
theorem dksJ2_grow_2_0 : cJ2_grow_2.data.toList.drop 0 = dktJ2_grow_2_0 := by decide +kernel
theorem dksJ2_grow_2_1 : cJ2_grow_2.data.toList.drop 24 = dktJ2_grow_2_1 := dk_seg dksJ2_grow_2_0 24 rfl rfl
theorem dksJ2_grow_2_2 : cJ2_grow_2.data.toList.drop 48 = dktJ2_grow_2_2 := dk_seg dksJ2_grow_2_1 24 rfl rfl
theorem dJ2_grow_2_0 : decode cJ2_grow_2 0 = .ok (.aload_n 0, 1) := dk_42 (dk_at dksJ2_grow_2_0 0 rfl rfl)
theorem dJ2_grow_2_1 : decode cJ2_grow_2 1 = .ok (.getfield 9, 3) := dk_180 0 9 (dk_at dksJ2_grow_2_0 1 rfl rfl)
theorem dJ2_grow_2_4 : decode cJ2_grow_2 4 = .ok (.arraylength, 1) := dk_190 (dk_at dksJ2_grow_2_0 4 rfl rfl)
theorem dJ2_grow_2_5 : decode cJ2_grow_2 5 = .ok (.istore_n 2, 1) := dk_61 (dk_at dksJ2_grow_2_0 5 rfl rfl)
theorem dJ2_grow_2_6 : decode cJ2_grow_2 6 = .ok (.iload_n 2, 1) := dk_28 (dk_at dksJ2_grow_2_0 6 rfl rfl)
theorem dJ2_grow_2_7 : decode cJ2_grow_2 7 = .ok (.ifCond .gt 13, 3) := dk_157 0 13 (dk_at dksJ2_grow_2_0 7 rfl rfl)
theorem dJ2_grow_2_10 : decode cJ2_grow_2 10 = .ok (.aload_n 0, 1) := dk_42 (dk_at dksJ2_grow_2_0 10 rfl rfl)
theorem dJ2_grow_2_11 : decode cJ2_grow_2 11 = .ok (.getfield 9, 3) := dk_180 0 9 (dk_at dksJ2_grow_2_0 11 rfl rfl)
theorem dJ2_grow_2_14 : decode cJ2_grow_2 14 = .ok (.getstatic 39, 3) := dk_178 0 39 (dk_at dksJ2_grow_2_0 14 rfl rfl)
theorem dJ2_grow_2_17 : decode cJ2_grow_2 17 = .ok (.if_acmp .eq 28, 3) := dk_165 0 28 (dk_at dksJ2_grow_2_0 17 rfl rfl)
theorem dJ2_grow_2_20 : decode cJ2_grow_2 20 = .ok (.iload_n 2, 1) := dk_28 (dk_at dksJ2_grow_2_0 20 rfl rfl)
theorem dJ2_grow_2_21 : decode cJ2_grow_2 21 = .ok (.iload_n 1, 1) := dk_27 (dk_at dksJ2_grow_2_0 21 rfl rfl)
theorem dJ2_grow_2_22 : decode cJ2_grow_2 22 = .ok (.iload_n 2, 1) := dk_28 (dk_at dksJ2_grow_2_0 22 rfl rfl)
theorem dJ2_grow_2_23 : decode cJ2_grow_2 23 = .ok (.isub, 1) := dk_100 (dk_at dksJ2_grow_2_0 23 rfl rfl)
theorem dJ2_grow_2_24 : decode cJ2_grow_2 24 = .ok (.iload_n 2, 1) := dk_28 (dk_at dksJ2_grow_2_1 0 rfl rfl)
theorem dJ2_grow_2_25 : decode cJ2_grow_2 25 = .ok (.iconst 1, 1) := dk_4 (dk_at dksJ2_grow_2_1 1 rfl rfl)
theorem dJ2_grow_2_26 : decode cJ2_grow_2 26 = .ok (.ishr, 1) := dk_122 (dk_at dksJ2_grow_2_1 2 rfl rfl)
theorem dJ2_grow_2_27 : decode cJ2_grow_2 27 = .ok (.invokestatic 73, 3) := dk_184 0 73 (dk_at dksJ2_grow_2_1 3 rfl rfl)
theorem dJ2_grow_2_30 : decode cJ2_grow_2 30 = .ok (.istore_n 3, 1) := dk_62 (dk_at dksJ2_grow_2_1 6 rfl rfl)
theorem dJ2_grow_2_31 : decode cJ2_grow_2 31 = .ok (.aload_n 0, 1) := dk_42 (dk_at dksJ2_grow_2_1 7 rfl rfl)
theorem dJ2_grow_2_32 : decode cJ2_grow_2 32 = .ok (.aload_n 0, 1) := dk_42 (dk_at dksJ2_grow_2_1 8 rfl rfl)
theorem dJ2_grow_2_33 : decode cJ2_grow_2 33 = .ok (.getfield 9, 3) := dk_180 0 9 (dk_at dksJ2_grow_2_1 9 rfl rfl)
theorem dJ2_grow_2_36 : decode cJ2_grow_2 36 = .ok (.iload_n 3, 1) := dk_29 (dk_at dksJ2_grow_2_1 12 rfl rfl)
theorem dJ2_grow_2_37 : decode cJ2_grow_2 37 = .ok (.invokestatic 66, 3) := dk_184 0 66 (dk_at dksJ2_grow_2_1 13 rfl rfl)
theorem dJ2_grow_2_40 : decode cJ2_grow_2 40 = .ok (.dup_x1, 1) := dk_90 (dk_at dksJ2_grow_2_1 16 rfl rfl)
theorem dJ2_grow_2_41 : decode cJ2_grow_2 41 = .ok (.putfield 9, 3) := dk_181 0 9 (dk_at dksJ2_grow_2_1 17 rfl rfl)
theorem dJ2_grow_2_44 : decode cJ2_grow_2 44 = .ok (.areturn, 1) := dk_176 (dk_at dksJ2_grow_2_1 20 rfl rfl)
theorem dJ2_grow_2_45 : decode cJ2_grow_2 45 = .ok (.aload_n 0, 1) := dk_42 (dk_at dksJ2_grow_2_1 21 rfl rfl)
theorem dJ2_grow_2_46 : decode cJ2_grow_2 46 = .ok (.bipush 10, 2) := dk_16 10 (dk_at dksJ2_grow_2_1 22 rfl rfl)
theorem dJ2_grow_2_48 : decode cJ2_grow_2 48 = .ok (.iload_n 1, 1) := dk_27 (dk_at dksJ2_grow_2_2 0 rfl rfl)
theorem dJ2_grow_2_49 : decode cJ2_grow_2 49 = .ok (.invokestatic 79, 3) := dk_184 0 79 (dk_at dksJ2_grow_2_2 1 rfl rfl)
theorem dJ2_grow_2_52 : decode cJ2_grow_2 52 = .ok (.anewarray 7, 3) := dk_189 0 7 (dk_at dksJ2_grow_2_2 4 rfl rfl)
theorem dJ2_grow_2_55 : decode cJ2_grow_2 55 = .ok (.dup_x1, 1) := dk_90 (dk_at dksJ2_grow_2_2 7 rfl rfl)
theorem dJ2_grow_2_56 : decode cJ2_grow_2 56 = .ok (.putfield 9, 3) := dk_181 0 9 (dk_at dksJ2_grow_2_2 8 rfl rfl)
theorem dJ2_grow_2_59 : decode cJ2_grow_2 59 = .ok (.areturn, 1) := dk_176 (dk_at dksJ2_grow_2_2 11 rfl rfl)
abbrev cJ2_get : ByteArray := prog_48_method_20_code
def yJ2_get : MethodName := ⟨RJ2, "get", "(I)Ljava/lang/Object;"⟩
def dkwJ2_get_0 : List UInt8 := [27, 42, 180, 0, 48, 184, 0, 118, 87, 42, 27, 182, 0, 123, 176]
abbrev dktJ2_get_0 : List UInt8 := dkwJ2_get_0 ++ []
theorem dksJ2_get_0 : cJ2_get.data.toList.drop 0 = dktJ2_get_0 := by decide +kernel
theorem dJ2_get_0 : decode cJ2_get 0 = .ok (.iload_n 1, 1) := dk_27 (dk_at dksJ2_get_0 0 rfl rfl)
theorem dJ2_get_1 : decode cJ2_get 1 = .ok (.aload_n 0, 1) := dk_42 (dk_at dksJ2_get_0 1 rfl rfl)
theorem dJ2_get_2 : decode cJ2_get 2 = .ok (.getfield 48, 3) := dk_180 0 48 (dk_at dksJ2_get_0 2 rfl rfl)
theorem dJ2_get_5 : decode cJ2_get 5 = .ok (.invokestatic 118, 3) := dk_184 0 118 (dk_at dksJ2_get_0 5 rfl rfl)
theorem dJ2_get_8 : decode cJ2_get 8 = .ok (.pop, 1) := dk_87 (dk_at dksJ2_get_0 8 rfl rfl)
theorem dJ2_get_9 : decode cJ2_get 9 = .ok (.aload_n 0, 1) := dk_42 (dk_at dksJ2_get_0 9 rfl rfl)
theorem dJ2_get_10 : decode cJ2_get 10 = .ok (.iload_n 1, 1) := dk_27 (dk_at dksJ2_get_0 10 rfl rfl)
theorem dJ2_get_11 : decode cJ2_get 11 = .ok (.invokevirtual 123, 3) := dk_182 0 123 (dk_at dksJ2_get_0 11 rfl rfl)
theorem dJ2_get_14 : decode cJ2_get 14 = .ok (.areturn, 1) := dk_176 (dk_at dksJ2_get_0 14 rfl rfl)
abbrev cJ2_elementData : ByteArray := prog_48_method_18_code
def yJ2_elementData : MethodName := ⟨RJ2, "elementData", "(I)Ljava/lang/Object;"⟩
def dkwJ2_elementData_0 : List UInt8 := [42, 180, 0, 9, 27, 50, 176]
abbrev dktJ2_elementData_0 : List UInt8 := dkwJ2_elementData_0 ++ []
theorem dksJ2_elementData_0 : cJ2_elementData.data.toList.drop 0 = dktJ2_elementData_0 := by decide +kernel
theorem dJ2_elementData_0 : decode cJ2_elementData 0 = .ok (.aload_n 0, 1) := dk_42 (dk_at dksJ2_elementData_0 0 rfl rfl)
theorem dJ2_elementData_1 : decode cJ2_elementData 1 = .ok (.getfield 9, 3) := dk_180 0 9 (dk_at dksJ2_elementData_0 1 rfl rfl)
theorem dJ2_elementData_4 : decode cJ2_elementData 4 = .ok (.iload_n 1, 1) := dk_27 (dk_at dksJ2_elementData_0 4 rfl rfl)
theorem dJ2_elementData_5 : decode cJ2_elementData 5 = .ok (.aaload, 1) := dk_50 (dk_at dksJ2_elementData_0 5 rfl rfl)
theorem dJ2_elementData_6 : decode cJ2_elementData 6 = .ok (.areturn, 1) := dk_176 (dk_at dksJ2_elementData_0 6 rfl rfl)
abbrev cJ2_iterator : ByteArray := prog_48_method_55_code
def yJ2_iterator : MethodName := ⟨RJ2, "iterator", "()Ljava/util/Iterator;"⟩
def dkwJ2_iterator_0 : List UInt8 := [187, 1, 11, 89, 42, 183, 1, 13, 176]
abbrev dktJ2_iterator_0 : List UInt8 := dkwJ2_iterator_0 ++ []
theorem dksJ2_iterator_0 : cJ2_iterator.data.toList.drop 0 = dktJ2_iterator_0 := by decide +kernel
theorem dJ2_iterator_0 : decode cJ2_iterator 0 = .ok (.new 267, 3) := dk_187 1 11 (dk_at dksJ2_iterator_0 0 rfl rfl)
theorem dJ2_iterator_3 : decode cJ2_iterator 3 = .ok (.dup, 1) := dk_89 (dk_at dksJ2_iterator_0 3 rfl rfl)
theorem dJ2_iterator_4 : decode cJ2_iterator 4 = .ok (.aload_n 0, 1) := dk_42 (dk_at dksJ2_iterator_0 4 rfl rfl)
theorem dJ2_iterator_5 : decode cJ2_iterator 5 = .ok (.invokespecial 269, 3) := dk_183 1 13 (dk_at dksJ2_iterator_0 5 rfl rfl)
theorem dJ2_iterator_8 : decode cJ2_iterator 8 = .ok (.areturn, 1) := dk_176 (dk_at dksJ2_iterator_0 8 rfl rfl)
theorem q132 : (Jvm.Cond.initialized "java/util/ArrayList") ∈ lw_all := lw_g (lw_at lw_m1 4 rfl) rfl
theorem q266 : (Jvm.Cond.instantiable "java/util/ArrayList" (3 : Nat)) ∈ lw_all := lw_g (lw_at lw_m1 138 rfl) rfl
theorem q268 : (Jvm.Cond.instanceMethod ({ cls := "java/util/ArrayList", name := "<init>", desc := "()V" } : Jvm.MethodName)) ∈ lw_all := lw_g (lw_at lw_m1 140 rfl) rfl
theorem q269 : (Jvm.Cond.code ({ cls := "java/util/ArrayList", name := "<init>", desc := "()V" } : Jvm.MethodName) prog_48_method_2_code (1 : Nat) (Option.none : Option Jvm.ClassFile.FieldType)) ∈ lw_all := lw_g (lw_at lw_m1 141 rfl) rfl
theorem q270 : (Jvm.Cond.methodLink "java/util/ArrayList" (1 : Nat) ({ cls := "java/util/AbstractList", name := "<init>", desc := "()V" } : Jvm.MethodName)) ∈ lw_all := lw_g (lw_at lw_m1 142 rfl) rfl
theorem q277 : (Jvm.Cond.fieldLink "java/util/ArrayList" (39 : Nat) "java/util/ArrayList" "DEFAULTCAPACITY_EMPTY_ELEMENTDATA" "[Ljava/lang/Object;") ∈ lw_all := lw_g (lw_at lw_m1 149 rfl) rfl
theorem q278 : (Jvm.Cond.laysStatic "java/util/ArrayList" "DEFAULTCAPACITY_EMPTY_ELEMENTDATA" "[Ljava/lang/Object;") ∈ lw_tbl := lw_at lw_m1 150 rfl
theorem q279 : (Jvm.Cond.fieldLink "java/util/ArrayList" (9 : Nat) "java/util/ArrayList" "elementData" "[Ljava/lang/Object;") ∈ lw_all := lw_g (lw_at lw_m1 151 rfl) rfl
theorem q282 : (Jvm.Cond.fieldLink "java/util/ArrayList" (48 : Nat) "java/util/ArrayList" "size" "I") ∈ lw_all := lw_g (lw_at lw_m1 154 rfl) rfl
theorem q285 : (Jvm.Cond.sameField "java/util/ArrayList" "java/util/AbstractList" "modCount" "I") ∈ lw_all := lw_g (lw_at lw_m1 157 rfl) rfl
theorem q286 : (Jvm.Cond.fieldLink "java/util/ArrayList" (63 : Nat) "java/util/ArrayList" "modCount" "I") ∈ lw_all := lw_g (lw_at lw_m1 158 rfl) rfl
theorem q287 : (Jvm.Cond.lays "java/util/ArrayList" "java/util/ArrayList" "elementData" "[Ljava/lang/Object;") ∈ lw_all := lw_g (lw_at lw_m1 159 rfl) rfl
theorem q288 : (Jvm.Cond.soleField "java/util/ArrayList" "elementData") ∈ lw_all := lw_g (lw_at lw_m1 160 rfl) rfl
theorem q289 : (Jvm.Cond.lays "java/util/ArrayList" "java/util/ArrayList" "size" "I") ∈ lw_all := lw_g (lw_at lw_m1 161 rfl) rfl
theorem q290 : (Jvm.Cond.soleField "java/util/ArrayList" "size") ∈ lw_all := lw_g (lw_at lw_m1 162 rfl) rfl
theorem q291 : (Jvm.Cond.lays "java/util/ArrayList" "java/util/AbstractList" "modCount" "I") ∈ lw_all := lw_g (lw_at lw_m1 163 rfl) rfl
theorem q293 : (Jvm.Cond.superclass "java/util/ArrayList" "java/util/AbstractList") ∈ lw_all := lw_g (lw_at lw_m1 165 rfl) rfl
theorem q397 : (Jvm.Cond.instanceMethod ({ cls := "java/util/ArrayList", name := "size", desc := "()I" } : Jvm.MethodName)) ∈ lw_all := lw_g (lw_at lw_m2 29 rfl) rfl
theorem q398 : (Jvm.Cond.selects "java/util/ArrayList" ({ cls := "java/util/ArrayList", name := "size", desc := "()I" } : Jvm.MethodName) ({ cls := "java/util/ArrayList", name := "size", desc := "()I" } : Jvm.MethodName)) ∈ lw_all := lw_g (lw_at lw_m2 30 rfl) rfl
theorem q399 : (Jvm.Cond.code ({ cls := "java/util/ArrayList", name := "size", desc := "()I" } : Jvm.MethodName) prog_48_method_8_code (1 : Nat) (Option.some Jvm.ClassFile.FieldType.int)) ∈ lw_all := lw_g (lw_at lw_m2 31 rfl) rfl
theorem q401 : (Jvm.Cond.instanceMethod ({ cls := "java/util/ArrayList", name := "remove", desc := "(I)Ljava/lang/Object;" } : Jvm.MethodName)) ∈ lw_all := lw_g (lw_at lw_m2 33 rfl) rfl
theorem q402 : (Jvm.Cond.selects "java/util/ArrayList" ({ cls := "java/util/ArrayList", name := "remove", desc := "(I)Ljava/lang/Object;" } : Jvm.MethodName) ({ cls := "java/util/ArrayList", name := "remove", desc := "(I)Ljava/lang/Object;" } : Jvm.MethodName)) ∈ lw_all := lw_g (lw_at lw_m2 34 rfl) rfl
theorem q403 : (Jvm.Cond.code ({ cls := "java/util/ArrayList", name := "remove", desc := "(I)Ljava/lang/Object;" } : Jvm.MethodName) prog_48_method_29_code (4 : Nat) (Option.some (Jvm.ClassFile.FieldType.object "java/lang/Object"))) ∈ lw_all := lw_g (lw_at lw_m2 35 rfl) rfl
theorem q404 : (Jvm.Cond.methodLink "java/util/ArrayList" (118 : Nat) ({ cls := "java/util/Objects", name := "checkIndex", desc := "(II)I" } : Jvm.MethodName)) ∈ lw_all := lw_g (lw_at lw_m2 36 rfl) rfl
theorem q410 : (Jvm.Cond.methodLink "java/util/ArrayList" (144 : Nat) ({ cls := "java/util/ArrayList", name := "fastRemove", desc := "([Ljava/lang/Object;I)V" } : Jvm.MethodName)) ∈ lw_all := lw_g (lw_at lw_m2 42 rfl) rfl
theorem q411 : (Jvm.Cond.privateMethod ({ cls := "java/util/ArrayList", name := "fastRemove", desc := "([Ljava/lang/Object;I)V" } : Jvm.MethodName)) ∈ lw_tbl := lw_at lw_m2 43 rfl
theorem q412 : (Jvm.Cond.instanceMethod ({ cls := "java/util/ArrayList", name := "fastRemove", desc := "([Ljava/lang/Object;I)V" } : Jvm.MethodName)) ∈ lw_all := lw_g (lw_at lw_m2 44 rfl) rfl
theorem q413 : (Jvm.Cond.code ({ cls := "java/util/ArrayList", name := "fastRemove", desc := "([Ljava/lang/Object;I)V" } : Jvm.MethodName) prog_48_method_39_code (4 : Nat) (Option.none : Option Jvm.ClassFile.FieldType)) ∈ lw_all := lw_g (lw_at lw_m2 45 rfl) rfl
theorem q414 : (Jvm.Cond.methodLink "java/util/ArrayList" (112 : Nat) ({ cls := "java/lang/System", name := "arraycopy", desc := "(Ljava/lang/Object;ILjava/lang/Object;II)V" } : Jvm.MethodName)) ∈ lw_all := lw_g (lw_at lw_m2 46 rfl) rfl
theorem q664 : (Jvm.Cond.instanceMethod ({ cls := "java/util/ArrayList", name := "add", desc := "(Ljava/lang/Object;)Z" } : Jvm.MethodName)) ∈ lw_all := lw_g (lw_at lw_m3 56 rfl) rfl
theorem q665 : (Jvm.Cond.selects "java/util/ArrayList" ({ cls := "java/util/ArrayList", name := "add", desc := "(Ljava/lang/Object;)Z" } : Jvm.MethodName) ({ cls := "java/util/ArrayList", name := "add", desc := "(Ljava/lang/Object;)Z" } : Jvm.MethodName)) ∈ lw_all := lw_g (lw_at lw_m3 57 rfl) rfl
theorem q666 : (Jvm.Cond.code ({ cls := "java/util/ArrayList", name := "add", desc := "(Ljava/lang/Object;)Z" } : Jvm.MethodName) prog_48_method_25_code (2 : Nat) (Option.some Jvm.ClassFile.FieldType.boolean)) ∈ lw_all := lw_g (lw_at lw_m3 58 rfl) rfl
theorem q667 : (Jvm.Cond.methodLink "java/util/ArrayList" (131 : Nat) ({ cls := "java/util/ArrayList", name := "add", desc := "(Ljava/lang/Object;[Ljava/lang/Object;I)V" } : Jvm.MethodName)) ∈ lw_all := lw_g (lw_at lw_m3 59 rfl) rfl
theorem q668 : (Jvm.Cond.privateMethod ({ cls := "java/util/ArrayList", name := "add", desc := "(Ljava/lang/Object;[Ljava/lang/Object;I)V" } : Jvm.MethodName)) ∈ lw_tbl := lw_at lw_m3 60 rfl
theorem q669 : (Jvm.Cond.instanceMethod ({ cls := "java/util/ArrayList", name := "add", desc := "(Ljava/lang/Object;[Ljava/lang/Object;I)V" } : Jvm.MethodName)) ∈ lw_all := lw_g (lw_at lw_m3 61 rfl) rfl
theorem q670 : (Jvm.Cond.code ({ cls := "java/util/ArrayList", name := "add", desc := "(Ljava/lang/Object;[Ljava/lang/Object;I)V" } : Jvm.MethodName) prog_48_method_24_code (4 : Nat) (Option.none : Option Jvm.ClassFile.FieldType)) ∈ lw_all := lw_g (lw_at lw_m3 62 rfl) rfl
theorem q671 : (Jvm.Cond.methodLink "java/util/ArrayList" (129 : Nat) ({ cls := "java/util/ArrayList", name := "grow", desc := "()[Ljava/lang/Object;" } : Jvm.MethodName)) ∈ lw_all := lw_g (lw_at lw_m3 63 rfl) rfl
theorem q672 : (Jvm.Cond.privateMethod ({ cls := "java/util/ArrayList", name := "grow", desc := "()[Ljava/lang/Object;" } : Jvm.MethodName)) ∈ lw_tbl := lw_at lw_m3 64 rfl
theorem q673 : (Jvm.Cond.instanceMethod ({ cls := "java/util/ArrayList", name := "grow", desc := "()[Ljava/lang/Object;" } : Jvm.MethodName)) ∈ lw_all := lw_g (lw_at lw_m3 65 rfl) rfl
theorem q674 : (Jvm.Cond.code ({ cls := "java/util/ArrayList", name := "grow", desc := "()[Ljava/lang/Object;" } : Jvm.MethodName) prog_48_method_7_code (1 : Nat) (Option.some (Jvm.ClassFile.FieldType.array (Jvm.ClassFile.FieldType.object "java/lang/Object")))) ∈ lw_all := lw_g (lw_at lw_m3 66 rfl) rfl
theorem q675 : (Jvm.Cond.methodLink "java/util/ArrayList" (69 : Nat) ({ cls := "java/util/ArrayList", name := "grow", desc := "(I)[Ljava/lang/Object;" } : Jvm.MethodName)) ∈ lw_all := lw_g (lw_at lw_m3 67 rfl) rfl
theorem q676 : (Jvm.Cond.privateMethod ({ cls := "java/util/ArrayList", name := "grow", desc := "(I)[Ljava/lang/Object;" } : Jvm.MethodName)) ∈ lw_tbl := lw_at lw_m3 68 rfl
theorem q677 : (Jvm.Cond.instanceMethod ({ cls := "java/util/ArrayList", name := "grow", desc := "(I)[Ljava/lang/Object;" } : Jvm.MethodName)) ∈ lw_all := lw_g (lw_at lw_m3 69 rfl) rfl
theorem q678 : (Jvm.Cond.code ({ cls := "java/util/ArrayList", name := "grow", desc := "(I)[Ljava/lang/Object;" } : Jvm.MethodName) prog_48_method_6_code (4 : Nat) (Option.some (Jvm.ClassFile.FieldType.array (Jvm.ClassFile.FieldType.object "java/lang/Object")))) ∈ lw_all := lw_g (lw_at lw_m3 70 rfl) rfl
theorem q679 : (Jvm.Cond.methodLink "java/util/ArrayList" (73 : Nat) ({ cls := "jdk/internal/util/ArraysSupport", name := "newLength", desc := "(III)I" } : Jvm.MethodName)) ∈ lw_all := lw_g (lw_at lw_m3 71 rfl) rfl
theorem q689 : (Jvm.Cond.methodLink "java/util/ArrayList" (66 : Nat) ({ cls := "java/util/Arrays", name := "copyOf", desc := "([Ljava/lang/Object;I)[Ljava/lang/Object;" } : Jvm.MethodName)) ∈ lw_all := lw_g (lw_at lw_m3 81 rfl) rfl
theorem q713 : (Jvm.Cond.selects "java/util/ArrayList" ({ cls := "java/lang/Object", name := "getClass", desc := "()Ljava/lang/Class;" } : Jvm.MethodName) ({ cls := "java/lang/Object", name := "getClass", desc := "()Ljava/lang/Class;" } : Jvm.MethodName)) ∈ lw_all := lw_g (lw_at lw_m3 105 rfl) rfl
theorem q729 : (Jvm.Cond.methodLink "java/util/ArrayList" (79 : Nat) ({ cls := "java/lang/Math", name := "max", desc := "(II)I" } : Jvm.MethodName)) ∈ lw_all := lw_g (lw_at lw_m3 121 rfl) rfl
theorem q730 : (Jvm.Cond.classLink "java/util/ArrayList" (7 : Nat) "java/lang/Object") ∈ lw_all := lw_g (lw_at lw_m3 122 rfl) rfl
theorem q826 : (Jvm.Cond.instanceMethod ({ cls := "java/util/ArrayList", name := "get", desc := "(I)Ljava/lang/Object;" } : Jvm.MethodName)) ∈ lw_all := lw_g (lw_at lw_m3 218 rfl) rfl
theorem q827 : (Jvm.Cond.selects "java/util/ArrayList" ({ cls := "java/util/ArrayList", name := "get", desc := "(I)Ljava/lang/Object;" } : Jvm.MethodName) ({ cls := "java/util/ArrayList", name := "get", desc := "(I)Ljava/lang/Object;" } : Jvm.MethodName)) ∈ lw_all := lw_g (lw_at lw_m3 219 rfl) rfl
theorem q828 : (Jvm.Cond.code ({ cls := "java/util/ArrayList", name := "get", desc := "(I)Ljava/lang/Object;" } : Jvm.MethodName) prog_48_method_20_code (2 : Nat) (Option.some (Jvm.ClassFile.FieldType.object "java/lang/Object"))) ∈ lw_all := lw_g (lw_at lw_m3 220 rfl) rfl
theorem q829 : (Jvm.Cond.methodLink "java/util/ArrayList" (123 : Nat) ({ cls := "java/util/ArrayList", name := "elementData", desc := "(I)Ljava/lang/Object;" } : Jvm.MethodName)) ∈ lw_all := lw_g (lw_at lw_m3 221 rfl) rfl
theorem q830 : (Jvm.Cond.instanceMethod ({ cls := "java/util/ArrayList", name := "elementData", desc := "(I)Ljava/lang/Object;" } : Jvm.MethodName)) ∈ lw_all := lw_g (lw_at lw_m3 222 rfl) rfl
theorem q831 : (Jvm.Cond.selects "java/util/ArrayList" ({ cls := "java/util/ArrayList", name := "elementData", desc := "(I)Ljava/lang/Object;" } : Jvm.MethodName) ({ cls := "java/util/ArrayList", name := "elementData", desc := "(I)Ljava/lang/Object;" } : Jvm.MethodName)) ∈ lw_all := lw_g (lw_at lw_m3 223 rfl) rfl
theorem q832 : (Jvm.Cond.code ({ cls := "java/util/ArrayList", name := "elementData", desc := "(I)Ljava/lang/Object;" } : Jvm.MethodName) prog_48_method_18_code (2 : Nat) (Option.some (Jvm.ClassFile.FieldType.object "java/lang/Object"))) ∈ lw_all := lw_g (lw_at lw_m3 224 rfl) rfl
theorem q834 : (Jvm.Cond.instanceMethod ({ cls := "java/util/ArrayList", name := "iterator", desc := "()Ljava/util/Iterator;" } : Jvm.MethodName)) ∈ lw_all := lw_g (lw_at lw_m3 226 rfl) rfl
theorem q835 : (Jvm.Cond.selects "java/util/ArrayList" ({ cls := "java/util/ArrayList", name := "iterator", desc := "()Ljava/util/Iterator;" } : Jvm.MethodName) ({ cls := "java/util/ArrayList", name := "iterator", desc := "()Ljava/util/Iterator;" } : Jvm.MethodName)) ∈ lw_all := lw_g (lw_at lw_m3 227 rfl) rfl
theorem q836 : (Jvm.Cond.code ({ cls := "java/util/ArrayList", name := "iterator", desc := "()Ljava/util/Iterator;" } : Jvm.MethodName) prog_48_method_55_code (1 : Nat) (Option.some (Jvm.ClassFile.FieldType.object "java/util/Iterator"))) ∈ lw_all := lw_g (lw_at lw_m3 228 rfl) rfl
theorem q837 : (Jvm.Cond.classLink "java/util/ArrayList" (267 : Nat) "java/util/ArrayList$Itr") ∈ lw_all := lw_g (lw_at lw_m3 229 rfl) rfl
theorem q839 : (Jvm.Cond.methodLink "java/util/ArrayList" (269 : Nat) ({ cls := "java/util/ArrayList$Itr", name := "<init>", desc := "(Ljava/util/ArrayList;)V" } : Jvm.MethodName)) ∈ lw_all := lw_g (lw_at lw_m3 231 rfl) rfl
theorem q1518 : (Jvm.Cond.castable "java/util/ArrayList" "java/util/Collection") ∈ lw_tbl := lw_at lw_m6 190 rfl
theorem q1519 : (Jvm.Cond.selects "java/util/ArrayList" ({ cls := "java/util/Collection", name := "iterator", desc := "()Ljava/util/Iterator;" } : Jvm.MethodName) ({ cls := "java/util/ArrayList", name := "iterator", desc := "()Ljava/util/Iterator;" } : Jvm.MethodName)) ∈ lw_all := lw_g (lw_at lw_m6 191 rfl) rfl
theorem q1520 : (Jvm.Cond.unhidden "java/util/ArrayList" "iterator" "()Ljava/util/Iterator;") ∈ lw_tbl := lw_at lw_m6 192 rfl
theorem q1521 : (Jvm.Cond.publicMethod ({ cls := "java/util/ArrayList", name := "iterator", desc := "()Ljava/util/Iterator;" } : Jvm.MethodName)) ∈ lw_tbl := lw_at lw_m6 193 rfl
theorem q2778 : (Jvm.Cond.castable "java/util/ArrayList" "java/lang/Object") ∈ lw_tbl := lw_at lw_m12 10 rfl
theorem in_J2 : ∀ w ∈ wsJ20, w ∈ lw_all := lw_in wsJ20 [291, 287, 289] (by decide +kernel) (by decide +kernel)
/-! java/lang/StringLatin1 -/
set_option maxRecDepth 100000
def RJ20 : String := "java/lang/StringLatin1"
abbrev cJ20_canEncode : ByteArray := prog_39_method_3_code
def yJ20_canEncode : MethodName := ⟨RJ20, "canEncode", "(C)Z"⟩
def dkwJ20_canEncode_0 : List UInt8 := [26, 17, 0, 255, 163, 0, 7, 4, 167, 0, 4, 3, 172]
abbrev dktJ20_canEncode_0 : List UInt8 := dkwJ20_canEncode_0 ++ []
theorem dksJ20_canEncode_0 : cJ20_canEncode.data.toList.drop 0 = dktJ20_canEncode_0 := by decide +kernel
theorem dJ20_canEncode_0 : decode cJ20_canEncode 0 = .ok (.iload_n 0, 1) := dk_26 (dk_at dksJ20_canEncode_0 0 rfl rfl)
theorem dJ20_canEncode_1 : decode cJ20_canEncode 1 = .ok (.sipush 255, 3) := dk_17 0 255 (dk_at dksJ20_canEncode_0 1 rfl rfl)
theorem dJ20_canEncode_4 : decode cJ20_canEncode 4 = .ok (.if_icmp .gt 7, 3) := dk_163 0 7 (dk_at dksJ20_canEncode_0 4 rfl rfl)
theorem dJ20_canEncode_7 : decode cJ20_canEncode 7 = .ok (.iconst 1, 1) := dk_4 (dk_at dksJ20_canEncode_0 7 rfl rfl)
theorem dJ20_canEncode_8 : decode cJ20_canEncode 8 = .ok (.goto 4, 3) := dk_167 0 4 (dk_at dksJ20_canEncode_0 8 rfl rfl)
theorem dJ20_canEncode_11 : decode cJ20_canEncode 11 = .ok (.iconst 0, 1) := dk_3 (dk_at dksJ20_canEncode_0 11 rfl rfl)
theorem dJ20_canEncode_12 : decode cJ20_canEncode 12 = .ok (.ireturn, 1) := dk_172 (dk_at dksJ20_canEncode_0 12 rfl rfl)
abbrev cJ20_inflate : ByteArray := prog_39_method_50_code
def yJ20_inflate : MethodName := ⟨RJ20, "inflate", "([BI[BII)V"⟩
def dkwJ20_inflate_0 : List UInt8 := [42, 27, 44, 29, 21, 4, 184, 0, 240, 177]
abbrev dktJ20_inflate_0 : List UInt8 := dkwJ20_inflate_0 ++ []
theorem dksJ20_inflate_0 : cJ20_inflate.data.toList.drop 0 = dktJ20_inflate_0 := by decide +kernel
theorem dJ20_inflate_0 : decode cJ20_inflate 0 = .ok (.aload_n 0, 1) := dk_42 (dk_at dksJ20_inflate_0 0 rfl rfl)
theorem dJ20_inflate_1 : decode cJ20_inflate 1 = .ok (.iload_n 1, 1) := dk_27 (dk_at dksJ20_inflate_0 1 rfl rfl)
theorem dJ20_inflate_2 : decode cJ20_inflate 2 = .ok (.aload_n 2, 1) := dk_44 (dk_at dksJ20_inflate_0 2 rfl rfl)
theorem dJ20_inflate_3 : decode cJ20_inflate 3 = .ok (.iload_n 3, 1) := dk_29 (dk_at dksJ20_inflate_0 3 rfl rfl)
theorem dJ20_inflate_4 : decode cJ20_inflate 4 = .ok (.iload 4, 2) := dk_21 4 (dk_at dksJ20_inflate_0 4 rfl rfl)
theorem dJ20_inflate_6 : decode cJ20_inflate 6 = .ok (.invokestatic 240, 3) := dk_184 0 240 (dk_at dksJ20_inflate_0 6 rfl rfl)
theorem dJ20_inflate_9 : decode cJ20_inflate 9 = .ok (.return_, 1) := dk_177 (dk_at dksJ20_inflate_0 9 rfl rfl)
abbrev cJ20_compareTo : ByteArray := prog_39_method_14_code
def yJ20_compareTo : MethodName := ⟨RJ20, "compareTo", "([B[B)I"⟩
def dkwJ20_compareTo_0 : List UInt8 := [42, 190, 61, 43, 190, 62, 42, 43, 28, 29, 184, 0, 34, 172]
abbrev dktJ20_compareTo_0 : List UInt8 := dkwJ20_compareTo_0 ++ []
theorem dksJ20_compareTo_0 : cJ20_compareTo.data.toList.drop 0 = dktJ20_compareTo_0 := by decide +kernel
theorem dJ20_compareTo_0 : decode cJ20_compareTo 0 = .ok (.aload_n 0, 1) := dk_42 (dk_at dksJ20_compareTo_0 0 rfl rfl)
theorem dJ20_compareTo_1 : decode cJ20_compareTo 1 = .ok (.arraylength, 1) := dk_190 (dk_at dksJ20_compareTo_0 1 rfl rfl)
theorem dJ20_compareTo_2 : decode cJ20_compareTo 2 = .ok (.istore_n 2, 1) := dk_61 (dk_at dksJ20_compareTo_0 2 rfl rfl)
theorem dJ20_compareTo_3 : decode cJ20_compareTo 3 = .ok (.aload_n 1, 1) := dk_43 (dk_at dksJ20_compareTo_0 3 rfl rfl)
theorem dJ20_compareTo_4 : decode cJ20_compareTo 4 = .ok (.arraylength, 1) := dk_190 (dk_at dksJ20_compareTo_0 4 rfl rfl)
theorem dJ20_compareTo_5 : decode cJ20_compareTo 5 = .ok (.istore_n 3, 1) := dk_62 (dk_at dksJ20_compareTo_0 5 rfl rfl)
theorem dJ20_compareTo_6 : decode cJ20_compareTo 6 = .ok (.aload_n 0, 1) := dk_42 (dk_at dksJ20_compareTo_0 6 rfl rfl)
theorem dJ20_compareTo_7 : decode cJ20_compareTo 7 = .ok (.aload_n 1, 1) := dk_43 (dk_at dksJ20_compareTo_0 7 rfl rfl)
theorem dJ20_compareTo_8 : decode cJ20_compareTo 8 = .ok (.iload_n 2, 1) := dk_28 (dk_at dksJ20_compareTo_0 8 rfl rfl)
theorem dJ20_compareTo_9 : decode cJ20_compareTo 9 = .ok (.iload_n 3, 1) := dk_29 (dk_at dksJ20_compareTo_0 9 rfl rfl)
theorem dJ20_compareTo_10 : decode cJ20_compareTo 10 = .ok (.invokestatic 34, 3) := dk_184 0 34 (dk_at dksJ20_compareTo_0 10 rfl rfl)
theorem dJ20_compareTo_13 : decode cJ20_compareTo 13 = .ok (.ireturn, 1) := dk_172 (dk_at dksJ20_compareTo_0 13 rfl rfl)
abbrev cJ20_compareTo_2 : ByteArray := prog_39_method_15_code
def yJ20_compareTo_2 : MethodName := ⟨RJ20, "compareTo", "([B[BII)I"⟩
def dkwJ20_compareTo_2_1 : List UInt8 := [167, 0, 16, 42, 21, 5, 184, 0, 50, 43, 21, 5, 184, 0, 50, 100, 172]
abbrev dktJ20_compareTo_2_1 : List UInt8 := dkwJ20_compareTo_2_1 ++ []
def dkwJ20_compareTo_2_0 : List UInt8 := [28, 29, 184, 0, 38, 54, 4, 42, 43, 21, 4, 184, 0, 44, 54, 5, 21, 5, 156, 0, 9, 28, 29, 100]
abbrev dktJ20_compareTo_2_0 : List UInt8 := dkwJ20_compareTo_2_0 ++ dktJ20_compareTo_2_1
theorem dksJ20_compareTo_2_0 : cJ20_compareTo_2.data.toList.drop 0 = dktJ20_compareTo_2_0 := by decide +kernel
theorem dksJ20_compareTo_2_1 : cJ20_compareTo_2.data.toList.drop 24 = dktJ20_compareTo_2_1 := dk_seg dksJ20_compareTo_2_0 24 rfl rfl
theorem dJ20_compareTo_2_0 : decode cJ20_compareTo_2 0 = .ok (.iload_n 2, 1) := dk_28 (dk_at dksJ20_compareTo_2_0 0 rfl rfl)
theorem dJ20_compareTo_2_1 : decode cJ20_compareTo_2 1 = .ok (.iload_n 3, 1) := dk_29 (dk_at dksJ20_compareTo_2_0 1 rfl rfl)
theorem dJ20_compareTo_2_2 : decode cJ20_compareTo_2 2 = .ok (.invokestatic 38, 3) := dk_184 0 38 (dk_at dksJ20_compareTo_2_0 2 rfl rfl)
theorem dJ20_compareTo_2_5 : decode cJ20_compareTo_2 5 = .ok (.istore 4, 2) := dk_54 4 (dk_at dksJ20_compareTo_2_0 5 rfl rfl)
theorem dJ20_compareTo_2_7 : decode cJ20_compareTo_2 7 = .ok (.aload_n 0, 1) := dk_42 (dk_at dksJ20_compareTo_2_0 7 rfl rfl)
theorem dJ20_compareTo_2_8 : decode cJ20_compareTo_2 8 = .ok (.aload_n 1, 1) := dk_43 (dk_at dksJ20_compareTo_2_0 8 rfl rfl)
theorem dJ20_compareTo_2_9 : decode cJ20_compareTo_2 9 = .ok (.iload 4, 2) := dk_21 4 (dk_at dksJ20_compareTo_2_0 9 rfl rfl)
theorem dJ20_compareTo_2_11 : decode cJ20_compareTo_2 11 = .ok (.invokestatic 44, 3) := dk_184 0 44 (dk_at dksJ20_compareTo_2_0 11 rfl rfl)
theorem dJ20_compareTo_2_14 : decode cJ20_compareTo_2 14 = .ok (.istore 5, 2) := dk_54 5 (dk_at dksJ20_compareTo_2_0 14 rfl rfl)
theorem dJ20_compareTo_2_16 : decode cJ20_compareTo_2 16 = .ok (.iload 5, 2) := dk_21 5 (dk_at dksJ20_compareTo_2_0 16 rfl rfl)
theorem dJ20_compareTo_2_18 : decode cJ20_compareTo_2 18 = .ok (.ifCond .ge 9, 3) := dk_156 0 9 (dk_at dksJ20_compareTo_2_0 18 rfl rfl)
theorem dJ20_compareTo_2_21 : decode cJ20_compareTo_2 21 = .ok (.iload_n 2, 1) := dk_28 (dk_at dksJ20_compareTo_2_0 21 rfl rfl)
theorem dJ20_compareTo_2_22 : decode cJ20_compareTo_2 22 = .ok (.iload_n 3, 1) := dk_29 (dk_at dksJ20_compareTo_2_0 22 rfl rfl)
theorem dJ20_compareTo_2_23 : decode cJ20_compareTo_2 23 = .ok (.isub, 1) := dk_100 (dk_at dksJ20_compareTo_2_0 23 rfl rfl)
theorem dJ20_compareTo_2_24 : decode cJ20_compareTo_2 24 = .ok (.goto 16, 3) := dk_167 0 16 (dk_at dksJ20_compareTo_2_1 0 rfl rfl)
theorem dJ20_compareTo_2_27 : decode cJ20_compareTo_2 27 = .ok (.aload_n 0, 1) := dk_42 (dk_at dksJ20_compareTo_2_1 3 rfl rfl)
theorem dJ20_compareTo_2_28 : decode cJ20_compareTo_2 28 = .ok (.iload 5, 2) := dk_21 5 (dk_at dksJ20_compareTo_2_1 4 rfl rfl)
theorem dJ20_compareTo_2_30 : decode cJ20_compareTo_2 30 = .ok (.invokestatic 50, 3) := dk_184 0 50 (dk_at dksJ20_compareTo_2_1 6 rfl rfl)
theorem dJ20_compareTo_2_33 : decode cJ20_compareTo_2 33 = .ok (.aload_n 1, 1) := dk_43 (dk_at dksJ20_compareTo_2_1 9 rfl rfl)
theorem dJ20_compareTo_2_34 : decode cJ20_compareTo_2 34 = .ok (.iload 5, 2) := dk_21 5 (dk_at dksJ20_compareTo_2_1 10 rfl rfl)
theorem dJ20_compareTo_2_36 : decode cJ20_compareTo_2 36 = .ok (.invokestatic 50, 3) := dk_184 0 50 (dk_at dksJ20_compareTo_2_1 12 rfl rfl)
theorem dJ20_compareTo_2_39 : decode cJ20_compareTo_2 39 = .ok (.isub, 1) := dk_100 (dk_at dksJ20_compareTo_2_1 15 rfl rfl)
theorem dJ20_compareTo_2_40 : decode cJ20_compareTo_2 40 = .ok (.ireturn, 1) := dk_172 (dk_at dksJ20_compareTo_2_1 16 rfl rfl)
abbrev cJ20_getChar : ByteArray := prog_39_method_44_code
def yJ20_getChar : MethodName := ⟨RJ20, "getChar", "([BI)C"⟩
def dkwJ20_getChar_0 : List UInt8 := [42, 27, 51, 17, 0, 255, 126, 146, 172]
abbrev dktJ20_getChar_0 : List UInt8 := dkwJ20_getChar_0 ++ []
theorem dksJ20_getChar_0 : cJ20_getChar.data.toList.drop 0 = dktJ20_getChar_0 := by decide +kernel
theorem dJ20_getChar_0 : decode cJ20_getChar 0 = .ok (.aload_n 0, 1) := dk_42 (dk_at dksJ20_getChar_0 0 rfl rfl)
theorem dJ20_getChar_1 : decode cJ20_getChar 1 = .ok (.iload_n 1, 1) := dk_27 (dk_at dksJ20_getChar_0 1 rfl rfl)
theorem dJ20_getChar_2 : decode cJ20_getChar 2 = .ok (.baload, 1) := dk_51 (dk_at dksJ20_getChar_0 2 rfl rfl)
theorem dJ20_getChar_3 : decode cJ20_getChar 3 = .ok (.sipush 255, 3) := dk_17 0 255 (dk_at dksJ20_getChar_0 3 rfl rfl)
theorem dJ20_getChar_6 : decode cJ20_getChar 6 = .ok (.iand, 1) := dk_126 (dk_at dksJ20_getChar_0 6 rfl rfl)
theorem dJ20_getChar_7 : decode cJ20_getChar 7 = .ok (.i2c, 1) := dk_146 (dk_at dksJ20_getChar_0 7 rfl rfl)
theorem dJ20_getChar_8 : decode cJ20_getChar 8 = .ok (.ireturn, 1) := dk_172 (dk_at dksJ20_getChar_0 8 rfl rfl)
abbrev cJ20_compareToUTF16 : ByteArray := prog_39_method_16_code
def yJ20_compareToUTF16 : MethodName := ⟨RJ20, "compareToUTF16", "([B[B)I"⟩
def dkwJ20_compareToUTF16_0 : List UInt8 := [42, 184, 0, 54, 61, 43, 184, 0, 58, 62, 42, 43, 28, 29, 184, 0, 59, 172]
abbrev dktJ20_compareToUTF16_0 : List UInt8 := dkwJ20_compareToUTF16_0 ++ []
theorem dksJ20_compareToUTF16_0 : cJ20_compareToUTF16.data.toList.drop 0 = dktJ20_compareToUTF16_0 := by decide +kernel
theorem dJ20_compareToUTF16_0 : decode cJ20_compareToUTF16 0 = .ok (.aload_n 0, 1) := dk_42 (dk_at dksJ20_compareToUTF16_0 0 rfl rfl)
theorem dJ20_compareToUTF16_1 : decode cJ20_compareToUTF16 1 = .ok (.invokestatic 54, 3) := dk_184 0 54 (dk_at dksJ20_compareToUTF16_0 1 rfl rfl)
theorem dJ20_compareToUTF16_4 : decode cJ20_compareToUTF16 4 = .ok (.istore_n 2, 1) := dk_61 (dk_at dksJ20_compareToUTF16_0 4 rfl rfl)
theorem dJ20_compareToUTF16_5 : decode cJ20_compareToUTF16 5 = .ok (.aload_n 1, 1) := dk_43 (dk_at dksJ20_compareToUTF16_0 5 rfl rfl)
theorem dJ20_compareToUTF16_6 : decode cJ20_compareToUTF16 6 = .ok (.invokestatic 58, 3) := dk_184 0 58 (dk_at dksJ20_compareToUTF16_0 6 rfl rfl)
theorem dJ20_compareToUTF16_9 : decode cJ20_compareToUTF16 9 = .ok (.istore_n 3, 1) := dk_62 (dk_at dksJ20_compareToUTF16_0 9 rfl rfl)
theorem dJ20_compareToUTF16_10 : decode cJ20_compareToUTF16 10 = .ok (.aload_n 0, 1) := dk_42 (dk_at dksJ20_compareToUTF16_0 10 rfl rfl)
theorem dJ20_compareToUTF16_11 : decode cJ20_compareToUTF16 11 = .ok (.aload_n 1, 1) := dk_43 (dk_at dksJ20_compareToUTF16_0 11 rfl rfl)
theorem dJ20_compareToUTF16_12 : decode cJ20_compareToUTF16 12 = .ok (.iload_n 2, 1) := dk_28 (dk_at dksJ20_compareToUTF16_0 12 rfl rfl)
theorem dJ20_compareToUTF16_13 : decode cJ20_compareToUTF16 13 = .ok (.iload_n 3, 1) := dk_29 (dk_at dksJ20_compareToUTF16_0 13 rfl rfl)
theorem dJ20_compareToUTF16_14 : decode cJ20_compareToUTF16 14 = .ok (.invokestatic 59, 3) := dk_184 0 59 (dk_at dksJ20_compareToUTF16_0 14 rfl rfl)
theorem dJ20_compareToUTF16_17 : decode cJ20_compareToUTF16 17 = .ok (.ireturn, 1) := dk_172 (dk_at dksJ20_compareToUTF16_0 17 rfl rfl)
abbrev cJ20_length : ByteArray := prog_39_method_5_code
def yJ20_length : MethodName := ⟨RJ20, "length", "([B)I"⟩
theorem dJ20_length_0 : decode cJ20_length 0 = .ok (.aload_n 0, 1) := by decide +kernel
theorem dJ20_length_1 : decode cJ20_length 1 = .ok (.arraylength, 1) := by decide +kernel
theorem dJ20_length_2 : decode cJ20_length 2 = .ok (.ireturn, 1) := by decide +kernel
abbrev cJ20_compareToUTF16Values : ByteArray := prog_39_method_18_code
def yJ20_compareToUTF16Values : MethodName := ⟨RJ20, "compareToUTF16Values", "([B[BII)I"⟩
def dkwJ20_compareToUTF16Values_2 : List UInt8 := [132, 5, 1, 167, 255, 217, 28, 29, 100, 172]
abbrev dktJ20_compareToUTF16Values_2 : List UInt8 := dkwJ20_compareToUTF16Values_2 ++ []
def dkwJ20_compareToUTF16Values_1 : List UInt8 := [54, 6, 43, 21, 5, 184, 0, 65, 54, 7, 21, 6, 21, 7, 159, 0, 9, 21, 6, 21, 7, 100, 172]
abbrev dktJ20_compareToUTF16Values_1 : List UInt8 := dkwJ20_compareToUTF16Values_1 ++ dktJ20_compareToUTF16Values_2
def dkwJ20_compareToUTF16Values_0 : List UInt8 := [28, 29, 184, 0, 38, 54, 4, 3, 54, 5, 21, 5, 21, 4, 162, 0, 38, 42, 21, 5, 184, 0, 50]
abbrev dktJ20_compareToUTF16Values_0 : List UInt8 := dkwJ20_compareToUTF16Values_0 ++ dktJ20_compareToUTF16Values_1
theorem dksJ20_compareToUTF16Values_0 : cJ20_compareToUTF16Values.data.toList.drop 0 = dktJ20_compareToUTF16Values_0 := by decide +kernel
theorem dksJ20_compareToUTF16Values_1 : cJ20_compareToUTF16Values.data.toList.drop 23 = dktJ20_compareToUTF16Values_1 := dk_seg dksJ20_compareToUTF16Values_0 23 rfl rfl
theorem dksJ20_compareToUTF16Values_2 : cJ20_compareToUTF16Values.data.toList.drop 46 = dktJ20_compareToUTF16Values_2 := dk_seg dksJ20_compareToUTF16Values_1 23 rfl rfl
theorem dJ20_compareToUTF16Values_0 : decode cJ20_compareToUTF16Values 0 = .ok (.iload_n 2, 1) := dk_28 (dk_at dksJ20_compareToUTF16Values_0 0 rfl rfl)
theorem dJ20_compareToUTF16Values_1 : decode cJ20_compareToUTF16Values 1 = .ok (.iload_n 3, 1) := dk_29 (dk_at dksJ20_compareToUTF16Values_0 1 rfl rfl)
theorem dJ20_compareToUTF16Values_2 : decode cJ20_compareToUTF16Values 2 = .ok (.invokestatic 38, 3) := dk_184 0 38 (dk_at dksJ20_compareToUTF16Values_0 2 rfl rfl)
theorem dJ20_compareToUTF16Values_5 : decode cJ20_compareToUTF16Values 5 = .ok (.istore 4, 2) := dk_54 4 (dk_at dksJ20_compareToUTF16Values_0 5 rfl rfl)
theorem dJ20_compareToUTF16Values_7 : decode cJ20_compareToUTF16Values 7 = .ok (.iconst 0, 1) := dk_3 (dk_at dksJ20_compareToUTF16Values_0 7 rfl rfl)
theorem dJ20_compareToUTF16Values_8 : decode cJ20_compareToUTF16Values 8 = .ok (.istore 5, 2) := dk_54 5 (dk_at dksJ20_compareToUTF16Values_0 8 rfl rfl)
theorem dJ20_compareToUTF16Values_10 : decode cJ20_compareToUTF16Values 10 = .ok (.iload 5, 2) := dk_21 5 (dk_at dksJ20_compareToUTF16Values_0 10 rfl rfl)
theorem dJ20_compareToUTF16Values_12 : decode cJ20_compareToUTF16Values 12 = .ok (.iload 4, 2) := dk_21 4 (dk_at dksJ20_compareToUTF16Values_0 12 rfl rfl)
theorem dJ20_compareToUTF16Values_14 : decode cJ20_compareToUTF16Values 14 = .ok (.if_icmp .ge 38, 3) := dk_162 0 38 (dk_at dksJ20_compareToUTF16Values_0 14 rfl rfl)
theorem dJ20_compareToUTF16Values_17 : decode cJ20_compareToUTF16Values 17 = .ok (.aload_n 0, 1) := dk_42 (dk_at dksJ20_compareToUTF16Values_0 17 rfl rfl)
theorem dJ20_compareToUTF16Values_18 : decode cJ20_compareToUTF16Values 18 = .ok (.iload 5, 2) := dk_21 5 (dk_at dksJ20_compareToUTF16Values_0 18 rfl rfl)
theorem dJ20_compareToUTF16Values_20 : decode cJ20_compareToUTF16Values 20 = .ok (.invokestatic 50, 3) := dk_184 0 50 (dk_at dksJ20_compareToUTF16Values_0 20 rfl rfl)
theorem dJ20_compareToUTF16Values_23 : decode cJ20_compareToUTF16Values 23 = .ok (.istore 6, 2) := dk_54 6 (dk_at dksJ20_compareToUTF16Values_1 0 rfl rfl)
theorem dJ20_compareToUTF16Values_25 : decode cJ20_compareToUTF16Values 25 = .ok (.aload_n 1, 1) := dk_43 (dk_at dksJ20_compareToUTF16Values_1 2 rfl rfl)
theorem dJ20_compareToUTF16Values_26 : decode cJ20_compareToUTF16Values 26 = .ok (.iload 5, 2) := dk_21 5 (dk_at dksJ20_compareToUTF16Values_1 3 rfl rfl)
theorem dJ20_compareToUTF16Values_28 : decode cJ20_compareToUTF16Values 28 = .ok (.invokestatic 65, 3) := dk_184 0 65 (dk_at dksJ20_compareToUTF16Values_1 5 rfl rfl)
theorem dJ20_compareToUTF16Values_31 : decode cJ20_compareToUTF16Values 31 = .ok (.istore 7, 2) := dk_54 7 (dk_at dksJ20_compareToUTF16Values_1 8 rfl rfl)
theorem dJ20_compareToUTF16Values_33 : decode cJ20_compareToUTF16Values 33 = .ok (.iload 6, 2) := dk_21 6 (dk_at dksJ20_compareToUTF16Values_1 10 rfl rfl)
theorem dJ20_compareToUTF16Values_35 : decode cJ20_compareToUTF16Values 35 = .ok (.iload 7, 2) := dk_21 7 (dk_at dksJ20_compareToUTF16Values_1 12 rfl rfl)
theorem dJ20_compareToUTF16Values_37 : decode cJ20_compareToUTF16Values 37 = .ok (.if_icmp .eq 9, 3) := dk_159 0 9 (dk_at dksJ20_compareToUTF16Values_1 14 rfl rfl)
theorem dJ20_compareToUTF16Values_40 : decode cJ20_compareToUTF16Values 40 = .ok (.iload 6, 2) := dk_21 6 (dk_at dksJ20_compareToUTF16Values_1 17 rfl rfl)
theorem dJ20_compareToUTF16Values_42 : decode cJ20_compareToUTF16Values 42 = .ok (.iload 7, 2) := dk_21 7 (dk_at dksJ20_compareToUTF16Values_1 19 rfl rfl)
theorem dJ20_compareToUTF16Values_44 : decode cJ20_compareToUTF16Values 44 = .ok (.isub, 1) := dk_100 (dk_at dksJ20_compareToUTF16Values_1 21 rfl rfl)
theorem dJ20_compareToUTF16Values_45 : decode cJ20_compareToUTF16Values 45 = .ok (.ireturn, 1) := dk_172 (dk_at dksJ20_compareToUTF16Values_1 22 rfl rfl)
theorem dJ20_compareToUTF16Values_46 : decode cJ20_compareToUTF16Values 46 = .ok (.iinc 5 1, 3) := dk_132 5 1 (dk_at dksJ20_compareToUTF16Values_2 0 rfl rfl)
theorem dJ20_compareToUTF16Values_49 : decode cJ20_compareToUTF16Values 49 = .ok (.goto (-39), 3) := dk_167 255 217 (dk_at dksJ20_compareToUTF16Values_2 3 rfl rfl)
theorem dJ20_compareToUTF16Values_52 : decode cJ20_compareToUTF16Values 52 = .ok (.iload_n 2, 1) := dk_28 (dk_at dksJ20_compareToUTF16Values_2 6 rfl rfl)
theorem dJ20_compareToUTF16Values_53 : decode cJ20_compareToUTF16Values 53 = .ok (.iload_n 3, 1) := dk_29 (dk_at dksJ20_compareToUTF16Values_2 7 rfl rfl)
theorem dJ20_compareToUTF16Values_54 : decode cJ20_compareToUTF16Values 54 = .ok (.isub, 1) := dk_100 (dk_at dksJ20_compareToUTF16Values_2 8 rfl rfl)
theorem dJ20_compareToUTF16Values_55 : decode cJ20_compareToUTF16Values 55 = .ok (.ireturn, 1) := dk_172 (dk_at dksJ20_compareToUTF16Values_2 9 rfl rfl)
abbrev cJ20_compareToUTF16_2 : ByteArray := prog_39_method_17_code
def yJ20_compareToUTF16_2 : MethodName := ⟨RJ20, "compareToUTF16", "([B[BII)I"⟩
def dkwJ20_compareToUTF16_2_0 : List UInt8 := [28, 42, 184, 0, 54, 184, 0, 62, 29, 43, 184, 0, 58, 184, 0, 62, 42, 43, 28, 29, 184, 0, 59, 172]
abbrev dktJ20_compareToUTF16_2_0 : List UInt8 := dkwJ20_compareToUTF16_2_0 ++ []
theorem dksJ20_compareToUTF16_2_0 : cJ20_compareToUTF16_2.data.toList.drop 0 = dktJ20_compareToUTF16_2_0 := by decide +kernel
theorem dJ20_compareToUTF16_2_0 : decode cJ20_compareToUTF16_2 0 = .ok (.iload_n 2, 1) := dk_28 (dk_at dksJ20_compareToUTF16_2_0 0 rfl rfl)
theorem dJ20_compareToUTF16_2_1 : decode cJ20_compareToUTF16_2 1 = .ok (.aload_n 0, 1) := dk_42 (dk_at dksJ20_compareToUTF16_2_0 1 rfl rfl)
theorem dJ20_compareToUTF16_2_2 : decode cJ20_compareToUTF16_2 2 = .ok (.invokestatic 54, 3) := dk_184 0 54 (dk_at dksJ20_compareToUTF16_2_0 2 rfl rfl)
theorem dJ20_compareToUTF16_2_5 : decode cJ20_compareToUTF16_2 5 = .ok (.invokestatic 62, 3) := dk_184 0 62 (dk_at dksJ20_compareToUTF16_2_0 5 rfl rfl)
theorem dJ20_compareToUTF16_2_8 : decode cJ20_compareToUTF16_2 8 = .ok (.iload_n 3, 1) := dk_29 (dk_at dksJ20_compareToUTF16_2_0 8 rfl rfl)
theorem dJ20_compareToUTF16_2_9 : decode cJ20_compareToUTF16_2 9 = .ok (.aload_n 1, 1) := dk_43 (dk_at dksJ20_compareToUTF16_2_0 9 rfl rfl)
theorem dJ20_compareToUTF16_2_10 : decode cJ20_compareToUTF16_2 10 = .ok (.invokestatic 58, 3) := dk_184 0 58 (dk_at dksJ20_compareToUTF16_2_0 10 rfl rfl)
theorem dJ20_compareToUTF16_2_13 : decode cJ20_compareToUTF16_2 13 = .ok (.invokestatic 62, 3) := dk_184 0 62 (dk_at dksJ20_compareToUTF16_2_0 13 rfl rfl)
theorem dJ20_compareToUTF16_2_16 : decode cJ20_compareToUTF16_2 16 = .ok (.aload_n 0, 1) := dk_42 (dk_at dksJ20_compareToUTF16_2_0 16 rfl rfl)
theorem dJ20_compareToUTF16_2_17 : decode cJ20_compareToUTF16_2 17 = .ok (.aload_n 1, 1) := dk_43 (dk_at dksJ20_compareToUTF16_2_0 17 rfl rfl)
theorem dJ20_compareToUTF16_2_18 : decode cJ20_compareToUTF16_2 18 = .ok (.iload_n 2, 1) := dk_28 (dk_at dksJ20_compareToUTF16_2_0 18 rfl rfl)
theorem dJ20_compareToUTF16_2_19 : decode cJ20_compareToUTF16_2 19 = .ok (.iload_n 3, 1) := dk_29 (dk_at dksJ20_compareToUTF16_2_0 19 rfl rfl)
theorem dJ20_compareToUTF16_2_20 : decode cJ20_compareToUTF16_2 20 = .ok (.invokestatic 59, 3) := dk_184 0 59 (dk_at dksJ20_compareToUTF16_2_0 20 rfl rfl)
theorem dJ20_compareToUTF16_2_23 : decode cJ20_compareToUTF16_2 23 = .ok (.ireturn, 1) := dk_172 (dk_at dksJ20_compareToUTF16_2_0 23 rfl rfl)
abbrev cJ20_indexOf : ByteArray := prog_39_method_22_code
def yJ20_indexOf : MethodName := ⟨RJ20, "indexOf", "([BIII)I"⟩
def dkwJ20_indexOf_1 : List UInt8 := [161, 0, 5, 2, 172, 42, 27, 28, 29, 184, 0, 95, 172]
abbrev dktJ20_indexOf_1 : List UInt8 := dkwJ20_indexOf_1 ++ []
def dkwJ20_indexOf_0 : List UInt8 := [27, 184, 0, 88, 154, 0, 5, 2, 172, 28, 3, 184, 0, 92, 61, 29, 42, 190, 184, 0, 38, 62, 28, 29]
abbrev dktJ20_indexOf_0 : List UInt8 := dkwJ20_indexOf_0 ++ dktJ20_indexOf_1
theorem dksJ20_indexOf_0 : cJ20_indexOf.data.toList.drop 0 = dktJ20_indexOf_0 := by decide +kernel
theorem dksJ20_indexOf_1 : cJ20_indexOf.data.toList.drop 24 = dktJ20_indexOf_1 := dk_seg dksJ20_indexOf_0 24 rfl rfl
theorem dJ20_indexOf_0 : decode cJ20_indexOf 0 = .ok (.iload_n 1, 1) := dk_27 (dk_at dksJ20_indexOf_0 0 rfl rfl)
theorem dJ20_indexOf_1 : decode cJ20_indexOf 1 = .ok (.invokestatic 88, 3) := dk_184 0 88 (dk_at dksJ20_indexOf_0 1 rfl rfl)
theorem dJ20_indexOf_4 : decode cJ20_indexOf 4 = .ok (.ifCond .ne 5, 3) := dk_154 0 5 (dk_at dksJ20_indexOf_0 4 rfl rfl)
theorem dJ20_indexOf_7 : decode cJ20_indexOf 7 = .ok (.iconst (-1), 1) := dk_2 (dk_at dksJ20_indexOf_0 7 rfl rfl)
theorem dJ20_indexOf_8 : decode cJ20_indexOf 8 = .ok (.ireturn, 1) := dk_172 (dk_at dksJ20_indexOf_0 8 rfl rfl)
theorem dJ20_indexOf_9 : decode cJ20_indexOf 9 = .ok (.iload_n 2, 1) := dk_28 (dk_at dksJ20_indexOf_0 9 rfl rfl)
theorem dJ20_indexOf_10 : decode cJ20_indexOf 10 = .ok (.iconst 0, 1) := dk_3 (dk_at dksJ20_indexOf_0 10 rfl rfl)
theorem dJ20_indexOf_11 : decode cJ20_indexOf 11 = .ok (.invokestatic 92, 3) := dk_184 0 92 (dk_at dksJ20_indexOf_0 11 rfl rfl)
theorem dJ20_indexOf_14 : decode cJ20_indexOf 14 = .ok (.istore_n 2, 1) := dk_61 (dk_at dksJ20_indexOf_0 14 rfl rfl)
theorem dJ20_indexOf_15 : decode cJ20_indexOf 15 = .ok (.iload_n 3, 1) := dk_29 (dk_at dksJ20_indexOf_0 15 rfl rfl)
theorem dJ20_indexOf_16 : decode cJ20_indexOf 16 = .ok (.aload_n 0, 1) := dk_42 (dk_at dksJ20_indexOf_0 16 rfl rfl)
theorem dJ20_indexOf_17 : decode cJ20_indexOf 17 = .ok (.arraylength, 1) := dk_190 (dk_at dksJ20_indexOf_0 17 rfl rfl)
theorem dJ20_indexOf_18 : decode cJ20_indexOf 18 = .ok (.invokestatic 38, 3) := dk_184 0 38 (dk_at dksJ20_indexOf_0 18 rfl rfl)
theorem dJ20_indexOf_21 : decode cJ20_indexOf 21 = .ok (.istore_n 3, 1) := dk_62 (dk_at dksJ20_indexOf_0 21 rfl rfl)
theorem dJ20_indexOf_22 : decode cJ20_indexOf 22 = .ok (.iload_n 2, 1) := dk_28 (dk_at dksJ20_indexOf_0 22 rfl rfl)
theorem dJ20_indexOf_23 : decode cJ20_indexOf 23 = .ok (.iload_n 3, 1) := dk_29 (dk_at dksJ20_indexOf_0 23 rfl rfl)
theorem dJ20_indexOf_24 : decode cJ20_indexOf 24 = .ok (.if_icmp .lt 5, 3) := dk_161 0 5 (dk_at dksJ20_indexOf_1 0 rfl rfl)
theorem dJ20_indexOf_27 : decode cJ20_indexOf 27 = .ok (.iconst (-1), 1) := dk_2 (dk_at dksJ20_indexOf_1 3 rfl rfl)
theorem dJ20_indexOf_28 : decode cJ20_indexOf 28 = .ok (.ireturn, 1) := dk_172 (dk_at dksJ20_indexOf_1 4 rfl rfl)
theorem dJ20_indexOf_29 : decode cJ20_indexOf 29 = .ok (.aload_n 0, 1) := dk_42 (dk_at dksJ20_indexOf_1 5 rfl rfl)
theorem dJ20_indexOf_30 : decode cJ20_indexOf 30 = .ok (.iload_n 1, 1) := dk_27 (dk_at dksJ20_indexOf_1 6 rfl rfl)
theorem dJ20_indexOf_31 : decode cJ20_indexOf 31 = .ok (.iload_n 2, 1) := dk_28 (dk_at dksJ20_indexOf_1 7 rfl rfl)
theorem dJ20_indexOf_32 : decode cJ20_indexOf 32 = .ok (.iload_n 3, 1) := dk_29 (dk_at dksJ20_indexOf_1 8 rfl rfl)
theorem dJ20_indexOf_33 : decode cJ20_indexOf 33 = .ok (.invokestatic 95, 3) := dk_184 0 95 (dk_at dksJ20_indexOf_1 9 rfl rfl)
theorem dJ20_indexOf_36 : decode cJ20_indexOf 36 = .ok (.ireturn, 1) := dk_172 (dk_at dksJ20_indexOf_1 12 rfl rfl)
abbrev cJ20_canEncode_2 : ByteArray := prog_39_method_4_code
def yJ20_canEncode_2 : MethodName := ⟨RJ20, "canEncode", "(I)Z"⟩
def dkwJ20_canEncode_2_0 : List UInt8 := [26, 155, 0, 14, 26, 17, 0, 255, 163, 0, 7, 4, 167, 0, 4, 3, 172]
abbrev dktJ20_canEncode_2_0 : List UInt8 := dkwJ20_canEncode_2_0 ++ []
theorem dksJ20_canEncode_2_0 : cJ20_canEncode_2.data.toList.drop 0 = dktJ20_canEncode_2_0 := by decide +kernel
theorem dJ20_canEncode_2_0 : decode cJ20_canEncode_2 0 = .ok (.iload_n 0, 1) := dk_26 (dk_at dksJ20_canEncode_2_0 0 rfl rfl)
theorem dJ20_canEncode_2_1 : decode cJ20_canEncode_2 1 = .ok (.ifCond .lt 14, 3) := dk_155 0 14 (dk_at dksJ20_canEncode_2_0 1 rfl rfl)
theorem dJ20_canEncode_2_4 : decode cJ20_canEncode_2 4 = .ok (.iload_n 0, 1) := dk_26 (dk_at dksJ20_canEncode_2_0 4 rfl rfl)
theorem dJ20_canEncode_2_5 : decode cJ20_canEncode_2 5 = .ok (.sipush 255, 3) := dk_17 0 255 (dk_at dksJ20_canEncode_2_0 5 rfl rfl)
theorem dJ20_canEncode_2_8 : decode cJ20_canEncode_2 8 = .ok (.if_icmp .gt 7, 3) := dk_163 0 7 (dk_at dksJ20_canEncode_2_0 8 rfl rfl)
theorem dJ20_canEncode_2_11 : decode cJ20_canEncode_2 11 = .ok (.iconst 1, 1) := dk_4 (dk_at dksJ20_canEncode_2_0 11 rfl rfl)
theorem dJ20_canEncode_2_12 : decode cJ20_canEncode_2 12 = .ok (.goto 4, 3) := dk_167 0 4 (dk_at dksJ20_canEncode_2_0 12 rfl rfl)
theorem dJ20_canEncode_2_15 : decode cJ20_canEncode_2 15 = .ok (.iconst 0, 1) := dk_3 (dk_at dksJ20_canEncode_2_0 15 rfl rfl)
theorem dJ20_canEncode_2_16 : decode cJ20_canEncode_2 16 = .ok (.ireturn, 1) := dk_172 (dk_at dksJ20_canEncode_2_0 16 rfl rfl)
abbrev cJ20_indexOfChar : ByteArray := prog_39_method_23_code
def yJ20_indexOfChar : MethodName := ⟨RJ20, "indexOfChar", "([BIII)I"⟩
def dkwJ20_indexOfChar_1 : List UInt8 := [172, 132, 5, 1, 167, 255, 235, 2, 172]
abbrev dktJ20_indexOfChar_1 : List UInt8 := dkwJ20_indexOfChar_1 ++ []
def dkwJ20_indexOfChar_0 : List UInt8 := [27, 145, 54, 4, 28, 54, 5, 21, 5, 29, 162, 0, 21, 42, 21, 5, 51, 21, 4, 160, 0, 6, 21, 5]
abbrev dktJ20_indexOfChar_0 : List UInt8 := dkwJ20_indexOfChar_0 ++ dktJ20_indexOfChar_1
theorem dksJ20_indexOfChar_0 : cJ20_indexOfChar.data.toList.drop 0 = dktJ20_indexOfChar_0 := by decide +kernel
theorem dksJ20_indexOfChar_1 : cJ20_indexOfChar.data.toList.drop 24 = dktJ20_indexOfChar_1 := dk_seg dksJ20_indexOfChar_0 24 rfl rfl
theorem dJ20_indexOfChar_0 : decode cJ20_indexOfChar 0 = .ok (.iload_n 1, 1) := dk_27 (dk_at dksJ20_indexOfChar_0 0 rfl rfl)
theorem dJ20_indexOfChar_1 : decode cJ20_indexOfChar 1 = .ok (.i2b, 1) := dk_145 (dk_at dksJ20_indexOfChar_0 1 rfl rfl)
theorem dJ20_indexOfChar_2 : decode cJ20_indexOfChar 2 = .ok (.istore 4, 2) := dk_54 4 (dk_at dksJ20_indexOfChar_0 2 rfl rfl)
theorem dJ20_indexOfChar_4 : decode cJ20_indexOfChar 4 = .ok (.iload_n 2, 1) := dk_28 (dk_at dksJ20_indexOfChar_0 4 rfl rfl)
theorem dJ20_indexOfChar_5 : decode cJ20_indexOfChar 5 = .ok (.istore 5, 2) := dk_54 5 (dk_at dksJ20_indexOfChar_0 5 rfl rfl)
theorem dJ20_indexOfChar_7 : decode cJ20_indexOfChar 7 = .ok (.iload 5, 2) := dk_21 5 (dk_at dksJ20_indexOfChar_0 7 rfl rfl)
theorem dJ20_indexOfChar_9 : decode cJ20_indexOfChar 9 = .ok (.iload_n 3, 1) := dk_29 (dk_at dksJ20_indexOfChar_0 9 rfl rfl)
theorem dJ20_indexOfChar_10 : decode cJ20_indexOfChar 10 = .ok (.if_icmp .ge 21, 3) := dk_162 0 21 (dk_at dksJ20_indexOfChar_0 10 rfl rfl)
theorem dJ20_indexOfChar_13 : decode cJ20_indexOfChar 13 = .ok (.aload_n 0, 1) := dk_42 (dk_at dksJ20_indexOfChar_0 13 rfl rfl)
theorem dJ20_indexOfChar_14 : decode cJ20_indexOfChar 14 = .ok (.iload 5, 2) := dk_21 5 (dk_at dksJ20_indexOfChar_0 14 rfl rfl)
theorem dJ20_indexOfChar_16 : decode cJ20_indexOfChar 16 = .ok (.baload, 1) := dk_51 (dk_at dksJ20_indexOfChar_0 16 rfl rfl)
theorem dJ20_indexOfChar_17 : decode cJ20_indexOfChar 17 = .ok (.iload 4, 2) := dk_21 4 (dk_at dksJ20_indexOfChar_0 17 rfl rfl)
theorem dJ20_indexOfChar_19 : decode cJ20_indexOfChar 19 = .ok (.if_icmp .ne 6, 3) := dk_160 0 6 (dk_at dksJ20_indexOfChar_0 19 rfl rfl)
theorem dJ20_indexOfChar_22 : decode cJ20_indexOfChar 22 = .ok (.iload 5, 2) := dk_21 5 (dk_at dksJ20_indexOfChar_0 22 rfl rfl)
theorem dJ20_indexOfChar_24 : decode cJ20_indexOfChar 24 = .ok (.ireturn, 1) := dk_172 (dk_at dksJ20_indexOfChar_1 0 rfl rfl)
theorem dJ20_indexOfChar_25 : decode cJ20_indexOfChar 25 = .ok (.iinc 5 1, 3) := dk_132 5 1 (dk_at dksJ20_indexOfChar_1 1 rfl rfl)
theorem dJ20_indexOfChar_28 : decode cJ20_indexOfChar 28 = .ok (.goto (-21), 3) := dk_167 255 235 (dk_at dksJ20_indexOfChar_1 4 rfl rfl)
theorem dJ20_indexOfChar_31 : decode cJ20_indexOfChar 31 = .ok (.iconst (-1), 1) := dk_2 (dk_at dksJ20_indexOfChar_1 7 rfl rfl)
theorem dJ20_indexOfChar_32 : decode cJ20_indexOfChar 32 = .ok (.ireturn, 1) := dk_172 (dk_at dksJ20_indexOfChar_1 8 rfl rfl)
abbrev cJ20_charAt : ByteArray := prog_39_method_2_code
def yJ20_charAt : MethodName := ⟨RJ20, "charAt", "([BI)C"⟩
def dkwJ20_charAt_0 : List UInt8 := [27, 42, 190, 184, 0, 9, 42, 27, 51, 17, 0, 255, 126, 146, 172]
abbrev dktJ20_charAt_0 : List UInt8 := dkwJ20_charAt_0 ++ []
theorem dksJ20_charAt_0 : cJ20_charAt.data.toList.drop 0 = dktJ20_charAt_0 := by decide +kernel
theorem dJ20_charAt_0 : decode cJ20_charAt 0 = .ok (.iload_n 1, 1) := dk_27 (dk_at dksJ20_charAt_0 0 rfl rfl)
theorem dJ20_charAt_1 : decode cJ20_charAt 1 = .ok (.aload_n 0, 1) := dk_42 (dk_at dksJ20_charAt_0 1 rfl rfl)
theorem dJ20_charAt_2 : decode cJ20_charAt 2 = .ok (.arraylength, 1) := dk_190 (dk_at dksJ20_charAt_0 2 rfl rfl)
theorem dJ20_charAt_3 : decode cJ20_charAt 3 = .ok (.invokestatic 9, 3) := dk_184 0 9 (dk_at dksJ20_charAt_0 3 rfl rfl)
theorem dJ20_charAt_6 : decode cJ20_charAt 6 = .ok (.aload_n 0, 1) := dk_42 (dk_at dksJ20_charAt_0 6 rfl rfl)
theorem dJ20_charAt_7 : decode cJ20_charAt 7 = .ok (.iload_n 1, 1) := dk_27 (dk_at dksJ20_charAt_0 7 rfl rfl)
theorem dJ20_charAt_8 : decode cJ20_charAt 8 = .ok (.baload, 1) := dk_51 (dk_at dksJ20_charAt_0 8 rfl rfl)
theorem dJ20_charAt_9 : decode cJ20_charAt 9 = .ok (.sipush 255, 3) := dk_17 0 255 (dk_at dksJ20_charAt_0 9 rfl rfl)
theorem dJ20_charAt_12 : decode cJ20_charAt 12 = .ok (.iand, 1) := dk_126 (dk_at dksJ20_charAt_0 12 rfl rfl)
theorem dJ20_charAt_13 : decode cJ20_charAt 13 = .ok (.i2c, 1) := dk_146 (dk_at dksJ20_charAt_0 13 rfl rfl)
theorem dJ20_charAt_14 : decode cJ20_charAt 14 = .ok (.ireturn, 1) := dk_172 (dk_at dksJ20_charAt_0 14 rfl rfl)
theorem q161 : (Jvm.Cond.initialized "java/lang/StringLatin1") ∈ lw_all := lw_g (lw_at lw_m1 33 rfl) rfl
theorem q1046 : (Jvm.Cond.static ({ cls := "java/lang/StringLatin1", name := "canEncode", desc := "(C)Z" } : Jvm.MethodName)) ∈ lw_all := lw_g (lw_at lw_m4 198 rfl) rfl
theorem q1047 : (Jvm.Cond.code ({ cls := "java/lang/StringLatin1", name := "canEncode", desc := "(C)Z" } : Jvm.MethodName) prog_39_method_3_code (1 : Nat) (Option.some Jvm.ClassFile.FieldType.boolean)) ∈ lw_all := lw_g (lw_at lw_m4 199 rfl) rfl
theorem q1053 : (Jvm.Cond.static ({ cls := "java/lang/StringLatin1", name := "inflate", desc := "([BI[BII)V" } : Jvm.MethodName)) ∈ lw_all := lw_g (lw_at lw_m4 205 rfl) rfl
theorem q1054 : (Jvm.Cond.code ({ cls := "java/lang/StringLatin1", name := "inflate", desc := "([BI[BII)V" } : Jvm.MethodName) prog_39_method_50_code (5 : Nat) (Option.none : Option Jvm.ClassFile.FieldType)) ∈ lw_all := lw_g (lw_at lw_m4 206 rfl) rfl
theorem q1055 : (Jvm.Cond.methodLink "java/lang/StringLatin1" (240 : Nat) ({ cls := "java/lang/StringUTF16", name := "inflate", desc := "([BI[BII)V" } : Jvm.MethodName)) ∈ lw_all := lw_g (lw_at lw_m4 207 rfl) rfl
theorem q1244 : (Jvm.Cond.static ({ cls := "java/lang/StringLatin1", name := "compareTo", desc := "([B[B)I" } : Jvm.MethodName)) ∈ lw_all := lw_g (lw_at lw_m5 156 rfl) rfl
theorem q1245 : (Jvm.Cond.code ({ cls := "java/lang/StringLatin1", name := "compareTo", desc := "([B[B)I" } : Jvm.MethodName) prog_39_method_14_code (4 : Nat) (Option.some Jvm.ClassFile.FieldType.int)) ∈ lw_all := lw_g (lw_at lw_m5 157 rfl) rfl
theorem q1246 : (Jvm.Cond.methodLink "java/lang/StringLatin1" (34 : Nat) ({ cls := "java/lang/StringLatin1", name := "compareTo", desc := "([B[BII)I" } : Jvm.MethodName)) ∈ lw_all := lw_g (lw_at lw_m5 158 rfl) rfl
theorem q1247 : (Jvm.Cond.static ({ cls := "java/lang/StringLatin1", name := "compareTo", desc := "([B[BII)I" } : Jvm.MethodName)) ∈ lw_all := lw_g (lw_at lw_m5 159 rfl) rfl
theorem q1248 : (Jvm.Cond.code ({ cls := "java/lang/StringLatin1", name := "compareTo", desc := "([B[BII)I" } : Jvm.MethodName) prog_39_method_15_code (6 : Nat) (Option.some Jvm.ClassFile.FieldType.int)) ∈ lw_all := lw_g (lw_at lw_m5 160 rfl) rfl
theorem q1249 : (Jvm.Cond.methodLink "java/lang/StringLatin1" (38 : Nat) ({ cls := "java/lang/Math", name := "min", desc := "(II)I" } : Jvm.MethodName)) ∈ lw_all := lw_g (lw_at lw_m5 161 rfl) rfl
theorem q1250 : (Jvm.Cond.methodLink "java/lang/StringLatin1" (44 : Nat) ({ cls := "jdk/internal/util/ArraysSupport", name := "mismatch", desc := "([B[BI)I" } : Jvm.MethodName)) ∈ lw_all := lw_g (lw_at lw_m5 162 rfl) rfl
theorem q1354 : (Jvm.Cond.methodLink "java/lang/StringLatin1" (50 : Nat) ({ cls := "java/lang/StringLatin1", name := "getChar", desc := "([BI)C" } : Jvm.MethodName)) ∈ lw_all := lw_g (lw_at lw_m6 26 rfl) rfl
theorem q1355 : (Jvm.Cond.static ({ cls := "java/lang/StringLatin1", name := "getChar", desc := "([BI)C" } : Jvm.MethodName)) ∈ lw_all := lw_g (lw_at lw_m6 27 rfl) rfl
theorem q1356 : (Jvm.Cond.code ({ cls := "java/lang/StringLatin1", name := "getChar", desc := "([BI)C" } : Jvm.MethodName) prog_39_method_44_code (2 : Nat) (Option.some Jvm.ClassFile.FieldType.char)) ∈ lw_all := lw_g (lw_at lw_m6 28 rfl) rfl
theorem q1365 : (Jvm.Cond.static ({ cls := "java/lang/StringLatin1", name := "compareToUTF16", desc := "([B[B)I" } : Jvm.MethodName)) ∈ lw_all := lw_g (lw_at lw_m6 37 rfl) rfl
theorem q1366 : (Jvm.Cond.code ({ cls := "java/lang/StringLatin1", name := "compareToUTF16", desc := "([B[B)I" } : Jvm.MethodName) prog_39_method_16_code (4 : Nat) (Option.some Jvm.ClassFile.FieldType.int)) ∈ lw_all := lw_g (lw_at lw_m6 38 rfl) rfl
theorem q1367 : (Jvm.Cond.methodLink "java/lang/StringLatin1" (54 : Nat) ({ cls := "java/lang/StringLatin1", name := "length", desc := "([B)I" } : Jvm.MethodName)) ∈ lw_all := lw_g (lw_at lw_m6 39 rfl) rfl
theorem q1368 : (Jvm.Cond.static ({ cls := "java/lang/StringLatin1", name := "length", desc := "([B)I" } : Jvm.MethodName)) ∈ lw_all := lw_g (lw_at lw_m6 40 rfl) rfl
theorem q1369 : (Jvm.Cond.code ({ cls := "java/lang/StringLatin1", name := "length", desc := "([B)I" } : Jvm.MethodName) prog_39_method_5_code (1 : Nat) (Option.some Jvm.ClassFile.FieldType.int)) ∈ lw_all := lw_g (lw_at lw_m6 41 rfl) rfl
theorem q1370 : (Jvm.Cond.methodLink "java/lang/StringLatin1" (58 : Nat) ({ cls := "java/lang/StringUTF16", name := "length", desc := "([B)I" } : Jvm.MethodName)) ∈ lw_all := lw_g (lw_at lw_m6 42 rfl) rfl
theorem q1371 : (Jvm.Cond.methodLink "java/lang/StringLatin1" (59 : Nat) ({ cls := "java/lang/StringLatin1", name := "compareToUTF16Values", desc := "([B[BII)I" } : Jvm.MethodName)) ∈ lw_all := lw_g (lw_at lw_m6 43 rfl) rfl
theorem q1372 : (Jvm.Cond.static ({ cls := "java/lang/StringLatin1", name := "compareToUTF16Values", desc := "([B[BII)I" } : Jvm.MethodName)) ∈ lw_all := lw_g (lw_at lw_m6 44 rfl) rfl
theorem q1373 : (Jvm.Cond.code ({ cls := "java/lang/StringLatin1", name := "compareToUTF16Values", desc := "([B[BII)I" } : Jvm.MethodName) prog_39_method_18_code (8 : Nat) (Option.some Jvm.ClassFile.FieldType.int)) ∈ lw_all := lw_g (lw_at lw_m6 45 rfl) rfl
theorem q1374 : (Jvm.Cond.methodLink "java/lang/StringLatin1" (65 : Nat) ({ cls := "java/lang/StringUTF16", name := "getChar", desc := "([BI)C" } : Jvm.MethodName)) ∈ lw_all := lw_g (lw_at lw_m6 46 rfl) rfl
theorem q1407 : (Jvm.Cond.static ({ cls := "java/lang/StringLatin1", name := "compareToUTF16", desc := "([B[BII)I" } : Jvm.MethodName)) ∈ lw_all := lw_g (lw_at lw_m6 79 rfl) rfl
theorem q1408 : (Jvm.Cond.code ({ cls := "java/lang/StringLatin1", name := "compareToUTF16", desc := "([B[BII)I" } : Jvm.MethodName) prog_39_method_17_code (4 : Nat) (Option.some Jvm.ClassFile.FieldType.int)) ∈ lw_all := lw_g (lw_at lw_m6 80 rfl) rfl
theorem q1409 : (Jvm.Cond.methodLink "java/lang/StringLatin1" (62 : Nat) ({ cls := "java/lang/String", name := "checkOffset", desc := "(II)V" } : Jvm.MethodName)) ∈ lw_all := lw_g (lw_at lw_m6 81 rfl) rfl
theorem q1965 : (Jvm.Cond.static ({ cls := "java/lang/StringLatin1", name := "indexOf", desc := "([BIII)I" } : Jvm.MethodName)) ∈ lw_all := lw_g (lw_at lw_m8 157 rfl) rfl
theorem q1966 : (Jvm.Cond.code ({ cls := "java/lang/StringLatin1", name := "indexOf", desc := "([BIII)I" } : Jvm.MethodName) prog_39_method_22_code (4 : Nat) (Option.some Jvm.ClassFile.FieldType.int)) ∈ lw_all := lw_g (lw_at lw_m8 158 rfl) rfl
theorem q1967 : (Jvm.Cond.methodLink "java/lang/StringLatin1" (88 : Nat) ({ cls := "java/lang/StringLatin1", name := "canEncode", desc := "(I)Z" } : Jvm.MethodName)) ∈ lw_all := lw_g (lw_at lw_m8 159 rfl) rfl
theorem q1968 : (Jvm.Cond.static ({ cls := "java/lang/StringLatin1", name := "canEncode", desc := "(I)Z" } : Jvm.MethodName)) ∈ lw_all := lw_g (lw_at lw_m8 160 rfl) rfl
theorem q1969 : (Jvm.Cond.code ({ cls := "java/lang/StringLatin1", name := "canEncode", desc := "(I)Z" } : Jvm.MethodName) prog_39_method_4_code (1 : Nat) (Option.some Jvm.ClassFile.FieldType.boolean)) ∈ lw_all := lw_g (lw_at lw_m8 161 rfl) rfl
theorem q1970 : (Jvm.Cond.methodLink "java/lang/StringLatin1" (92 : Nat) ({ cls := "java/lang/Math", name := "max", desc := "(II)I" } : Jvm.MethodName)) ∈ lw_all := lw_g (lw_at lw_m8 162 rfl) rfl
theorem q1971 : (Jvm.Cond.methodLink "java/lang/StringLatin1" (95 : Nat) ({ cls := "java/lang/StringLatin1", name := "indexOfChar", desc := "([BIII)I" } : Jvm.MethodName)) ∈ lw_all := lw_g (lw_at lw_m8 163 rfl) rfl
theorem q1972 : (Jvm.Cond.static ({ cls := "java/lang/StringLatin1", name := "indexOfChar", desc := "([BIII)I" } : Jvm.MethodName)) ∈ lw_all := lw_g (lw_at lw_m8 164 rfl) rfl
theorem q1973 : (Jvm.Cond.code ({ cls := "java/lang/StringLatin1", name := "indexOfChar", desc := "([BIII)I" } : Jvm.MethodName) prog_39_method_23_code (6 : Nat) (Option.some Jvm.ClassFile.FieldType.int)) ∈ lw_all := lw_g (lw_at lw_m8 165 rfl) rfl
theorem q2039 : (Jvm.Cond.static ({ cls := "java/lang/StringLatin1", name := "charAt", desc := "([BI)C" } : Jvm.MethodName)) ∈ lw_all := lw_g (lw_at lw_m8 231 rfl) rfl
theorem q2040 : (Jvm.Cond.code ({ cls := "java/lang/StringLatin1", name := "charAt", desc := "([BI)C" } : Jvm.MethodName) prog_39_method_2_code (2 : Nat) (Option.some Jvm.ClassFile.FieldType.char)) ∈ lw_all := lw_g (lw_at lw_m8 232 rfl) rfl
theorem q2041 : (Jvm.Cond.methodLink "java/lang/StringLatin1" (9 : Nat) ({ cls := "java/lang/String", name := "checkIndex", desc := "(II)V" } : Jvm.MethodName)) ∈ lw_all := lw_g (lw_at lw_m8 233 rfl) rfl
/-! jdk/internal/misc/Unsafe -/
set_option maxRecDepth 100000
def RJ21 : String := "jdk/internal/misc/Unsafe"
abbrev cJ21_getLongUnaligned : ByteArray := prog_68_method_334_code
def yJ21_getLongUnaligned : MethodName := ⟨RJ21, "getLongUnaligned", "(Ljava/lang/Object;J)J"⟩
def dkwJ21_getLongUnaligned_7 : List UInt8 := [182, 0, 39, 184, 2, 197, 173]
abbrev dktJ21_getLongUnaligned_7 : List UInt8 := dkwJ21_getLongUnaligned_7 ++ []
def dkwJ21_getLongUnaligned_6 : List UInt8 := [20, 2, 195, 97, 182, 0, 39, 42, 43, 32, 20, 2, 190, 97, 182, 0, 39, 42, 43, 32, 20, 2, 184, 97]
abbrev dktJ21_getLongUnaligned_6 : List UInt8 := dkwJ21_getLongUnaligned_6 ++ dktJ21_getLongUnaligned_7
def dkwJ21_getLongUnaligned_5 : List UInt8 := [43, 32, 20, 1, 93, 97, 182, 0, 39, 42, 43, 32, 20, 0, 205, 97, 182, 0, 39, 42, 43, 32]
abbrev dktJ21_getLongUnaligned_5 : List UInt8 := dkwJ21_getLongUnaligned_5 ++ dktJ21_getLongUnaligned_6
def dkwJ21_getLongUnaligned_4 : List UInt8 := [43, 32, 182, 0, 39, 42, 43, 32, 10, 97, 182, 0, 39, 42, 43, 32, 20, 0, 203, 97, 182, 0, 39, 42]
abbrev dktJ21_getLongUnaligned_4 : List UInt8 := dkwJ21_getLongUnaligned_4 ++ dktJ21_getLongUnaligned_5
def dkwJ21_getLongUnaligned_3 : List UInt8 := [43, 32, 20, 0, 205, 97, 182, 0, 47, 42, 43, 32, 20, 2, 190, 97, 182, 0, 47, 184, 2, 192, 173, 42]
abbrev dktJ21_getLongUnaligned_3 : List UInt8 := dkwJ21_getLongUnaligned_3 ++ dktJ21_getLongUnaligned_4
def dkwJ21_getLongUnaligned_2 : List UInt8 := [10, 127, 9, 148, 154, 0, 43, 42, 43, 32, 182, 0, 47, 42, 43, 32, 20, 0, 203, 97, 182, 0, 47, 42]
abbrev dktJ21_getLongUnaligned_2 : List UInt8 := dkwJ21_getLongUnaligned_2 ++ dktJ21_getLongUnaligned_3
def dkwJ21_getLongUnaligned_1 : List UInt8 := [154, 0, 23, 42, 43, 32, 182, 0, 17, 42, 43, 32, 20, 0, 205, 97, 182, 0, 17, 184, 2, 186, 173, 32]
abbrev dktJ21_getLongUnaligned_1 : List UInt8 := dkwJ21_getLongUnaligned_1 ++ dktJ21_getLongUnaligned_2
def dkwJ21_getLongUnaligned_0 : List UInt8 := [32, 20, 2, 184, 127, 9, 148, 154, 0, 10, 42, 43, 32, 182, 0, 27, 173, 32, 20, 1, 93, 127, 9, 148]
abbrev dktJ21_getLongUnaligned_0 : List UInt8 := dkwJ21_getLongUnaligned_0 ++ dktJ21_getLongUnaligned_1
theorem dksJ21_getLongUnaligned_0 : cJ21_getLongUnaligned.data.toList.drop 0 = dktJ21_getLongUnaligned_0 := by decide +kernel
theorem dksJ21_getLongUnaligned_1 : cJ21_getLongUnaligned.data.toList.drop 24 = dktJ21_getLongUnaligned_1 := dk_seg dksJ21_getLongUnaligned_0 24 rfl rfl
theorem dksJ21_getLongUnaligned_2 : cJ21_getLongUnaligned.data.toList.drop 48 = dktJ21_getLongUnaligned_2 := dk_seg dksJ21_getLongUnaligned_1 24 rfl rfl
theorem dksJ21_getLongUnaligned_3 : cJ21_getLongUnaligned.data.toList.drop 72 = dktJ21_getLongUnaligned_3 := dk_seg dksJ21_getLongUnaligned_2 24 rfl rfl
theorem dksJ21_getLongUnaligned_4 : cJ21_getLongUnaligned.data.toList.drop 96 = dktJ21_getLongUnaligned_4 := dk_seg dksJ21_getLongUnaligned_3 24 rfl rfl
theorem dksJ21_getLongUnaligned_5 : cJ21_getLongUnaligned.data.toList.drop 120 = dktJ21_getLongUnaligned_5 := dk_seg dksJ21_getLongUnaligned_4 24 rfl rfl
theorem dksJ21_getLongUnaligned_6 : cJ21_getLongUnaligned.data.toList.drop 142 = dktJ21_getLongUnaligned_6 := dk_seg dksJ21_getLongUnaligned_5 22 rfl rfl
theorem dksJ21_getLongUnaligned_7 : cJ21_getLongUnaligned.data.toList.drop 166 = dktJ21_getLongUnaligned_7 := dk_seg dksJ21_getLongUnaligned_6 24 rfl rfl
theorem dJ21_getLongUnaligned_0 : decode cJ21_getLongUnaligned 0 = .ok (.lload_n 2, 1) := dk_32 (dk_at dksJ21_getLongUnaligned_0 0 rfl rfl)
theorem dJ21_getLongUnaligned_1 : decode cJ21_getLongUnaligned 1 = .ok (.ldc2_w 696, 3) := dk_20 2 184 (dk_at dksJ21_getLongUnaligned_0 1 rfl rfl)
theorem dJ21_getLongUnaligned_4 : decode cJ21_getLongUnaligned 4 = .ok (.land, 1) := dk_127 (dk_at dksJ21_getLongUnaligned_0 4 rfl rfl)
theorem dJ21_getLongUnaligned_5 : decode cJ21_getLongUnaligned 5 = .ok (.lconst 0, 1) := dk_9 (dk_at dksJ21_getLongUnaligned_0 5 rfl rfl)
theorem dJ21_getLongUnaligned_6 : decode cJ21_getLongUnaligned 6 = .ok (.lcmp, 1) := dk_148 (dk_at dksJ21_getLongUnaligned_0 6 rfl rfl)
theorem dJ21_getLongUnaligned_7 : decode cJ21_getLongUnaligned 7 = .ok (.ifCond .ne 10, 3) := dk_154 0 10 (dk_at dksJ21_getLongUnaligned_0 7 rfl rfl)
theorem dJ21_getLongUnaligned_10 : decode cJ21_getLongUnaligned 10 = .ok (.aload_n 0, 1) := dk_42 (dk_at dksJ21_getLongUnaligned_0 10 rfl rfl)
theorem dJ21_getLongUnaligned_11 : decode cJ21_getLongUnaligned 11 = .ok (.aload_n 1, 1) := dk_43 (dk_at dksJ21_getLongUnaligned_0 11 rfl rfl)
theorem dJ21_getLongUnaligned_12 : decode cJ21_getLongUnaligned 12 = .ok (.lload_n 2, 1) := dk_32 (dk_at dksJ21_getLongUnaligned_0 12 rfl rfl)
theorem dJ21_getLongUnaligned_13 : decode cJ21_getLongUnaligned 13 = .ok (.invokevirtual 27, 3) := dk_182 0 27 (dk_at dksJ21_getLongUnaligned_0 13 rfl rfl)
theorem dJ21_getLongUnaligned_16 : decode cJ21_getLongUnaligned 16 = .ok (.lreturn, 1) := dk_173 (dk_at dksJ21_getLongUnaligned_0 16 rfl rfl)
theorem dJ21_getLongUnaligned_17 : decode cJ21_getLongUnaligned 17 = .ok (.lload_n 2, 1) := dk_32 (dk_at dksJ21_getLongUnaligned_0 17 rfl rfl)
theorem dJ21_getLongUnaligned_18 : decode cJ21_getLongUnaligned 18 = .ok (.ldc2_w 349, 3) := dk_20 1 93 (dk_at dksJ21_getLongUnaligned_0 18 rfl rfl)
theorem dJ21_getLongUnaligned_21 : decode cJ21_getLongUnaligned 21 = .ok (.land, 1) := dk_127 (dk_at dksJ21_getLongUnaligned_0 21 rfl rfl)
theorem dJ21_getLongUnaligned_22 : decode cJ21_getLongUnaligned 22 = .ok (.lconst 0, 1) := dk_9 (dk_at dksJ21_getLongUnaligned_0 22 rfl rfl)
theorem dJ21_getLongUnaligned_23 : decode cJ21_getLongUnaligned 23 = .ok (.lcmp, 1) := dk_148 (dk_at dksJ21_getLongUnaligned_0 23 rfl rfl)
theorem dJ21_getLongUnaligned_24 : decode cJ21_getLongUnaligned 24 = .ok (.ifCond .ne 23, 3) := dk_154 0 23 (dk_at dksJ21_getLongUnaligned_1 0 rfl rfl)
theorem dJ21_getLongUnaligned_27 : decode cJ21_getLongUnaligned 27 = .ok (.aload_n 0, 1) := dk_42 (dk_at dksJ21_getLongUnaligned_1 3 rfl rfl)
theorem dJ21_getLongUnaligned_28 : decode cJ21_getLongUnaligned 28 = .ok (.aload_n 1, 1) := dk_43 (dk_at dksJ21_getLongUnaligned_1 4 rfl rfl)
theorem dJ21_getLongUnaligned_29 : decode cJ21_getLongUnaligned 29 = .ok (.lload_n 2, 1) := dk_32 (dk_at dksJ21_getLongUnaligned_1 5 rfl rfl)
theorem dJ21_getLongUnaligned_30 : decode cJ21_getLongUnaligned 30 = .ok (.invokevirtual 17, 3) := dk_182 0 17 (dk_at dksJ21_getLongUnaligned_1 6 rfl rfl)
theorem dJ21_getLongUnaligned_33 : decode cJ21_getLongUnaligned 33 = .ok (.aload_n 0, 1) := dk_42 (dk_at dksJ21_getLongUnaligned_1 9 rfl rfl)
theorem dJ21_getLongUnaligned_34 : decode cJ21_getLongUnaligned 34 = .ok (.aload_n 1, 1) := dk_43 (dk_at dksJ21_getLongUnaligned_1 10 rfl rfl)
theorem dJ21_getLongUnaligned_35 : decode cJ21_getLongUnaligned 35 = .ok (.lload_n 2, 1) := dk_32 (dk_at dksJ21_getLongUnaligned_1 11 rfl rfl)
theorem dJ21_getLongUnaligned_36 : decode cJ21_getLongUnaligned 36 = .ok (.ldc2_w 205, 3) := dk_20 0 205 (dk_at dksJ21_getLongUnaligned_1 12 rfl rfl)
theorem dJ21_getLongUnaligned_39 : decode cJ21_getLongUnaligned 39 = .ok (.ladd, 1) := dk_97 (dk_at dksJ21_getLongUnaligned_1 15 rfl rfl)
theorem dJ21_getLongUnaligned_40 : decode cJ21_getLongUnaligned 40 = .ok (.invokevirtual 17, 3) := dk_182 0 17 (dk_at dksJ21_getLongUnaligned_1 16 rfl rfl)
theorem dJ21_getLongUnaligned_43 : decode cJ21_getLongUnaligned 43 = .ok (.invokestatic 698, 3) := dk_184 2 186 (dk_at dksJ21_getLongUnaligned_1 19 rfl rfl)
theorem dJ21_getLongUnaligned_46 : decode cJ21_getLongUnaligned 46 = .ok (.lreturn, 1) := dk_173 (dk_at dksJ21_getLongUnaligned_1 22 rfl rfl)
theorem dJ21_getLongUnaligned_47 : decode cJ21_getLongUnaligned 47 = .ok (.lload_n 2, 1) := dk_32 (dk_at dksJ21_getLongUnaligned_1 23 rfl rfl)
theorem dJ21_getLongUnaligned_48 : decode cJ21_getLongUnaligned 48 = .ok (.lconst 1, 1) := dk_10 (dk_at dksJ21_getLongUnaligned_2 0 rfl rfl)
theorem dJ21_getLongUnaligned_49 : decode cJ21_getLongUnaligned 49 = .ok (.land, 1) := dk_127 (dk_at dksJ21_getLongUnaligned_2 1 rfl rfl)
theorem dJ21_getLongUnaligned_50 : decode cJ21_getLongUnaligned 50 = .ok (.lconst 0, 1) := dk_9 (dk_at dksJ21_getLongUnaligned_2 2 rfl rfl)
theorem dJ21_getLongUnaligned_51 : decode cJ21_getLongUnaligned 51 = .ok (.lcmp, 1) := dk_148 (dk_at dksJ21_getLongUnaligned_2 3 rfl rfl)
theorem dJ21_getLongUnaligned_52 : decode cJ21_getLongUnaligned 52 = .ok (.ifCond .ne 43, 3) := dk_154 0 43 (dk_at dksJ21_getLongUnaligned_2 4 rfl rfl)
theorem dJ21_getLongUnaligned_55 : decode cJ21_getLongUnaligned 55 = .ok (.aload_n 0, 1) := dk_42 (dk_at dksJ21_getLongUnaligned_2 7 rfl rfl)
theorem dJ21_getLongUnaligned_56 : decode cJ21_getLongUnaligned 56 = .ok (.aload_n 1, 1) := dk_43 (dk_at dksJ21_getLongUnaligned_2 8 rfl rfl)
theorem dJ21_getLongUnaligned_57 : decode cJ21_getLongUnaligned 57 = .ok (.lload_n 2, 1) := dk_32 (dk_at dksJ21_getLongUnaligned_2 9 rfl rfl)
theorem dJ21_getLongUnaligned_58 : decode cJ21_getLongUnaligned 58 = .ok (.invokevirtual 47, 3) := dk_182 0 47 (dk_at dksJ21_getLongUnaligned_2 10 rfl rfl)
theorem dJ21_getLongUnaligned_61 : decode cJ21_getLongUnaligned 61 = .ok (.aload_n 0, 1) := dk_42 (dk_at dksJ21_getLongUnaligned_2 13 rfl rfl)
theorem dJ21_getLongUnaligned_62 : decode cJ21_getLongUnaligned 62 = .ok (.aload_n 1, 1) := dk_43 (dk_at dksJ21_getLongUnaligned_2 14 rfl rfl)
theorem dJ21_getLongUnaligned_63 : decode cJ21_getLongUnaligned 63 = .ok (.lload_n 2, 1) := dk_32 (dk_at dksJ21_getLongUnaligned_2 15 rfl rfl)
theorem dJ21_getLongUnaligned_64 : decode cJ21_getLongUnaligned 64 = .ok (.ldc2_w 203, 3) := dk_20 0 203 (dk_at dksJ21_getLongUnaligned_2 16 rfl rfl)
theorem dJ21_getLongUnaligned_67 : decode cJ21_getLongUnaligned 67 = .ok (.ladd, 1) := dk_97 (dk_at dksJ21_getLongUnaligned_2 19 rfl rfl)
theorem dJ21_getLongUnaligned_68 : decode cJ21_getLongUnaligned 68 = .ok (.invokevirtual 47, 3) := dk_182 0 47 (dk_at dksJ21_getLongUnaligned_2 20 rfl rfl)
theorem dJ21_getLongUnaligned_71 : decode cJ21_getLongUnaligned 71 = .ok (.aload_n 0, 1) := dk_42 (dk_at dksJ21_getLongUnaligned_2 23 rfl rfl)
theorem dJ21_getLongUnaligned_72 : decode cJ21_getLongUnaligned 72 = .ok (.aload_n 1, 1) := dk_43 (dk_at dksJ21_getLongUnaligned_3 0 rfl rfl)
theorem dJ21_getLongUnaligned_73 : decode cJ21_getLongUnaligned 73 = .ok (.lload_n 2, 1) := dk_32 (dk_at dksJ21_getLongUnaligned_3 1 rfl rfl)
theorem dJ21_getLongUnaligned_74 : decode cJ21_getLongUnaligned 74 = .ok (.ldc2_w 205, 3) := dk_20 0 205 (dk_at dksJ21_getLongUnaligned_3 2 rfl rfl)
theorem dJ21_getLongUnaligned_77 : decode cJ21_getLongUnaligned 77 = .ok (.ladd, 1) := dk_97 (dk_at dksJ21_getLongUnaligned_3 5 rfl rfl)
theorem dJ21_getLongUnaligned_78 : decode cJ21_getLongUnaligned 78 = .ok (.invokevirtual 47, 3) := dk_182 0 47 (dk_at dksJ21_getLongUnaligned_3 6 rfl rfl)
theorem dJ21_getLongUnaligned_81 : decode cJ21_getLongUnaligned 81 = .ok (.aload_n 0, 1) := dk_42 (dk_at dksJ21_getLongUnaligned_3 9 rfl rfl)
theorem dJ21_getLongUnaligned_82 : decode cJ21_getLongUnaligned 82 = .ok (.aload_n 1, 1) := dk_43 (dk_at dksJ21_getLongUnaligned_3 10 rfl rfl)
theorem dJ21_getLongUnaligned_83 : decode cJ21_getLongUnaligned 83 = .ok (.lload_n 2, 1) := dk_32 (dk_at dksJ21_getLongUnaligned_3 11 rfl rfl)
theorem dJ21_getLongUnaligned_84 : decode cJ21_getLongUnaligned 84 = .ok (.ldc2_w 702, 3) := dk_20 2 190 (dk_at dksJ21_getLongUnaligned_3 12 rfl rfl)
theorem dJ21_getLongUnaligned_87 : decode cJ21_getLongUnaligned 87 = .ok (.ladd, 1) := dk_97 (dk_at dksJ21_getLongUnaligned_3 15 rfl rfl)
theorem dJ21_getLongUnaligned_88 : decode cJ21_getLongUnaligned 88 = .ok (.invokevirtual 47, 3) := dk_182 0 47 (dk_at dksJ21_getLongUnaligned_3 16 rfl rfl)
theorem dJ21_getLongUnaligned_91 : decode cJ21_getLongUnaligned 91 = .ok (.invokestatic 704, 3) := dk_184 2 192 (dk_at dksJ21_getLongUnaligned_3 19 rfl rfl)
theorem dJ21_getLongUnaligned_94 : decode cJ21_getLongUnaligned 94 = .ok (.lreturn, 1) := dk_173 (dk_at dksJ21_getLongUnaligned_3 22 rfl rfl)
theorem dJ21_getLongUnaligned_95 : decode cJ21_getLongUnaligned 95 = .ok (.aload_n 0, 1) := dk_42 (dk_at dksJ21_getLongUnaligned_3 23 rfl rfl)
theorem dJ21_getLongUnaligned_96 : decode cJ21_getLongUnaligned 96 = .ok (.aload_n 1, 1) := dk_43 (dk_at dksJ21_getLongUnaligned_4 0 rfl rfl)
theorem dJ21_getLongUnaligned_97 : decode cJ21_getLongUnaligned 97 = .ok (.lload_n 2, 1) := dk_32 (dk_at dksJ21_getLongUnaligned_4 1 rfl rfl)
theorem dJ21_getLongUnaligned_98 : decode cJ21_getLongUnaligned 98 = .ok (.invokevirtual 39, 3) := dk_182 0 39 (dk_at dksJ21_getLongUnaligned_4 2 rfl rfl)
theorem dJ21_getLongUnaligned_101 : decode cJ21_getLongUnaligned 101 = .ok (.aload_n 0, 1) := dk_42 (dk_at dksJ21_getLongUnaligned_4 5 rfl rfl)
theorem dJ21_getLongUnaligned_102 : decode cJ21_getLongUnaligned 102 = .ok (.aload_n 1, 1) := dk_43 (dk_at dksJ21_getLongUnaligned_4 6 rfl rfl)
theorem dJ21_getLongUnaligned_103 : decode cJ21_getLongUnaligned 103 = .ok (.lload_n 2, 1) := dk_32 (dk_at dksJ21_getLongUnaligned_4 7 rfl rfl)
theorem dJ21_getLongUnaligned_104 : decode cJ21_getLongUnaligned 104 = .ok (.lconst 1, 1) := dk_10 (dk_at dksJ21_getLongUnaligned_4 8 rfl rfl)
theorem dJ21_getLongUnaligned_105 : decode cJ21_getLongUnaligned 105 = .ok (.ladd, 1) := dk_97 (dk_at dksJ21_getLongUnaligned_4 9 rfl rfl)
theorem dJ21_getLongUnaligned_106 : decode cJ21_getLongUnaligned 106 = .ok (.invokevirtual 39, 3) := dk_182 0 39 (dk_at dksJ21_getLongUnaligned_4 10 rfl rfl)
theorem dJ21_getLongUnaligned_109 : decode cJ21_getLongUnaligned 109 = .ok (.aload_n 0, 1) := dk_42 (dk_at dksJ21_getLongUnaligned_4 13 rfl rfl)
theorem dJ21_getLongUnaligned_110 : decode cJ21_getLongUnaligned 110 = .ok (.aload_n 1, 1) := dk_43 (dk_at dksJ21_getLongUnaligned_4 14 rfl rfl)
theorem dJ21_getLongUnaligned_111 : decode cJ21_getLongUnaligned 111 = .ok (.lload_n 2, 1) := dk_32 (dk_at dksJ21_getLongUnaligned_4 15 rfl rfl)
theorem dJ21_getLongUnaligned_112 : decode cJ21_getLongUnaligned 112 = .ok (.ldc2_w 203, 3) := dk_20 0 203 (dk_at dksJ21_getLongUnaligned_4 16 rfl rfl)
theorem dJ21_getLongUnaligned_115 : decode cJ21_getLongUnaligned 115 = .ok (.ladd, 1) := dk_97 (dk_at dksJ21_getLongUnaligned_4 19 rfl rfl)
theorem dJ21_getLongUnaligned_116 : decode cJ21_getLongUnaligned 116 = .ok (.invokevirtual 39, 3) := dk_182 0 39 (dk_at dksJ21_getLongUnaligned_4 20 rfl rfl)
theorem dJ21_getLongUnaligned_119 : decode cJ21_getLongUnaligned 119 = .ok (.aload_n 0, 1) := dk_42 (dk_at dksJ21_getLongUnaligned_4 23 rfl rfl)
theorem dJ21_getLongUnaligned_120 : decode cJ21_getLongUnaligned 120 = .ok (.aload_n 1, 1) := dk_43 (dk_at dksJ21_getLongUnaligned_5 0 rfl rfl)
theorem dJ21_getLongUnaligned_121 : decode cJ21_getLongUnaligned 121 = .ok (.lload_n 2, 1) := dk_32 (dk_at dksJ21_getLongUnaligned_5 1 rfl rfl)
theorem dJ21_getLongUnaligned_122 : decode cJ21_getLongUnaligned 122 = .ok (.ldc2_w 349, 3) := dk_20 1 93 (dk_at dksJ21_getLongUnaligned_5 2 rfl rfl)
theorem dJ21_getLongUnaligned_125 : decode cJ21_getLongUnaligned 125 = .ok (.ladd, 1) := dk_97 (dk_at dksJ21_getLongUnaligned_5 5 rfl rfl)
theorem dJ21_getLongUnaligned_126 : decode cJ21_getLongUnaligned 126 = .ok (.invokevirtual 39, 3) := dk_182 0 39 (dk_at dksJ21_getLongUnaligned_5 6 rfl rfl)
theorem dJ21_getLongUnaligned_129 : decode cJ21_getLongUnaligned 129 = .ok (.aload_n 0, 1) := dk_42 (dk_at dksJ21_getLongUnaligned_5 9 rfl rfl)
theorem dJ21_getLongUnaligned_130 : decode cJ21_getLongUnaligned 130 = .ok (.aload_n 1, 1) := dk_43 (dk_at dksJ21_getLongUnaligned_5 10 rfl rfl)
theorem dJ21_getLongUnaligned_131 : decode cJ21_getLongUnaligned 131 = .ok (.lload_n 2, 1) := dk_32 (dk_at dksJ21_getLongUnaligned_5 11 rfl rfl)
theorem dJ21_getLongUnaligned_132 : decode cJ21_getLongUnaligned 132 = .ok (.ldc2_w 205, 3) := dk_20 0 205 (dk_at dksJ21_getLongUnaligned_5 12 rfl rfl)
theorem dJ21_getLongUnaligned_135 : decode cJ21_getLongUnaligned 135 = .ok (.ladd, 1) := dk_97 (dk_at dksJ21_getLongUnaligned_5 15 rfl rfl)
theorem dJ21_getLongUnaligned_136 : decode cJ21_getLongUnaligned 136 = .ok (.invokevirtual 39, 3) := dk_182 0 39 (dk_at dksJ21_getLongUnaligned_5 16 rfl rfl)
theorem dJ21_getLongUnaligned_139 : decode cJ21_getLongUnaligned 139 = .ok (.aload_n 0, 1) := dk_42 (dk_at dksJ21_getLongUnaligned_5 19 rfl rfl)
theorem dJ21_getLongUnaligned_140 : decode cJ21_getLongUnaligned 140 = .ok (.aload_n 1, 1) := dk_43 (dk_at dksJ21_getLongUnaligned_5 20 rfl rfl)
theorem dJ21_getLongUnaligned_141 : decode cJ21_getLongUnaligned 141 = .ok (.lload_n 2, 1) := dk_32 (dk_at dksJ21_getLongUnaligned_5 21 rfl rfl)
theorem dJ21_getLongUnaligned_142 : decode cJ21_getLongUnaligned 142 = .ok (.ldc2_w 707, 3) := dk_20 2 195 (dk_at dksJ21_getLongUnaligned_6 0 rfl rfl)
theorem dJ21_getLongUnaligned_145 : decode cJ21_getLongUnaligned 145 = .ok (.ladd, 1) := dk_97 (dk_at dksJ21_getLongUnaligned_6 3 rfl rfl)
theorem dJ21_getLongUnaligned_146 : decode cJ21_getLongUnaligned 146 = .ok (.invokevirtual 39, 3) := dk_182 0 39 (dk_at dksJ21_getLongUnaligned_6 4 rfl rfl)
theorem dJ21_getLongUnaligned_149 : decode cJ21_getLongUnaligned 149 = .ok (.aload_n 0, 1) := dk_42 (dk_at dksJ21_getLongUnaligned_6 7 rfl rfl)
theorem dJ21_getLongUnaligned_150 : decode cJ21_getLongUnaligned 150 = .ok (.aload_n 1, 1) := dk_43 (dk_at dksJ21_getLongUnaligned_6 8 rfl rfl)
theorem dJ21_getLongUnaligned_151 : decode cJ21_getLongUnaligned 151 = .ok (.lload_n 2, 1) := dk_32 (dk_at dksJ21_getLongUnaligned_6 9 rfl rfl)
theorem dJ21_getLongUnaligned_152 : decode cJ21_getLongUnaligned 152 = .ok (.ldc2_w 702, 3) := dk_20 2 190 (dk_at dksJ21_getLongUnaligned_6 10 rfl rfl)
theorem dJ21_getLongUnaligned_155 : decode cJ21_getLongUnaligned 155 = .ok (.ladd, 1) := dk_97 (dk_at dksJ21_getLongUnaligned_6 13 rfl rfl)
theorem dJ21_getLongUnaligned_156 : decode cJ21_getLongUnaligned 156 = .ok (.invokevirtual 39, 3) := dk_182 0 39 (dk_at dksJ21_getLongUnaligned_6 14 rfl rfl)
theorem dJ21_getLongUnaligned_159 : decode cJ21_getLongUnaligned 159 = .ok (.aload_n 0, 1) := dk_42 (dk_at dksJ21_getLongUnaligned_6 17 rfl rfl)
theorem dJ21_getLongUnaligned_160 : decode cJ21_getLongUnaligned 160 = .ok (.aload_n 1, 1) := dk_43 (dk_at dksJ21_getLongUnaligned_6 18 rfl rfl)
theorem dJ21_getLongUnaligned_161 : decode cJ21_getLongUnaligned 161 = .ok (.lload_n 2, 1) := dk_32 (dk_at dksJ21_getLongUnaligned_6 19 rfl rfl)
theorem dJ21_getLongUnaligned_162 : decode cJ21_getLongUnaligned 162 = .ok (.ldc2_w 696, 3) := dk_20 2 184 (dk_at dksJ21_getLongUnaligned_6 20 rfl rfl)
theorem dJ21_getLongUnaligned_165 : decode cJ21_getLongUnaligned 165 = .ok (.ladd, 1) := dk_97 (dk_at dksJ21_getLongUnaligned_6 23 rfl rfl)
theorem dJ21_getLongUnaligned_166 : decode cJ21_getLongUnaligned 166 = .ok (.invokevirtual 39, 3) := dk_182 0 39 (dk_at dksJ21_getLongUnaligned_7 0 rfl rfl)
theorem dJ21_getLongUnaligned_169 : decode cJ21_getLongUnaligned 169 = .ok (.invokestatic 709, 3) := dk_184 2 197 (dk_at dksJ21_getLongUnaligned_7 3 rfl rfl)
theorem dJ21_getLongUnaligned_172 : decode cJ21_getLongUnaligned 172 = .ok (.lreturn, 1) := dk_173 (dk_at dksJ21_getLongUnaligned_7 6 rfl rfl)
abbrev cJ21_makeLong : ByteArray := prog_68_method_353_code
def yJ21_makeLong : MethodName := ⟨RJ21, "makeLong", "(II)J"⟩
def dkwJ21_makeLong_1 : List UInt8 := [173]
abbrev dktJ21_makeLong_1 : List UInt8 := dkwJ21_makeLong_1 ++ []
def dkwJ21_makeLong_0 : List UInt8 := [26, 184, 3, 23, 16, 32, 3, 184, 3, 16, 121, 27, 184, 3, 23, 16, 32, 16, 32, 184, 3, 16, 121, 129]
abbrev dktJ21_makeLong_0 : List UInt8 := dkwJ21_makeLong_0 ++ dktJ21_makeLong_1
theorem dksJ21_makeLong_0 : cJ21_makeLong.data.toList.drop 0 = dktJ21_makeLong_0 := by decide +kernel
theorem dksJ21_makeLong_1 : cJ21_makeLong.data.toList.drop 24 = dktJ21_makeLong_1 := dk_seg dksJ21_makeLong_0 24 rfl rfl
theorem dJ21_makeLong_0 : decode cJ21_makeLong 0 = .ok (.iload_n 0, 1) := dk_26 (dk_at dksJ21_makeLong_0 0 rfl rfl)
theorem dJ21_makeLong_1 : decode cJ21_makeLong 1 = .ok (.invokestatic 791, 3) := dk_184 3 23 (dk_at dksJ21_makeLong_0 1 rfl rfl)
theorem dJ21_makeLong_4 : decode cJ21_makeLong 4 = .ok (.bipush 32, 2) := dk_16 32 (dk_at dksJ21_makeLong_0 4 rfl rfl)
theorem dJ21_makeLong_6 : decode cJ21_makeLong 6 = .ok (.iconst 0, 1) := dk_3 (dk_at dksJ21_makeLong_0 6 rfl rfl)
theorem dJ21_makeLong_7 : decode cJ21_makeLong 7 = .ok (.invokestatic 784, 3) := dk_184 3 16 (dk_at dksJ21_makeLong_0 7 rfl rfl)
theorem dJ21_makeLong_10 : decode cJ21_makeLong 10 = .ok (.lshl, 1) := dk_121 (dk_at dksJ21_makeLong_0 10 rfl rfl)
theorem dJ21_makeLong_11 : decode cJ21_makeLong 11 = .ok (.iload_n 1, 1) := dk_27 (dk_at dksJ21_makeLong_0 11 rfl rfl)
theorem dJ21_makeLong_12 : decode cJ21_makeLong 12 = .ok (.invokestatic 791, 3) := dk_184 3 23 (dk_at dksJ21_makeLong_0 12 rfl rfl)
theorem dJ21_makeLong_15 : decode cJ21_makeLong 15 = .ok (.bipush 32, 2) := dk_16 32 (dk_at dksJ21_makeLong_0 15 rfl rfl)
theorem dJ21_makeLong_17 : decode cJ21_makeLong 17 = .ok (.bipush 32, 2) := dk_16 32 (dk_at dksJ21_makeLong_0 17 rfl rfl)
theorem dJ21_makeLong_19 : decode cJ21_makeLong 19 = .ok (.invokestatic 784, 3) := dk_184 3 16 (dk_at dksJ21_makeLong_0 19 rfl rfl)
theorem dJ21_makeLong_22 : decode cJ21_makeLong 22 = .ok (.lshl, 1) := dk_121 (dk_at dksJ21_makeLong_0 22 rfl rfl)
theorem dJ21_makeLong_23 : decode cJ21_makeLong 23 = .ok (.lor, 1) := dk_129 (dk_at dksJ21_makeLong_0 23 rfl rfl)
theorem dJ21_makeLong_24 : decode cJ21_makeLong 24 = .ok (.lreturn, 1) := dk_173 (dk_at dksJ21_makeLong_1 0 rfl rfl)
abbrev cJ21_toUnsignedLong : ByteArray := prog_68_method_370_code
def yJ21_toUnsignedLong : MethodName := ⟨RJ21, "toUnsignedLong", "(I)J"⟩
def dkwJ21_toUnsignedLong_0 : List UInt8 := [26, 133, 20, 3, 44, 127, 173]
abbrev dktJ21_toUnsignedLong_0 : List UInt8 := dkwJ21_toUnsignedLong_0 ++ []
theorem dksJ21_toUnsignedLong_0 : cJ21_toUnsignedLong.data.toList.drop 0 = dktJ21_toUnsignedLong_0 := by decide +kernel
theorem dJ21_toUnsignedLong_0 : decode cJ21_toUnsignedLong 0 = .ok (.iload_n 0, 1) := dk_26 (dk_at dksJ21_toUnsignedLong_0 0 rfl rfl)
theorem dJ21_toUnsignedLong_1 : decode cJ21_toUnsignedLong 1 = .ok (.i2l, 1) := dk_133 (dk_at dksJ21_toUnsignedLong_0 1 rfl rfl)
theorem dJ21_toUnsignedLong_2 : decode cJ21_toUnsignedLong 2 = .ok (.ldc2_w 812, 3) := dk_20 3 44 (dk_at dksJ21_toUnsignedLong_0 2 rfl rfl)
theorem dJ21_toUnsignedLong_5 : decode cJ21_toUnsignedLong 5 = .ok (.land, 1) := dk_127 (dk_at dksJ21_toUnsignedLong_0 5 rfl rfl)
theorem dJ21_toUnsignedLong_6 : decode cJ21_toUnsignedLong 6 = .ok (.lreturn, 1) := dk_173 (dk_at dksJ21_toUnsignedLong_0 6 rfl rfl)
abbrev cJ21_pickPos : ByteArray := prog_68_method_350_code
def yJ21_pickPos : MethodName := ⟨RJ21, "pickPos", "(II)I"⟩
def dkwJ21_pickPos_0 : List UInt8 := [178, 1, 95, 153, 0, 9, 26, 27, 100, 167, 0, 4, 27, 172]
abbrev dktJ21_pickPos_0 : List UInt8 := dkwJ21_pickPos_0 ++ []
theorem dksJ21_pickPos_0 : cJ21_pickPos.data.toList.drop 0 = dktJ21_pickPos_0 := by decide +kernel
theorem dJ21_pickPos_0 : decode cJ21_pickPos 0 = .ok (.getstatic 351, 3) := dk_178 1 95 (dk_at dksJ21_pickPos_0 0 rfl rfl)
theorem dJ21_pickPos_3 : decode cJ21_pickPos 3 = .ok (.ifCond .eq 9, 3) := dk_153 0 9 (dk_at dksJ21_pickPos_0 3 rfl rfl)
theorem dJ21_pickPos_6 : decode cJ21_pickPos 6 = .ok (.iload_n 0, 1) := dk_26 (dk_at dksJ21_pickPos_0 6 rfl rfl)
theorem dJ21_pickPos_7 : decode cJ21_pickPos 7 = .ok (.iload_n 1, 1) := dk_27 (dk_at dksJ21_pickPos_0 7 rfl rfl)
theorem dJ21_pickPos_8 : decode cJ21_pickPos 8 = .ok (.isub, 1) := dk_100 (dk_at dksJ21_pickPos_0 8 rfl rfl)
theorem dJ21_pickPos_9 : decode cJ21_pickPos 9 = .ok (.goto 4, 3) := dk_167 0 4 (dk_at dksJ21_pickPos_0 9 rfl rfl)
theorem dJ21_pickPos_12 : decode cJ21_pickPos 12 = .ok (.iload_n 1, 1) := dk_27 (dk_at dksJ21_pickPos_0 12 rfl rfl)
theorem dJ21_pickPos_13 : decode cJ21_pickPos 13 = .ok (.ireturn, 1) := dk_172 (dk_at dksJ21_pickPos_0 13 rfl rfl)
abbrev cJ21_makeLong_2 : ByteArray := prog_68_method_352_code
def yJ21_makeLong_2 : MethodName := ⟨RJ21, "makeLong", "(SSSS)J"⟩
def dkwJ21_makeLong_2_2 : List UInt8 := [121, 129, 173]
abbrev dktJ21_makeLong_2_2 : List UInt8 := dkwJ21_makeLong_2_2 ++ []
def dkwJ21_makeLong_2_1 : List UInt8 := [28, 184, 3, 20, 16, 48, 16, 32, 184, 3, 16, 121, 129, 29, 184, 3, 20, 16, 48, 16, 48, 184, 3, 16]
abbrev dktJ21_makeLong_2_1 : List UInt8 := dkwJ21_makeLong_2_1 ++ dktJ21_makeLong_2_2
def dkwJ21_makeLong_2_0 : List UInt8 := [26, 184, 3, 20, 16, 48, 3, 184, 3, 16, 121, 27, 184, 3, 20, 16, 48, 16, 16, 184, 3, 16, 121, 129]
abbrev dktJ21_makeLong_2_0 : List UInt8 := dkwJ21_makeLong_2_0 ++ dktJ21_makeLong_2_1
theorem dksJ21_makeLong_2_0 : cJ21_makeLong_2.data.toList.drop 0 = dktJ21_makeLong_2_0 := by decide +kernel
theorem dksJ21_makeLong_2_1 : cJ21_makeLong_2.data.toList.drop 24 = dktJ21_makeLong_2_1 := dk_seg dksJ21_makeLong_2_0 24 rfl rfl
theorem dksJ21_makeLong_2_2 : cJ21_makeLong_2.data.toList.drop 48 = dktJ21_makeLong_2_2 := dk_seg dksJ21_makeLong_2_1 24 rfl rfl
theorem dJ21_makeLong_2_0 : decode cJ21_makeLong_2 0 = .ok (.iload_n 0, 1) := dk_26 (dk_at dksJ21_makeLong_2_0 0 rfl rfl)
theorem dJ21_makeLong_2_1 : decode cJ21_makeLong_2 1 = .ok (.invokestatic 788, 3) := dk_184 3 20 (dk_at dksJ21_makeLong_2_0 1 rfl rfl)
theorem dJ21_makeLong_2_4 : decode cJ21_makeLong_2 4 = .ok (.bipush 48, 2) := dk_16 48 (dk_at dksJ21_makeLong_2_0 4 rfl rfl)
theorem dJ21_makeLong_2_6 : decode cJ21_makeLong_2 6 = .ok (.iconst 0, 1) := dk_3 (dk_at dksJ21_makeLong_2_0 6 rfl rfl)
theorem dJ21_makeLong_2_7 : decode cJ21_makeLong_2 7 = .ok (.invokestatic 784, 3) := dk_184 3 16 (dk_at dksJ21_makeLong_2_0 7 rfl rfl)
theorem dJ21_makeLong_2_10 : decode cJ21_makeLong_2 10 = .ok (.lshl, 1) := dk_121 (dk_at dksJ21_makeLong_2_0 10 rfl rfl)
theorem dJ21_makeLong_2_11 : decode cJ21_makeLong_2 11 = .ok (.iload_n 1, 1) := dk_27 (dk_at dksJ21_makeLong_2_0 11 rfl rfl)
theorem dJ21_makeLong_2_12 : decode cJ21_makeLong_2 12 = .ok (.invokestatic 788, 3) := dk_184 3 20 (dk_at dksJ21_makeLong_2_0 12 rfl rfl)
theorem dJ21_makeLong_2_15 : decode cJ21_makeLong_2 15 = .ok (.bipush 48, 2) := dk_16 48 (dk_at dksJ21_makeLong_2_0 15 rfl rfl)
theorem dJ21_makeLong_2_17 : decode cJ21_makeLong_2 17 = .ok (.bipush 16, 2) := dk_16 16 (dk_at dksJ21_makeLong_2_0 17 rfl rfl)
theorem dJ21_makeLong_2_19 : decode cJ21_makeLong_2 19 = .ok (.invokestatic 784, 3) := dk_184 3 16 (dk_at dksJ21_makeLong_2_0 19 rfl rfl)
theorem dJ21_makeLong_2_22 : decode cJ21_makeLong_2 22 = .ok (.lshl, 1) := dk_121 (dk_at dksJ21_makeLong_2_0 22 rfl rfl)
theorem dJ21_makeLong_2_23 : decode cJ21_makeLong_2 23 = .ok (.lor, 1) := dk_129 (dk_at dksJ21_makeLong_2_0 23 rfl rfl)
theorem dJ21_makeLong_2_24 : decode cJ21_makeLong_2 24 = .ok (.iload_n 2, 1) := dk_28 (dk_at dksJ21_makeLong_2_1 0 rfl rfl)
theorem dJ21_makeLong_2_25 : decode cJ21_makeLong_2 25 = .ok (.invokestatic 788, 3) := dk_184 3 20 (dk_at dksJ21_makeLong_2_1 1 rfl rfl)
theorem dJ21_makeLong_2_28 : decode cJ21_makeLong_2 28 = .ok (.bipush 48, 2) := dk_16 48 (dk_at dksJ21_makeLong_2_1 4 rfl rfl)
theorem dJ21_makeLong_2_30 : decode cJ21_makeLong_2 30 = .ok (.bipush 32, 2) := dk_16 32 (dk_at dksJ21_makeLong_2_1 6 rfl rfl)
theorem dJ21_makeLong_2_32 : decode cJ21_makeLong_2 32 = .ok (.invokestatic 784, 3) := dk_184 3 16 (dk_at dksJ21_makeLong_2_1 8 rfl rfl)
theorem dJ21_makeLong_2_35 : decode cJ21_makeLong_2 35 = .ok (.lshl, 1) := dk_121 (dk_at dksJ21_makeLong_2_1 11 rfl rfl)
theorem dJ21_makeLong_2_36 : decode cJ21_makeLong_2 36 = .ok (.lor, 1) := dk_129 (dk_at dksJ21_makeLong_2_1 12 rfl rfl)
theorem dJ21_makeLong_2_37 : decode cJ21_makeLong_2 37 = .ok (.iload_n 3, 1) := dk_29 (dk_at dksJ21_makeLong_2_1 13 rfl rfl)
theorem dJ21_makeLong_2_38 : decode cJ21_makeLong_2 38 = .ok (.invokestatic 788, 3) := dk_184 3 20 (dk_at dksJ21_makeLong_2_1 14 rfl rfl)
theorem dJ21_makeLong_2_41 : decode cJ21_makeLong_2 41 = .ok (.bipush 48, 2) := dk_16 48 (dk_at dksJ21_makeLong_2_1 17 rfl rfl)
theorem dJ21_makeLong_2_43 : decode cJ21_makeLong_2 43 = .ok (.bipush 48, 2) := dk_16 48 (dk_at dksJ21_makeLong_2_1 19 rfl rfl)
theorem dJ21_makeLong_2_45 : decode cJ21_makeLong_2 45 = .ok (.invokestatic 784, 3) := dk_184 3 16 (dk_at dksJ21_makeLong_2_1 21 rfl rfl)
theorem dJ21_makeLong_2_48 : decode cJ21_makeLong_2 48 = .ok (.lshl, 1) := dk_121 (dk_at dksJ21_makeLong_2_2 0 rfl rfl)
theorem dJ21_makeLong_2_49 : decode cJ21_makeLong_2 49 = .ok (.lor, 1) := dk_129 (dk_at dksJ21_makeLong_2_2 1 rfl rfl)
theorem dJ21_makeLong_2_50 : decode cJ21_makeLong_2 50 = .ok (.lreturn, 1) := dk_173 (dk_at dksJ21_makeLong_2_2 2 rfl rfl)
abbrev cJ21_toUnsignedLong_2 : ByteArray := prog_68_method_369_code
def yJ21_toUnsignedLong_2 : MethodName := ⟨RJ21, "toUnsignedLong", "(S)J"⟩
def dkwJ21_toUnsignedLong_2_0 : List UInt8 := [26, 133, 20, 3, 42, 127, 173]
abbrev dktJ21_toUnsignedLong_2_0 : List UInt8 := dkwJ21_toUnsignedLong_2_0 ++ []
theorem dksJ21_toUnsignedLong_2_0 : cJ21_toUnsignedLong_2.data.toList.drop 0 = dktJ21_toUnsignedLong_2_0 := by decide +kernel
theorem dJ21_toUnsignedLong_2_0 : decode cJ21_toUnsignedLong_2 0 = .ok (.iload_n 0, 1) := dk_26 (dk_at dksJ21_toUnsignedLong_2_0 0 rfl rfl)
theorem dJ21_toUnsignedLong_2_1 : decode cJ21_toUnsignedLong_2 1 = .ok (.i2l, 1) := dk_133 (dk_at dksJ21_toUnsignedLong_2_0 1 rfl rfl)
theorem dJ21_toUnsignedLong_2_2 : decode cJ21_toUnsignedLong_2 2 = .ok (.ldc2_w 810, 3) := dk_20 3 42 (dk_at dksJ21_toUnsignedLong_2_0 2 rfl rfl)
theorem dJ21_toUnsignedLong_2_5 : decode cJ21_toUnsignedLong_2 5 = .ok (.land, 1) := dk_127 (dk_at dksJ21_toUnsignedLong_2_0 5 rfl rfl)
theorem dJ21_toUnsignedLong_2_6 : decode cJ21_toUnsignedLong_2 6 = .ok (.lreturn, 1) := dk_173 (dk_at dksJ21_toUnsignedLong_2_0 6 rfl rfl)
abbrev cJ21_makeLong_3 : ByteArray := prog_68_method_351_code
def yJ21_makeLong_3 : MethodName := ⟨RJ21, "makeLong", "(BBBBBBBB)J"⟩
def dkwJ21_makeLong_3_4 : List UInt8 := [184, 3, 13, 16, 56, 16, 56, 184, 3, 16, 121, 129, 173]
abbrev dktJ21_makeLong_3_4 : List UInt8 := dkwJ21_makeLong_3_4 ++ []
def dkwJ21_makeLong_3_3 : List UInt8 := [16, 40, 184, 3, 16, 121, 129, 21, 6, 184, 3, 13, 16, 56, 16, 48, 184, 3, 16, 121, 129, 21, 7]
abbrev dktJ21_makeLong_3_3 : List UInt8 := dkwJ21_makeLong_3_3 ++ dktJ21_makeLong_3_4
def dkwJ21_makeLong_3_2 : List UInt8 := [121, 129, 21, 4, 184, 3, 13, 16, 56, 16, 32, 184, 3, 16, 121, 129, 21, 5, 184, 3, 13, 16, 56]
abbrev dktJ21_makeLong_3_2 : List UInt8 := dkwJ21_makeLong_3_2 ++ dktJ21_makeLong_3_3
def dkwJ21_makeLong_3_1 : List UInt8 := [28, 184, 3, 13, 16, 56, 16, 16, 184, 3, 16, 121, 129, 29, 184, 3, 13, 16, 56, 16, 24, 184, 3, 16]
abbrev dktJ21_makeLong_3_1 : List UInt8 := dkwJ21_makeLong_3_1 ++ dktJ21_makeLong_3_2
def dkwJ21_makeLong_3_0 : List UInt8 := [26, 184, 3, 13, 16, 56, 3, 184, 3, 16, 121, 27, 184, 3, 13, 16, 56, 16, 8, 184, 3, 16, 121, 129]
abbrev dktJ21_makeLong_3_0 : List UInt8 := dkwJ21_makeLong_3_0 ++ dktJ21_makeLong_3_1
theorem dksJ21_makeLong_3_0 : cJ21_makeLong_3.data.toList.drop 0 = dktJ21_makeLong_3_0 := by decide +kernel
theorem dksJ21_makeLong_3_1 : cJ21_makeLong_3.data.toList.drop 24 = dktJ21_makeLong_3_1 := dk_seg dksJ21_makeLong_3_0 24 rfl rfl
theorem dksJ21_makeLong_3_2 : cJ21_makeLong_3.data.toList.drop 48 = dktJ21_makeLong_3_2 := dk_seg dksJ21_makeLong_3_1 24 rfl rfl
theorem dksJ21_makeLong_3_3 : cJ21_makeLong_3.data.toList.drop 71 = dktJ21_makeLong_3_3 := dk_seg dksJ21_makeLong_3_2 23 rfl rfl
theorem dksJ21_makeLong_3_4 : cJ21_makeLong_3.data.toList.drop 94 = dktJ21_makeLong_3_4 := dk_seg dksJ21_makeLong_3_3 23 rfl rfl
theorem dJ21_makeLong_3_0 : decode cJ21_makeLong_3 0 = .ok (.iload_n 0, 1) := dk_26 (dk_at dksJ21_makeLong_3_0 0 rfl rfl)
theorem dJ21_makeLong_3_1 : decode cJ21_makeLong_3 1 = .ok (.invokestatic 781, 3) := dk_184 3 13 (dk_at dksJ21_makeLong_3_0 1 rfl rfl)
theorem dJ21_makeLong_3_4 : decode cJ21_makeLong_3 4 = .ok (.bipush 56, 2) := dk_16 56 (dk_at dksJ21_makeLong_3_0 4 rfl rfl)
theorem dJ21_makeLong_3_6 : decode cJ21_makeLong_3 6 = .ok (.iconst 0, 1) := dk_3 (dk_at dksJ21_makeLong_3_0 6 rfl rfl)
theorem dJ21_makeLong_3_7 : decode cJ21_makeLong_3 7 = .ok (.invokestatic 784, 3) := dk_184 3 16 (dk_at dksJ21_makeLong_3_0 7 rfl rfl)
theorem dJ21_makeLong_3_10 : decode cJ21_makeLong_3 10 = .ok (.lshl, 1) := dk_121 (dk_at dksJ21_makeLong_3_0 10 rfl rfl)
theorem dJ21_makeLong_3_11 : decode cJ21_makeLong_3 11 = .ok (.iload_n 1, 1) := dk_27 (dk_at dksJ21_makeLong_3_0 11 rfl rfl)
theorem dJ21_makeLong_3_12 : decode cJ21_makeLong_3 12 = .ok (.invokestatic 781, 3) := dk_184 3 13 (dk_at dksJ21_makeLong_3_0 12 rfl rfl)
theorem dJ21_makeLong_3_15 : decode cJ21_makeLong_3 15 = .ok (.bipush 56, 2) := dk_16 56 (dk_at dksJ21_makeLong_3_0 15 rfl rfl)
theorem dJ21_makeLong_3_17 : decode cJ21_makeLong_3 17 = .ok (.bipush 8, 2) := dk_16 8 (dk_at dksJ21_makeLong_3_0 17 rfl rfl)
theorem dJ21_makeLong_3_19 : decode cJ21_makeLong_3 19 = .ok (.invokestatic 784, 3) := dk_184 3 16 (dk_at dksJ21_makeLong_3_0 19 rfl rfl)
theorem dJ21_makeLong_3_22 : decode cJ21_makeLong_3 22 = .ok (.lshl, 1) := dk_121 (dk_at dksJ21_makeLong_3_0 22 rfl rfl)
theorem dJ21_makeLong_3_23 : decode cJ21_makeLong_3 23 = .ok (.lor, 1) := dk_129 (dk_at dksJ21_makeLong_3_0 23 rfl rfl)
theorem dJ21_makeLong_3_24 : decode cJ21_makeLong_3 24 = .ok (.iload_n 2, 1) := dk_28 (dk_at dksJ21_makeLong_3_1 0 rfl rfl)
theorem dJ21_makeLong_3_25 : decode cJ21_makeLong_3 25 = .ok (.invokestatic 781, 3) := dk_184 3 13 (dk_at dksJ21_makeLong_3_1 1 rfl rfl)
theorem dJ21_makeLong_3_28 : decode cJ21_makeLong_3 28 = .ok (.bipush 56, 2) := dk_16 56 (dk_at dksJ21_makeLong_3_1 4 rfl rfl)
theorem dJ21_makeLong_3_30 : decode cJ21_makeLong_3 30 = .ok (.bipush 16, 2) := dk_16 16 (dk_at dksJ21_makeLong_3_1 6 rfl rfl)
theorem dJ21_makeLong_3_32 : decode cJ21_makeLong_3 32 = .ok (.invokestatic 784, 3) := dk_184 3 16 (dk_at dksJ21_makeLong_3_1 8 rfl rfl)
theorem dJ21_makeLong_3_35 : decode cJ21_makeLong_3 35 = .ok (.lshl, 1) := dk_121 (dk_at dksJ21_makeLong_3_1 11 rfl rfl)
theorem dJ21_makeLong_3_36 : decode cJ21_makeLong_3 36 = .ok (.lor, 1) := dk_129 (dk_at dksJ21_makeLong_3_1 12 rfl rfl)
theorem dJ21_makeLong_3_37 : decode cJ21_makeLong_3 37 = .ok (.iload_n 3, 1) := dk_29 (dk_at dksJ21_makeLong_3_1 13 rfl rfl)
theorem dJ21_makeLong_3_38 : decode cJ21_makeLong_3 38 = .ok (.invokestatic 781, 3) := dk_184 3 13 (dk_at dksJ21_makeLong_3_1 14 rfl rfl)
theorem dJ21_makeLong_3_41 : decode cJ21_makeLong_3 41 = .ok (.bipush 56, 2) := dk_16 56 (dk_at dksJ21_makeLong_3_1 17 rfl rfl)
theorem dJ21_makeLong_3_43 : decode cJ21_makeLong_3 43 = .ok (.bipush 24, 2) := dk_16 24 (dk_at dksJ21_makeLong_3_1 19 rfl rfl)
theorem dJ21_makeLong_3_45 : decode cJ21_makeLong_3 45 = .ok (.invokestatic 784, 3) := dk_184 3 16 (dk_at dksJ21_makeLong_3_1 21 rfl rfl)
theorem dJ21_makeLong_3_48 : decode cJ21_makeLong_3 48 = .ok (.lshl, 1) := dk_121 (dk_at dksJ21_makeLong_3_2 0 rfl rfl)
theorem dJ21_makeLong_3_49 : decode cJ21_makeLong_3 49 = .ok (.lor, 1) := dk_129 (dk_at dksJ21_makeLong_3_2 1 rfl rfl)
theorem dJ21_makeLong_3_50 : decode cJ21_makeLong_3 50 = .ok (.iload 4, 2) := dk_21 4 (dk_at dksJ21_makeLong_3_2 2 rfl rfl)
theorem dJ21_makeLong_3_52 : decode cJ21_makeLong_3 52 = .ok (.invokestatic 781, 3) := dk_184 3 13 (dk_at dksJ21_makeLong_3_2 4 rfl rfl)
theorem dJ21_makeLong_3_55 : decode cJ21_makeLong_3 55 = .ok (.bipush 56, 2) := dk_16 56 (dk_at dksJ21_makeLong_3_2 7 rfl rfl)
theorem dJ21_makeLong_3_57 : decode cJ21_makeLong_3 57 = .ok (.bipush 32, 2) := dk_16 32 (dk_at dksJ21_makeLong_3_2 9 rfl rfl)
theorem dJ21_makeLong_3_59 : decode cJ21_makeLong_3 59 = .ok (.invokestatic 784, 3) := dk_184 3 16 (dk_at dksJ21_makeLong_3_2 11 rfl rfl)
theorem dJ21_makeLong_3_62 : decode cJ21_makeLong_3 62 = .ok (.lshl, 1) := dk_121 (dk_at dksJ21_makeLong_3_2 14 rfl rfl)
theorem dJ21_makeLong_3_63 : decode cJ21_makeLong_3 63 = .ok (.lor, 1) := dk_129 (dk_at dksJ21_makeLong_3_2 15 rfl rfl)
theorem dJ21_makeLong_3_64 : decode cJ21_makeLong_3 64 = .ok (.iload 5, 2) := dk_21 5 (dk_at dksJ21_makeLong_3_2 16 rfl rfl)
theorem dJ21_makeLong_3_66 : decode cJ21_makeLong_3 66 = .ok (.invokestatic 781, 3) := dk_184 3 13 (dk_at dksJ21_makeLong_3_2 18 rfl rfl)
theorem dJ21_makeLong_3_69 : decode cJ21_makeLong_3 69 = .ok (.bipush 56, 2) := dk_16 56 (dk_at dksJ21_makeLong_3_2 21 rfl rfl)
theorem dJ21_makeLong_3_71 : decode cJ21_makeLong_3 71 = .ok (.bipush 40, 2) := dk_16 40 (dk_at dksJ21_makeLong_3_3 0 rfl rfl)
theorem dJ21_makeLong_3_73 : decode cJ21_makeLong_3 73 = .ok (.invokestatic 784, 3) := dk_184 3 16 (dk_at dksJ21_makeLong_3_3 2 rfl rfl)
theorem dJ21_makeLong_3_76 : decode cJ21_makeLong_3 76 = .ok (.lshl, 1) := dk_121 (dk_at dksJ21_makeLong_3_3 5 rfl rfl)
theorem dJ21_makeLong_3_77 : decode cJ21_makeLong_3 77 = .ok (.lor, 1) := dk_129 (dk_at dksJ21_makeLong_3_3 6 rfl rfl)
theorem dJ21_makeLong_3_78 : decode cJ21_makeLong_3 78 = .ok (.iload 6, 2) := dk_21 6 (dk_at dksJ21_makeLong_3_3 7 rfl rfl)
theorem dJ21_makeLong_3_80 : decode cJ21_makeLong_3 80 = .ok (.invokestatic 781, 3) := dk_184 3 13 (dk_at dksJ21_makeLong_3_3 9 rfl rfl)
theorem dJ21_makeLong_3_83 : decode cJ21_makeLong_3 83 = .ok (.bipush 56, 2) := dk_16 56 (dk_at dksJ21_makeLong_3_3 12 rfl rfl)
theorem dJ21_makeLong_3_85 : decode cJ21_makeLong_3 85 = .ok (.bipush 48, 2) := dk_16 48 (dk_at dksJ21_makeLong_3_3 14 rfl rfl)
theorem dJ21_makeLong_3_87 : decode cJ21_makeLong_3 87 = .ok (.invokestatic 784, 3) := dk_184 3 16 (dk_at dksJ21_makeLong_3_3 16 rfl rfl)
theorem dJ21_makeLong_3_90 : decode cJ21_makeLong_3 90 = .ok (.lshl, 1) := dk_121 (dk_at dksJ21_makeLong_3_3 19 rfl rfl)
theorem dJ21_makeLong_3_91 : decode cJ21_makeLong_3 91 = .ok (.lor, 1) := dk_129 (dk_at dksJ21_makeLong_3_3 20 rfl rfl)
theorem dJ21_makeLong_3_92 : decode cJ21_makeLong_3 92 = .ok (.iload 7, 2) := dk_21 7 (dk_at dksJ21_makeLong_3_3 21 rfl rfl)
theorem dJ21_makeLong_3_94 : decode cJ21_makeLong_3 94 = .ok (.invokestatic 781, 3) := dk_184 3 13 (dk_at dksJ21_makeLong_3_4 0 rfl rfl)
theorem dJ21_makeLong_3_97 : decode cJ21_makeLong_3 97 = .ok (.bipush 56, 2) := dk_16 56 (dk_at dksJ21_makeLong_3_4 3 rfl rfl)
theorem dJ21_makeLong_3_99 : decode cJ21_makeLong_3 99 = .ok (.bipush 56, 2) := dk_16 56 (dk_at dksJ21_makeLong_3_4 5 rfl rfl)
theorem dJ21_makeLong_3_101 : decode cJ21_makeLong_3 101 = .ok (.invokestatic 784, 3) := dk_184 3 16 (dk_at dksJ21_makeLong_3_4 7 rfl rfl)
theorem dJ21_makeLong_3_104 : decode cJ21_makeLong_3 104 = .ok (.lshl, 1) := dk_121 (dk_at dksJ21_makeLong_3_4 10 rfl rfl)
theorem dJ21_makeLong_3_105 : decode cJ21_makeLong_3 105 = .ok (.lor, 1) := dk_129 (dk_at dksJ21_makeLong_3_4 11 rfl rfl)
theorem dJ21_makeLong_3_106 : decode cJ21_makeLong_3 106 = .ok (.lreturn, 1) := dk_173 (dk_at dksJ21_makeLong_3_4 12 rfl rfl)
abbrev cJ21_toUnsignedLong_3 : ByteArray := prog_68_method_368_code
def yJ21_toUnsignedLong_3 : MethodName := ⟨RJ21, "toUnsignedLong", "(B)J"⟩
def dkwJ21_toUnsignedLong_3_0 : List UInt8 := [26, 133, 20, 3, 40, 127, 173]
abbrev dktJ21_toUnsignedLong_3_0 : List UInt8 := dkwJ21_toUnsignedLong_3_0 ++ []
theorem dksJ21_toUnsignedLong_3_0 : cJ21_toUnsignedLong_3.data.toList.drop 0 = dktJ21_toUnsignedLong_3_0 := by decide +kernel
theorem dJ21_toUnsignedLong_3_0 : decode cJ21_toUnsignedLong_3 0 = .ok (.iload_n 0, 1) := dk_26 (dk_at dksJ21_toUnsignedLong_3_0 0 rfl rfl)
theorem dJ21_toUnsignedLong_3_1 : decode cJ21_toUnsignedLong_3 1 = .ok (.i2l, 1) := dk_133 (dk_at dksJ21_toUnsignedLong_3_0 1 rfl rfl)
theorem dJ21_toUnsignedLong_3_2 : decode cJ21_toUnsignedLong_3 2 = .ok (.ldc2_w 808, 3) := dk_20 3 40 (dk_at dksJ21_toUnsignedLong_3_0 2 rfl rfl)
theorem dJ21_toUnsignedLong_3_5 : decode cJ21_toUnsignedLong_3 5 = .ok (.land, 1) := dk_127 (dk_at dksJ21_toUnsignedLong_3_0 5 rfl rfl)
theorem dJ21_toUnsignedLong_3_6 : decode cJ21_toUnsignedLong_3 6 = .ok (.lreturn, 1) := dk_173 (dk_at dksJ21_toUnsignedLong_3_0 6 rfl rfl)
abbrev cJ21_getIntUnaligned : ByteArray := prog_68_method_336_code
def yJ21_getIntUnaligned : MethodName := ⟨RJ21, "getIntUnaligned", "(Ljava/lang/Object;J)I"⟩
def dkwJ21_getIntUnaligned_3 : List UInt8 := [43, 32, 20, 1, 93, 97, 182, 0, 39, 184, 2, 211, 172]
abbrev dktJ21_getIntUnaligned_3 : List UInt8 := dkwJ21_getIntUnaligned_3 ++ []
def dkwJ21_getIntUnaligned_2 : List UInt8 := [43, 32, 182, 0, 39, 42, 43, 32, 10, 97, 182, 0, 39, 42, 43, 32, 20, 0, 203, 97, 182, 0, 39, 42]
abbrev dktJ21_getIntUnaligned_2 : List UInt8 := dkwJ21_getIntUnaligned_2 ++ dktJ21_getIntUnaligned_3
def dkwJ21_getIntUnaligned_1 : List UInt8 := [154, 0, 23, 42, 43, 32, 182, 0, 47, 42, 43, 32, 20, 0, 203, 97, 182, 0, 47, 184, 2, 207, 172, 42]
abbrev dktJ21_getIntUnaligned_1 : List UInt8 := dkwJ21_getIntUnaligned_1 ++ dktJ21_getIntUnaligned_2
def dkwJ21_getIntUnaligned_0 : List UInt8 := [32, 20, 1, 93, 127, 9, 148, 154, 0, 10, 42, 43, 32, 182, 0, 17, 172, 32, 10, 127, 9, 148]
abbrev dktJ21_getIntUnaligned_0 : List UInt8 := dkwJ21_getIntUnaligned_0 ++ dktJ21_getIntUnaligned_1
theorem dksJ21_getIntUnaligned_0 : cJ21_getIntUnaligned.data.toList.drop 0 = dktJ21_getIntUnaligned_0 := by decide +kernel
theorem dksJ21_getIntUnaligned_1 : cJ21_getIntUnaligned.data.toList.drop 22 = dktJ21_getIntUnaligned_1 := dk_seg dksJ21_getIntUnaligned_0 22 rfl rfl
theorem dksJ21_getIntUnaligned_2 : cJ21_getIntUnaligned.data.toList.drop 46 = dktJ21_getIntUnaligned_2 := dk_seg dksJ21_getIntUnaligned_1 24 rfl rfl
theorem dksJ21_getIntUnaligned_3 : cJ21_getIntUnaligned.data.toList.drop 70 = dktJ21_getIntUnaligned_3 := dk_seg dksJ21_getIntUnaligned_2 24 rfl rfl
theorem dJ21_getIntUnaligned_0 : decode cJ21_getIntUnaligned 0 = .ok (.lload_n 2, 1) := dk_32 (dk_at dksJ21_getIntUnaligned_0 0 rfl rfl)
theorem dJ21_getIntUnaligned_1 : decode cJ21_getIntUnaligned 1 = .ok (.ldc2_w 349, 3) := dk_20 1 93 (dk_at dksJ21_getIntUnaligned_0 1 rfl rfl)
theorem dJ21_getIntUnaligned_4 : decode cJ21_getIntUnaligned 4 = .ok (.land, 1) := dk_127 (dk_at dksJ21_getIntUnaligned_0 4 rfl rfl)
theorem dJ21_getIntUnaligned_5 : decode cJ21_getIntUnaligned 5 = .ok (.lconst 0, 1) := dk_9 (dk_at dksJ21_getIntUnaligned_0 5 rfl rfl)
theorem dJ21_getIntUnaligned_6 : decode cJ21_getIntUnaligned 6 = .ok (.lcmp, 1) := dk_148 (dk_at dksJ21_getIntUnaligned_0 6 rfl rfl)
theorem dJ21_getIntUnaligned_7 : decode cJ21_getIntUnaligned 7 = .ok (.ifCond .ne 10, 3) := dk_154 0 10 (dk_at dksJ21_getIntUnaligned_0 7 rfl rfl)
theorem dJ21_getIntUnaligned_10 : decode cJ21_getIntUnaligned 10 = .ok (.aload_n 0, 1) := dk_42 (dk_at dksJ21_getIntUnaligned_0 10 rfl rfl)
theorem dJ21_getIntUnaligned_11 : decode cJ21_getIntUnaligned 11 = .ok (.aload_n 1, 1) := dk_43 (dk_at dksJ21_getIntUnaligned_0 11 rfl rfl)
theorem dJ21_getIntUnaligned_12 : decode cJ21_getIntUnaligned 12 = .ok (.lload_n 2, 1) := dk_32 (dk_at dksJ21_getIntUnaligned_0 12 rfl rfl)
theorem dJ21_getIntUnaligned_13 : decode cJ21_getIntUnaligned 13 = .ok (.invokevirtual 17, 3) := dk_182 0 17 (dk_at dksJ21_getIntUnaligned_0 13 rfl rfl)
theorem dJ21_getIntUnaligned_16 : decode cJ21_getIntUnaligned 16 = .ok (.ireturn, 1) := dk_172 (dk_at dksJ21_getIntUnaligned_0 16 rfl rfl)
theorem dJ21_getIntUnaligned_17 : decode cJ21_getIntUnaligned 17 = .ok (.lload_n 2, 1) := dk_32 (dk_at dksJ21_getIntUnaligned_0 17 rfl rfl)
theorem dJ21_getIntUnaligned_18 : decode cJ21_getIntUnaligned 18 = .ok (.lconst 1, 1) := dk_10 (dk_at dksJ21_getIntUnaligned_0 18 rfl rfl)
theorem dJ21_getIntUnaligned_19 : decode cJ21_getIntUnaligned 19 = .ok (.land, 1) := dk_127 (dk_at dksJ21_getIntUnaligned_0 19 rfl rfl)
theorem dJ21_getIntUnaligned_20 : decode cJ21_getIntUnaligned 20 = .ok (.lconst 0, 1) := dk_9 (dk_at dksJ21_getIntUnaligned_0 20 rfl rfl)
theorem dJ21_getIntUnaligned_21 : decode cJ21_getIntUnaligned 21 = .ok (.lcmp, 1) := dk_148 (dk_at dksJ21_getIntUnaligned_0 21 rfl rfl)
theorem dJ21_getIntUnaligned_22 : decode cJ21_getIntUnaligned 22 = .ok (.ifCond .ne 23, 3) := dk_154 0 23 (dk_at dksJ21_getIntUnaligned_1 0 rfl rfl)
theorem dJ21_getIntUnaligned_25 : decode cJ21_getIntUnaligned 25 = .ok (.aload_n 0, 1) := dk_42 (dk_at dksJ21_getIntUnaligned_1 3 rfl rfl)
theorem dJ21_getIntUnaligned_26 : decode cJ21_getIntUnaligned 26 = .ok (.aload_n 1, 1) := dk_43 (dk_at dksJ21_getIntUnaligned_1 4 rfl rfl)
theorem dJ21_getIntUnaligned_27 : decode cJ21_getIntUnaligned 27 = .ok (.lload_n 2, 1) := dk_32 (dk_at dksJ21_getIntUnaligned_1 5 rfl rfl)
theorem dJ21_getIntUnaligned_28 : decode cJ21_getIntUnaligned 28 = .ok (.invokevirtual 47, 3) := dk_182 0 47 (dk_at dksJ21_getIntUnaligned_1 6 rfl rfl)
theorem dJ21_getIntUnaligned_31 : decode cJ21_getIntUnaligned 31 = .ok (.aload_n 0, 1) := dk_42 (dk_at dksJ21_getIntUnaligned_1 9 rfl rfl)
theorem dJ21_getIntUnaligned_32 : decode cJ21_getIntUnaligned 32 = .ok (.aload_n 1, 1) := dk_43 (dk_at dksJ21_getIntUnaligned_1 10 rfl rfl)
theorem dJ21_getIntUnaligned_33 : decode cJ21_getIntUnaligned 33 = .ok (.lload_n 2, 1) := dk_32 (dk_at dksJ21_getIntUnaligned_1 11 rfl rfl)
theorem dJ21_getIntUnaligned_34 : decode cJ21_getIntUnaligned 34 = .ok (.ldc2_w 203, 3) := dk_20 0 203 (dk_at dksJ21_getIntUnaligned_1 12 rfl rfl)
theorem dJ21_getIntUnaligned_37 : decode cJ21_getIntUnaligned 37 = .ok (.ladd, 1) := dk_97 (dk_at dksJ21_getIntUnaligned_1 15 rfl rfl)
theorem dJ21_getIntUnaligned_38 : decode cJ21_getIntUnaligned 38 = .ok (.invokevirtual 47, 3) := dk_182 0 47 (dk_at dksJ21_getIntUnaligned_1 16 rfl rfl)
theorem dJ21_getIntUnaligned_41 : decode cJ21_getIntUnaligned 41 = .ok (.invokestatic 719, 3) := dk_184 2 207 (dk_at dksJ21_getIntUnaligned_1 19 rfl rfl)
theorem dJ21_getIntUnaligned_44 : decode cJ21_getIntUnaligned 44 = .ok (.ireturn, 1) := dk_172 (dk_at dksJ21_getIntUnaligned_1 22 rfl rfl)
theorem dJ21_getIntUnaligned_45 : decode cJ21_getIntUnaligned 45 = .ok (.aload_n 0, 1) := dk_42 (dk_at dksJ21_getIntUnaligned_1 23 rfl rfl)
theorem dJ21_getIntUnaligned_46 : decode cJ21_getIntUnaligned 46 = .ok (.aload_n 1, 1) := dk_43 (dk_at dksJ21_getIntUnaligned_2 0 rfl rfl)
theorem dJ21_getIntUnaligned_47 : decode cJ21_getIntUnaligned 47 = .ok (.lload_n 2, 1) := dk_32 (dk_at dksJ21_getIntUnaligned_2 1 rfl rfl)
theorem dJ21_getIntUnaligned_48 : decode cJ21_getIntUnaligned 48 = .ok (.invokevirtual 39, 3) := dk_182 0 39 (dk_at dksJ21_getIntUnaligned_2 2 rfl rfl)
theorem dJ21_getIntUnaligned_51 : decode cJ21_getIntUnaligned 51 = .ok (.aload_n 0, 1) := dk_42 (dk_at dksJ21_getIntUnaligned_2 5 rfl rfl)
theorem dJ21_getIntUnaligned_52 : decode cJ21_getIntUnaligned 52 = .ok (.aload_n 1, 1) := dk_43 (dk_at dksJ21_getIntUnaligned_2 6 rfl rfl)
theorem dJ21_getIntUnaligned_53 : decode cJ21_getIntUnaligned 53 = .ok (.lload_n 2, 1) := dk_32 (dk_at dksJ21_getIntUnaligned_2 7 rfl rfl)
theorem dJ21_getIntUnaligned_54 : decode cJ21_getIntUnaligned 54 = .ok (.lconst 1, 1) := dk_10 (dk_at dksJ21_getIntUnaligned_2 8 rfl rfl)
theorem dJ21_getIntUnaligned_55 : decode cJ21_getIntUnaligned 55 = .ok (.ladd, 1) := dk_97 (dk_at dksJ21_getIntUnaligned_2 9 rfl rfl)
theorem dJ21_getIntUnaligned_56 : decode cJ21_getIntUnaligned 56 = .ok (.invokevirtual 39, 3) := dk_182 0 39 (dk_at dksJ21_getIntUnaligned_2 10 rfl rfl)
theorem dJ21_getIntUnaligned_59 : decode cJ21_getIntUnaligned 59 = .ok (.aload_n 0, 1) := dk_42 (dk_at dksJ21_getIntUnaligned_2 13 rfl rfl)
theorem dJ21_getIntUnaligned_60 : decode cJ21_getIntUnaligned 60 = .ok (.aload_n 1, 1) := dk_43 (dk_at dksJ21_getIntUnaligned_2 14 rfl rfl)
theorem dJ21_getIntUnaligned_61 : decode cJ21_getIntUnaligned 61 = .ok (.lload_n 2, 1) := dk_32 (dk_at dksJ21_getIntUnaligned_2 15 rfl rfl)
theorem dJ21_getIntUnaligned_62 : decode cJ21_getIntUnaligned 62 = .ok (.ldc2_w 203, 3) := dk_20 0 203 (dk_at dksJ21_getIntUnaligned_2 16 rfl rfl)
theorem dJ21_getIntUnaligned_65 : decode cJ21_getIntUnaligned 65 = .ok (.ladd, 1) := dk_97 (dk_at dksJ21_getIntUnaligned_2 19 rfl rfl)
theorem dJ21_getIntUnaligned_66 : decode cJ21_getIntUnaligned 66 = .ok (.invokevirtual 39, 3) := dk_182 0 39 (dk_at dksJ21_getIntUnaligned_2 20 rfl rfl)
theorem dJ21_getIntUnaligned_69 : decode cJ21_getIntUnaligned 69 = .ok (.aload_n 0, 1) := dk_42 (dk_at dksJ21_getIntUnaligned_2 23 rfl rfl)
theorem dJ21_getIntUnaligned_70 : decode cJ21_getIntUnaligned 70 = .ok (.aload_n 1, 1) := dk_43 (dk_at dksJ21_getIntUnaligned_3 0 rfl rfl)
theorem dJ21_getIntUnaligned_71 : decode cJ21_getIntUnaligned 71 = .ok (.lload_n 2, 1) := dk_32 (dk_at dksJ21_getIntUnaligned_3 1 rfl rfl)
theorem dJ21_getIntUnaligned_72 : decode cJ21_getIntUnaligned 72 = .ok (.ldc2_w 349, 3) := dk_20 1 93 (dk_at dksJ21_getIntUnaligned_3 2 rfl rfl)
theorem dJ21_getIntUnaligned_75 : decode cJ21_getIntUnaligned 75 = .ok (.ladd, 1) := dk_97 (dk_at dksJ21_getIntUnaligned_3 5 rfl rfl)
theorem dJ21_getIntUnaligned_76 : decode cJ21_getIntUnaligned 76 = .ok (.invokevirtual 39, 3) := dk_182 0 39 (dk_at dksJ21_getIntUnaligned_3 6 rfl rfl)
theorem dJ21_getIntUnaligned_79 : decode cJ21_getIntUnaligned 79 = .ok (.invokestatic 723, 3) := dk_184 2 211 (dk_at dksJ21_getIntUnaligned_3 9 rfl rfl)
theorem dJ21_getIntUnaligned_82 : decode cJ21_getIntUnaligned 82 = .ok (.ireturn, 1) := dk_172 (dk_at dksJ21_getIntUnaligned_3 12 rfl rfl)
abbrev cJ21_makeInt : ByteArray := prog_68_method_354_code
def yJ21_makeInt : MethodName := ⟨RJ21, "makeInt", "(SS)I"⟩
def dkwJ21_makeInt_1 : List UInt8 := [172]
abbrev dktJ21_makeInt_1 : List UInt8 := dkwJ21_makeInt_1 ++ []
def dkwJ21_makeInt_0 : List UInt8 := [26, 184, 3, 24, 16, 16, 3, 184, 3, 16, 120, 27, 184, 3, 24, 16, 16, 16, 16, 184, 3, 16, 120, 128]
abbrev dktJ21_makeInt_0 : List UInt8 := dkwJ21_makeInt_0 ++ dktJ21_makeInt_1
theorem dksJ21_makeInt_0 : cJ21_makeInt.data.toList.drop 0 = dktJ21_makeInt_0 := by decide +kernel
theorem dksJ21_makeInt_1 : cJ21_makeInt.data.toList.drop 24 = dktJ21_makeInt_1 := dk_seg dksJ21_makeInt_0 24 rfl rfl
theorem dJ21_makeInt_0 : decode cJ21_makeInt 0 = .ok (.iload_n 0, 1) := dk_26 (dk_at dksJ21_makeInt_0 0 rfl rfl)
theorem dJ21_makeInt_1 : decode cJ21_makeInt 1 = .ok (.invokestatic 792, 3) := dk_184 3 24 (dk_at dksJ21_makeInt_0 1 rfl rfl)
theorem dJ21_makeInt_4 : decode cJ21_makeInt 4 = .ok (.bipush 16, 2) := dk_16 16 (dk_at dksJ21_makeInt_0 4 rfl rfl)
theorem dJ21_makeInt_6 : decode cJ21_makeInt 6 = .ok (.iconst 0, 1) := dk_3 (dk_at dksJ21_makeInt_0 6 rfl rfl)
theorem dJ21_makeInt_7 : decode cJ21_makeInt 7 = .ok (.invokestatic 784, 3) := dk_184 3 16 (dk_at dksJ21_makeInt_0 7 rfl rfl)
theorem dJ21_makeInt_10 : decode cJ21_makeInt 10 = .ok (.ishl, 1) := dk_120 (dk_at dksJ21_makeInt_0 10 rfl rfl)
theorem dJ21_makeInt_11 : decode cJ21_makeInt 11 = .ok (.iload_n 1, 1) := dk_27 (dk_at dksJ21_makeInt_0 11 rfl rfl)
theorem dJ21_makeInt_12 : decode cJ21_makeInt 12 = .ok (.invokestatic 792, 3) := dk_184 3 24 (dk_at dksJ21_makeInt_0 12 rfl rfl)
theorem dJ21_makeInt_15 : decode cJ21_makeInt 15 = .ok (.bipush 16, 2) := dk_16 16 (dk_at dksJ21_makeInt_0 15 rfl rfl)
theorem dJ21_makeInt_17 : decode cJ21_makeInt 17 = .ok (.bipush 16, 2) := dk_16 16 (dk_at dksJ21_makeInt_0 17 rfl rfl)
theorem dJ21_makeInt_19 : decode cJ21_makeInt 19 = .ok (.invokestatic 784, 3) := dk_184 3 16 (dk_at dksJ21_makeInt_0 19 rfl rfl)
theorem dJ21_makeInt_22 : decode cJ21_makeInt 22 = .ok (.ishl, 1) := dk_120 (dk_at dksJ21_makeInt_0 22 rfl rfl)
theorem dJ21_makeInt_23 : decode cJ21_makeInt 23 = .ok (.ior, 1) := dk_128 (dk_at dksJ21_makeInt_0 23 rfl rfl)
theorem dJ21_makeInt_24 : decode cJ21_makeInt 24 = .ok (.ireturn, 1) := dk_172 (dk_at dksJ21_makeInt_1 0 rfl rfl)
abbrev cJ21_toUnsignedInt : ByteArray := prog_68_method_367_code
def yJ21_toUnsignedInt : MethodName := ⟨RJ21, "toUnsignedInt", "(S)I"⟩
def dkwJ21_toUnsignedInt_0 : List UInt8 := [26, 19, 1, 118, 126, 172]
abbrev dktJ21_toUnsignedInt_0 : List UInt8 := dkwJ21_toUnsignedInt_0 ++ []
theorem dksJ21_toUnsignedInt_0 : cJ21_toUnsignedInt.data.toList.drop 0 = dktJ21_toUnsignedInt_0 := by decide +kernel
theorem dJ21_toUnsignedInt_0 : decode cJ21_toUnsignedInt 0 = .ok (.iload_n 0, 1) := dk_26 (dk_at dksJ21_toUnsignedInt_0 0 rfl rfl)
theorem dJ21_toUnsignedInt_1 : decode cJ21_toUnsignedInt 1 = .ok (.ldc_w 374, 3) := dk_19 1 118 (dk_at dksJ21_toUnsignedInt_0 1 rfl rfl)
theorem dJ21_toUnsignedInt_4 : decode cJ21_toUnsignedInt 4 = .ok (.iand, 1) := dk_126 (dk_at dksJ21_toUnsignedInt_0 4 rfl rfl)
theorem dJ21_toUnsignedInt_5 : decode cJ21_toUnsignedInt 5 = .ok (.ireturn, 1) := dk_172 (dk_at dksJ21_toUnsignedInt_0 5 rfl rfl)
abbrev cJ21_makeInt_2 : ByteArray := prog_68_method_355_code
def yJ21_makeInt_2 : MethodName := ⟨RJ21, "makeInt", "(BBBB)I"⟩
def dkwJ21_makeInt_2_2 : List UInt8 := [120, 128, 172]
abbrev dktJ21_makeInt_2_2 : List UInt8 := dkwJ21_makeInt_2_2 ++ []
def dkwJ21_makeInt_2_1 : List UInt8 := [28, 184, 3, 28, 16, 24, 16, 16, 184, 3, 16, 120, 128, 29, 184, 3, 28, 16, 24, 16, 24, 184, 3, 16]
abbrev dktJ21_makeInt_2_1 : List UInt8 := dkwJ21_makeInt_2_1 ++ dktJ21_makeInt_2_2
def dkwJ21_makeInt_2_0 : List UInt8 := [26, 184, 3, 28, 16, 24, 3, 184, 3, 16, 120, 27, 184, 3, 28, 16, 24, 16, 8, 184, 3, 16, 120, 128]
abbrev dktJ21_makeInt_2_0 : List UInt8 := dkwJ21_makeInt_2_0 ++ dktJ21_makeInt_2_1
theorem dksJ21_makeInt_2_0 : cJ21_makeInt_2.data.toList.drop 0 = dktJ21_makeInt_2_0 := by decide +kernel
theorem dksJ21_makeInt_2_1 : cJ21_makeInt_2.data.toList.drop 24 = dktJ21_makeInt_2_1 := dk_seg dksJ21_makeInt_2_0 24 rfl rfl
theorem dksJ21_makeInt_2_2 : cJ21_makeInt_2.data.toList.drop 48 = dktJ21_makeInt_2_2 := dk_seg dksJ21_makeInt_2_1 24 rfl rfl
theorem dJ21_makeInt_2_0 : decode cJ21_makeInt_2 0 = .ok (.iload_n 0, 1) := dk_26 (dk_at dksJ21_makeInt_2_0 0 rfl rfl)
theorem dJ21_makeInt_2_1 : decode cJ21_makeInt_2 1 = .ok (.invokestatic 796, 3) := dk_184 3 28 (dk_at dksJ21_makeInt_2_0 1 rfl rfl)
theorem dJ21_makeInt_2_4 : decode cJ21_makeInt_2 4 = .ok (.bipush 24, 2) := dk_16 24 (dk_at dksJ21_makeInt_2_0 4 rfl rfl)
theorem dJ21_makeInt_2_6 : decode cJ21_makeInt_2 6 = .ok (.iconst 0, 1) := dk_3 (dk_at dksJ21_makeInt_2_0 6 rfl rfl)
theorem dJ21_makeInt_2_7 : decode cJ21_makeInt_2 7 = .ok (.invokestatic 784, 3) := dk_184 3 16 (dk_at dksJ21_makeInt_2_0 7 rfl rfl)
theorem dJ21_makeInt_2_10 : decode cJ21_makeInt_2 10 = .ok (.ishl, 1) := dk_120 (dk_at dksJ21_makeInt_2_0 10 rfl rfl)
theorem dJ21_makeInt_2_11 : decode cJ21_makeInt_2 11 = .ok (.iload_n 1, 1) := dk_27 (dk_at dksJ21_makeInt_2_0 11 rfl rfl)
theorem dJ21_makeInt_2_12 : decode cJ21_makeInt_2 12 = .ok (.invokestatic 796, 3) := dk_184 3 28 (dk_at dksJ21_makeInt_2_0 12 rfl rfl)
theorem dJ21_makeInt_2_15 : decode cJ21_makeInt_2 15 = .ok (.bipush 24, 2) := dk_16 24 (dk_at dksJ21_makeInt_2_0 15 rfl rfl)
theorem dJ21_makeInt_2_17 : decode cJ21_makeInt_2 17 = .ok (.bipush 8, 2) := dk_16 8 (dk_at dksJ21_makeInt_2_0 17 rfl rfl)
theorem dJ21_makeInt_2_19 : decode cJ21_makeInt_2 19 = .ok (.invokestatic 784, 3) := dk_184 3 16 (dk_at dksJ21_makeInt_2_0 19 rfl rfl)
theorem dJ21_makeInt_2_22 : decode cJ21_makeInt_2 22 = .ok (.ishl, 1) := dk_120 (dk_at dksJ21_makeInt_2_0 22 rfl rfl)
theorem dJ21_makeInt_2_23 : decode cJ21_makeInt_2 23 = .ok (.ior, 1) := dk_128 (dk_at dksJ21_makeInt_2_0 23 rfl rfl)
theorem dJ21_makeInt_2_24 : decode cJ21_makeInt_2 24 = .ok (.iload_n 2, 1) := dk_28 (dk_at dksJ21_makeInt_2_1 0 rfl rfl)
theorem dJ21_makeInt_2_25 : decode cJ21_makeInt_2 25 = .ok (.invokestatic 796, 3) := dk_184 3 28 (dk_at dksJ21_makeInt_2_1 1 rfl rfl)
theorem dJ21_makeInt_2_28 : decode cJ21_makeInt_2 28 = .ok (.bipush 24, 2) := dk_16 24 (dk_at dksJ21_makeInt_2_1 4 rfl rfl)
theorem dJ21_makeInt_2_30 : decode cJ21_makeInt_2 30 = .ok (.bipush 16, 2) := dk_16 16 (dk_at dksJ21_makeInt_2_1 6 rfl rfl)
theorem dJ21_makeInt_2_32 : decode cJ21_makeInt_2 32 = .ok (.invokestatic 784, 3) := dk_184 3 16 (dk_at dksJ21_makeInt_2_1 8 rfl rfl)
theorem dJ21_makeInt_2_35 : decode cJ21_makeInt_2 35 = .ok (.ishl, 1) := dk_120 (dk_at dksJ21_makeInt_2_1 11 rfl rfl)
theorem dJ21_makeInt_2_36 : decode cJ21_makeInt_2 36 = .ok (.ior, 1) := dk_128 (dk_at dksJ21_makeInt_2_1 12 rfl rfl)
theorem dJ21_makeInt_2_37 : decode cJ21_makeInt_2 37 = .ok (.iload_n 3, 1) := dk_29 (dk_at dksJ21_makeInt_2_1 13 rfl rfl)
theorem dJ21_makeInt_2_38 : decode cJ21_makeInt_2 38 = .ok (.invokestatic 796, 3) := dk_184 3 28 (dk_at dksJ21_makeInt_2_1 14 rfl rfl)
theorem dJ21_makeInt_2_41 : decode cJ21_makeInt_2 41 = .ok (.bipush 24, 2) := dk_16 24 (dk_at dksJ21_makeInt_2_1 17 rfl rfl)
theorem dJ21_makeInt_2_43 : decode cJ21_makeInt_2 43 = .ok (.bipush 24, 2) := dk_16 24 (dk_at dksJ21_makeInt_2_1 19 rfl rfl)
theorem dJ21_makeInt_2_45 : decode cJ21_makeInt_2 45 = .ok (.invokestatic 784, 3) := dk_184 3 16 (dk_at dksJ21_makeInt_2_1 21 rfl rfl)
theorem dJ21_makeInt_2_48 : decode cJ21_makeInt_2 48 = .ok (.ishl, 1) := dk_120 (dk_at dksJ21_makeInt_2_2 0 rfl rfl)
theorem dJ21_makeInt_2_49 : decode cJ21_makeInt_2 49 = .ok (.ior, 1) := dk_128 (dk_at dksJ21_makeInt_2_2 1 rfl rfl)
theorem dJ21_makeInt_2_50 : decode cJ21_makeInt_2 50 = .ok (.ireturn, 1) := dk_172 (dk_at dksJ21_makeInt_2_2 2 rfl rfl)
abbrev cJ21_toUnsignedInt_2 : ByteArray := prog_68_method_366_code
def yJ21_toUnsignedInt_2 : MethodName := ⟨RJ21, "toUnsignedInt", "(B)I"⟩
def dkwJ21_toUnsignedInt_2_0 : List UInt8 := [26, 17, 0, 255, 126, 172]
abbrev dktJ21_toUnsignedInt_2_0 : List UInt8 := dkwJ21_toUnsignedInt_2_0 ++ []
theorem dksJ21_toUnsignedInt_2_0 : cJ21_toUnsignedInt_2.data.toList.drop 0 = dktJ21_toUnsignedInt_2_0 := by decide +kernel
theorem dJ21_toUnsignedInt_2_0 : decode cJ21_toUnsignedInt_2 0 = .ok (.iload_n 0, 1) := dk_26 (dk_at dksJ21_toUnsignedInt_2_0 0 rfl rfl)
theorem dJ21_toUnsignedInt_2_1 : decode cJ21_toUnsignedInt_2 1 = .ok (.sipush 255, 3) := dk_17 0 255 (dk_at dksJ21_toUnsignedInt_2_0 1 rfl rfl)
theorem dJ21_toUnsignedInt_2_4 : decode cJ21_toUnsignedInt_2 4 = .ok (.iand, 1) := dk_126 (dk_at dksJ21_toUnsignedInt_2_0 4 rfl rfl)
theorem dJ21_toUnsignedInt_2_5 : decode cJ21_toUnsignedInt_2 5 = .ok (.ireturn, 1) := dk_172 (dk_at dksJ21_toUnsignedInt_2_0 5 rfl rfl)
theorem q162 : (Jvm.Cond.initialized "jdk/internal/misc/Unsafe") ∈ lw_all := lw_g (lw_at lw_m1 34 rfl) rfl
theorem q719 : (Jvm.Cond.selects "jdk/internal/misc/Unsafe" ({ cls := "java/lang/Object", name := "getClass", desc := "()Ljava/lang/Class;" } : Jvm.MethodName) ({ cls := "java/lang/Object", name := "getClass", desc := "()Ljava/lang/Class;" } : Jvm.MethodName)) ∈ lw_all := lw_g (lw_at lw_m3 111 rfl) rfl
theorem q1254 : (Jvm.Cond.laysStatic "jdk/internal/misc/Unsafe" "ARRAY_BYTE_BASE_OFFSET" "I") ∈ lw_tbl := lw_at lw_m5 166 rfl
theorem q1265 : (Jvm.Cond.instanceMethod ({ cls := "jdk/internal/misc/Unsafe", name := "getLongUnaligned", desc := "(Ljava/lang/Object;J)J" } : Jvm.MethodName)) ∈ lw_all := lw_g (lw_at lw_m5 177 rfl) rfl
theorem q1266 : (Jvm.Cond.selects "jdk/internal/misc/Unsafe" ({ cls := "jdk/internal/misc/Unsafe", name := "getLongUnaligned", desc := "(Ljava/lang/Object;J)J" } : Jvm.MethodName) ({ cls := "jdk/internal/misc/Unsafe", name := "getLongUnaligned", desc := "(Ljava/lang/Object;J)J" } : Jvm.MethodName)) ∈ lw_all := lw_g (lw_at lw_m5 178 rfl) rfl
theorem q1267 : (Jvm.Cond.code ({ cls := "jdk/internal/misc/Unsafe", name := "getLongUnaligned", desc := "(Ljava/lang/Object;J)J" } : Jvm.MethodName) prog_68_method_334_code (4 : Nat) (Option.some Jvm.ClassFile.FieldType.long)) ∈ lw_all := lw_g (lw_at lw_m5 179 rfl) rfl
theorem q1268 : (Jvm.Cond.constantLong "jdk/internal/misc/Unsafe" (696 : Nat) (7 : Int64)) ∈ lw_all := lw_g (lw_at lw_m5 180 rfl) rfl
theorem q1269 : (Jvm.Cond.methodLink "jdk/internal/misc/Unsafe" (27 : Nat) ({ cls := "jdk/internal/misc/Unsafe", name := "getLong", desc := "(Ljava/lang/Object;J)J" } : Jvm.MethodName)) ∈ lw_all := lw_g (lw_at lw_m5 181 rfl) rfl
theorem q1270 : (Jvm.Cond.instanceMethod ({ cls := "jdk/internal/misc/Unsafe", name := "getLong", desc := "(Ljava/lang/Object;J)J" } : Jvm.MethodName)) ∈ lw_all := lw_g (lw_at lw_m5 182 rfl) rfl
theorem q1271 : (Jvm.Cond.selects "jdk/internal/misc/Unsafe" ({ cls := "jdk/internal/misc/Unsafe", name := "getLong", desc := "(Ljava/lang/Object;J)J" } : Jvm.MethodName) ({ cls := "jdk/internal/misc/Unsafe", name := "getLong", desc := "(Ljava/lang/Object;J)J" } : Jvm.MethodName)) ∈ lw_all := lw_g (lw_at lw_m5 183 rfl) rfl
theorem q1272 : (Jvm.Cond.native ({ cls := "jdk/internal/misc/Unsafe", name := "getLong", desc := "(Ljava/lang/Object;J)J" } : Jvm.MethodName)) ∈ lw_all := lw_g (lw_at lw_m5 184 rfl) rfl
theorem q1273 : (Jvm.Cond.constantLong "jdk/internal/misc/Unsafe" (349 : Nat) (3 : Int64)) ∈ lw_all := lw_g (lw_at lw_m5 185 rfl) rfl
theorem q1274 : (Jvm.Cond.methodLink "jdk/internal/misc/Unsafe" (17 : Nat) ({ cls := "jdk/internal/misc/Unsafe", name := "getInt", desc := "(Ljava/lang/Object;J)I" } : Jvm.MethodName)) ∈ lw_all := lw_g (lw_at lw_m5 186 rfl) rfl
theorem q1275 : (Jvm.Cond.instanceMethod ({ cls := "jdk/internal/misc/Unsafe", name := "getInt", desc := "(Ljava/lang/Object;J)I" } : Jvm.MethodName)) ∈ lw_all := lw_g (lw_at lw_m5 187 rfl) rfl
theorem q1276 : (Jvm.Cond.selects "jdk/internal/misc/Unsafe" ({ cls := "jdk/internal/misc/Unsafe", name := "getInt", desc := "(Ljava/lang/Object;J)I" } : Jvm.MethodName) ({ cls := "jdk/internal/misc/Unsafe", name := "getInt", desc := "(Ljava/lang/Object;J)I" } : Jvm.MethodName)) ∈ lw_all := lw_g (lw_at lw_m5 188 rfl) rfl
theorem q1277 : (Jvm.Cond.native ({ cls := "jdk/internal/misc/Unsafe", name := "getInt", desc := "(Ljava/lang/Object;J)I" } : Jvm.MethodName)) ∈ lw_all := lw_g (lw_at lw_m5 189 rfl) rfl
theorem q1278 : (Jvm.Cond.constantLong "jdk/internal/misc/Unsafe" (205 : Nat) (4 : Int64)) ∈ lw_all := lw_g (lw_at lw_m5 190 rfl) rfl
theorem q1279 : (Jvm.Cond.methodLink "jdk/internal/misc/Unsafe" (698 : Nat) ({ cls := "jdk/internal/misc/Unsafe", name := "makeLong", desc := "(II)J" } : Jvm.MethodName)) ∈ lw_all := lw_g (lw_at lw_m5 191 rfl) rfl
theorem q1280 : (Jvm.Cond.static ({ cls := "jdk/internal/misc/Unsafe", name := "makeLong", desc := "(II)J" } : Jvm.MethodName)) ∈ lw_all := lw_g (lw_at lw_m5 192 rfl) rfl
theorem q1281 : (Jvm.Cond.code ({ cls := "jdk/internal/misc/Unsafe", name := "makeLong", desc := "(II)J" } : Jvm.MethodName) prog_68_method_353_code (2 : Nat) (Option.some Jvm.ClassFile.FieldType.long)) ∈ lw_all := lw_g (lw_at lw_m5 193 rfl) rfl
theorem q1282 : (Jvm.Cond.methodLink "jdk/internal/misc/Unsafe" (791 : Nat) ({ cls := "jdk/internal/misc/Unsafe", name := "toUnsignedLong", desc := "(I)J" } : Jvm.MethodName)) ∈ lw_all := lw_g (lw_at lw_m5 194 rfl) rfl
theorem q1283 : (Jvm.Cond.static ({ cls := "jdk/internal/misc/Unsafe", name := "toUnsignedLong", desc := "(I)J" } : Jvm.MethodName)) ∈ lw_all := lw_g (lw_at lw_m5 195 rfl) rfl
theorem q1284 : (Jvm.Cond.code ({ cls := "jdk/internal/misc/Unsafe", name := "toUnsignedLong", desc := "(I)J" } : Jvm.MethodName) prog_68_method_370_code (1 : Nat) (Option.some Jvm.ClassFile.FieldType.long)) ∈ lw_all := lw_g (lw_at lw_m5 196 rfl) rfl
theorem q1285 : (Jvm.Cond.constantLong "jdk/internal/misc/Unsafe" (812 : Nat) (4294967295 : Int64)) ∈ lw_all := lw_g (lw_at lw_m5 197 rfl) rfl
theorem q1286 : (Jvm.Cond.methodLink "jdk/internal/misc/Unsafe" (784 : Nat) ({ cls := "jdk/internal/misc/Unsafe", name := "pickPos", desc := "(II)I" } : Jvm.MethodName)) ∈ lw_all := lw_g (lw_at lw_m5 198 rfl) rfl
theorem q1287 : (Jvm.Cond.static ({ cls := "jdk/internal/misc/Unsafe", name := "pickPos", desc := "(II)I" } : Jvm.MethodName)) ∈ lw_all := lw_g (lw_at lw_m5 199 rfl) rfl
theorem q1288 : (Jvm.Cond.code ({ cls := "jdk/internal/misc/Unsafe", name := "pickPos", desc := "(II)I" } : Jvm.MethodName) prog_68_method_350_code (2 : Nat) (Option.some Jvm.ClassFile.FieldType.int)) ∈ lw_all := lw_g (lw_at lw_m5 200 rfl) rfl
theorem q1289 : (Jvm.Cond.fieldLink "jdk/internal/misc/Unsafe" (351 : Nat) "jdk/internal/misc/UnsafeConstants" "BIG_ENDIAN" "Z") ∈ lw_all := lw_g (lw_at lw_m5 201 rfl) rfl
theorem q1291 : (Jvm.Cond.methodLink "jdk/internal/misc/Unsafe" (47 : Nat) ({ cls := "jdk/internal/misc/Unsafe", name := "getShort", desc := "(Ljava/lang/Object;J)S" } : Jvm.MethodName)) ∈ lw_all := lw_g (lw_at lw_m5 203 rfl) rfl
theorem q1292 : (Jvm.Cond.instanceMethod ({ cls := "jdk/internal/misc/Unsafe", name := "getShort", desc := "(Ljava/lang/Object;J)S" } : Jvm.MethodName)) ∈ lw_all := lw_g (lw_at lw_m5 204 rfl) rfl
theorem q1293 : (Jvm.Cond.selects "jdk/internal/misc/Unsafe" ({ cls := "jdk/internal/misc/Unsafe", name := "getShort", desc := "(Ljava/lang/Object;J)S" } : Jvm.MethodName) ({ cls := "jdk/internal/misc/Unsafe", name := "getShort", desc := "(Ljava/lang/Object;J)S" } : Jvm.MethodName)) ∈ lw_all := lw_g (lw_at lw_m5 205 rfl) rfl
theorem q1294 : (Jvm.Cond.native ({ cls := "jdk/internal/misc/Unsafe", name := "getShort", desc := "(Ljava/lang/Object;J)S" } : Jvm.MethodName)) ∈ lw_all := lw_g (lw_at lw_m5 206 rfl) rfl
theorem q1295 : (Jvm.Cond.constantLong "jdk/internal/misc/Unsafe" (203 : Nat) (2 : Int64)) ∈ lw_all := lw_g (lw_at lw_m5 207 rfl) rfl
theorem q1296 : (Jvm.Cond.constantLong "jdk/internal/misc/Unsafe" (702 : Nat) (6 : Int64)) ∈ lw_all := lw_g (lw_at lw_m5 208 rfl) rfl
theorem q1297 : (Jvm.Cond.methodLink "jdk/internal/misc/Unsafe" (704 : Nat) ({ cls := "jdk/internal/misc/Unsafe", name := "makeLong", desc := "(SSSS)J" } : Jvm.MethodName)) ∈ lw_all := lw_g (lw_at lw_m5 209 rfl) rfl
theorem q1298 : (Jvm.Cond.static ({ cls := "jdk/internal/misc/Unsafe", name := "makeLong", desc := "(SSSS)J" } : Jvm.MethodName)) ∈ lw_all := lw_g (lw_at lw_m5 210 rfl) rfl
theorem q1299 : (Jvm.Cond.code ({ cls := "jdk/internal/misc/Unsafe", name := "makeLong", desc := "(SSSS)J" } : Jvm.MethodName) prog_68_method_352_code (4 : Nat) (Option.some Jvm.ClassFile.FieldType.long)) ∈ lw_all := lw_g (lw_at lw_m5 211 rfl) rfl
theorem q1300 : (Jvm.Cond.methodLink "jdk/internal/misc/Unsafe" (788 : Nat) ({ cls := "jdk/internal/misc/Unsafe", name := "toUnsignedLong", desc := "(S)J" } : Jvm.MethodName)) ∈ lw_all := lw_g (lw_at lw_m5 212 rfl) rfl
theorem q1301 : (Jvm.Cond.static ({ cls := "jdk/internal/misc/Unsafe", name := "toUnsignedLong", desc := "(S)J" } : Jvm.MethodName)) ∈ lw_all := lw_g (lw_at lw_m5 213 rfl) rfl
theorem q1302 : (Jvm.Cond.code ({ cls := "jdk/internal/misc/Unsafe", name := "toUnsignedLong", desc := "(S)J" } : Jvm.MethodName) prog_68_method_369_code (1 : Nat) (Option.some Jvm.ClassFile.FieldType.long)) ∈ lw_all := lw_g (lw_at lw_m5 214 rfl) rfl
theorem q1303 : (Jvm.Cond.constantLong "jdk/internal/misc/Unsafe" (810 : Nat) (65535 : Int64)) ∈ lw_all := lw_g (lw_at lw_m5 215 rfl) rfl
theorem q1304 : (Jvm.Cond.methodLink "jdk/internal/misc/Unsafe" (39 : Nat) ({ cls := "jdk/internal/misc/Unsafe", name := "getByte", desc := "(Ljava/lang/Object;J)B" } : Jvm.MethodName)) ∈ lw_all := lw_g (lw_at lw_m5 216 rfl) rfl
theorem q1305 : (Jvm.Cond.instanceMethod ({ cls := "jdk/internal/misc/Unsafe", name := "getByte", desc := "(Ljava/lang/Object;J)B" } : Jvm.MethodName)) ∈ lw_all := lw_g (lw_at lw_m5 217 rfl) rfl
theorem q1306 : (Jvm.Cond.selects "jdk/internal/misc/Unsafe" ({ cls := "jdk/internal/misc/Unsafe", name := "getByte", desc := "(Ljava/lang/Object;J)B" } : Jvm.MethodName) ({ cls := "jdk/internal/misc/Unsafe", name := "getByte", desc := "(Ljava/lang/Object;J)B" } : Jvm.MethodName)) ∈ lw_all := lw_g (lw_at lw_m5 218 rfl) rfl
theorem q1307 : (Jvm.Cond.native ({ cls := "jdk/internal/misc/Unsafe", name := "getByte", desc := "(Ljava/lang/Object;J)B" } : Jvm.MethodName)) ∈ lw_all := lw_g (lw_at lw_m5 219 rfl) rfl
theorem q1308 : (Jvm.Cond.constantLong "jdk/internal/misc/Unsafe" (707 : Nat) (5 : Int64)) ∈ lw_all := lw_g (lw_at lw_m5 220 rfl) rfl
theorem q1309 : (Jvm.Cond.methodLink "jdk/internal/misc/Unsafe" (709 : Nat) ({ cls := "jdk/internal/misc/Unsafe", name := "makeLong", desc := "(BBBBBBBB)J" } : Jvm.MethodName)) ∈ lw_all := lw_g (lw_at lw_m5 221 rfl) rfl
theorem q1310 : (Jvm.Cond.static ({ cls := "jdk/internal/misc/Unsafe", name := "makeLong", desc := "(BBBBBBBB)J" } : Jvm.MethodName)) ∈ lw_all := lw_g (lw_at lw_m5 222 rfl) rfl
theorem q1311 : (Jvm.Cond.code ({ cls := "jdk/internal/misc/Unsafe", name := "makeLong", desc := "(BBBBBBBB)J" } : Jvm.MethodName) prog_68_method_351_code (8 : Nat) (Option.some Jvm.ClassFile.FieldType.long)) ∈ lw_all := lw_g (lw_at lw_m5 223 rfl) rfl
theorem q1312 : (Jvm.Cond.methodLink "jdk/internal/misc/Unsafe" (781 : Nat) ({ cls := "jdk/internal/misc/Unsafe", name := "toUnsignedLong", desc := "(B)J" } : Jvm.MethodName)) ∈ lw_all := lw_g (lw_at lw_m5 224 rfl) rfl
theorem q1313 : (Jvm.Cond.static ({ cls := "jdk/internal/misc/Unsafe", name := "toUnsignedLong", desc := "(B)J" } : Jvm.MethodName)) ∈ lw_all := lw_g (lw_at lw_m5 225 rfl) rfl
theorem q1314 : (Jvm.Cond.code ({ cls := "jdk/internal/misc/Unsafe", name := "toUnsignedLong", desc := "(B)J" } : Jvm.MethodName) prog_68_method_368_code (1 : Nat) (Option.some Jvm.ClassFile.FieldType.long)) ∈ lw_all := lw_g (lw_at lw_m5 226 rfl) rfl
theorem q1315 : (Jvm.Cond.constantLong "jdk/internal/misc/Unsafe" (808 : Nat) (255 : Int64)) ∈ lw_all := lw_g (lw_at lw_m5 227 rfl) rfl
theorem q1336 : (Jvm.Cond.instanceMethod ({ cls := "jdk/internal/misc/Unsafe", name := "getIntUnaligned", desc := "(Ljava/lang/Object;J)I" } : Jvm.MethodName)) ∈ lw_all := lw_g (lw_at lw_m6 8 rfl) rfl
theorem q1337 : (Jvm.Cond.selects "jdk/internal/misc/Unsafe" ({ cls := "jdk/internal/misc/Unsafe", name := "getIntUnaligned", desc := "(Ljava/lang/Object;J)I" } : Jvm.MethodName) ({ cls := "jdk/internal/misc/Unsafe", name := "getIntUnaligned", desc := "(Ljava/lang/Object;J)I" } : Jvm.MethodName)) ∈ lw_all := lw_g (lw_at lw_m6 9 rfl) rfl
theorem q1338 : (Jvm.Cond.code ({ cls := "jdk/internal/misc/Unsafe", name := "getIntUnaligned", desc := "(Ljava/lang/Object;J)I" } : Jvm.MethodName) prog_68_method_336_code (4 : Nat) (Option.some Jvm.ClassFile.FieldType.int)) ∈ lw_all := lw_g (lw_at lw_m6 10 rfl) rfl
theorem q1339 : (Jvm.Cond.methodLink "jdk/internal/misc/Unsafe" (719 : Nat) ({ cls := "jdk/internal/misc/Unsafe", name := "makeInt", desc := "(SS)I" } : Jvm.MethodName)) ∈ lw_all := lw_g (lw_at lw_m6 11 rfl) rfl
theorem q1340 : (Jvm.Cond.static ({ cls := "jdk/internal/misc/Unsafe", name := "makeInt", desc := "(SS)I" } : Jvm.MethodName)) ∈ lw_all := lw_g (lw_at lw_m6 12 rfl) rfl
theorem q1341 : (Jvm.Cond.code ({ cls := "jdk/internal/misc/Unsafe", name := "makeInt", desc := "(SS)I" } : Jvm.MethodName) prog_68_method_354_code (2 : Nat) (Option.some Jvm.ClassFile.FieldType.int)) ∈ lw_all := lw_g (lw_at lw_m6 13 rfl) rfl
theorem q1342 : (Jvm.Cond.methodLink "jdk/internal/misc/Unsafe" (792 : Nat) ({ cls := "jdk/internal/misc/Unsafe", name := "toUnsignedInt", desc := "(S)I" } : Jvm.MethodName)) ∈ lw_all := lw_g (lw_at lw_m6 14 rfl) rfl
theorem q1343 : (Jvm.Cond.static ({ cls := "jdk/internal/misc/Unsafe", name := "toUnsignedInt", desc := "(S)I" } : Jvm.MethodName)) ∈ lw_all := lw_g (lw_at lw_m6 15 rfl) rfl
theorem q1344 : (Jvm.Cond.code ({ cls := "jdk/internal/misc/Unsafe", name := "toUnsignedInt", desc := "(S)I" } : Jvm.MethodName) prog_68_method_367_code (1 : Nat) (Option.some Jvm.ClassFile.FieldType.int)) ∈ lw_all := lw_g (lw_at lw_m6 16 rfl) rfl
theorem q1345 : (Jvm.Cond.constant "jdk/internal/misc/Unsafe" (374 : Nat) (65535 : Int32)) ∈ lw_all := lw_g (lw_at lw_m6 17 rfl) rfl
theorem q1346 : (Jvm.Cond.methodLink "jdk/internal/misc/Unsafe" (723 : Nat) ({ cls := "jdk/internal/misc/Unsafe", name := "makeInt", desc := "(BBBB)I" } : Jvm.MethodName)) ∈ lw_all := lw_g (lw_at lw_m6 18 rfl) rfl
theorem q1347 : (Jvm.Cond.static ({ cls := "jdk/internal/misc/Unsafe", name := "makeInt", desc := "(BBBB)I" } : Jvm.MethodName)) ∈ lw_all := lw_g (lw_at lw_m6 19 rfl) rfl
theorem q1348 : (Jvm.Cond.code ({ cls := "jdk/internal/misc/Unsafe", name := "makeInt", desc := "(BBBB)I" } : Jvm.MethodName) prog_68_method_355_code (4 : Nat) (Option.some Jvm.ClassFile.FieldType.int)) ∈ lw_all := lw_g (lw_at lw_m6 20 rfl) rfl
theorem q1349 : (Jvm.Cond.methodLink "jdk/internal/misc/Unsafe" (796 : Nat) ({ cls := "jdk/internal/misc/Unsafe", name := "toUnsignedInt", desc := "(B)I" } : Jvm.MethodName)) ∈ lw_all := lw_g (lw_at lw_m6 21 rfl) rfl
theorem q1350 : (Jvm.Cond.static ({ cls := "jdk/internal/misc/Unsafe", name := "toUnsignedInt", desc := "(B)I" } : Jvm.MethodName)) ∈ lw_all := lw_g (lw_at lw_m6 22 rfl) rfl
theorem q1351 : (Jvm.Cond.code ({ cls := "jdk/internal/misc/Unsafe", name := "toUnsignedInt", desc := "(B)I" } : Jvm.MethodName) prog_68_method_366_code (1 : Nat) (Option.some Jvm.ClassFile.FieldType.int)) ∈ lw_all := lw_g (lw_at lw_m6 23 rfl) rfl
theorem q2791 : (Jvm.Cond.castable "jdk/internal/misc/Unsafe" "java/lang/Object") ∈ lw_tbl := lw_at lw_m12 23 rfl
/-! java/lang/Long -/
set_option maxRecDepth 100000
def RJ22 : String := "java/lang/Long"
abbrev cJ22_numberOfLeadingZeros : ByteArray := prog_33_method_48_code
def yJ22_numberOfLeadingZeros : MethodName := ⟨RJ22, "numberOfLeadingZeros", "(J)I"⟩
def dkwJ22_numberOfLeadingZeros_1 : List UInt8 := [184, 1, 52, 172]
abbrev dktJ22_numberOfLeadingZeros_1 : List UInt8 := dkwJ22_numberOfLeadingZeros_1 ++ []
def dkwJ22_numberOfLeadingZeros_0 : List UInt8 := [30, 16, 32, 125, 136, 61, 28, 154, 0, 14, 16, 32, 30, 136, 184, 1, 52, 96, 167, 0, 7, 28]
abbrev dktJ22_numberOfLeadingZeros_0 : List UInt8 := dkwJ22_numberOfLeadingZeros_0 ++ dktJ22_numberOfLeadingZeros_1
theorem dksJ22_numberOfLeadingZeros_0 : cJ22_numberOfLeadingZeros.data.toList.drop 0 = dktJ22_numberOfLeadingZeros_0 := by decide +kernel
theorem dksJ22_numberOfLeadingZeros_1 : cJ22_numberOfLeadingZeros.data.toList.drop 22 = dktJ22_numberOfLeadingZeros_1 := dk_seg dksJ22_numberOfLeadingZeros_0 22 rfl rfl
theorem dJ22_numberOfLeadingZeros_0 : decode cJ22_numberOfLeadingZeros 0 = .ok (.lload_n 0, 1) := dk_30 (dk_at dksJ22_numberOfLeadingZeros_0 0 rfl rfl)
theorem dJ22_numberOfLeadingZeros_1 : decode cJ22_numberOfLeadingZeros 1 = .ok (.bipush 32, 2) := dk_16 32 (dk_at dksJ22_numberOfLeadingZeros_0 1 rfl rfl)
theorem dJ22_numberOfLeadingZeros_3 : decode cJ22_numberOfLeadingZeros 3 = .ok (.lushr, 1) := dk_125 (dk_at dksJ22_numberOfLeadingZeros_0 3 rfl rfl)
theorem dJ22_numberOfLeadingZeros_4 : decode cJ22_numberOfLeadingZeros 4 = .ok (.l2i, 1) := dk_136 (dk_at dksJ22_numberOfLeadingZeros_0 4 rfl rfl)
theorem dJ22_numberOfLeadingZeros_5 : decode cJ22_numberOfLeadingZeros 5 = .ok (.istore_n 2, 1) := dk_61 (dk_at dksJ22_numberOfLeadingZeros_0 5 rfl rfl)
theorem dJ22_numberOfLeadingZeros_6 : decode cJ22_numberOfLeadingZeros 6 = .ok (.iload_n 2, 1) := dk_28 (dk_at dksJ22_numberOfLeadingZeros_0 6 rfl rfl)
theorem dJ22_numberOfLeadingZeros_7 : decode cJ22_numberOfLeadingZeros 7 = .ok (.ifCond .ne 14, 3) := dk_154 0 14 (dk_at dksJ22_numberOfLeadingZeros_0 7 rfl rfl)
theorem dJ22_numberOfLeadingZeros_10 : decode cJ22_numberOfLeadingZeros 10 = .ok (.bipush 32, 2) := dk_16 32 (dk_at dksJ22_numberOfLeadingZeros_0 10 rfl rfl)
theorem dJ22_numberOfLeadingZeros_12 : decode cJ22_numberOfLeadingZeros 12 = .ok (.lload_n 0, 1) := dk_30 (dk_at dksJ22_numberOfLeadingZeros_0 12 rfl rfl)
theorem dJ22_numberOfLeadingZeros_13 : decode cJ22_numberOfLeadingZeros 13 = .ok (.l2i, 1) := dk_136 (dk_at dksJ22_numberOfLeadingZeros_0 13 rfl rfl)
theorem dJ22_numberOfLeadingZeros_14 : decode cJ22_numberOfLeadingZeros 14 = .ok (.invokestatic 308, 3) := dk_184 1 52 (dk_at dksJ22_numberOfLeadingZeros_0 14 rfl rfl)
theorem dJ22_numberOfLeadingZeros_17 : decode cJ22_numberOfLeadingZeros 17 = .ok (.iadd, 1) := dk_96 (dk_at dksJ22_numberOfLeadingZeros_0 17 rfl rfl)
theorem dJ22_numberOfLeadingZeros_18 : decode cJ22_numberOfLeadingZeros 18 = .ok (.goto 7, 3) := dk_167 0 7 (dk_at dksJ22_numberOfLeadingZeros_0 18 rfl rfl)
theorem dJ22_numberOfLeadingZeros_21 : decode cJ22_numberOfLeadingZeros 21 = .ok (.iload_n 2, 1) := dk_28 (dk_at dksJ22_numberOfLeadingZeros_0 21 rfl rfl)
theorem dJ22_numberOfLeadingZeros_22 : decode cJ22_numberOfLeadingZeros 22 = .ok (.invokestatic 308, 3) := dk_184 1 52 (dk_at dksJ22_numberOfLeadingZeros_1 0 rfl rfl)
theorem dJ22_numberOfLeadingZeros_25 : decode cJ22_numberOfLeadingZeros 25 = .ok (.ireturn, 1) := dk_172 (dk_at dksJ22_numberOfLeadingZeros_1 3 rfl rfl)
abbrev cJ22_numberOfTrailingZeros : ByteArray := prog_33_method_49_code
def yJ22_numberOfTrailingZeros : MethodName := ⟨RJ22, "numberOfTrailingZeros", "(J)I"⟩
def dkwJ22_numberOfTrailingZeros_1 : List UInt8 := [184, 1, 55, 172]
abbrev dktJ22_numberOfTrailingZeros_1 : List UInt8 := dkwJ22_numberOfTrailingZeros_1 ++ []
def dkwJ22_numberOfTrailingZeros_0 : List UInt8 := [30, 136, 61, 28, 154, 0, 17, 16, 32, 30, 16, 32, 125, 136, 184, 1, 55, 96, 167, 0, 7, 28]
abbrev dktJ22_numberOfTrailingZeros_0 : List UInt8 := dkwJ22_numberOfTrailingZeros_0 ++ dktJ22_numberOfTrailingZeros_1
theorem dksJ22_numberOfTrailingZeros_0 : cJ22_numberOfTrailingZeros.data.toList.drop 0 = dktJ22_numberOfTrailingZeros_0 := by decide +kernel
theorem dksJ22_numberOfTrailingZeros_1 : cJ22_numberOfTrailingZeros.data.toList.drop 22 = dktJ22_numberOfTrailingZeros_1 := dk_seg dksJ22_numberOfTrailingZeros_0 22 rfl rfl
theorem dJ22_numberOfTrailingZeros_0 : decode cJ22_numberOfTrailingZeros 0 = .ok (.lload_n 0, 1) := dk_30 (dk_at dksJ22_numberOfTrailingZeros_0 0 rfl rfl)
theorem dJ22_numberOfTrailingZeros_1 : decode cJ22_numberOfTrailingZeros 1 = .ok (.l2i, 1) := dk_136 (dk_at dksJ22_numberOfTrailingZeros_0 1 rfl rfl)
theorem dJ22_numberOfTrailingZeros_2 : decode cJ22_numberOfTrailingZeros 2 = .ok (.istore_n 2, 1) := dk_61 (dk_at dksJ22_numberOfTrailingZeros_0 2 rfl rfl)
theorem dJ22_numberOfTrailingZeros_3 : decode cJ22_numberOfTrailingZeros 3 = .ok (.iload_n 2, 1) := dk_28 (dk_at dksJ22_numberOfTrailingZeros_0 3 rfl rfl)
theorem dJ22_numberOfTrailingZeros_4 : decode cJ22_numberOfTrailingZeros 4 = .ok (.ifCond .ne 17, 3) := dk_154 0 17 (dk_at dksJ22_numberOfTrailingZeros_0 4 rfl rfl)
theorem dJ22_numberOfTrailingZeros_7 : decode cJ22_numberOfTrailingZeros 7 = .ok (.bipush 32, 2) := dk_16 32 (dk_at dksJ22_numberOfTrailingZeros_0 7 rfl rfl)
theorem dJ22_numberOfTrailingZeros_9 : decode cJ22_numberOfTrailingZeros 9 = .ok (.lload_n 0, 1) := dk_30 (dk_at dksJ22_numberOfTrailingZeros_0 9 rfl rfl)
theorem dJ22_numberOfTrailingZeros_10 : decode cJ22_numberOfTrailingZeros 10 = .ok (.bipush 32, 2) := dk_16 32 (dk_at dksJ22_numberOfTrailingZeros_0 10 rfl rfl)
theorem dJ22_numberOfTrailingZeros_12 : decode cJ22_numberOfTrailingZeros 12 = .ok (.lushr, 1) := dk_125 (dk_at dksJ22_numberOfTrailingZeros_0 12 rfl rfl)
theorem dJ22_numberOfTrailingZeros_13 : decode cJ22_numberOfTrailingZeros 13 = .ok (.l2i, 1) := dk_136 (dk_at dksJ22_numberOfTrailingZeros_0 13 rfl rfl)
theorem dJ22_numberOfTrailingZeros_14 : decode cJ22_numberOfTrailingZeros 14 = .ok (.invokestatic 311, 3) := dk_184 1 55 (dk_at dksJ22_numberOfTrailingZeros_0 14 rfl rfl)
theorem dJ22_numberOfTrailingZeros_17 : decode cJ22_numberOfTrailingZeros 17 = .ok (.iadd, 1) := dk_96 (dk_at dksJ22_numberOfTrailingZeros_0 17 rfl rfl)
theorem dJ22_numberOfTrailingZeros_18 : decode cJ22_numberOfTrailingZeros 18 = .ok (.goto 7, 3) := dk_167 0 7 (dk_at dksJ22_numberOfTrailingZeros_0 18 rfl rfl)
theorem dJ22_numberOfTrailingZeros_21 : decode cJ22_numberOfTrailingZeros 21 = .ok (.iload_n 2, 1) := dk_28 (dk_at dksJ22_numberOfTrailingZeros_0 21 rfl rfl)
theorem dJ22_numberOfTrailingZeros_22 : decode cJ22_numberOfTrailingZeros 22 = .ok (.invokestatic 311, 3) := dk_184 1 55 (dk_at dksJ22_numberOfTrailingZeros_1 0 rfl rfl)
theorem dJ22_numberOfTrailingZeros_25 : decode cJ22_numberOfTrailingZeros 25 = .ok (.ireturn, 1) := dk_172 (dk_at dksJ22_numberOfTrailingZeros_1 3 rfl rfl)
theorem q164 : (Jvm.Cond.initialized "java/lang/Long") ∈ lw_all := lw_g (lw_at lw_m1 36 rfl) rfl
theorem q1319 : (Jvm.Cond.static ({ cls := "java/lang/Long", name := "numberOfLeadingZeros", desc := "(J)I" } : Jvm.MethodName)) ∈ lw_all := lw_g (lw_at lw_m5 231 rfl) rfl
theorem q1320 : (Jvm.Cond.code ({ cls := "java/lang/Long", name := "numberOfLeadingZeros", desc := "(J)I" } : Jvm.MethodName) prog_33_method_48_code (3 : Nat) (Option.some Jvm.ClassFile.FieldType.int)) ∈ lw_all := lw_g (lw_at lw_m5 232 rfl) rfl
theorem q1321 : (Jvm.Cond.methodLink "java/lang/Long" (308 : Nat) ({ cls := "java/lang/Integer", name := "numberOfLeadingZeros", desc := "(I)I" } : Jvm.MethodName)) ∈ lw_all := lw_g (lw_at lw_m5 233 rfl) rfl
theorem q1328 : (Jvm.Cond.static ({ cls := "java/lang/Long", name := "numberOfTrailingZeros", desc := "(J)I" } : Jvm.MethodName)) ∈ lw_all := lw_g (lw_at lw_m6 0 rfl) rfl
theorem q1329 : (Jvm.Cond.code ({ cls := "java/lang/Long", name := "numberOfTrailingZeros", desc := "(J)I" } : Jvm.MethodName) prog_33_method_49_code (3 : Nat) (Option.some Jvm.ClassFile.FieldType.int)) ∈ lw_all := lw_g (lw_at lw_m6 1 rfl) rfl
theorem q1330 : (Jvm.Cond.methodLink "java/lang/Long" (311 : Nat) ({ cls := "java/lang/Integer", name := "numberOfTrailingZeros", desc := "(I)I" } : Jvm.MethodName)) ∈ lw_all := lw_g (lw_at lw_m6 2 rfl) rfl
/-! java/util/TreeMap$Entry -/
set_option maxRecDepth 100000
def RJ23 : String := "java/util/TreeMap$Entry"
def TJ23 : u_T := fun k => match k with
  | 0 => ("java/util/TreeMap$Entry", "key", "Ljava/lang/Object;", false)
  | 1 => ("java/util/TreeMap$Entry", "value", "Ljava/lang/Object;", false)
  | 2 => ("java/util/TreeMap$Entry", "left", "Ljava/util/TreeMap$Entry;", false)
  | 3 => ("java/util/TreeMap$Entry", "right", "Ljava/util/TreeMap$Entry;", false)
  | 4 => ("java/util/TreeMap$Entry", "parent", "Ljava/util/TreeMap$Entry;", false)
  | _ => ("java/util/TreeMap$Entry", "color", "Z", false)
def tyJ23 : Nat → FieldType := fun k => match k with
  | 0 => .object "java/lang/Object"
  | 1 => .object "java/lang/Object"
  | 2 => .object "java/util/TreeMap$Entry"
  | 3 => .object "java/util/TreeMap$Entry"
  | 4 => .object "java/util/TreeMap$Entry"
  | _ => .boolean
abbrev wsJ230 : List Cond := u_ws RJ23 TJ23 6
theorem nmJ23 : ∀ a, a < 6 → ∀ b, b < 6 → a ≠ b → (TJ23 a).2.1 ≠ (TJ23 b).2.1 := by decide +kernel
theorem tyJ23_ok : ∀ k, k < 6 → parseFieldDescriptor (TJ23 k).2.2.1 = some (tyJ23 k) := by decide +kernel
abbrev cJ23_init : ByteArray := prog_64_method_1_code
def yJ23_init : MethodName := ⟨RJ23, "<init>", "(Ljava/lang/Object;Ljava/lang/Object;Ljava/util/TreeMap$Entry;)V"⟩
def dkwJ23_init_1 : List UInt8 := [177]
abbrev dktJ23_init_1 : List UInt8 := dkwJ23_init_1 ++ []
def dkwJ23_init_0 : List UInt8 := [42, 183, 0, 3, 42, 4, 181, 0, 9, 42, 43, 181, 0, 15, 42, 44, 181, 0, 19, 42, 45, 181, 0, 22]
abbrev dktJ23_init_0 : List UInt8 := dkwJ23_init_0 ++ dktJ23_init_1
theorem dksJ23_init_0 : cJ23_init.data.toList.drop 0 = dktJ23_init_0 := by decide +kernel
theorem dksJ23_init_1 : cJ23_init.data.toList.drop 24 = dktJ23_init_1 := dk_seg dksJ23_init_0 24 rfl rfl
theorem dJ23_init_0 : decode cJ23_init 0 = .ok (.aload_n 0, 1) := dk_42 (dk_at dksJ23_init_0 0 rfl rfl)
theorem dJ23_init_1 : decode cJ23_init 1 = .ok (.invokespecial 3, 3) := dk_183 0 3 (dk_at dksJ23_init_0 1 rfl rfl)
theorem dJ23_init_4 : decode cJ23_init 4 = .ok (.aload_n 0, 1) := dk_42 (dk_at dksJ23_init_0 4 rfl rfl)
theorem dJ23_init_5 : decode cJ23_init 5 = .ok (.iconst 1, 1) := dk_4 (dk_at dksJ23_init_0 5 rfl rfl)
theorem dJ23_init_6 : decode cJ23_init 6 = .ok (.putfield 9, 3) := dk_181 0 9 (dk_at dksJ23_init_0 6 rfl rfl)
theorem dJ23_init_9 : decode cJ23_init 9 = .ok (.aload_n 0, 1) := dk_42 (dk_at dksJ23_init_0 9 rfl rfl)
theorem dJ23_init_10 : decode cJ23_init 10 = .ok (.aload_n 1, 1) := dk_43 (dk_at dksJ23_init_0 10 rfl rfl)
theorem dJ23_init_11 : decode cJ23_init 11 = .ok (.putfield 15, 3) := dk_181 0 15 (dk_at dksJ23_init_0 11 rfl rfl)
theorem dJ23_init_14 : decode cJ23_init 14 = .ok (.aload_n 0, 1) := dk_42 (dk_at dksJ23_init_0 14 rfl rfl)
theorem dJ23_init_15 : decode cJ23_init 15 = .ok (.aload_n 2, 1) := dk_44 (dk_at dksJ23_init_0 15 rfl rfl)
theorem dJ23_init_16 : decode cJ23_init 16 = .ok (.putfield 19, 3) := dk_181 0 19 (dk_at dksJ23_init_0 16 rfl rfl)
theorem dJ23_init_19 : decode cJ23_init 19 = .ok (.aload_n 0, 1) := dk_42 (dk_at dksJ23_init_0 19 rfl rfl)
theorem dJ23_init_20 : decode cJ23_init 20 = .ok (.aload_n 3, 1) := dk_45 (dk_at dksJ23_init_0 20 rfl rfl)
theorem dJ23_init_21 : decode cJ23_init 21 = .ok (.putfield 22, 3) := dk_181 0 22 (dk_at dksJ23_init_0 21 rfl rfl)
theorem dJ23_init_24 : decode cJ23_init 24 = .ok (.return_, 1) := dk_177 (dk_at dksJ23_init_1 0 rfl rfl)
theorem q165 : (Jvm.Cond.initialized "java/util/TreeMap$Entry") ∈ lw_all := lw_g (lw_at lw_m1 37 rfl) rfl
theorem q716 : (Jvm.Cond.selects "java/util/TreeMap$Entry" ({ cls := "java/lang/Object", name := "getClass", desc := "()Ljava/lang/Class;" } : Jvm.MethodName) ({ cls := "java/lang/Object", name := "getClass", desc := "()Ljava/lang/Class;" } : Jvm.MethodName)) ∈ lw_all := lw_g (lw_at lw_m3 108 rfl) rfl
theorem q1419 : (Jvm.Cond.instantiable "java/util/TreeMap$Entry" (6 : Nat)) ∈ lw_all := lw_g (lw_at lw_m6 91 rfl) rfl
theorem q1421 : (Jvm.Cond.instanceMethod ({ cls := "java/util/TreeMap$Entry", name := "<init>", desc := "(Ljava/lang/Object;Ljava/lang/Object;Ljava/util/TreeMap$Entry;)V" } : Jvm.MethodName)) ∈ lw_all := lw_g (lw_at lw_m6 93 rfl) rfl
theorem q1422 : (Jvm.Cond.code ({ cls := "java/util/TreeMap$Entry", name := "<init>", desc := "(Ljava/lang/Object;Ljava/lang/Object;Ljava/util/TreeMap$Entry;)V" } : Jvm.MethodName) prog_64_method_1_code (4 : Nat) (Option.none : Option Jvm.ClassFile.FieldType)) ∈ lw_all := lw_g (lw_at lw_m6 94 rfl) rfl
theorem q1423 : (Jvm.Cond.methodLink "java/util/TreeMap$Entry" (3 : Nat) ({ cls := "java/lang/Object", name := "<init>", desc := "()V" } : Jvm.MethodName)) ∈ lw_all := lw_g (lw_at lw_m6 95 rfl) rfl
theorem q1424 : (Jvm.Cond.fieldLink "java/util/TreeMap$Entry" (15 : Nat) "java/util/TreeMap$Entry" "key" "Ljava/lang/Object;") ∈ lw_all := lw_g (lw_at lw_m6 96 rfl) rfl
theorem q1426 : (Jvm.Cond.fieldLink "java/util/TreeMap$Entry" (19 : Nat) "java/util/TreeMap$Entry" "value" "Ljava/lang/Object;") ∈ lw_all := lw_g (lw_at lw_m6 98 rfl) rfl
theorem q1431 : (Jvm.Cond.fieldLink "java/util/TreeMap$Entry" (22 : Nat) "java/util/TreeMap$Entry" "parent" "Ljava/util/TreeMap$Entry;") ∈ lw_all := lw_g (lw_at lw_m6 103 rfl) rfl
theorem q1433 : (Jvm.Cond.fieldLink "java/util/TreeMap$Entry" (9 : Nat) "java/util/TreeMap$Entry" "color" "Z") ∈ lw_all := lw_g (lw_at lw_m6 105 rfl) rfl
theorem q1435 : (Jvm.Cond.lays "java/util/TreeMap$Entry" "java/util/TreeMap$Entry" "key" "Ljava/lang/Object;") ∈ lw_all := lw_g (lw_at lw_m6 107 rfl) rfl
theorem q1436 : (Jvm.Cond.soleField "java/util/TreeMap$Entry" "key") ∈ lw_all := lw_g (lw_at lw_m6 108 rfl) rfl
theorem q1437 : (Jvm.Cond.lays "java/util/TreeMap$Entry" "java/util/TreeMap$Entry" "value" "Ljava/lang/Object;") ∈ lw_all := lw_g (lw_at lw_m6 109 rfl) rfl
theorem q1438 : (Jvm.Cond.soleField "java/util/TreeMap$Entry" "value") ∈ lw_all := lw_g (lw_at lw_m6 110 rfl) rfl
theorem q1439 : (Jvm.Cond.lays "java/util/TreeMap$Entry" "java/util/TreeMap$Entry" "left" "Ljava/util/TreeMap$Entry;") ∈ lw_all := lw_g (lw_at lw_m6 111 rfl) rfl
theorem q1440 : (Jvm.Cond.soleField "java/util/TreeMap$Entry" "left") ∈ lw_all := lw_g (lw_at lw_m6 112 rfl) rfl
theorem q1441 : (Jvm.Cond.lays "java/util/TreeMap$Entry" "java/util/TreeMap$Entry" "right" "Ljava/util/TreeMap$Entry;") ∈ lw_all := lw_g (lw_at lw_m6 113 rfl) rfl
theorem q1442 : (Jvm.Cond.soleField "java/util/TreeMap$Entry" "right") ∈ lw_all := lw_g (lw_at lw_m6 114 rfl) rfl
theorem q1443 : (Jvm.Cond.lays "java/util/TreeMap$Entry" "java/util/TreeMap$Entry" "parent" "Ljava/util/TreeMap$Entry;") ∈ lw_all := lw_g (lw_at lw_m6 115 rfl) rfl
theorem q1444 : (Jvm.Cond.soleField "java/util/TreeMap$Entry" "parent") ∈ lw_all := lw_g (lw_at lw_m6 116 rfl) rfl
theorem q1445 : (Jvm.Cond.lays "java/util/TreeMap$Entry" "java/util/TreeMap$Entry" "color" "Z") ∈ lw_all := lw_g (lw_at lw_m6 117 rfl) rfl
theorem q1446 : (Jvm.Cond.soleField "java/util/TreeMap$Entry" "color") ∈ lw_all := lw_g (lw_at lw_m6 118 rfl) rfl
theorem q1447 : (Jvm.Cond.superclass "java/util/TreeMap$Entry" "java/lang/Object") ∈ lw_all := lw_g (lw_at lw_m6 119 rfl) rfl
theorem q2792 : (Jvm.Cond.castable "java/util/TreeMap$Entry" "java/lang/Object") ∈ lw_tbl := lw_at lw_m12 24 rfl
theorem in_J23 : ∀ w ∈ wsJ230, w ∈ lw_all := lw_in wsJ230 [1435, 1437, 1439, 1441, 1443, 1445] (by decide +kernel) (by decide +kernel)
/-! java/util/TreeMap$Values -/
set_option maxRecDepth 100000
def RJ24 : String := "java/util/TreeMap$Values"
def TJ24 : u_T := fun k => match k with
  | _ => ("java/util/TreeMap$Values", "this$0", "Ljava/util/TreeMap;", true)
def tyJ24 : Nat → FieldType := fun k => match k with
  | _ => .object "java/util/TreeMap"
abbrev wsJ240 : List Cond := u_ws RJ24 TJ24 1
theorem nmJ24 : ∀ a, a < 1 → ∀ b, b < 1 → a ≠ b → (TJ24 a).2.1 ≠ (TJ24 b).2.1 := by decide +kernel
theorem tyJ24_ok : ∀ k, k < 1 → parseFieldDescriptor (TJ24 k).2.2.1 = some (tyJ24 k) := by decide +kernel
abbrev cJ24_init : ByteArray := prog_67_method_1_code
def yJ24_init : MethodName := ⟨RJ24, "<init>", "(Ljava/util/TreeMap;)V"⟩
def dkwJ24_init_0 : List UInt8 := [42, 43, 181, 0, 1, 42, 183, 0, 7, 177]
abbrev dktJ24_init_0 : List UInt8 := dkwJ24_init_0 ++ []
theorem dksJ24_init_0 : cJ24_init.data.toList.drop 0 = dktJ24_init_0 := by decide +kernel
theorem dJ24_init_0 : decode cJ24_init 0 = .ok (.aload_n 0, 1) := dk_42 (dk_at dksJ24_init_0 0 rfl rfl)
theorem dJ24_init_1 : decode cJ24_init 1 = .ok (.aload_n 1, 1) := dk_43 (dk_at dksJ24_init_0 1 rfl rfl)
theorem dJ24_init_2 : decode cJ24_init 2 = .ok (.putfield 1, 3) := dk_181 0 1 (dk_at dksJ24_init_0 2 rfl rfl)
theorem dJ24_init_5 : decode cJ24_init 5 = .ok (.aload_n 0, 1) := dk_42 (dk_at dksJ24_init_0 5 rfl rfl)
theorem dJ24_init_6 : decode cJ24_init 6 = .ok (.invokespecial 7, 3) := dk_183 0 7 (dk_at dksJ24_init_0 6 rfl rfl)
theorem dJ24_init_9 : decode cJ24_init 9 = .ok (.return_, 1) := dk_177 (dk_at dksJ24_init_0 9 rfl rfl)
abbrev cJ24_iterator : ByteArray := prog_67_method_2_code
def yJ24_iterator : MethodName := ⟨RJ24, "iterator", "()Ljava/util/Iterator;"⟩
def dkwJ24_iterator_0 : List UInt8 := [187, 0, 13, 89, 42, 180, 0, 1, 42, 180, 0, 1, 182, 0, 15, 183, 0, 21, 176]
abbrev dktJ24_iterator_0 : List UInt8 := dkwJ24_iterator_0 ++ []
theorem dksJ24_iterator_0 : cJ24_iterator.data.toList.drop 0 = dktJ24_iterator_0 := by decide +kernel
theorem dJ24_iterator_0 : decode cJ24_iterator 0 = .ok (.new 13, 3) := dk_187 0 13 (dk_at dksJ24_iterator_0 0 rfl rfl)
theorem dJ24_iterator_3 : decode cJ24_iterator 3 = .ok (.dup, 1) := dk_89 (dk_at dksJ24_iterator_0 3 rfl rfl)
theorem dJ24_iterator_4 : decode cJ24_iterator 4 = .ok (.aload_n 0, 1) := dk_42 (dk_at dksJ24_iterator_0 4 rfl rfl)
theorem dJ24_iterator_5 : decode cJ24_iterator 5 = .ok (.getfield 1, 3) := dk_180 0 1 (dk_at dksJ24_iterator_0 5 rfl rfl)
theorem dJ24_iterator_8 : decode cJ24_iterator 8 = .ok (.aload_n 0, 1) := dk_42 (dk_at dksJ24_iterator_0 8 rfl rfl)
theorem dJ24_iterator_9 : decode cJ24_iterator 9 = .ok (.getfield 1, 3) := dk_180 0 1 (dk_at dksJ24_iterator_0 9 rfl rfl)
theorem dJ24_iterator_12 : decode cJ24_iterator 12 = .ok (.invokevirtual 15, 3) := dk_182 0 15 (dk_at dksJ24_iterator_0 12 rfl rfl)
theorem dJ24_iterator_15 : decode cJ24_iterator 15 = .ok (.invokespecial 21, 3) := dk_183 0 21 (dk_at dksJ24_iterator_0 15 rfl rfl)
theorem dJ24_iterator_18 : decode cJ24_iterator 18 = .ok (.areturn, 1) := dk_176 (dk_at dksJ24_iterator_0 18 rfl rfl)
theorem q167 : (Jvm.Cond.initialized "java/util/TreeMap$Values") ∈ lw_all := lw_g (lw_at lw_m1 39 rfl) rfl
theorem q718 : (Jvm.Cond.selects "java/util/TreeMap$Values" ({ cls := "java/lang/Object", name := "getClass", desc := "()Ljava/lang/Class;" } : Jvm.MethodName) ({ cls := "java/lang/Object", name := "getClass", desc := "()Ljava/lang/Class;" } : Jvm.MethodName)) ∈ lw_all := lw_g (lw_at lw_m3 110 rfl) rfl
theorem q1505 : (Jvm.Cond.instantiable "java/util/TreeMap$Values" (1 : Nat)) ∈ lw_all := lw_g (lw_at lw_m6 177 rfl) rfl
theorem q1507 : (Jvm.Cond.instanceMethod ({ cls := "java/util/TreeMap$Values", name := "<init>", desc := "(Ljava/util/TreeMap;)V" } : Jvm.MethodName)) ∈ lw_all := lw_g (lw_at lw_m6 179 rfl) rfl
theorem q1508 : (Jvm.Cond.code ({ cls := "java/util/TreeMap$Values", name := "<init>", desc := "(Ljava/util/TreeMap;)V" } : Jvm.MethodName) prog_67_method_1_code (2 : Nat) (Option.none : Option Jvm.ClassFile.FieldType)) ∈ lw_all := lw_g (lw_at lw_m6 180 rfl) rfl
theorem q1509 : (Jvm.Cond.methodLink "java/util/TreeMap$Values" (7 : Nat) ({ cls := "java/util/AbstractCollection", name := "<init>", desc := "()V" } : Jvm.MethodName)) ∈ lw_all := lw_g (lw_at lw_m6 181 rfl) rfl
theorem q1510 : (Jvm.Cond.fieldLink "java/util/TreeMap$Values" (1 : Nat) "java/util/TreeMap$Values" "this$0" "Ljava/util/TreeMap;") ∈ lw_all := lw_g (lw_at lw_m6 182 rfl) rfl
theorem q1511 : (Jvm.Cond.laysFinal "java/util/TreeMap$Values" "java/util/TreeMap$Values" "this$0" "Ljava/util/TreeMap;") ∈ lw_all := lw_g (lw_at lw_m6 183 rfl) rfl
theorem q1512 : (Jvm.Cond.soleField "java/util/TreeMap$Values" "this$0") ∈ lw_all := lw_g (lw_at lw_m6 184 rfl) rfl
theorem q1513 : (Jvm.Cond.superclass "java/util/TreeMap$Values" "java/util/AbstractCollection") ∈ lw_all := lw_g (lw_at lw_m6 185 rfl) rfl
theorem q1522 : (Jvm.Cond.castable "java/util/TreeMap$Values" "java/util/Collection") ∈ lw_tbl := lw_at lw_m6 194 rfl
theorem q1523 : (Jvm.Cond.selects "java/util/TreeMap$Values" ({ cls := "java/util/Collection", name := "iterator", desc := "()Ljava/util/Iterator;" } : Jvm.MethodName) ({ cls := "java/util/TreeMap$Values", name := "iterator", desc := "()Ljava/util/Iterator;" } : Jvm.MethodName)) ∈ lw_all := lw_g (lw_at lw_m6 195 rfl) rfl
theorem q1524 : (Jvm.Cond.unhidden "java/util/TreeMap$Values" "iterator" "()Ljava/util/Iterator;") ∈ lw_tbl := lw_at lw_m6 196 rfl
theorem q1525 : (Jvm.Cond.instanceMethod ({ cls := "java/util/TreeMap$Values", name := "iterator", desc := "()Ljava/util/Iterator;" } : Jvm.MethodName)) ∈ lw_all := lw_g (lw_at lw_m6 197 rfl) rfl
theorem q1526 : (Jvm.Cond.publicMethod ({ cls := "java/util/TreeMap$Values", name := "iterator", desc := "()Ljava/util/Iterator;" } : Jvm.MethodName)) ∈ lw_tbl := lw_at lw_m6 198 rfl
theorem q1527 : (Jvm.Cond.code ({ cls := "java/util/TreeMap$Values", name := "iterator", desc := "()Ljava/util/Iterator;" } : Jvm.MethodName) prog_67_method_2_code (1 : Nat) (Option.some (Jvm.ClassFile.FieldType.object "java/util/Iterator"))) ∈ lw_all := lw_g (lw_at lw_m6 199 rfl) rfl
theorem q1528 : (Jvm.Cond.classLink "java/util/TreeMap$Values" (13 : Nat) "java/util/TreeMap$ValueIterator") ∈ lw_all := lw_g (lw_at lw_m6 200 rfl) rfl
theorem q1530 : (Jvm.Cond.methodLink "java/util/TreeMap$Values" (15 : Nat) ({ cls := "java/util/TreeMap", name := "getFirstEntry", desc := "()Ljava/util/TreeMap$Entry;" } : Jvm.MethodName)) ∈ lw_all := lw_g (lw_at lw_m6 202 rfl) rfl
theorem q1534 : (Jvm.Cond.methodLink "java/util/TreeMap$Values" (21 : Nat) ({ cls := "java/util/TreeMap$ValueIterator", name := "<init>", desc := "(Ljava/util/TreeMap;Ljava/util/TreeMap$Entry;)V" } : Jvm.MethodName)) ∈ lw_all := lw_g (lw_at lw_m6 206 rfl) rfl
theorem q2794 : (Jvm.Cond.castable "java/util/TreeMap$Values" "java/lang/Object") ∈ lw_tbl := lw_at lw_m12 26 rfl
theorem in_J24 : ∀ w ∈ wsJ240, w ∈ lw_all := lw_in wsJ240 [1511] (by decide +kernel) (by decide +kernel)
/-! java/util/TreeMap$PrivateEntryIterator -/
set_option maxRecDepth 100000
def RJ25 : String := "java/util/TreeMap$PrivateEntryIterator"
abbrev cJ25_hasNext : ByteArray := prog_65_method_2_code
def yJ25_hasNext : MethodName := ⟨RJ25, "hasNext", "()Z"⟩
def dkwJ25_hasNext_0 : List UInt8 := [42, 180, 0, 26, 198, 0, 7, 4, 167, 0, 4, 3, 172]
abbrev dktJ25_hasNext_0 : List UInt8 := dkwJ25_hasNext_0 ++ []
theorem dksJ25_hasNext_0 : cJ25_hasNext.data.toList.drop 0 = dktJ25_hasNext_0 := by decide +kernel
theorem dJ25_hasNext_0 : decode cJ25_hasNext 0 = .ok (.aload_n 0, 1) := dk_42 (dk_at dksJ25_hasNext_0 0 rfl rfl)
theorem dJ25_hasNext_1 : decode cJ25_hasNext 1 = .ok (.getfield 26, 3) := dk_180 0 26 (dk_at dksJ25_hasNext_0 1 rfl rfl)
theorem dJ25_hasNext_4 : decode cJ25_hasNext 4 = .ok (.ifnull 7, 3) := dk_198 0 7 (dk_at dksJ25_hasNext_0 4 rfl rfl)
theorem dJ25_hasNext_7 : decode cJ25_hasNext 7 = .ok (.iconst 1, 1) := dk_4 (dk_at dksJ25_hasNext_0 7 rfl rfl)
theorem dJ25_hasNext_8 : decode cJ25_hasNext 8 = .ok (.goto 4, 3) := dk_167 0 4 (dk_at dksJ25_hasNext_0 8 rfl rfl)
theorem dJ25_hasNext_11 : decode cJ25_hasNext 11 = .ok (.iconst 0, 1) := dk_3 (dk_at dksJ25_hasNext_0 11 rfl rfl)
theorem dJ25_hasNext_12 : decode cJ25_hasNext 12 = .ok (.ireturn, 1) := dk_172 (dk_at dksJ25_hasNext_0 12 rfl rfl)
abbrev cJ25_nextEntry : ByteArray := prog_65_method_3_code
def yJ25_nextEntry : MethodName := ⟨RJ25, "nextEntry", "()Ljava/util/TreeMap$Entry;"⟩
def dkwJ25_nextEntry_2 : List UInt8 := [43, 181, 0, 22, 43, 176]
abbrev dktJ25_nextEntry_2 : List UInt8 := dkwJ25_nextEntry_2 ++ []
def dkwJ25_nextEntry_1 : List UInt8 := [42, 180, 0, 19, 159, 0, 11, 187, 0, 32, 89, 183, 0, 34, 191, 42, 43, 184, 0, 35, 181, 0, 26, 42]
abbrev dktJ25_nextEntry_1 : List UInt8 := dkwJ25_nextEntry_1 ++ dktJ25_nextEntry_2
def dkwJ25_nextEntry_0 : List UInt8 := [42, 180, 0, 26, 76, 43, 199, 0, 11, 187, 0, 29, 89, 183, 0, 31, 191, 42, 180, 0, 1, 180, 0, 13]
abbrev dktJ25_nextEntry_0 : List UInt8 := dkwJ25_nextEntry_0 ++ dktJ25_nextEntry_1
theorem dksJ25_nextEntry_0 : cJ25_nextEntry.data.toList.drop 0 = dktJ25_nextEntry_0 := by decide +kernel
theorem dksJ25_nextEntry_1 : cJ25_nextEntry.data.toList.drop 24 = dktJ25_nextEntry_1 := dk_seg dksJ25_nextEntry_0 24 rfl rfl
theorem dksJ25_nextEntry_2 : cJ25_nextEntry.data.toList.drop 48 = dktJ25_nextEntry_2 := dk_seg dksJ25_nextEntry_1 24 rfl rfl
theorem dJ25_nextEntry_0 : decode cJ25_nextEntry 0 = .ok (.aload_n 0, 1) := dk_42 (dk_at dksJ25_nextEntry_0 0 rfl rfl)
theorem dJ25_nextEntry_1 : decode cJ25_nextEntry 1 = .ok (.getfield 26, 3) := dk_180 0 26 (dk_at dksJ25_nextEntry_0 1 rfl rfl)
theorem dJ25_nextEntry_4 : decode cJ25_nextEntry 4 = .ok (.astore_n 1, 1) := dk_76 (dk_at dksJ25_nextEntry_0 4 rfl rfl)
theorem dJ25_nextEntry_5 : decode cJ25_nextEntry 5 = .ok (.aload_n 1, 1) := dk_43 (dk_at dksJ25_nextEntry_0 5 rfl rfl)
theorem dJ25_nextEntry_6 : decode cJ25_nextEntry 6 = .ok (.ifnonnull 11, 3) := dk_199 0 11 (dk_at dksJ25_nextEntry_0 6 rfl rfl)
theorem dJ25_nextEntry_9 : decode cJ25_nextEntry 9 = .ok (.new 29, 3) := dk_187 0 29 (dk_at dksJ25_nextEntry_0 9 rfl rfl)
theorem dJ25_nextEntry_12 : decode cJ25_nextEntry 12 = .ok (.dup, 1) := dk_89 (dk_at dksJ25_nextEntry_0 12 rfl rfl)
theorem dJ25_nextEntry_13 : decode cJ25_nextEntry 13 = .ok (.invokespecial 31, 3) := dk_183 0 31 (dk_at dksJ25_nextEntry_0 13 rfl rfl)
theorem dJ25_nextEntry_16 : decode cJ25_nextEntry 16 = .ok (.athrow, 1) := dk_191 (dk_at dksJ25_nextEntry_0 16 rfl rfl)
theorem dJ25_nextEntry_17 : decode cJ25_nextEntry 17 = .ok (.aload_n 0, 1) := dk_42 (dk_at dksJ25_nextEntry_0 17 rfl rfl)
theorem dJ25_nextEntry_18 : decode cJ25_nextEntry 18 = .ok (.getfield 1, 3) := dk_180 0 1 (dk_at dksJ25_nextEntry_0 18 rfl rfl)
theorem dJ25_nextEntry_21 : decode cJ25_nextEntry 21 = .ok (.getfield 13, 3) := dk_180 0 13 (dk_at dksJ25_nextEntry_0 21 rfl rfl)
theorem dJ25_nextEntry_24 : decode cJ25_nextEntry 24 = .ok (.aload_n 0, 1) := dk_42 (dk_at dksJ25_nextEntry_1 0 rfl rfl)
theorem dJ25_nextEntry_25 : decode cJ25_nextEntry 25 = .ok (.getfield 19, 3) := dk_180 0 19 (dk_at dksJ25_nextEntry_1 1 rfl rfl)
theorem dJ25_nextEntry_28 : decode cJ25_nextEntry 28 = .ok (.if_icmp .eq 11, 3) := dk_159 0 11 (dk_at dksJ25_nextEntry_1 4 rfl rfl)
theorem dJ25_nextEntry_31 : decode cJ25_nextEntry 31 = .ok (.new 32, 3) := dk_187 0 32 (dk_at dksJ25_nextEntry_1 7 rfl rfl)
theorem dJ25_nextEntry_34 : decode cJ25_nextEntry 34 = .ok (.dup, 1) := dk_89 (dk_at dksJ25_nextEntry_1 10 rfl rfl)
theorem dJ25_nextEntry_35 : decode cJ25_nextEntry 35 = .ok (.invokespecial 34, 3) := dk_183 0 34 (dk_at dksJ25_nextEntry_1 11 rfl rfl)
theorem dJ25_nextEntry_38 : decode cJ25_nextEntry 38 = .ok (.athrow, 1) := dk_191 (dk_at dksJ25_nextEntry_1 14 rfl rfl)
theorem dJ25_nextEntry_39 : decode cJ25_nextEntry 39 = .ok (.aload_n 0, 1) := dk_42 (dk_at dksJ25_nextEntry_1 15 rfl rfl)
theorem dJ25_nextEntry_40 : decode cJ25_nextEntry 40 = .ok (.aload_n 1, 1) := dk_43 (dk_at dksJ25_nextEntry_1 16 rfl rfl)
theorem dJ25_nextEntry_41 : decode cJ25_nextEntry 41 = .ok (.invokestatic 35, 3) := dk_184 0 35 (dk_at dksJ25_nextEntry_1 17 rfl rfl)
theorem dJ25_nextEntry_44 : decode cJ25_nextEntry 44 = .ok (.putfield 26, 3) := dk_181 0 26 (dk_at dksJ25_nextEntry_1 20 rfl rfl)
theorem dJ25_nextEntry_47 : decode cJ25_nextEntry 47 = .ok (.aload_n 0, 1) := dk_42 (dk_at dksJ25_nextEntry_1 23 rfl rfl)
theorem dJ25_nextEntry_48 : decode cJ25_nextEntry 48 = .ok (.aload_n 1, 1) := dk_43 (dk_at dksJ25_nextEntry_2 0 rfl rfl)
theorem dJ25_nextEntry_49 : decode cJ25_nextEntry 49 = .ok (.putfield 22, 3) := dk_181 0 22 (dk_at dksJ25_nextEntry_2 1 rfl rfl)
theorem dJ25_nextEntry_52 : decode cJ25_nextEntry 52 = .ok (.aload_n 1, 1) := dk_43 (dk_at dksJ25_nextEntry_2 4 rfl rfl)
theorem dJ25_nextEntry_53 : decode cJ25_nextEntry 53 = .ok (.areturn, 1) := dk_176 (dk_at dksJ25_nextEntry_2 5 rfl rfl)
abbrev cJ25_init : ByteArray := prog_65_method_1_code
def yJ25_init : MethodName := ⟨RJ25, "<init>", "(Ljava/util/TreeMap;Ljava/util/TreeMap$Entry;)V"⟩
def dkwJ25_init_1 : List UInt8 := [181, 0, 26, 177]
abbrev dktJ25_init_1 : List UInt8 := dkwJ25_init_1 ++ []
def dkwJ25_init_0 : List UInt8 := [42, 43, 181, 0, 1, 42, 183, 0, 7, 42, 43, 180, 0, 13, 181, 0, 19, 42, 1, 181, 0, 22, 42, 44]
abbrev dktJ25_init_0 : List UInt8 := dkwJ25_init_0 ++ dktJ25_init_1
theorem dksJ25_init_0 : cJ25_init.data.toList.drop 0 = dktJ25_init_0 := by decide +kernel
theorem dksJ25_init_1 : cJ25_init.data.toList.drop 24 = dktJ25_init_1 := dk_seg dksJ25_init_0 24 rfl rfl
theorem dJ25_init_0 : decode cJ25_init 0 = .ok (.aload_n 0, 1) := dk_42 (dk_at dksJ25_init_0 0 rfl rfl)
theorem dJ25_init_1 : decode cJ25_init 1 = .ok (.aload_n 1, 1) := dk_43 (dk_at dksJ25_init_0 1 rfl rfl)
theorem dJ25_init_2 : decode cJ25_init 2 = .ok (.putfield 1, 3) := dk_181 0 1 (dk_at dksJ25_init_0 2 rfl rfl)
theorem dJ25_init_5 : decode cJ25_init 5 = .ok (.aload_n 0, 1) := dk_42 (dk_at dksJ25_init_0 5 rfl rfl)
theorem dJ25_init_6 : decode cJ25_init 6 = .ok (.invokespecial 7, 3) := dk_183 0 7 (dk_at dksJ25_init_0 6 rfl rfl)
theorem dJ25_init_9 : decode cJ25_init 9 = .ok (.aload_n 0, 1) := dk_42 (dk_at dksJ25_init_0 9 rfl rfl)
theorem dJ25_init_10 : decode cJ25_init 10 = .ok (.aload_n 1, 1) := dk_43 (dk_at dksJ25_init_0 10 rfl rfl)
theorem dJ25_init_11 : decode cJ25_init 11 = .ok (.getfield 13, 3) := dk_180 0 13 (dk_at dksJ25_init_0 11 rfl rfl)
theorem dJ25_init_14 : decode cJ25_init 14 = .ok (.putfield 19, 3) := dk_181 0 19 (dk_at dksJ25_init_0 14 rfl rfl)
theorem dJ25_init_17 : decode cJ25_init 17 = .ok (.aload_n 0, 1) := dk_42 (dk_at dksJ25_init_0 17 rfl rfl)
theorem dJ25_init_18 : decode cJ25_init 18 = .ok (.aconst_null, 1) := dk_1 (dk_at dksJ25_init_0 18 rfl rfl)
theorem dJ25_init_19 : decode cJ25_init 19 = .ok (.putfield 22, 3) := dk_181 0 22 (dk_at dksJ25_init_0 19 rfl rfl)
theorem dJ25_init_22 : decode cJ25_init 22 = .ok (.aload_n 0, 1) := dk_42 (dk_at dksJ25_init_0 22 rfl rfl)
theorem dJ25_init_23 : decode cJ25_init 23 = .ok (.aload_n 2, 1) := dk_44 (dk_at dksJ25_init_0 23 rfl rfl)
theorem dJ25_init_24 : decode cJ25_init 24 = .ok (.putfield 26, 3) := dk_181 0 26 (dk_at dksJ25_init_1 0 rfl rfl)
theorem dJ25_init_27 : decode cJ25_init 27 = .ok (.return_, 1) := dk_177 (dk_at dksJ25_init_1 3 rfl rfl)
theorem q168 : (Jvm.Cond.initialized "java/util/TreeMap$PrivateEntryIterator") ∈ lw_all := lw_g (lw_at lw_m1 40 rfl) rfl
theorem q869 : (Jvm.Cond.instanceMethod ({ cls := "java/util/TreeMap$PrivateEntryIterator", name := "hasNext", desc := "()Z" } : Jvm.MethodName)) ∈ lw_all := lw_g (lw_at lw_m4 21 rfl) rfl
theorem q870 : (Jvm.Cond.publicMethod ({ cls := "java/util/TreeMap$PrivateEntryIterator", name := "hasNext", desc := "()Z" } : Jvm.MethodName)) ∈ lw_tbl := lw_at lw_m4 22 rfl
theorem q871 : (Jvm.Cond.code ({ cls := "java/util/TreeMap$PrivateEntryIterator", name := "hasNext", desc := "()Z" } : Jvm.MethodName) prog_65_method_2_code (1 : Nat) (Option.some Jvm.ClassFile.FieldType.boolean)) ∈ lw_all := lw_g (lw_at lw_m4 23 rfl) rfl
theorem q892 : (Jvm.Cond.declares ({ cls := "java/util/TreeMap$PrivateEntryIterator", name := "nextEntry", desc := "()Ljava/util/TreeMap$Entry;" } : Jvm.MethodName)) ∈ lw_tbl := lw_at lw_m4 44 rfl
theorem q894 : (Jvm.Cond.instanceMethod ({ cls := "java/util/TreeMap$PrivateEntryIterator", name := "nextEntry", desc := "()Ljava/util/TreeMap$Entry;" } : Jvm.MethodName)) ∈ lw_all := lw_g (lw_at lw_m4 46 rfl) rfl
theorem q895 : (Jvm.Cond.code ({ cls := "java/util/TreeMap$PrivateEntryIterator", name := "nextEntry", desc := "()Ljava/util/TreeMap$Entry;" } : Jvm.MethodName) prog_65_method_3_code (2 : Nat) (Option.some (Jvm.ClassFile.FieldType.object "java/util/TreeMap$Entry"))) ∈ lw_all := lw_g (lw_at lw_m4 47 rfl) rfl
theorem q896 : (Jvm.Cond.methodLink "java/util/TreeMap$PrivateEntryIterator" (35 : Nat) ({ cls := "java/util/TreeMap", name := "successor", desc := "(Ljava/util/TreeMap$Entry;)Ljava/util/TreeMap$Entry;" } : Jvm.MethodName)) ∈ lw_all := lw_g (lw_at lw_m4 48 rfl) rfl
theorem q913 : (Jvm.Cond.fieldLinkNest "java/util/TreeMap$PrivateEntryIterator" (13 : Nat) "java/util/TreeMap" "modCount" "I" "java/util/TreeMap") ∈ lw_tbl := lw_at lw_m4 65 rfl
theorem q1538 : (Jvm.Cond.instanceMethod ({ cls := "java/util/TreeMap$PrivateEntryIterator", name := "<init>", desc := "(Ljava/util/TreeMap;Ljava/util/TreeMap$Entry;)V" } : Jvm.MethodName)) ∈ lw_all := lw_g (lw_at lw_m6 210 rfl) rfl
theorem q1539 : (Jvm.Cond.code ({ cls := "java/util/TreeMap$PrivateEntryIterator", name := "<init>", desc := "(Ljava/util/TreeMap;Ljava/util/TreeMap$Entry;)V" } : Jvm.MethodName) prog_65_method_1_code (3 : Nat) (Option.none : Option Jvm.ClassFile.FieldType)) ∈ lw_all := lw_g (lw_at lw_m6 211 rfl) rfl
theorem q1540 : (Jvm.Cond.methodLink "java/util/TreeMap$PrivateEntryIterator" (7 : Nat) ({ cls := "java/lang/Object", name := "<init>", desc := "()V" } : Jvm.MethodName)) ∈ lw_all := lw_g (lw_at lw_m6 212 rfl) rfl
theorem q1541 : (Jvm.Cond.fieldLink "java/util/TreeMap$PrivateEntryIterator" (26 : Nat) "java/util/TreeMap$PrivateEntryIterator" "next" "Ljava/util/TreeMap$Entry;") ∈ lw_all := lw_g (lw_at lw_m6 213 rfl) rfl
theorem q1542 : (Jvm.Cond.fieldLink "java/util/TreeMap$PrivateEntryIterator" (22 : Nat) "java/util/TreeMap$PrivateEntryIterator" "lastReturned" "Ljava/util/TreeMap$Entry;") ∈ lw_all := lw_g (lw_at lw_m6 214 rfl) rfl
theorem q1543 : (Jvm.Cond.fieldLink "java/util/TreeMap$PrivateEntryIterator" (19 : Nat) "java/util/TreeMap$PrivateEntryIterator" "expectedModCount" "I") ∈ lw_all := lw_g (lw_at lw_m6 215 rfl) rfl
theorem q1544 : (Jvm.Cond.fieldLink "java/util/TreeMap$PrivateEntryIterator" (1 : Nat) "java/util/TreeMap$PrivateEntryIterator" "this$0" "Ljava/util/TreeMap;") ∈ lw_all := lw_g (lw_at lw_m6 216 rfl) rfl
theorem q1546 : (Jvm.Cond.soleField "java/util/TreeMap$PrivateEntryIterator" "next") ∈ lw_all := lw_g (lw_at lw_m6 218 rfl) rfl
theorem q1548 : (Jvm.Cond.soleField "java/util/TreeMap$PrivateEntryIterator" "lastReturned") ∈ lw_all := lw_g (lw_at lw_m6 220 rfl) rfl
theorem q1550 : (Jvm.Cond.soleField "java/util/TreeMap$PrivateEntryIterator" "expectedModCount") ∈ lw_all := lw_g (lw_at lw_m6 222 rfl) rfl
theorem q1552 : (Jvm.Cond.soleField "java/util/TreeMap$PrivateEntryIterator" "this$0") ∈ lw_all := lw_g (lw_at lw_m6 224 rfl) rfl
/-! java/util/TreeMap$ValueIterator -/
set_option maxRecDepth 100000
def RJ26 : String := "java/util/TreeMap$ValueIterator"
def TJ26 : u_T := fun k => match k with
  | 0 => ("java/util/TreeMap$PrivateEntryIterator", "next", "Ljava/util/TreeMap$Entry;", false)
  | 1 => ("java/util/TreeMap$PrivateEntryIterator", "lastReturned", "Ljava/util/TreeMap$Entry;", false)
  | 2 => ("java/util/TreeMap$PrivateEntryIterator", "expectedModCount", "I", false)
  | _ => ("java/util/TreeMap$PrivateEntryIterator", "this$0", "Ljava/util/TreeMap;", true)
def tyJ26 : Nat → FieldType := fun k => match k with
  | 0 => .object "java/util/TreeMap$Entry"
  | 1 => .object "java/util/TreeMap$Entry"
  | 2 => .int
  | _ => .object "java/util/TreeMap"
abbrev wsJ260 : List Cond := u_ws RJ26 TJ26 4
theorem nmJ26 : ∀ a, a < 4 → ∀ b, b < 4 → a ≠ b → (TJ26 a).2.1 ≠ (TJ26 b).2.1 := by decide +kernel
theorem tyJ26_ok : ∀ k, k < 4 → parseFieldDescriptor (TJ26 k).2.2.1 = some (tyJ26 k) := by decide +kernel
abbrev cJ26_next : ByteArray := prog_66_method_2_code
def yJ26_next : MethodName := ⟨RJ26, "next", "()Ljava/lang/Object;"⟩
def dkwJ26_next_0 : List UInt8 := [42, 182, 0, 7, 180, 0, 13, 176]
abbrev dktJ26_next_0 : List UInt8 := dkwJ26_next_0 ++ []
theorem dksJ26_next_0 : cJ26_next.data.toList.drop 0 = dktJ26_next_0 := by decide +kernel
theorem dJ26_next_0 : decode cJ26_next 0 = .ok (.aload_n 0, 1) := dk_42 (dk_at dksJ26_next_0 0 rfl rfl)
theorem dJ26_next_1 : decode cJ26_next 1 = .ok (.invokevirtual 7, 3) := dk_182 0 7 (dk_at dksJ26_next_0 1 rfl rfl)
theorem dJ26_next_4 : decode cJ26_next 4 = .ok (.getfield 13, 3) := dk_180 0 13 (dk_at dksJ26_next_0 4 rfl rfl)
theorem dJ26_next_7 : decode cJ26_next 7 = .ok (.areturn, 1) := dk_176 (dk_at dksJ26_next_0 7 rfl rfl)
abbrev cJ26_init : ByteArray := prog_66_method_1_code
def yJ26_init : MethodName := ⟨RJ26, "<init>", "(Ljava/util/TreeMap;Ljava/util/TreeMap$Entry;)V"⟩
def dkwJ26_init_0 : List UInt8 := [42, 43, 44, 183, 0, 1, 177]
abbrev dktJ26_init_0 : List UInt8 := dkwJ26_init_0 ++ []
theorem dksJ26_init_0 : cJ26_init.data.toList.drop 0 = dktJ26_init_0 := by decide +kernel
theorem dJ26_init_0 : decode cJ26_init 0 = .ok (.aload_n 0, 1) := dk_42 (dk_at dksJ26_init_0 0 rfl rfl)
theorem dJ26_init_1 : decode cJ26_init 1 = .ok (.aload_n 1, 1) := dk_43 (dk_at dksJ26_init_0 1 rfl rfl)
theorem dJ26_init_2 : decode cJ26_init 2 = .ok (.aload_n 2, 1) := dk_44 (dk_at dksJ26_init_0 2 rfl rfl)
theorem dJ26_init_3 : decode cJ26_init 3 = .ok (.invokespecial 1, 3) := dk_183 0 1 (dk_at dksJ26_init_0 3 rfl rfl)
theorem dJ26_init_6 : decode cJ26_init 6 = .ok (.return_, 1) := dk_177 (dk_at dksJ26_init_0 6 rfl rfl)
theorem q169 : (Jvm.Cond.initialized "java/util/TreeMap$ValueIterator") ∈ lw_all := lw_g (lw_at lw_m1 41 rfl) rfl
theorem q717 : (Jvm.Cond.selects "java/util/TreeMap$ValueIterator" ({ cls := "java/lang/Object", name := "getClass", desc := "()Ljava/lang/Class;" } : Jvm.MethodName) ({ cls := "java/lang/Object", name := "getClass", desc := "()Ljava/lang/Class;" } : Jvm.MethodName)) ∈ lw_all := lw_g (lw_at lw_m3 109 rfl) rfl
theorem q866 : (Jvm.Cond.castable "java/util/TreeMap$ValueIterator" "java/util/Iterator") ∈ lw_tbl := lw_at lw_m4 18 rfl
theorem q867 : (Jvm.Cond.selects "java/util/TreeMap$ValueIterator" ({ cls := "java/util/Iterator", name := "hasNext", desc := "()Z" } : Jvm.MethodName) ({ cls := "java/util/TreeMap$PrivateEntryIterator", name := "hasNext", desc := "()Z" } : Jvm.MethodName)) ∈ lw_all := lw_g (lw_at lw_m4 19 rfl) rfl
theorem q868 : (Jvm.Cond.unhidden "java/util/TreeMap$ValueIterator" "hasNext" "()Z") ∈ lw_tbl := lw_at lw_m4 20 rfl
theorem q885 : (Jvm.Cond.selects "java/util/TreeMap$ValueIterator" ({ cls := "java/util/Iterator", name := "next", desc := "()Ljava/lang/Object;" } : Jvm.MethodName) ({ cls := "java/util/TreeMap$ValueIterator", name := "next", desc := "()Ljava/lang/Object;" } : Jvm.MethodName)) ∈ lw_all := lw_g (lw_at lw_m4 37 rfl) rfl
theorem q886 : (Jvm.Cond.unhidden "java/util/TreeMap$ValueIterator" "next" "()Ljava/lang/Object;") ∈ lw_tbl := lw_at lw_m4 38 rfl
theorem q887 : (Jvm.Cond.instanceMethod ({ cls := "java/util/TreeMap$ValueIterator", name := "next", desc := "()Ljava/lang/Object;" } : Jvm.MethodName)) ∈ lw_all := lw_g (lw_at lw_m4 39 rfl) rfl
theorem q888 : (Jvm.Cond.publicMethod ({ cls := "java/util/TreeMap$ValueIterator", name := "next", desc := "()Ljava/lang/Object;" } : Jvm.MethodName)) ∈ lw_tbl := lw_at lw_m4 40 rfl
theorem q889 : (Jvm.Cond.code ({ cls := "java/util/TreeMap$ValueIterator", name := "next", desc := "()Ljava/lang/Object;" } : Jvm.MethodName) prog_66_method_2_code (1 : Nat) (Option.some (Jvm.ClassFile.FieldType.object "java/lang/Object"))) ∈ lw_all := lw_g (lw_at lw_m4 41 rfl) rfl
theorem q890 : (Jvm.Cond.methodLink "java/util/TreeMap$ValueIterator" (7 : Nat) ({ cls := "java/util/TreeMap$ValueIterator", name := "nextEntry", desc := "()Ljava/util/TreeMap$Entry;" } : Jvm.MethodName)) ∈ lw_all := lw_g (lw_at lw_m4 42 rfl) rfl
theorem q891 : (Jvm.Cond.sameMethod "java/util/TreeMap$ValueIterator" "java/util/TreeMap$PrivateEntryIterator" "nextEntry" "()Ljava/util/TreeMap$Entry;") ∈ lw_all := lw_g (lw_at lw_m4 43 rfl) rfl
theorem q893 : (Jvm.Cond.selects "java/util/TreeMap$ValueIterator" ({ cls := "java/util/TreeMap$ValueIterator", name := "nextEntry", desc := "()Ljava/util/TreeMap$Entry;" } : Jvm.MethodName) ({ cls := "java/util/TreeMap$PrivateEntryIterator", name := "nextEntry", desc := "()Ljava/util/TreeMap$Entry;" } : Jvm.MethodName)) ∈ lw_all := lw_g (lw_at lw_m4 45 rfl) rfl
theorem q1427 : (Jvm.Cond.fieldLink "java/util/TreeMap$ValueIterator" (13 : Nat) "java/util/TreeMap$Entry" "value" "Ljava/lang/Object;") ∈ lw_all := lw_g (lw_at lw_m6 99 rfl) rfl
theorem q1529 : (Jvm.Cond.instantiable "java/util/TreeMap$ValueIterator" (4 : Nat)) ∈ lw_all := lw_g (lw_at lw_m6 201 rfl) rfl
theorem q1535 : (Jvm.Cond.instanceMethod ({ cls := "java/util/TreeMap$ValueIterator", name := "<init>", desc := "(Ljava/util/TreeMap;Ljava/util/TreeMap$Entry;)V" } : Jvm.MethodName)) ∈ lw_all := lw_g (lw_at lw_m6 207 rfl) rfl
theorem q1536 : (Jvm.Cond.code ({ cls := "java/util/TreeMap$ValueIterator", name := "<init>", desc := "(Ljava/util/TreeMap;Ljava/util/TreeMap$Entry;)V" } : Jvm.MethodName) prog_66_method_1_code (3 : Nat) (Option.none : Option Jvm.ClassFile.FieldType)) ∈ lw_all := lw_g (lw_at lw_m6 208 rfl) rfl
theorem q1537 : (Jvm.Cond.methodLink "java/util/TreeMap$ValueIterator" (1 : Nat) ({ cls := "java/util/TreeMap$PrivateEntryIterator", name := "<init>", desc := "(Ljava/util/TreeMap;Ljava/util/TreeMap$Entry;)V" } : Jvm.MethodName)) ∈ lw_all := lw_g (lw_at lw_m6 209 rfl) rfl
theorem q1545 : (Jvm.Cond.lays "java/util/TreeMap$ValueIterator" "java/util/TreeMap$PrivateEntryIterator" "next" "Ljava/util/TreeMap$Entry;") ∈ lw_all := lw_g (lw_at lw_m6 217 rfl) rfl
theorem q1547 : (Jvm.Cond.lays "java/util/TreeMap$ValueIterator" "java/util/TreeMap$PrivateEntryIterator" "lastReturned" "Ljava/util/TreeMap$Entry;") ∈ lw_all := lw_g (lw_at lw_m6 219 rfl) rfl
theorem q1549 : (Jvm.Cond.lays "java/util/TreeMap$ValueIterator" "java/util/TreeMap$PrivateEntryIterator" "expectedModCount" "I") ∈ lw_all := lw_g (lw_at lw_m6 221 rfl) rfl
theorem q1551 : (Jvm.Cond.laysFinal "java/util/TreeMap$ValueIterator" "java/util/TreeMap$PrivateEntryIterator" "this$0" "Ljava/util/TreeMap;") ∈ lw_all := lw_g (lw_at lw_m6 223 rfl) rfl
theorem q1553 : (Jvm.Cond.superclass "java/util/TreeMap$ValueIterator" "java/util/TreeMap$PrivateEntryIterator") ∈ lw_all := lw_g (lw_at lw_m6 225 rfl) rfl
theorem q2795 : (Jvm.Cond.castable "java/util/TreeMap$ValueIterator" "java/lang/Object") ∈ lw_tbl := lw_at lw_m12 27 rfl
theorem in_J26 : ∀ w ∈ wsJ260, w ∈ lw_all := lw_in wsJ260 [1545, 1547, 1549, 1551] (by decide +kernel) (by decide +kernel)
/-! java/lang/Character -/
set_option maxRecDepth 100000
def RJ27 : String := "java/lang/Character"
abbrev cJ27_isValidCodePoint : ByteArray := prog_26_method_11_code
def yJ27_isValidCodePoint : MethodName := ⟨RJ27, "isValidCodePoint", "(I)Z"⟩
def dkwJ27_isValidCodePoint_0 : List UInt8 := [26, 16, 16, 124, 60, 27, 16, 17, 162, 0, 7, 4, 167, 0, 4, 3, 172]
abbrev dktJ27_isValidCodePoint_0 : List UInt8 := dkwJ27_isValidCodePoint_0 ++ []
theorem dksJ27_isValidCodePoint_0 : cJ27_isValidCodePoint.data.toList.drop 0 = dktJ27_isValidCodePoint_0 := by decide +kernel
theorem dJ27_isValidCodePoint_0 : decode cJ27_isValidCodePoint 0 = .ok (.iload_n 0, 1) := dk_26 (dk_at dksJ27_isValidCodePoint_0 0 rfl rfl)
theorem dJ27_isValidCodePoint_1 : decode cJ27_isValidCodePoint 1 = .ok (.bipush 16, 2) := dk_16 16 (dk_at dksJ27_isValidCodePoint_0 1 rfl rfl)
theorem dJ27_isValidCodePoint_3 : decode cJ27_isValidCodePoint 3 = .ok (.iushr, 1) := dk_124 (dk_at dksJ27_isValidCodePoint_0 3 rfl rfl)
theorem dJ27_isValidCodePoint_4 : decode cJ27_isValidCodePoint 4 = .ok (.istore_n 1, 1) := dk_60 (dk_at dksJ27_isValidCodePoint_0 4 rfl rfl)
theorem dJ27_isValidCodePoint_5 : decode cJ27_isValidCodePoint 5 = .ok (.iload_n 1, 1) := dk_27 (dk_at dksJ27_isValidCodePoint_0 5 rfl rfl)
theorem dJ27_isValidCodePoint_6 : decode cJ27_isValidCodePoint 6 = .ok (.bipush 17, 2) := dk_16 17 (dk_at dksJ27_isValidCodePoint_0 6 rfl rfl)
theorem dJ27_isValidCodePoint_8 : decode cJ27_isValidCodePoint 8 = .ok (.if_icmp .ge 7, 3) := dk_162 0 7 (dk_at dksJ27_isValidCodePoint_0 8 rfl rfl)
theorem dJ27_isValidCodePoint_11 : decode cJ27_isValidCodePoint 11 = .ok (.iconst 1, 1) := dk_4 (dk_at dksJ27_isValidCodePoint_0 11 rfl rfl)
theorem dJ27_isValidCodePoint_12 : decode cJ27_isValidCodePoint 12 = .ok (.goto 4, 3) := dk_167 0 4 (dk_at dksJ27_isValidCodePoint_0 12 rfl rfl)
theorem dJ27_isValidCodePoint_15 : decode cJ27_isValidCodePoint 15 = .ok (.iconst 0, 1) := dk_3 (dk_at dksJ27_isValidCodePoint_0 15 rfl rfl)
theorem dJ27_isValidCodePoint_16 : decode cJ27_isValidCodePoint 16 = .ok (.ireturn, 1) := dk_172 (dk_at dksJ27_isValidCodePoint_0 16 rfl rfl)
abbrev cJ27_highSurrogate : ByteArray := prog_26_method_28_code
def yJ27_highSurrogate : MethodName := ⟨RJ27, "highSurrogate", "(I)C"⟩
def dkwJ27_highSurrogate_0 : List UInt8 := [26, 16, 10, 124, 18, 110, 96, 146, 172]
abbrev dktJ27_highSurrogate_0 : List UInt8 := dkwJ27_highSurrogate_0 ++ []
theorem dksJ27_highSurrogate_0 : cJ27_highSurrogate.data.toList.drop 0 = dktJ27_highSurrogate_0 := by decide +kernel
theorem dJ27_highSurrogate_0 : decode cJ27_highSurrogate 0 = .ok (.iload_n 0, 1) := dk_26 (dk_at dksJ27_highSurrogate_0 0 rfl rfl)
theorem dJ27_highSurrogate_1 : decode cJ27_highSurrogate 1 = .ok (.bipush 10, 2) := dk_16 10 (dk_at dksJ27_highSurrogate_0 1 rfl rfl)
theorem dJ27_highSurrogate_3 : decode cJ27_highSurrogate 3 = .ok (.iushr, 1) := dk_124 (dk_at dksJ27_highSurrogate_0 3 rfl rfl)
theorem dJ27_highSurrogate_4 : decode cJ27_highSurrogate 4 = .ok (.ldc 110, 2) := dk_18 110 (dk_at dksJ27_highSurrogate_0 4 rfl rfl)
theorem dJ27_highSurrogate_6 : decode cJ27_highSurrogate 6 = .ok (.iadd, 1) := dk_96 (dk_at dksJ27_highSurrogate_0 6 rfl rfl)
theorem dJ27_highSurrogate_7 : decode cJ27_highSurrogate 7 = .ok (.i2c, 1) := dk_146 (dk_at dksJ27_highSurrogate_0 7 rfl rfl)
theorem dJ27_highSurrogate_8 : decode cJ27_highSurrogate 8 = .ok (.ireturn, 1) := dk_172 (dk_at dksJ27_highSurrogate_0 8 rfl rfl)
abbrev cJ27_lowSurrogate : ByteArray := prog_26_method_29_code
def yJ27_lowSurrogate : MethodName := ⟨RJ27, "lowSurrogate", "(I)C"⟩
def dkwJ27_lowSurrogate_0 : List UInt8 := [26, 17, 3, 255, 126, 18, 76, 96, 146, 172]
abbrev dktJ27_lowSurrogate_0 : List UInt8 := dkwJ27_lowSurrogate_0 ++ []
theorem dksJ27_lowSurrogate_0 : cJ27_lowSurrogate.data.toList.drop 0 = dktJ27_lowSurrogate_0 := by decide +kernel
theorem dJ27_lowSurrogate_0 : decode cJ27_lowSurrogate 0 = .ok (.iload_n 0, 1) := dk_26 (dk_at dksJ27_lowSurrogate_0 0 rfl rfl)
theorem dJ27_lowSurrogate_1 : decode cJ27_lowSurrogate 1 = .ok (.sipush 1023, 3) := dk_17 3 255 (dk_at dksJ27_lowSurrogate_0 1 rfl rfl)
theorem dJ27_lowSurrogate_4 : decode cJ27_lowSurrogate 4 = .ok (.iand, 1) := dk_126 (dk_at dksJ27_lowSurrogate_0 4 rfl rfl)
theorem dJ27_lowSurrogate_5 : decode cJ27_lowSurrogate 5 = .ok (.ldc 76, 2) := dk_18 76 (dk_at dksJ27_lowSurrogate_0 5 rfl rfl)
theorem dJ27_lowSurrogate_7 : decode cJ27_lowSurrogate 7 = .ok (.iadd, 1) := dk_96 (dk_at dksJ27_lowSurrogate_0 7 rfl rfl)
theorem dJ27_lowSurrogate_8 : decode cJ27_lowSurrogate 8 = .ok (.i2c, 1) := dk_146 (dk_at dksJ27_lowSurrogate_0 8 rfl rfl)
theorem dJ27_lowSurrogate_9 : decode cJ27_lowSurrogate 9 = .ok (.ireturn, 1) := dk_172 (dk_at dksJ27_lowSurrogate_0 9 rfl rfl)
theorem q171 : (Jvm.Cond.initialized "java/lang/Character") ∈ lw_all := lw_g (lw_at lw_m1 43 rfl) rfl
theorem q1989 : (Jvm.Cond.static ({ cls := "java/lang/Character", name := "isValidCodePoint", desc := "(I)Z" } : Jvm.MethodName)) ∈ lw_all := lw_g (lw_at lw_m8 181 rfl) rfl
theorem q1990 : (Jvm.Cond.code ({ cls := "java/lang/Character", name := "isValidCodePoint", desc := "(I)Z" } : Jvm.MethodName) prog_26_method_11_code (2 : Nat) (Option.some Jvm.ClassFile.FieldType.boolean)) ∈ lw_all := lw_g (lw_at lw_m8 182 rfl) rfl
theorem q1992 : (Jvm.Cond.static ({ cls := "java/lang/Character", name := "highSurrogate", desc := "(I)C" } : Jvm.MethodName)) ∈ lw_all := lw_g (lw_at lw_m8 184 rfl) rfl
theorem q1993 : (Jvm.Cond.code ({ cls := "java/lang/Character", name := "highSurrogate", desc := "(I)C" } : Jvm.MethodName) prog_26_method_28_code (1 : Nat) (Option.some Jvm.ClassFile.FieldType.char)) ∈ lw_all := lw_g (lw_at lw_m8 185 rfl) rfl
theorem q1994 : (Jvm.Cond.constant "java/lang/Character" (110 : Nat) (55232 : Int32)) ∈ lw_all := lw_g (lw_at lw_m8 186 rfl) rfl
theorem q1996 : (Jvm.Cond.static ({ cls := "java/lang/Character", name := "lowSurrogate", desc := "(I)C" } : Jvm.MethodName)) ∈ lw_all := lw_g (lw_at lw_m8 188 rfl) rfl
theorem q1997 : (Jvm.Cond.code ({ cls := "java/lang/Character", name := "lowSurrogate", desc := "(I)C" } : Jvm.MethodName) prog_26_method_29_code (1 : Nat) (Option.some Jvm.ClassFile.FieldType.char)) ∈ lw_all := lw_g (lw_at lw_m8 189 rfl) rfl
theorem q1998 : (Jvm.Cond.constant "java/lang/Character" (76 : Nat) (56320 : Int32)) ∈ lw_all := lw_g (lw_at lw_m8 190 rfl) rfl
/-! java/lang/Object -/
set_option maxRecDepth 100000
def RJ28 : String := "java/lang/Object"
abbrev cJ28_init : ByteArray := object_method_1_code
def yJ28_init : MethodName := ⟨RJ28, "<init>", "()V"⟩
theorem dJ28_init_0 : decode cJ28_init 0 = .ok (.return_, 1) := by decide +kernel
theorem q263 : (Jvm.Cond.instanceMethod ({ cls := "java/lang/Object", name := "<init>", desc := "()V" } : Jvm.MethodName)) ∈ lw_all := lw_g (lw_at lw_m1 135 rfl) rfl
theorem q264 : (Jvm.Cond.code ({ cls := "java/lang/Object", name := "<init>", desc := "()V" } : Jvm.MethodName) object_method_1_code (1 : Nat) (Option.none : Option Jvm.ClassFile.FieldType)) ∈ lw_all := lw_g (lw_at lw_m1 136 rfl) rfl
theorem q333 : (Jvm.Cond.native ({ cls := "java/lang/Object", name := "clone", desc := "()Ljava/lang/Object;" } : Jvm.MethodName)) ∈ lw_all := lw_g (lw_at lw_m1 205 rfl) rfl
theorem q334 : (Jvm.Cond.instanceMethod ({ cls := "java/lang/Object", name := "clone", desc := "()Ljava/lang/Object;" } : Jvm.MethodName)) ∈ lw_all := lw_g (lw_at lw_m1 206 rfl) rfl
theorem q693 : (Jvm.Cond.instanceMethod ({ cls := "java/lang/Object", name := "getClass", desc := "()Ljava/lang/Class;" } : Jvm.MethodName)) ∈ lw_all := lw_g (lw_at lw_m3 85 rfl) rfl
theorem q694 : (Jvm.Cond.sameMethod "java/lang/Object" "java/lang/Object" "getClass" "()Ljava/lang/Class;") ∈ lw_all := lw_g (lw_at lw_m3 86 rfl) rfl
theorem q720 : (Jvm.Cond.native ({ cls := "java/lang/Object", name := "getClass", desc := "()Ljava/lang/Class;" } : Jvm.MethodName)) ∈ lw_all := lw_g (lw_at lw_m3 112 rfl) rfl
theorem q2764 : (Jvm.Cond.initialized "java/lang/Object") ∈ lw_all := lw_g (lw_at lw_m11 236 rfl) rfl
theorem q2806 : (Jvm.Cond.declares ({ cls := "java/lang/Object", name := "getClass", desc := "()Ljava/lang/Class;" } : Jvm.MethodName)) ∈ lw_tbl := lw_at lw_m12 38 rfl
/-! java/lang/Enum -/
set_option maxRecDepth 100000
def RJ3 : String := "java/lang/Enum"
abbrev cJ3_compareTo : ByteArray := prog_29_method_15_code
def yJ3_compareTo : MethodName := ⟨RJ3, "compareTo", "(Ljava/lang/Object;)I"⟩
def dkwJ3_compareTo_0 : List UInt8 := [42, 43, 192, 0, 2, 182, 0, 101, 172]
abbrev dktJ3_compareTo_0 : List UInt8 := dkwJ3_compareTo_0 ++ []
theorem dksJ3_compareTo_0 : cJ3_compareTo.data.toList.drop 0 = dktJ3_compareTo_0 := by decide +kernel
theorem dJ3_compareTo_0 : decode cJ3_compareTo 0 = .ok (.aload_n 0, 1) := dk_42 (dk_at dksJ3_compareTo_0 0 rfl rfl)
theorem dJ3_compareTo_1 : decode cJ3_compareTo 1 = .ok (.aload_n 1, 1) := dk_43 (dk_at dksJ3_compareTo_0 1 rfl rfl)
theorem dJ3_compareTo_2 : decode cJ3_compareTo 2 = .ok (.checkcast 2, 3) := dk_192 0 2 (dk_at dksJ3_compareTo_0 2 rfl rfl)
theorem dJ3_compareTo_5 : decode cJ3_compareTo 5 = .ok (.invokevirtual 101, 3) := dk_182 0 101 (dk_at dksJ3_compareTo_0 5 rfl rfl)
theorem dJ3_compareTo_8 : decode cJ3_compareTo 8 = .ok (.ireturn, 1) := dk_172 (dk_at dksJ3_compareTo_0 8 rfl rfl)
abbrev cJ3_compareTo_2 : ByteArray := prog_29_method_8_code
def yJ3_compareTo_2 : MethodName := ⟨RJ3, "compareTo", "(Ljava/lang/Enum;)I"⟩
def dkwJ3_compareTo_2_1 : List UInt8 := [165, 0, 11, 187, 0, 36, 89, 183, 0, 38, 191, 45, 180, 0, 7, 44, 180, 0, 7, 100, 172]
abbrev dktJ3_compareTo_2_1 : List UInt8 := dkwJ3_compareTo_2_1 ++ []
def dkwJ3_compareTo_2_0 : List UInt8 := [43, 77, 42, 78, 45, 182, 0, 29, 44, 182, 0, 29, 165, 0, 22, 45, 182, 0, 33, 44, 182, 0, 33]
abbrev dktJ3_compareTo_2_0 : List UInt8 := dkwJ3_compareTo_2_0 ++ dktJ3_compareTo_2_1
theorem dksJ3_compareTo_2_0 : cJ3_compareTo_2.data.toList.drop 0 = dktJ3_compareTo_2_0 := by decide +kernel
theorem dksJ3_compareTo_2_1 : cJ3_compareTo_2.data.toList.drop 23 = dktJ3_compareTo_2_1 := dk_seg dksJ3_compareTo_2_0 23 rfl rfl
theorem dJ3_compareTo_2_0 : decode cJ3_compareTo_2 0 = .ok (.aload_n 1, 1) := dk_43 (dk_at dksJ3_compareTo_2_0 0 rfl rfl)
theorem dJ3_compareTo_2_1 : decode cJ3_compareTo_2 1 = .ok (.astore_n 2, 1) := dk_77 (dk_at dksJ3_compareTo_2_0 1 rfl rfl)
theorem dJ3_compareTo_2_2 : decode cJ3_compareTo_2 2 = .ok (.aload_n 0, 1) := dk_42 (dk_at dksJ3_compareTo_2_0 2 rfl rfl)
theorem dJ3_compareTo_2_3 : decode cJ3_compareTo_2 3 = .ok (.astore_n 3, 1) := dk_78 (dk_at dksJ3_compareTo_2_0 3 rfl rfl)
theorem dJ3_compareTo_2_4 : decode cJ3_compareTo_2 4 = .ok (.aload_n 3, 1) := dk_45 (dk_at dksJ3_compareTo_2_0 4 rfl rfl)
theorem dJ3_compareTo_2_5 : decode cJ3_compareTo_2 5 = .ok (.invokevirtual 29, 3) := dk_182 0 29 (dk_at dksJ3_compareTo_2_0 5 rfl rfl)
theorem dJ3_compareTo_2_8 : decode cJ3_compareTo_2 8 = .ok (.aload_n 2, 1) := dk_44 (dk_at dksJ3_compareTo_2_0 8 rfl rfl)
theorem dJ3_compareTo_2_9 : decode cJ3_compareTo_2 9 = .ok (.invokevirtual 29, 3) := dk_182 0 29 (dk_at dksJ3_compareTo_2_0 9 rfl rfl)
theorem dJ3_compareTo_2_12 : decode cJ3_compareTo_2 12 = .ok (.if_acmp .eq 22, 3) := dk_165 0 22 (dk_at dksJ3_compareTo_2_0 12 rfl rfl)
theorem dJ3_compareTo_2_15 : decode cJ3_compareTo_2 15 = .ok (.aload_n 3, 1) := dk_45 (dk_at dksJ3_compareTo_2_0 15 rfl rfl)
theorem dJ3_compareTo_2_16 : decode cJ3_compareTo_2 16 = .ok (.invokevirtual 33, 3) := dk_182 0 33 (dk_at dksJ3_compareTo_2_0 16 rfl rfl)
theorem dJ3_compareTo_2_19 : decode cJ3_compareTo_2 19 = .ok (.aload_n 2, 1) := dk_44 (dk_at dksJ3_compareTo_2_0 19 rfl rfl)
theorem dJ3_compareTo_2_20 : decode cJ3_compareTo_2 20 = .ok (.invokevirtual 33, 3) := dk_182 0 33 (dk_at dksJ3_compareTo_2_0 20 rfl rfl)
theorem dJ3_compareTo_2_23 : decode cJ3_compareTo_2 23 = .ok (.if_acmp .eq 11, 3) := dk_165 0 11 (dk_at dksJ3_compareTo_2_1 0 rfl rfl)
theorem dJ3_compareTo_2_26 : decode cJ3_compareTo_2 26 = .ok (.new 36, 3) := dk_187 0 36 (dk_at dksJ3_compareTo_2_1 3 rfl rfl)
theorem dJ3_compareTo_2_29 : decode cJ3_compareTo_2 29 = .ok (.dup, 1) := dk_89 (dk_at dksJ3_compareTo_2_1 6 rfl rfl)
theorem dJ3_compareTo_2_30 : decode cJ3_compareTo_2 30 = .ok (.invokespecial 38, 3) := dk_183 0 38 (dk_at dksJ3_compareTo_2_1 7 rfl rfl)
theorem dJ3_compareTo_2_33 : decode cJ3_compareTo_2 33 = .ok (.athrow, 1) := dk_191 (dk_at dksJ3_compareTo_2_1 10 rfl rfl)
theorem dJ3_compareTo_2_34 : decode cJ3_compareTo_2 34 = .ok (.aload_n 3, 1) := dk_45 (dk_at dksJ3_compareTo_2_1 11 rfl rfl)
theorem dJ3_compareTo_2_35 : decode cJ3_compareTo_2 35 = .ok (.getfield 7, 3) := dk_180 0 7 (dk_at dksJ3_compareTo_2_1 12 rfl rfl)
theorem dJ3_compareTo_2_38 : decode cJ3_compareTo_2 38 = .ok (.aload_n 2, 1) := dk_44 (dk_at dksJ3_compareTo_2_1 15 rfl rfl)
theorem dJ3_compareTo_2_39 : decode cJ3_compareTo_2 39 = .ok (.getfield 7, 3) := dk_180 0 7 (dk_at dksJ3_compareTo_2_1 16 rfl rfl)
theorem dJ3_compareTo_2_42 : decode cJ3_compareTo_2 42 = .ok (.isub, 1) := dk_100 (dk_at dksJ3_compareTo_2_1 19 rfl rfl)
theorem dJ3_compareTo_2_43 : decode cJ3_compareTo_2 43 = .ok (.ireturn, 1) := dk_172 (dk_at dksJ3_compareTo_2_1 20 rfl rfl)
abbrev cJ3_getDeclaringClass : ByteArray := prog_29_method_9_code
def yJ3_getDeclaringClass : MethodName := ⟨RJ3, "getDeclaringClass", "()Ljava/lang/Class;"⟩
def dkwJ3_getDeclaringClass_0 : List UInt8 := [42, 182, 0, 29, 76, 43, 182, 0, 39, 77, 44, 18, 2, 166, 0, 7, 43, 167, 0, 4, 44, 176]
abbrev dktJ3_getDeclaringClass_0 : List UInt8 := dkwJ3_getDeclaringClass_0 ++ []
theorem dksJ3_getDeclaringClass_0 : cJ3_getDeclaringClass.data.toList.drop 0 = dktJ3_getDeclaringClass_0 := by decide +kernel
theorem dJ3_getDeclaringClass_0 : decode cJ3_getDeclaringClass 0 = .ok (.aload_n 0, 1) := dk_42 (dk_at dksJ3_getDeclaringClass_0 0 rfl rfl)
theorem dJ3_getDeclaringClass_1 : decode cJ3_getDeclaringClass 1 = .ok (.invokevirtual 29, 3) := dk_182 0 29 (dk_at dksJ3_getDeclaringClass_0 1 rfl rfl)
theorem dJ3_getDeclaringClass_4 : decode cJ3_getDeclaringClass 4 = .ok (.astore_n 1, 1) := dk_76 (dk_at dksJ3_getDeclaringClass_0 4 rfl rfl)
theorem dJ3_getDeclaringClass_5 : decode cJ3_getDeclaringClass 5 = .ok (.aload_n 1, 1) := dk_43 (dk_at dksJ3_getDeclaringClass_0 5 rfl rfl)
theorem dJ3_getDeclaringClass_6 : decode cJ3_getDeclaringClass 6 = .ok (.invokevirtual 39, 3) := dk_182 0 39 (dk_at dksJ3_getDeclaringClass_0 6 rfl rfl)
theorem dJ3_getDeclaringClass_9 : decode cJ3_getDeclaringClass 9 = .ok (.astore_n 2, 1) := dk_77 (dk_at dksJ3_getDeclaringClass_0 9 rfl rfl)
theorem dJ3_getDeclaringClass_10 : decode cJ3_getDeclaringClass 10 = .ok (.aload_n 2, 1) := dk_44 (dk_at dksJ3_getDeclaringClass_0 10 rfl rfl)
theorem dJ3_getDeclaringClass_11 : decode cJ3_getDeclaringClass 11 = .ok (.ldc 2, 2) := dk_18 2 (dk_at dksJ3_getDeclaringClass_0 11 rfl rfl)
theorem dJ3_getDeclaringClass_13 : decode cJ3_getDeclaringClass 13 = .ok (.if_acmp .ne 7, 3) := dk_166 0 7 (dk_at dksJ3_getDeclaringClass_0 13 rfl rfl)
theorem dJ3_getDeclaringClass_16 : decode cJ3_getDeclaringClass 16 = .ok (.aload_n 1, 1) := dk_43 (dk_at dksJ3_getDeclaringClass_0 16 rfl rfl)
theorem dJ3_getDeclaringClass_17 : decode cJ3_getDeclaringClass 17 = .ok (.goto 4, 3) := dk_167 0 4 (dk_at dksJ3_getDeclaringClass_0 17 rfl rfl)
theorem dJ3_getDeclaringClass_20 : decode cJ3_getDeclaringClass 20 = .ok (.aload_n 2, 1) := dk_44 (dk_at dksJ3_getDeclaringClass_0 20 rfl rfl)
theorem dJ3_getDeclaringClass_21 : decode cJ3_getDeclaringClass 21 = .ok (.areturn, 1) := dk_176 (dk_at dksJ3_getDeclaringClass_0 21 rfl rfl)
theorem q134 : (Jvm.Cond.initialized "java/lang/Enum") ∈ lw_all := lw_g (lw_at lw_m1 6 rfl) rfl
theorem q1183 : (Jvm.Cond.instanceMethod ({ cls := "java/lang/Enum", name := "compareTo", desc := "(Ljava/lang/Object;)I" } : Jvm.MethodName)) ∈ lw_all := lw_g (lw_at lw_m5 95 rfl) rfl
theorem q1184 : (Jvm.Cond.publicMethod ({ cls := "java/lang/Enum", name := "compareTo", desc := "(Ljava/lang/Object;)I" } : Jvm.MethodName)) ∈ lw_tbl := lw_at lw_m5 96 rfl
theorem q1185 : (Jvm.Cond.code ({ cls := "java/lang/Enum", name := "compareTo", desc := "(Ljava/lang/Object;)I" } : Jvm.MethodName) prog_29_method_15_code (2 : Nat) (Option.some Jvm.ClassFile.FieldType.int)) ∈ lw_all := lw_g (lw_at lw_m5 97 rfl) rfl
theorem q1186 : (Jvm.Cond.classLink "java/lang/Enum" (2 : Nat) "java/lang/Enum") ∈ lw_all := lw_g (lw_at lw_m5 98 rfl) rfl
theorem q1187 : (Jvm.Cond.methodLink "java/lang/Enum" (101 : Nat) ({ cls := "java/lang/Enum", name := "compareTo", desc := "(Ljava/lang/Enum;)I" } : Jvm.MethodName)) ∈ lw_all := lw_g (lw_at lw_m5 99 rfl) rfl
theorem q1188 : (Jvm.Cond.instanceMethod ({ cls := "java/lang/Enum", name := "compareTo", desc := "(Ljava/lang/Enum;)I" } : Jvm.MethodName)) ∈ lw_all := lw_g (lw_at lw_m5 100 rfl) rfl
theorem q1189 : (Jvm.Cond.sameMethod "java/lang/Enum" "java/lang/Enum" "compareTo" "(Ljava/lang/Enum;)I") ∈ lw_all := lw_g (lw_at lw_m5 101 rfl) rfl
theorem q1197 : (Jvm.Cond.code ({ cls := "java/lang/Enum", name := "compareTo", desc := "(Ljava/lang/Enum;)I" } : Jvm.MethodName) prog_29_method_8_code (4 : Nat) (Option.some Jvm.ClassFile.FieldType.int)) ∈ lw_all := lw_g (lw_at lw_m5 109 rfl) rfl
theorem q1198 : (Jvm.Cond.methodLink "java/lang/Enum" (29 : Nat) ({ cls := "java/lang/Object", name := "getClass", desc := "()Ljava/lang/Class;" } : Jvm.MethodName)) ∈ lw_all := lw_g (lw_at lw_m5 110 rfl) rfl
theorem q1199 : (Jvm.Cond.methodLink "java/lang/Enum" (33 : Nat) ({ cls := "java/lang/Enum", name := "getDeclaringClass", desc := "()Ljava/lang/Class;" } : Jvm.MethodName)) ∈ lw_all := lw_g (lw_at lw_m5 111 rfl) rfl
theorem q1200 : (Jvm.Cond.instanceMethod ({ cls := "java/lang/Enum", name := "getDeclaringClass", desc := "()Ljava/lang/Class;" } : Jvm.MethodName)) ∈ lw_all := lw_g (lw_at lw_m5 112 rfl) rfl
theorem q1201 : (Jvm.Cond.sameMethod "java/lang/Enum" "java/lang/Enum" "getDeclaringClass" "()Ljava/lang/Class;") ∈ lw_all := lw_g (lw_at lw_m5 113 rfl) rfl
theorem q1209 : (Jvm.Cond.code ({ cls := "java/lang/Enum", name := "getDeclaringClass", desc := "()Ljava/lang/Class;" } : Jvm.MethodName) prog_29_method_9_code (3 : Nat) (Option.some (Jvm.ClassFile.FieldType.object "java/lang/Class"))) ∈ lw_all := lw_g (lw_at lw_m5 121 rfl) rfl
theorem q2820 : (Jvm.Cond.fieldLink "java/lang/Enum" (7 : Nat) "java/lang/Enum" "ordinal" "I") ∈ lw_all := lw_g (lw_at lw_m12 52 rfl) rfl
/-! java/lang/Throwable -/
set_option maxRecDepth 100000
def RJ4 : String := "java/lang/Throwable"
def TJ4 : u_T := fun k => match k with
  | 0 => ("java/lang/Throwable", "cause", "Ljava/lang/Throwable;", false)
  | 1 => ("java/lang/Throwable", "stackTrace", "[Ljava/lang/StackTraceElement;", false)
  | 2 => ("java/lang/Throwable", "suppressedExceptions", "Ljava/util/List;", false)
  | 3 => ("java/lang/Throwable", "detailMessage", "Ljava/lang/String;", false)
  | _ => ("java/lang/Throwable", "backtrace", "Ljava/lang/Object;", false)
def tyJ4 : Nat → FieldType := fun k => match k with
  | 0 => .object "java/lang/Throwable"
  | 1 => .array (.object "java/lang/StackTraceElement")
  | 2 => .object "java/util/List"
  | 3 => .object "java/lang/String"
  | _ => .object "java/lang/Object"
abbrev wsJ40 : List Cond := u_ws RJ4 TJ4 5
theorem nmJ4 : ∀ a, a < 5 → ∀ b, b < 5 → a ≠ b → (TJ4 a).2.1 ≠ (TJ4 b).2.1 := by decide +kernel
theorem tyJ4_ok : ∀ k, k < 5 → parseFieldDescriptor (TJ4 k).2.2.1 = some (tyJ4 k) := by decide +kernel
abbrev cJ4_init : ByteArray := prog_42_method_1_code
def yJ4_init : MethodName := ⟨RJ4, "<init>", "()V"⟩
def dkwJ4_init_1 : List UInt8 := [182, 0, 27, 87, 177]
abbrev dktJ4_init_1 : List UInt8 := dkwJ4_init_1 ++ []
def dkwJ4_init_0 : List UInt8 := [42, 183, 0, 1, 42, 42, 181, 0, 7, 42, 178, 0, 13, 181, 0, 17, 42, 178, 0, 20, 181, 0, 24, 42]
abbrev dktJ4_init_0 : List UInt8 := dkwJ4_init_0 ++ dktJ4_init_1
theorem dksJ4_init_0 : cJ4_init.data.toList.drop 0 = dktJ4_init_0 := by decide +kernel
theorem dksJ4_init_1 : cJ4_init.data.toList.drop 24 = dktJ4_init_1 := dk_seg dksJ4_init_0 24 rfl rfl
theorem dJ4_init_0 : decode cJ4_init 0 = .ok (.aload_n 0, 1) := dk_42 (dk_at dksJ4_init_0 0 rfl rfl)
theorem dJ4_init_1 : decode cJ4_init 1 = .ok (.invokespecial 1, 3) := dk_183 0 1 (dk_at dksJ4_init_0 1 rfl rfl)
theorem dJ4_init_4 : decode cJ4_init 4 = .ok (.aload_n 0, 1) := dk_42 (dk_at dksJ4_init_0 4 rfl rfl)
theorem dJ4_init_5 : decode cJ4_init 5 = .ok (.aload_n 0, 1) := dk_42 (dk_at dksJ4_init_0 5 rfl rfl)
theorem dJ4_init_6 : decode cJ4_init 6 = .ok (.putfield 7, 3) := dk_181 0 7 (dk_at dksJ4_init_0 6 rfl rfl)
theorem dJ4_init_9 : decode cJ4_init 9 = .ok (.aload_n 0, 1) := dk_42 (dk_at dksJ4_init_0 9 rfl rfl)
theorem dJ4_init_10 : decode cJ4_init 10 = .ok (.getstatic 13, 3) := dk_178 0 13 (dk_at dksJ4_init_0 10 rfl rfl)
theorem dJ4_init_13 : decode cJ4_init 13 = .ok (.putfield 17, 3) := dk_181 0 17 (dk_at dksJ4_init_0 13 rfl rfl)
theorem dJ4_init_16 : decode cJ4_init 16 = .ok (.aload_n 0, 1) := dk_42 (dk_at dksJ4_init_0 16 rfl rfl)
theorem dJ4_init_17 : decode cJ4_init 17 = .ok (.getstatic 20, 3) := dk_178 0 20 (dk_at dksJ4_init_0 17 rfl rfl)
theorem dJ4_init_20 : decode cJ4_init 20 = .ok (.putfield 24, 3) := dk_181 0 24 (dk_at dksJ4_init_0 20 rfl rfl)
theorem dJ4_init_23 : decode cJ4_init 23 = .ok (.aload_n 0, 1) := dk_42 (dk_at dksJ4_init_0 23 rfl rfl)
theorem dJ4_init_24 : decode cJ4_init 24 = .ok (.invokevirtual 27, 3) := dk_182 0 27 (dk_at dksJ4_init_1 0 rfl rfl)
theorem dJ4_init_27 : decode cJ4_init 27 = .ok (.pop, 1) := dk_87 (dk_at dksJ4_init_1 3 rfl rfl)
theorem dJ4_init_28 : decode cJ4_init 28 = .ok (.return_, 1) := dk_177 (dk_at dksJ4_init_1 4 rfl rfl)
abbrev cJ4_init_2 : ByteArray := prog_42_method_5_code
def yJ4_init_2 : MethodName := ⟨RJ4, "<init>", "(Ljava/lang/String;Ljava/lang/Throwable;ZZ)V"⟩
def dkwJ4_init_2_2 : List UInt8 := [44, 181, 0, 7, 29, 154, 0, 8, 42, 1, 181, 0, 24, 177]
abbrev dktJ4_init_2_2 : List UInt8 := dkwJ4_init_2_2 ++ []
def dkwJ4_init_2_1 : List UInt8 := [21, 4, 153, 0, 11, 42, 182, 0, 27, 87, 167, 0, 8, 42, 1, 181, 0, 17, 42, 43, 181, 0, 31, 42]
abbrev dktJ4_init_2_1 : List UInt8 := dkwJ4_init_2_1 ++ dktJ4_init_2_2
def dkwJ4_init_2_0 : List UInt8 := [42, 183, 0, 1, 42, 42, 181, 0, 7, 42, 178, 0, 13, 181, 0, 17, 42, 178, 0, 20, 181, 0, 24]
abbrev dktJ4_init_2_0 : List UInt8 := dkwJ4_init_2_0 ++ dktJ4_init_2_1
theorem dksJ4_init_2_0 : cJ4_init_2.data.toList.drop 0 = dktJ4_init_2_0 := by decide +kernel
theorem dksJ4_init_2_1 : cJ4_init_2.data.toList.drop 23 = dktJ4_init_2_1 := dk_seg dksJ4_init_2_0 23 rfl rfl
theorem dksJ4_init_2_2 : cJ4_init_2.data.toList.drop 47 = dktJ4_init_2_2 := dk_seg dksJ4_init_2_1 24 rfl rfl
theorem dJ4_init_2_0 : decode cJ4_init_2 0 = .ok (.aload_n 0, 1) := dk_42 (dk_at dksJ4_init_2_0 0 rfl rfl)
theorem dJ4_init_2_1 : decode cJ4_init_2 1 = .ok (.invokespecial 1, 3) := dk_183 0 1 (dk_at dksJ4_init_2_0 1 rfl rfl)
theorem dJ4_init_2_4 : decode cJ4_init_2 4 = .ok (.aload_n 0, 1) := dk_42 (dk_at dksJ4_init_2_0 4 rfl rfl)
theorem dJ4_init_2_5 : decode cJ4_init_2 5 = .ok (.aload_n 0, 1) := dk_42 (dk_at dksJ4_init_2_0 5 rfl rfl)
theorem dJ4_init_2_6 : decode cJ4_init_2 6 = .ok (.putfield 7, 3) := dk_181 0 7 (dk_at dksJ4_init_2_0 6 rfl rfl)
theorem dJ4_init_2_9 : decode cJ4_init_2 9 = .ok (.aload_n 0, 1) := dk_42 (dk_at dksJ4_init_2_0 9 rfl rfl)
theorem dJ4_init_2_10 : decode cJ4_init_2 10 = .ok (.getstatic 13, 3) := dk_178 0 13 (dk_at dksJ4_init_2_0 10 rfl rfl)
theorem dJ4_init_2_13 : decode cJ4_init_2 13 = .ok (.putfield 17, 3) := dk_181 0 17 (dk_at dksJ4_init_2_0 13 rfl rfl)
theorem dJ4_init_2_16 : decode cJ4_init_2 16 = .ok (.aload_n 0, 1) := dk_42 (dk_at dksJ4_init_2_0 16 rfl rfl)
theorem dJ4_init_2_17 : decode cJ4_init_2 17 = .ok (.getstatic 20, 3) := dk_178 0 20 (dk_at dksJ4_init_2_0 17 rfl rfl)
theorem dJ4_init_2_20 : decode cJ4_init_2 20 = .ok (.putfield 24, 3) := dk_181 0 24 (dk_at dksJ4_init_2_0 20 rfl rfl)
theorem dJ4_init_2_23 : decode cJ4_init_2 23 = .ok (.iload 4, 2) := dk_21 4 (dk_at dksJ4_init_2_1 0 rfl rfl)
theorem dJ4_init_2_25 : decode cJ4_init_2 25 = .ok (.ifCond .eq 11, 3) := dk_153 0 11 (dk_at dksJ4_init_2_1 2 rfl rfl)
theorem dJ4_init_2_28 : decode cJ4_init_2 28 = .ok (.aload_n 0, 1) := dk_42 (dk_at dksJ4_init_2_1 5 rfl rfl)
theorem dJ4_init_2_29 : decode cJ4_init_2 29 = .ok (.invokevirtual 27, 3) := dk_182 0 27 (dk_at dksJ4_init_2_1 6 rfl rfl)
theorem dJ4_init_2_32 : decode cJ4_init_2 32 = .ok (.pop, 1) := dk_87 (dk_at dksJ4_init_2_1 9 rfl rfl)
theorem dJ4_init_2_33 : decode cJ4_init_2 33 = .ok (.goto 8, 3) := dk_167 0 8 (dk_at dksJ4_init_2_1 10 rfl rfl)
theorem dJ4_init_2_36 : decode cJ4_init_2 36 = .ok (.aload_n 0, 1) := dk_42 (dk_at dksJ4_init_2_1 13 rfl rfl)
theorem dJ4_init_2_37 : decode cJ4_init_2 37 = .ok (.aconst_null, 1) := dk_1 (dk_at dksJ4_init_2_1 14 rfl rfl)
theorem dJ4_init_2_38 : decode cJ4_init_2 38 = .ok (.putfield 17, 3) := dk_181 0 17 (dk_at dksJ4_init_2_1 15 rfl rfl)
theorem dJ4_init_2_41 : decode cJ4_init_2 41 = .ok (.aload_n 0, 1) := dk_42 (dk_at dksJ4_init_2_1 18 rfl rfl)
theorem dJ4_init_2_42 : decode cJ4_init_2 42 = .ok (.aload_n 1, 1) := dk_43 (dk_at dksJ4_init_2_1 19 rfl rfl)
theorem dJ4_init_2_43 : decode cJ4_init_2 43 = .ok (.putfield 31, 3) := dk_181 0 31 (dk_at dksJ4_init_2_1 20 rfl rfl)
theorem dJ4_init_2_46 : decode cJ4_init_2 46 = .ok (.aload_n 0, 1) := dk_42 (dk_at dksJ4_init_2_1 23 rfl rfl)
theorem dJ4_init_2_47 : decode cJ4_init_2 47 = .ok (.aload_n 2, 1) := dk_44 (dk_at dksJ4_init_2_2 0 rfl rfl)
theorem dJ4_init_2_48 : decode cJ4_init_2 48 = .ok (.putfield 7, 3) := dk_181 0 7 (dk_at dksJ4_init_2_2 1 rfl rfl)
theorem dJ4_init_2_51 : decode cJ4_init_2 51 = .ok (.iload_n 3, 1) := dk_29 (dk_at dksJ4_init_2_2 4 rfl rfl)
theorem dJ4_init_2_52 : decode cJ4_init_2 52 = .ok (.ifCond .ne 8, 3) := dk_154 0 8 (dk_at dksJ4_init_2_2 5 rfl rfl)
theorem dJ4_init_2_55 : decode cJ4_init_2 55 = .ok (.aload_n 0, 1) := dk_42 (dk_at dksJ4_init_2_2 8 rfl rfl)
theorem dJ4_init_2_56 : decode cJ4_init_2 56 = .ok (.aconst_null, 1) := dk_1 (dk_at dksJ4_init_2_2 9 rfl rfl)
theorem dJ4_init_2_57 : decode cJ4_init_2 57 = .ok (.putfield 24, 3) := dk_181 0 24 (dk_at dksJ4_init_2_2 10 rfl rfl)
theorem dJ4_init_2_60 : decode cJ4_init_2 60 = .ok (.return_, 1) := dk_177 (dk_at dksJ4_init_2_2 13 rfl rfl)
theorem q140 : (Jvm.Cond.initialized "java/lang/Throwable") ∈ lw_all := lw_g (lw_at lw_m1 12 rfl) rfl
theorem q519 : (Jvm.Cond.declares ({ cls := "java/lang/Throwable", name := "<init>", desc := "()V" } : Jvm.MethodName)) ∈ lw_tbl := lw_at lw_m2 151 rfl
theorem q520 : (Jvm.Cond.declares ({ cls := "java/lang/Throwable", name := "<init>", desc := "(Ljava/lang/String;)V" } : Jvm.MethodName)) ∈ lw_tbl := lw_at lw_m2 152 rfl
theorem q524 : (Jvm.Cond.lays "java/lang/Throwable" "java/lang/Throwable" "cause" "Ljava/lang/Throwable;") ∈ lw_all := lw_g (lw_at lw_m2 156 rfl) rfl
theorem q526 : (Jvm.Cond.lays "java/lang/Throwable" "java/lang/Throwable" "stackTrace" "[Ljava/lang/StackTraceElement;") ∈ lw_all := lw_g (lw_at lw_m2 158 rfl) rfl
theorem q528 : (Jvm.Cond.lays "java/lang/Throwable" "java/lang/Throwable" "suppressedExceptions" "Ljava/util/List;") ∈ lw_all := lw_g (lw_at lw_m2 160 rfl) rfl
theorem q530 : (Jvm.Cond.lays "java/lang/Throwable" "java/lang/Throwable" "detailMessage" "Ljava/lang/String;") ∈ lw_all := lw_g (lw_at lw_m2 162 rfl) rfl
theorem q532 : (Jvm.Cond.lays "java/lang/Throwable" "java/lang/Throwable" "backtrace" "Ljava/lang/Object;") ∈ lw_all := lw_g (lw_at lw_m2 164 rfl) rfl
theorem q533 : (Jvm.Cond.fieldLink "java/lang/Throwable" (198 : Nat) "java/lang/Throwable" "backtrace" "Ljava/lang/Object;") ∈ lw_all := lw_g (lw_at lw_m2 165 rfl) rfl
theorem q534 : (Jvm.Cond.superclass "java/lang/Throwable" "java/lang/Object") ∈ lw_all := lw_g (lw_at lw_m2 166 rfl) rfl
theorem q535 : (Jvm.Cond.instanceMethod ({ cls := "java/lang/Throwable", name := "<init>", desc := "()V" } : Jvm.MethodName)) ∈ lw_all := lw_g (lw_at lw_m2 167 rfl) rfl
theorem q536 : (Jvm.Cond.code ({ cls := "java/lang/Throwable", name := "<init>", desc := "()V" } : Jvm.MethodName) prog_42_method_1_code (1 : Nat) (Option.none : Option Jvm.ClassFile.FieldType)) ∈ lw_all := lw_g (lw_at lw_m2 168 rfl) rfl
theorem q537 : (Jvm.Cond.methodLink "java/lang/Throwable" (1 : Nat) ({ cls := "java/lang/Object", name := "<init>", desc := "()V" } : Jvm.MethodName)) ∈ lw_all := lw_g (lw_at lw_m2 169 rfl) rfl
theorem q538 : (Jvm.Cond.fieldLink "java/lang/Throwable" (13 : Nat) "java/lang/Throwable" "UNASSIGNED_STACK" "[Ljava/lang/StackTraceElement;") ∈ lw_all := lw_g (lw_at lw_m2 170 rfl) rfl
theorem q539 : (Jvm.Cond.laysStatic "java/lang/Throwable" "UNASSIGNED_STACK" "[Ljava/lang/StackTraceElement;") ∈ lw_tbl := lw_at lw_m2 171 rfl
theorem q540 : (Jvm.Cond.fieldLink "java/lang/Throwable" (20 : Nat) "java/lang/Throwable" "SUPPRESSED_SENTINEL" "Ljava/util/List;") ∈ lw_all := lw_g (lw_at lw_m2 172 rfl) rfl
theorem q541 : (Jvm.Cond.laysStatic "java/lang/Throwable" "SUPPRESSED_SENTINEL" "Ljava/util/List;") ∈ lw_tbl := lw_at lw_m2 173 rfl
theorem q542 : (Jvm.Cond.methodLink "java/lang/Throwable" (27 : Nat) ({ cls := "java/lang/Throwable", name := "fillInStackTrace", desc := "()Ljava/lang/Throwable;" } : Jvm.MethodName)) ∈ lw_all := lw_g (lw_at lw_m2 174 rfl) rfl
theorem q543 : (Jvm.Cond.instanceMethod ({ cls := "java/lang/Throwable", name := "fillInStackTrace", desc := "()Ljava/lang/Throwable;" } : Jvm.MethodName)) ∈ lw_all := lw_g (lw_at lw_m2 175 rfl) rfl
theorem q544 : (Jvm.Cond.sameMethod "java/lang/Throwable" "java/lang/Throwable" "fillInStackTrace" "()Ljava/lang/Throwable;") ∈ lw_all := lw_g (lw_at lw_m2 176 rfl) rfl
theorem q545 : (Jvm.Cond.codeSync ({ cls := "java/lang/Throwable", name := "fillInStackTrace", desc := "()Ljava/lang/Throwable;" } : Jvm.MethodName) prog_42_method_18_code (1 : Nat) (Option.some (Jvm.ClassFile.FieldType.object "java/lang/Throwable"))) ∈ lw_all := lw_g (lw_at lw_m2 177 rfl) rfl
theorem q546 : (Jvm.Cond.methodLink "java/lang/Throwable" (202 : Nat) ({ cls := "java/lang/Throwable", name := "fillInStackTrace", desc := "(I)Ljava/lang/Throwable;" } : Jvm.MethodName)) ∈ lw_all := lw_g (lw_at lw_m2 178 rfl) rfl
theorem q547 : (Jvm.Cond.privateMethod ({ cls := "java/lang/Throwable", name := "fillInStackTrace", desc := "(I)Ljava/lang/Throwable;" } : Jvm.MethodName)) ∈ lw_tbl := lw_at lw_m2 179 rfl
theorem q548 : (Jvm.Cond.instanceMethod ({ cls := "java/lang/Throwable", name := "fillInStackTrace", desc := "(I)Ljava/lang/Throwable;" } : Jvm.MethodName)) ∈ lw_all := lw_g (lw_at lw_m2 180 rfl) rfl
theorem q549 : (Jvm.Cond.instantiable "java/lang/Throwable" (6 : Nat)) ∈ lw_all := lw_g (lw_at lw_m2 181 rfl) rfl
theorem q550 : (Jvm.Cond.native ({ cls := "java/lang/Throwable", name := "fillInStackTrace", desc := "(I)Ljava/lang/Throwable;" } : Jvm.MethodName)) ∈ lw_all := lw_g (lw_at lw_m2 182 rfl) rfl
theorem q558 : (Jvm.Cond.instanceMethod ({ cls := "java/lang/Throwable", name := "<init>", desc := "(Ljava/lang/String;Ljava/lang/Throwable;ZZ)V" } : Jvm.MethodName)) ∈ lw_all := lw_g (lw_at lw_m2 190 rfl) rfl
theorem q559 : (Jvm.Cond.code ({ cls := "java/lang/Throwable", name := "<init>", desc := "(Ljava/lang/String;Ljava/lang/Throwable;ZZ)V" } : Jvm.MethodName) prog_42_method_5_code (5 : Nat) (Option.none : Option Jvm.ClassFile.FieldType)) ∈ lw_all := lw_g (lw_at lw_m2 191 rfl) rfl
theorem q562 : (Jvm.Cond.fieldLink "java/lang/Throwable" (198 : Nat) "java/lang/Throwable" "backtrace" "Ljava/lang/Object;") ∈ lw_all := lw_g (lw_at lw_m2 194 rfl) rfl
theorem q563 : (Jvm.Cond.fieldLink "java/lang/Throwable" (31 : Nat) "java/lang/Throwable" "detailMessage" "Ljava/lang/String;") ∈ lw_all := lw_g (lw_at lw_m2 195 rfl) rfl
theorem q564 : (Jvm.Cond.fieldLink "java/lang/Throwable" (7 : Nat) "java/lang/Throwable" "cause" "Ljava/lang/Throwable;") ∈ lw_all := lw_g (lw_at lw_m2 196 rfl) rfl
theorem q565 : (Jvm.Cond.fieldLink "java/lang/Throwable" (17 : Nat) "java/lang/Throwable" "stackTrace" "[Ljava/lang/StackTraceElement;") ∈ lw_all := lw_g (lw_at lw_m2 197 rfl) rfl
theorem q566 : (Jvm.Cond.fieldLink "java/lang/Throwable" (24 : Nat) "java/lang/Throwable" "suppressedExceptions" "Ljava/util/List;") ∈ lw_all := lw_g (lw_at lw_m2 198 rfl) rfl
theorem q569 : (Jvm.Cond.soleField "java/lang/Throwable" "backtrace") ∈ lw_all := lw_g (lw_at lw_m2 201 rfl) rfl
theorem q570 : (Jvm.Cond.soleField "java/lang/Throwable" "detailMessage") ∈ lw_all := lw_g (lw_at lw_m2 202 rfl) rfl
theorem q571 : (Jvm.Cond.soleField "java/lang/Throwable" "cause") ∈ lw_all := lw_g (lw_at lw_m2 203 rfl) rfl
theorem q572 : (Jvm.Cond.soleField "java/lang/Throwable" "stackTrace") ∈ lw_all := lw_g (lw_at lw_m2 204 rfl) rfl
theorem q574 : (Jvm.Cond.soleField "java/lang/Throwable" "depth") ∈ lw_all := lw_g (lw_at lw_m2 206 rfl) rfl
theorem q575 : (Jvm.Cond.soleField "java/lang/Throwable" "suppressedExceptions") ∈ lw_all := lw_g (lw_at lw_m2 207 rfl) rfl
theorem q2747 : (Jvm.Cond.sameMethod "java/lang/Throwable" "java/lang/Throwable" "fillInStackTrace" "(I)Ljava/lang/Throwable;") ∈ lw_all := lw_g (lw_at lw_m11 219 rfl) rfl
theorem q2799 : (Jvm.Cond.castable "java/lang/Throwable" "java/lang/Object") ∈ lw_tbl := lw_at lw_m12 31 rfl
theorem in_J4 : ∀ w ∈ wsJ40, w ∈ lw_all := lw_in wsJ40 [524, 526, 528, 530, 532] (by decide +kernel) (by decide +kernel)
/-! java/lang/Exception -/
set_option maxRecDepth 100000
def RJ5 : String := "java/lang/Exception"
abbrev cJ5_init : ByteArray := prog_30_method_5_code
def yJ5_init : MethodName := ⟨RJ5, "<init>", "(Ljava/lang/String;Ljava/lang/Throwable;ZZ)V"⟩
def dkwJ5_init_0 : List UInt8 := [42, 43, 44, 29, 21, 4, 183, 0, 16, 177]
abbrev dktJ5_init_0 : List UInt8 := dkwJ5_init_0 ++ []
theorem dksJ5_init_0 : cJ5_init.data.toList.drop 0 = dktJ5_init_0 := by decide +kernel
theorem dJ5_init_0 : decode cJ5_init 0 = .ok (.aload_n 0, 1) := dk_42 (dk_at dksJ5_init_0 0 rfl rfl)
theorem dJ5_init_1 : decode cJ5_init 1 = .ok (.aload_n 1, 1) := dk_43 (dk_at dksJ5_init_0 1 rfl rfl)
theorem dJ5_init_2 : decode cJ5_init 2 = .ok (.aload_n 2, 1) := dk_44 (dk_at dksJ5_init_0 2 rfl rfl)
theorem dJ5_init_3 : decode cJ5_init 3 = .ok (.iload_n 3, 1) := dk_29 (dk_at dksJ5_init_0 3 rfl rfl)
theorem dJ5_init_4 : decode cJ5_init 4 = .ok (.iload 4, 2) := dk_21 4 (dk_at dksJ5_init_0 4 rfl rfl)
theorem dJ5_init_6 : decode cJ5_init 6 = .ok (.invokespecial 16, 3) := dk_183 0 16 (dk_at dksJ5_init_0 6 rfl rfl)
theorem dJ5_init_9 : decode cJ5_init 9 = .ok (.return_, 1) := dk_177 (dk_at dksJ5_init_0 9 rfl rfl)
theorem q141 : (Jvm.Cond.initialized "java/lang/Exception") ∈ lw_all := lw_g (lw_at lw_m1 13 rfl) rfl
theorem q517 : (Jvm.Cond.declares ({ cls := "java/lang/Exception", name := "<init>", desc := "()V" } : Jvm.MethodName)) ∈ lw_tbl := lw_at lw_m2 149 rfl
theorem q518 : (Jvm.Cond.declares ({ cls := "java/lang/Exception", name := "<init>", desc := "(Ljava/lang/String;)V" } : Jvm.MethodName)) ∈ lw_tbl := lw_at lw_m2 150 rfl
theorem q555 : (Jvm.Cond.instanceMethod ({ cls := "java/lang/Exception", name := "<init>", desc := "(Ljava/lang/String;Ljava/lang/Throwable;ZZ)V" } : Jvm.MethodName)) ∈ lw_all := lw_g (lw_at lw_m2 187 rfl) rfl
theorem q556 : (Jvm.Cond.code ({ cls := "java/lang/Exception", name := "<init>", desc := "(Ljava/lang/String;Ljava/lang/Throwable;ZZ)V" } : Jvm.MethodName) prog_30_method_5_code (5 : Nat) (Option.none : Option Jvm.ClassFile.FieldType)) ∈ lw_all := lw_g (lw_at lw_m2 188 rfl) rfl
theorem q557 : (Jvm.Cond.methodLink "java/lang/Exception" (16 : Nat) ({ cls := "java/lang/Throwable", name := "<init>", desc := "(Ljava/lang/String;Ljava/lang/Throwable;ZZ)V" } : Jvm.MethodName)) ∈ lw_all := lw_g (lw_at lw_m2 189 rfl) rfl
/-! java/lang/Math -/
set_option maxRecDepth 100000
def RJ6 : String := "java/lang/Math"
abbrev cJ6_min : ByteArray := prog_34_method_69_code
def yJ6_min : MethodName := ⟨RJ6, "min", "(II)I"⟩
def dkwJ6_min_0 : List UInt8 := [26, 27, 163, 0, 7, 26, 167, 0, 4, 27, 172]
abbrev dktJ6_min_0 : List UInt8 := dkwJ6_min_0 ++ []
theorem dksJ6_min_0 : cJ6_min.data.toList.drop 0 = dktJ6_min_0 := by decide +kernel
theorem dJ6_min_0 : decode cJ6_min 0 = .ok (.iload_n 0, 1) := dk_26 (dk_at dksJ6_min_0 0 rfl rfl)
theorem dJ6_min_1 : decode cJ6_min 1 = .ok (.iload_n 1, 1) := dk_27 (dk_at dksJ6_min_0 1 rfl rfl)
theorem dJ6_min_2 : decode cJ6_min 2 = .ok (.if_icmp .gt 7, 3) := dk_163 0 7 (dk_at dksJ6_min_0 2 rfl rfl)
theorem dJ6_min_5 : decode cJ6_min 5 = .ok (.iload_n 0, 1) := dk_26 (dk_at dksJ6_min_0 5 rfl rfl)
theorem dJ6_min_6 : decode cJ6_min 6 = .ok (.goto 4, 3) := dk_167 0 4 (dk_at dksJ6_min_0 6 rfl rfl)
theorem dJ6_min_9 : decode cJ6_min 9 = .ok (.iload_n 1, 1) := dk_27 (dk_at dksJ6_min_0 9 rfl rfl)
theorem dJ6_min_10 : decode cJ6_min 10 = .ok (.ireturn, 1) := dk_172 (dk_at dksJ6_min_0 10 rfl rfl)
abbrev cJ6_max : ByteArray := prog_34_method_65_code
def yJ6_max : MethodName := ⟨RJ6, "max", "(II)I"⟩
def dkwJ6_max_0 : List UInt8 := [26, 27, 161, 0, 7, 26, 167, 0, 4, 27, 172]
abbrev dktJ6_max_0 : List UInt8 := dkwJ6_max_0 ++ []
theorem dksJ6_max_0 : cJ6_max.data.toList.drop 0 = dktJ6_max_0 := by decide +kernel
theorem dJ6_max_0 : decode cJ6_max 0 = .ok (.iload_n 0, 1) := dk_26 (dk_at dksJ6_max_0 0 rfl rfl)
theorem dJ6_max_1 : decode cJ6_max 1 = .ok (.iload_n 1, 1) := dk_27 (dk_at dksJ6_max_0 1 rfl rfl)
theorem dJ6_max_2 : decode cJ6_max 2 = .ok (.if_icmp .lt 7, 3) := dk_161 0 7 (dk_at dksJ6_max_0 2 rfl rfl)
theorem dJ6_max_5 : decode cJ6_max 5 = .ok (.iload_n 0, 1) := dk_26 (dk_at dksJ6_max_0 5 rfl rfl)
theorem dJ6_max_6 : decode cJ6_max 6 = .ok (.goto 4, 3) := dk_167 0 4 (dk_at dksJ6_max_0 6 rfl rfl)
theorem dJ6_max_9 : decode cJ6_max 9 = .ok (.iload_n 1, 1) := dk_27 (dk_at dksJ6_max_0 9 rfl rfl)
theorem dJ6_max_10 : decode cJ6_max 10 = .ok (.ireturn, 1) := dk_172 (dk_at dksJ6_max_0 10 rfl rfl)
theorem q143 : (Jvm.Cond.initialized "java/lang/Math") ∈ lw_all := lw_g (lw_at lw_m1 15 rfl) rfl
theorem q593 : (Jvm.Cond.static ({ cls := "java/lang/Math", name := "min", desc := "(II)I" } : Jvm.MethodName)) ∈ lw_all := lw_g (lw_at lw_m2 225 rfl) rfl
theorem q594 : (Jvm.Cond.code ({ cls := "java/lang/Math", name := "min", desc := "(II)I" } : Jvm.MethodName) prog_34_method_69_code (2 : Nat) (Option.some Jvm.ClassFile.FieldType.int)) ∈ lw_all := lw_g (lw_at lw_m2 226 rfl) rfl
theorem q683 : (Jvm.Cond.static ({ cls := "java/lang/Math", name := "max", desc := "(II)I" } : Jvm.MethodName)) ∈ lw_all := lw_g (lw_at lw_m3 75 rfl) rfl
theorem q684 : (Jvm.Cond.code ({ cls := "java/lang/Math", name := "max", desc := "(II)I" } : Jvm.MethodName) prog_34_method_65_code (2 : Nat) (Option.some Jvm.ClassFile.FieldType.int)) ∈ lw_all := lw_g (lw_at lw_m3 76 rfl) rfl
/-! java/util/Objects -/
set_option maxRecDepth 100000
def RJ7 : String := "java/util/Objects"
abbrev cJ7_checkIndex : ByteArray := prog_58_method_17_code
def yJ7_checkIndex : MethodName := ⟨RJ7, "checkIndex", "(II)I"⟩
def dkwJ7_checkIndex_0 : List UInt8 := [26, 27, 1, 184, 0, 105, 172]
abbrev dktJ7_checkIndex_0 : List UInt8 := dkwJ7_checkIndex_0 ++ []
theorem dksJ7_checkIndex_0 : cJ7_checkIndex.data.toList.drop 0 = dktJ7_checkIndex_0 := by decide +kernel
theorem dJ7_checkIndex_0 : decode cJ7_checkIndex 0 = .ok (.iload_n 0, 1) := dk_26 (dk_at dksJ7_checkIndex_0 0 rfl rfl)
theorem dJ7_checkIndex_1 : decode cJ7_checkIndex 1 = .ok (.iload_n 1, 1) := dk_27 (dk_at dksJ7_checkIndex_0 1 rfl rfl)
theorem dJ7_checkIndex_2 : decode cJ7_checkIndex 2 = .ok (.aconst_null, 1) := dk_1 (dk_at dksJ7_checkIndex_0 2 rfl rfl)
theorem dJ7_checkIndex_3 : decode cJ7_checkIndex 3 = .ok (.invokestatic 105, 3) := dk_184 0 105 (dk_at dksJ7_checkIndex_0 3 rfl rfl)
theorem dJ7_checkIndex_6 : decode cJ7_checkIndex 6 = .ok (.ireturn, 1) := dk_172 (dk_at dksJ7_checkIndex_0 6 rfl rfl)
abbrev cJ7_requireNonNull : ByteArray := prog_58_method_10_code
def yJ7_requireNonNull : MethodName := ⟨RJ7, "requireNonNull", "(Ljava/lang/Object;)Ljava/lang/Object;"⟩
def dkwJ7_requireNonNull_0 : List UInt8 := [42, 199, 0, 11, 187, 0, 84, 89, 183, 0, 86, 191, 42, 176]
abbrev dktJ7_requireNonNull_0 : List UInt8 := dkwJ7_requireNonNull_0 ++ []
theorem dksJ7_requireNonNull_0 : cJ7_requireNonNull.data.toList.drop 0 = dktJ7_requireNonNull_0 := by decide +kernel
theorem dJ7_requireNonNull_0 : decode cJ7_requireNonNull 0 = .ok (.aload_n 0, 1) := dk_42 (dk_at dksJ7_requireNonNull_0 0 rfl rfl)
theorem dJ7_requireNonNull_1 : decode cJ7_requireNonNull 1 = .ok (.ifnonnull 11, 3) := dk_199 0 11 (dk_at dksJ7_requireNonNull_0 1 rfl rfl)
theorem dJ7_requireNonNull_4 : decode cJ7_requireNonNull 4 = .ok (.new 84, 3) := dk_187 0 84 (dk_at dksJ7_requireNonNull_0 4 rfl rfl)
theorem dJ7_requireNonNull_7 : decode cJ7_requireNonNull 7 = .ok (.dup, 1) := dk_89 (dk_at dksJ7_requireNonNull_0 7 rfl rfl)
theorem dJ7_requireNonNull_8 : decode cJ7_requireNonNull 8 = .ok (.invokespecial 86, 3) := dk_183 0 86 (dk_at dksJ7_requireNonNull_0 8 rfl rfl)
theorem dJ7_requireNonNull_11 : decode cJ7_requireNonNull 11 = .ok (.athrow, 1) := dk_191 (dk_at dksJ7_requireNonNull_0 11 rfl rfl)
theorem dJ7_requireNonNull_12 : decode cJ7_requireNonNull 12 = .ok (.aload_n 0, 1) := dk_42 (dk_at dksJ7_requireNonNull_0 12 rfl rfl)
theorem dJ7_requireNonNull_13 : decode cJ7_requireNonNull 13 = .ok (.areturn, 1) := dk_176 (dk_at dksJ7_requireNonNull_0 13 rfl rfl)
theorem q144 : (Jvm.Cond.initialized "java/util/Objects") ∈ lw_all := lw_g (lw_at lw_m1 16 rfl) rfl
theorem q405 : (Jvm.Cond.static ({ cls := "java/util/Objects", name := "checkIndex", desc := "(II)I" } : Jvm.MethodName)) ∈ lw_all := lw_g (lw_at lw_m2 37 rfl) rfl
theorem q406 : (Jvm.Cond.code ({ cls := "java/util/Objects", name := "checkIndex", desc := "(II)I" } : Jvm.MethodName) prog_58_method_17_code (2 : Nat) (Option.some Jvm.ClassFile.FieldType.int)) ∈ lw_all := lw_g (lw_at lw_m2 38 rfl) rfl
theorem q407 : (Jvm.Cond.methodLink "java/util/Objects" (105 : Nat) ({ cls := "jdk/internal/util/Preconditions", name := "checkIndex", desc := "(IILjava/util/function/BiFunction;)I" } : Jvm.MethodName)) ∈ lw_all := lw_g (lw_at lw_m2 39 rfl) rfl
theorem q1449 : (Jvm.Cond.static ({ cls := "java/util/Objects", name := "requireNonNull", desc := "(Ljava/lang/Object;)Ljava/lang/Object;" } : Jvm.MethodName)) ∈ lw_all := lw_g (lw_at lw_m6 121 rfl) rfl
theorem q1450 : (Jvm.Cond.code ({ cls := "java/util/Objects", name := "requireNonNull", desc := "(Ljava/lang/Object;)Ljava/lang/Object;" } : Jvm.MethodName) prog_58_method_10_code (1 : Nat) (Option.some (Jvm.ClassFile.FieldType.object "java/lang/Object"))) ∈ lw_all := lw_g (lw_at lw_m6 122 rfl) rfl
/-! jdk/internal/util/Preconditions -/
set_option maxRecDepth 100000
def RJ8 : String := "jdk/internal/util/Preconditions"
abbrev cJ8_checkIndex : ByteArray := prog_71_method_11_code
def yJ8_checkIndex : MethodName := ⟨RJ8, "checkIndex", "(IILjava/util/function/BiFunction;)I"⟩
def dkwJ8_checkIndex_0 : List UInt8 := [26, 155, 0, 8, 26, 27, 161, 0, 10, 44, 26, 27, 184, 0, 95, 191, 26, 172]
abbrev dktJ8_checkIndex_0 : List UInt8 := dkwJ8_checkIndex_0 ++ []
theorem dksJ8_checkIndex_0 : cJ8_checkIndex.data.toList.drop 0 = dktJ8_checkIndex_0 := by decide +kernel
theorem dJ8_checkIndex_0 : decode cJ8_checkIndex 0 = .ok (.iload_n 0, 1) := dk_26 (dk_at dksJ8_checkIndex_0 0 rfl rfl)
theorem dJ8_checkIndex_1 : decode cJ8_checkIndex 1 = .ok (.ifCond .lt 8, 3) := dk_155 0 8 (dk_at dksJ8_checkIndex_0 1 rfl rfl)
theorem dJ8_checkIndex_4 : decode cJ8_checkIndex 4 = .ok (.iload_n 0, 1) := dk_26 (dk_at dksJ8_checkIndex_0 4 rfl rfl)
theorem dJ8_checkIndex_5 : decode cJ8_checkIndex 5 = .ok (.iload_n 1, 1) := dk_27 (dk_at dksJ8_checkIndex_0 5 rfl rfl)
theorem dJ8_checkIndex_6 : decode cJ8_checkIndex 6 = .ok (.if_icmp .lt 10, 3) := dk_161 0 10 (dk_at dksJ8_checkIndex_0 6 rfl rfl)
theorem dJ8_checkIndex_9 : decode cJ8_checkIndex 9 = .ok (.aload_n 2, 1) := dk_44 (dk_at dksJ8_checkIndex_0 9 rfl rfl)
theorem dJ8_checkIndex_10 : decode cJ8_checkIndex 10 = .ok (.iload_n 0, 1) := dk_26 (dk_at dksJ8_checkIndex_0 10 rfl rfl)
theorem dJ8_checkIndex_11 : decode cJ8_checkIndex 11 = .ok (.iload_n 1, 1) := dk_27 (dk_at dksJ8_checkIndex_0 11 rfl rfl)
theorem dJ8_checkIndex_12 : decode cJ8_checkIndex 12 = .ok (.invokestatic 95, 3) := dk_184 0 95 (dk_at dksJ8_checkIndex_0 12 rfl rfl)
theorem dJ8_checkIndex_15 : decode cJ8_checkIndex 15 = .ok (.athrow, 1) := dk_191 (dk_at dksJ8_checkIndex_0 15 rfl rfl)
theorem dJ8_checkIndex_16 : decode cJ8_checkIndex 16 = .ok (.iload_n 0, 1) := dk_26 (dk_at dksJ8_checkIndex_0 16 rfl rfl)
theorem dJ8_checkIndex_17 : decode cJ8_checkIndex 17 = .ok (.ireturn, 1) := dk_172 (dk_at dksJ8_checkIndex_0 17 rfl rfl)
abbrev cJ8_checkFromIndexSize : ByteArray := prog_71_method_13_code
def yJ8_checkFromIndexSize : MethodName := ⟨RJ8, "checkFromIndexSize", "(IIILjava/util/function/BiFunction;)I"⟩
def dkwJ8_checkFromIndexSize_1 : List UInt8 := [172]
abbrev dktJ8_checkFromIndexSize_1 : List UInt8 := dkwJ8_checkFromIndexSize_1 ++ []
def dkwJ8_checkFromIndexSize_0 : List UInt8 := [28, 26, 128, 27, 128, 155, 0, 10, 27, 28, 26, 100, 164, 0, 11, 45, 26, 27, 28, 184, 0, 103, 191, 26]
abbrev dktJ8_checkFromIndexSize_0 : List UInt8 := dkwJ8_checkFromIndexSize_0 ++ dktJ8_checkFromIndexSize_1
theorem dksJ8_checkFromIndexSize_0 : cJ8_checkFromIndexSize.data.toList.drop 0 = dktJ8_checkFromIndexSize_0 := by decide +kernel
theorem dksJ8_checkFromIndexSize_1 : cJ8_checkFromIndexSize.data.toList.drop 24 = dktJ8_checkFromIndexSize_1 := dk_seg dksJ8_checkFromIndexSize_0 24 rfl rfl
theorem dJ8_checkFromIndexSize_0 : decode cJ8_checkFromIndexSize 0 = .ok (.iload_n 2, 1) := dk_28 (dk_at dksJ8_checkFromIndexSize_0 0 rfl rfl)
theorem dJ8_checkFromIndexSize_1 : decode cJ8_checkFromIndexSize 1 = .ok (.iload_n 0, 1) := dk_26 (dk_at dksJ8_checkFromIndexSize_0 1 rfl rfl)
theorem dJ8_checkFromIndexSize_2 : decode cJ8_checkFromIndexSize 2 = .ok (.ior, 1) := dk_128 (dk_at dksJ8_checkFromIndexSize_0 2 rfl rfl)
theorem dJ8_checkFromIndexSize_3 : decode cJ8_checkFromIndexSize 3 = .ok (.iload_n 1, 1) := dk_27 (dk_at dksJ8_checkFromIndexSize_0 3 rfl rfl)
theorem dJ8_checkFromIndexSize_4 : decode cJ8_checkFromIndexSize 4 = .ok (.ior, 1) := dk_128 (dk_at dksJ8_checkFromIndexSize_0 4 rfl rfl)
theorem dJ8_checkFromIndexSize_5 : decode cJ8_checkFromIndexSize 5 = .ok (.ifCond .lt 10, 3) := dk_155 0 10 (dk_at dksJ8_checkFromIndexSize_0 5 rfl rfl)
theorem dJ8_checkFromIndexSize_8 : decode cJ8_checkFromIndexSize 8 = .ok (.iload_n 1, 1) := dk_27 (dk_at dksJ8_checkFromIndexSize_0 8 rfl rfl)
theorem dJ8_checkFromIndexSize_9 : decode cJ8_checkFromIndexSize 9 = .ok (.iload_n 2, 1) := dk_28 (dk_at dksJ8_checkFromIndexSize_0 9 rfl rfl)
theorem dJ8_checkFromIndexSize_10 : decode cJ8_checkFromIndexSize 10 = .ok (.iload_n 0, 1) := dk_26 (dk_at dksJ8_checkFromIndexSize_0 10 rfl rfl)
theorem dJ8_checkFromIndexSize_11 : decode cJ8_checkFromIndexSize 11 = .ok (.isub, 1) := dk_100 (dk_at dksJ8_checkFromIndexSize_0 11 rfl rfl)
theorem dJ8_checkFromIndexSize_12 : decode cJ8_checkFromIndexSize 12 = .ok (.if_icmp .le 11, 3) := dk_164 0 11 (dk_at dksJ8_checkFromIndexSize_0 12 rfl rfl)
theorem dJ8_checkFromIndexSize_15 : decode cJ8_checkFromIndexSize 15 = .ok (.aload_n 3, 1) := dk_45 (dk_at dksJ8_checkFromIndexSize_0 15 rfl rfl)
theorem dJ8_checkFromIndexSize_16 : decode cJ8_checkFromIndexSize 16 = .ok (.iload_n 0, 1) := dk_26 (dk_at dksJ8_checkFromIndexSize_0 16 rfl rfl)
theorem dJ8_checkFromIndexSize_17 : decode cJ8_checkFromIndexSize 17 = .ok (.iload_n 1, 1) := dk_27 (dk_at dksJ8_checkFromIndexSize_0 17 rfl rfl)
theorem dJ8_checkFromIndexSize_18 : decode cJ8_checkFromIndexSize 18 = .ok (.iload_n 2, 1) := dk_28 (dk_at dksJ8_checkFromIndexSize_0 18 rfl rfl)
theorem dJ8_checkFromIndexSize_19 : decode cJ8_checkFromIndexSize 19 = .ok (.invokestatic 103, 3) := dk_184 0 103 (dk_at dksJ8_checkFromIndexSize_0 19 rfl rfl)
theorem dJ8_checkFromIndexSize_22 : decode cJ8_checkFromIndexSize 22 = .ok (.athrow, 1) := dk_191 (dk_at dksJ8_checkFromIndexSize_0 22 rfl rfl)
theorem dJ8_checkFromIndexSize_23 : decode cJ8_checkFromIndexSize 23 = .ok (.iload_n 0, 1) := dk_26 (dk_at dksJ8_checkFromIndexSize_0 23 rfl rfl)
theorem dJ8_checkFromIndexSize_24 : decode cJ8_checkFromIndexSize 24 = .ok (.ireturn, 1) := dk_172 (dk_at dksJ8_checkFromIndexSize_1 0 rfl rfl)
abbrev cJ8_checkFromToIndex : ByteArray := prog_71_method_12_code
def yJ8_checkFromToIndex : MethodName := ⟨RJ8, "checkFromToIndex", "(IIILjava/util/function/BiFunction;)I"⟩
def dkwJ8_checkFromToIndex_0 : List UInt8 := [26, 155, 0, 13, 26, 27, 163, 0, 8, 27, 28, 164, 0, 11, 45, 26, 27, 28, 184, 0, 99, 191, 26, 172]
abbrev dktJ8_checkFromToIndex_0 : List UInt8 := dkwJ8_checkFromToIndex_0 ++ []
theorem dksJ8_checkFromToIndex_0 : cJ8_checkFromToIndex.data.toList.drop 0 = dktJ8_checkFromToIndex_0 := by decide +kernel
theorem dJ8_checkFromToIndex_0 : decode cJ8_checkFromToIndex 0 = .ok (.iload_n 0, 1) := dk_26 (dk_at dksJ8_checkFromToIndex_0 0 rfl rfl)
theorem dJ8_checkFromToIndex_1 : decode cJ8_checkFromToIndex 1 = .ok (.ifCond .lt 13, 3) := dk_155 0 13 (dk_at dksJ8_checkFromToIndex_0 1 rfl rfl)
theorem dJ8_checkFromToIndex_4 : decode cJ8_checkFromToIndex 4 = .ok (.iload_n 0, 1) := dk_26 (dk_at dksJ8_checkFromToIndex_0 4 rfl rfl)
theorem dJ8_checkFromToIndex_5 : decode cJ8_checkFromToIndex 5 = .ok (.iload_n 1, 1) := dk_27 (dk_at dksJ8_checkFromToIndex_0 5 rfl rfl)
theorem dJ8_checkFromToIndex_6 : decode cJ8_checkFromToIndex 6 = .ok (.if_icmp .gt 8, 3) := dk_163 0 8 (dk_at dksJ8_checkFromToIndex_0 6 rfl rfl)
theorem dJ8_checkFromToIndex_9 : decode cJ8_checkFromToIndex 9 = .ok (.iload_n 1, 1) := dk_27 (dk_at dksJ8_checkFromToIndex_0 9 rfl rfl)
theorem dJ8_checkFromToIndex_10 : decode cJ8_checkFromToIndex 10 = .ok (.iload_n 2, 1) := dk_28 (dk_at dksJ8_checkFromToIndex_0 10 rfl rfl)
theorem dJ8_checkFromToIndex_11 : decode cJ8_checkFromToIndex 11 = .ok (.if_icmp .le 11, 3) := dk_164 0 11 (dk_at dksJ8_checkFromToIndex_0 11 rfl rfl)
theorem dJ8_checkFromToIndex_14 : decode cJ8_checkFromToIndex 14 = .ok (.aload_n 3, 1) := dk_45 (dk_at dksJ8_checkFromToIndex_0 14 rfl rfl)
theorem dJ8_checkFromToIndex_15 : decode cJ8_checkFromToIndex 15 = .ok (.iload_n 0, 1) := dk_26 (dk_at dksJ8_checkFromToIndex_0 15 rfl rfl)
theorem dJ8_checkFromToIndex_16 : decode cJ8_checkFromToIndex 16 = .ok (.iload_n 1, 1) := dk_27 (dk_at dksJ8_checkFromToIndex_0 16 rfl rfl)
theorem dJ8_checkFromToIndex_17 : decode cJ8_checkFromToIndex 17 = .ok (.iload_n 2, 1) := dk_28 (dk_at dksJ8_checkFromToIndex_0 17 rfl rfl)
theorem dJ8_checkFromToIndex_18 : decode cJ8_checkFromToIndex 18 = .ok (.invokestatic 99, 3) := dk_184 0 99 (dk_at dksJ8_checkFromToIndex_0 18 rfl rfl)
theorem dJ8_checkFromToIndex_21 : decode cJ8_checkFromToIndex 21 = .ok (.athrow, 1) := dk_191 (dk_at dksJ8_checkFromToIndex_0 21 rfl rfl)
theorem dJ8_checkFromToIndex_22 : decode cJ8_checkFromToIndex 22 = .ok (.iload_n 0, 1) := dk_26 (dk_at dksJ8_checkFromToIndex_0 22 rfl rfl)
theorem dJ8_checkFromToIndex_23 : decode cJ8_checkFromToIndex 23 = .ok (.ireturn, 1) := dk_172 (dk_at dksJ8_checkFromToIndex_0 23 rfl rfl)
theorem q145 : (Jvm.Cond.initialized "jdk/internal/util/Preconditions") ∈ lw_all := lw_g (lw_at lw_m1 17 rfl) rfl
theorem q408 : (Jvm.Cond.static ({ cls := "jdk/internal/util/Preconditions", name := "checkIndex", desc := "(IILjava/util/function/BiFunction;)I" } : Jvm.MethodName)) ∈ lw_all := lw_g (lw_at lw_m2 40 rfl) rfl
theorem q409 : (Jvm.Cond.code ({ cls := "jdk/internal/util/Preconditions", name := "checkIndex", desc := "(IILjava/util/function/BiFunction;)I" } : Jvm.MethodName) prog_71_method_11_code (3 : Nat) (Option.some Jvm.ClassFile.FieldType.int)) ∈ lw_all := lw_g (lw_at lw_m2 41 rfl) rfl
theorem q1068 : (Jvm.Cond.laysStatic "jdk/internal/util/Preconditions" "SIOOBE_FORMATTER" "Ljava/util/function/BiFunction;") ∈ lw_tbl := lw_at lw_m4 220 rfl
theorem q1070 : (Jvm.Cond.static ({ cls := "jdk/internal/util/Preconditions", name := "checkFromIndexSize", desc := "(IIILjava/util/function/BiFunction;)I" } : Jvm.MethodName)) ∈ lw_all := lw_g (lw_at lw_m4 222 rfl) rfl
theorem q1071 : (Jvm.Cond.code ({ cls := "jdk/internal/util/Preconditions", name := "checkFromIndexSize", desc := "(IIILjava/util/function/BiFunction;)I" } : Jvm.MethodName) prog_71_method_13_code (4 : Nat) (Option.some Jvm.ClassFile.FieldType.int)) ∈ lw_all := lw_g (lw_at lw_m4 223 rfl) rfl
theorem q1404 : (Jvm.Cond.static ({ cls := "jdk/internal/util/Preconditions", name := "checkFromToIndex", desc := "(IIILjava/util/function/BiFunction;)I" } : Jvm.MethodName)) ∈ lw_all := lw_g (lw_at lw_m6 76 rfl) rfl
theorem q1405 : (Jvm.Cond.code ({ cls := "jdk/internal/util/Preconditions", name := "checkFromToIndex", desc := "(IIILjava/util/function/BiFunction;)I" } : Jvm.MethodName) prog_71_method_12_code (4 : Nat) (Option.some Jvm.ClassFile.FieldType.int)) ∈ lw_all := lw_g (lw_at lw_m6 77 rfl) rfl
/-! jdk/internal/util/ArraysSupport -/
set_option maxRecDepth 100000
def RJ9 : String := "jdk/internal/util/ArraysSupport"
abbrev cJ9_newLength : ByteArray := prog_70_method_27_code
def yJ9_newLength : MethodName := ⟨RJ9, "newLength", "(III)I"⟩
def dkwJ9_newLength_1 : List UInt8 := [184, 0, 201, 172]
abbrev dktJ9_newLength_1 : List UInt8 := dkwJ9_newLength_1 ++ []
def dkwJ9_newLength_0 : List UInt8 := [26, 27, 28, 184, 0, 194, 96, 62, 3, 29, 162, 0, 11, 29, 18, 200, 163, 0, 5, 29, 172, 26, 27]
abbrev dktJ9_newLength_0 : List UInt8 := dkwJ9_newLength_0 ++ dktJ9_newLength_1
theorem dksJ9_newLength_0 : cJ9_newLength.data.toList.drop 0 = dktJ9_newLength_0 := by decide +kernel
theorem dksJ9_newLength_1 : cJ9_newLength.data.toList.drop 23 = dktJ9_newLength_1 := dk_seg dksJ9_newLength_0 23 rfl rfl
theorem dJ9_newLength_0 : decode cJ9_newLength 0 = .ok (.iload_n 0, 1) := dk_26 (dk_at dksJ9_newLength_0 0 rfl rfl)
theorem dJ9_newLength_1 : decode cJ9_newLength 1 = .ok (.iload_n 1, 1) := dk_27 (dk_at dksJ9_newLength_0 1 rfl rfl)
theorem dJ9_newLength_2 : decode cJ9_newLength 2 = .ok (.iload_n 2, 1) := dk_28 (dk_at dksJ9_newLength_0 2 rfl rfl)
theorem dJ9_newLength_3 : decode cJ9_newLength 3 = .ok (.invokestatic 194, 3) := dk_184 0 194 (dk_at dksJ9_newLength_0 3 rfl rfl)
theorem dJ9_newLength_6 : decode cJ9_newLength 6 = .ok (.iadd, 1) := dk_96 (dk_at dksJ9_newLength_0 6 rfl rfl)
theorem dJ9_newLength_7 : decode cJ9_newLength 7 = .ok (.istore_n 3, 1) := dk_62 (dk_at dksJ9_newLength_0 7 rfl rfl)
theorem dJ9_newLength_8 : decode cJ9_newLength 8 = .ok (.iconst 0, 1) := dk_3 (dk_at dksJ9_newLength_0 8 rfl rfl)
theorem dJ9_newLength_9 : decode cJ9_newLength 9 = .ok (.iload_n 3, 1) := dk_29 (dk_at dksJ9_newLength_0 9 rfl rfl)
theorem dJ9_newLength_10 : decode cJ9_newLength 10 = .ok (.if_icmp .ge 11, 3) := dk_162 0 11 (dk_at dksJ9_newLength_0 10 rfl rfl)
theorem dJ9_newLength_13 : decode cJ9_newLength 13 = .ok (.iload_n 3, 1) := dk_29 (dk_at dksJ9_newLength_0 13 rfl rfl)
theorem dJ9_newLength_14 : decode cJ9_newLength 14 = .ok (.ldc 200, 2) := dk_18 200 (dk_at dksJ9_newLength_0 14 rfl rfl)
theorem dJ9_newLength_16 : decode cJ9_newLength 16 = .ok (.if_icmp .gt 5, 3) := dk_163 0 5 (dk_at dksJ9_newLength_0 16 rfl rfl)
theorem dJ9_newLength_19 : decode cJ9_newLength 19 = .ok (.iload_n 3, 1) := dk_29 (dk_at dksJ9_newLength_0 19 rfl rfl)
theorem dJ9_newLength_20 : decode cJ9_newLength 20 = .ok (.ireturn, 1) := dk_172 (dk_at dksJ9_newLength_0 20 rfl rfl)
theorem dJ9_newLength_21 : decode cJ9_newLength 21 = .ok (.iload_n 0, 1) := dk_26 (dk_at dksJ9_newLength_0 21 rfl rfl)
theorem dJ9_newLength_22 : decode cJ9_newLength 22 = .ok (.iload_n 1, 1) := dk_27 (dk_at dksJ9_newLength_0 22 rfl rfl)
theorem dJ9_newLength_23 : decode cJ9_newLength 23 = .ok (.invokestatic 201, 3) := dk_184 0 201 (dk_at dksJ9_newLength_1 0 rfl rfl)
theorem dJ9_newLength_26 : decode cJ9_newLength 26 = .ok (.ireturn, 1) := dk_172 (dk_at dksJ9_newLength_1 3 rfl rfl)
abbrev cJ9_hugeLength : ByteArray := prog_70_method_28_code
def yJ9_hugeLength : MethodName := ⟨RJ9, "hugeLength", "(II)I"⟩
def dkwJ9_hugeLength_2 : List UInt8 := [191, 28, 18, 200, 163, 0, 6, 18, 200, 172, 28, 172]
abbrev dktJ9_hugeLength_2 : List UInt8 := dkwJ9_hugeLength_2 ++ []
def dkwJ9_hugeLength_1 : List UInt8 := [26, 182, 0, 98, 18, 208, 182, 0, 94, 27, 182, 0, 98, 18, 210, 182, 0, 94, 182, 0, 101, 183, 0, 212]
abbrev dktJ9_hugeLength_1 : List UInt8 := dkwJ9_hugeLength_1 ++ dktJ9_hugeLength_2
def dkwJ9_hugeLength_0 : List UInt8 := [26, 27, 96, 61, 28, 156, 0, 44, 187, 0, 204, 89, 187, 0, 89, 89, 183, 0, 91, 18, 206, 182, 0, 94]
abbrev dktJ9_hugeLength_0 : List UInt8 := dkwJ9_hugeLength_0 ++ dktJ9_hugeLength_1
theorem dksJ9_hugeLength_0 : cJ9_hugeLength.data.toList.drop 0 = dktJ9_hugeLength_0 := by decide +kernel
theorem dksJ9_hugeLength_1 : cJ9_hugeLength.data.toList.drop 24 = dktJ9_hugeLength_1 := dk_seg dksJ9_hugeLength_0 24 rfl rfl
theorem dksJ9_hugeLength_2 : cJ9_hugeLength.data.toList.drop 48 = dktJ9_hugeLength_2 := dk_seg dksJ9_hugeLength_1 24 rfl rfl
theorem dJ9_hugeLength_0 : decode cJ9_hugeLength 0 = .ok (.iload_n 0, 1) := dk_26 (dk_at dksJ9_hugeLength_0 0 rfl rfl)
theorem dJ9_hugeLength_1 : decode cJ9_hugeLength 1 = .ok (.iload_n 1, 1) := dk_27 (dk_at dksJ9_hugeLength_0 1 rfl rfl)
theorem dJ9_hugeLength_2 : decode cJ9_hugeLength 2 = .ok (.iadd, 1) := dk_96 (dk_at dksJ9_hugeLength_0 2 rfl rfl)
theorem dJ9_hugeLength_3 : decode cJ9_hugeLength 3 = .ok (.istore_n 2, 1) := dk_61 (dk_at dksJ9_hugeLength_0 3 rfl rfl)
theorem dJ9_hugeLength_4 : decode cJ9_hugeLength 4 = .ok (.iload_n 2, 1) := dk_28 (dk_at dksJ9_hugeLength_0 4 rfl rfl)
theorem dJ9_hugeLength_5 : decode cJ9_hugeLength 5 = .ok (.ifCond .ge 44, 3) := dk_156 0 44 (dk_at dksJ9_hugeLength_0 5 rfl rfl)
theorem dJ9_hugeLength_8 : decode cJ9_hugeLength 8 = .ok (.new 204, 3) := dk_187 0 204 (dk_at dksJ9_hugeLength_0 8 rfl rfl)
theorem dJ9_hugeLength_11 : decode cJ9_hugeLength 11 = .ok (.dup, 1) := dk_89 (dk_at dksJ9_hugeLength_0 11 rfl rfl)
theorem dJ9_hugeLength_12 : decode cJ9_hugeLength 12 = .ok (.new 89, 3) := dk_187 0 89 (dk_at dksJ9_hugeLength_0 12 rfl rfl)
theorem dJ9_hugeLength_15 : decode cJ9_hugeLength 15 = .ok (.dup, 1) := dk_89 (dk_at dksJ9_hugeLength_0 15 rfl rfl)
theorem dJ9_hugeLength_16 : decode cJ9_hugeLength 16 = .ok (.invokespecial 91, 3) := dk_183 0 91 (dk_at dksJ9_hugeLength_0 16 rfl rfl)
theorem dJ9_hugeLength_19 : decode cJ9_hugeLength 19 = .ok (.ldc 206, 2) := dk_18 206 (dk_at dksJ9_hugeLength_0 19 rfl rfl)
theorem dJ9_hugeLength_21 : decode cJ9_hugeLength 21 = .ok (.invokevirtual 94, 3) := dk_182 0 94 (dk_at dksJ9_hugeLength_0 21 rfl rfl)
theorem dJ9_hugeLength_24 : decode cJ9_hugeLength 24 = .ok (.iload_n 0, 1) := dk_26 (dk_at dksJ9_hugeLength_1 0 rfl rfl)
theorem dJ9_hugeLength_25 : decode cJ9_hugeLength 25 = .ok (.invokevirtual 98, 3) := dk_182 0 98 (dk_at dksJ9_hugeLength_1 1 rfl rfl)
theorem dJ9_hugeLength_28 : decode cJ9_hugeLength 28 = .ok (.ldc 208, 2) := dk_18 208 (dk_at dksJ9_hugeLength_1 4 rfl rfl)
theorem dJ9_hugeLength_30 : decode cJ9_hugeLength 30 = .ok (.invokevirtual 94, 3) := dk_182 0 94 (dk_at dksJ9_hugeLength_1 6 rfl rfl)
theorem dJ9_hugeLength_33 : decode cJ9_hugeLength 33 = .ok (.iload_n 1, 1) := dk_27 (dk_at dksJ9_hugeLength_1 9 rfl rfl)
theorem dJ9_hugeLength_34 : decode cJ9_hugeLength 34 = .ok (.invokevirtual 98, 3) := dk_182 0 98 (dk_at dksJ9_hugeLength_1 10 rfl rfl)
theorem dJ9_hugeLength_37 : decode cJ9_hugeLength 37 = .ok (.ldc 210, 2) := dk_18 210 (dk_at dksJ9_hugeLength_1 13 rfl rfl)
theorem dJ9_hugeLength_39 : decode cJ9_hugeLength 39 = .ok (.invokevirtual 94, 3) := dk_182 0 94 (dk_at dksJ9_hugeLength_1 15 rfl rfl)
theorem dJ9_hugeLength_42 : decode cJ9_hugeLength 42 = .ok (.invokevirtual 101, 3) := dk_182 0 101 (dk_at dksJ9_hugeLength_1 18 rfl rfl)
theorem dJ9_hugeLength_45 : decode cJ9_hugeLength 45 = .ok (.invokespecial 212, 3) := dk_183 0 212 (dk_at dksJ9_hugeLength_1 21 rfl rfl)
theorem dJ9_hugeLength_48 : decode cJ9_hugeLength 48 = .ok (.athrow, 1) := dk_191 (dk_at dksJ9_hugeLength_2 0 rfl rfl)
theorem dJ9_hugeLength_49 : decode cJ9_hugeLength 49 = .ok (.iload_n 2, 1) := dk_28 (dk_at dksJ9_hugeLength_2 1 rfl rfl)
theorem dJ9_hugeLength_50 : decode cJ9_hugeLength 50 = .ok (.ldc 200, 2) := dk_18 200 (dk_at dksJ9_hugeLength_2 2 rfl rfl)
theorem dJ9_hugeLength_52 : decode cJ9_hugeLength 52 = .ok (.if_icmp .gt 6, 3) := dk_163 0 6 (dk_at dksJ9_hugeLength_2 4 rfl rfl)
theorem dJ9_hugeLength_55 : decode cJ9_hugeLength 55 = .ok (.ldc 200, 2) := dk_18 200 (dk_at dksJ9_hugeLength_2 7 rfl rfl)
theorem dJ9_hugeLength_57 : decode cJ9_hugeLength 57 = .ok (.ireturn, 1) := dk_172 (dk_at dksJ9_hugeLength_2 9 rfl rfl)
theorem dJ9_hugeLength_58 : decode cJ9_hugeLength 58 = .ok (.iload_n 2, 1) := dk_28 (dk_at dksJ9_hugeLength_2 10 rfl rfl)
theorem dJ9_hugeLength_59 : decode cJ9_hugeLength 59 = .ok (.ireturn, 1) := dk_172 (dk_at dksJ9_hugeLength_2 11 rfl rfl)
abbrev cJ9_mismatch : ByteArray := prog_70_method_13_code
def yJ9_mismatch : MethodName := ⟨RJ9, "mismatch", "([B[BI)I"⟩
def dkwJ9_mismatch_3 : List UInt8 := [172]
abbrev dktJ9_mismatch_3 : List UInt8 := dkwJ9_mismatch_3 ++ []
def dkwJ9_mismatch_2 : List UInt8 := [62, 29, 28, 162, 0, 20, 42, 29, 51, 43, 29, 51, 159, 0, 5, 29, 172, 132, 3, 1, 167, 255, 237, 2]
abbrev dktJ9_mismatch_2 : List UInt8 := dkwJ9_mismatch_2 ++ dktJ9_mismatch_3
def dkwJ9_mismatch_1 : List UInt8 := [43, 178, 0, 126, 133, 28, 178, 0, 129, 184, 0, 122, 62, 29, 155, 0, 5, 29, 172, 28, 29, 2, 130, 100]
abbrev dktJ9_mismatch_1 : List UInt8 := dkwJ9_mismatch_1 ++ dktJ9_mismatch_2
def dkwJ9_mismatch_0 : List UInt8 := [3, 62, 28, 16, 7, 164, 0, 44, 42, 3, 51, 43, 3, 51, 159, 0, 5, 3, 172, 42, 178, 0, 126, 133]
abbrev dktJ9_mismatch_0 : List UInt8 := dkwJ9_mismatch_0 ++ dktJ9_mismatch_1
theorem dksJ9_mismatch_0 : cJ9_mismatch.data.toList.drop 0 = dktJ9_mismatch_0 := by decide +kernel
theorem dksJ9_mismatch_1 : cJ9_mismatch.data.toList.drop 24 = dktJ9_mismatch_1 := dk_seg dksJ9_mismatch_0 24 rfl rfl
theorem dksJ9_mismatch_2 : cJ9_mismatch.data.toList.drop 48 = dktJ9_mismatch_2 := dk_seg dksJ9_mismatch_1 24 rfl rfl
theorem dksJ9_mismatch_3 : cJ9_mismatch.data.toList.drop 72 = dktJ9_mismatch_3 := dk_seg dksJ9_mismatch_2 24 rfl rfl
theorem dJ9_mismatch_0 : decode cJ9_mismatch 0 = .ok (.iconst 0, 1) := dk_3 (dk_at dksJ9_mismatch_0 0 rfl rfl)
theorem dJ9_mismatch_1 : decode cJ9_mismatch 1 = .ok (.istore_n 3, 1) := dk_62 (dk_at dksJ9_mismatch_0 1 rfl rfl)
theorem dJ9_mismatch_2 : decode cJ9_mismatch 2 = .ok (.iload_n 2, 1) := dk_28 (dk_at dksJ9_mismatch_0 2 rfl rfl)
theorem dJ9_mismatch_3 : decode cJ9_mismatch 3 = .ok (.bipush 7, 2) := dk_16 7 (dk_at dksJ9_mismatch_0 3 rfl rfl)
theorem dJ9_mismatch_5 : decode cJ9_mismatch 5 = .ok (.if_icmp .le 44, 3) := dk_164 0 44 (dk_at dksJ9_mismatch_0 5 rfl rfl)
theorem dJ9_mismatch_8 : decode cJ9_mismatch 8 = .ok (.aload_n 0, 1) := dk_42 (dk_at dksJ9_mismatch_0 8 rfl rfl)
theorem dJ9_mismatch_9 : decode cJ9_mismatch 9 = .ok (.iconst 0, 1) := dk_3 (dk_at dksJ9_mismatch_0 9 rfl rfl)
theorem dJ9_mismatch_10 : decode cJ9_mismatch 10 = .ok (.baload, 1) := dk_51 (dk_at dksJ9_mismatch_0 10 rfl rfl)
theorem dJ9_mismatch_11 : decode cJ9_mismatch 11 = .ok (.aload_n 1, 1) := dk_43 (dk_at dksJ9_mismatch_0 11 rfl rfl)
theorem dJ9_mismatch_12 : decode cJ9_mismatch 12 = .ok (.iconst 0, 1) := dk_3 (dk_at dksJ9_mismatch_0 12 rfl rfl)
theorem dJ9_mismatch_13 : decode cJ9_mismatch 13 = .ok (.baload, 1) := dk_51 (dk_at dksJ9_mismatch_0 13 rfl rfl)
theorem dJ9_mismatch_14 : decode cJ9_mismatch 14 = .ok (.if_icmp .eq 5, 3) := dk_159 0 5 (dk_at dksJ9_mismatch_0 14 rfl rfl)
theorem dJ9_mismatch_17 : decode cJ9_mismatch 17 = .ok (.iconst 0, 1) := dk_3 (dk_at dksJ9_mismatch_0 17 rfl rfl)
theorem dJ9_mismatch_18 : decode cJ9_mismatch 18 = .ok (.ireturn, 1) := dk_172 (dk_at dksJ9_mismatch_0 18 rfl rfl)
theorem dJ9_mismatch_19 : decode cJ9_mismatch 19 = .ok (.aload_n 0, 1) := dk_42 (dk_at dksJ9_mismatch_0 19 rfl rfl)
theorem dJ9_mismatch_20 : decode cJ9_mismatch 20 = .ok (.getstatic 126, 3) := dk_178 0 126 (dk_at dksJ9_mismatch_0 20 rfl rfl)
theorem dJ9_mismatch_23 : decode cJ9_mismatch 23 = .ok (.i2l, 1) := dk_133 (dk_at dksJ9_mismatch_0 23 rfl rfl)
theorem dJ9_mismatch_24 : decode cJ9_mismatch 24 = .ok (.aload_n 1, 1) := dk_43 (dk_at dksJ9_mismatch_1 0 rfl rfl)
theorem dJ9_mismatch_25 : decode cJ9_mismatch 25 = .ok (.getstatic 126, 3) := dk_178 0 126 (dk_at dksJ9_mismatch_1 1 rfl rfl)
theorem dJ9_mismatch_28 : decode cJ9_mismatch 28 = .ok (.i2l, 1) := dk_133 (dk_at dksJ9_mismatch_1 4 rfl rfl)
theorem dJ9_mismatch_29 : decode cJ9_mismatch 29 = .ok (.iload_n 2, 1) := dk_28 (dk_at dksJ9_mismatch_1 5 rfl rfl)
theorem dJ9_mismatch_30 : decode cJ9_mismatch 30 = .ok (.getstatic 129, 3) := dk_178 0 129 (dk_at dksJ9_mismatch_1 6 rfl rfl)
theorem dJ9_mismatch_33 : decode cJ9_mismatch 33 = .ok (.invokestatic 122, 3) := dk_184 0 122 (dk_at dksJ9_mismatch_1 9 rfl rfl)
theorem dJ9_mismatch_36 : decode cJ9_mismatch 36 = .ok (.istore_n 3, 1) := dk_62 (dk_at dksJ9_mismatch_1 12 rfl rfl)
theorem dJ9_mismatch_37 : decode cJ9_mismatch 37 = .ok (.iload_n 3, 1) := dk_29 (dk_at dksJ9_mismatch_1 13 rfl rfl)
theorem dJ9_mismatch_38 : decode cJ9_mismatch 38 = .ok (.ifCond .lt 5, 3) := dk_155 0 5 (dk_at dksJ9_mismatch_1 14 rfl rfl)
theorem dJ9_mismatch_41 : decode cJ9_mismatch 41 = .ok (.iload_n 3, 1) := dk_29 (dk_at dksJ9_mismatch_1 17 rfl rfl)
theorem dJ9_mismatch_42 : decode cJ9_mismatch 42 = .ok (.ireturn, 1) := dk_172 (dk_at dksJ9_mismatch_1 18 rfl rfl)
theorem dJ9_mismatch_43 : decode cJ9_mismatch 43 = .ok (.iload_n 2, 1) := dk_28 (dk_at dksJ9_mismatch_1 19 rfl rfl)
theorem dJ9_mismatch_44 : decode cJ9_mismatch 44 = .ok (.iload_n 3, 1) := dk_29 (dk_at dksJ9_mismatch_1 20 rfl rfl)
theorem dJ9_mismatch_45 : decode cJ9_mismatch 45 = .ok (.iconst (-1), 1) := dk_2 (dk_at dksJ9_mismatch_1 21 rfl rfl)
theorem dJ9_mismatch_46 : decode cJ9_mismatch 46 = .ok (.ixor, 1) := dk_130 (dk_at dksJ9_mismatch_1 22 rfl rfl)
theorem dJ9_mismatch_47 : decode cJ9_mismatch 47 = .ok (.isub, 1) := dk_100 (dk_at dksJ9_mismatch_1 23 rfl rfl)
theorem dJ9_mismatch_48 : decode cJ9_mismatch 48 = .ok (.istore_n 3, 1) := dk_62 (dk_at dksJ9_mismatch_2 0 rfl rfl)
theorem dJ9_mismatch_49 : decode cJ9_mismatch 49 = .ok (.iload_n 3, 1) := dk_29 (dk_at dksJ9_mismatch_2 1 rfl rfl)
theorem dJ9_mismatch_50 : decode cJ9_mismatch 50 = .ok (.iload_n 2, 1) := dk_28 (dk_at dksJ9_mismatch_2 2 rfl rfl)
theorem dJ9_mismatch_51 : decode cJ9_mismatch 51 = .ok (.if_icmp .ge 20, 3) := dk_162 0 20 (dk_at dksJ9_mismatch_2 3 rfl rfl)
theorem dJ9_mismatch_54 : decode cJ9_mismatch 54 = .ok (.aload_n 0, 1) := dk_42 (dk_at dksJ9_mismatch_2 6 rfl rfl)
theorem dJ9_mismatch_55 : decode cJ9_mismatch 55 = .ok (.iload_n 3, 1) := dk_29 (dk_at dksJ9_mismatch_2 7 rfl rfl)
theorem dJ9_mismatch_56 : decode cJ9_mismatch 56 = .ok (.baload, 1) := dk_51 (dk_at dksJ9_mismatch_2 8 rfl rfl)
theorem dJ9_mismatch_57 : decode cJ9_mismatch 57 = .ok (.aload_n 1, 1) := dk_43 (dk_at dksJ9_mismatch_2 9 rfl rfl)
theorem dJ9_mismatch_58 : decode cJ9_mismatch 58 = .ok (.iload_n 3, 1) := dk_29 (dk_at dksJ9_mismatch_2 10 rfl rfl)
theorem dJ9_mismatch_59 : decode cJ9_mismatch 59 = .ok (.baload, 1) := dk_51 (dk_at dksJ9_mismatch_2 11 rfl rfl)
theorem dJ9_mismatch_60 : decode cJ9_mismatch 60 = .ok (.if_icmp .eq 5, 3) := dk_159 0 5 (dk_at dksJ9_mismatch_2 12 rfl rfl)
theorem dJ9_mismatch_63 : decode cJ9_mismatch 63 = .ok (.iload_n 3, 1) := dk_29 (dk_at dksJ9_mismatch_2 15 rfl rfl)
theorem dJ9_mismatch_64 : decode cJ9_mismatch 64 = .ok (.ireturn, 1) := dk_172 (dk_at dksJ9_mismatch_2 16 rfl rfl)
theorem dJ9_mismatch_65 : decode cJ9_mismatch 65 = .ok (.iinc 3 1, 3) := dk_132 3 1 (dk_at dksJ9_mismatch_2 17 rfl rfl)
theorem dJ9_mismatch_68 : decode cJ9_mismatch 68 = .ok (.goto (-19), 3) := dk_167 255 237 (dk_at dksJ9_mismatch_2 20 rfl rfl)
theorem dJ9_mismatch_71 : decode cJ9_mismatch 71 = .ok (.iconst (-1), 1) := dk_2 (dk_at dksJ9_mismatch_2 23 rfl rfl)
theorem dJ9_mismatch_72 : decode cJ9_mismatch 72 = .ok (.ireturn, 1) := dk_172 (dk_at dksJ9_mismatch_3 0 rfl rfl)
abbrev cJ9_vectorizedMismatch : ByteArray := prog_70_method_3_code
def yJ9_vectorizedMismatch : MethodName := ⟨RJ9, "vectorizedMismatch", "(Ljava/lang/Object;JLjava/lang/Object;JII)I"⟩
def dkwJ9_vectorizedMismatch_11 : List UInt8 := [54, 10, 21, 10, 2, 130, 172, 21, 10, 2, 130, 172]
abbrev dktJ9_vectorizedMismatch_11 : List UInt8 := dkwJ9_vectorizedMismatch_11 ++ []
def dkwJ9_vectorizedMismatch_10 : List UInt8 := [178, 0, 46, 21, 7, 96, 122, 54, 17, 21, 9, 21, 8, 120, 21, 17, 96, 172, 21, 10, 21, 11, 100]
abbrev dktJ9_vectorizedMismatch_10 : List UInt8 := dkwJ9_vectorizedMismatch_10 ++ dktJ9_vectorizedMismatch_11
def dkwJ9_vectorizedMismatch_9 : List UInt8 := [153, 0, 18, 21, 16, 184, 0, 58, 178, 0, 46, 21, 7, 96, 122, 167, 0, 15, 21, 16, 184, 0, 11]
abbrev dktJ9_vectorizedMismatch_9 : List UInt8 := dkwJ9_vectorizedMismatch_9 ++ dktJ9_vectorizedMismatch_10
def dkwJ9_vectorizedMismatch_8 : List UInt8 := [182, 0, 54, 54, 15, 21, 14, 21, 15, 159, 0, 54, 21, 14, 21, 15, 130, 54, 16, 178, 0, 36]
abbrev dktJ9_vectorizedMismatch_8 : List UInt8 := dkwJ9_vectorizedMismatch_8 ++ dktJ9_vectorizedMismatch_9
def dkwJ9_vectorizedMismatch_7 : List UInt8 := [55, 12, 178, 0, 26, 42, 31, 22, 12, 97, 182, 0, 54, 54, 14, 178, 0, 26, 45, 22, 4, 22, 12, 97]
abbrev dktJ9_vectorizedMismatch_7 : List UInt8 := dkwJ9_vectorizedMismatch_7 ++ dktJ9_vectorizedMismatch_8
def dkwJ9_vectorizedMismatch_6 : List UInt8 := [4, 178, 0, 51, 21, 7, 100, 120, 54, 11, 21, 10, 21, 11, 161, 0, 104, 21, 9, 133, 178, 0, 20, 121]
abbrev dktJ9_vectorizedMismatch_6 : List UInt8 := dkwJ9_vectorizedMismatch_6 ++ dktJ9_vectorizedMismatch_7
def dkwJ9_vectorizedMismatch_5 : List UInt8 := [132, 9, 1, 167, 255, 148, 21, 6, 21, 9, 21, 8, 120, 100, 54, 10, 21, 7, 178, 0, 51, 162, 0, 126]
abbrev dktJ9_vectorizedMismatch_5 : List UInt8 := dkwJ9_vectorizedMismatch_5 ++ dktJ9_vectorizedMismatch_6
def dkwJ9_vectorizedMismatch_4 : List UInt8 := [22, 16, 184, 0, 49, 178, 0, 46, 21, 7, 96, 122, 54, 18, 21, 9, 21, 8, 120, 21, 18, 96, 172]
abbrev dktJ9_vectorizedMismatch_4 : List UInt8 := dkwJ9_vectorizedMismatch_4 ++ dktJ9_vectorizedMismatch_5
def dkwJ9_vectorizedMismatch_3 : List UInt8 := [55, 16, 178, 0, 36, 153, 0, 18, 22, 16, 184, 0, 40, 178, 0, 46, 21, 7, 96, 122, 167, 0, 15]
abbrev dktJ9_vectorizedMismatch_3 : List UInt8 := dkwJ9_vectorizedMismatch_3 ++ dktJ9_vectorizedMismatch_4
def dkwJ9_vectorizedMismatch_2 : List UInt8 := [22, 4, 22, 10, 97, 182, 0, 30, 55, 14, 22, 12, 22, 14, 148, 153, 0, 54, 22, 12, 22, 14, 131]
abbrev dktJ9_vectorizedMismatch_2 : List UInt8 := dkwJ9_vectorizedMismatch_2 ++ dktJ9_vectorizedMismatch_3
def dkwJ9_vectorizedMismatch_1 : List UInt8 := [178, 0, 20, 121, 55, 10, 178, 0, 26, 42, 31, 22, 10, 97, 182, 0, 30, 55, 12, 178, 0, 26, 45]
abbrev dktJ9_vectorizedMismatch_1 : List UInt8 := dkwJ9_vectorizedMismatch_1 ++ dktJ9_vectorizedMismatch_2
def dkwJ9_vectorizedMismatch_0 : List UInt8 := [178, 0, 20, 21, 7, 100, 54, 8, 3, 54, 9, 21, 9, 21, 6, 21, 8, 122, 162, 0, 104, 21, 9, 133]
abbrev dktJ9_vectorizedMismatch_0 : List UInt8 := dkwJ9_vectorizedMismatch_0 ++ dktJ9_vectorizedMismatch_1
theorem dksJ9_vectorizedMismatch_0 : cJ9_vectorizedMismatch.data.toList.drop 0 = dktJ9_vectorizedMismatch_0 := by decide +kernel
theorem dksJ9_vectorizedMismatch_1 : cJ9_vectorizedMismatch.data.toList.drop 24 = dktJ9_vectorizedMismatch_1 := dk_seg dksJ9_vectorizedMismatch_0 24 rfl rfl
theorem dksJ9_vectorizedMismatch_2 : cJ9_vectorizedMismatch.data.toList.drop 47 = dktJ9_vectorizedMismatch_2 := dk_seg dksJ9_vectorizedMismatch_1 23 rfl rfl
theorem dksJ9_vectorizedMismatch_3 : cJ9_vectorizedMismatch.data.toList.drop 70 = dktJ9_vectorizedMismatch_3 := dk_seg dksJ9_vectorizedMismatch_2 23 rfl rfl
theorem dksJ9_vectorizedMismatch_4 : cJ9_vectorizedMismatch.data.toList.drop 93 = dktJ9_vectorizedMismatch_4 := dk_seg dksJ9_vectorizedMismatch_3 23 rfl rfl
theorem dksJ9_vectorizedMismatch_5 : cJ9_vectorizedMismatch.data.toList.drop 116 = dktJ9_vectorizedMismatch_5 := dk_seg dksJ9_vectorizedMismatch_4 23 rfl rfl
theorem dksJ9_vectorizedMismatch_6 : cJ9_vectorizedMismatch.data.toList.drop 140 = dktJ9_vectorizedMismatch_6 := dk_seg dksJ9_vectorizedMismatch_5 24 rfl rfl
theorem dksJ9_vectorizedMismatch_7 : cJ9_vectorizedMismatch.data.toList.drop 164 = dktJ9_vectorizedMismatch_7 := dk_seg dksJ9_vectorizedMismatch_6 24 rfl rfl
theorem dksJ9_vectorizedMismatch_8 : cJ9_vectorizedMismatch.data.toList.drop 188 = dktJ9_vectorizedMismatch_8 := dk_seg dksJ9_vectorizedMismatch_7 24 rfl rfl
theorem dksJ9_vectorizedMismatch_9 : cJ9_vectorizedMismatch.data.toList.drop 210 = dktJ9_vectorizedMismatch_9 := dk_seg dksJ9_vectorizedMismatch_8 22 rfl rfl
theorem dksJ9_vectorizedMismatch_10 : cJ9_vectorizedMismatch.data.toList.drop 233 = dktJ9_vectorizedMismatch_10 := dk_seg dksJ9_vectorizedMismatch_9 23 rfl rfl
theorem dksJ9_vectorizedMismatch_11 : cJ9_vectorizedMismatch.data.toList.drop 256 = dktJ9_vectorizedMismatch_11 := dk_seg dksJ9_vectorizedMismatch_10 23 rfl rfl
theorem dJ9_vectorizedMismatch_0 : decode cJ9_vectorizedMismatch 0 = .ok (.getstatic 20, 3) := dk_178 0 20 (dk_at dksJ9_vectorizedMismatch_0 0 rfl rfl)
theorem dJ9_vectorizedMismatch_3 : decode cJ9_vectorizedMismatch 3 = .ok (.iload 7, 2) := dk_21 7 (dk_at dksJ9_vectorizedMismatch_0 3 rfl rfl)
theorem dJ9_vectorizedMismatch_5 : decode cJ9_vectorizedMismatch 5 = .ok (.isub, 1) := dk_100 (dk_at dksJ9_vectorizedMismatch_0 5 rfl rfl)
theorem dJ9_vectorizedMismatch_6 : decode cJ9_vectorizedMismatch 6 = .ok (.istore 8, 2) := dk_54 8 (dk_at dksJ9_vectorizedMismatch_0 6 rfl rfl)
theorem dJ9_vectorizedMismatch_8 : decode cJ9_vectorizedMismatch 8 = .ok (.iconst 0, 1) := dk_3 (dk_at dksJ9_vectorizedMismatch_0 8 rfl rfl)
theorem dJ9_vectorizedMismatch_9 : decode cJ9_vectorizedMismatch 9 = .ok (.istore 9, 2) := dk_54 9 (dk_at dksJ9_vectorizedMismatch_0 9 rfl rfl)
theorem dJ9_vectorizedMismatch_11 : decode cJ9_vectorizedMismatch 11 = .ok (.iload 9, 2) := dk_21 9 (dk_at dksJ9_vectorizedMismatch_0 11 rfl rfl)
theorem dJ9_vectorizedMismatch_13 : decode cJ9_vectorizedMismatch 13 = .ok (.iload 6, 2) := dk_21 6 (dk_at dksJ9_vectorizedMismatch_0 13 rfl rfl)
theorem dJ9_vectorizedMismatch_15 : decode cJ9_vectorizedMismatch 15 = .ok (.iload 8, 2) := dk_21 8 (dk_at dksJ9_vectorizedMismatch_0 15 rfl rfl)
theorem dJ9_vectorizedMismatch_17 : decode cJ9_vectorizedMismatch 17 = .ok (.ishr, 1) := dk_122 (dk_at dksJ9_vectorizedMismatch_0 17 rfl rfl)
theorem dJ9_vectorizedMismatch_18 : decode cJ9_vectorizedMismatch 18 = .ok (.if_icmp .ge 104, 3) := dk_162 0 104 (dk_at dksJ9_vectorizedMismatch_0 18 rfl rfl)
theorem dJ9_vectorizedMismatch_21 : decode cJ9_vectorizedMismatch 21 = .ok (.iload 9, 2) := dk_21 9 (dk_at dksJ9_vectorizedMismatch_0 21 rfl rfl)
theorem dJ9_vectorizedMismatch_23 : decode cJ9_vectorizedMismatch 23 = .ok (.i2l, 1) := dk_133 (dk_at dksJ9_vectorizedMismatch_0 23 rfl rfl)
theorem dJ9_vectorizedMismatch_24 : decode cJ9_vectorizedMismatch 24 = .ok (.getstatic 20, 3) := dk_178 0 20 (dk_at dksJ9_vectorizedMismatch_1 0 rfl rfl)
theorem dJ9_vectorizedMismatch_27 : decode cJ9_vectorizedMismatch 27 = .ok (.lshl, 1) := dk_121 (dk_at dksJ9_vectorizedMismatch_1 3 rfl rfl)
theorem dJ9_vectorizedMismatch_28 : decode cJ9_vectorizedMismatch 28 = .ok (.lstore 10, 2) := dk_55 10 (dk_at dksJ9_vectorizedMismatch_1 4 rfl rfl)
theorem dJ9_vectorizedMismatch_30 : decode cJ9_vectorizedMismatch 30 = .ok (.getstatic 26, 3) := dk_178 0 26 (dk_at dksJ9_vectorizedMismatch_1 6 rfl rfl)
theorem dJ9_vectorizedMismatch_33 : decode cJ9_vectorizedMismatch 33 = .ok (.aload_n 0, 1) := dk_42 (dk_at dksJ9_vectorizedMismatch_1 9 rfl rfl)
theorem dJ9_vectorizedMismatch_34 : decode cJ9_vectorizedMismatch 34 = .ok (.lload_n 1, 1) := dk_31 (dk_at dksJ9_vectorizedMismatch_1 10 rfl rfl)
theorem dJ9_vectorizedMismatch_35 : decode cJ9_vectorizedMismatch 35 = .ok (.lload 10, 2) := dk_22 10 (dk_at dksJ9_vectorizedMismatch_1 11 rfl rfl)
theorem dJ9_vectorizedMismatch_37 : decode cJ9_vectorizedMismatch 37 = .ok (.ladd, 1) := dk_97 (dk_at dksJ9_vectorizedMismatch_1 13 rfl rfl)
theorem dJ9_vectorizedMismatch_38 : decode cJ9_vectorizedMismatch 38 = .ok (.invokevirtual 30, 3) := dk_182 0 30 (dk_at dksJ9_vectorizedMismatch_1 14 rfl rfl)
theorem dJ9_vectorizedMismatch_41 : decode cJ9_vectorizedMismatch 41 = .ok (.lstore 12, 2) := dk_55 12 (dk_at dksJ9_vectorizedMismatch_1 17 rfl rfl)
theorem dJ9_vectorizedMismatch_43 : decode cJ9_vectorizedMismatch 43 = .ok (.getstatic 26, 3) := dk_178 0 26 (dk_at dksJ9_vectorizedMismatch_1 19 rfl rfl)
theorem dJ9_vectorizedMismatch_46 : decode cJ9_vectorizedMismatch 46 = .ok (.aload_n 3, 1) := dk_45 (dk_at dksJ9_vectorizedMismatch_1 22 rfl rfl)
theorem dJ9_vectorizedMismatch_47 : decode cJ9_vectorizedMismatch 47 = .ok (.lload 4, 2) := dk_22 4 (dk_at dksJ9_vectorizedMismatch_2 0 rfl rfl)
theorem dJ9_vectorizedMismatch_49 : decode cJ9_vectorizedMismatch 49 = .ok (.lload 10, 2) := dk_22 10 (dk_at dksJ9_vectorizedMismatch_2 2 rfl rfl)
theorem dJ9_vectorizedMismatch_51 : decode cJ9_vectorizedMismatch 51 = .ok (.ladd, 1) := dk_97 (dk_at dksJ9_vectorizedMismatch_2 4 rfl rfl)
theorem dJ9_vectorizedMismatch_52 : decode cJ9_vectorizedMismatch 52 = .ok (.invokevirtual 30, 3) := dk_182 0 30 (dk_at dksJ9_vectorizedMismatch_2 5 rfl rfl)
theorem dJ9_vectorizedMismatch_55 : decode cJ9_vectorizedMismatch 55 = .ok (.lstore 14, 2) := dk_55 14 (dk_at dksJ9_vectorizedMismatch_2 8 rfl rfl)
theorem dJ9_vectorizedMismatch_57 : decode cJ9_vectorizedMismatch 57 = .ok (.lload 12, 2) := dk_22 12 (dk_at dksJ9_vectorizedMismatch_2 10 rfl rfl)
theorem dJ9_vectorizedMismatch_59 : decode cJ9_vectorizedMismatch 59 = .ok (.lload 14, 2) := dk_22 14 (dk_at dksJ9_vectorizedMismatch_2 12 rfl rfl)
theorem dJ9_vectorizedMismatch_61 : decode cJ9_vectorizedMismatch 61 = .ok (.lcmp, 1) := dk_148 (dk_at dksJ9_vectorizedMismatch_2 14 rfl rfl)
theorem dJ9_vectorizedMismatch_62 : decode cJ9_vectorizedMismatch 62 = .ok (.ifCond .eq 54, 3) := dk_153 0 54 (dk_at dksJ9_vectorizedMismatch_2 15 rfl rfl)
theorem dJ9_vectorizedMismatch_65 : decode cJ9_vectorizedMismatch 65 = .ok (.lload 12, 2) := dk_22 12 (dk_at dksJ9_vectorizedMismatch_2 18 rfl rfl)
theorem dJ9_vectorizedMismatch_67 : decode cJ9_vectorizedMismatch 67 = .ok (.lload 14, 2) := dk_22 14 (dk_at dksJ9_vectorizedMismatch_2 20 rfl rfl)
theorem dJ9_vectorizedMismatch_69 : decode cJ9_vectorizedMismatch 69 = .ok (.lxor, 1) := dk_131 (dk_at dksJ9_vectorizedMismatch_2 22 rfl rfl)
theorem dJ9_vectorizedMismatch_70 : decode cJ9_vectorizedMismatch 70 = .ok (.lstore 16, 2) := dk_55 16 (dk_at dksJ9_vectorizedMismatch_3 0 rfl rfl)
theorem dJ9_vectorizedMismatch_72 : decode cJ9_vectorizedMismatch 72 = .ok (.getstatic 36, 3) := dk_178 0 36 (dk_at dksJ9_vectorizedMismatch_3 2 rfl rfl)
theorem dJ9_vectorizedMismatch_75 : decode cJ9_vectorizedMismatch 75 = .ok (.ifCond .eq 18, 3) := dk_153 0 18 (dk_at dksJ9_vectorizedMismatch_3 5 rfl rfl)
theorem dJ9_vectorizedMismatch_78 : decode cJ9_vectorizedMismatch 78 = .ok (.lload 16, 2) := dk_22 16 (dk_at dksJ9_vectorizedMismatch_3 8 rfl rfl)
theorem dJ9_vectorizedMismatch_80 : decode cJ9_vectorizedMismatch 80 = .ok (.invokestatic 40, 3) := dk_184 0 40 (dk_at dksJ9_vectorizedMismatch_3 10 rfl rfl)
theorem dJ9_vectorizedMismatch_83 : decode cJ9_vectorizedMismatch 83 = .ok (.getstatic 46, 3) := dk_178 0 46 (dk_at dksJ9_vectorizedMismatch_3 13 rfl rfl)
theorem dJ9_vectorizedMismatch_86 : decode cJ9_vectorizedMismatch 86 = .ok (.iload 7, 2) := dk_21 7 (dk_at dksJ9_vectorizedMismatch_3 16 rfl rfl)
theorem dJ9_vectorizedMismatch_88 : decode cJ9_vectorizedMismatch 88 = .ok (.iadd, 1) := dk_96 (dk_at dksJ9_vectorizedMismatch_3 18 rfl rfl)
theorem dJ9_vectorizedMismatch_89 : decode cJ9_vectorizedMismatch 89 = .ok (.ishr, 1) := dk_122 (dk_at dksJ9_vectorizedMismatch_3 19 rfl rfl)
theorem dJ9_vectorizedMismatch_90 : decode cJ9_vectorizedMismatch 90 = .ok (.goto 15, 3) := dk_167 0 15 (dk_at dksJ9_vectorizedMismatch_3 20 rfl rfl)
theorem dJ9_vectorizedMismatch_93 : decode cJ9_vectorizedMismatch 93 = .ok (.lload 16, 2) := dk_22 16 (dk_at dksJ9_vectorizedMismatch_4 0 rfl rfl)
theorem dJ9_vectorizedMismatch_95 : decode cJ9_vectorizedMismatch 95 = .ok (.invokestatic 49, 3) := dk_184 0 49 (dk_at dksJ9_vectorizedMismatch_4 2 rfl rfl)
theorem dJ9_vectorizedMismatch_98 : decode cJ9_vectorizedMismatch 98 = .ok (.getstatic 46, 3) := dk_178 0 46 (dk_at dksJ9_vectorizedMismatch_4 5 rfl rfl)
theorem dJ9_vectorizedMismatch_101 : decode cJ9_vectorizedMismatch 101 = .ok (.iload 7, 2) := dk_21 7 (dk_at dksJ9_vectorizedMismatch_4 8 rfl rfl)
theorem dJ9_vectorizedMismatch_103 : decode cJ9_vectorizedMismatch 103 = .ok (.iadd, 1) := dk_96 (dk_at dksJ9_vectorizedMismatch_4 10 rfl rfl)
theorem dJ9_vectorizedMismatch_104 : decode cJ9_vectorizedMismatch 104 = .ok (.ishr, 1) := dk_122 (dk_at dksJ9_vectorizedMismatch_4 11 rfl rfl)
theorem dJ9_vectorizedMismatch_105 : decode cJ9_vectorizedMismatch 105 = .ok (.istore 18, 2) := dk_54 18 (dk_at dksJ9_vectorizedMismatch_4 12 rfl rfl)
theorem dJ9_vectorizedMismatch_107 : decode cJ9_vectorizedMismatch 107 = .ok (.iload 9, 2) := dk_21 9 (dk_at dksJ9_vectorizedMismatch_4 14 rfl rfl)
theorem dJ9_vectorizedMismatch_109 : decode cJ9_vectorizedMismatch 109 = .ok (.iload 8, 2) := dk_21 8 (dk_at dksJ9_vectorizedMismatch_4 16 rfl rfl)
theorem dJ9_vectorizedMismatch_111 : decode cJ9_vectorizedMismatch 111 = .ok (.ishl, 1) := dk_120 (dk_at dksJ9_vectorizedMismatch_4 18 rfl rfl)
theorem dJ9_vectorizedMismatch_112 : decode cJ9_vectorizedMismatch 112 = .ok (.iload 18, 2) := dk_21 18 (dk_at dksJ9_vectorizedMismatch_4 19 rfl rfl)
theorem dJ9_vectorizedMismatch_114 : decode cJ9_vectorizedMismatch 114 = .ok (.iadd, 1) := dk_96 (dk_at dksJ9_vectorizedMismatch_4 21 rfl rfl)
theorem dJ9_vectorizedMismatch_115 : decode cJ9_vectorizedMismatch 115 = .ok (.ireturn, 1) := dk_172 (dk_at dksJ9_vectorizedMismatch_4 22 rfl rfl)
theorem dJ9_vectorizedMismatch_116 : decode cJ9_vectorizedMismatch 116 = .ok (.iinc 9 1, 3) := dk_132 9 1 (dk_at dksJ9_vectorizedMismatch_5 0 rfl rfl)
theorem dJ9_vectorizedMismatch_119 : decode cJ9_vectorizedMismatch 119 = .ok (.goto (-108), 3) := dk_167 255 148 (dk_at dksJ9_vectorizedMismatch_5 3 rfl rfl)
theorem dJ9_vectorizedMismatch_122 : decode cJ9_vectorizedMismatch 122 = .ok (.iload 6, 2) := dk_21 6 (dk_at dksJ9_vectorizedMismatch_5 6 rfl rfl)
theorem dJ9_vectorizedMismatch_124 : decode cJ9_vectorizedMismatch 124 = .ok (.iload 9, 2) := dk_21 9 (dk_at dksJ9_vectorizedMismatch_5 8 rfl rfl)
theorem dJ9_vectorizedMismatch_126 : decode cJ9_vectorizedMismatch 126 = .ok (.iload 8, 2) := dk_21 8 (dk_at dksJ9_vectorizedMismatch_5 10 rfl rfl)
theorem dJ9_vectorizedMismatch_128 : decode cJ9_vectorizedMismatch 128 = .ok (.ishl, 1) := dk_120 (dk_at dksJ9_vectorizedMismatch_5 12 rfl rfl)
theorem dJ9_vectorizedMismatch_129 : decode cJ9_vectorizedMismatch 129 = .ok (.isub, 1) := dk_100 (dk_at dksJ9_vectorizedMismatch_5 13 rfl rfl)
theorem dJ9_vectorizedMismatch_130 : decode cJ9_vectorizedMismatch 130 = .ok (.istore 10, 2) := dk_54 10 (dk_at dksJ9_vectorizedMismatch_5 14 rfl rfl)
theorem dJ9_vectorizedMismatch_132 : decode cJ9_vectorizedMismatch 132 = .ok (.iload 7, 2) := dk_21 7 (dk_at dksJ9_vectorizedMismatch_5 16 rfl rfl)
theorem dJ9_vectorizedMismatch_134 : decode cJ9_vectorizedMismatch 134 = .ok (.getstatic 51, 3) := dk_178 0 51 (dk_at dksJ9_vectorizedMismatch_5 18 rfl rfl)
theorem dJ9_vectorizedMismatch_137 : decode cJ9_vectorizedMismatch 137 = .ok (.if_icmp .ge 126, 3) := dk_162 0 126 (dk_at dksJ9_vectorizedMismatch_5 21 rfl rfl)
theorem dJ9_vectorizedMismatch_140 : decode cJ9_vectorizedMismatch 140 = .ok (.iconst 1, 1) := dk_4 (dk_at dksJ9_vectorizedMismatch_6 0 rfl rfl)
theorem dJ9_vectorizedMismatch_141 : decode cJ9_vectorizedMismatch 141 = .ok (.getstatic 51, 3) := dk_178 0 51 (dk_at dksJ9_vectorizedMismatch_6 1 rfl rfl)
theorem dJ9_vectorizedMismatch_144 : decode cJ9_vectorizedMismatch 144 = .ok (.iload 7, 2) := dk_21 7 (dk_at dksJ9_vectorizedMismatch_6 4 rfl rfl)
theorem dJ9_vectorizedMismatch_146 : decode cJ9_vectorizedMismatch 146 = .ok (.isub, 1) := dk_100 (dk_at dksJ9_vectorizedMismatch_6 6 rfl rfl)
theorem dJ9_vectorizedMismatch_147 : decode cJ9_vectorizedMismatch 147 = .ok (.ishl, 1) := dk_120 (dk_at dksJ9_vectorizedMismatch_6 7 rfl rfl)
theorem dJ9_vectorizedMismatch_148 : decode cJ9_vectorizedMismatch 148 = .ok (.istore 11, 2) := dk_54 11 (dk_at dksJ9_vectorizedMismatch_6 8 rfl rfl)
theorem dJ9_vectorizedMismatch_150 : decode cJ9_vectorizedMismatch 150 = .ok (.iload 10, 2) := dk_21 10 (dk_at dksJ9_vectorizedMismatch_6 10 rfl rfl)
theorem dJ9_vectorizedMismatch_152 : decode cJ9_vectorizedMismatch 152 = .ok (.iload 11, 2) := dk_21 11 (dk_at dksJ9_vectorizedMismatch_6 12 rfl rfl)
theorem dJ9_vectorizedMismatch_154 : decode cJ9_vectorizedMismatch 154 = .ok (.if_icmp .lt 104, 3) := dk_161 0 104 (dk_at dksJ9_vectorizedMismatch_6 14 rfl rfl)
theorem dJ9_vectorizedMismatch_157 : decode cJ9_vectorizedMismatch 157 = .ok (.iload 9, 2) := dk_21 9 (dk_at dksJ9_vectorizedMismatch_6 17 rfl rfl)
theorem dJ9_vectorizedMismatch_159 : decode cJ9_vectorizedMismatch 159 = .ok (.i2l, 1) := dk_133 (dk_at dksJ9_vectorizedMismatch_6 19 rfl rfl)
theorem dJ9_vectorizedMismatch_160 : decode cJ9_vectorizedMismatch 160 = .ok (.getstatic 20, 3) := dk_178 0 20 (dk_at dksJ9_vectorizedMismatch_6 20 rfl rfl)
theorem dJ9_vectorizedMismatch_163 : decode cJ9_vectorizedMismatch 163 = .ok (.lshl, 1) := dk_121 (dk_at dksJ9_vectorizedMismatch_6 23 rfl rfl)
theorem dJ9_vectorizedMismatch_164 : decode cJ9_vectorizedMismatch 164 = .ok (.lstore 12, 2) := dk_55 12 (dk_at dksJ9_vectorizedMismatch_7 0 rfl rfl)
theorem dJ9_vectorizedMismatch_166 : decode cJ9_vectorizedMismatch 166 = .ok (.getstatic 26, 3) := dk_178 0 26 (dk_at dksJ9_vectorizedMismatch_7 2 rfl rfl)
theorem dJ9_vectorizedMismatch_169 : decode cJ9_vectorizedMismatch 169 = .ok (.aload_n 0, 1) := dk_42 (dk_at dksJ9_vectorizedMismatch_7 5 rfl rfl)
theorem dJ9_vectorizedMismatch_170 : decode cJ9_vectorizedMismatch 170 = .ok (.lload_n 1, 1) := dk_31 (dk_at dksJ9_vectorizedMismatch_7 6 rfl rfl)
theorem dJ9_vectorizedMismatch_171 : decode cJ9_vectorizedMismatch 171 = .ok (.lload 12, 2) := dk_22 12 (dk_at dksJ9_vectorizedMismatch_7 7 rfl rfl)
theorem dJ9_vectorizedMismatch_173 : decode cJ9_vectorizedMismatch 173 = .ok (.ladd, 1) := dk_97 (dk_at dksJ9_vectorizedMismatch_7 9 rfl rfl)
theorem dJ9_vectorizedMismatch_174 : decode cJ9_vectorizedMismatch 174 = .ok (.invokevirtual 54, 3) := dk_182 0 54 (dk_at dksJ9_vectorizedMismatch_7 10 rfl rfl)
theorem dJ9_vectorizedMismatch_177 : decode cJ9_vectorizedMismatch 177 = .ok (.istore 14, 2) := dk_54 14 (dk_at dksJ9_vectorizedMismatch_7 13 rfl rfl)
theorem dJ9_vectorizedMismatch_179 : decode cJ9_vectorizedMismatch 179 = .ok (.getstatic 26, 3) := dk_178 0 26 (dk_at dksJ9_vectorizedMismatch_7 15 rfl rfl)
theorem dJ9_vectorizedMismatch_182 : decode cJ9_vectorizedMismatch 182 = .ok (.aload_n 3, 1) := dk_45 (dk_at dksJ9_vectorizedMismatch_7 18 rfl rfl)
theorem dJ9_vectorizedMismatch_183 : decode cJ9_vectorizedMismatch 183 = .ok (.lload 4, 2) := dk_22 4 (dk_at dksJ9_vectorizedMismatch_7 19 rfl rfl)
theorem dJ9_vectorizedMismatch_185 : decode cJ9_vectorizedMismatch 185 = .ok (.lload 12, 2) := dk_22 12 (dk_at dksJ9_vectorizedMismatch_7 21 rfl rfl)
theorem dJ9_vectorizedMismatch_187 : decode cJ9_vectorizedMismatch 187 = .ok (.ladd, 1) := dk_97 (dk_at dksJ9_vectorizedMismatch_7 23 rfl rfl)
theorem dJ9_vectorizedMismatch_188 : decode cJ9_vectorizedMismatch 188 = .ok (.invokevirtual 54, 3) := dk_182 0 54 (dk_at dksJ9_vectorizedMismatch_8 0 rfl rfl)
theorem dJ9_vectorizedMismatch_191 : decode cJ9_vectorizedMismatch 191 = .ok (.istore 15, 2) := dk_54 15 (dk_at dksJ9_vectorizedMismatch_8 3 rfl rfl)
theorem dJ9_vectorizedMismatch_193 : decode cJ9_vectorizedMismatch 193 = .ok (.iload 14, 2) := dk_21 14 (dk_at dksJ9_vectorizedMismatch_8 5 rfl rfl)
theorem dJ9_vectorizedMismatch_195 : decode cJ9_vectorizedMismatch 195 = .ok (.iload 15, 2) := dk_21 15 (dk_at dksJ9_vectorizedMismatch_8 7 rfl rfl)
theorem dJ9_vectorizedMismatch_197 : decode cJ9_vectorizedMismatch 197 = .ok (.if_icmp .eq 54, 3) := dk_159 0 54 (dk_at dksJ9_vectorizedMismatch_8 9 rfl rfl)
theorem dJ9_vectorizedMismatch_200 : decode cJ9_vectorizedMismatch 200 = .ok (.iload 14, 2) := dk_21 14 (dk_at dksJ9_vectorizedMismatch_8 12 rfl rfl)
theorem dJ9_vectorizedMismatch_202 : decode cJ9_vectorizedMismatch 202 = .ok (.iload 15, 2) := dk_21 15 (dk_at dksJ9_vectorizedMismatch_8 14 rfl rfl)
theorem dJ9_vectorizedMismatch_204 : decode cJ9_vectorizedMismatch 204 = .ok (.ixor, 1) := dk_130 (dk_at dksJ9_vectorizedMismatch_8 16 rfl rfl)
theorem dJ9_vectorizedMismatch_205 : decode cJ9_vectorizedMismatch 205 = .ok (.istore 16, 2) := dk_54 16 (dk_at dksJ9_vectorizedMismatch_8 17 rfl rfl)
theorem dJ9_vectorizedMismatch_207 : decode cJ9_vectorizedMismatch 207 = .ok (.getstatic 36, 3) := dk_178 0 36 (dk_at dksJ9_vectorizedMismatch_8 19 rfl rfl)
theorem dJ9_vectorizedMismatch_210 : decode cJ9_vectorizedMismatch 210 = .ok (.ifCond .eq 18, 3) := dk_153 0 18 (dk_at dksJ9_vectorizedMismatch_9 0 rfl rfl)
theorem dJ9_vectorizedMismatch_213 : decode cJ9_vectorizedMismatch 213 = .ok (.iload 16, 2) := dk_21 16 (dk_at dksJ9_vectorizedMismatch_9 3 rfl rfl)
theorem dJ9_vectorizedMismatch_215 : decode cJ9_vectorizedMismatch 215 = .ok (.invokestatic 58, 3) := dk_184 0 58 (dk_at dksJ9_vectorizedMismatch_9 5 rfl rfl)
theorem dJ9_vectorizedMismatch_218 : decode cJ9_vectorizedMismatch 218 = .ok (.getstatic 46, 3) := dk_178 0 46 (dk_at dksJ9_vectorizedMismatch_9 8 rfl rfl)
theorem dJ9_vectorizedMismatch_221 : decode cJ9_vectorizedMismatch 221 = .ok (.iload 7, 2) := dk_21 7 (dk_at dksJ9_vectorizedMismatch_9 11 rfl rfl)
theorem dJ9_vectorizedMismatch_223 : decode cJ9_vectorizedMismatch 223 = .ok (.iadd, 1) := dk_96 (dk_at dksJ9_vectorizedMismatch_9 13 rfl rfl)
theorem dJ9_vectorizedMismatch_224 : decode cJ9_vectorizedMismatch 224 = .ok (.ishr, 1) := dk_122 (dk_at dksJ9_vectorizedMismatch_9 14 rfl rfl)
theorem dJ9_vectorizedMismatch_225 : decode cJ9_vectorizedMismatch 225 = .ok (.goto 15, 3) := dk_167 0 15 (dk_at dksJ9_vectorizedMismatch_9 15 rfl rfl)
theorem dJ9_vectorizedMismatch_228 : decode cJ9_vectorizedMismatch 228 = .ok (.iload 16, 2) := dk_21 16 (dk_at dksJ9_vectorizedMismatch_9 18 rfl rfl)
theorem dJ9_vectorizedMismatch_230 : decode cJ9_vectorizedMismatch 230 = .ok (.invokestatic 11, 3) := dk_184 0 11 (dk_at dksJ9_vectorizedMismatch_9 20 rfl rfl)
theorem dJ9_vectorizedMismatch_233 : decode cJ9_vectorizedMismatch 233 = .ok (.getstatic 46, 3) := dk_178 0 46 (dk_at dksJ9_vectorizedMismatch_10 0 rfl rfl)
theorem dJ9_vectorizedMismatch_236 : decode cJ9_vectorizedMismatch 236 = .ok (.iload 7, 2) := dk_21 7 (dk_at dksJ9_vectorizedMismatch_10 3 rfl rfl)
theorem dJ9_vectorizedMismatch_238 : decode cJ9_vectorizedMismatch 238 = .ok (.iadd, 1) := dk_96 (dk_at dksJ9_vectorizedMismatch_10 5 rfl rfl)
theorem dJ9_vectorizedMismatch_239 : decode cJ9_vectorizedMismatch 239 = .ok (.ishr, 1) := dk_122 (dk_at dksJ9_vectorizedMismatch_10 6 rfl rfl)
theorem dJ9_vectorizedMismatch_240 : decode cJ9_vectorizedMismatch 240 = .ok (.istore 17, 2) := dk_54 17 (dk_at dksJ9_vectorizedMismatch_10 7 rfl rfl)
theorem dJ9_vectorizedMismatch_242 : decode cJ9_vectorizedMismatch 242 = .ok (.iload 9, 2) := dk_21 9 (dk_at dksJ9_vectorizedMismatch_10 9 rfl rfl)
theorem dJ9_vectorizedMismatch_244 : decode cJ9_vectorizedMismatch 244 = .ok (.iload 8, 2) := dk_21 8 (dk_at dksJ9_vectorizedMismatch_10 11 rfl rfl)
theorem dJ9_vectorizedMismatch_246 : decode cJ9_vectorizedMismatch 246 = .ok (.ishl, 1) := dk_120 (dk_at dksJ9_vectorizedMismatch_10 13 rfl rfl)
theorem dJ9_vectorizedMismatch_247 : decode cJ9_vectorizedMismatch 247 = .ok (.iload 17, 2) := dk_21 17 (dk_at dksJ9_vectorizedMismatch_10 14 rfl rfl)
theorem dJ9_vectorizedMismatch_249 : decode cJ9_vectorizedMismatch 249 = .ok (.iadd, 1) := dk_96 (dk_at dksJ9_vectorizedMismatch_10 16 rfl rfl)
theorem dJ9_vectorizedMismatch_250 : decode cJ9_vectorizedMismatch 250 = .ok (.ireturn, 1) := dk_172 (dk_at dksJ9_vectorizedMismatch_10 17 rfl rfl)
theorem dJ9_vectorizedMismatch_251 : decode cJ9_vectorizedMismatch 251 = .ok (.iload 10, 2) := dk_21 10 (dk_at dksJ9_vectorizedMismatch_10 18 rfl rfl)
theorem dJ9_vectorizedMismatch_253 : decode cJ9_vectorizedMismatch 253 = .ok (.iload 11, 2) := dk_21 11 (dk_at dksJ9_vectorizedMismatch_10 20 rfl rfl)
theorem dJ9_vectorizedMismatch_255 : decode cJ9_vectorizedMismatch 255 = .ok (.isub, 1) := dk_100 (dk_at dksJ9_vectorizedMismatch_10 22 rfl rfl)
theorem dJ9_vectorizedMismatch_256 : decode cJ9_vectorizedMismatch 256 = .ok (.istore 10, 2) := dk_54 10 (dk_at dksJ9_vectorizedMismatch_11 0 rfl rfl)
theorem dJ9_vectorizedMismatch_258 : decode cJ9_vectorizedMismatch 258 = .ok (.iload 10, 2) := dk_21 10 (dk_at dksJ9_vectorizedMismatch_11 2 rfl rfl)
theorem dJ9_vectorizedMismatch_260 : decode cJ9_vectorizedMismatch 260 = .ok (.iconst (-1), 1) := dk_2 (dk_at dksJ9_vectorizedMismatch_11 4 rfl rfl)
theorem dJ9_vectorizedMismatch_261 : decode cJ9_vectorizedMismatch 261 = .ok (.ixor, 1) := dk_130 (dk_at dksJ9_vectorizedMismatch_11 5 rfl rfl)
theorem dJ9_vectorizedMismatch_262 : decode cJ9_vectorizedMismatch 262 = .ok (.ireturn, 1) := dk_172 (dk_at dksJ9_vectorizedMismatch_11 6 rfl rfl)
theorem dJ9_vectorizedMismatch_263 : decode cJ9_vectorizedMismatch 263 = .ok (.iload 10, 2) := dk_21 10 (dk_at dksJ9_vectorizedMismatch_11 7 rfl rfl)
theorem dJ9_vectorizedMismatch_265 : decode cJ9_vectorizedMismatch 265 = .ok (.iconst (-1), 1) := dk_2 (dk_at dksJ9_vectorizedMismatch_11 9 rfl rfl)
theorem dJ9_vectorizedMismatch_266 : decode cJ9_vectorizedMismatch 266 = .ok (.ixor, 1) := dk_130 (dk_at dksJ9_vectorizedMismatch_11 10 rfl rfl)
theorem dJ9_vectorizedMismatch_267 : decode cJ9_vectorizedMismatch 267 = .ok (.ireturn, 1) := dk_172 (dk_at dksJ9_vectorizedMismatch_11 11 rfl rfl)
theorem q147 : (Jvm.Cond.initialized "jdk/internal/util/ArraysSupport") ∈ lw_all := lw_g (lw_at lw_m1 19 rfl) rfl
theorem q680 : (Jvm.Cond.static ({ cls := "jdk/internal/util/ArraysSupport", name := "newLength", desc := "(III)I" } : Jvm.MethodName)) ∈ lw_all := lw_g (lw_at lw_m3 72 rfl) rfl
theorem q681 : (Jvm.Cond.code ({ cls := "jdk/internal/util/ArraysSupport", name := "newLength", desc := "(III)I" } : Jvm.MethodName) prog_70_method_27_code (4 : Nat) (Option.some Jvm.ClassFile.FieldType.int)) ∈ lw_all := lw_g (lw_at lw_m3 73 rfl) rfl
theorem q682 : (Jvm.Cond.methodLink "jdk/internal/util/ArraysSupport" (194 : Nat) ({ cls := "java/lang/Math", name := "max", desc := "(II)I" } : Jvm.MethodName)) ∈ lw_all := lw_g (lw_at lw_m3 74 rfl) rfl
theorem q685 : (Jvm.Cond.constant "jdk/internal/util/ArraysSupport" (200 : Nat) (2147483639 : Int32)) ∈ lw_all := lw_g (lw_at lw_m3 77 rfl) rfl
theorem q686 : (Jvm.Cond.methodLink "jdk/internal/util/ArraysSupport" (201 : Nat) ({ cls := "jdk/internal/util/ArraysSupport", name := "hugeLength", desc := "(II)I" } : Jvm.MethodName)) ∈ lw_all := lw_g (lw_at lw_m3 78 rfl) rfl
theorem q687 : (Jvm.Cond.static ({ cls := "jdk/internal/util/ArraysSupport", name := "hugeLength", desc := "(II)I" } : Jvm.MethodName)) ∈ lw_all := lw_g (lw_at lw_m3 79 rfl) rfl
theorem q688 : (Jvm.Cond.code ({ cls := "jdk/internal/util/ArraysSupport", name := "hugeLength", desc := "(II)I" } : Jvm.MethodName) prog_70_method_28_code (3 : Nat) (Option.some Jvm.ClassFile.FieldType.int)) ∈ lw_all := lw_g (lw_at lw_m3 80 rfl) rfl
theorem q1251 : (Jvm.Cond.static ({ cls := "jdk/internal/util/ArraysSupport", name := "mismatch", desc := "([B[BI)I" } : Jvm.MethodName)) ∈ lw_all := lw_g (lw_at lw_m5 163 rfl) rfl
theorem q1252 : (Jvm.Cond.code ({ cls := "jdk/internal/util/ArraysSupport", name := "mismatch", desc := "([B[BI)I" } : Jvm.MethodName) prog_70_method_13_code (4 : Nat) (Option.some Jvm.ClassFile.FieldType.int)) ∈ lw_all := lw_g (lw_at lw_m5 164 rfl) rfl
theorem q1253 : (Jvm.Cond.fieldLink "jdk/internal/util/ArraysSupport" (126 : Nat) "jdk/internal/misc/Unsafe" "ARRAY_BYTE_BASE_OFFSET" "I") ∈ lw_all := lw_g (lw_at lw_m5 165 rfl) rfl
theorem q1255 : (Jvm.Cond.fieldLink "jdk/internal/util/ArraysSupport" (129 : Nat) "jdk/internal/util/ArraysSupport" "LOG2_ARRAY_BYTE_INDEX_SCALE" "I") ∈ lw_all := lw_g (lw_at lw_m5 167 rfl) rfl
theorem q1256 : (Jvm.Cond.laysStatic "jdk/internal/util/ArraysSupport" "LOG2_ARRAY_BYTE_INDEX_SCALE" "I") ∈ lw_tbl := lw_at lw_m5 168 rfl
theorem q1257 : (Jvm.Cond.methodLink "jdk/internal/util/ArraysSupport" (122 : Nat) ({ cls := "jdk/internal/util/ArraysSupport", name := "vectorizedMismatch", desc := "(Ljava/lang/Object;JLjava/lang/Object;JII)I" } : Jvm.MethodName)) ∈ lw_all := lw_g (lw_at lw_m5 169 rfl) rfl
theorem q1258 : (Jvm.Cond.static ({ cls := "jdk/internal/util/ArraysSupport", name := "vectorizedMismatch", desc := "(Ljava/lang/Object;JLjava/lang/Object;JII)I" } : Jvm.MethodName)) ∈ lw_all := lw_g (lw_at lw_m5 170 rfl) rfl
theorem q1259 : (Jvm.Cond.code ({ cls := "jdk/internal/util/ArraysSupport", name := "vectorizedMismatch", desc := "(Ljava/lang/Object;JLjava/lang/Object;JII)I" } : Jvm.MethodName) prog_70_method_3_code (19 : Nat) (Option.some Jvm.ClassFile.FieldType.int)) ∈ lw_all := lw_g (lw_at lw_m5 171 rfl) rfl
theorem q1260 : (Jvm.Cond.fieldLink "jdk/internal/util/ArraysSupport" (20 : Nat) "jdk/internal/util/ArraysSupport" "LOG2_ARRAY_LONG_INDEX_SCALE" "I") ∈ lw_all := lw_g (lw_at lw_m5 172 rfl) rfl
theorem q1261 : (Jvm.Cond.laysStatic "jdk/internal/util/ArraysSupport" "LOG2_ARRAY_LONG_INDEX_SCALE" "I") ∈ lw_tbl := lw_at lw_m5 173 rfl
theorem q1262 : (Jvm.Cond.fieldLink "jdk/internal/util/ArraysSupport" (26 : Nat) "jdk/internal/util/ArraysSupport" "U" "Ljdk/internal/misc/Unsafe;") ∈ lw_all := lw_g (lw_at lw_m5 174 rfl) rfl
theorem q1263 : (Jvm.Cond.laysStatic "jdk/internal/util/ArraysSupport" "U" "Ljdk/internal/misc/Unsafe;") ∈ lw_tbl := lw_at lw_m5 175 rfl
theorem q1264 : (Jvm.Cond.methodLink "jdk/internal/util/ArraysSupport" (30 : Nat) ({ cls := "jdk/internal/misc/Unsafe", name := "getLongUnaligned", desc := "(Ljava/lang/Object;J)J" } : Jvm.MethodName)) ∈ lw_all := lw_g (lw_at lw_m5 176 rfl) rfl
theorem q1316 : (Jvm.Cond.fieldLink "jdk/internal/util/ArraysSupport" (36 : Nat) "jdk/internal/util/ArraysSupport" "BIG_ENDIAN" "Z") ∈ lw_all := lw_g (lw_at lw_m5 228 rfl) rfl
theorem q1317 : (Jvm.Cond.laysStatic "jdk/internal/util/ArraysSupport" "BIG_ENDIAN" "Z") ∈ lw_tbl := lw_at lw_m5 229 rfl
theorem q1318 : (Jvm.Cond.methodLink "jdk/internal/util/ArraysSupport" (40 : Nat) ({ cls := "java/lang/Long", name := "numberOfLeadingZeros", desc := "(J)I" } : Jvm.MethodName)) ∈ lw_all := lw_g (lw_at lw_m5 230 rfl) rfl
theorem q1325 : (Jvm.Cond.fieldLink "jdk/internal/util/ArraysSupport" (46 : Nat) "jdk/internal/util/ArraysSupport" "LOG2_BYTE_BIT_SIZE" "I") ∈ lw_all := lw_g (lw_at lw_m5 237 rfl) rfl
theorem q1326 : (Jvm.Cond.laysStatic "jdk/internal/util/ArraysSupport" "LOG2_BYTE_BIT_SIZE" "I") ∈ lw_tbl := lw_at lw_m5 238 rfl
theorem q1327 : (Jvm.Cond.methodLink "jdk/internal/util/ArraysSupport" (49 : Nat) ({ cls := "java/lang/Long", name := "numberOfTrailingZeros", desc := "(J)I" } : Jvm.MethodName)) ∈ lw_all := lw_g (lw_at lw_m5 239 rfl) rfl
theorem q1333 : (Jvm.Cond.fieldLink "jdk/internal/util/ArraysSupport" (51 : Nat) "jdk/internal/util/ArraysSupport" "LOG2_ARRAY_INT_INDEX_SCALE" "I") ∈ lw_all := lw_g (lw_at lw_m6 5 rfl) rfl
theorem q1334 : (Jvm.Cond.laysStatic "jdk/internal/util/ArraysSupport" "LOG2_ARRAY_INT_INDEX_SCALE" "I") ∈ lw_tbl := lw_at lw_m6 6 rfl
theorem q1335 : (Jvm.Cond.methodLink "jdk/internal/util/ArraysSupport" (54 : Nat) ({ cls := "jdk/internal/misc/Unsafe", name := "getIntUnaligned", desc := "(Ljava/lang/Object;J)I" } : Jvm.MethodName)) ∈ lw_all := lw_g (lw_at lw_m6 7 rfl) rfl
theorem q1352 : (Jvm.Cond.methodLink "jdk/internal/util/ArraysSupport" (58 : Nat) ({ cls := "java/lang/Integer", name := "numberOfLeadingZeros", desc := "(I)I" } : Jvm.MethodName)) ∈ lw_all := lw_g (lw_at lw_m6 24 rfl) rfl
theorem q1353 : (Jvm.Cond.methodLink "jdk/internal/util/ArraysSupport" (11 : Nat) ({ cls := "java/lang/Integer", name := "numberOfTrailingZeros", desc := "(I)I" } : Jvm.MethodName)) ∈ lw_all := lw_g (lw_at lw_m6 25 rfl) rfl
