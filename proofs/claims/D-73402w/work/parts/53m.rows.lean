/-! the rows of two natives -/
set_option maxRecDepth 1000000 in
set_option maxHeartbeats 4000000 in
theorem getLong_row (p : Program) : NativeRow.find? p.tables.natives "jdk/internal/misc/Unsafe" "getLong" "(Ljava/lang/Object;J)J" = some (Native.jdk_internal_misc_Unsafe.memory.getRow "Long" "J" .long "" .plain) := by
  have h : NativeRow.find? Jvm.natives "jdk/internal/misc/Unsafe" "getLong" "(Ljava/lang/Object;J)J" = some (Native.jdk_internal_misc_Unsafe.memory.getRow "Long" "J" .long "" .plain) := by
    unfold NativeRow.find? Jvm.natives
    iterate 30 rw [List.find?_append]
    conv =>
      lhs
      enter [1, 1, 1, 1, 1, 1, 1, 1, 1, 1, 1, 1, 1, 1, 1, 1, 1, 1, 1, 1, 1, 1, 1, 1, 1, 1, 1, 1, 1, 1]
      tactic => exact Option.isNone_iff_eq_none.mp (by decide +kernel)
    rfl
  cases p <;> exact h
set_option maxRecDepth 1000000 in
set_option maxHeartbeats 4000000 in
theorem getInt_row (p : Program) : NativeRow.find? p.tables.natives "jdk/internal/misc/Unsafe" "getInt" "(Ljava/lang/Object;J)I" = some (Native.jdk_internal_misc_Unsafe.memory.getRow "Int" "I" .int "" .plain) := by
  have h : NativeRow.find? Jvm.natives "jdk/internal/misc/Unsafe" "getInt" "(Ljava/lang/Object;J)I" = some (Native.jdk_internal_misc_Unsafe.memory.getRow "Int" "I" .int "" .plain) := by
    unfold NativeRow.find? Jvm.natives
    iterate 30 rw [List.find?_append]
    conv =>
      lhs
      enter [1, 1, 1, 1, 1, 1, 1, 1, 1, 1, 1, 1, 1, 1, 1, 1, 1, 1, 1, 1, 1, 1, 1, 1, 1, 1, 1, 1, 1, 1]
      tactic => exact Option.isNone_iff_eq_none.mp (by decide +kernel)
    rfl
  cases p <;> exact h
