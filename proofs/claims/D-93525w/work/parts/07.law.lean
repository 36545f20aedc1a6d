/-! IntervalTreeLaw -/
set_option maxRecDepth 100000
def RX0 : String := "IntervalTreeLaw"
abbrev cX0_insert : ByteArray := method_3_code
def yX0_insert : MethodName := ⟨RX0, "insert", "(LIntervalTree;III[J)I"⟩
def dkwX0_insert_1 : List UInt8 := [172]
abbrev dktX0_insert_1 : List UInt8 := dkwX0_insert_1 ++ []
def dkwX0_insert_0 : List UInt8 := [25, 4, 3, 42, 27, 28, 29, 182, 0, 7, 133, 80, 167, 0, 11, 58, 5, 4, 172, 58, 5, 5, 172, 3]
abbrev dktX0_insert_0 : List UInt8 := dkwX0_insert_0 ++ dktX0_insert_1
theorem dksX0_insert_0 : cX0_insert.data.toList.drop 0 = dktX0_insert_0 := by decide +kernel
theorem dksX0_insert_1 : cX0_insert.data.toList.drop 24 = dktX0_insert_1 := dk_seg dksX0_insert_0 24 rfl rfl
theorem dX0_insert_0 : decode cX0_insert 0 = .ok (.aload 4, 2) := dk_25 4 (dk_at dksX0_insert_0 0 rfl rfl)
theorem dX0_insert_2 : decode cX0_insert 2 = .ok (.iconst 0, 1) := dk_3 (dk_at dksX0_insert_0 2 rfl rfl)
theorem dX0_insert_3 : decode cX0_insert 3 = .ok (.aload_n 0, 1) := dk_42 (dk_at dksX0_insert_0 3 rfl rfl)
theorem dX0_insert_4 : decode cX0_insert 4 = .ok (.iload_n 1, 1) := dk_27 (dk_at dksX0_insert_0 4 rfl rfl)
theorem dX0_insert_5 : decode cX0_insert 5 = .ok (.iload_n 2, 1) := dk_28 (dk_at dksX0_insert_0 5 rfl rfl)
theorem dX0_insert_6 : decode cX0_insert 6 = .ok (.iload_n 3, 1) := dk_29 (dk_at dksX0_insert_0 6 rfl rfl)
theorem dX0_insert_7 : decode cX0_insert 7 = .ok (.invokevirtual 7, 3) := dk_182 0 7 (dk_at dksX0_insert_0 7 rfl rfl)
theorem dX0_insert_10 : decode cX0_insert 10 = .ok (.i2l, 1) := dk_133 (dk_at dksX0_insert_0 10 rfl rfl)
theorem dX0_insert_11 : decode cX0_insert 11 = .ok (.lastore, 1) := dk_80 (dk_at dksX0_insert_0 11 rfl rfl)
theorem dX0_insert_12 : decode cX0_insert 12 = .ok (.goto 11, 3) := dk_167 0 11 (dk_at dksX0_insert_0 12 rfl rfl)
theorem dX0_insert_15 : decode cX0_insert 15 = .ok (.astore 5, 2) := dk_58 5 (dk_at dksX0_insert_0 15 rfl rfl)
theorem dX0_insert_17 : decode cX0_insert 17 = .ok (.iconst 1, 1) := dk_4 (dk_at dksX0_insert_0 17 rfl rfl)
theorem dX0_insert_18 : decode cX0_insert 18 = .ok (.ireturn, 1) := dk_172 (dk_at dksX0_insert_0 18 rfl rfl)
theorem dX0_insert_19 : decode cX0_insert 19 = .ok (.astore 5, 2) := dk_58 5 (dk_at dksX0_insert_0 19 rfl rfl)
theorem dX0_insert_21 : decode cX0_insert 21 = .ok (.iconst 2, 1) := dk_5 (dk_at dksX0_insert_0 21 rfl rfl)
theorem dX0_insert_22 : decode cX0_insert 22 = .ok (.ireturn, 1) := dk_172 (dk_at dksX0_insert_0 22 rfl rfl)
theorem dX0_insert_23 : decode cX0_insert 23 = .ok (.iconst 0, 1) := dk_3 (dk_at dksX0_insert_0 23 rfl rfl)
theorem dX0_insert_24 : decode cX0_insert 24 = .ok (.ireturn, 1) := dk_172 (dk_at dksX0_insert_1 0 rfl rfl)
abbrev cX0_remove : ByteArray := method_4_code
def yX0_remove : MethodName := ⟨RX0, "remove", "(LIntervalTree;I[J)I"⟩
def dkwX0_remove_0 : List UInt8 := [44, 3, 42, 27, 182, 0, 17, 133, 80, 167, 0, 6, 78, 4, 172, 3, 172]
abbrev dktX0_remove_0 : List UInt8 := dkwX0_remove_0 ++ []
theorem dksX0_remove_0 : cX0_remove.data.toList.drop 0 = dktX0_remove_0 := by decide +kernel
theorem dX0_remove_0 : decode cX0_remove 0 = .ok (.aload_n 2, 1) := dk_44 (dk_at dksX0_remove_0 0 rfl rfl)
theorem dX0_remove_1 : decode cX0_remove 1 = .ok (.iconst 0, 1) := dk_3 (dk_at dksX0_remove_0 1 rfl rfl)
theorem dX0_remove_2 : decode cX0_remove 2 = .ok (.aload_n 0, 1) := dk_42 (dk_at dksX0_remove_0 2 rfl rfl)
theorem dX0_remove_3 : decode cX0_remove 3 = .ok (.iload_n 1, 1) := dk_27 (dk_at dksX0_remove_0 3 rfl rfl)
theorem dX0_remove_4 : decode cX0_remove 4 = .ok (.invokevirtual 17, 3) := dk_182 0 17 (dk_at dksX0_remove_0 4 rfl rfl)
theorem dX0_remove_7 : decode cX0_remove 7 = .ok (.i2l, 1) := dk_133 (dk_at dksX0_remove_0 7 rfl rfl)
theorem dX0_remove_8 : decode cX0_remove 8 = .ok (.lastore, 1) := dk_80 (dk_at dksX0_remove_0 8 rfl rfl)
theorem dX0_remove_9 : decode cX0_remove 9 = .ok (.goto 6, 3) := dk_167 0 6 (dk_at dksX0_remove_0 9 rfl rfl)
theorem dX0_remove_12 : decode cX0_remove 12 = .ok (.astore_n 3, 1) := dk_78 (dk_at dksX0_remove_0 12 rfl rfl)
theorem dX0_remove_13 : decode cX0_remove 13 = .ok (.iconst 1, 1) := dk_4 (dk_at dksX0_remove_0 13 rfl rfl)
theorem dX0_remove_14 : decode cX0_remove 14 = .ok (.ireturn, 1) := dk_172 (dk_at dksX0_remove_0 14 rfl rfl)
theorem dX0_remove_15 : decode cX0_remove 15 = .ok (.iconst 0, 1) := dk_3 (dk_at dksX0_remove_0 15 rfl rfl)
theorem dX0_remove_16 : decode cX0_remove 16 = .ok (.ireturn, 1) := dk_172 (dk_at dksX0_remove_0 16 rfl rfl)
abbrev cX0_restore : ByteArray := method_5_code
def yX0_restore : MethodName := ⟨RX0, "restore", "(LIntervalTree;I[J)I"⟩
def dkwX0_restore_0 : List UInt8 := [44, 3, 42, 27, 182, 0, 23, 133, 80, 167, 0, 9, 78, 4, 172, 78, 5, 172, 3, 172]
abbrev dktX0_restore_0 : List UInt8 := dkwX0_restore_0 ++ []
theorem dksX0_restore_0 : cX0_restore.data.toList.drop 0 = dktX0_restore_0 := by decide +kernel
theorem dX0_restore_0 : decode cX0_restore 0 = .ok (.aload_n 2, 1) := dk_44 (dk_at dksX0_restore_0 0 rfl rfl)
theorem dX0_restore_1 : decode cX0_restore 1 = .ok (.iconst 0, 1) := dk_3 (dk_at dksX0_restore_0 1 rfl rfl)
theorem dX0_restore_2 : decode cX0_restore 2 = .ok (.aload_n 0, 1) := dk_42 (dk_at dksX0_restore_0 2 rfl rfl)
theorem dX0_restore_3 : decode cX0_restore 3 = .ok (.iload_n 1, 1) := dk_27 (dk_at dksX0_restore_0 3 rfl rfl)
theorem dX0_restore_4 : decode cX0_restore 4 = .ok (.invokevirtual 23, 3) := dk_182 0 23 (dk_at dksX0_restore_0 4 rfl rfl)
theorem dX0_restore_7 : decode cX0_restore 7 = .ok (.i2l, 1) := dk_133 (dk_at dksX0_restore_0 7 rfl rfl)
theorem dX0_restore_8 : decode cX0_restore 8 = .ok (.lastore, 1) := dk_80 (dk_at dksX0_restore_0 8 rfl rfl)
theorem dX0_restore_9 : decode cX0_restore 9 = .ok (.goto 9, 3) := dk_167 0 9 (dk_at dksX0_restore_0 9 rfl rfl)
theorem dX0_restore_12 : decode cX0_restore 12 = .ok (.astore_n 3, 1) := dk_78 (dk_at dksX0_restore_0 12 rfl rfl)
theorem dX0_restore_13 : decode cX0_restore 13 = .ok (.iconst 1, 1) := dk_4 (dk_at dksX0_restore_0 13 rfl rfl)
theorem dX0_restore_14 : decode cX0_restore 14 = .ok (.ireturn, 1) := dk_172 (dk_at dksX0_restore_0 14 rfl rfl)
theorem dX0_restore_15 : decode cX0_restore 15 = .ok (.astore_n 3, 1) := dk_78 (dk_at dksX0_restore_0 15 rfl rfl)
theorem dX0_restore_16 : decode cX0_restore 16 = .ok (.iconst 2, 1) := dk_5 (dk_at dksX0_restore_0 16 rfl rfl)
theorem dX0_restore_17 : decode cX0_restore 17 = .ok (.ireturn, 1) := dk_172 (dk_at dksX0_restore_0 17 rfl rfl)
theorem dX0_restore_18 : decode cX0_restore 18 = .ok (.iconst 0, 1) := dk_3 (dk_at dksX0_restore_0 18 rfl rfl)
theorem dX0_restore_19 : decode cX0_restore 19 = .ok (.ireturn, 1) := dk_172 (dk_at dksX0_restore_0 19 rfl rfl)
abbrev cX0_setRebuildPercentage : ByteArray := method_6_code
def yX0_setRebuildPercentage : MethodName := ⟨RX0, "setRebuildPercentage", "(LIntervalTree;I[J)I"⟩
def dkwX0_setRebuildPercentage_0 : List UInt8 := [44, 3, 42, 27, 182, 0, 26, 133, 80, 167, 0, 6, 78, 4, 172, 3, 172]
abbrev dktX0_setRebuildPercentage_0 : List UInt8 := dkwX0_setRebuildPercentage_0 ++ []
theorem dksX0_setRebuildPercentage_0 : cX0_setRebuildPercentage.data.toList.drop 0 = dktX0_setRebuildPercentage_0 := by decide +kernel
theorem dX0_setRebuildPercentage_0 : decode cX0_setRebuildPercentage 0 = .ok (.aload_n 2, 1) := dk_44 (dk_at dksX0_setRebuildPercentage_0 0 rfl rfl)
theorem dX0_setRebuildPercentage_1 : decode cX0_setRebuildPercentage 1 = .ok (.iconst 0, 1) := dk_3 (dk_at dksX0_setRebuildPercentage_0 1 rfl rfl)
theorem dX0_setRebuildPercentage_2 : decode cX0_setRebuildPercentage 2 = .ok (.aload_n 0, 1) := dk_42 (dk_at dksX0_setRebuildPercentage_0 2 rfl rfl)
theorem dX0_setRebuildPercentage_3 : decode cX0_setRebuildPercentage 3 = .ok (.iload_n 1, 1) := dk_27 (dk_at dksX0_setRebuildPercentage_0 3 rfl rfl)
theorem dX0_setRebuildPercentage_4 : decode cX0_setRebuildPercentage 4 = .ok (.invokevirtual 26, 3) := dk_182 0 26 (dk_at dksX0_setRebuildPercentage_0 4 rfl rfl)
theorem dX0_setRebuildPercentage_7 : decode cX0_setRebuildPercentage 7 = .ok (.i2l, 1) := dk_133 (dk_at dksX0_setRebuildPercentage_0 7 rfl rfl)
theorem dX0_setRebuildPercentage_8 : decode cX0_setRebuildPercentage 8 = .ok (.lastore, 1) := dk_80 (dk_at dksX0_setRebuildPercentage_0 8 rfl rfl)
theorem dX0_setRebuildPercentage_9 : decode cX0_setRebuildPercentage 9 = .ok (.goto 6, 3) := dk_167 0 6 (dk_at dksX0_setRebuildPercentage_0 9 rfl rfl)
theorem dX0_setRebuildPercentage_12 : decode cX0_setRebuildPercentage 12 = .ok (.astore_n 3, 1) := dk_78 (dk_at dksX0_setRebuildPercentage_0 12 rfl rfl)
theorem dX0_setRebuildPercentage_13 : decode cX0_setRebuildPercentage 13 = .ok (.iconst 1, 1) := dk_4 (dk_at dksX0_setRebuildPercentage_0 13 rfl rfl)
theorem dX0_setRebuildPercentage_14 : decode cX0_setRebuildPercentage 14 = .ok (.ireturn, 1) := dk_172 (dk_at dksX0_setRebuildPercentage_0 14 rfl rfl)
theorem dX0_setRebuildPercentage_15 : decode cX0_setRebuildPercentage 15 = .ok (.iconst 0, 1) := dk_3 (dk_at dksX0_setRebuildPercentage_0 15 rfl rfl)
theorem dX0_setRebuildPercentage_16 : decode cX0_setRebuildPercentage 16 = .ok (.ireturn, 1) := dk_172 (dk_at dksX0_setRebuildPercentage_0 16 rfl rfl)
abbrev cX0_addWeight : ByteArray := method_7_code
def yX0_addWeight : MethodName := ⟨RX0, "addWeight", "(LIntervalTree;III[J)I"⟩
def dkwX0_addWeight_0 : List UInt8 := [25, 4, 3, 42, 27, 28, 29, 182, 0, 29, 133, 80, 167, 0, 7, 58, 5, 4, 172, 3, 172]
abbrev dktX0_addWeight_0 : List UInt8 := dkwX0_addWeight_0 ++ []
theorem dksX0_addWeight_0 : cX0_addWeight.data.toList.drop 0 = dktX0_addWeight_0 := by decide +kernel
theorem dX0_addWeight_0 : decode cX0_addWeight 0 = .ok (.aload 4, 2) := dk_25 4 (dk_at dksX0_addWeight_0 0 rfl rfl)
theorem dX0_addWeight_2 : decode cX0_addWeight 2 = .ok (.iconst 0, 1) := dk_3 (dk_at dksX0_addWeight_0 2 rfl rfl)
theorem dX0_addWeight_3 : decode cX0_addWeight 3 = .ok (.aload_n 0, 1) := dk_42 (dk_at dksX0_addWeight_0 3 rfl rfl)
theorem dX0_addWeight_4 : decode cX0_addWeight 4 = .ok (.iload_n 1, 1) := dk_27 (dk_at dksX0_addWeight_0 4 rfl rfl)
theorem dX0_addWeight_5 : decode cX0_addWeight 5 = .ok (.iload_n 2, 1) := dk_28 (dk_at dksX0_addWeight_0 5 rfl rfl)
theorem dX0_addWeight_6 : decode cX0_addWeight 6 = .ok (.iload_n 3, 1) := dk_29 (dk_at dksX0_addWeight_0 6 rfl rfl)
theorem dX0_addWeight_7 : decode cX0_addWeight 7 = .ok (.invokevirtual 29, 3) := dk_182 0 29 (dk_at dksX0_addWeight_0 7 rfl rfl)
theorem dX0_addWeight_10 : decode cX0_addWeight 10 = .ok (.i2l, 1) := dk_133 (dk_at dksX0_addWeight_0 10 rfl rfl)
theorem dX0_addWeight_11 : decode cX0_addWeight 11 = .ok (.lastore, 1) := dk_80 (dk_at dksX0_addWeight_0 11 rfl rfl)
theorem dX0_addWeight_12 : decode cX0_addWeight 12 = .ok (.goto 7, 3) := dk_167 0 7 (dk_at dksX0_addWeight_0 12 rfl rfl)
theorem dX0_addWeight_15 : decode cX0_addWeight 15 = .ok (.astore 5, 2) := dk_58 5 (dk_at dksX0_addWeight_0 15 rfl rfl)
theorem dX0_addWeight_17 : decode cX0_addWeight 17 = .ok (.iconst 1, 1) := dk_4 (dk_at dksX0_addWeight_0 17 rfl rfl)
theorem dX0_addWeight_18 : decode cX0_addWeight 18 = .ok (.ireturn, 1) := dk_172 (dk_at dksX0_addWeight_0 18 rfl rfl)
theorem dX0_addWeight_19 : decode cX0_addWeight 19 = .ok (.iconst 0, 1) := dk_3 (dk_at dksX0_addWeight_0 19 rfl rfl)
theorem dX0_addWeight_20 : decode cX0_addWeight 20 = .ok (.ireturn, 1) := dk_172 (dk_at dksX0_addWeight_0 20 rfl rfl)
abbrev cX0_state : ByteArray := method_8_code
def yX0_state : MethodName := ⟨RX0, "state", "(LIntervalTree;I[J)I"⟩
def dkwX0_state_0 : List UInt8 := [44, 3, 42, 27, 182, 0, 32, 133, 80, 167, 0, 6, 78, 4, 172, 3, 172]
abbrev dktX0_state_0 : List UInt8 := dkwX0_state_0 ++ []
theorem dksX0_state_0 : cX0_state.data.toList.drop 0 = dktX0_state_0 := by decide +kernel
theorem dX0_state_0 : decode cX0_state 0 = .ok (.aload_n 2, 1) := dk_44 (dk_at dksX0_state_0 0 rfl rfl)
theorem dX0_state_1 : decode cX0_state 1 = .ok (.iconst 0, 1) := dk_3 (dk_at dksX0_state_0 1 rfl rfl)
theorem dX0_state_2 : decode cX0_state 2 = .ok (.aload_n 0, 1) := dk_42 (dk_at dksX0_state_0 2 rfl rfl)
theorem dX0_state_3 : decode cX0_state 3 = .ok (.iload_n 1, 1) := dk_27 (dk_at dksX0_state_0 3 rfl rfl)
theorem dX0_state_4 : decode cX0_state 4 = .ok (.invokevirtual 32, 3) := dk_182 0 32 (dk_at dksX0_state_0 4 rfl rfl)
theorem dX0_state_7 : decode cX0_state 7 = .ok (.i2l, 1) := dk_133 (dk_at dksX0_state_0 7 rfl rfl)
theorem dX0_state_8 : decode cX0_state 8 = .ok (.lastore, 1) := dk_80 (dk_at dksX0_state_0 8 rfl rfl)
theorem dX0_state_9 : decode cX0_state 9 = .ok (.goto 6, 3) := dk_167 0 6 (dk_at dksX0_state_0 9 rfl rfl)
theorem dX0_state_12 : decode cX0_state 12 = .ok (.astore_n 3, 1) := dk_78 (dk_at dksX0_state_0 12 rfl rfl)
theorem dX0_state_13 : decode cX0_state 13 = .ok (.iconst 1, 1) := dk_4 (dk_at dksX0_state_0 13 rfl rfl)
theorem dX0_state_14 : decode cX0_state 14 = .ok (.ireturn, 1) := dk_172 (dk_at dksX0_state_0 14 rfl rfl)
theorem dX0_state_15 : decode cX0_state 15 = .ok (.iconst 0, 1) := dk_3 (dk_at dksX0_state_0 15 rfl rfl)
theorem dX0_state_16 : decode cX0_state 16 = .ok (.ireturn, 1) := dk_172 (dk_at dksX0_state_0 16 rfl rfl)
abbrev cX0_low : ByteArray := method_9_code
def yX0_low : MethodName := ⟨RX0, "low", "(LIntervalTree;I[J)I"⟩
def dkwX0_low_0 : List UInt8 := [44, 3, 42, 27, 182, 0, 35, 133, 80, 167, 0, 6, 78, 4, 172, 3, 172]
abbrev dktX0_low_0 : List UInt8 := dkwX0_low_0 ++ []
theorem dksX0_low_0 : cX0_low.data.toList.drop 0 = dktX0_low_0 := by decide +kernel
theorem dX0_low_0 : decode cX0_low 0 = .ok (.aload_n 2, 1) := dk_44 (dk_at dksX0_low_0 0 rfl rfl)
theorem dX0_low_1 : decode cX0_low 1 = .ok (.iconst 0, 1) := dk_3 (dk_at dksX0_low_0 1 rfl rfl)
theorem dX0_low_2 : decode cX0_low 2 = .ok (.aload_n 0, 1) := dk_42 (dk_at dksX0_low_0 2 rfl rfl)
theorem dX0_low_3 : decode cX0_low 3 = .ok (.iload_n 1, 1) := dk_27 (dk_at dksX0_low_0 3 rfl rfl)
theorem dX0_low_4 : decode cX0_low 4 = .ok (.invokevirtual 35, 3) := dk_182 0 35 (dk_at dksX0_low_0 4 rfl rfl)
theorem dX0_low_7 : decode cX0_low 7 = .ok (.i2l, 1) := dk_133 (dk_at dksX0_low_0 7 rfl rfl)
theorem dX0_low_8 : decode cX0_low 8 = .ok (.lastore, 1) := dk_80 (dk_at dksX0_low_0 8 rfl rfl)
theorem dX0_low_9 : decode cX0_low 9 = .ok (.goto 6, 3) := dk_167 0 6 (dk_at dksX0_low_0 9 rfl rfl)
theorem dX0_low_12 : decode cX0_low 12 = .ok (.astore_n 3, 1) := dk_78 (dk_at dksX0_low_0 12 rfl rfl)
theorem dX0_low_13 : decode cX0_low 13 = .ok (.iconst 1, 1) := dk_4 (dk_at dksX0_low_0 13 rfl rfl)
theorem dX0_low_14 : decode cX0_low 14 = .ok (.ireturn, 1) := dk_172 (dk_at dksX0_low_0 14 rfl rfl)
theorem dX0_low_15 : decode cX0_low 15 = .ok (.iconst 0, 1) := dk_3 (dk_at dksX0_low_0 15 rfl rfl)
theorem dX0_low_16 : decode cX0_low 16 = .ok (.ireturn, 1) := dk_172 (dk_at dksX0_low_0 16 rfl rfl)
abbrev cX0_high : ByteArray := method_10_code
def yX0_high : MethodName := ⟨RX0, "high", "(LIntervalTree;I[J)I"⟩
def dkwX0_high_0 : List UInt8 := [44, 3, 42, 27, 182, 0, 38, 133, 80, 167, 0, 6, 78, 4, 172, 3, 172]
abbrev dktX0_high_0 : List UInt8 := dkwX0_high_0 ++ []
theorem dksX0_high_0 : cX0_high.data.toList.drop 0 = dktX0_high_0 := by decide +kernel
theorem dX0_high_0 : decode cX0_high 0 = .ok (.aload_n 2, 1) := dk_44 (dk_at dksX0_high_0 0 rfl rfl)
theorem dX0_high_1 : decode cX0_high 1 = .ok (.iconst 0, 1) := dk_3 (dk_at dksX0_high_0 1 rfl rfl)
theorem dX0_high_2 : decode cX0_high 2 = .ok (.aload_n 0, 1) := dk_42 (dk_at dksX0_high_0 2 rfl rfl)
theorem dX0_high_3 : decode cX0_high 3 = .ok (.iload_n 1, 1) := dk_27 (dk_at dksX0_high_0 3 rfl rfl)
theorem dX0_high_4 : decode cX0_high 4 = .ok (.invokevirtual 38, 3) := dk_182 0 38 (dk_at dksX0_high_0 4 rfl rfl)
theorem dX0_high_7 : decode cX0_high 7 = .ok (.i2l, 1) := dk_133 (dk_at dksX0_high_0 7 rfl rfl)
theorem dX0_high_8 : decode cX0_high 8 = .ok (.lastore, 1) := dk_80 (dk_at dksX0_high_0 8 rfl rfl)
theorem dX0_high_9 : decode cX0_high 9 = .ok (.goto 6, 3) := dk_167 0 6 (dk_at dksX0_high_0 9 rfl rfl)
theorem dX0_high_12 : decode cX0_high 12 = .ok (.astore_n 3, 1) := dk_78 (dk_at dksX0_high_0 12 rfl rfl)
theorem dX0_high_13 : decode cX0_high 13 = .ok (.iconst 1, 1) := dk_4 (dk_at dksX0_high_0 13 rfl rfl)
theorem dX0_high_14 : decode cX0_high 14 = .ok (.ireturn, 1) := dk_172 (dk_at dksX0_high_0 14 rfl rfl)
theorem dX0_high_15 : decode cX0_high 15 = .ok (.iconst 0, 1) := dk_3 (dk_at dksX0_high_0 15 rfl rfl)
theorem dX0_high_16 : decode cX0_high 16 = .ok (.ireturn, 1) := dk_172 (dk_at dksX0_high_0 16 rfl rfl)
abbrev cX0_weight : ByteArray := method_11_code
def yX0_weight : MethodName := ⟨RX0, "weight", "(LIntervalTree;I[J)I"⟩
def dkwX0_weight_0 : List UInt8 := [44, 3, 42, 27, 182, 0, 41, 133, 80, 167, 0, 6, 78, 4, 172, 3, 172]
abbrev dktX0_weight_0 : List UInt8 := dkwX0_weight_0 ++ []
theorem dksX0_weight_0 : cX0_weight.data.toList.drop 0 = dktX0_weight_0 := by decide +kernel
theorem dX0_weight_0 : decode cX0_weight 0 = .ok (.aload_n 2, 1) := dk_44 (dk_at dksX0_weight_0 0 rfl rfl)
theorem dX0_weight_1 : decode cX0_weight 1 = .ok (.iconst 0, 1) := dk_3 (dk_at dksX0_weight_0 1 rfl rfl)
theorem dX0_weight_2 : decode cX0_weight 2 = .ok (.aload_n 0, 1) := dk_42 (dk_at dksX0_weight_0 2 rfl rfl)
theorem dX0_weight_3 : decode cX0_weight 3 = .ok (.iload_n 1, 1) := dk_27 (dk_at dksX0_weight_0 3 rfl rfl)
theorem dX0_weight_4 : decode cX0_weight 4 = .ok (.invokevirtual 41, 3) := dk_182 0 41 (dk_at dksX0_weight_0 4 rfl rfl)
theorem dX0_weight_7 : decode cX0_weight 7 = .ok (.i2l, 1) := dk_133 (dk_at dksX0_weight_0 7 rfl rfl)
theorem dX0_weight_8 : decode cX0_weight 8 = .ok (.lastore, 1) := dk_80 (dk_at dksX0_weight_0 8 rfl rfl)
theorem dX0_weight_9 : decode cX0_weight 9 = .ok (.goto 6, 3) := dk_167 0 6 (dk_at dksX0_weight_0 9 rfl rfl)
theorem dX0_weight_12 : decode cX0_weight 12 = .ok (.astore_n 3, 1) := dk_78 (dk_at dksX0_weight_0 12 rfl rfl)
theorem dX0_weight_13 : decode cX0_weight 13 = .ok (.iconst 1, 1) := dk_4 (dk_at dksX0_weight_0 13 rfl rfl)
theorem dX0_weight_14 : decode cX0_weight 14 = .ok (.ireturn, 1) := dk_172 (dk_at dksX0_weight_0 14 rfl rfl)
theorem dX0_weight_15 : decode cX0_weight 15 = .ok (.iconst 0, 1) := dk_3 (dk_at dksX0_weight_0 15 rfl rfl)
theorem dX0_weight_16 : decode cX0_weight 16 = .ok (.ireturn, 1) := dk_172 (dk_at dksX0_weight_0 16 rfl rfl)
abbrev cX0_parent : ByteArray := method_12_code
def yX0_parent : MethodName := ⟨RX0, "parent", "(LIntervalTree;I[J)I"⟩
def dkwX0_parent_0 : List UInt8 := [44, 3, 42, 27, 182, 0, 44, 133, 80, 167, 0, 6, 78, 4, 172, 3, 172]
abbrev dktX0_parent_0 : List UInt8 := dkwX0_parent_0 ++ []
theorem dksX0_parent_0 : cX0_parent.data.toList.drop 0 = dktX0_parent_0 := by decide +kernel
theorem dX0_parent_0 : decode cX0_parent 0 = .ok (.aload_n 2, 1) := dk_44 (dk_at dksX0_parent_0 0 rfl rfl)
theorem dX0_parent_1 : decode cX0_parent 1 = .ok (.iconst 0, 1) := dk_3 (dk_at dksX0_parent_0 1 rfl rfl)
theorem dX0_parent_2 : decode cX0_parent 2 = .ok (.aload_n 0, 1) := dk_42 (dk_at dksX0_parent_0 2 rfl rfl)
theorem dX0_parent_3 : decode cX0_parent 3 = .ok (.iload_n 1, 1) := dk_27 (dk_at dksX0_parent_0 3 rfl rfl)
theorem dX0_parent_4 : decode cX0_parent 4 = .ok (.invokevirtual 44, 3) := dk_182 0 44 (dk_at dksX0_parent_0 4 rfl rfl)
theorem dX0_parent_7 : decode cX0_parent 7 = .ok (.i2l, 1) := dk_133 (dk_at dksX0_parent_0 7 rfl rfl)
theorem dX0_parent_8 : decode cX0_parent 8 = .ok (.lastore, 1) := dk_80 (dk_at dksX0_parent_0 8 rfl rfl)
theorem dX0_parent_9 : decode cX0_parent 9 = .ok (.goto 6, 3) := dk_167 0 6 (dk_at dksX0_parent_0 9 rfl rfl)
theorem dX0_parent_12 : decode cX0_parent 12 = .ok (.astore_n 3, 1) := dk_78 (dk_at dksX0_parent_0 12 rfl rfl)
theorem dX0_parent_13 : decode cX0_parent 13 = .ok (.iconst 1, 1) := dk_4 (dk_at dksX0_parent_0 13 rfl rfl)
theorem dX0_parent_14 : decode cX0_parent 14 = .ok (.ireturn, 1) := dk_172 (dk_at dksX0_parent_0 14 rfl rfl)
theorem dX0_parent_15 : decode cX0_parent 15 = .ok (.iconst 0, 1) := dk_3 (dk_at dksX0_parent_0 15 rfl rfl)
theorem dX0_parent_16 : decode cX0_parent 16 = .ok (.ireturn, 1) := dk_172 (dk_at dksX0_parent_0 16 rfl rfl)
abbrev cX0_child : ByteArray := method_13_code
def yX0_child : MethodName := ⟨RX0, "child", "(LIntervalTree;IZ[J)I"⟩
def dkwX0_child_0 : List UInt8 := [45, 3, 42, 27, 28, 182, 0, 47, 133, 80, 167, 0, 7, 58, 4, 4, 172, 3, 172]
abbrev dktX0_child_0 : List UInt8 := dkwX0_child_0 ++ []
theorem dksX0_child_0 : cX0_child.data.toList.drop 0 = dktX0_child_0 := by decide +kernel
theorem dX0_child_0 : decode cX0_child 0 = .ok (.aload_n 3, 1) := dk_45 (dk_at dksX0_child_0 0 rfl rfl)
theorem dX0_child_1 : decode cX0_child 1 = .ok (.iconst 0, 1) := dk_3 (dk_at dksX0_child_0 1 rfl rfl)
theorem dX0_child_2 : decode cX0_child 2 = .ok (.aload_n 0, 1) := dk_42 (dk_at dksX0_child_0 2 rfl rfl)
theorem dX0_child_3 : decode cX0_child 3 = .ok (.iload_n 1, 1) := dk_27 (dk_at dksX0_child_0 3 rfl rfl)
theorem dX0_child_4 : decode cX0_child 4 = .ok (.iload_n 2, 1) := dk_28 (dk_at dksX0_child_0 4 rfl rfl)
theorem dX0_child_5 : decode cX0_child 5 = .ok (.invokevirtual 47, 3) := dk_182 0 47 (dk_at dksX0_child_0 5 rfl rfl)
theorem dX0_child_8 : decode cX0_child 8 = .ok (.i2l, 1) := dk_133 (dk_at dksX0_child_0 8 rfl rfl)
theorem dX0_child_9 : decode cX0_child 9 = .ok (.lastore, 1) := dk_80 (dk_at dksX0_child_0 9 rfl rfl)
theorem dX0_child_10 : decode cX0_child 10 = .ok (.goto 7, 3) := dk_167 0 7 (dk_at dksX0_child_0 10 rfl rfl)
theorem dX0_child_13 : decode cX0_child 13 = .ok (.astore 4, 2) := dk_58 4 (dk_at dksX0_child_0 13 rfl rfl)
theorem dX0_child_15 : decode cX0_child 15 = .ok (.iconst 1, 1) := dk_4 (dk_at dksX0_child_0 15 rfl rfl)
theorem dX0_child_16 : decode cX0_child 16 = .ok (.ireturn, 1) := dk_172 (dk_at dksX0_child_0 16 rfl rfl)
theorem dX0_child_17 : decode cX0_child 17 = .ok (.iconst 0, 1) := dk_3 (dk_at dksX0_child_0 17 rfl rfl)
theorem dX0_child_18 : decode cX0_child 18 = .ok (.ireturn, 1) := dk_172 (dk_at dksX0_child_0 18 rfl rfl)
abbrev cX0_isRed : ByteArray := method_14_code
def yX0_isRed : MethodName := ⟨RX0, "isRed", "(LIntervalTree;I[J)I"⟩
def dkwX0_isRed_0 : List UInt8 := [44, 3, 42, 27, 182, 0, 51, 153, 0, 7, 10, 167, 0, 4, 9, 80, 167, 0, 6, 78, 4, 172, 3, 172]
abbrev dktX0_isRed_0 : List UInt8 := dkwX0_isRed_0 ++ []
theorem dksX0_isRed_0 : cX0_isRed.data.toList.drop 0 = dktX0_isRed_0 := by decide +kernel
theorem dX0_isRed_0 : decode cX0_isRed 0 = .ok (.aload_n 2, 1) := dk_44 (dk_at dksX0_isRed_0 0 rfl rfl)
theorem dX0_isRed_1 : decode cX0_isRed 1 = .ok (.iconst 0, 1) := dk_3 (dk_at dksX0_isRed_0 1 rfl rfl)
theorem dX0_isRed_2 : decode cX0_isRed 2 = .ok (.aload_n 0, 1) := dk_42 (dk_at dksX0_isRed_0 2 rfl rfl)
theorem dX0_isRed_3 : decode cX0_isRed 3 = .ok (.iload_n 1, 1) := dk_27 (dk_at dksX0_isRed_0 3 rfl rfl)
theorem dX0_isRed_4 : decode cX0_isRed 4 = .ok (.invokevirtual 51, 3) := dk_182 0 51 (dk_at dksX0_isRed_0 4 rfl rfl)
theorem dX0_isRed_7 : decode cX0_isRed 7 = .ok (.ifCond .eq 7, 3) := dk_153 0 7 (dk_at dksX0_isRed_0 7 rfl rfl)
theorem dX0_isRed_10 : decode cX0_isRed 10 = .ok (.lconst 1, 1) := dk_10 (dk_at dksX0_isRed_0 10 rfl rfl)
theorem dX0_isRed_11 : decode cX0_isRed 11 = .ok (.goto 4, 3) := dk_167 0 4 (dk_at dksX0_isRed_0 11 rfl rfl)
theorem dX0_isRed_14 : decode cX0_isRed 14 = .ok (.lconst 0, 1) := dk_9 (dk_at dksX0_isRed_0 14 rfl rfl)
theorem dX0_isRed_15 : decode cX0_isRed 15 = .ok (.lastore, 1) := dk_80 (dk_at dksX0_isRed_0 15 rfl rfl)
theorem dX0_isRed_16 : decode cX0_isRed 16 = .ok (.goto 6, 3) := dk_167 0 6 (dk_at dksX0_isRed_0 16 rfl rfl)
theorem dX0_isRed_19 : decode cX0_isRed 19 = .ok (.astore_n 3, 1) := dk_78 (dk_at dksX0_isRed_0 19 rfl rfl)
theorem dX0_isRed_20 : decode cX0_isRed 20 = .ok (.iconst 1, 1) := dk_4 (dk_at dksX0_isRed_0 20 rfl rfl)
theorem dX0_isRed_21 : decode cX0_isRed 21 = .ok (.ireturn, 1) := dk_172 (dk_at dksX0_isRed_0 21 rfl rfl)
theorem dX0_isRed_22 : decode cX0_isRed 22 = .ok (.iconst 0, 1) := dk_3 (dk_at dksX0_isRed_0 22 rfl rfl)
theorem dX0_isRed_23 : decode cX0_isRed 23 = .ok (.ireturn, 1) := dk_172 (dk_at dksX0_isRed_0 23 rfl rfl)
abbrev cX0_subtreeSize : ByteArray := method_15_code
def yX0_subtreeSize : MethodName := ⟨RX0, "subtreeSize", "(LIntervalTree;I[J)I"⟩
def dkwX0_subtreeSize_0 : List UInt8 := [44, 3, 42, 27, 182, 0, 55, 133, 80, 167, 0, 6, 78, 4, 172, 3, 172]
abbrev dktX0_subtreeSize_0 : List UInt8 := dkwX0_subtreeSize_0 ++ []
theorem dksX0_subtreeSize_0 : cX0_subtreeSize.data.toList.drop 0 = dktX0_subtreeSize_0 := by decide +kernel
theorem dX0_subtreeSize_0 : decode cX0_subtreeSize 0 = .ok (.aload_n 2, 1) := dk_44 (dk_at dksX0_subtreeSize_0 0 rfl rfl)
theorem dX0_subtreeSize_1 : decode cX0_subtreeSize 1 = .ok (.iconst 0, 1) := dk_3 (dk_at dksX0_subtreeSize_0 1 rfl rfl)
theorem dX0_subtreeSize_2 : decode cX0_subtreeSize 2 = .ok (.aload_n 0, 1) := dk_42 (dk_at dksX0_subtreeSize_0 2 rfl rfl)
theorem dX0_subtreeSize_3 : decode cX0_subtreeSize 3 = .ok (.iload_n 1, 1) := dk_27 (dk_at dksX0_subtreeSize_0 3 rfl rfl)
theorem dX0_subtreeSize_4 : decode cX0_subtreeSize 4 = .ok (.invokevirtual 55, 3) := dk_182 0 55 (dk_at dksX0_subtreeSize_0 4 rfl rfl)
theorem dX0_subtreeSize_7 : decode cX0_subtreeSize 7 = .ok (.i2l, 1) := dk_133 (dk_at dksX0_subtreeSize_0 7 rfl rfl)
theorem dX0_subtreeSize_8 : decode cX0_subtreeSize 8 = .ok (.lastore, 1) := dk_80 (dk_at dksX0_subtreeSize_0 8 rfl rfl)
theorem dX0_subtreeSize_9 : decode cX0_subtreeSize 9 = .ok (.goto 6, 3) := dk_167 0 6 (dk_at dksX0_subtreeSize_0 9 rfl rfl)
theorem dX0_subtreeSize_12 : decode cX0_subtreeSize 12 = .ok (.astore_n 3, 1) := dk_78 (dk_at dksX0_subtreeSize_0 12 rfl rfl)
theorem dX0_subtreeSize_13 : decode cX0_subtreeSize 13 = .ok (.iconst 1, 1) := dk_4 (dk_at dksX0_subtreeSize_0 13 rfl rfl)
theorem dX0_subtreeSize_14 : decode cX0_subtreeSize 14 = .ok (.ireturn, 1) := dk_172 (dk_at dksX0_subtreeSize_0 14 rfl rfl)
theorem dX0_subtreeSize_15 : decode cX0_subtreeSize 15 = .ok (.iconst 0, 1) := dk_3 (dk_at dksX0_subtreeSize_0 15 rfl rfl)
theorem dX0_subtreeSize_16 : decode cX0_subtreeSize 16 = .ok (.ireturn, 1) := dk_172 (dk_at dksX0_subtreeSize_0 16 rfl rfl)
abbrev cX0_subtreeHigh : ByteArray := method_16_code
def yX0_subtreeHigh : MethodName := ⟨RX0, "subtreeHigh", "(LIntervalTree;I[J)I"⟩
def dkwX0_subtreeHigh_0 : List UInt8 := [44, 3, 42, 27, 182, 0, 58, 133, 80, 167, 0, 9, 78, 4, 172, 78, 5, 172, 3, 172]
abbrev dktX0_subtreeHigh_0 : List UInt8 := dkwX0_subtreeHigh_0 ++ []
theorem dksX0_subtreeHigh_0 : cX0_subtreeHigh.data.toList.drop 0 = dktX0_subtreeHigh_0 := by decide +kernel
theorem dX0_subtreeHigh_0 : decode cX0_subtreeHigh 0 = .ok (.aload_n 2, 1) := dk_44 (dk_at dksX0_subtreeHigh_0 0 rfl rfl)
theorem dX0_subtreeHigh_1 : decode cX0_subtreeHigh 1 = .ok (.iconst 0, 1) := dk_3 (dk_at dksX0_subtreeHigh_0 1 rfl rfl)
theorem dX0_subtreeHigh_2 : decode cX0_subtreeHigh 2 = .ok (.aload_n 0, 1) := dk_42 (dk_at dksX0_subtreeHigh_0 2 rfl rfl)
theorem dX0_subtreeHigh_3 : decode cX0_subtreeHigh 3 = .ok (.iload_n 1, 1) := dk_27 (dk_at dksX0_subtreeHigh_0 3 rfl rfl)
theorem dX0_subtreeHigh_4 : decode cX0_subtreeHigh 4 = .ok (.invokevirtual 58, 3) := dk_182 0 58 (dk_at dksX0_subtreeHigh_0 4 rfl rfl)
theorem dX0_subtreeHigh_7 : decode cX0_subtreeHigh 7 = .ok (.i2l, 1) := dk_133 (dk_at dksX0_subtreeHigh_0 7 rfl rfl)
theorem dX0_subtreeHigh_8 : decode cX0_subtreeHigh 8 = .ok (.lastore, 1) := dk_80 (dk_at dksX0_subtreeHigh_0 8 rfl rfl)
theorem dX0_subtreeHigh_9 : decode cX0_subtreeHigh 9 = .ok (.goto 9, 3) := dk_167 0 9 (dk_at dksX0_subtreeHigh_0 9 rfl rfl)
theorem dX0_subtreeHigh_12 : decode cX0_subtreeHigh 12 = .ok (.astore_n 3, 1) := dk_78 (dk_at dksX0_subtreeHigh_0 12 rfl rfl)
theorem dX0_subtreeHigh_13 : decode cX0_subtreeHigh 13 = .ok (.iconst 1, 1) := dk_4 (dk_at dksX0_subtreeHigh_0 13 rfl rfl)
theorem dX0_subtreeHigh_14 : decode cX0_subtreeHigh 14 = .ok (.ireturn, 1) := dk_172 (dk_at dksX0_subtreeHigh_0 14 rfl rfl)
theorem dX0_subtreeHigh_15 : decode cX0_subtreeHigh 15 = .ok (.astore_n 3, 1) := dk_78 (dk_at dksX0_subtreeHigh_0 15 rfl rfl)
theorem dX0_subtreeHigh_16 : decode cX0_subtreeHigh 16 = .ok (.iconst 2, 1) := dk_5 (dk_at dksX0_subtreeHigh_0 16 rfl rfl)
theorem dX0_subtreeHigh_17 : decode cX0_subtreeHigh 17 = .ok (.ireturn, 1) := dk_172 (dk_at dksX0_subtreeHigh_0 17 rfl rfl)
theorem dX0_subtreeHigh_18 : decode cX0_subtreeHigh 18 = .ok (.iconst 0, 1) := dk_3 (dk_at dksX0_subtreeHigh_0 18 rfl rfl)
theorem dX0_subtreeHigh_19 : decode cX0_subtreeHigh 19 = .ok (.ireturn, 1) := dk_172 (dk_at dksX0_subtreeHigh_0 19 rfl rfl)
abbrev cX0_subtreeWeight : ByteArray := method_17_code
def yX0_subtreeWeight : MethodName := ⟨RX0, "subtreeWeight", "(LIntervalTree;I[J)I"⟩
def dkwX0_subtreeWeight_0 : List UInt8 := [44, 3, 42, 27, 182, 0, 61, 133, 80, 167, 0, 9, 78, 4, 172, 78, 5, 172, 3, 172]
abbrev dktX0_subtreeWeight_0 : List UInt8 := dkwX0_subtreeWeight_0 ++ []
theorem dksX0_subtreeWeight_0 : cX0_subtreeWeight.data.toList.drop 0 = dktX0_subtreeWeight_0 := by decide +kernel
theorem dX0_subtreeWeight_0 : decode cX0_subtreeWeight 0 = .ok (.aload_n 2, 1) := dk_44 (dk_at dksX0_subtreeWeight_0 0 rfl rfl)
theorem dX0_subtreeWeight_1 : decode cX0_subtreeWeight 1 = .ok (.iconst 0, 1) := dk_3 (dk_at dksX0_subtreeWeight_0 1 rfl rfl)
theorem dX0_subtreeWeight_2 : decode cX0_subtreeWeight 2 = .ok (.aload_n 0, 1) := dk_42 (dk_at dksX0_subtreeWeight_0 2 rfl rfl)
theorem dX0_subtreeWeight_3 : decode cX0_subtreeWeight 3 = .ok (.iload_n 1, 1) := dk_27 (dk_at dksX0_subtreeWeight_0 3 rfl rfl)
theorem dX0_subtreeWeight_4 : decode cX0_subtreeWeight 4 = .ok (.invokevirtual 61, 3) := dk_182 0 61 (dk_at dksX0_subtreeWeight_0 4 rfl rfl)
theorem dX0_subtreeWeight_7 : decode cX0_subtreeWeight 7 = .ok (.i2l, 1) := dk_133 (dk_at dksX0_subtreeWeight_0 7 rfl rfl)
theorem dX0_subtreeWeight_8 : decode cX0_subtreeWeight 8 = .ok (.lastore, 1) := dk_80 (dk_at dksX0_subtreeWeight_0 8 rfl rfl)
theorem dX0_subtreeWeight_9 : decode cX0_subtreeWeight 9 = .ok (.goto 9, 3) := dk_167 0 9 (dk_at dksX0_subtreeWeight_0 9 rfl rfl)
theorem dX0_subtreeWeight_12 : decode cX0_subtreeWeight 12 = .ok (.astore_n 3, 1) := dk_78 (dk_at dksX0_subtreeWeight_0 12 rfl rfl)
theorem dX0_subtreeWeight_13 : decode cX0_subtreeWeight 13 = .ok (.iconst 1, 1) := dk_4 (dk_at dksX0_subtreeWeight_0 13 rfl rfl)
theorem dX0_subtreeWeight_14 : decode cX0_subtreeWeight 14 = .ok (.ireturn, 1) := dk_172 (dk_at dksX0_subtreeWeight_0 14 rfl rfl)
theorem dX0_subtreeWeight_15 : decode cX0_subtreeWeight 15 = .ok (.astore_n 3, 1) := dk_78 (dk_at dksX0_subtreeWeight_0 15 rfl rfl)
theorem dX0_subtreeWeight_16 : decode cX0_subtreeWeight 16 = .ok (.iconst 2, 1) := dk_5 (dk_at dksX0_subtreeWeight_0 16 rfl rfl)
theorem dX0_subtreeWeight_17 : decode cX0_subtreeWeight 17 = .ok (.ireturn, 1) := dk_172 (dk_at dksX0_subtreeWeight_0 17 rfl rfl)
theorem dX0_subtreeWeight_18 : decode cX0_subtreeWeight 18 = .ok (.iconst 0, 1) := dk_3 (dk_at dksX0_subtreeWeight_0 18 rfl rfl)
theorem dX0_subtreeWeight_19 : decode cX0_subtreeWeight 19 = .ok (.ireturn, 1) := dk_172 (dk_at dksX0_subtreeWeight_0 19 rfl rfl)
abbrev cX0_heaviest : ByteArray := method_18_code
def yX0_heaviest : MethodName := ⟨RX0, "heaviest", "(LIntervalTree;II[J)I"⟩
def dkwX0_heaviest_0 : List UInt8 := [45, 3, 42, 27, 28, 182, 0, 64, 133, 80, 167, 0, 7, 58, 4, 4, 172, 3, 172]
abbrev dktX0_heaviest_0 : List UInt8 := dkwX0_heaviest_0 ++ []
theorem dksX0_heaviest_0 : cX0_heaviest.data.toList.drop 0 = dktX0_heaviest_0 := by decide +kernel
theorem dX0_heaviest_0 : decode cX0_heaviest 0 = .ok (.aload_n 3, 1) := dk_45 (dk_at dksX0_heaviest_0 0 rfl rfl)
theorem dX0_heaviest_1 : decode cX0_heaviest 1 = .ok (.iconst 0, 1) := dk_3 (dk_at dksX0_heaviest_0 1 rfl rfl)
theorem dX0_heaviest_2 : decode cX0_heaviest 2 = .ok (.aload_n 0, 1) := dk_42 (dk_at dksX0_heaviest_0 2 rfl rfl)
theorem dX0_heaviest_3 : decode cX0_heaviest 3 = .ok (.iload_n 1, 1) := dk_27 (dk_at dksX0_heaviest_0 3 rfl rfl)
theorem dX0_heaviest_4 : decode cX0_heaviest 4 = .ok (.iload_n 2, 1) := dk_28 (dk_at dksX0_heaviest_0 4 rfl rfl)
theorem dX0_heaviest_5 : decode cX0_heaviest 5 = .ok (.invokevirtual 64, 3) := dk_182 0 64 (dk_at dksX0_heaviest_0 5 rfl rfl)
theorem dX0_heaviest_8 : decode cX0_heaviest 8 = .ok (.i2l, 1) := dk_133 (dk_at dksX0_heaviest_0 8 rfl rfl)
theorem dX0_heaviest_9 : decode cX0_heaviest 9 = .ok (.lastore, 1) := dk_80 (dk_at dksX0_heaviest_0 9 rfl rfl)
theorem dX0_heaviest_10 : decode cX0_heaviest 10 = .ok (.goto 7, 3) := dk_167 0 7 (dk_at dksX0_heaviest_0 10 rfl rfl)
theorem dX0_heaviest_13 : decode cX0_heaviest 13 = .ok (.astore 4, 2) := dk_58 4 (dk_at dksX0_heaviest_0 13 rfl rfl)
theorem dX0_heaviest_15 : decode cX0_heaviest 15 = .ok (.iconst 1, 1) := dk_4 (dk_at dksX0_heaviest_0 15 rfl rfl)
theorem dX0_heaviest_16 : decode cX0_heaviest 16 = .ok (.ireturn, 1) := dk_172 (dk_at dksX0_heaviest_0 16 rfl rfl)
theorem dX0_heaviest_17 : decode cX0_heaviest 17 = .ok (.iconst 0, 1) := dk_3 (dk_at dksX0_heaviest_0 17 rfl rfl)
theorem dX0_heaviest_18 : decode cX0_heaviest 18 = .ok (.ireturn, 1) := dk_172 (dk_at dksX0_heaviest_0 18 rfl rfl)
abbrev cX0_heaviestOverlap : ByteArray := method_19_code
def yX0_heaviestOverlap : MethodName := ⟨RX0, "heaviestOverlap", "(LIntervalTree;III[J)I"⟩
def dkwX0_heaviestOverlap_0 : List UInt8 := [25, 4, 3, 42, 27, 28, 29, 182, 0, 68, 133, 80, 167, 0, 7, 58, 5, 4, 172, 3, 172]
abbrev dktX0_heaviestOverlap_0 : List UInt8 := dkwX0_heaviestOverlap_0 ++ []
theorem dksX0_heaviestOverlap_0 : cX0_heaviestOverlap.data.toList.drop 0 = dktX0_heaviestOverlap_0 := by decide +kernel
theorem dX0_heaviestOverlap_0 : decode cX0_heaviestOverlap 0 = .ok (.aload 4, 2) := dk_25 4 (dk_at dksX0_heaviestOverlap_0 0 rfl rfl)
theorem dX0_heaviestOverlap_2 : decode cX0_heaviestOverlap 2 = .ok (.iconst 0, 1) := dk_3 (dk_at dksX0_heaviestOverlap_0 2 rfl rfl)
theorem dX0_heaviestOverlap_3 : decode cX0_heaviestOverlap 3 = .ok (.aload_n 0, 1) := dk_42 (dk_at dksX0_heaviestOverlap_0 3 rfl rfl)
theorem dX0_heaviestOverlap_4 : decode cX0_heaviestOverlap 4 = .ok (.iload_n 1, 1) := dk_27 (dk_at dksX0_heaviestOverlap_0 4 rfl rfl)
theorem dX0_heaviestOverlap_5 : decode cX0_heaviestOverlap 5 = .ok (.iload_n 2, 1) := dk_28 (dk_at dksX0_heaviestOverlap_0 5 rfl rfl)
theorem dX0_heaviestOverlap_6 : decode cX0_heaviestOverlap 6 = .ok (.iload_n 3, 1) := dk_29 (dk_at dksX0_heaviestOverlap_0 6 rfl rfl)
theorem dX0_heaviestOverlap_7 : decode cX0_heaviestOverlap 7 = .ok (.invokevirtual 68, 3) := dk_182 0 68 (dk_at dksX0_heaviestOverlap_0 7 rfl rfl)
theorem dX0_heaviestOverlap_10 : decode cX0_heaviestOverlap 10 = .ok (.i2l, 1) := dk_133 (dk_at dksX0_heaviestOverlap_0 10 rfl rfl)
theorem dX0_heaviestOverlap_11 : decode cX0_heaviestOverlap 11 = .ok (.lastore, 1) := dk_80 (dk_at dksX0_heaviestOverlap_0 11 rfl rfl)
theorem dX0_heaviestOverlap_12 : decode cX0_heaviestOverlap 12 = .ok (.goto 7, 3) := dk_167 0 7 (dk_at dksX0_heaviestOverlap_0 12 rfl rfl)
theorem dX0_heaviestOverlap_15 : decode cX0_heaviestOverlap 15 = .ok (.astore 5, 2) := dk_58 5 (dk_at dksX0_heaviestOverlap_0 15 rfl rfl)
theorem dX0_heaviestOverlap_17 : decode cX0_heaviestOverlap 17 = .ok (.iconst 1, 1) := dk_4 (dk_at dksX0_heaviestOverlap_0 17 rfl rfl)
theorem dX0_heaviestOverlap_18 : decode cX0_heaviestOverlap 18 = .ok (.ireturn, 1) := dk_172 (dk_at dksX0_heaviestOverlap_0 18 rfl rfl)
theorem dX0_heaviestOverlap_19 : decode cX0_heaviestOverlap 19 = .ok (.iconst 0, 1) := dk_3 (dk_at dksX0_heaviestOverlap_0 19 rfl rfl)
theorem dX0_heaviestOverlap_20 : decode cX0_heaviestOverlap 20 = .ok (.ireturn, 1) := dk_172 (dk_at dksX0_heaviestOverlap_0 20 rfl rfl)
abbrev cX0_firstOverlap : ByteArray := method_20_code
def yX0_firstOverlap : MethodName := ⟨RX0, "firstOverlap", "(LIntervalTree;II[J)I"⟩
def dkwX0_firstOverlap_0 : List UInt8 := [45, 3, 42, 27, 28, 182, 0, 71, 133, 80, 167, 0, 7, 58, 4, 4, 172, 3, 172]
abbrev dktX0_firstOverlap_0 : List UInt8 := dkwX0_firstOverlap_0 ++ []
theorem dksX0_firstOverlap_0 : cX0_firstOverlap.data.toList.drop 0 = dktX0_firstOverlap_0 := by decide +kernel
theorem dX0_firstOverlap_0 : decode cX0_firstOverlap 0 = .ok (.aload_n 3, 1) := dk_45 (dk_at dksX0_firstOverlap_0 0 rfl rfl)
theorem dX0_firstOverlap_1 : decode cX0_firstOverlap 1 = .ok (.iconst 0, 1) := dk_3 (dk_at dksX0_firstOverlap_0 1 rfl rfl)
theorem dX0_firstOverlap_2 : decode cX0_firstOverlap 2 = .ok (.aload_n 0, 1) := dk_42 (dk_at dksX0_firstOverlap_0 2 rfl rfl)
theorem dX0_firstOverlap_3 : decode cX0_firstOverlap 3 = .ok (.iload_n 1, 1) := dk_27 (dk_at dksX0_firstOverlap_0 3 rfl rfl)
theorem dX0_firstOverlap_4 : decode cX0_firstOverlap 4 = .ok (.iload_n 2, 1) := dk_28 (dk_at dksX0_firstOverlap_0 4 rfl rfl)
theorem dX0_firstOverlap_5 : decode cX0_firstOverlap 5 = .ok (.invokevirtual 71, 3) := dk_182 0 71 (dk_at dksX0_firstOverlap_0 5 rfl rfl)
theorem dX0_firstOverlap_8 : decode cX0_firstOverlap 8 = .ok (.i2l, 1) := dk_133 (dk_at dksX0_firstOverlap_0 8 rfl rfl)
theorem dX0_firstOverlap_9 : decode cX0_firstOverlap 9 = .ok (.lastore, 1) := dk_80 (dk_at dksX0_firstOverlap_0 9 rfl rfl)
theorem dX0_firstOverlap_10 : decode cX0_firstOverlap 10 = .ok (.goto 7, 3) := dk_167 0 7 (dk_at dksX0_firstOverlap_0 10 rfl rfl)
theorem dX0_firstOverlap_13 : decode cX0_firstOverlap 13 = .ok (.astore 4, 2) := dk_58 4 (dk_at dksX0_firstOverlap_0 13 rfl rfl)
theorem dX0_firstOverlap_15 : decode cX0_firstOverlap 15 = .ok (.iconst 1, 1) := dk_4 (dk_at dksX0_firstOverlap_0 15 rfl rfl)
theorem dX0_firstOverlap_16 : decode cX0_firstOverlap 16 = .ok (.ireturn, 1) := dk_172 (dk_at dksX0_firstOverlap_0 16 rfl rfl)
theorem dX0_firstOverlap_17 : decode cX0_firstOverlap 17 = .ok (.iconst 0, 1) := dk_3 (dk_at dksX0_firstOverlap_0 17 rfl rfl)
theorem dX0_firstOverlap_18 : decode cX0_firstOverlap 18 = .ok (.ireturn, 1) := dk_172 (dk_at dksX0_firstOverlap_0 18 rfl rfl)
abbrev cX0_rank : ByteArray := method_21_code
def yX0_rank : MethodName := ⟨RX0, "rank", "(LIntervalTree;I[J)I"⟩
def dkwX0_rank_0 : List UInt8 := [44, 3, 42, 27, 182, 0, 74, 133, 80, 167, 0, 6, 78, 4, 172, 3, 172]
abbrev dktX0_rank_0 : List UInt8 := dkwX0_rank_0 ++ []
theorem dksX0_rank_0 : cX0_rank.data.toList.drop 0 = dktX0_rank_0 := by decide +kernel
theorem dX0_rank_0 : decode cX0_rank 0 = .ok (.aload_n 2, 1) := dk_44 (dk_at dksX0_rank_0 0 rfl rfl)
theorem dX0_rank_1 : decode cX0_rank 1 = .ok (.iconst 0, 1) := dk_3 (dk_at dksX0_rank_0 1 rfl rfl)
theorem dX0_rank_2 : decode cX0_rank 2 = .ok (.aload_n 0, 1) := dk_42 (dk_at dksX0_rank_0 2 rfl rfl)
theorem dX0_rank_3 : decode cX0_rank 3 = .ok (.iload_n 1, 1) := dk_27 (dk_at dksX0_rank_0 3 rfl rfl)
theorem dX0_rank_4 : decode cX0_rank 4 = .ok (.invokevirtual 74, 3) := dk_182 0 74 (dk_at dksX0_rank_0 4 rfl rfl)
theorem dX0_rank_7 : decode cX0_rank 7 = .ok (.i2l, 1) := dk_133 (dk_at dksX0_rank_0 7 rfl rfl)
theorem dX0_rank_8 : decode cX0_rank 8 = .ok (.lastore, 1) := dk_80 (dk_at dksX0_rank_0 8 rfl rfl)
theorem dX0_rank_9 : decode cX0_rank 9 = .ok (.goto 6, 3) := dk_167 0 6 (dk_at dksX0_rank_0 9 rfl rfl)
theorem dX0_rank_12 : decode cX0_rank 12 = .ok (.astore_n 3, 1) := dk_78 (dk_at dksX0_rank_0 12 rfl rfl)
theorem dX0_rank_13 : decode cX0_rank 13 = .ok (.iconst 1, 1) := dk_4 (dk_at dksX0_rank_0 13 rfl rfl)
theorem dX0_rank_14 : decode cX0_rank 14 = .ok (.ireturn, 1) := dk_172 (dk_at dksX0_rank_0 14 rfl rfl)
theorem dX0_rank_15 : decode cX0_rank 15 = .ok (.iconst 0, 1) := dk_3 (dk_at dksX0_rank_0 15 rfl rfl)
theorem dX0_rank_16 : decode cX0_rank 16 = .ok (.ireturn, 1) := dk_172 (dk_at dksX0_rank_0 16 rfl rfl)
abbrev cX0_select : ByteArray := method_22_code
def yX0_select : MethodName := ⟨RX0, "select", "(LIntervalTree;I[J)I"⟩
def dkwX0_select_0 : List UInt8 := [44, 3, 42, 27, 182, 0, 77, 133, 80, 167, 0, 6, 78, 4, 172, 3, 172]
abbrev dktX0_select_0 : List UInt8 := dkwX0_select_0 ++ []
theorem dksX0_select_0 : cX0_select.data.toList.drop 0 = dktX0_select_0 := by decide +kernel
theorem dX0_select_0 : decode cX0_select 0 = .ok (.aload_n 2, 1) := dk_44 (dk_at dksX0_select_0 0 rfl rfl)
theorem dX0_select_1 : decode cX0_select 1 = .ok (.iconst 0, 1) := dk_3 (dk_at dksX0_select_0 1 rfl rfl)
theorem dX0_select_2 : decode cX0_select 2 = .ok (.aload_n 0, 1) := dk_42 (dk_at dksX0_select_0 2 rfl rfl)
theorem dX0_select_3 : decode cX0_select 3 = .ok (.iload_n 1, 1) := dk_27 (dk_at dksX0_select_0 3 rfl rfl)
theorem dX0_select_4 : decode cX0_select 4 = .ok (.invokevirtual 77, 3) := dk_182 0 77 (dk_at dksX0_select_0 4 rfl rfl)
theorem dX0_select_7 : decode cX0_select 7 = .ok (.i2l, 1) := dk_133 (dk_at dksX0_select_0 7 rfl rfl)
theorem dX0_select_8 : decode cX0_select 8 = .ok (.lastore, 1) := dk_80 (dk_at dksX0_select_0 8 rfl rfl)
theorem dX0_select_9 : decode cX0_select 9 = .ok (.goto 6, 3) := dk_167 0 6 (dk_at dksX0_select_0 9 rfl rfl)
theorem dX0_select_12 : decode cX0_select 12 = .ok (.astore_n 3, 1) := dk_78 (dk_at dksX0_select_0 12 rfl rfl)
theorem dX0_select_13 : decode cX0_select 13 = .ok (.iconst 1, 1) := dk_4 (dk_at dksX0_select_0 13 rfl rfl)
theorem dX0_select_14 : decode cX0_select 14 = .ok (.ireturn, 1) := dk_172 (dk_at dksX0_select_0 14 rfl rfl)
theorem dX0_select_15 : decode cX0_select 15 = .ok (.iconst 0, 1) := dk_3 (dk_at dksX0_select_0 15 rfl rfl)
theorem dX0_select_16 : decode cX0_select 16 = .ok (.ireturn, 1) := dk_172 (dk_at dksX0_select_0 16 rfl rfl)
abbrev cX0_nearest : ByteArray := method_23_code
def yX0_nearest : MethodName := ⟨RX0, "nearest", "(LIntervalTree;I[J)I"⟩
def dkwX0_nearest_0 : List UInt8 := [44, 3, 42, 27, 182, 0, 82, 133, 80, 167, 0, 6, 78, 4, 172, 3, 172]
abbrev dktX0_nearest_0 : List UInt8 := dkwX0_nearest_0 ++ []
theorem dksX0_nearest_0 : cX0_nearest.data.toList.drop 0 = dktX0_nearest_0 := by decide +kernel
theorem dX0_nearest_0 : decode cX0_nearest 0 = .ok (.aload_n 2, 1) := dk_44 (dk_at dksX0_nearest_0 0 rfl rfl)
theorem dX0_nearest_1 : decode cX0_nearest 1 = .ok (.iconst 0, 1) := dk_3 (dk_at dksX0_nearest_0 1 rfl rfl)
theorem dX0_nearest_2 : decode cX0_nearest 2 = .ok (.aload_n 0, 1) := dk_42 (dk_at dksX0_nearest_0 2 rfl rfl)
theorem dX0_nearest_3 : decode cX0_nearest 3 = .ok (.iload_n 1, 1) := dk_27 (dk_at dksX0_nearest_0 3 rfl rfl)
theorem dX0_nearest_4 : decode cX0_nearest 4 = .ok (.invokevirtual 82, 3) := dk_182 0 82 (dk_at dksX0_nearest_0 4 rfl rfl)
theorem dX0_nearest_7 : decode cX0_nearest 7 = .ok (.i2l, 1) := dk_133 (dk_at dksX0_nearest_0 7 rfl rfl)
theorem dX0_nearest_8 : decode cX0_nearest 8 = .ok (.lastore, 1) := dk_80 (dk_at dksX0_nearest_0 8 rfl rfl)
theorem dX0_nearest_9 : decode cX0_nearest 9 = .ok (.goto 6, 3) := dk_167 0 6 (dk_at dksX0_nearest_0 9 rfl rfl)
theorem dX0_nearest_12 : decode cX0_nearest 12 = .ok (.astore_n 3, 1) := dk_78 (dk_at dksX0_nearest_0 12 rfl rfl)
theorem dX0_nearest_13 : decode cX0_nearest 13 = .ok (.iconst 1, 1) := dk_4 (dk_at dksX0_nearest_0 13 rfl rfl)
theorem dX0_nearest_14 : decode cX0_nearest 14 = .ok (.ireturn, 1) := dk_172 (dk_at dksX0_nearest_0 14 rfl rfl)
theorem dX0_nearest_15 : decode cX0_nearest 15 = .ok (.iconst 0, 1) := dk_3 (dk_at dksX0_nearest_0 15 rfl rfl)
theorem dX0_nearest_16 : decode cX0_nearest 16 = .ok (.ireturn, 1) := dk_172 (dk_at dksX0_nearest_0 16 rfl rfl)
abbrev cX0_covered : ByteArray := method_24_code
def yX0_covered : MethodName := ⟨RX0, "covered", "(LIntervalTree;II[J)I"⟩
def dkwX0_covered_0 : List UInt8 := [45, 3, 42, 27, 28, 182, 0, 85, 133, 80, 167, 0, 7, 58, 4, 4, 172, 3, 172]
abbrev dktX0_covered_0 : List UInt8 := dkwX0_covered_0 ++ []
theorem dksX0_covered_0 : cX0_covered.data.toList.drop 0 = dktX0_covered_0 := by decide +kernel
theorem dX0_covered_0 : decode cX0_covered 0 = .ok (.aload_n 3, 1) := dk_45 (dk_at dksX0_covered_0 0 rfl rfl)
theorem dX0_covered_1 : decode cX0_covered 1 = .ok (.iconst 0, 1) := dk_3 (dk_at dksX0_covered_0 1 rfl rfl)
theorem dX0_covered_2 : decode cX0_covered 2 = .ok (.aload_n 0, 1) := dk_42 (dk_at dksX0_covered_0 2 rfl rfl)
theorem dX0_covered_3 : decode cX0_covered 3 = .ok (.iload_n 1, 1) := dk_27 (dk_at dksX0_covered_0 3 rfl rfl)
theorem dX0_covered_4 : decode cX0_covered 4 = .ok (.iload_n 2, 1) := dk_28 (dk_at dksX0_covered_0 4 rfl rfl)
theorem dX0_covered_5 : decode cX0_covered 5 = .ok (.invokevirtual 85, 3) := dk_182 0 85 (dk_at dksX0_covered_0 5 rfl rfl)
theorem dX0_covered_8 : decode cX0_covered 8 = .ok (.i2l, 1) := dk_133 (dk_at dksX0_covered_0 8 rfl rfl)
theorem dX0_covered_9 : decode cX0_covered 9 = .ok (.lastore, 1) := dk_80 (dk_at dksX0_covered_0 9 rfl rfl)
theorem dX0_covered_10 : decode cX0_covered 10 = .ok (.goto 7, 3) := dk_167 0 7 (dk_at dksX0_covered_0 10 rfl rfl)
theorem dX0_covered_13 : decode cX0_covered 13 = .ok (.astore 4, 2) := dk_58 4 (dk_at dksX0_covered_0 13 rfl rfl)
theorem dX0_covered_15 : decode cX0_covered 15 = .ok (.iconst 1, 1) := dk_4 (dk_at dksX0_covered_0 15 rfl rfl)
theorem dX0_covered_16 : decode cX0_covered 16 = .ok (.ireturn, 1) := dk_172 (dk_at dksX0_covered_0 16 rfl rfl)
theorem dX0_covered_17 : decode cX0_covered 17 = .ok (.iconst 0, 1) := dk_3 (dk_at dksX0_covered_0 17 rfl rfl)
theorem dX0_covered_18 : decode cX0_covered 18 = .ok (.ireturn, 1) := dk_172 (dk_at dksX0_covered_0 18 rfl rfl)
abbrev cX0_deepestPoint : ByteArray := method_25_code
def yX0_deepestPoint : MethodName := ⟨RX0, "deepestPoint", "(LIntervalTree;[J)I"⟩
def dkwX0_deepestPoint_0 : List UInt8 := [43, 3, 42, 182, 0, 88, 133, 80, 167, 0, 6, 77, 4, 172, 3, 172]
abbrev dktX0_deepestPoint_0 : List UInt8 := dkwX0_deepestPoint_0 ++ []
theorem dksX0_deepestPoint_0 : cX0_deepestPoint.data.toList.drop 0 = dktX0_deepestPoint_0 := by decide +kernel
theorem dX0_deepestPoint_0 : decode cX0_deepestPoint 0 = .ok (.aload_n 1, 1) := dk_43 (dk_at dksX0_deepestPoint_0 0 rfl rfl)
theorem dX0_deepestPoint_1 : decode cX0_deepestPoint 1 = .ok (.iconst 0, 1) := dk_3 (dk_at dksX0_deepestPoint_0 1 rfl rfl)
theorem dX0_deepestPoint_2 : decode cX0_deepestPoint 2 = .ok (.aload_n 0, 1) := dk_42 (dk_at dksX0_deepestPoint_0 2 rfl rfl)
theorem dX0_deepestPoint_3 : decode cX0_deepestPoint 3 = .ok (.invokevirtual 88, 3) := dk_182 0 88 (dk_at dksX0_deepestPoint_0 3 rfl rfl)
theorem dX0_deepestPoint_6 : decode cX0_deepestPoint 6 = .ok (.i2l, 1) := dk_133 (dk_at dksX0_deepestPoint_0 6 rfl rfl)
theorem dX0_deepestPoint_7 : decode cX0_deepestPoint 7 = .ok (.lastore, 1) := dk_80 (dk_at dksX0_deepestPoint_0 7 rfl rfl)
theorem dX0_deepestPoint_8 : decode cX0_deepestPoint 8 = .ok (.goto 6, 3) := dk_167 0 6 (dk_at dksX0_deepestPoint_0 8 rfl rfl)
theorem dX0_deepestPoint_11 : decode cX0_deepestPoint 11 = .ok (.astore_n 2, 1) := dk_77 (dk_at dksX0_deepestPoint_0 11 rfl rfl)
theorem dX0_deepestPoint_12 : decode cX0_deepestPoint 12 = .ok (.iconst 1, 1) := dk_4 (dk_at dksX0_deepestPoint_0 12 rfl rfl)
theorem dX0_deepestPoint_13 : decode cX0_deepestPoint 13 = .ok (.ireturn, 1) := dk_172 (dk_at dksX0_deepestPoint_0 13 rfl rfl)
theorem dX0_deepestPoint_14 : decode cX0_deepestPoint 14 = .ok (.iconst 0, 1) := dk_3 (dk_at dksX0_deepestPoint_0 14 rfl rfl)
theorem dX0_deepestPoint_15 : decode cX0_deepestPoint 15 = .ok (.ireturn, 1) := dk_172 (dk_at dksX0_deepestPoint_0 15 rfl rfl)
abbrev cX0_scheduled : ByteArray := method_26_code
def yX0_scheduled : MethodName := ⟨RX0, "scheduled", "(LIntervalTree;I[J)I"⟩
def dkwX0_scheduled_0 : List UInt8 := [44, 3, 42, 27, 182, 0, 92, 133, 80, 167, 0, 6, 78, 4, 172, 3, 172]
abbrev dktX0_scheduled_0 : List UInt8 := dkwX0_scheduled_0 ++ []
theorem dksX0_scheduled_0 : cX0_scheduled.data.toList.drop 0 = dktX0_scheduled_0 := by decide +kernel
theorem dX0_scheduled_0 : decode cX0_scheduled 0 = .ok (.aload_n 2, 1) := dk_44 (dk_at dksX0_scheduled_0 0 rfl rfl)
theorem dX0_scheduled_1 : decode cX0_scheduled 1 = .ok (.iconst 0, 1) := dk_3 (dk_at dksX0_scheduled_0 1 rfl rfl)
theorem dX0_scheduled_2 : decode cX0_scheduled 2 = .ok (.aload_n 0, 1) := dk_42 (dk_at dksX0_scheduled_0 2 rfl rfl)
theorem dX0_scheduled_3 : decode cX0_scheduled 3 = .ok (.iload_n 1, 1) := dk_27 (dk_at dksX0_scheduled_0 3 rfl rfl)
theorem dX0_scheduled_4 : decode cX0_scheduled 4 = .ok (.invokevirtual 92, 3) := dk_182 0 92 (dk_at dksX0_scheduled_0 4 rfl rfl)
theorem dX0_scheduled_7 : decode cX0_scheduled 7 = .ok (.i2l, 1) := dk_133 (dk_at dksX0_scheduled_0 7 rfl rfl)
theorem dX0_scheduled_8 : decode cX0_scheduled 8 = .ok (.lastore, 1) := dk_80 (dk_at dksX0_scheduled_0 8 rfl rfl)
theorem dX0_scheduled_9 : decode cX0_scheduled 9 = .ok (.goto 6, 3) := dk_167 0 6 (dk_at dksX0_scheduled_0 9 rfl rfl)
theorem dX0_scheduled_12 : decode cX0_scheduled 12 = .ok (.astore_n 3, 1) := dk_78 (dk_at dksX0_scheduled_0 12 rfl rfl)
theorem dX0_scheduled_13 : decode cX0_scheduled 13 = .ok (.iconst 1, 1) := dk_4 (dk_at dksX0_scheduled_0 13 rfl rfl)
theorem dX0_scheduled_14 : decode cX0_scheduled 14 = .ok (.ireturn, 1) := dk_172 (dk_at dksX0_scheduled_0 14 rfl rfl)
theorem dX0_scheduled_15 : decode cX0_scheduled 15 = .ok (.iconst 0, 1) := dk_3 (dk_at dksX0_scheduled_0 15 rfl rfl)
theorem dX0_scheduled_16 : decode cX0_scheduled 16 = .ok (.ireturn, 1) := dk_172 (dk_at dksX0_scheduled_0 16 rfl rfl)
abbrev cX0_piercingPoint : ByteArray := method_27_code
def yX0_piercingPoint : MethodName := ⟨RX0, "piercingPoint", "(LIntervalTree;I[J)I"⟩
def dkwX0_piercingPoint_0 : List UInt8 := [44, 3, 42, 27, 182, 0, 95, 133, 80, 167, 0, 6, 78, 4, 172, 3, 172]
abbrev dktX0_piercingPoint_0 : List UInt8 := dkwX0_piercingPoint_0 ++ []
theorem dksX0_piercingPoint_0 : cX0_piercingPoint.data.toList.drop 0 = dktX0_piercingPoint_0 := by decide +kernel
theorem dX0_piercingPoint_0 : decode cX0_piercingPoint 0 = .ok (.aload_n 2, 1) := dk_44 (dk_at dksX0_piercingPoint_0 0 rfl rfl)
theorem dX0_piercingPoint_1 : decode cX0_piercingPoint 1 = .ok (.iconst 0, 1) := dk_3 (dk_at dksX0_piercingPoint_0 1 rfl rfl)
theorem dX0_piercingPoint_2 : decode cX0_piercingPoint 2 = .ok (.aload_n 0, 1) := dk_42 (dk_at dksX0_piercingPoint_0 2 rfl rfl)
theorem dX0_piercingPoint_3 : decode cX0_piercingPoint 3 = .ok (.iload_n 1, 1) := dk_27 (dk_at dksX0_piercingPoint_0 3 rfl rfl)
theorem dX0_piercingPoint_4 : decode cX0_piercingPoint 4 = .ok (.invokevirtual 95, 3) := dk_182 0 95 (dk_at dksX0_piercingPoint_0 4 rfl rfl)
theorem dX0_piercingPoint_7 : decode cX0_piercingPoint 7 = .ok (.i2l, 1) := dk_133 (dk_at dksX0_piercingPoint_0 7 rfl rfl)
theorem dX0_piercingPoint_8 : decode cX0_piercingPoint 8 = .ok (.lastore, 1) := dk_80 (dk_at dksX0_piercingPoint_0 8 rfl rfl)
theorem dX0_piercingPoint_9 : decode cX0_piercingPoint 9 = .ok (.goto 6, 3) := dk_167 0 6 (dk_at dksX0_piercingPoint_0 9 rfl rfl)
theorem dX0_piercingPoint_12 : decode cX0_piercingPoint 12 = .ok (.astore_n 3, 1) := dk_78 (dk_at dksX0_piercingPoint_0 12 rfl rfl)
theorem dX0_piercingPoint_13 : decode cX0_piercingPoint 13 = .ok (.iconst 1, 1) := dk_4 (dk_at dksX0_piercingPoint_0 13 rfl rfl)
theorem dX0_piercingPoint_14 : decode cX0_piercingPoint 14 = .ok (.ireturn, 1) := dk_172 (dk_at dksX0_piercingPoint_0 14 rfl rfl)
theorem dX0_piercingPoint_15 : decode cX0_piercingPoint 15 = .ok (.iconst 0, 1) := dk_3 (dk_at dksX0_piercingPoint_0 15 rfl rfl)
theorem dX0_piercingPoint_16 : decode cX0_piercingPoint 16 = .ok (.ireturn, 1) := dk_172 (dk_at dksX0_piercingPoint_0 16 rfl rfl)
abbrev cX0_addRangeFilter : ByteArray := method_28_code
def yX0_addRangeFilter : MethodName := ⟨RX0, "addRangeFilter", "(LIntervalTree;III[J)I"⟩
def dkwX0_addRangeFilter_1 : List UInt8 := [172]
abbrev dktX0_addRangeFilter_1 : List UInt8 := dkwX0_addRangeFilter_1 ++ []
def dkwX0_addRangeFilter_0 : List UInt8 := [25, 4, 3, 42, 27, 28, 29, 182, 0, 98, 133, 80, 167, 0, 11, 58, 5, 4, 172, 58, 5, 5, 172, 3]
abbrev dktX0_addRangeFilter_0 : List UInt8 := dkwX0_addRangeFilter_0 ++ dktX0_addRangeFilter_1
theorem dksX0_addRangeFilter_0 : cX0_addRangeFilter.data.toList.drop 0 = dktX0_addRangeFilter_0 := by decide +kernel
theorem dksX0_addRangeFilter_1 : cX0_addRangeFilter.data.toList.drop 24 = dktX0_addRangeFilter_1 := dk_seg dksX0_addRangeFilter_0 24 rfl rfl
theorem dX0_addRangeFilter_0 : decode cX0_addRangeFilter 0 = .ok (.aload 4, 2) := dk_25 4 (dk_at dksX0_addRangeFilter_0 0 rfl rfl)
theorem dX0_addRangeFilter_2 : decode cX0_addRangeFilter 2 = .ok (.iconst 0, 1) := dk_3 (dk_at dksX0_addRangeFilter_0 2 rfl rfl)
theorem dX0_addRangeFilter_3 : decode cX0_addRangeFilter 3 = .ok (.aload_n 0, 1) := dk_42 (dk_at dksX0_addRangeFilter_0 3 rfl rfl)
theorem dX0_addRangeFilter_4 : decode cX0_addRangeFilter 4 = .ok (.iload_n 1, 1) := dk_27 (dk_at dksX0_addRangeFilter_0 4 rfl rfl)
theorem dX0_addRangeFilter_5 : decode cX0_addRangeFilter 5 = .ok (.iload_n 2, 1) := dk_28 (dk_at dksX0_addRangeFilter_0 5 rfl rfl)
theorem dX0_addRangeFilter_6 : decode cX0_addRangeFilter 6 = .ok (.iload_n 3, 1) := dk_29 (dk_at dksX0_addRangeFilter_0 6 rfl rfl)
theorem dX0_addRangeFilter_7 : decode cX0_addRangeFilter 7 = .ok (.invokevirtual 98, 3) := dk_182 0 98 (dk_at dksX0_addRangeFilter_0 7 rfl rfl)
theorem dX0_addRangeFilter_10 : decode cX0_addRangeFilter 10 = .ok (.i2l, 1) := dk_133 (dk_at dksX0_addRangeFilter_0 10 rfl rfl)
theorem dX0_addRangeFilter_11 : decode cX0_addRangeFilter 11 = .ok (.lastore, 1) := dk_80 (dk_at dksX0_addRangeFilter_0 11 rfl rfl)
theorem dX0_addRangeFilter_12 : decode cX0_addRangeFilter 12 = .ok (.goto 11, 3) := dk_167 0 11 (dk_at dksX0_addRangeFilter_0 12 rfl rfl)
theorem dX0_addRangeFilter_15 : decode cX0_addRangeFilter 15 = .ok (.astore 5, 2) := dk_58 5 (dk_at dksX0_addRangeFilter_0 15 rfl rfl)
theorem dX0_addRangeFilter_17 : decode cX0_addRangeFilter 17 = .ok (.iconst 1, 1) := dk_4 (dk_at dksX0_addRangeFilter_0 17 rfl rfl)
theorem dX0_addRangeFilter_18 : decode cX0_addRangeFilter 18 = .ok (.ireturn, 1) := dk_172 (dk_at dksX0_addRangeFilter_0 18 rfl rfl)
theorem dX0_addRangeFilter_19 : decode cX0_addRangeFilter 19 = .ok (.astore 5, 2) := dk_58 5 (dk_at dksX0_addRangeFilter_0 19 rfl rfl)
theorem dX0_addRangeFilter_21 : decode cX0_addRangeFilter 21 = .ok (.iconst 2, 1) := dk_5 (dk_at dksX0_addRangeFilter_0 21 rfl rfl)
theorem dX0_addRangeFilter_22 : decode cX0_addRangeFilter 22 = .ok (.ireturn, 1) := dk_172 (dk_at dksX0_addRangeFilter_0 22 rfl rfl)
theorem dX0_addRangeFilter_23 : decode cX0_addRangeFilter 23 = .ok (.iconst 0, 1) := dk_3 (dk_at dksX0_addRangeFilter_0 23 rfl rfl)
theorem dX0_addRangeFilter_24 : decode cX0_addRangeFilter 24 = .ok (.ireturn, 1) := dk_172 (dk_at dksX0_addRangeFilter_1 0 rfl rfl)
abbrev cX0_addHeavierFilter : ByteArray := method_29_code
def yX0_addHeavierFilter : MethodName := ⟨RX0, "addHeavierFilter", "(LIntervalTree;I[J)I"⟩
def dkwX0_addHeavierFilter_0 : List UInt8 := [44, 3, 42, 27, 182, 0, 101, 133, 80, 167, 0, 9, 78, 4, 172, 78, 5, 172, 3, 172]
abbrev dktX0_addHeavierFilter_0 : List UInt8 := dkwX0_addHeavierFilter_0 ++ []
theorem dksX0_addHeavierFilter_0 : cX0_addHeavierFilter.data.toList.drop 0 = dktX0_addHeavierFilter_0 := by decide +kernel
theorem dX0_addHeavierFilter_0 : decode cX0_addHeavierFilter 0 = .ok (.aload_n 2, 1) := dk_44 (dk_at dksX0_addHeavierFilter_0 0 rfl rfl)
theorem dX0_addHeavierFilter_1 : decode cX0_addHeavierFilter 1 = .ok (.iconst 0, 1) := dk_3 (dk_at dksX0_addHeavierFilter_0 1 rfl rfl)
theorem dX0_addHeavierFilter_2 : decode cX0_addHeavierFilter 2 = .ok (.aload_n 0, 1) := dk_42 (dk_at dksX0_addHeavierFilter_0 2 rfl rfl)
theorem dX0_addHeavierFilter_3 : decode cX0_addHeavierFilter 3 = .ok (.iload_n 1, 1) := dk_27 (dk_at dksX0_addHeavierFilter_0 3 rfl rfl)
theorem dX0_addHeavierFilter_4 : decode cX0_addHeavierFilter 4 = .ok (.invokevirtual 101, 3) := dk_182 0 101 (dk_at dksX0_addHeavierFilter_0 4 rfl rfl)
theorem dX0_addHeavierFilter_7 : decode cX0_addHeavierFilter 7 = .ok (.i2l, 1) := dk_133 (dk_at dksX0_addHeavierFilter_0 7 rfl rfl)
theorem dX0_addHeavierFilter_8 : decode cX0_addHeavierFilter 8 = .ok (.lastore, 1) := dk_80 (dk_at dksX0_addHeavierFilter_0 8 rfl rfl)
theorem dX0_addHeavierFilter_9 : decode cX0_addHeavierFilter 9 = .ok (.goto 9, 3) := dk_167 0 9 (dk_at dksX0_addHeavierFilter_0 9 rfl rfl)
theorem dX0_addHeavierFilter_12 : decode cX0_addHeavierFilter 12 = .ok (.astore_n 3, 1) := dk_78 (dk_at dksX0_addHeavierFilter_0 12 rfl rfl)
theorem dX0_addHeavierFilter_13 : decode cX0_addHeavierFilter 13 = .ok (.iconst 1, 1) := dk_4 (dk_at dksX0_addHeavierFilter_0 13 rfl rfl)
theorem dX0_addHeavierFilter_14 : decode cX0_addHeavierFilter 14 = .ok (.ireturn, 1) := dk_172 (dk_at dksX0_addHeavierFilter_0 14 rfl rfl)
theorem dX0_addHeavierFilter_15 : decode cX0_addHeavierFilter 15 = .ok (.astore_n 3, 1) := dk_78 (dk_at dksX0_addHeavierFilter_0 15 rfl rfl)
theorem dX0_addHeavierFilter_16 : decode cX0_addHeavierFilter 16 = .ok (.iconst 2, 1) := dk_5 (dk_at dksX0_addHeavierFilter_0 16 rfl rfl)
theorem dX0_addHeavierFilter_17 : decode cX0_addHeavierFilter 17 = .ok (.ireturn, 1) := dk_172 (dk_at dksX0_addHeavierFilter_0 17 rfl rfl)
theorem dX0_addHeavierFilter_18 : decode cX0_addHeavierFilter 18 = .ok (.iconst 0, 1) := dk_3 (dk_at dksX0_addHeavierFilter_0 18 rfl rfl)
theorem dX0_addHeavierFilter_19 : decode cX0_addHeavierFilter 19 = .ok (.ireturn, 1) := dk_172 (dk_at dksX0_addHeavierFilter_0 19 rfl rfl)
abbrev cX0_addCombinedFilter : ByteArray := method_30_code
def yX0_addCombinedFilter : MethodName := ⟨RX0, "addCombinedFilter", "(LIntervalTree;III[J)I"⟩
def dkwX0_addCombinedFilter_1 : List UInt8 := [172]
abbrev dktX0_addCombinedFilter_1 : List UInt8 := dkwX0_addCombinedFilter_1 ++ []
def dkwX0_addCombinedFilter_0 : List UInt8 := [25, 4, 3, 42, 27, 28, 29, 182, 0, 104, 133, 80, 167, 0, 11, 58, 5, 4, 172, 58, 5, 5, 172, 3]
abbrev dktX0_addCombinedFilter_0 : List UInt8 := dkwX0_addCombinedFilter_0 ++ dktX0_addCombinedFilter_1
theorem dksX0_addCombinedFilter_0 : cX0_addCombinedFilter.data.toList.drop 0 = dktX0_addCombinedFilter_0 := by decide +kernel
theorem dksX0_addCombinedFilter_1 : cX0_addCombinedFilter.data.toList.drop 24 = dktX0_addCombinedFilter_1 := dk_seg dksX0_addCombinedFilter_0 24 rfl rfl
theorem dX0_addCombinedFilter_0 : decode cX0_addCombinedFilter 0 = .ok (.aload 4, 2) := dk_25 4 (dk_at dksX0_addCombinedFilter_0 0 rfl rfl)
theorem dX0_addCombinedFilter_2 : decode cX0_addCombinedFilter 2 = .ok (.iconst 0, 1) := dk_3 (dk_at dksX0_addCombinedFilter_0 2 rfl rfl)
theorem dX0_addCombinedFilter_3 : decode cX0_addCombinedFilter 3 = .ok (.aload_n 0, 1) := dk_42 (dk_at dksX0_addCombinedFilter_0 3 rfl rfl)
theorem dX0_addCombinedFilter_4 : decode cX0_addCombinedFilter 4 = .ok (.iload_n 1, 1) := dk_27 (dk_at dksX0_addCombinedFilter_0 4 rfl rfl)
theorem dX0_addCombinedFilter_5 : decode cX0_addCombinedFilter 5 = .ok (.iload_n 2, 1) := dk_28 (dk_at dksX0_addCombinedFilter_0 5 rfl rfl)
theorem dX0_addCombinedFilter_6 : decode cX0_addCombinedFilter 6 = .ok (.iload_n 3, 1) := dk_29 (dk_at dksX0_addCombinedFilter_0 6 rfl rfl)
theorem dX0_addCombinedFilter_7 : decode cX0_addCombinedFilter 7 = .ok (.invokevirtual 104, 3) := dk_182 0 104 (dk_at dksX0_addCombinedFilter_0 7 rfl rfl)
theorem dX0_addCombinedFilter_10 : decode cX0_addCombinedFilter 10 = .ok (.i2l, 1) := dk_133 (dk_at dksX0_addCombinedFilter_0 10 rfl rfl)
theorem dX0_addCombinedFilter_11 : decode cX0_addCombinedFilter 11 = .ok (.lastore, 1) := dk_80 (dk_at dksX0_addCombinedFilter_0 11 rfl rfl)
theorem dX0_addCombinedFilter_12 : decode cX0_addCombinedFilter 12 = .ok (.goto 11, 3) := dk_167 0 11 (dk_at dksX0_addCombinedFilter_0 12 rfl rfl)
theorem dX0_addCombinedFilter_15 : decode cX0_addCombinedFilter 15 = .ok (.astore 5, 2) := dk_58 5 (dk_at dksX0_addCombinedFilter_0 15 rfl rfl)
theorem dX0_addCombinedFilter_17 : decode cX0_addCombinedFilter 17 = .ok (.iconst 1, 1) := dk_4 (dk_at dksX0_addCombinedFilter_0 17 rfl rfl)
theorem dX0_addCombinedFilter_18 : decode cX0_addCombinedFilter 18 = .ok (.ireturn, 1) := dk_172 (dk_at dksX0_addCombinedFilter_0 18 rfl rfl)
theorem dX0_addCombinedFilter_19 : decode cX0_addCombinedFilter 19 = .ok (.astore 5, 2) := dk_58 5 (dk_at dksX0_addCombinedFilter_0 19 rfl rfl)
theorem dX0_addCombinedFilter_21 : decode cX0_addCombinedFilter 21 = .ok (.iconst 2, 1) := dk_5 (dk_at dksX0_addCombinedFilter_0 21 rfl rfl)
theorem dX0_addCombinedFilter_22 : decode cX0_addCombinedFilter 22 = .ok (.ireturn, 1) := dk_172 (dk_at dksX0_addCombinedFilter_0 22 rfl rfl)
theorem dX0_addCombinedFilter_23 : decode cX0_addCombinedFilter 23 = .ok (.iconst 0, 1) := dk_3 (dk_at dksX0_addCombinedFilter_0 23 rfl rfl)
theorem dX0_addCombinedFilter_24 : decode cX0_addCombinedFilter 24 = .ok (.ireturn, 1) := dk_172 (dk_at dksX0_addCombinedFilter_1 0 rfl rfl)
abbrev cX0_feed : ByteArray := method_31_code
def yX0_feed : MethodName := ⟨RX0, "feed", "(LIntervalTree;I[J)I"⟩
def dkwX0_feed_0 : List UInt8 := [44, 3, 42, 27, 182, 0, 107, 133, 80, 167, 0, 9, 78, 4, 172, 78, 5, 172, 3, 172]
abbrev dktX0_feed_0 : List UInt8 := dkwX0_feed_0 ++ []
theorem dksX0_feed_0 : cX0_feed.data.toList.drop 0 = dktX0_feed_0 := by decide +kernel
theorem dX0_feed_0 : decode cX0_feed 0 = .ok (.aload_n 2, 1) := dk_44 (dk_at dksX0_feed_0 0 rfl rfl)
theorem dX0_feed_1 : decode cX0_feed 1 = .ok (.iconst 0, 1) := dk_3 (dk_at dksX0_feed_0 1 rfl rfl)
theorem dX0_feed_2 : decode cX0_feed 2 = .ok (.aload_n 0, 1) := dk_42 (dk_at dksX0_feed_0 2 rfl rfl)
theorem dX0_feed_3 : decode cX0_feed 3 = .ok (.iload_n 1, 1) := dk_27 (dk_at dksX0_feed_0 3 rfl rfl)
theorem dX0_feed_4 : decode cX0_feed 4 = .ok (.invokevirtual 107, 3) := dk_182 0 107 (dk_at dksX0_feed_0 4 rfl rfl)
theorem dX0_feed_7 : decode cX0_feed 7 = .ok (.i2l, 1) := dk_133 (dk_at dksX0_feed_0 7 rfl rfl)
theorem dX0_feed_8 : decode cX0_feed 8 = .ok (.lastore, 1) := dk_80 (dk_at dksX0_feed_0 8 rfl rfl)
theorem dX0_feed_9 : decode cX0_feed 9 = .ok (.goto 9, 3) := dk_167 0 9 (dk_at dksX0_feed_0 9 rfl rfl)
theorem dX0_feed_12 : decode cX0_feed 12 = .ok (.astore_n 3, 1) := dk_78 (dk_at dksX0_feed_0 12 rfl rfl)
theorem dX0_feed_13 : decode cX0_feed 13 = .ok (.iconst 1, 1) := dk_4 (dk_at dksX0_feed_0 13 rfl rfl)
theorem dX0_feed_14 : decode cX0_feed 14 = .ok (.ireturn, 1) := dk_172 (dk_at dksX0_feed_0 14 rfl rfl)
theorem dX0_feed_15 : decode cX0_feed 15 = .ok (.astore_n 3, 1) := dk_78 (dk_at dksX0_feed_0 15 rfl rfl)
theorem dX0_feed_16 : decode cX0_feed 16 = .ok (.iconst 2, 1) := dk_5 (dk_at dksX0_feed_0 16 rfl rfl)
theorem dX0_feed_17 : decode cX0_feed 17 = .ok (.ireturn, 1) := dk_172 (dk_at dksX0_feed_0 17 rfl rfl)
theorem dX0_feed_18 : decode cX0_feed 18 = .ok (.iconst 0, 1) := dk_3 (dk_at dksX0_feed_0 18 rfl rfl)
theorem dX0_feed_19 : decode cX0_feed 19 = .ok (.ireturn, 1) := dk_172 (dk_at dksX0_feed_0 19 rfl rfl)
abbrev cX0_parseFilter : ByteArray := method_32_code
def yX0_parseFilter : MethodName := ⟨RX0, "parseFilter", "(LIntervalTree;[J)I"⟩
def dkwX0_parseFilter_0 : List UInt8 := [43, 3, 42, 182, 0, 110, 133, 80, 167, 0, 6, 77, 4, 172, 3, 172]
abbrev dktX0_parseFilter_0 : List UInt8 := dkwX0_parseFilter_0 ++ []
theorem dksX0_parseFilter_0 : cX0_parseFilter.data.toList.drop 0 = dktX0_parseFilter_0 := by decide +kernel
theorem dX0_parseFilter_0 : decode cX0_parseFilter 0 = .ok (.aload_n 1, 1) := dk_43 (dk_at dksX0_parseFilter_0 0 rfl rfl)
theorem dX0_parseFilter_1 : decode cX0_parseFilter 1 = .ok (.iconst 0, 1) := dk_3 (dk_at dksX0_parseFilter_0 1 rfl rfl)
theorem dX0_parseFilter_2 : decode cX0_parseFilter 2 = .ok (.aload_n 0, 1) := dk_42 (dk_at dksX0_parseFilter_0 2 rfl rfl)
theorem dX0_parseFilter_3 : decode cX0_parseFilter 3 = .ok (.invokevirtual 110, 3) := dk_182 0 110 (dk_at dksX0_parseFilter_0 3 rfl rfl)
theorem dX0_parseFilter_6 : decode cX0_parseFilter 6 = .ok (.i2l, 1) := dk_133 (dk_at dksX0_parseFilter_0 6 rfl rfl)
theorem dX0_parseFilter_7 : decode cX0_parseFilter 7 = .ok (.lastore, 1) := dk_80 (dk_at dksX0_parseFilter_0 7 rfl rfl)
theorem dX0_parseFilter_8 : decode cX0_parseFilter 8 = .ok (.goto 6, 3) := dk_167 0 6 (dk_at dksX0_parseFilter_0 8 rfl rfl)
theorem dX0_parseFilter_11 : decode cX0_parseFilter 11 = .ok (.astore_n 2, 1) := dk_77 (dk_at dksX0_parseFilter_0 11 rfl rfl)
theorem dX0_parseFilter_12 : decode cX0_parseFilter 12 = .ok (.iconst 1, 1) := dk_4 (dk_at dksX0_parseFilter_0 12 rfl rfl)
theorem dX0_parseFilter_13 : decode cX0_parseFilter 13 = .ok (.ireturn, 1) := dk_172 (dk_at dksX0_parseFilter_0 13 rfl rfl)
theorem dX0_parseFilter_14 : decode cX0_parseFilter 14 = .ok (.iconst 0, 1) := dk_3 (dk_at dksX0_parseFilter_0 14 rfl rfl)
theorem dX0_parseFilter_15 : decode cX0_parseFilter 15 = .ok (.ireturn, 1) := dk_172 (dk_at dksX0_parseFilter_0 15 rfl rfl)
abbrev cX0_matchCount : ByteArray := method_33_code
def yX0_matchCount : MethodName := ⟨RX0, "matchCount", "(LIntervalTree;I[J)I"⟩
def dkwX0_matchCount_0 : List UInt8 := [44, 3, 42, 27, 182, 0, 113, 133, 80, 167, 0, 6, 78, 4, 172, 3, 172]
abbrev dktX0_matchCount_0 : List UInt8 := dkwX0_matchCount_0 ++ []
theorem dksX0_matchCount_0 : cX0_matchCount.data.toList.drop 0 = dktX0_matchCount_0 := by decide +kernel
theorem dX0_matchCount_0 : decode cX0_matchCount 0 = .ok (.aload_n 2, 1) := dk_44 (dk_at dksX0_matchCount_0 0 rfl rfl)
theorem dX0_matchCount_1 : decode cX0_matchCount 1 = .ok (.iconst 0, 1) := dk_3 (dk_at dksX0_matchCount_0 1 rfl rfl)
theorem dX0_matchCount_2 : decode cX0_matchCount 2 = .ok (.aload_n 0, 1) := dk_42 (dk_at dksX0_matchCount_0 2 rfl rfl)
theorem dX0_matchCount_3 : decode cX0_matchCount 3 = .ok (.iload_n 1, 1) := dk_27 (dk_at dksX0_matchCount_0 3 rfl rfl)
theorem dX0_matchCount_4 : decode cX0_matchCount 4 = .ok (.invokevirtual 113, 3) := dk_182 0 113 (dk_at dksX0_matchCount_0 4 rfl rfl)
theorem dX0_matchCount_7 : decode cX0_matchCount 7 = .ok (.i2l, 1) := dk_133 (dk_at dksX0_matchCount_0 7 rfl rfl)
theorem dX0_matchCount_8 : decode cX0_matchCount 8 = .ok (.lastore, 1) := dk_80 (dk_at dksX0_matchCount_0 8 rfl rfl)
theorem dX0_matchCount_9 : decode cX0_matchCount 9 = .ok (.goto 6, 3) := dk_167 0 6 (dk_at dksX0_matchCount_0 9 rfl rfl)
theorem dX0_matchCount_12 : decode cX0_matchCount 12 = .ok (.astore_n 3, 1) := dk_78 (dk_at dksX0_matchCount_0 12 rfl rfl)
theorem dX0_matchCount_13 : decode cX0_matchCount 13 = .ok (.iconst 1, 1) := dk_4 (dk_at dksX0_matchCount_0 13 rfl rfl)
theorem dX0_matchCount_14 : decode cX0_matchCount 14 = .ok (.ireturn, 1) := dk_172 (dk_at dksX0_matchCount_0 14 rfl rfl)
theorem dX0_matchCount_15 : decode cX0_matchCount 15 = .ok (.iconst 0, 1) := dk_3 (dk_at dksX0_matchCount_0 15 rfl rfl)
theorem dX0_matchCount_16 : decode cX0_matchCount 16 = .ok (.ireturn, 1) := dk_172 (dk_at dksX0_matchCount_0 16 rfl rfl)
abbrev cX0_accepts : ByteArray := method_34_code
def yX0_accepts : MethodName := ⟨RX0, "accepts", "(LIntervalTree;II[J)I"⟩
def dkwX0_accepts_1 : List UInt8 := [58, 4, 5, 172, 3, 172]
abbrev dktX0_accepts_1 : List UInt8 := dkwX0_accepts_1 ++ []
def dkwX0_accepts_0 : List UInt8 := [45, 3, 42, 27, 28, 182, 0, 116, 153, 0, 7, 10, 167, 0, 4, 9, 80, 167, 0, 11, 58, 4, 4, 172]
abbrev dktX0_accepts_0 : List UInt8 := dkwX0_accepts_0 ++ dktX0_accepts_1
theorem dksX0_accepts_0 : cX0_accepts.data.toList.drop 0 = dktX0_accepts_0 := by decide +kernel
theorem dksX0_accepts_1 : cX0_accepts.data.toList.drop 24 = dktX0_accepts_1 := dk_seg dksX0_accepts_0 24 rfl rfl
theorem dX0_accepts_0 : decode cX0_accepts 0 = .ok (.aload_n 3, 1) := dk_45 (dk_at dksX0_accepts_0 0 rfl rfl)
theorem dX0_accepts_1 : decode cX0_accepts 1 = .ok (.iconst 0, 1) := dk_3 (dk_at dksX0_accepts_0 1 rfl rfl)
theorem dX0_accepts_2 : decode cX0_accepts 2 = .ok (.aload_n 0, 1) := dk_42 (dk_at dksX0_accepts_0 2 rfl rfl)
theorem dX0_accepts_3 : decode cX0_accepts 3 = .ok (.iload_n 1, 1) := dk_27 (dk_at dksX0_accepts_0 3 rfl rfl)
theorem dX0_accepts_4 : decode cX0_accepts 4 = .ok (.iload_n 2, 1) := dk_28 (dk_at dksX0_accepts_0 4 rfl rfl)
theorem dX0_accepts_5 : decode cX0_accepts 5 = .ok (.invokevirtual 116, 3) := dk_182 0 116 (dk_at dksX0_accepts_0 5 rfl rfl)
theorem dX0_accepts_8 : decode cX0_accepts 8 = .ok (.ifCond .eq 7, 3) := dk_153 0 7 (dk_at dksX0_accepts_0 8 rfl rfl)
theorem dX0_accepts_11 : decode cX0_accepts 11 = .ok (.lconst 1, 1) := dk_10 (dk_at dksX0_accepts_0 11 rfl rfl)
theorem dX0_accepts_12 : decode cX0_accepts 12 = .ok (.goto 4, 3) := dk_167 0 4 (dk_at dksX0_accepts_0 12 rfl rfl)
theorem dX0_accepts_15 : decode cX0_accepts 15 = .ok (.lconst 0, 1) := dk_9 (dk_at dksX0_accepts_0 15 rfl rfl)
theorem dX0_accepts_16 : decode cX0_accepts 16 = .ok (.lastore, 1) := dk_80 (dk_at dksX0_accepts_0 16 rfl rfl)
theorem dX0_accepts_17 : decode cX0_accepts 17 = .ok (.goto 11, 3) := dk_167 0 11 (dk_at dksX0_accepts_0 17 rfl rfl)
theorem dX0_accepts_20 : decode cX0_accepts 20 = .ok (.astore 4, 2) := dk_58 4 (dk_at dksX0_accepts_0 20 rfl rfl)
theorem dX0_accepts_22 : decode cX0_accepts 22 = .ok (.iconst 1, 1) := dk_4 (dk_at dksX0_accepts_0 22 rfl rfl)
theorem dX0_accepts_23 : decode cX0_accepts 23 = .ok (.ireturn, 1) := dk_172 (dk_at dksX0_accepts_0 23 rfl rfl)
theorem dX0_accepts_24 : decode cX0_accepts 24 = .ok (.astore 4, 2) := dk_58 4 (dk_at dksX0_accepts_1 0 rfl rfl)
theorem dX0_accepts_26 : decode cX0_accepts 26 = .ok (.iconst 2, 1) := dk_5 (dk_at dksX0_accepts_1 2 rfl rfl)
theorem dX0_accepts_27 : decode cX0_accepts 27 = .ok (.ireturn, 1) := dk_172 (dk_at dksX0_accepts_1 3 rfl rfl)
theorem dX0_accepts_28 : decode cX0_accepts 28 = .ok (.iconst 0, 1) := dk_3 (dk_at dksX0_accepts_1 4 rfl rfl)
theorem dX0_accepts_29 : decode cX0_accepts 29 = .ok (.ireturn, 1) := dk_172 (dk_at dksX0_accepts_1 5 rfl rfl)
abbrev cX0_open : ByteArray := method_35_code
def yX0_open : MethodName := ⟨RX0, "open", "(LIntervalTree;II[J)I"⟩
def dkwX0_open_0 : List UInt8 := [45, 3, 42, 27, 28, 182, 0, 120, 133, 80, 167, 0, 7, 58, 4, 4, 172, 3, 172]
abbrev dktX0_open_0 : List UInt8 := dkwX0_open_0 ++ []
theorem dksX0_open_0 : cX0_open.data.toList.drop 0 = dktX0_open_0 := by decide +kernel
theorem dX0_open_0 : decode cX0_open 0 = .ok (.aload_n 3, 1) := dk_45 (dk_at dksX0_open_0 0 rfl rfl)
theorem dX0_open_1 : decode cX0_open 1 = .ok (.iconst 0, 1) := dk_3 (dk_at dksX0_open_0 1 rfl rfl)
theorem dX0_open_2 : decode cX0_open 2 = .ok (.aload_n 0, 1) := dk_42 (dk_at dksX0_open_0 2 rfl rfl)
theorem dX0_open_3 : decode cX0_open 3 = .ok (.iload_n 1, 1) := dk_27 (dk_at dksX0_open_0 3 rfl rfl)
theorem dX0_open_4 : decode cX0_open 4 = .ok (.iload_n 2, 1) := dk_28 (dk_at dksX0_open_0 4 rfl rfl)
theorem dX0_open_5 : decode cX0_open 5 = .ok (.invokevirtual 120, 3) := dk_182 0 120 (dk_at dksX0_open_0 5 rfl rfl)
theorem dX0_open_8 : decode cX0_open 8 = .ok (.i2l, 1) := dk_133 (dk_at dksX0_open_0 8 rfl rfl)
theorem dX0_open_9 : decode cX0_open 9 = .ok (.lastore, 1) := dk_80 (dk_at dksX0_open_0 9 rfl rfl)
theorem dX0_open_10 : decode cX0_open 10 = .ok (.goto 7, 3) := dk_167 0 7 (dk_at dksX0_open_0 10 rfl rfl)
theorem dX0_open_13 : decode cX0_open 13 = .ok (.astore 4, 2) := dk_58 4 (dk_at dksX0_open_0 13 rfl rfl)
theorem dX0_open_15 : decode cX0_open 15 = .ok (.iconst 1, 1) := dk_4 (dk_at dksX0_open_0 15 rfl rfl)
theorem dX0_open_16 : decode cX0_open 16 = .ok (.ireturn, 1) := dk_172 (dk_at dksX0_open_0 16 rfl rfl)
theorem dX0_open_17 : decode cX0_open 17 = .ok (.iconst 0, 1) := dk_3 (dk_at dksX0_open_0 17 rfl rfl)
theorem dX0_open_18 : decode cX0_open 18 = .ok (.ireturn, 1) := dk_172 (dk_at dksX0_open_0 18 rfl rfl)
abbrev cX0_hasNext : ByteArray := method_36_code
def yX0_hasNext : MethodName := ⟨RX0, "hasNext", "(LIntervalTree;I[J)I"⟩
def dkwX0_hasNext_1 : List UInt8 := [172, 3, 172]
abbrev dktX0_hasNext_1 : List UInt8 := dkwX0_hasNext_1 ++ []
def dkwX0_hasNext_0 : List UInt8 := [44, 3, 42, 27, 182, 0, 123, 153, 0, 7, 10, 167, 0, 4, 9, 80, 167, 0, 9, 78, 4, 172, 78, 5]
abbrev dktX0_hasNext_0 : List UInt8 := dkwX0_hasNext_0 ++ dktX0_hasNext_1
theorem dksX0_hasNext_0 : cX0_hasNext.data.toList.drop 0 = dktX0_hasNext_0 := by decide +kernel
theorem dksX0_hasNext_1 : cX0_hasNext.data.toList.drop 24 = dktX0_hasNext_1 := dk_seg dksX0_hasNext_0 24 rfl rfl
theorem dX0_hasNext_0 : decode cX0_hasNext 0 = .ok (.aload_n 2, 1) := dk_44 (dk_at dksX0_hasNext_0 0 rfl rfl)
theorem dX0_hasNext_1 : decode cX0_hasNext 1 = .ok (.iconst 0, 1) := dk_3 (dk_at dksX0_hasNext_0 1 rfl rfl)
theorem dX0_hasNext_2 : decode cX0_hasNext 2 = .ok (.aload_n 0, 1) := dk_42 (dk_at dksX0_hasNext_0 2 rfl rfl)
theorem dX0_hasNext_3 : decode cX0_hasNext 3 = .ok (.iload_n 1, 1) := dk_27 (dk_at dksX0_hasNext_0 3 rfl rfl)
theorem dX0_hasNext_4 : decode cX0_hasNext 4 = .ok (.invokevirtual 123, 3) := dk_182 0 123 (dk_at dksX0_hasNext_0 4 rfl rfl)
theorem dX0_hasNext_7 : decode cX0_hasNext 7 = .ok (.ifCond .eq 7, 3) := dk_153 0 7 (dk_at dksX0_hasNext_0 7 rfl rfl)
theorem dX0_hasNext_10 : decode cX0_hasNext 10 = .ok (.lconst 1, 1) := dk_10 (dk_at dksX0_hasNext_0 10 rfl rfl)
theorem dX0_hasNext_11 : decode cX0_hasNext 11 = .ok (.goto 4, 3) := dk_167 0 4 (dk_at dksX0_hasNext_0 11 rfl rfl)
theorem dX0_hasNext_14 : decode cX0_hasNext 14 = .ok (.lconst 0, 1) := dk_9 (dk_at dksX0_hasNext_0 14 rfl rfl)
theorem dX0_hasNext_15 : decode cX0_hasNext 15 = .ok (.lastore, 1) := dk_80 (dk_at dksX0_hasNext_0 15 rfl rfl)
theorem dX0_hasNext_16 : decode cX0_hasNext 16 = .ok (.goto 9, 3) := dk_167 0 9 (dk_at dksX0_hasNext_0 16 rfl rfl)
theorem dX0_hasNext_19 : decode cX0_hasNext 19 = .ok (.astore_n 3, 1) := dk_78 (dk_at dksX0_hasNext_0 19 rfl rfl)
theorem dX0_hasNext_20 : decode cX0_hasNext 20 = .ok (.iconst 1, 1) := dk_4 (dk_at dksX0_hasNext_0 20 rfl rfl)
theorem dX0_hasNext_21 : decode cX0_hasNext 21 = .ok (.ireturn, 1) := dk_172 (dk_at dksX0_hasNext_0 21 rfl rfl)
theorem dX0_hasNext_22 : decode cX0_hasNext 22 = .ok (.astore_n 3, 1) := dk_78 (dk_at dksX0_hasNext_0 22 rfl rfl)
theorem dX0_hasNext_23 : decode cX0_hasNext 23 = .ok (.iconst 2, 1) := dk_5 (dk_at dksX0_hasNext_0 23 rfl rfl)
theorem dX0_hasNext_24 : decode cX0_hasNext 24 = .ok (.ireturn, 1) := dk_172 (dk_at dksX0_hasNext_1 0 rfl rfl)
theorem dX0_hasNext_25 : decode cX0_hasNext 25 = .ok (.iconst 0, 1) := dk_3 (dk_at dksX0_hasNext_1 1 rfl rfl)
theorem dX0_hasNext_26 : decode cX0_hasNext 26 = .ok (.ireturn, 1) := dk_172 (dk_at dksX0_hasNext_1 2 rfl rfl)
abbrev cX0_next : ByteArray := method_37_code
def yX0_next : MethodName := ⟨RX0, "next", "(LIntervalTree;I[J)I"⟩
def dkwX0_next_0 : List UInt8 := [44, 3, 42, 27, 182, 0, 126, 133, 80, 167, 0, 12, 78, 4, 172, 78, 5, 172, 78, 6, 172, 3, 172]
abbrev dktX0_next_0 : List UInt8 := dkwX0_next_0 ++ []
theorem dksX0_next_0 : cX0_next.data.toList.drop 0 = dktX0_next_0 := by decide +kernel
theorem dX0_next_0 : decode cX0_next 0 = .ok (.aload_n 2, 1) := dk_44 (dk_at dksX0_next_0 0 rfl rfl)
theorem dX0_next_1 : decode cX0_next 1 = .ok (.iconst 0, 1) := dk_3 (dk_at dksX0_next_0 1 rfl rfl)
theorem dX0_next_2 : decode cX0_next 2 = .ok (.aload_n 0, 1) := dk_42 (dk_at dksX0_next_0 2 rfl rfl)
theorem dX0_next_3 : decode cX0_next 3 = .ok (.iload_n 1, 1) := dk_27 (dk_at dksX0_next_0 3 rfl rfl)
theorem dX0_next_4 : decode cX0_next 4 = .ok (.invokevirtual 126, 3) := dk_182 0 126 (dk_at dksX0_next_0 4 rfl rfl)
theorem dX0_next_7 : decode cX0_next 7 = .ok (.i2l, 1) := dk_133 (dk_at dksX0_next_0 7 rfl rfl)
theorem dX0_next_8 : decode cX0_next 8 = .ok (.lastore, 1) := dk_80 (dk_at dksX0_next_0 8 rfl rfl)
theorem dX0_next_9 : decode cX0_next 9 = .ok (.goto 12, 3) := dk_167 0 12 (dk_at dksX0_next_0 9 rfl rfl)
theorem dX0_next_12 : decode cX0_next 12 = .ok (.astore_n 3, 1) := dk_78 (dk_at dksX0_next_0 12 rfl rfl)
theorem dX0_next_13 : decode cX0_next 13 = .ok (.iconst 1, 1) := dk_4 (dk_at dksX0_next_0 13 rfl rfl)
theorem dX0_next_14 : decode cX0_next 14 = .ok (.ireturn, 1) := dk_172 (dk_at dksX0_next_0 14 rfl rfl)
theorem dX0_next_15 : decode cX0_next 15 = .ok (.astore_n 3, 1) := dk_78 (dk_at dksX0_next_0 15 rfl rfl)
theorem dX0_next_16 : decode cX0_next 16 = .ok (.iconst 2, 1) := dk_5 (dk_at dksX0_next_0 16 rfl rfl)
theorem dX0_next_17 : decode cX0_next 17 = .ok (.ireturn, 1) := dk_172 (dk_at dksX0_next_0 17 rfl rfl)
theorem dX0_next_18 : decode cX0_next 18 = .ok (.astore_n 3, 1) := dk_78 (dk_at dksX0_next_0 18 rfl rfl)
theorem dX0_next_19 : decode cX0_next 19 = .ok (.iconst 3, 1) := dk_6 (dk_at dksX0_next_0 19 rfl rfl)
theorem dX0_next_20 : decode cX0_next 20 = .ok (.ireturn, 1) := dk_172 (dk_at dksX0_next_0 20 rfl rfl)
theorem dX0_next_21 : decode cX0_next 21 = .ok (.iconst 0, 1) := dk_3 (dk_at dksX0_next_0 21 rfl rfl)
theorem dX0_next_22 : decode cX0_next 22 = .ok (.ireturn, 1) := dk_172 (dk_at dksX0_next_0 22 rfl rfl)
abbrev cX0_removeCurrent : ByteArray := method_38_code
def yX0_removeCurrent : MethodName := ⟨RX0, "removeCurrent", "(LIntervalTree;I[J)I"⟩
def dkwX0_removeCurrent_0 : List UInt8 := [44, 3, 42, 27, 182, 0, 129, 133, 80, 167, 0, 9, 78, 4, 172, 78, 5, 172, 3, 172]
abbrev dktX0_removeCurrent_0 : List UInt8 := dkwX0_removeCurrent_0 ++ []
theorem dksX0_removeCurrent_0 : cX0_removeCurrent.data.toList.drop 0 = dktX0_removeCurrent_0 := by decide +kernel
theorem dX0_removeCurrent_0 : decode cX0_removeCurrent 0 = .ok (.aload_n 2, 1) := dk_44 (dk_at dksX0_removeCurrent_0 0 rfl rfl)
theorem dX0_removeCurrent_1 : decode cX0_removeCurrent 1 = .ok (.iconst 0, 1) := dk_3 (dk_at dksX0_removeCurrent_0 1 rfl rfl)
theorem dX0_removeCurrent_2 : decode cX0_removeCurrent 2 = .ok (.aload_n 0, 1) := dk_42 (dk_at dksX0_removeCurrent_0 2 rfl rfl)
theorem dX0_removeCurrent_3 : decode cX0_removeCurrent 3 = .ok (.iload_n 1, 1) := dk_27 (dk_at dksX0_removeCurrent_0 3 rfl rfl)
theorem dX0_removeCurrent_4 : decode cX0_removeCurrent 4 = .ok (.invokevirtual 129, 3) := dk_182 0 129 (dk_at dksX0_removeCurrent_0 4 rfl rfl)
theorem dX0_removeCurrent_7 : decode cX0_removeCurrent 7 = .ok (.i2l, 1) := dk_133 (dk_at dksX0_removeCurrent_0 7 rfl rfl)
theorem dX0_removeCurrent_8 : decode cX0_removeCurrent 8 = .ok (.lastore, 1) := dk_80 (dk_at dksX0_removeCurrent_0 8 rfl rfl)
theorem dX0_removeCurrent_9 : decode cX0_removeCurrent 9 = .ok (.goto 9, 3) := dk_167 0 9 (dk_at dksX0_removeCurrent_0 9 rfl rfl)
theorem dX0_removeCurrent_12 : decode cX0_removeCurrent 12 = .ok (.astore_n 3, 1) := dk_78 (dk_at dksX0_removeCurrent_0 12 rfl rfl)
theorem dX0_removeCurrent_13 : decode cX0_removeCurrent 13 = .ok (.iconst 1, 1) := dk_4 (dk_at dksX0_removeCurrent_0 13 rfl rfl)
theorem dX0_removeCurrent_14 : decode cX0_removeCurrent 14 = .ok (.ireturn, 1) := dk_172 (dk_at dksX0_removeCurrent_0 14 rfl rfl)
theorem dX0_removeCurrent_15 : decode cX0_removeCurrent 15 = .ok (.astore_n 3, 1) := dk_78 (dk_at dksX0_removeCurrent_0 15 rfl rfl)
theorem dX0_removeCurrent_16 : decode cX0_removeCurrent 16 = .ok (.iconst 2, 1) := dk_5 (dk_at dksX0_removeCurrent_0 16 rfl rfl)
theorem dX0_removeCurrent_17 : decode cX0_removeCurrent 17 = .ok (.ireturn, 1) := dk_172 (dk_at dksX0_removeCurrent_0 17 rfl rfl)
theorem dX0_removeCurrent_18 : decode cX0_removeCurrent 18 = .ok (.iconst 0, 1) := dk_3 (dk_at dksX0_removeCurrent_0 18 rfl rfl)
theorem dX0_removeCurrent_19 : decode cX0_removeCurrent 19 = .ok (.ireturn, 1) := dk_172 (dk_at dksX0_removeCurrent_0 19 rfl rfl)
abbrev cX0_load : ByteArray := method_39_code
def yX0_load : MethodName := ⟨RX0, "load", "(LIntervalTree;[J)I"⟩
def dkwX0_load_0 : List UInt8 := [43, 3, 42, 182, 0, 132, 133, 80, 167, 0, 6, 77, 4, 172, 3, 172]
abbrev dktX0_load_0 : List UInt8 := dkwX0_load_0 ++ []
theorem dksX0_load_0 : cX0_load.data.toList.drop 0 = dktX0_load_0 := by decide +kernel
theorem dX0_load_0 : decode cX0_load 0 = .ok (.aload_n 1, 1) := dk_43 (dk_at dksX0_load_0 0 rfl rfl)
theorem dX0_load_1 : decode cX0_load 1 = .ok (.iconst 0, 1) := dk_3 (dk_at dksX0_load_0 1 rfl rfl)
theorem dX0_load_2 : decode cX0_load 2 = .ok (.aload_n 0, 1) := dk_42 (dk_at dksX0_load_0 2 rfl rfl)
theorem dX0_load_3 : decode cX0_load 3 = .ok (.invokevirtual 132, 3) := dk_182 0 132 (dk_at dksX0_load_0 3 rfl rfl)
theorem dX0_load_6 : decode cX0_load 6 = .ok (.i2l, 1) := dk_133 (dk_at dksX0_load_0 6 rfl rfl)
theorem dX0_load_7 : decode cX0_load 7 = .ok (.lastore, 1) := dk_80 (dk_at dksX0_load_0 7 rfl rfl)
theorem dX0_load_8 : decode cX0_load 8 = .ok (.goto 6, 3) := dk_167 0 6 (dk_at dksX0_load_0 8 rfl rfl)
theorem dX0_load_11 : decode cX0_load 11 = .ok (.astore_n 2, 1) := dk_77 (dk_at dksX0_load_0 11 rfl rfl)
theorem dX0_load_12 : decode cX0_load 12 = .ok (.iconst 1, 1) := dk_4 (dk_at dksX0_load_0 12 rfl rfl)
theorem dX0_load_13 : decode cX0_load 13 = .ok (.ireturn, 1) := dk_172 (dk_at dksX0_load_0 13 rfl rfl)
theorem dX0_load_14 : decode cX0_load 14 = .ok (.iconst 0, 1) := dk_3 (dk_at dksX0_load_0 14 rfl rfl)
theorem dX0_load_15 : decode cX0_load 15 = .ok (.ireturn, 1) := dk_172 (dk_at dksX0_load_0 15 rfl rfl)
theorem q92 : (Jvm.Cond.initialized "IntervalTreeLaw") ∈ lw_all := lw_g (lw_at lw_m1 0 rfl) rfl
theorem q113 : (Jvm.Cond.classLink "IntervalTreeLaw" (8 : Nat) "IntervalTree") ∈ lw_all := lw_g (lw_at lw_m1 21 rfl) rfl
theorem q115 : (Jvm.Cond.methodLink "IntervalTreeLaw" (135 : Nat) ({ cls := "IntervalTree", name := "<init>", desc := "()V" } : Jvm.MethodName)) ∈ lw_all := lw_g (lw_at lw_m1 23 rfl) rfl
theorem q289 : (Jvm.Cond.methodLink "IntervalTreeLaw" (155 : Nat) ({ cls := "IntervalTree", name := "rebuild", desc := "()I" } : Jvm.MethodName)) ∈ lw_all := lw_g (lw_at lw_m1 197 rfl) rfl
theorem q343 : (Jvm.Cond.methodLink "IntervalTreeLaw" (165 : Nat) ({ cls := "IntervalTree", name := "size", desc := "()I" } : Jvm.MethodName)) ∈ lw_all := lw_g (lw_at lw_m2 11 rfl) rfl
theorem q347 : (Jvm.Cond.methodLink "IntervalTreeLaw" (169 : Nat) ({ cls := "IntervalTree", name := "nodeCount", desc := "()I" } : Jvm.MethodName)) ∈ lw_all := lw_g (lw_at lw_m2 15 rfl) rfl
theorem q351 : (Jvm.Cond.methodLink "IntervalTreeLaw" (173 : Nat) ({ cls := "IntervalTree", name := "height", desc := "()I" } : Jvm.MethodName)) ∈ lw_all := lw_g (lw_at lw_m2 19 rfl) rfl
theorem q359 : (Jvm.Cond.methodLink "IntervalTreeLaw" (177 : Nat) ({ cls := "IntervalTree", name := "rebuildCount", desc := "()I" } : Jvm.MethodName)) ∈ lw_all := lw_g (lw_at lw_m2 27 rfl) rfl
theorem q363 : (Jvm.Cond.methodLink "IntervalTreeLaw" (181 : Nat) ({ cls := "IntervalTree", name := "rebuiltNodes", desc := "()I" } : Jvm.MethodName)) ∈ lw_all := lw_g (lw_at lw_m2 31 rfl) rfl
theorem q367 : (Jvm.Cond.methodLink "IntervalTreeLaw" (216 : Nat) ({ cls := "IntervalTree", name := "digest", desc := "()I" } : Jvm.MethodName)) ∈ lw_all := lw_g (lw_at lw_m2 35 rfl) rfl
theorem q379 : (Jvm.Cond.methodLink "IntervalTreeLaw" (220 : Nat) ({ cls := "IntervalTree", name := "stabCount", desc := "(I)I" } : Jvm.MethodName)) ∈ lw_all := lw_g (lw_at lw_m2 47 rfl) rfl
theorem q387 : (Jvm.Cond.methodLink "IntervalTreeLaw" (224 : Nat) ({ cls := "IntervalTree", name := "stabWeight", desc := "(I)I" } : Jvm.MethodName)) ∈ lw_all := lw_g (lw_at lw_m2 55 rfl) rfl
theorem q391 : (Jvm.Cond.methodLink "IntervalTreeLaw" (238 : Nat) ({ cls := "IntervalTree", name := "floor", desc := "(I)I" } : Jvm.MethodName)) ∈ lw_all := lw_g (lw_at lw_m2 59 rfl) rfl
theorem q401 : (Jvm.Cond.methodLink "IntervalTreeLaw" (242 : Nat) ({ cls := "IntervalTree", name := "ceiling", desc := "(I)I" } : Jvm.MethodName)) ∈ lw_all := lw_g (lw_at lw_m2 69 rfl) rfl
theorem q413 : (Jvm.Cond.methodLink "IntervalTreeLaw" (262 : Nat) ({ cls := "IntervalTree", name := "overlapCount", desc := "()I" } : Jvm.MethodName)) ∈ lw_all := lw_g (lw_at lw_m2 81 rfl) rfl
theorem q417 : (Jvm.Cond.methodLink "IntervalTreeLaw" (266 : Nat) ({ cls := "IntervalTree", name := "scheduleWeight", desc := "()I" } : Jvm.MethodName)) ∈ lw_all := lw_g (lw_at lw_m2 85 rfl) rfl
theorem q425 : (Jvm.Cond.methodLink "IntervalTreeLaw" (309 : Nat) ({ cls := "IntervalTree", name := "save", desc := "()I" } : Jvm.MethodName)) ∈ lw_all := lw_g (lw_at lw_m2 93 rfl) rfl
theorem q435 : (Jvm.Cond.methodLink "IntervalTreeLaw" (139 : Nat) ({ cls := "IntervalTreeLaw", name := "insert", desc := "(LIntervalTree;III[J)I" } : Jvm.MethodName)) ∈ lw_all := lw_g (lw_at lw_m2 103 rfl) rfl
theorem q436 : (Jvm.Cond.static ({ cls := "IntervalTreeLaw", name := "insert", desc := "(LIntervalTree;III[J)I" } : Jvm.MethodName)) ∈ lw_all := lw_g (lw_at lw_m2 104 rfl) rfl
theorem q437 : (Jvm.Cond.codeWith ({ cls := "IntervalTreeLaw", name := "insert", desc := "(LIntervalTree;III[J)I" } : Jvm.MethodName) method_3_code (6 : Nat) (Option.some Jvm.ClassFile.FieldType.int) [((0 : Nat), (12 : Nat), (15 : Nat), (13 : Nat)), ((0 : Nat), (12 : Nat), (19 : Nat), (15 : Nat))]) ∈ lw_all := lw_g (lw_at lw_m2 105 rfl) rfl
theorem q438 : (Jvm.Cond.classLink "IntervalTreeLaw" (13 : Nat) "java/lang/IllegalArgumentException") ∈ lw_all := lw_g (lw_at lw_m2 106 rfl) rfl
theorem q439 : (Jvm.Cond.classLink "IntervalTreeLaw" (15 : Nat) "java/lang/IllegalStateException") ∈ lw_all := lw_g (lw_at lw_m2 107 rfl) rfl
theorem q440 : (Jvm.Cond.methodLink "IntervalTreeLaw" (7 : Nat) ({ cls := "IntervalTree", name := "insert", desc := "(III)I" } : Jvm.MethodName)) ∈ lw_all := lw_g (lw_at lw_m2 108 rfl) rfl
theorem q627 : (Jvm.Cond.methodLink "IntervalTreeLaw" (148 : Nat) ({ cls := "IntervalTreeLaw", name := "remove", desc := "(LIntervalTree;I[J)I" } : Jvm.MethodName)) ∈ lw_all := lw_g (lw_at lw_m3 55 rfl) rfl
theorem q628 : (Jvm.Cond.static ({ cls := "IntervalTreeLaw", name := "remove", desc := "(LIntervalTree;I[J)I" } : Jvm.MethodName)) ∈ lw_all := lw_g (lw_at lw_m3 56 rfl) rfl
theorem q629 : (Jvm.Cond.codeWith ({ cls := "IntervalTreeLaw", name := "remove", desc := "(LIntervalTree;I[J)I" } : Jvm.MethodName) method_4_code (4 : Nat) (Option.some Jvm.ClassFile.FieldType.int) [((0 : Nat), (9 : Nat), (12 : Nat), (21 : Nat))]) ∈ lw_all := lw_g (lw_at lw_m3 57 rfl) rfl
theorem q630 : (Jvm.Cond.classLink "IntervalTreeLaw" (21 : Nat) "java/util/NoSuchElementException") ∈ lw_all := lw_g (lw_at lw_m3 58 rfl) rfl
theorem q631 : (Jvm.Cond.methodLink "IntervalTreeLaw" (17 : Nat) ({ cls := "IntervalTree", name := "remove", desc := "(I)I" } : Jvm.MethodName)) ∈ lw_all := lw_g (lw_at lw_m3 59 rfl) rfl
theorem q672 : (Jvm.Cond.methodLink "IntervalTreeLaw" (152 : Nat) ({ cls := "IntervalTreeLaw", name := "restore", desc := "(LIntervalTree;I[J)I" } : Jvm.MethodName)) ∈ lw_all := lw_g (lw_at lw_m3 100 rfl) rfl
theorem q673 : (Jvm.Cond.static ({ cls := "IntervalTreeLaw", name := "restore", desc := "(LIntervalTree;I[J)I" } : Jvm.MethodName)) ∈ lw_all := lw_g (lw_at lw_m3 101 rfl) rfl
theorem q674 : (Jvm.Cond.codeWith ({ cls := "IntervalTreeLaw", name := "restore", desc := "(LIntervalTree;I[J)I" } : Jvm.MethodName) method_5_code (4 : Nat) (Option.some Jvm.ClassFile.FieldType.int) [((0 : Nat), (9 : Nat), (12 : Nat), (21 : Nat)), ((0 : Nat), (9 : Nat), (15 : Nat), (15 : Nat))]) ∈ lw_all := lw_g (lw_at lw_m3 102 rfl) rfl
theorem q675 : (Jvm.Cond.methodLink "IntervalTreeLaw" (23 : Nat) ({ cls := "IntervalTree", name := "restore", desc := "(I)I" } : Jvm.MethodName)) ∈ lw_all := lw_g (lw_at lw_m3 103 rfl) rfl
theorem q681 : (Jvm.Cond.methodLink "IntervalTreeLaw" (159 : Nat) ({ cls := "IntervalTreeLaw", name := "setRebuildPercentage", desc := "(LIntervalTree;I[J)I" } : Jvm.MethodName)) ∈ lw_all := lw_g (lw_at lw_m3 109 rfl) rfl
theorem q682 : (Jvm.Cond.static ({ cls := "IntervalTreeLaw", name := "setRebuildPercentage", desc := "(LIntervalTree;I[J)I" } : Jvm.MethodName)) ∈ lw_all := lw_g (lw_at lw_m3 110 rfl) rfl
theorem q683 : (Jvm.Cond.codeWith ({ cls := "IntervalTreeLaw", name := "setRebuildPercentage", desc := "(LIntervalTree;I[J)I" } : Jvm.MethodName) method_6_code (4 : Nat) (Option.some Jvm.ClassFile.FieldType.int) [((0 : Nat), (9 : Nat), (12 : Nat), (13 : Nat))]) ∈ lw_all := lw_g (lw_at lw_m3 111 rfl) rfl
theorem q684 : (Jvm.Cond.methodLink "IntervalTreeLaw" (26 : Nat) ({ cls := "IntervalTree", name := "setRebuildPercentage", desc := "(I)I" } : Jvm.MethodName)) ∈ lw_all := lw_g (lw_at lw_m3 112 rfl) rfl
theorem q688 : (Jvm.Cond.methodLink "IntervalTreeLaw" (162 : Nat) ({ cls := "IntervalTreeLaw", name := "addWeight", desc := "(LIntervalTree;III[J)I" } : Jvm.MethodName)) ∈ lw_all := lw_g (lw_at lw_m3 116 rfl) rfl
theorem q689 : (Jvm.Cond.static ({ cls := "IntervalTreeLaw", name := "addWeight", desc := "(LIntervalTree;III[J)I" } : Jvm.MethodName)) ∈ lw_all := lw_g (lw_at lw_m3 117 rfl) rfl
theorem q690 : (Jvm.Cond.codeWith ({ cls := "IntervalTreeLaw", name := "addWeight", desc := "(LIntervalTree;III[J)I" } : Jvm.MethodName) method_7_code (6 : Nat) (Option.some Jvm.ClassFile.FieldType.int) [((0 : Nat), (12 : Nat), (15 : Nat), (13 : Nat))]) ∈ lw_all := lw_g (lw_at lw_m3 118 rfl) rfl
theorem q691 : (Jvm.Cond.methodLink "IntervalTreeLaw" (29 : Nat) ({ cls := "IntervalTree", name := "addWeight", desc := "(III)I" } : Jvm.MethodName)) ∈ lw_all := lw_g (lw_at lw_m3 119 rfl) rfl
theorem q704 : (Jvm.Cond.methodLink "IntervalTreeLaw" (185 : Nat) ({ cls := "IntervalTreeLaw", name := "state", desc := "(LIntervalTree;I[J)I" } : Jvm.MethodName)) ∈ lw_all := lw_g (lw_at lw_m3 132 rfl) rfl
theorem q705 : (Jvm.Cond.static ({ cls := "IntervalTreeLaw", name := "state", desc := "(LIntervalTree;I[J)I" } : Jvm.MethodName)) ∈ lw_all := lw_g (lw_at lw_m3 133 rfl) rfl
theorem q706 : (Jvm.Cond.codeWith ({ cls := "IntervalTreeLaw", name := "state", desc := "(LIntervalTree;I[J)I" } : Jvm.MethodName) method_8_code (4 : Nat) (Option.some Jvm.ClassFile.FieldType.int) [((0 : Nat), (9 : Nat), (12 : Nat), (21 : Nat))]) ∈ lw_all := lw_g (lw_at lw_m3 134 rfl) rfl
theorem q707 : (Jvm.Cond.methodLink "IntervalTreeLaw" (32 : Nat) ({ cls := "IntervalTree", name := "state", desc := "(I)I" } : Jvm.MethodName)) ∈ lw_all := lw_g (lw_at lw_m3 135 rfl) rfl
theorem q711 : (Jvm.Cond.methodLink "IntervalTreeLaw" (188 : Nat) ({ cls := "IntervalTreeLaw", name := "low", desc := "(LIntervalTree;I[J)I" } : Jvm.MethodName)) ∈ lw_all := lw_g (lw_at lw_m3 139 rfl) rfl
theorem q712 : (Jvm.Cond.static ({ cls := "IntervalTreeLaw", name := "low", desc := "(LIntervalTree;I[J)I" } : Jvm.MethodName)) ∈ lw_all := lw_g (lw_at lw_m3 140 rfl) rfl
theorem q713 : (Jvm.Cond.codeWith ({ cls := "IntervalTreeLaw", name := "low", desc := "(LIntervalTree;I[J)I" } : Jvm.MethodName) method_9_code (4 : Nat) (Option.some Jvm.ClassFile.FieldType.int) [((0 : Nat), (9 : Nat), (12 : Nat), (21 : Nat))]) ∈ lw_all := lw_g (lw_at lw_m3 141 rfl) rfl
theorem q714 : (Jvm.Cond.methodLink "IntervalTreeLaw" (35 : Nat) ({ cls := "IntervalTree", name := "low", desc := "(I)I" } : Jvm.MethodName)) ∈ lw_all := lw_g (lw_at lw_m3 142 rfl) rfl
theorem q718 : (Jvm.Cond.methodLink "IntervalTreeLaw" (191 : Nat) ({ cls := "IntervalTreeLaw", name := "high", desc := "(LIntervalTree;I[J)I" } : Jvm.MethodName)) ∈ lw_all := lw_g (lw_at lw_m3 146 rfl) rfl
theorem q719 : (Jvm.Cond.static ({ cls := "IntervalTreeLaw", name := "high", desc := "(LIntervalTree;I[J)I" } : Jvm.MethodName)) ∈ lw_all := lw_g (lw_at lw_m3 147 rfl) rfl
theorem q720 : (Jvm.Cond.codeWith ({ cls := "IntervalTreeLaw", name := "high", desc := "(LIntervalTree;I[J)I" } : Jvm.MethodName) method_10_code (4 : Nat) (Option.some Jvm.ClassFile.FieldType.int) [((0 : Nat), (9 : Nat), (12 : Nat), (21 : Nat))]) ∈ lw_all := lw_g (lw_at lw_m3 148 rfl) rfl
theorem q721 : (Jvm.Cond.methodLink "IntervalTreeLaw" (38 : Nat) ({ cls := "IntervalTree", name := "high", desc := "(I)I" } : Jvm.MethodName)) ∈ lw_all := lw_g (lw_at lw_m3 149 rfl) rfl
theorem q725 : (Jvm.Cond.methodLink "IntervalTreeLaw" (194 : Nat) ({ cls := "IntervalTreeLaw", name := "weight", desc := "(LIntervalTree;I[J)I" } : Jvm.MethodName)) ∈ lw_all := lw_g (lw_at lw_m3 153 rfl) rfl
theorem q726 : (Jvm.Cond.static ({ cls := "IntervalTreeLaw", name := "weight", desc := "(LIntervalTree;I[J)I" } : Jvm.MethodName)) ∈ lw_all := lw_g (lw_at lw_m3 154 rfl) rfl
theorem q727 : (Jvm.Cond.codeWith ({ cls := "IntervalTreeLaw", name := "weight", desc := "(LIntervalTree;I[J)I" } : Jvm.MethodName) method_11_code (4 : Nat) (Option.some Jvm.ClassFile.FieldType.int) [((0 : Nat), (9 : Nat), (12 : Nat), (21 : Nat))]) ∈ lw_all := lw_g (lw_at lw_m3 155 rfl) rfl
theorem q728 : (Jvm.Cond.methodLink "IntervalTreeLaw" (41 : Nat) ({ cls := "IntervalTree", name := "weight", desc := "(I)I" } : Jvm.MethodName)) ∈ lw_all := lw_g (lw_at lw_m3 156 rfl) rfl
theorem q733 : (Jvm.Cond.methodLink "IntervalTreeLaw" (197 : Nat) ({ cls := "IntervalTreeLaw", name := "parent", desc := "(LIntervalTree;I[J)I" } : Jvm.MethodName)) ∈ lw_all := lw_g (lw_at lw_m3 161 rfl) rfl
theorem q734 : (Jvm.Cond.static ({ cls := "IntervalTreeLaw", name := "parent", desc := "(LIntervalTree;I[J)I" } : Jvm.MethodName)) ∈ lw_all := lw_g (lw_at lw_m3 162 rfl) rfl
theorem q735 : (Jvm.Cond.codeWith ({ cls := "IntervalTreeLaw", name := "parent", desc := "(LIntervalTree;I[J)I" } : Jvm.MethodName) method_12_code (4 : Nat) (Option.some Jvm.ClassFile.FieldType.int) [((0 : Nat), (9 : Nat), (12 : Nat), (21 : Nat))]) ∈ lw_all := lw_g (lw_at lw_m3 163 rfl) rfl
theorem q736 : (Jvm.Cond.methodLink "IntervalTreeLaw" (44 : Nat) ({ cls := "IntervalTree", name := "parent", desc := "(I)I" } : Jvm.MethodName)) ∈ lw_all := lw_g (lw_at lw_m3 164 rfl) rfl
theorem q740 : (Jvm.Cond.methodLink "IntervalTreeLaw" (200 : Nat) ({ cls := "IntervalTreeLaw", name := "child", desc := "(LIntervalTree;IZ[J)I" } : Jvm.MethodName)) ∈ lw_all := lw_g (lw_at lw_m3 168 rfl) rfl
theorem q741 : (Jvm.Cond.static ({ cls := "IntervalTreeLaw", name := "child", desc := "(LIntervalTree;IZ[J)I" } : Jvm.MethodName)) ∈ lw_all := lw_g (lw_at lw_m3 169 rfl) rfl
theorem q742 : (Jvm.Cond.codeWith ({ cls := "IntervalTreeLaw", name := "child", desc := "(LIntervalTree;IZ[J)I" } : Jvm.MethodName) method_13_code (5 : Nat) (Option.some Jvm.ClassFile.FieldType.int) [((0 : Nat), (10 : Nat), (13 : Nat), (21 : Nat))]) ∈ lw_all := lw_g (lw_at lw_m3 170 rfl) rfl
theorem q743 : (Jvm.Cond.methodLink "IntervalTreeLaw" (47 : Nat) ({ cls := "IntervalTree", name := "child", desc := "(IZ)I" } : Jvm.MethodName)) ∈ lw_all := lw_g (lw_at lw_m3 171 rfl) rfl
theorem q747 : (Jvm.Cond.methodLink "IntervalTreeLaw" (204 : Nat) ({ cls := "IntervalTreeLaw", name := "isRed", desc := "(LIntervalTree;I[J)I" } : Jvm.MethodName)) ∈ lw_all := lw_g (lw_at lw_m3 175 rfl) rfl
theorem q748 : (Jvm.Cond.static ({ cls := "IntervalTreeLaw", name := "isRed", desc := "(LIntervalTree;I[J)I" } : Jvm.MethodName)) ∈ lw_all := lw_g (lw_at lw_m3 176 rfl) rfl
theorem q749 : (Jvm.Cond.codeWith ({ cls := "IntervalTreeLaw", name := "isRed", desc := "(LIntervalTree;I[J)I" } : Jvm.MethodName) method_14_code (4 : Nat) (Option.some Jvm.ClassFile.FieldType.int) [((0 : Nat), (16 : Nat), (19 : Nat), (21 : Nat))]) ∈ lw_all := lw_g (lw_at lw_m3 177 rfl) rfl
theorem q750 : (Jvm.Cond.methodLink "IntervalTreeLaw" (51 : Nat) ({ cls := "IntervalTree", name := "isRed", desc := "(I)Z" } : Jvm.MethodName)) ∈ lw_all := lw_g (lw_at lw_m3 178 rfl) rfl
theorem q754 : (Jvm.Cond.methodLink "IntervalTreeLaw" (207 : Nat) ({ cls := "IntervalTreeLaw", name := "subtreeSize", desc := "(LIntervalTree;I[J)I" } : Jvm.MethodName)) ∈ lw_all := lw_g (lw_at lw_m3 182 rfl) rfl
theorem q755 : (Jvm.Cond.static ({ cls := "IntervalTreeLaw", name := "subtreeSize", desc := "(LIntervalTree;I[J)I" } : Jvm.MethodName)) ∈ lw_all := lw_g (lw_at lw_m3 183 rfl) rfl
theorem q756 : (Jvm.Cond.codeWith ({ cls := "IntervalTreeLaw", name := "subtreeSize", desc := "(LIntervalTree;I[J)I" } : Jvm.MethodName) method_15_code (4 : Nat) (Option.some Jvm.ClassFile.FieldType.int) [((0 : Nat), (9 : Nat), (12 : Nat), (21 : Nat))]) ∈ lw_all := lw_g (lw_at lw_m3 184 rfl) rfl
theorem q757 : (Jvm.Cond.methodLink "IntervalTreeLaw" (55 : Nat) ({ cls := "IntervalTree", name := "subtreeSize", desc := "(I)I" } : Jvm.MethodName)) ∈ lw_all := lw_g (lw_at lw_m3 185 rfl) rfl
theorem q761 : (Jvm.Cond.methodLink "IntervalTreeLaw" (210 : Nat) ({ cls := "IntervalTreeLaw", name := "subtreeHigh", desc := "(LIntervalTree;I[J)I" } : Jvm.MethodName)) ∈ lw_all := lw_g (lw_at lw_m3 189 rfl) rfl
theorem q762 : (Jvm.Cond.static ({ cls := "IntervalTreeLaw", name := "subtreeHigh", desc := "(LIntervalTree;I[J)I" } : Jvm.MethodName)) ∈ lw_all := lw_g (lw_at lw_m3 190 rfl) rfl
theorem q763 : (Jvm.Cond.codeWith ({ cls := "IntervalTreeLaw", name := "subtreeHigh", desc := "(LIntervalTree;I[J)I" } : Jvm.MethodName) method_16_code (4 : Nat) (Option.some Jvm.ClassFile.FieldType.int) [((0 : Nat), (9 : Nat), (12 : Nat), (21 : Nat)), ((0 : Nat), (9 : Nat), (15 : Nat), (15 : Nat))]) ∈ lw_all := lw_g (lw_at lw_m3 191 rfl) rfl
theorem q764 : (Jvm.Cond.methodLink "IntervalTreeLaw" (58 : Nat) ({ cls := "IntervalTree", name := "subtreeHigh", desc := "(I)I" } : Jvm.MethodName)) ∈ lw_all := lw_g (lw_at lw_m3 192 rfl) rfl
theorem q773 : (Jvm.Cond.methodLink "IntervalTreeLaw" (213 : Nat) ({ cls := "IntervalTreeLaw", name := "subtreeWeight", desc := "(LIntervalTree;I[J)I" } : Jvm.MethodName)) ∈ lw_all := lw_g (lw_at lw_m3 201 rfl) rfl
theorem q774 : (Jvm.Cond.static ({ cls := "IntervalTreeLaw", name := "subtreeWeight", desc := "(LIntervalTree;I[J)I" } : Jvm.MethodName)) ∈ lw_all := lw_g (lw_at lw_m3 202 rfl) rfl
theorem q775 : (Jvm.Cond.codeWith ({ cls := "IntervalTreeLaw", name := "subtreeWeight", desc := "(LIntervalTree;I[J)I" } : Jvm.MethodName) method_17_code (4 : Nat) (Option.some Jvm.ClassFile.FieldType.int) [((0 : Nat), (9 : Nat), (12 : Nat), (21 : Nat)), ((0 : Nat), (9 : Nat), (15 : Nat), (15 : Nat))]) ∈ lw_all := lw_g (lw_at lw_m3 203 rfl) rfl
theorem q776 : (Jvm.Cond.methodLink "IntervalTreeLaw" (61 : Nat) ({ cls := "IntervalTree", name := "subtreeWeight", desc := "(I)I" } : Jvm.MethodName)) ∈ lw_all := lw_g (lw_at lw_m3 204 rfl) rfl
theorem q780 : (Jvm.Cond.methodLink "IntervalTreeLaw" (228 : Nat) ({ cls := "IntervalTreeLaw", name := "heaviest", desc := "(LIntervalTree;II[J)I" } : Jvm.MethodName)) ∈ lw_all := lw_g (lw_at lw_m3 208 rfl) rfl
theorem q781 : (Jvm.Cond.static ({ cls := "IntervalTreeLaw", name := "heaviest", desc := "(LIntervalTree;II[J)I" } : Jvm.MethodName)) ∈ lw_all := lw_g (lw_at lw_m3 209 rfl) rfl
theorem q782 : (Jvm.Cond.codeWith ({ cls := "IntervalTreeLaw", name := "heaviest", desc := "(LIntervalTree;II[J)I" } : Jvm.MethodName) method_18_code (5 : Nat) (Option.some Jvm.ClassFile.FieldType.int) [((0 : Nat), (10 : Nat), (13 : Nat), (13 : Nat))]) ∈ lw_all := lw_g (lw_at lw_m3 210 rfl) rfl
theorem q783 : (Jvm.Cond.methodLink "IntervalTreeLaw" (64 : Nat) ({ cls := "IntervalTree", name := "heaviest", desc := "(II)I" } : Jvm.MethodName)) ∈ lw_all := lw_g (lw_at lw_m3 211 rfl) rfl
theorem q798 : (Jvm.Cond.methodLink "IntervalTreeLaw" (232 : Nat) ({ cls := "IntervalTreeLaw", name := "heaviestOverlap", desc := "(LIntervalTree;III[J)I" } : Jvm.MethodName)) ∈ lw_all := lw_g (lw_at lw_m3 226 rfl) rfl
theorem q799 : (Jvm.Cond.static ({ cls := "IntervalTreeLaw", name := "heaviestOverlap", desc := "(LIntervalTree;III[J)I" } : Jvm.MethodName)) ∈ lw_all := lw_g (lw_at lw_m3 227 rfl) rfl
theorem q800 : (Jvm.Cond.codeWith ({ cls := "IntervalTreeLaw", name := "heaviestOverlap", desc := "(LIntervalTree;III[J)I" } : Jvm.MethodName) method_19_code (6 : Nat) (Option.some Jvm.ClassFile.FieldType.int) [((0 : Nat), (12 : Nat), (15 : Nat), (13 : Nat))]) ∈ lw_all := lw_g (lw_at lw_m3 228 rfl) rfl
theorem q801 : (Jvm.Cond.methodLink "IntervalTreeLaw" (68 : Nat) ({ cls := "IntervalTree", name := "heaviestOverlap", desc := "(III)I" } : Jvm.MethodName)) ∈ lw_all := lw_g (lw_at lw_m3 229 rfl) rfl
theorem q805 : (Jvm.Cond.methodLink "IntervalTreeLaw" (235 : Nat) ({ cls := "IntervalTreeLaw", name := "firstOverlap", desc := "(LIntervalTree;II[J)I" } : Jvm.MethodName)) ∈ lw_all := lw_g (lw_at lw_m3 233 rfl) rfl
theorem q806 : (Jvm.Cond.static ({ cls := "IntervalTreeLaw", name := "firstOverlap", desc := "(LIntervalTree;II[J)I" } : Jvm.MethodName)) ∈ lw_all := lw_g (lw_at lw_m3 234 rfl) rfl
theorem q807 : (Jvm.Cond.codeWith ({ cls := "IntervalTreeLaw", name := "firstOverlap", desc := "(LIntervalTree;II[J)I" } : Jvm.MethodName) method_20_code (5 : Nat) (Option.some Jvm.ClassFile.FieldType.int) [((0 : Nat), (10 : Nat), (13 : Nat), (13 : Nat))]) ∈ lw_all := lw_g (lw_at lw_m3 235 rfl) rfl
theorem q808 : (Jvm.Cond.methodLink "IntervalTreeLaw" (71 : Nat) ({ cls := "IntervalTree", name := "firstOverlap", desc := "(II)I" } : Jvm.MethodName)) ∈ lw_all := lw_g (lw_at lw_m3 236 rfl) rfl
theorem q815 : (Jvm.Cond.methodLink "IntervalTreeLaw" (246 : Nat) ({ cls := "IntervalTreeLaw", name := "rank", desc := "(LIntervalTree;I[J)I" } : Jvm.MethodName)) ∈ lw_all := lw_g (lw_at lw_m4 3 rfl) rfl
theorem q816 : (Jvm.Cond.static ({ cls := "IntervalTreeLaw", name := "rank", desc := "(LIntervalTree;I[J)I" } : Jvm.MethodName)) ∈ lw_all := lw_g (lw_at lw_m4 4 rfl) rfl
theorem q817 : (Jvm.Cond.codeWith ({ cls := "IntervalTreeLaw", name := "rank", desc := "(LIntervalTree;I[J)I" } : Jvm.MethodName) method_21_code (4 : Nat) (Option.some Jvm.ClassFile.FieldType.int) [((0 : Nat), (9 : Nat), (12 : Nat), (21 : Nat))]) ∈ lw_all := lw_g (lw_at lw_m4 5 rfl) rfl
theorem q818 : (Jvm.Cond.methodLink "IntervalTreeLaw" (74 : Nat) ({ cls := "IntervalTree", name := "rank", desc := "(I)I" } : Jvm.MethodName)) ∈ lw_all := lw_g (lw_at lw_m4 6 rfl) rfl
theorem q822 : (Jvm.Cond.methodLink "IntervalTreeLaw" (249 : Nat) ({ cls := "IntervalTreeLaw", name := "select", desc := "(LIntervalTree;I[J)I" } : Jvm.MethodName)) ∈ lw_all := lw_g (lw_at lw_m4 10 rfl) rfl
theorem q823 : (Jvm.Cond.static ({ cls := "IntervalTreeLaw", name := "select", desc := "(LIntervalTree;I[J)I" } : Jvm.MethodName)) ∈ lw_all := lw_g (lw_at lw_m4 11 rfl) rfl
theorem q824 : (Jvm.Cond.codeWith ({ cls := "IntervalTreeLaw", name := "select", desc := "(LIntervalTree;I[J)I" } : Jvm.MethodName) method_22_code (4 : Nat) (Option.some Jvm.ClassFile.FieldType.int) [((0 : Nat), (9 : Nat), (12 : Nat), (80 : Nat))]) ∈ lw_all := lw_g (lw_at lw_m4 12 rfl) rfl
theorem q825 : (Jvm.Cond.classLink "IntervalTreeLaw" (80 : Nat) "java/lang/IndexOutOfBoundsException") ∈ lw_all := lw_g (lw_at lw_m4 13 rfl) rfl
theorem q849 : (Jvm.Cond.methodLink "IntervalTreeLaw" (77 : Nat) ({ cls := "IntervalTree", name := "select", desc := "(I)I" } : Jvm.MethodName)) ∈ lw_all := lw_g (lw_at lw_m4 37 rfl) rfl
theorem q866 : (Jvm.Cond.methodLink "IntervalTreeLaw" (252 : Nat) ({ cls := "IntervalTreeLaw", name := "nearest", desc := "(LIntervalTree;I[J)I" } : Jvm.MethodName)) ∈ lw_all := lw_g (lw_at lw_m4 54 rfl) rfl
theorem q867 : (Jvm.Cond.static ({ cls := "IntervalTreeLaw", name := "nearest", desc := "(LIntervalTree;I[J)I" } : Jvm.MethodName)) ∈ lw_all := lw_g (lw_at lw_m4 55 rfl) rfl
theorem q868 : (Jvm.Cond.codeWith ({ cls := "IntervalTreeLaw", name := "nearest", desc := "(LIntervalTree;I[J)I" } : Jvm.MethodName) method_23_code (4 : Nat) (Option.some Jvm.ClassFile.FieldType.int) [((0 : Nat), (9 : Nat), (12 : Nat), (13 : Nat))]) ∈ lw_all := lw_g (lw_at lw_m4 56 rfl) rfl
theorem q869 : (Jvm.Cond.methodLink "IntervalTreeLaw" (82 : Nat) ({ cls := "IntervalTree", name := "nearest", desc := "(I)I" } : Jvm.MethodName)) ∈ lw_all := lw_g (lw_at lw_m4 57 rfl) rfl
theorem q880 : (Jvm.Cond.methodLink "IntervalTreeLaw" (255 : Nat) ({ cls := "IntervalTreeLaw", name := "covered", desc := "(LIntervalTree;II[J)I" } : Jvm.MethodName)) ∈ lw_all := lw_g (lw_at lw_m4 68 rfl) rfl
theorem q881 : (Jvm.Cond.static ({ cls := "IntervalTreeLaw", name := "covered", desc := "(LIntervalTree;II[J)I" } : Jvm.MethodName)) ∈ lw_all := lw_g (lw_at lw_m4 69 rfl) rfl
theorem q882 : (Jvm.Cond.codeWith ({ cls := "IntervalTreeLaw", name := "covered", desc := "(LIntervalTree;II[J)I" } : Jvm.MethodName) method_24_code (5 : Nat) (Option.some Jvm.ClassFile.FieldType.int) [((0 : Nat), (10 : Nat), (13 : Nat), (13 : Nat))]) ∈ lw_all := lw_g (lw_at lw_m4 70 rfl) rfl
theorem q883 : (Jvm.Cond.methodLink "IntervalTreeLaw" (85 : Nat) ({ cls := "IntervalTree", name := "covered", desc := "(II)I" } : Jvm.MethodName)) ∈ lw_all := lw_g (lw_at lw_m4 71 rfl) rfl
theorem q890 : (Jvm.Cond.methodLink "IntervalTreeLaw" (258 : Nat) ({ cls := "IntervalTreeLaw", name := "deepestPoint", desc := "(LIntervalTree;[J)I" } : Jvm.MethodName)) ∈ lw_all := lw_g (lw_at lw_m4 78 rfl) rfl
theorem q891 : (Jvm.Cond.static ({ cls := "IntervalTreeLaw", name := "deepestPoint", desc := "(LIntervalTree;[J)I" } : Jvm.MethodName)) ∈ lw_all := lw_g (lw_at lw_m4 79 rfl) rfl
theorem q892 : (Jvm.Cond.codeWith ({ cls := "IntervalTreeLaw", name := "deepestPoint", desc := "(LIntervalTree;[J)I" } : Jvm.MethodName) method_25_code (3 : Nat) (Option.some Jvm.ClassFile.FieldType.int) [((0 : Nat), (8 : Nat), (11 : Nat), (21 : Nat))]) ∈ lw_all := lw_g (lw_at lw_m4 80 rfl) rfl
theorem q893 : (Jvm.Cond.methodLink "IntervalTreeLaw" (88 : Nat) ({ cls := "IntervalTree", name := "deepestPoint", desc := "()I" } : Jvm.MethodName)) ∈ lw_all := lw_g (lw_at lw_m4 81 rfl) rfl
theorem q899 : (Jvm.Cond.methodLink "IntervalTreeLaw" (270 : Nat) ({ cls := "IntervalTreeLaw", name := "scheduled", desc := "(LIntervalTree;I[J)I" } : Jvm.MethodName)) ∈ lw_all := lw_g (lw_at lw_m4 87 rfl) rfl
theorem q900 : (Jvm.Cond.static ({ cls := "IntervalTreeLaw", name := "scheduled", desc := "(LIntervalTree;I[J)I" } : Jvm.MethodName)) ∈ lw_all := lw_g (lw_at lw_m4 88 rfl) rfl
theorem q901 : (Jvm.Cond.codeWith ({ cls := "IntervalTreeLaw", name := "scheduled", desc := "(LIntervalTree;I[J)I" } : Jvm.MethodName) method_26_code (4 : Nat) (Option.some Jvm.ClassFile.FieldType.int) [((0 : Nat), (9 : Nat), (12 : Nat), (80 : Nat))]) ∈ lw_all := lw_g (lw_at lw_m4 89 rfl) rfl
theorem q902 : (Jvm.Cond.methodLink "IntervalTreeLaw" (92 : Nat) ({ cls := "IntervalTree", name := "scheduled", desc := "(I)I" } : Jvm.MethodName)) ∈ lw_all := lw_g (lw_at lw_m4 90 rfl) rfl
theorem q907 : (Jvm.Cond.methodLink "IntervalTreeLaw" (273 : Nat) ({ cls := "IntervalTreeLaw", name := "piercingPoint", desc := "(LIntervalTree;I[J)I" } : Jvm.MethodName)) ∈ lw_all := lw_g (lw_at lw_m4 95 rfl) rfl
theorem q908 : (Jvm.Cond.static ({ cls := "IntervalTreeLaw", name := "piercingPoint", desc := "(LIntervalTree;I[J)I" } : Jvm.MethodName)) ∈ lw_all := lw_g (lw_at lw_m4 96 rfl) rfl
theorem q909 : (Jvm.Cond.codeWith ({ cls := "IntervalTreeLaw", name := "piercingPoint", desc := "(LIntervalTree;I[J)I" } : Jvm.MethodName) method_27_code (4 : Nat) (Option.some Jvm.ClassFile.FieldType.int) [((0 : Nat), (9 : Nat), (12 : Nat), (80 : Nat))]) ∈ lw_all := lw_g (lw_at lw_m4 97 rfl) rfl
theorem q910 : (Jvm.Cond.methodLink "IntervalTreeLaw" (95 : Nat) ({ cls := "IntervalTree", name := "piercingPoint", desc := "(I)I" } : Jvm.MethodName)) ∈ lw_all := lw_g (lw_at lw_m4 98 rfl) rfl
theorem q914 : (Jvm.Cond.methodLink "IntervalTreeLaw" (276 : Nat) ({ cls := "IntervalTreeLaw", name := "addRangeFilter", desc := "(LIntervalTree;III[J)I" } : Jvm.MethodName)) ∈ lw_all := lw_g (lw_at lw_m4 102 rfl) rfl
theorem q915 : (Jvm.Cond.static ({ cls := "IntervalTreeLaw", name := "addRangeFilter", desc := "(LIntervalTree;III[J)I" } : Jvm.MethodName)) ∈ lw_all := lw_g (lw_at lw_m4 103 rfl) rfl
theorem q916 : (Jvm.Cond.codeWith ({ cls := "IntervalTreeLaw", name := "addRangeFilter", desc := "(LIntervalTree;III[J)I" } : Jvm.MethodName) method_28_code (6 : Nat) (Option.some Jvm.ClassFile.FieldType.int) [((0 : Nat), (12 : Nat), (15 : Nat), (13 : Nat)), ((0 : Nat), (12 : Nat), (19 : Nat), (15 : Nat))]) ∈ lw_all := lw_g (lw_at lw_m4 104 rfl) rfl
theorem q917 : (Jvm.Cond.methodLink "IntervalTreeLaw" (98 : Nat) ({ cls := "IntervalTree", name := "addRangeFilter", desc := "(III)I" } : Jvm.MethodName)) ∈ lw_all := lw_g (lw_at lw_m4 105 rfl) rfl
theorem q936 : (Jvm.Cond.methodLink "IntervalTreeLaw" (279 : Nat) ({ cls := "IntervalTreeLaw", name := "addHeavierFilter", desc := "(LIntervalTree;I[J)I" } : Jvm.MethodName)) ∈ lw_all := lw_g (lw_at lw_m4 124 rfl) rfl
theorem q937 : (Jvm.Cond.static ({ cls := "IntervalTreeLaw", name := "addHeavierFilter", desc := "(LIntervalTree;I[J)I" } : Jvm.MethodName)) ∈ lw_all := lw_g (lw_at lw_m4 125 rfl) rfl
theorem q938 : (Jvm.Cond.codeWith ({ cls := "IntervalTreeLaw", name := "addHeavierFilter", desc := "(LIntervalTree;I[J)I" } : Jvm.MethodName) method_29_code (4 : Nat) (Option.some Jvm.ClassFile.FieldType.int) [((0 : Nat), (9 : Nat), (12 : Nat), (21 : Nat)), ((0 : Nat), (9 : Nat), (15 : Nat), (15 : Nat))]) ∈ lw_all := lw_g (lw_at lw_m4 126 rfl) rfl
theorem q939 : (Jvm.Cond.methodLink "IntervalTreeLaw" (101 : Nat) ({ cls := "IntervalTree", name := "addHeavierFilter", desc := "(I)I" } : Jvm.MethodName)) ∈ lw_all := lw_g (lw_at lw_m4 127 rfl) rfl
theorem q946 : (Jvm.Cond.methodLink "IntervalTreeLaw" (282 : Nat) ({ cls := "IntervalTreeLaw", name := "addCombinedFilter", desc := "(LIntervalTree;III[J)I" } : Jvm.MethodName)) ∈ lw_all := lw_g (lw_at lw_m4 134 rfl) rfl
theorem q947 : (Jvm.Cond.static ({ cls := "IntervalTreeLaw", name := "addCombinedFilter", desc := "(LIntervalTree;III[J)I" } : Jvm.MethodName)) ∈ lw_all := lw_g (lw_at lw_m4 135 rfl) rfl
theorem q948 : (Jvm.Cond.codeWith ({ cls := "IntervalTreeLaw", name := "addCombinedFilter", desc := "(LIntervalTree;III[J)I" } : Jvm.MethodName) method_30_code (6 : Nat) (Option.some Jvm.ClassFile.FieldType.int) [((0 : Nat), (12 : Nat), (15 : Nat), (13 : Nat)), ((0 : Nat), (12 : Nat), (19 : Nat), (15 : Nat))]) ∈ lw_all := lw_g (lw_at lw_m4 136 rfl) rfl
theorem q949 : (Jvm.Cond.methodLink "IntervalTreeLaw" (104 : Nat) ({ cls := "IntervalTree", name := "addCombinedFilter", desc := "(III)I" } : Jvm.MethodName)) ∈ lw_all := lw_g (lw_at lw_m4 137 rfl) rfl
theorem q976 : (Jvm.Cond.methodLink "IntervalTreeLaw" (285 : Nat) ({ cls := "IntervalTreeLaw", name := "feed", desc := "(LIntervalTree;I[J)I" } : Jvm.MethodName)) ∈ lw_all := lw_g (lw_at lw_m4 164 rfl) rfl
theorem q977 : (Jvm.Cond.static ({ cls := "IntervalTreeLaw", name := "feed", desc := "(LIntervalTree;I[J)I" } : Jvm.MethodName)) ∈ lw_all := lw_g (lw_at lw_m4 165 rfl) rfl
theorem q978 : (Jvm.Cond.codeWith ({ cls := "IntervalTreeLaw", name := "feed", desc := "(LIntervalTree;I[J)I" } : Jvm.MethodName) method_31_code (4 : Nat) (Option.some Jvm.ClassFile.FieldType.int) [((0 : Nat), (9 : Nat), (12 : Nat), (13 : Nat)), ((0 : Nat), (9 : Nat), (15 : Nat), (15 : Nat))]) ∈ lw_all := lw_g (lw_at lw_m4 166 rfl) rfl
theorem q979 : (Jvm.Cond.methodLink "IntervalTreeLaw" (107 : Nat) ({ cls := "IntervalTree", name := "feed", desc := "(I)I" } : Jvm.MethodName)) ∈ lw_all := lw_g (lw_at lw_m4 167 rfl) rfl
theorem q984 : (Jvm.Cond.methodLink "IntervalTreeLaw" (288 : Nat) ({ cls := "IntervalTreeLaw", name := "parseFilter", desc := "(LIntervalTree;[J)I" } : Jvm.MethodName)) ∈ lw_all := lw_g (lw_at lw_m4 172 rfl) rfl
theorem q985 : (Jvm.Cond.static ({ cls := "IntervalTreeLaw", name := "parseFilter", desc := "(LIntervalTree;[J)I" } : Jvm.MethodName)) ∈ lw_all := lw_g (lw_at lw_m4 173 rfl) rfl
theorem q986 : (Jvm.Cond.codeWith ({ cls := "IntervalTreeLaw", name := "parseFilter", desc := "(LIntervalTree;[J)I" } : Jvm.MethodName) method_32_code (3 : Nat) (Option.some Jvm.ClassFile.FieldType.int) [((0 : Nat), (8 : Nat), (11 : Nat), (15 : Nat))]) ∈ lw_all := lw_g (lw_at lw_m4 174 rfl) rfl
theorem q987 : (Jvm.Cond.methodLink "IntervalTreeLaw" (110 : Nat) ({ cls := "IntervalTree", name := "parseFilter", desc := "()I" } : Jvm.MethodName)) ∈ lw_all := lw_g (lw_at lw_m4 175 rfl) rfl
theorem q1181 : (Jvm.Cond.methodLink "IntervalTreeLaw" (291 : Nat) ({ cls := "IntervalTreeLaw", name := "matchCount", desc := "(LIntervalTree;I[J)I" } : Jvm.MethodName)) ∈ lw_all := lw_g (lw_at lw_m5 129 rfl) rfl
theorem q1182 : (Jvm.Cond.static ({ cls := "IntervalTreeLaw", name := "matchCount", desc := "(LIntervalTree;I[J)I" } : Jvm.MethodName)) ∈ lw_all := lw_g (lw_at lw_m5 130 rfl) rfl
theorem q1183 : (Jvm.Cond.codeWith ({ cls := "IntervalTreeLaw", name := "matchCount", desc := "(LIntervalTree;I[J)I" } : Jvm.MethodName) method_33_code (4 : Nat) (Option.some Jvm.ClassFile.FieldType.int) [((0 : Nat), (9 : Nat), (12 : Nat), (13 : Nat))]) ∈ lw_all := lw_g (lw_at lw_m5 131 rfl) rfl
theorem q1184 : (Jvm.Cond.methodLink "IntervalTreeLaw" (113 : Nat) ({ cls := "IntervalTree", name := "matchCount", desc := "(I)I" } : Jvm.MethodName)) ∈ lw_all := lw_g (lw_at lw_m5 132 rfl) rfl
theorem q1188 : (Jvm.Cond.methodLink "IntervalTreeLaw" (294 : Nat) ({ cls := "IntervalTreeLaw", name := "accepts", desc := "(LIntervalTree;II[J)I" } : Jvm.MethodName)) ∈ lw_all := lw_g (lw_at lw_m5 136 rfl) rfl
theorem q1189 : (Jvm.Cond.static ({ cls := "IntervalTreeLaw", name := "accepts", desc := "(LIntervalTree;II[J)I" } : Jvm.MethodName)) ∈ lw_all := lw_g (lw_at lw_m5 137 rfl) rfl
theorem q1190 : (Jvm.Cond.codeWith ({ cls := "IntervalTreeLaw", name := "accepts", desc := "(LIntervalTree;II[J)I" } : Jvm.MethodName) method_34_code (5 : Nat) (Option.some Jvm.ClassFile.FieldType.int) [((0 : Nat), (17 : Nat), (20 : Nat), (13 : Nat)), ((0 : Nat), (17 : Nat), (24 : Nat), (21 : Nat))]) ∈ lw_all := lw_g (lw_at lw_m5 138 rfl) rfl
theorem q1191 : (Jvm.Cond.methodLink "IntervalTreeLaw" (116 : Nat) ({ cls := "IntervalTree", name := "accepts", desc := "(II)Z" } : Jvm.MethodName)) ∈ lw_all := lw_g (lw_at lw_m5 139 rfl) rfl
theorem q1195 : (Jvm.Cond.methodLink "IntervalTreeLaw" (297 : Nat) ({ cls := "IntervalTreeLaw", name := "open", desc := "(LIntervalTree;II[J)I" } : Jvm.MethodName)) ∈ lw_all := lw_g (lw_at lw_m5 143 rfl) rfl
theorem q1196 : (Jvm.Cond.static ({ cls := "IntervalTreeLaw", name := "open", desc := "(LIntervalTree;II[J)I" } : Jvm.MethodName)) ∈ lw_all := lw_g (lw_at lw_m5 144 rfl) rfl
theorem q1197 : (Jvm.Cond.codeWith ({ cls := "IntervalTreeLaw", name := "open", desc := "(LIntervalTree;II[J)I" } : Jvm.MethodName) method_35_code (5 : Nat) (Option.some Jvm.ClassFile.FieldType.int) [((0 : Nat), (10 : Nat), (13 : Nat), (13 : Nat))]) ∈ lw_all := lw_g (lw_at lw_m5 145 rfl) rfl
theorem q1198 : (Jvm.Cond.methodLink "IntervalTreeLaw" (120 : Nat) ({ cls := "IntervalTree", name := "open", desc := "(II)I" } : Jvm.MethodName)) ∈ lw_all := lw_g (lw_at lw_m5 146 rfl) rfl
theorem q1206 : (Jvm.Cond.methodLink "IntervalTreeLaw" (300 : Nat) ({ cls := "IntervalTreeLaw", name := "hasNext", desc := "(LIntervalTree;I[J)I" } : Jvm.MethodName)) ∈ lw_all := lw_g (lw_at lw_m5 154 rfl) rfl
theorem q1207 : (Jvm.Cond.static ({ cls := "IntervalTreeLaw", name := "hasNext", desc := "(LIntervalTree;I[J)I" } : Jvm.MethodName)) ∈ lw_all := lw_g (lw_at lw_m5 155 rfl) rfl
theorem q1208 : (Jvm.Cond.codeWith ({ cls := "IntervalTreeLaw", name := "hasNext", desc := "(LIntervalTree;I[J)I" } : Jvm.MethodName) method_36_code (4 : Nat) (Option.some Jvm.ClassFile.FieldType.int) [((0 : Nat), (16 : Nat), (19 : Nat), (13 : Nat)), ((0 : Nat), (16 : Nat), (22 : Nat), (15 : Nat))]) ∈ lw_all := lw_g (lw_at lw_m5 156 rfl) rfl
theorem q1209 : (Jvm.Cond.methodLink "IntervalTreeLaw" (123 : Nat) ({ cls := "IntervalTree", name := "hasNext", desc := "(I)Z" } : Jvm.MethodName)) ∈ lw_all := lw_g (lw_at lw_m5 157 rfl) rfl
theorem q1218 : (Jvm.Cond.methodLink "IntervalTreeLaw" (303 : Nat) ({ cls := "IntervalTreeLaw", name := "next", desc := "(LIntervalTree;I[J)I" } : Jvm.MethodName)) ∈ lw_all := lw_g (lw_at lw_m5 166 rfl) rfl
theorem q1219 : (Jvm.Cond.static ({ cls := "IntervalTreeLaw", name := "next", desc := "(LIntervalTree;I[J)I" } : Jvm.MethodName)) ∈ lw_all := lw_g (lw_at lw_m5 167 rfl) rfl
theorem q1220 : (Jvm.Cond.codeWith ({ cls := "IntervalTreeLaw", name := "next", desc := "(LIntervalTree;I[J)I" } : Jvm.MethodName) method_37_code (4 : Nat) (Option.some Jvm.ClassFile.FieldType.int) [((0 : Nat), (9 : Nat), (12 : Nat), (13 : Nat)), ((0 : Nat), (9 : Nat), (15 : Nat), (15 : Nat)), ((0 : Nat), (9 : Nat), (18 : Nat), (21 : Nat))]) ∈ lw_all := lw_g (lw_at lw_m5 168 rfl) rfl
theorem q1221 : (Jvm.Cond.methodLink "IntervalTreeLaw" (126 : Nat) ({ cls := "IntervalTree", name := "next", desc := "(I)I" } : Jvm.MethodName)) ∈ lw_all := lw_g (lw_at lw_m5 169 rfl) rfl
theorem q1226 : (Jvm.Cond.methodLink "IntervalTreeLaw" (306 : Nat) ({ cls := "IntervalTreeLaw", name := "removeCurrent", desc := "(LIntervalTree;I[J)I" } : Jvm.MethodName)) ∈ lw_all := lw_g (lw_at lw_m5 174 rfl) rfl
theorem q1227 : (Jvm.Cond.static ({ cls := "IntervalTreeLaw", name := "removeCurrent", desc := "(LIntervalTree;I[J)I" } : Jvm.MethodName)) ∈ lw_all := lw_g (lw_at lw_m5 175 rfl) rfl
theorem q1228 : (Jvm.Cond.codeWith ({ cls := "IntervalTreeLaw", name := "removeCurrent", desc := "(LIntervalTree;I[J)I" } : Jvm.MethodName) method_38_code (4 : Nat) (Option.some Jvm.ClassFile.FieldType.int) [((0 : Nat), (9 : Nat), (12 : Nat), (13 : Nat)), ((0 : Nat), (9 : Nat), (15 : Nat), (15 : Nat))]) ∈ lw_all := lw_g (lw_at lw_m5 176 rfl) rfl
theorem q1229 : (Jvm.Cond.methodLink "IntervalTreeLaw" (129 : Nat) ({ cls := "IntervalTree", name := "removeCurrent", desc := "(I)I" } : Jvm.MethodName)) ∈ lw_all := lw_g (lw_at lw_m5 177 rfl) rfl
theorem q1234 : (Jvm.Cond.methodLink "IntervalTreeLaw" (313 : Nat) ({ cls := "IntervalTreeLaw", name := "load", desc := "(LIntervalTree;[J)I" } : Jvm.MethodName)) ∈ lw_all := lw_g (lw_at lw_m5 182 rfl) rfl
theorem q1235 : (Jvm.Cond.static ({ cls := "IntervalTreeLaw", name := "load", desc := "(LIntervalTree;[J)I" } : Jvm.MethodName)) ∈ lw_all := lw_g (lw_at lw_m5 183 rfl) rfl
theorem q1236 : (Jvm.Cond.codeWith ({ cls := "IntervalTreeLaw", name := "load", desc := "(LIntervalTree;[J)I" } : Jvm.MethodName) method_39_code (3 : Nat) (Option.some Jvm.ClassFile.FieldType.int) [((0 : Nat), (8 : Nat), (11 : Nat), (15 : Nat))]) ∈ lw_all := lw_g (lw_at lw_m5 184 rfl) rfl
theorem q1237 : (Jvm.Cond.methodLink "IntervalTreeLaw" (132 : Nat) ({ cls := "IntervalTree", name := "load", desc := "()I" } : Jvm.MethodName)) ∈ lw_all := lw_g (lw_at lw_m5 185 rfl) rfl
theorem q1246 : (Jvm.Cond.methodLink "IntervalTreeLaw" (145 : Nat) ({ cls := "IntervalTreeModel", name := "thrown", desc := "()I" } : Jvm.MethodName)) ∈ lw_all := lw_g (lw_at lw_m5 194 rfl) rfl
theorem q1250 : (Jvm.Cond.classLink "IntervalTreeLaw" (136 : Nat) "IntervalTreeModel") ∈ lw_all := lw_g (lw_at lw_m5 198 rfl) rfl
theorem q1252 : (Jvm.Cond.methodLink "IntervalTreeLaw" (138 : Nat) ({ cls := "IntervalTreeModel", name := "<init>", desc := "()V" } : Jvm.MethodName)) ∈ lw_all := lw_g (lw_at lw_m5 200 rfl) rfl
theorem q1413 : (Jvm.Cond.methodLink "IntervalTreeLaw" (144 : Nat) ({ cls := "IntervalTreeModel", name := "insert", desc := "(III)I" } : Jvm.MethodName)) ∈ lw_all := lw_g (lw_at lw_m6 121 rfl) rfl
theorem q1456 : (Jvm.Cond.methodLink "IntervalTreeLaw" (151 : Nat) ({ cls := "IntervalTreeModel", name := "remove", desc := "(I)I" } : Jvm.MethodName)) ∈ lw_all := lw_g (lw_at lw_m6 164 rfl) rfl
theorem q1476 : (Jvm.Cond.methodLink "IntervalTreeLaw" (154 : Nat) ({ cls := "IntervalTreeModel", name := "restore", desc := "(I)I" } : Jvm.MethodName)) ∈ lw_all := lw_g (lw_at lw_m6 184 rfl) rfl
theorem q1480 : (Jvm.Cond.methodLink "IntervalTreeLaw" (158 : Nat) ({ cls := "IntervalTreeModel", name := "rebuild", desc := "()I" } : Jvm.MethodName)) ∈ lw_all := lw_g (lw_at lw_m6 188 rfl) rfl
theorem q1484 : (Jvm.Cond.methodLink "IntervalTreeLaw" (161 : Nat) ({ cls := "IntervalTreeModel", name := "setRebuildPercentage", desc := "(I)I" } : Jvm.MethodName)) ∈ lw_all := lw_g (lw_at lw_m6 192 rfl) rfl
theorem q1488 : (Jvm.Cond.methodLink "IntervalTreeLaw" (164 : Nat) ({ cls := "IntervalTreeModel", name := "addWeight", desc := "(III)I" } : Jvm.MethodName)) ∈ lw_all := lw_g (lw_at lw_m6 196 rfl) rfl
theorem q1492 : (Jvm.Cond.methodLink "IntervalTreeLaw" (168 : Nat) ({ cls := "IntervalTreeModel", name := "size", desc := "()I" } : Jvm.MethodName)) ∈ lw_all := lw_g (lw_at lw_m6 200 rfl) rfl
theorem q1496 : (Jvm.Cond.methodLink "IntervalTreeLaw" (172 : Nat) ({ cls := "IntervalTreeModel", name := "nodeCount", desc := "()I" } : Jvm.MethodName)) ∈ lw_all := lw_g (lw_at lw_m6 204 rfl) rfl
theorem q1500 : (Jvm.Cond.methodLink "IntervalTreeLaw" (176 : Nat) ({ cls := "IntervalTreeModel", name := "height", desc := "()I" } : Jvm.MethodName)) ∈ lw_all := lw_g (lw_at lw_m6 208 rfl) rfl
theorem q1509 : (Jvm.Cond.methodLink "IntervalTreeLaw" (180 : Nat) ({ cls := "IntervalTreeModel", name := "rebuildCount", desc := "()I" } : Jvm.MethodName)) ∈ lw_all := lw_g (lw_at lw_m6 217 rfl) rfl
theorem q1513 : (Jvm.Cond.methodLink "IntervalTreeLaw" (184 : Nat) ({ cls := "IntervalTreeModel", name := "rebuiltNodes", desc := "()I" } : Jvm.MethodName)) ∈ lw_all := lw_g (lw_at lw_m6 221 rfl) rfl
theorem q1517 : (Jvm.Cond.methodLink "IntervalTreeLaw" (187 : Nat) ({ cls := "IntervalTreeModel", name := "state", desc := "(I)I" } : Jvm.MethodName)) ∈ lw_all := lw_g (lw_at lw_m6 225 rfl) rfl
theorem q1521 : (Jvm.Cond.methodLink "IntervalTreeLaw" (190 : Nat) ({ cls := "IntervalTreeModel", name := "low", desc := "(I)I" } : Jvm.MethodName)) ∈ lw_all := lw_g (lw_at lw_m6 229 rfl) rfl
theorem q1529 : (Jvm.Cond.methodLink "IntervalTreeLaw" (193 : Nat) ({ cls := "IntervalTreeModel", name := "high", desc := "(I)I" } : Jvm.MethodName)) ∈ lw_all := lw_g (lw_at lw_m6 237 rfl) rfl
theorem q1533 : (Jvm.Cond.methodLink "IntervalTreeLaw" (196 : Nat) ({ cls := "IntervalTreeModel", name := "weight", desc := "(I)I" } : Jvm.MethodName)) ∈ lw_all := lw_g (lw_at lw_m7 1 rfl) rfl
theorem q1537 : (Jvm.Cond.methodLink "IntervalTreeLaw" (199 : Nat) ({ cls := "IntervalTreeModel", name := "parent", desc := "(I)I" } : Jvm.MethodName)) ∈ lw_all := lw_g (lw_at lw_m7 5 rfl) rfl
theorem q1541 : (Jvm.Cond.methodLink "IntervalTreeLaw" (203 : Nat) ({ cls := "IntervalTreeModel", name := "child", desc := "(IZ)I" } : Jvm.MethodName)) ∈ lw_all := lw_g (lw_at lw_m7 9 rfl) rfl
theorem q1545 : (Jvm.Cond.methodLink "IntervalTreeLaw" (206 : Nat) ({ cls := "IntervalTreeModel", name := "isRed", desc := "(I)Z" } : Jvm.MethodName)) ∈ lw_all := lw_g (lw_at lw_m7 13 rfl) rfl
theorem q1549 : (Jvm.Cond.methodLink "IntervalTreeLaw" (209 : Nat) ({ cls := "IntervalTreeModel", name := "subtreeSize", desc := "(I)I" } : Jvm.MethodName)) ∈ lw_all := lw_g (lw_at lw_m7 17 rfl) rfl
theorem q1557 : (Jvm.Cond.methodLink "IntervalTreeLaw" (212 : Nat) ({ cls := "IntervalTreeModel", name := "subtreeHigh", desc := "(I)I" } : Jvm.MethodName)) ∈ lw_all := lw_g (lw_at lw_m7 25 rfl) rfl
theorem q1570 : (Jvm.Cond.methodLink "IntervalTreeLaw" (215 : Nat) ({ cls := "IntervalTreeModel", name := "subtreeWeight", desc := "(I)I" } : Jvm.MethodName)) ∈ lw_all := lw_g (lw_at lw_m7 38 rfl) rfl
theorem q1574 : (Jvm.Cond.methodLink "IntervalTreeLaw" (219 : Nat) ({ cls := "IntervalTreeModel", name := "digest", desc := "()I" } : Jvm.MethodName)) ∈ lw_all := lw_g (lw_at lw_m7 42 rfl) rfl
theorem q1587 : (Jvm.Cond.methodLink "IntervalTreeLaw" (223 : Nat) ({ cls := "IntervalTreeModel", name := "stabCount", desc := "(I)I" } : Jvm.MethodName)) ∈ lw_all := lw_g (lw_at lw_m7 55 rfl) rfl
theorem q1595 : (Jvm.Cond.methodLink "IntervalTreeLaw" (227 : Nat) ({ cls := "IntervalTreeModel", name := "stabWeight", desc := "(I)I" } : Jvm.MethodName)) ∈ lw_all := lw_g (lw_at lw_m7 63 rfl) rfl
theorem q1599 : (Jvm.Cond.methodLink "IntervalTreeLaw" (231 : Nat) ({ cls := "IntervalTreeModel", name := "heaviest", desc := "(II)I" } : Jvm.MethodName)) ∈ lw_all := lw_g (lw_at lw_m7 67 rfl) rfl
theorem q1607 : (Jvm.Cond.methodLink "IntervalTreeLaw" (234 : Nat) ({ cls := "IntervalTreeModel", name := "heaviestOverlap", desc := "(III)I" } : Jvm.MethodName)) ∈ lw_all := lw_g (lw_at lw_m7 75 rfl) rfl
theorem q1611 : (Jvm.Cond.methodLink "IntervalTreeLaw" (237 : Nat) ({ cls := "IntervalTreeModel", name := "firstOverlap", desc := "(II)I" } : Jvm.MethodName)) ∈ lw_all := lw_g (lw_at lw_m7 79 rfl) rfl
theorem q1615 : (Jvm.Cond.methodLink "IntervalTreeLaw" (241 : Nat) ({ cls := "IntervalTreeModel", name := "floor", desc := "(I)I" } : Jvm.MethodName)) ∈ lw_all := lw_g (lw_at lw_m7 83 rfl) rfl
theorem q1619 : (Jvm.Cond.methodLink "IntervalTreeLaw" (245 : Nat) ({ cls := "IntervalTreeModel", name := "ceiling", desc := "(I)I" } : Jvm.MethodName)) ∈ lw_all := lw_g (lw_at lw_m7 87 rfl) rfl
theorem q1623 : (Jvm.Cond.methodLink "IntervalTreeLaw" (248 : Nat) ({ cls := "IntervalTreeModel", name := "rank", desc := "(I)I" } : Jvm.MethodName)) ∈ lw_all := lw_g (lw_at lw_m7 91 rfl) rfl
theorem q1627 : (Jvm.Cond.methodLink "IntervalTreeLaw" (251 : Nat) ({ cls := "IntervalTreeModel", name := "select", desc := "(I)I" } : Jvm.MethodName)) ∈ lw_all := lw_g (lw_at lw_m7 95 rfl) rfl
theorem q1631 : (Jvm.Cond.methodLink "IntervalTreeLaw" (254 : Nat) ({ cls := "IntervalTreeModel", name := "nearest", desc := "(I)I" } : Jvm.MethodName)) ∈ lw_all := lw_g (lw_at lw_m7 99 rfl) rfl
theorem q1635 : (Jvm.Cond.methodLink "IntervalTreeLaw" (257 : Nat) ({ cls := "IntervalTreeModel", name := "covered", desc := "(II)I" } : Jvm.MethodName)) ∈ lw_all := lw_g (lw_at lw_m7 103 rfl) rfl
theorem q1644 : (Jvm.Cond.methodLink "IntervalTreeLaw" (261 : Nat) ({ cls := "IntervalTreeModel", name := "deepestPoint", desc := "()I" } : Jvm.MethodName)) ∈ lw_all := lw_g (lw_at lw_m7 112 rfl) rfl
theorem q1648 : (Jvm.Cond.methodLink "IntervalTreeLaw" (265 : Nat) ({ cls := "IntervalTreeModel", name := "overlapCount", desc := "()I" } : Jvm.MethodName)) ∈ lw_all := lw_g (lw_at lw_m7 116 rfl) rfl
theorem q1652 : (Jvm.Cond.methodLink "IntervalTreeLaw" (269 : Nat) ({ cls := "IntervalTreeModel", name := "scheduleWeight", desc := "()I" } : Jvm.MethodName)) ∈ lw_all := lw_g (lw_at lw_m7 120 rfl) rfl
theorem q1664 : (Jvm.Cond.methodLink "IntervalTreeLaw" (272 : Nat) ({ cls := "IntervalTreeModel", name := "scheduled", desc := "(I)I" } : Jvm.MethodName)) ∈ lw_all := lw_g (lw_at lw_m7 132 rfl) rfl
theorem q1668 : (Jvm.Cond.methodLink "IntervalTreeLaw" (275 : Nat) ({ cls := "IntervalTreeModel", name := "piercingPoint", desc := "(I)I" } : Jvm.MethodName)) ∈ lw_all := lw_g (lw_at lw_m7 136 rfl) rfl
theorem q1672 : (Jvm.Cond.methodLink "IntervalTreeLaw" (278 : Nat) ({ cls := "IntervalTreeModel", name := "addRangeFilter", desc := "(III)I" } : Jvm.MethodName)) ∈ lw_all := lw_g (lw_at lw_m7 140 rfl) rfl
theorem q1680 : (Jvm.Cond.methodLink "IntervalTreeLaw" (281 : Nat) ({ cls := "IntervalTreeModel", name := "addHeavierFilter", desc := "(I)I" } : Jvm.MethodName)) ∈ lw_all := lw_g (lw_at lw_m7 148 rfl) rfl
theorem q1684 : (Jvm.Cond.methodLink "IntervalTreeLaw" (284 : Nat) ({ cls := "IntervalTreeModel", name := "addCombinedFilter", desc := "(III)I" } : Jvm.MethodName)) ∈ lw_all := lw_g (lw_at lw_m7 152 rfl) rfl
theorem q1692 : (Jvm.Cond.methodLink "IntervalTreeLaw" (287 : Nat) ({ cls := "IntervalTreeModel", name := "feed", desc := "(I)I" } : Jvm.MethodName)) ∈ lw_all := lw_g (lw_at lw_m7 160 rfl) rfl
theorem q1696 : (Jvm.Cond.methodLink "IntervalTreeLaw" (290 : Nat) ({ cls := "IntervalTreeModel", name := "parseFilter", desc := "()I" } : Jvm.MethodName)) ∈ lw_all := lw_g (lw_at lw_m7 164 rfl) rfl
theorem q1732 : (Jvm.Cond.methodLink "IntervalTreeLaw" (293 : Nat) ({ cls := "IntervalTreeModel", name := "matchCount", desc := "(I)I" } : Jvm.MethodName)) ∈ lw_all := lw_g (lw_at lw_m7 200 rfl) rfl
theorem q1756 : (Jvm.Cond.methodLink "IntervalTreeLaw" (296 : Nat) ({ cls := "IntervalTreeModel", name := "accepts", desc := "(II)Z" } : Jvm.MethodName)) ∈ lw_all := lw_g (lw_at lw_m7 224 rfl) rfl
theorem q1760 : (Jvm.Cond.methodLink "IntervalTreeLaw" (299 : Nat) ({ cls := "IntervalTreeModel", name := "open", desc := "(II)I" } : Jvm.MethodName)) ∈ lw_all := lw_g (lw_at lw_m7 228 rfl) rfl
theorem q1771 : (Jvm.Cond.methodLink "IntervalTreeLaw" (302 : Nat) ({ cls := "IntervalTreeModel", name := "hasNext", desc := "(I)Z" } : Jvm.MethodName)) ∈ lw_all := lw_g (lw_at lw_m7 239 rfl) rfl
theorem q1775 : (Jvm.Cond.methodLink "IntervalTreeLaw" (305 : Nat) ({ cls := "IntervalTreeModel", name := "next", desc := "(I)I" } : Jvm.MethodName)) ∈ lw_all := lw_g (lw_at lw_m8 3 rfl) rfl
theorem q1779 : (Jvm.Cond.methodLink "IntervalTreeLaw" (308 : Nat) ({ cls := "IntervalTreeModel", name := "removeCurrent", desc := "(I)I" } : Jvm.MethodName)) ∈ lw_all := lw_g (lw_at lw_m8 7 rfl) rfl
theorem q1783 : (Jvm.Cond.methodLink "IntervalTreeLaw" (312 : Nat) ({ cls := "IntervalTreeModel", name := "save", desc := "()I" } : Jvm.MethodName)) ∈ lw_all := lw_g (lw_at lw_m8 11 rfl) rfl
theorem q1787 : (Jvm.Cond.methodLink "IntervalTreeLaw" (315 : Nat) ({ cls := "IntervalTreeModel", name := "load", desc := "()I" } : Jvm.MethodName)) ∈ lw_all := lw_g (lw_at lw_m8 15 rfl) rfl

/-! the law's own entry -/
set_option maxRecDepth 100000
abbrev cL_law : ByteArray := code
def dkwL_law_109 : List UInt8 := [148, 153, 0, 5, 3, 172, 167, 0, 3, 132, 4, 4, 167, 245, 85, 4, 172]
abbrev dktL_law_109 : List UInt8 := dkwL_law_109 ++ []
def dkwL_law_108 : List UInt8 := [54, 6, 44, 182, 0, 145, 21, 5, 159, 0, 5, 3, 172, 21, 5, 154, 0, 15, 45, 3, 47, 21, 6, 133]
abbrev dktL_law_108 : List UInt8 := dkwL_law_108 ++ dktL_law_109
def dkwL_law_107 : List UInt8 := [182, 1, 53, 44, 182, 1, 56, 159, 0, 49, 3, 172, 43, 45, 184, 1, 57, 54, 5, 44, 182, 1, 59]
abbrev dktL_law_107 : List UInt8 := dkwL_law_107 ++ dktL_law_108
def dkwL_law_106 : List UInt8 := [172, 21, 5, 154, 0, 15, 45, 3, 47, 21, 6, 133, 148, 153, 0, 5, 3, 172, 167, 0, 60, 43]
abbrev dktL_law_106 : List UInt8 := dkwL_law_106 ++ dktL_law_107
def dkwL_law_105 : List UInt8 := [54, 5, 44, 42, 21, 4, 4, 96, 46, 182, 1, 52, 54, 6, 44, 182, 0, 145, 21, 5, 159, 0, 5, 3]
abbrev dktL_law_105 : List UInt8 := dkwL_law_105 ++ dktL_law_106
def dkwL_law_104 : List UInt8 := [21, 6, 133, 148, 153, 0, 5, 3, 172, 167, 0, 116, 43, 42, 21, 4, 4, 96, 46, 45, 184, 1, 50]
abbrev dktL_law_104 : List UInt8 := dkwL_law_104 ++ dktL_law_105
def dkwL_law_103 : List UInt8 := [182, 1, 49, 54, 6, 44, 182, 0, 145, 21, 5, 159, 0, 5, 3, 172, 21, 5, 154, 0, 15, 45, 3, 47]
abbrev dktL_law_103 : List UInt8 := dkwL_law_103 ++ dktL_law_104
def dkwL_law_102 : List UInt8 := [172, 167, 0, 172, 43, 42, 21, 4, 4, 96, 46, 45, 184, 1, 47, 54, 5, 44, 42, 21, 4, 4, 96, 46]
abbrev dktL_law_102 : List UInt8 := dkwL_law_102 ++ dktL_law_103
def dkwL_law_101 : List UInt8 := [172, 21, 5, 154, 0, 22, 45, 3, 47, 21, 6, 153, 0, 7, 10, 167, 0, 4, 9, 148, 153, 0, 5, 3]
abbrev dktL_law_101 : List UInt8 := dkwL_law_101 ++ dktL_law_102
def dkwL_law_100 : List UInt8 := [54, 5, 44, 42, 21, 4, 4, 96, 46, 182, 1, 46, 54, 6, 44, 182, 0, 145, 21, 5, 159, 0, 5, 3]
abbrev dktL_law_100 : List UInt8 := dkwL_law_100 ++ dktL_law_101
def dkwL_law_99 : List UInt8 := [47, 21, 6, 133, 148, 153, 0, 5, 3, 172, 167, 0, 235, 43, 42, 21, 4, 4, 96, 46, 45, 184, 1, 44]
abbrev dktL_law_99 : List UInt8 := dkwL_law_99 ++ dktL_law_100
def dkwL_law_98 : List UInt8 := [46, 182, 1, 43, 54, 6, 44, 182, 0, 145, 21, 5, 159, 0, 5, 3, 172, 21, 5, 154, 0, 15, 45, 3]
abbrev dktL_law_98 : List UInt8 := dkwL_law_98 ++ dktL_law_99
def dkwL_law_97 : List UInt8 := [42, 21, 4, 5, 96, 46, 45, 184, 1, 41, 54, 5, 44, 42, 21, 4, 4, 96, 46, 42, 21, 4, 5, 96]
abbrev dktL_law_97 : List UInt8 := dkwL_law_97 ++ dktL_law_98
def dkwL_law_96 : List UInt8 := [153, 0, 7, 10, 167, 0, 4, 9, 148, 153, 0, 5, 3, 172, 167, 1, 47, 43, 42, 21, 4, 4, 96, 46]
abbrev dktL_law_96 : List UInt8 := dkwL_law_96 ++ dktL_law_97
def dkwL_law_95 : List UInt8 := [54, 6, 44, 182, 0, 145, 21, 5, 159, 0, 5, 3, 172, 21, 5, 154, 0, 22, 45, 3, 47, 21, 6]
abbrev dktL_law_95 : List UInt8 := dkwL_law_95 ++ dktL_law_96
def dkwL_law_94 : List UInt8 := [46, 45, 184, 1, 38, 54, 5, 44, 42, 21, 4, 4, 96, 46, 42, 21, 4, 5, 96, 46, 182, 1, 40]
abbrev dktL_law_94 : List UInt8 := dkwL_law_94 ++ dktL_law_95
def dkwL_law_93 : List UInt8 := [21, 6, 133, 148, 153, 0, 5, 3, 172, 167, 1, 122, 43, 42, 21, 4, 4, 96, 46, 42, 21, 4, 5, 96]
abbrev dktL_law_93 : List UInt8 := dkwL_law_93 ++ dktL_law_94
def dkwL_law_92 : List UInt8 := [182, 1, 37, 54, 6, 44, 182, 0, 145, 21, 5, 159, 0, 5, 3, 172, 21, 5, 154, 0, 15, 45, 3, 47]
abbrev dktL_law_92 : List UInt8 := dkwL_law_92 ++ dktL_law_93
def dkwL_law_91 : List UInt8 := [167, 1, 178, 43, 42, 21, 4, 4, 96, 46, 45, 184, 1, 35, 54, 5, 44, 42, 21, 4, 4, 96, 46]
abbrev dktL_law_91 : List UInt8 := dkwL_law_91 ++ dktL_law_92
def dkwL_law_90 : List UInt8 := [159, 0, 5, 3, 172, 21, 5, 154, 0, 15, 45, 3, 47, 21, 6, 133, 148, 153, 0, 5, 3, 172]
abbrev dktL_law_90 : List UInt8 := dkwL_law_90 ++ dktL_law_91
def dkwL_law_89 : List UInt8 := [167, 1, 222, 43, 45, 184, 1, 32, 54, 5, 44, 182, 1, 34, 54, 6, 44, 182, 0, 145, 21, 5]
abbrev dktL_law_89 : List UInt8 := dkwL_law_89 ++ dktL_law_90
def dkwL_law_88 : List UInt8 := [21, 5, 159, 0, 5, 3, 172, 21, 5, 154, 0, 15, 45, 3, 47, 21, 6, 133, 148, 153, 0, 5, 3, 172]
abbrev dktL_law_88 : List UInt8 := dkwL_law_88 ++ dktL_law_89
def dkwL_law_87 : List UInt8 := [46, 45, 184, 1, 29, 54, 5, 44, 42, 21, 4, 4, 96, 46, 182, 1, 31, 54, 6, 44, 182, 0, 145]
abbrev dktL_law_87 : List UInt8 := dkwL_law_87 ++ dktL_law_88
def dkwL_law_86 : List UInt8 := [154, 0, 15, 45, 3, 47, 21, 6, 133, 148, 153, 0, 5, 3, 172, 167, 2, 22, 43, 42, 21, 4, 4, 96]
abbrev dktL_law_86 : List UInt8 := dkwL_law_86 ++ dktL_law_87
def dkwL_law_85 : List UInt8 := [21, 4, 6, 96, 46, 182, 1, 28, 54, 6, 44, 182, 0, 145, 21, 5, 159, 0, 5, 3, 172, 21, 5]
abbrev dktL_law_85 : List UInt8 := dkwL_law_85 ++ dktL_law_86
def dkwL_law_84 : List UInt8 := [6, 96, 46, 45, 184, 1, 26, 54, 5, 44, 42, 21, 4, 4, 96, 46, 42, 21, 4, 5, 96, 46, 42]
abbrev dktL_law_84 : List UInt8 := dkwL_law_84 ++ dktL_law_85
def dkwL_law_83 : List UInt8 := [153, 0, 5, 3, 172, 167, 2, 102, 43, 42, 21, 4, 4, 96, 46, 42, 21, 4, 5, 96, 46, 42, 21, 4]
abbrev dktL_law_83 : List UInt8 := dkwL_law_83 ++ dktL_law_84
def dkwL_law_82 : List UInt8 := [182, 0, 145, 21, 5, 159, 0, 5, 3, 172, 21, 5, 154, 0, 15, 45, 3, 47, 21, 6, 133, 148]
abbrev dktL_law_82 : List UInt8 := dkwL_law_82 ++ dktL_law_83
def dkwL_law_81 : List UInt8 := [4, 96, 46, 45, 184, 1, 23, 54, 5, 44, 42, 21, 4, 4, 96, 46, 182, 1, 25, 54, 6, 44]
abbrev dktL_law_81 : List UInt8 := dkwL_law_81 ++ dktL_law_82
def dkwL_law_80 : List UInt8 := [21, 5, 154, 0, 15, 45, 3, 47, 21, 6, 133, 148, 153, 0, 5, 3, 172, 167, 2, 158, 43, 42, 21, 4]
abbrev dktL_law_80 : List UInt8 := dkwL_law_80 ++ dktL_law_81
def dkwL_law_79 : List UInt8 := [96, 46, 42, 21, 4, 6, 96, 46, 182, 1, 22, 54, 6, 44, 182, 0, 145, 21, 5, 159, 0, 5, 3, 172]
abbrev dktL_law_79 : List UInt8 := dkwL_law_79 ++ dktL_law_80
def dkwL_law_78 : List UInt8 := [46, 42, 21, 4, 6, 96, 46, 45, 184, 1, 20, 54, 5, 44, 42, 21, 4, 4, 96, 46, 42, 21, 4, 5]
abbrev dktL_law_78 : List UInt8 := dkwL_law_78 ++ dktL_law_79
def dkwL_law_77 : List UInt8 := [21, 6, 133, 148, 153, 0, 5, 3, 172, 167, 2, 238, 43, 42, 21, 4, 4, 96, 46, 42, 21, 4, 5, 96]
abbrev dktL_law_77 : List UInt8 := dkwL_law_77 ++ dktL_law_78
def dkwL_law_76 : List UInt8 := [182, 1, 19, 54, 6, 44, 182, 0, 145, 21, 5, 159, 0, 5, 3, 172, 21, 5, 154, 0, 15, 45, 3, 47]
abbrev dktL_law_76 : List UInt8 := dkwL_law_76 ++ dktL_law_77
def dkwL_law_75 : List UInt8 := [167, 3, 38, 43, 42, 21, 4, 4, 96, 46, 45, 184, 1, 17, 54, 5, 44, 42, 21, 4, 4, 96, 46]
abbrev dktL_law_75 : List UInt8 := dkwL_law_75 ++ dktL_law_76
def dkwL_law_74 : List UInt8 := [21, 5, 159, 0, 5, 3, 172, 21, 5, 154, 0, 15, 45, 3, 47, 21, 6, 133, 148, 153, 0, 5, 3, 172]
abbrev dktL_law_74 : List UInt8 := dkwL_law_74 ++ dktL_law_75
def dkwL_law_73 : List UInt8 := [46, 45, 184, 1, 14, 54, 5, 44, 42, 21, 4, 4, 96, 46, 182, 1, 16, 54, 6, 44, 182, 0, 145]
abbrev dktL_law_73 : List UInt8 := dkwL_law_73 ++ dktL_law_74
def dkwL_law_72 : List UInt8 := [159, 3, 109, 3, 172, 43, 182, 1, 10, 44, 182, 1, 13, 159, 3, 96, 3, 172, 43, 42, 21, 4, 4, 96]
abbrev dktL_law_72 : List UInt8 := dkwL_law_72 ++ dktL_law_73
def dkwL_law_71 : List UInt8 := [45, 3, 47, 21, 6, 133, 148, 153, 0, 5, 3, 172, 167, 3, 120, 43, 182, 1, 6, 44, 182, 1, 9]
abbrev dktL_law_71 : List UInt8 := dkwL_law_71 ++ dktL_law_72
def dkwL_law_70 : List UInt8 := [54, 5, 44, 182, 1, 5, 54, 6, 44, 182, 0, 145, 21, 5, 159, 0, 5, 3, 172, 21, 5, 154, 0, 15]
abbrev dktL_law_70 : List UInt8 := dkwL_law_70 ++ dktL_law_71
def dkwL_law_69 : List UInt8 := [154, 0, 15, 45, 3, 47, 21, 6, 133, 148, 153, 0, 5, 3, 172, 167, 3, 164, 43, 45, 184, 1, 2]
abbrev dktL_law_69 : List UInt8 := dkwL_law_69 ++ dktL_law_70
def dkwL_law_68 : List UInt8 := [42, 21, 4, 5, 96, 46, 182, 1, 1, 54, 6, 44, 182, 0, 145, 21, 5, 159, 0, 5, 3, 172, 21, 5]
abbrev dktL_law_68 : List UInt8 := dkwL_law_68 ++ dktL_law_69
def dkwL_law_67 : List UInt8 := [21, 4, 4, 96, 46, 42, 21, 4, 5, 96, 46, 45, 184, 0, 255, 54, 5, 44, 42, 21, 4, 4, 96, 46]
abbrev dktL_law_67 : List UInt8 := dkwL_law_67 ++ dktL_law_68
def dkwL_law_66 : List UInt8 := [172, 21, 5, 154, 0, 15, 45, 3, 47, 21, 6, 133, 148, 153, 0, 5, 3, 172, 167, 3, 232, 43, 42]
abbrev dktL_law_66 : List UInt8 := dkwL_law_66 ++ dktL_law_67
def dkwL_law_65 : List UInt8 := [54, 5, 44, 42, 21, 4, 4, 96, 46, 182, 0, 254, 54, 6, 44, 182, 0, 145, 21, 5, 159, 0, 5, 3]
abbrev dktL_law_65 : List UInt8 := dkwL_law_65 ++ dktL_law_66
def dkwL_law_64 : List UInt8 := [21, 6, 133, 148, 153, 0, 5, 3, 172, 167, 4, 32, 43, 42, 21, 4, 4, 96, 46, 45, 184, 0, 252]
abbrev dktL_law_64 : List UInt8 := dkwL_law_64 ++ dktL_law_65
def dkwL_law_63 : List UInt8 := [182, 0, 251, 54, 6, 44, 182, 0, 145, 21, 5, 159, 0, 5, 3, 172, 21, 5, 154, 0, 15, 45, 3, 47]
abbrev dktL_law_63 : List UInt8 := dkwL_law_63 ++ dktL_law_64
def dkwL_law_62 : List UInt8 := [167, 4, 88, 43, 42, 21, 4, 4, 96, 46, 45, 184, 0, 249, 54, 5, 44, 42, 21, 4, 4, 96, 46]
abbrev dktL_law_62 : List UInt8 := dkwL_law_62 ++ dktL_law_63
def dkwL_law_61 : List UInt8 := [21, 5, 159, 0, 5, 3, 172, 21, 5, 154, 0, 15, 45, 3, 47, 21, 6, 133, 148, 153, 0, 5, 3, 172]
abbrev dktL_law_61 : List UInt8 := dkwL_law_61 ++ dktL_law_62
def dkwL_law_60 : List UInt8 := [46, 45, 184, 0, 246, 54, 5, 44, 42, 21, 4, 4, 96, 46, 182, 0, 248, 54, 6, 44, 182, 0, 145]
abbrev dktL_law_60 : List UInt8 := dkwL_law_60 ++ dktL_law_61
def dkwL_law_59 : List UInt8 := [182, 0, 242, 44, 42, 21, 4, 4, 96, 46, 182, 0, 245, 159, 4, 146, 3, 172, 43, 42, 21, 4, 4, 96]
abbrev dktL_law_59 : List UInt8 := dkwL_law_59 ++ dktL_law_60
def dkwL_law_58 : List UInt8 := [44, 42, 21, 4, 4, 96, 46, 182, 0, 241, 159, 4, 171, 3, 172, 43, 42, 21, 4, 4, 96, 46]
abbrev dktL_law_58 : List UInt8 := dkwL_law_58 ++ dktL_law_59
def dkwL_law_57 : List UInt8 := [3, 47, 21, 6, 133, 148, 153, 0, 5, 3, 172, 167, 4, 194, 43, 42, 21, 4, 4, 96, 46, 182, 0, 238]
abbrev dktL_law_57 : List UInt8 := dkwL_law_57 ++ dktL_law_58
def dkwL_law_56 : List UInt8 := [96, 46, 182, 0, 237, 54, 6, 44, 182, 0, 145, 21, 5, 159, 0, 5, 3, 172, 21, 5, 154, 0, 15, 45]
abbrev dktL_law_56 : List UInt8 := dkwL_law_56 ++ dktL_law_57
def dkwL_law_55 : List UInt8 := [46, 42, 21, 4, 5, 96, 46, 45, 184, 0, 235, 54, 5, 44, 42, 21, 4, 4, 96, 46, 42, 21, 4, 5]
abbrev dktL_law_55 : List UInt8 := dkwL_law_55 ++ dktL_law_56
def dkwL_law_54 : List UInt8 := [154, 0, 15, 45, 3, 47, 21, 6, 133, 148, 153, 0, 5, 3, 172, 167, 5, 6, 43, 42, 21, 4, 4, 96]
abbrev dktL_law_54 : List UInt8 := dkwL_law_54 ++ dktL_law_55
def dkwL_law_53 : List UInt8 := [21, 4, 6, 96, 46, 182, 0, 234, 54, 6, 44, 182, 0, 145, 21, 5, 159, 0, 5, 3, 172, 21, 5]
abbrev dktL_law_53 : List UInt8 := dkwL_law_53 ++ dktL_law_54
def dkwL_law_52 : List UInt8 := [6, 96, 46, 45, 184, 0, 232, 54, 5, 44, 42, 21, 4, 4, 96, 46, 42, 21, 4, 5, 96, 46, 42]
abbrev dktL_law_52 : List UInt8 := dkwL_law_52 ++ dktL_law_53
def dkwL_law_51 : List UInt8 := [153, 0, 5, 3, 172, 167, 5, 86, 43, 42, 21, 4, 4, 96, 46, 42, 21, 4, 5, 96, 46, 42, 21, 4]
abbrev dktL_law_51 : List UInt8 := dkwL_law_51 ++ dktL_law_52
def dkwL_law_50 : List UInt8 := [182, 0, 145, 21, 5, 159, 0, 5, 3, 172, 21, 5, 154, 0, 15, 45, 3, 47, 21, 6, 133, 148]
abbrev dktL_law_50 : List UInt8 := dkwL_law_50 ++ dktL_law_51
def dkwL_law_49 : List UInt8 := [184, 0, 228, 54, 5, 44, 42, 21, 4, 4, 96, 46, 42, 21, 4, 5, 96, 46, 182, 0, 231, 54, 6, 44]
abbrev dktL_law_49 : List UInt8 := dkwL_law_49 ++ dktL_law_50
def dkwL_law_48 : List UInt8 := [96, 46, 182, 0, 227, 159, 5, 156, 3, 172, 43, 42, 21, 4, 4, 96, 46, 42, 21, 4, 5, 96, 46, 45]
abbrev dktL_law_48 : List UInt8 := dkwL_law_48 ++ dktL_law_49
def dkwL_law_47 : List UInt8 := [46, 182, 0, 223, 159, 5, 181, 3, 172, 43, 42, 21, 4, 4, 96, 46, 182, 0, 224, 44, 42, 21, 4, 4]
abbrev dktL_law_47 : List UInt8 := dkwL_law_47 ++ dktL_law_48
def dkwL_law_46 : List UInt8 := [182, 0, 219, 159, 5, 206, 3, 172, 43, 42, 21, 4, 4, 96, 46, 182, 0, 220, 44, 42, 21, 4, 4, 96]
abbrev dktL_law_46 : List UInt8 := dkwL_law_46 ++ dktL_law_47
def dkwL_law_45 : List UInt8 := [154, 0, 15, 45, 3, 47, 21, 6, 133, 148, 153, 0, 5, 3, 172, 167, 5, 217, 43, 182, 0, 216, 44]
abbrev dktL_law_45 : List UInt8 := dkwL_law_45 ++ dktL_law_46
def dkwL_law_44 : List UInt8 := [21, 4, 4, 96, 46, 182, 0, 215, 54, 6, 44, 182, 0, 145, 21, 5, 159, 0, 5, 3, 172, 21, 5]
abbrev dktL_law_44 : List UInt8 := dkwL_law_44 ++ dktL_law_45
def dkwL_law_43 : List UInt8 := [153, 0, 5, 3, 172, 167, 6, 17, 43, 42, 21, 4, 4, 96, 46, 45, 184, 0, 213, 54, 5, 44, 42]
abbrev dktL_law_43 : List UInt8 := dkwL_law_43 ++ dktL_law_44
def dkwL_law_42 : List UInt8 := [182, 0, 145, 21, 5, 159, 0, 5, 3, 172, 21, 5, 154, 0, 15, 45, 3, 47, 21, 6, 133, 148]
abbrev dktL_law_42 : List UInt8 := dkwL_law_42 ++ dktL_law_43
def dkwL_law_41 : List UInt8 := [21, 4, 4, 96, 46, 45, 184, 0, 210, 54, 5, 44, 42, 21, 4, 4, 96, 46, 182, 0, 212, 54, 6, 44]
abbrev dktL_law_41 : List UInt8 := dkwL_law_41 ++ dktL_law_42
def dkwL_law_40 : List UInt8 := [172, 21, 5, 154, 0, 15, 45, 3, 47, 21, 6, 133, 148, 153, 0, 5, 3, 172, 167, 6, 73, 43, 42]
abbrev dktL_law_40 : List UInt8 := dkwL_law_40 ++ dktL_law_41
def dkwL_law_39 : List UInt8 := [54, 5, 44, 42, 21, 4, 4, 96, 46, 182, 0, 209, 54, 6, 44, 182, 0, 145, 21, 5, 159, 0, 5, 3]
abbrev dktL_law_39 : List UInt8 := dkwL_law_39 ++ dktL_law_40
def dkwL_law_38 : List UInt8 := [167, 0, 4, 9, 148, 153, 0, 5, 3, 172, 167, 6, 129, 43, 42, 21, 4, 4, 96, 46, 45, 184, 0, 207]
abbrev dktL_law_38 : List UInt8 := dkwL_law_38 ++ dktL_law_39
def dkwL_law_37 : List UInt8 := [182, 0, 145, 21, 5, 159, 0, 5, 3, 172, 21, 5, 154, 0, 22, 45, 3, 47, 21, 6, 153, 0, 7, 10]
abbrev dktL_law_37 : List UInt8 := dkwL_law_37 ++ dktL_law_38
def dkwL_law_36 : List UInt8 := [4, 96, 46, 45, 184, 0, 204, 54, 5, 44, 42, 21, 4, 4, 96, 46, 182, 0, 206, 54, 6, 44]
abbrev dktL_law_36 : List UInt8 := dkwL_law_36 ++ dktL_law_37
def dkwL_law_35 : List UInt8 := [21, 5, 154, 0, 15, 45, 3, 47, 21, 6, 133, 148, 153, 0, 5, 3, 172, 167, 6, 192, 43, 42, 21, 4]
abbrev dktL_law_35 : List UInt8 := dkwL_law_35 ++ dktL_law_36
def dkwL_law_34 : List UInt8 := [153, 0, 7, 4, 167, 0, 4, 3, 182, 0, 203, 54, 6, 44, 182, 0, 145, 21, 5, 159, 0, 5, 3, 172]
abbrev dktL_law_34 : List UInt8 := dkwL_law_34 ++ dktL_law_35
def dkwL_law_33 : List UInt8 := [4, 167, 0, 4, 3, 45, 184, 0, 200, 54, 5, 44, 42, 21, 4, 4, 96, 46, 42, 21, 4, 5, 96, 46]
abbrev dktL_law_33 : List UInt8 := dkwL_law_33 ++ dktL_law_34
def dkwL_law_32 : List UInt8 := [153, 0, 5, 3, 172, 167, 7, 20, 43, 42, 21, 4, 4, 96, 46, 42, 21, 4, 5, 96, 46, 153, 0, 7]
abbrev dktL_law_32 : List UInt8 := dkwL_law_32 ++ dktL_law_33
def dkwL_law_31 : List UInt8 := [182, 0, 145, 21, 5, 159, 0, 5, 3, 172, 21, 5, 154, 0, 15, 45, 3, 47, 21, 6, 133, 148]
abbrev dktL_law_31 : List UInt8 := dkwL_law_31 ++ dktL_law_32
def dkwL_law_30 : List UInt8 := [21, 4, 4, 96, 46, 45, 184, 0, 197, 54, 5, 44, 42, 21, 4, 4, 96, 46, 182, 0, 199, 54, 6, 44]
abbrev dktL_law_30 : List UInt8 := dkwL_law_30 ++ dktL_law_31
def dkwL_law_29 : List UInt8 := [172, 21, 5, 154, 0, 15, 45, 3, 47, 21, 6, 133, 148, 153, 0, 5, 3, 172, 167, 7, 76, 43, 42]
abbrev dktL_law_29 : List UInt8 := dkwL_law_29 ++ dktL_law_30
def dkwL_law_28 : List UInt8 := [54, 5, 44, 42, 21, 4, 4, 96, 46, 182, 0, 196, 54, 6, 44, 182, 0, 145, 21, 5, 159, 0, 5, 3]
abbrev dktL_law_28 : List UInt8 := dkwL_law_28 ++ dktL_law_29
def dkwL_law_27 : List UInt8 := [21, 6, 133, 148, 153, 0, 5, 3, 172, 167, 7, 132, 43, 42, 21, 4, 4, 96, 46, 45, 184, 0, 194]
abbrev dktL_law_27 : List UInt8 := dkwL_law_27 ++ dktL_law_28
def dkwL_law_26 : List UInt8 := [182, 0, 193, 54, 6, 44, 182, 0, 145, 21, 5, 159, 0, 5, 3, 172, 21, 5, 154, 0, 15, 45, 3, 47]
abbrev dktL_law_26 : List UInt8 := dkwL_law_26 ++ dktL_law_27
def dkwL_law_25 : List UInt8 := [167, 7, 188, 43, 42, 21, 4, 4, 96, 46, 45, 184, 0, 191, 54, 5, 44, 42, 21, 4, 4, 96, 46]
abbrev dktL_law_25 : List UInt8 := dkwL_law_25 ++ dktL_law_26
def dkwL_law_24 : List UInt8 := [21, 5, 159, 0, 5, 3, 172, 21, 5, 154, 0, 15, 45, 3, 47, 21, 6, 133, 148, 153, 0, 5, 3, 172]
abbrev dktL_law_24 : List UInt8 := dkwL_law_24 ++ dktL_law_25
def dkwL_law_23 : List UInt8 := [46, 45, 184, 0, 188, 54, 5, 44, 42, 21, 4, 4, 96, 46, 182, 0, 190, 54, 6, 44, 182, 0, 145]
abbrev dktL_law_23 : List UInt8 := dkwL_law_23 ++ dktL_law_24
def dkwL_law_22 : List UInt8 := [154, 0, 15, 45, 3, 47, 21, 6, 133, 148, 153, 0, 5, 3, 172, 167, 7, 244, 43, 42, 21, 4, 4, 96]
abbrev dktL_law_22 : List UInt8 := dkwL_law_22 ++ dktL_law_23
def dkwL_law_21 : List UInt8 := [21, 4, 4, 96, 46, 182, 0, 187, 54, 6, 44, 182, 0, 145, 21, 5, 159, 0, 5, 3, 172, 21, 5]
abbrev dktL_law_21 : List UInt8 := dkwL_law_21 ++ dktL_law_22
def dkwL_law_20 : List UInt8 := [182, 0, 184, 159, 8, 46, 3, 172, 43, 42, 21, 4, 4, 96, 46, 45, 184, 0, 185, 54, 5, 44, 42]
abbrev dktL_law_20 : List UInt8 := dkwL_law_20 ++ dktL_law_21
def dkwL_law_19 : List UInt8 := [159, 8, 72, 3, 172, 43, 182, 0, 177, 44, 182, 0, 180, 159, 8, 59, 3, 172, 43, 182, 0, 181, 44]
abbrev dktL_law_19 : List UInt8 := dkwL_law_19 ++ dktL_law_20
def dkwL_law_18 : List UInt8 := [172, 43, 182, 0, 169, 44, 182, 0, 172, 159, 8, 85, 3, 172, 43, 182, 0, 173, 44, 182, 0, 176]
abbrev dktL_law_18 : List UInt8 := dkwL_law_18 ++ dktL_law_19
def dkwL_law_17 : List UInt8 := [21, 6, 133, 148, 153, 0, 5, 3, 172, 167, 8, 109, 43, 182, 0, 165, 44, 182, 0, 168, 159, 8, 98, 3]
abbrev dktL_law_17 : List UInt8 := dkwL_law_17 ++ dktL_law_18
def dkwL_law_16 : List UInt8 := [182, 0, 164, 54, 6, 44, 182, 0, 145, 21, 5, 159, 0, 5, 3, 172, 21, 5, 154, 0, 15, 45, 3, 47]
abbrev dktL_law_16 : List UInt8 := dkwL_law_16 ++ dktL_law_17
def dkwL_law_15 : List UInt8 := [184, 0, 162, 54, 5, 44, 42, 21, 4, 4, 96, 46, 42, 21, 4, 5, 96, 46, 42, 21, 4, 6, 96, 46]
abbrev dktL_law_15 : List UInt8 := dkwL_law_15 ++ dktL_law_16
def dkwL_law_14 : List UInt8 := [167, 8, 189, 43, 42, 21, 4, 4, 96, 46, 42, 21, 4, 5, 96, 46, 42, 21, 4, 6, 96, 46, 45]
abbrev dktL_law_14 : List UInt8 := dkwL_law_14 ++ dktL_law_15
def dkwL_law_13 : List UInt8 := [159, 0, 5, 3, 172, 21, 5, 154, 0, 15, 45, 3, 47, 21, 6, 133, 148, 153, 0, 5, 3, 172]
abbrev dktL_law_13 : List UInt8 := dkwL_law_13 ++ dktL_law_14
def dkwL_law_12 : List UInt8 := [184, 0, 159, 54, 5, 44, 42, 21, 4, 4, 96, 46, 182, 0, 161, 54, 6, 44, 182, 0, 145, 21, 5]
abbrev dktL_law_12 : List UInt8 := dkwL_law_12 ++ dktL_law_13
def dkwL_law_11 : List UInt8 := [167, 9, 2, 43, 182, 0, 155, 44, 182, 0, 158, 159, 8, 247, 3, 172, 43, 42, 21, 4, 4, 96, 46, 45]
abbrev dktL_law_11 : List UInt8 := dkwL_law_11 ++ dktL_law_12
def dkwL_law_10 : List UInt8 := [21, 5, 159, 0, 5, 3, 172, 21, 5, 154, 0, 15, 45, 3, 47, 21, 6, 133, 148, 153, 0, 5, 3, 172]
abbrev dktL_law_10 : List UInt8 := dkwL_law_10 ++ dktL_law_11
def dkwL_law_9 : List UInt8 := [46, 45, 184, 0, 152, 54, 5, 44, 42, 21, 4, 4, 96, 46, 182, 0, 154, 54, 6, 44, 182, 0, 145]
abbrev dktL_law_9 : List UInt8 := dkwL_law_9 ++ dktL_law_10
def dkwL_law_8 : List UInt8 := [154, 0, 15, 45, 3, 47, 21, 6, 133, 148, 153, 0, 5, 3, 172, 167, 9, 58, 43, 42, 21, 4, 4, 96]
abbrev dktL_law_8 : List UInt8 := dkwL_law_8 ++ dktL_law_9
def dkwL_law_7 : List UInt8 := [21, 4, 4, 96, 46, 182, 0, 151, 54, 6, 44, 182, 0, 145, 21, 5, 159, 0, 5, 3, 172, 21, 5]
abbrev dktL_law_7 : List UInt8 := dkwL_law_7 ++ dktL_law_8
def dkwL_law_6 : List UInt8 := [148, 153, 0, 5, 3, 172, 167, 9, 114, 43, 42, 21, 4, 4, 96, 46, 45, 184, 0, 148, 54, 5, 44, 42]
abbrev dktL_law_6 : List UInt8 := dkwL_law_6 ++ dktL_law_7
def dkwL_law_5 : List UInt8 := [54, 6, 44, 182, 0, 145, 21, 5, 159, 0, 5, 3, 172, 21, 5, 154, 0, 15, 45, 3, 47, 21, 6, 133]
abbrev dktL_law_5 : List UInt8 := dkwL_law_5 ++ dktL_law_6
def dkwL_law_4 : List UInt8 := [54, 5, 44, 42, 21, 4, 4, 96, 46, 42, 21, 4, 5, 96, 46, 42, 21, 4, 6, 96, 46, 182, 0, 144]
abbrev dktL_law_4 : List UInt8 := dkwL_law_4 ++ dktL_law_5
def dkwL_law_3 : List UInt8 := [43, 42, 21, 4, 4, 96, 46, 42, 21, 4, 5, 96, 46, 42, 21, 4, 6, 96, 46, 45, 184, 0, 139]
abbrev dktL_law_3 : List UInt8 := dkwL_law_3 ++ dktL_law_4
def dkwL_law_2 : List UInt8 := [170, 0, 0, 10, 152, 0, 0, 0, 0, 0, 0, 0, 50, 0, 0, 0, 217, 0, 0, 1, 41, 0, 0, 1, 97, 0, 0, 1, 153, 0, 0, 1, 166, 0, 0, 1, 222, 0, 0, 2, 46, 0, 0, 2, 59, 0, 0, 2, 72, 0, 0, 2, 85, 0, 0, 2, 98, 0, 0, 2, 111, 0, 0, 2, 167, 0, 0, 2, 223, 0, 0, 3, 23, 0, 0, 3, 79, 0, 0, 3, 135, 0, 0, 3, 219, 0, 0, 4, 26, 0, 0, 4, 82, 0, 0, 4, 138, 0, 0, 4, 194, 0, 0, 4, 207, 0, 0, 4, 232, 0, 0, 5, 1, 0, 0, 5, 69, 0, 0, 5, 149, 0, 0, 5, 217, 0, 0, 5, 242, 0, 0, 6, 11, 0, 0, 6, 67, 0, 0, 6, 123, 0, 0, 6, 179, 0, 0, 6, 247, 0, 0, 7, 35, 0, 0, 7, 48, 0, 0, 7, 61, 0, 0, 7, 117, 0, 0, 7, 173, 0, 0, 7, 253, 0, 0, 8, 53, 0, 0, 8, 133, 0, 0, 8, 189, 0, 0, 8, 233, 0, 0, 9, 33, 0, 0, 9, 108, 0, 0, 9, 176, 0, 0, 9, 239, 0, 0, 10, 39, 0, 0, 10, 95, 0, 0, 10, 108]
abbrev dktL_law_2 : List UInt8 := dkwL_law_2 ++ dktL_law_3
def dkwL_law_1 : List UInt8 := [21, 4, 42, 190, 7, 100, 163, 10, 168, 42, 21, 4, 46, 16, 63, 126]
abbrev dktL_law_1 : List UInt8 := dkwL_law_1 ++ dktL_law_2
def dkwL_law_0 : List UInt8 := [187, 0, 8, 89, 183, 0, 135, 76, 187, 0, 136, 89, 183, 0, 138, 77, 4, 188, 11, 78, 3, 54, 4]
abbrev dktL_law_0 : List UInt8 := dkwL_law_0 ++ dktL_law_1
theorem dksL_law_0 : cL_law.data.toList.drop 0 = dktL_law_0 := by decide +kernel
theorem dksL_law_1 : cL_law.data.toList.drop 23 = dktL_law_1 := dk_seg dksL_law_0 23 rfl rfl
theorem dksL_law_2 : cL_law.data.toList.drop 39 = dktL_law_2 := dk_seg dksL_law_1 16 rfl rfl
theorem dksL_law_3 : cL_law.data.toList.drop 256 = dktL_law_3 := dk_seg dksL_law_2 217 rfl rfl
theorem dksL_law_4 : cL_law.data.toList.drop 279 = dktL_law_4 := dk_seg dksL_law_3 23 rfl rfl
theorem dksL_law_5 : cL_law.data.toList.drop 303 = dktL_law_5 := dk_seg dksL_law_4 24 rfl rfl
theorem dksL_law_6 : cL_law.data.toList.drop 327 = dktL_law_6 := dk_seg dksL_law_5 24 rfl rfl
theorem dksL_law_7 : cL_law.data.toList.drop 351 = dktL_law_7 := dk_seg dksL_law_6 24 rfl rfl
theorem dksL_law_8 : cL_law.data.toList.drop 374 = dktL_law_8 := dk_seg dksL_law_7 23 rfl rfl
theorem dksL_law_9 : cL_law.data.toList.drop 398 = dktL_law_9 := dk_seg dksL_law_8 24 rfl rfl
theorem dksL_law_10 : cL_law.data.toList.drop 421 = dktL_law_10 := dk_seg dksL_law_9 23 rfl rfl
theorem dksL_law_11 : cL_law.data.toList.drop 445 = dktL_law_11 := dk_seg dksL_law_10 24 rfl rfl
theorem dksL_law_12 : cL_law.data.toList.drop 469 = dktL_law_12 := dk_seg dksL_law_11 24 rfl rfl
theorem dksL_law_13 : cL_law.data.toList.drop 492 = dktL_law_13 := dk_seg dksL_law_12 23 rfl rfl
theorem dksL_law_14 : cL_law.data.toList.drop 514 = dktL_law_14 := dk_seg dksL_law_13 22 rfl rfl
theorem dksL_law_15 : cL_law.data.toList.drop 537 = dktL_law_15 := dk_seg dksL_law_14 23 rfl rfl
theorem dksL_law_16 : cL_law.data.toList.drop 561 = dktL_law_16 := dk_seg dksL_law_15 24 rfl rfl
theorem dksL_law_17 : cL_law.data.toList.drop 585 = dktL_law_17 := dk_seg dksL_law_16 24 rfl rfl
theorem dksL_law_18 : cL_law.data.toList.drop 609 = dktL_law_18 := dk_seg dksL_law_17 24 rfl rfl
theorem dksL_law_19 : cL_law.data.toList.drop 631 = dktL_law_19 := dk_seg dksL_law_18 22 rfl rfl
theorem dksL_law_20 : cL_law.data.toList.drop 654 = dktL_law_20 := dk_seg dksL_law_19 23 rfl rfl
theorem dksL_law_21 : cL_law.data.toList.drop 677 = dktL_law_21 := dk_seg dksL_law_20 23 rfl rfl
theorem dksL_law_22 : cL_law.data.toList.drop 700 = dktL_law_22 := dk_seg dksL_law_21 23 rfl rfl
theorem dksL_law_23 : cL_law.data.toList.drop 724 = dktL_law_23 := dk_seg dksL_law_22 24 rfl rfl
theorem dksL_law_24 : cL_law.data.toList.drop 747 = dktL_law_24 := dk_seg dksL_law_23 23 rfl rfl
theorem dksL_law_25 : cL_law.data.toList.drop 771 = dktL_law_25 := dk_seg dksL_law_24 24 rfl rfl
theorem dksL_law_26 : cL_law.data.toList.drop 794 = dktL_law_26 := dk_seg dksL_law_25 23 rfl rfl
theorem dksL_law_27 : cL_law.data.toList.drop 818 = dktL_law_27 := dk_seg dksL_law_26 24 rfl rfl
theorem dksL_law_28 : cL_law.data.toList.drop 841 = dktL_law_28 := dk_seg dksL_law_27 23 rfl rfl
theorem dksL_law_29 : cL_law.data.toList.drop 865 = dktL_law_29 := dk_seg dksL_law_28 24 rfl rfl
theorem dksL_law_30 : cL_law.data.toList.drop 888 = dktL_law_30 := dk_seg dksL_law_29 23 rfl rfl
theorem dksL_law_31 : cL_law.data.toList.drop 912 = dktL_law_31 := dk_seg dksL_law_30 24 rfl rfl
theorem dksL_law_32 : cL_law.data.toList.drop 934 = dktL_law_32 := dk_seg dksL_law_31 22 rfl rfl
theorem dksL_law_33 : cL_law.data.toList.drop 958 = dktL_law_33 := dk_seg dksL_law_32 24 rfl rfl
theorem dksL_law_34 : cL_law.data.toList.drop 982 = dktL_law_34 := dk_seg dksL_law_33 24 rfl rfl
theorem dksL_law_35 : cL_law.data.toList.drop 1006 = dktL_law_35 := dk_seg dksL_law_34 24 rfl rfl
theorem dksL_law_36 : cL_law.data.toList.drop 1030 = dktL_law_36 := dk_seg dksL_law_35 24 rfl rfl
theorem dksL_law_37 : cL_law.data.toList.drop 1052 = dktL_law_37 := dk_seg dksL_law_36 22 rfl rfl
theorem dksL_law_38 : cL_law.data.toList.drop 1076 = dktL_law_38 := dk_seg dksL_law_37 24 rfl rfl
theorem dksL_law_39 : cL_law.data.toList.drop 1100 = dktL_law_39 := dk_seg dksL_law_38 24 rfl rfl
theorem dksL_law_40 : cL_law.data.toList.drop 1124 = dktL_law_40 := dk_seg dksL_law_39 24 rfl rfl
theorem dksL_law_41 : cL_law.data.toList.drop 1147 = dktL_law_41 := dk_seg dksL_law_40 23 rfl rfl
theorem dksL_law_42 : cL_law.data.toList.drop 1171 = dktL_law_42 := dk_seg dksL_law_41 24 rfl rfl
theorem dksL_law_43 : cL_law.data.toList.drop 1193 = dktL_law_43 := dk_seg dksL_law_42 22 rfl rfl
theorem dksL_law_44 : cL_law.data.toList.drop 1216 = dktL_law_44 := dk_seg dksL_law_43 23 rfl rfl
theorem dksL_law_45 : cL_law.data.toList.drop 1239 = dktL_law_45 := dk_seg dksL_law_44 23 rfl rfl
theorem dksL_law_46 : cL_law.data.toList.drop 1262 = dktL_law_46 := dk_seg dksL_law_45 23 rfl rfl
theorem dksL_law_47 : cL_law.data.toList.drop 1286 = dktL_law_47 := dk_seg dksL_law_46 24 rfl rfl
theorem dksL_law_48 : cL_law.data.toList.drop 1310 = dktL_law_48 := dk_seg dksL_law_47 24 rfl rfl
theorem dksL_law_49 : cL_law.data.toList.drop 1334 = dktL_law_49 := dk_seg dksL_law_48 24 rfl rfl
theorem dksL_law_50 : cL_law.data.toList.drop 1358 = dktL_law_50 := dk_seg dksL_law_49 24 rfl rfl
theorem dksL_law_51 : cL_law.data.toList.drop 1380 = dktL_law_51 := dk_seg dksL_law_50 22 rfl rfl
theorem dksL_law_52 : cL_law.data.toList.drop 1404 = dktL_law_52 := dk_seg dksL_law_51 24 rfl rfl
theorem dksL_law_53 : cL_law.data.toList.drop 1427 = dktL_law_53 := dk_seg dksL_law_52 23 rfl rfl
theorem dksL_law_54 : cL_law.data.toList.drop 1450 = dktL_law_54 := dk_seg dksL_law_53 23 rfl rfl
theorem dksL_law_55 : cL_law.data.toList.drop 1474 = dktL_law_55 := dk_seg dksL_law_54 24 rfl rfl
theorem dksL_law_56 : cL_law.data.toList.drop 1498 = dktL_law_56 := dk_seg dksL_law_55 24 rfl rfl
theorem dksL_law_57 : cL_law.data.toList.drop 1522 = dktL_law_57 := dk_seg dksL_law_56 24 rfl rfl
theorem dksL_law_58 : cL_law.data.toList.drop 1546 = dktL_law_58 := dk_seg dksL_law_57 24 rfl rfl
theorem dksL_law_59 : cL_law.data.toList.drop 1568 = dktL_law_59 := dk_seg dksL_law_58 22 rfl rfl
theorem dksL_law_60 : cL_law.data.toList.drop 1592 = dktL_law_60 := dk_seg dksL_law_59 24 rfl rfl
theorem dksL_law_61 : cL_law.data.toList.drop 1615 = dktL_law_61 := dk_seg dksL_law_60 23 rfl rfl
theorem dksL_law_62 : cL_law.data.toList.drop 1639 = dktL_law_62 := dk_seg dksL_law_61 24 rfl rfl
theorem dksL_law_63 : cL_law.data.toList.drop 1662 = dktL_law_63 := dk_seg dksL_law_62 23 rfl rfl
theorem dksL_law_64 : cL_law.data.toList.drop 1686 = dktL_law_64 := dk_seg dksL_law_63 24 rfl rfl
theorem dksL_law_65 : cL_law.data.toList.drop 1709 = dktL_law_65 := dk_seg dksL_law_64 23 rfl rfl
theorem dksL_law_66 : cL_law.data.toList.drop 1733 = dktL_law_66 := dk_seg dksL_law_65 24 rfl rfl
theorem dksL_law_67 : cL_law.data.toList.drop 1756 = dktL_law_67 := dk_seg dksL_law_66 23 rfl rfl
theorem dksL_law_68 : cL_law.data.toList.drop 1780 = dktL_law_68 := dk_seg dksL_law_67 24 rfl rfl
theorem dksL_law_69 : cL_law.data.toList.drop 1804 = dktL_law_69 := dk_seg dksL_law_68 24 rfl rfl
theorem dksL_law_70 : cL_law.data.toList.drop 1827 = dktL_law_70 := dk_seg dksL_law_69 23 rfl rfl
theorem dksL_law_71 : cL_law.data.toList.drop 1851 = dktL_law_71 := dk_seg dksL_law_70 24 rfl rfl
theorem dksL_law_72 : cL_law.data.toList.drop 1874 = dktL_law_72 := dk_seg dksL_law_71 23 rfl rfl
theorem dksL_law_73 : cL_law.data.toList.drop 1898 = dktL_law_73 := dk_seg dksL_law_72 24 rfl rfl
theorem dksL_law_74 : cL_law.data.toList.drop 1921 = dktL_law_74 := dk_seg dksL_law_73 23 rfl rfl
theorem dksL_law_75 : cL_law.data.toList.drop 1945 = dktL_law_75 := dk_seg dksL_law_74 24 rfl rfl
theorem dksL_law_76 : cL_law.data.toList.drop 1968 = dktL_law_76 := dk_seg dksL_law_75 23 rfl rfl
theorem dksL_law_77 : cL_law.data.toList.drop 1992 = dktL_law_77 := dk_seg dksL_law_76 24 rfl rfl
theorem dksL_law_78 : cL_law.data.toList.drop 2016 = dktL_law_78 := dk_seg dksL_law_77 24 rfl rfl
theorem dksL_law_79 : cL_law.data.toList.drop 2040 = dktL_law_79 := dk_seg dksL_law_78 24 rfl rfl
theorem dksL_law_80 : cL_law.data.toList.drop 2064 = dktL_law_80 := dk_seg dksL_law_79 24 rfl rfl
theorem dksL_law_81 : cL_law.data.toList.drop 2088 = dktL_law_81 := dk_seg dksL_law_80 24 rfl rfl
theorem dksL_law_82 : cL_law.data.toList.drop 2110 = dktL_law_82 := dk_seg dksL_law_81 22 rfl rfl
theorem dksL_law_83 : cL_law.data.toList.drop 2132 = dktL_law_83 := dk_seg dksL_law_82 22 rfl rfl
theorem dksL_law_84 : cL_law.data.toList.drop 2156 = dktL_law_84 := dk_seg dksL_law_83 24 rfl rfl
theorem dksL_law_85 : cL_law.data.toList.drop 2179 = dktL_law_85 := dk_seg dksL_law_84 23 rfl rfl
theorem dksL_law_86 : cL_law.data.toList.drop 2202 = dktL_law_86 := dk_seg dksL_law_85 23 rfl rfl
theorem dksL_law_87 : cL_law.data.toList.drop 2226 = dktL_law_87 := dk_seg dksL_law_86 24 rfl rfl
theorem dksL_law_88 : cL_law.data.toList.drop 2249 = dktL_law_88 := dk_seg dksL_law_87 23 rfl rfl
theorem dksL_law_89 : cL_law.data.toList.drop 2273 = dktL_law_89 := dk_seg dksL_law_88 24 rfl rfl
theorem dksL_law_90 : cL_law.data.toList.drop 2295 = dktL_law_90 := dk_seg dksL_law_89 22 rfl rfl
theorem dksL_law_91 : cL_law.data.toList.drop 2317 = dktL_law_91 := dk_seg dksL_law_90 22 rfl rfl
theorem dksL_law_92 : cL_law.data.toList.drop 2340 = dktL_law_92 := dk_seg dksL_law_91 23 rfl rfl
theorem dksL_law_93 : cL_law.data.toList.drop 2364 = dktL_law_93 := dk_seg dksL_law_92 24 rfl rfl
theorem dksL_law_94 : cL_law.data.toList.drop 2388 = dktL_law_94 := dk_seg dksL_law_93 24 rfl rfl
theorem dksL_law_95 : cL_law.data.toList.drop 2411 = dktL_law_95 := dk_seg dksL_law_94 23 rfl rfl
theorem dksL_law_96 : cL_law.data.toList.drop 2434 = dktL_law_96 := dk_seg dksL_law_95 23 rfl rfl
theorem dksL_law_97 : cL_law.data.toList.drop 2458 = dktL_law_97 := dk_seg dksL_law_96 24 rfl rfl
theorem dksL_law_98 : cL_law.data.toList.drop 2482 = dktL_law_98 := dk_seg dksL_law_97 24 rfl rfl
theorem dksL_law_99 : cL_law.data.toList.drop 2506 = dktL_law_99 := dk_seg dksL_law_98 24 rfl rfl
theorem dksL_law_100 : cL_law.data.toList.drop 2530 = dktL_law_100 := dk_seg dksL_law_99 24 rfl rfl
theorem dksL_law_101 : cL_law.data.toList.drop 2554 = dktL_law_101 := dk_seg dksL_law_100 24 rfl rfl
theorem dksL_law_102 : cL_law.data.toList.drop 2578 = dktL_law_102 := dk_seg dksL_law_101 24 rfl rfl
theorem dksL_law_103 : cL_law.data.toList.drop 2602 = dktL_law_103 := dk_seg dksL_law_102 24 rfl rfl
theorem dksL_law_104 : cL_law.data.toList.drop 2626 = dktL_law_104 := dk_seg dksL_law_103 24 rfl rfl
theorem dksL_law_105 : cL_law.data.toList.drop 2649 = dktL_law_105 := dk_seg dksL_law_104 23 rfl rfl
theorem dksL_law_106 : cL_law.data.toList.drop 2673 = dktL_law_106 := dk_seg dksL_law_105 24 rfl rfl
theorem dksL_law_107 : cL_law.data.toList.drop 2695 = dktL_law_107 := dk_seg dksL_law_106 22 rfl rfl
theorem dksL_law_108 : cL_law.data.toList.drop 2718 = dktL_law_108 := dk_seg dksL_law_107 23 rfl rfl
theorem dksL_law_109 : cL_law.data.toList.drop 2742 = dktL_law_109 := dk_seg dksL_law_108 24 rfl rfl
theorem dL_law_0 : decode cL_law 0 = .ok (.new 8, 3) := dk_187 0 8 (dk_at dksL_law_0 0 rfl rfl)
theorem dL_law_3 : decode cL_law 3 = .ok (.dup, 1) := dk_89 (dk_at dksL_law_0 3 rfl rfl)
theorem dL_law_4 : decode cL_law 4 = .ok (.invokespecial 135, 3) := dk_183 0 135 (dk_at dksL_law_0 4 rfl rfl)
theorem dL_law_7 : decode cL_law 7 = .ok (.astore_n 1, 1) := dk_76 (dk_at dksL_law_0 7 rfl rfl)
theorem dL_law_8 : decode cL_law 8 = .ok (.new 136, 3) := dk_187 0 136 (dk_at dksL_law_0 8 rfl rfl)
theorem dL_law_11 : decode cL_law 11 = .ok (.dup, 1) := dk_89 (dk_at dksL_law_0 11 rfl rfl)
theorem dL_law_12 : decode cL_law 12 = .ok (.invokespecial 138, 3) := dk_183 0 138 (dk_at dksL_law_0 12 rfl rfl)
theorem dL_law_15 : decode cL_law 15 = .ok (.astore_n 2, 1) := dk_77 (dk_at dksL_law_0 15 rfl rfl)
theorem dL_law_16 : decode cL_law 16 = .ok (.iconst 1, 1) := dk_4 (dk_at dksL_law_0 16 rfl rfl)
theorem dL_law_17 : decode cL_law 17 = .ok (.newarray .long, 2) := dk_188_11 (dk_at dksL_law_0 17 rfl rfl)
theorem dL_law_19 : decode cL_law 19 = .ok (.astore_n 3, 1) := dk_78 (dk_at dksL_law_0 19 rfl rfl)
theorem dL_law_20 : decode cL_law 20 = .ok (.iconst 0, 1) := dk_3 (dk_at dksL_law_0 20 rfl rfl)
theorem dL_law_21 : decode cL_law 21 = .ok (.istore 4, 2) := dk_54 4 (dk_at dksL_law_0 21 rfl rfl)
theorem dL_law_23 : decode cL_law 23 = .ok (.iload 4, 2) := dk_21 4 (dk_at dksL_law_1 0 rfl rfl)
theorem dL_law_25 : decode cL_law 25 = .ok (.aload_n 0, 1) := dk_42 (dk_at dksL_law_1 2 rfl rfl)
theorem dL_law_26 : decode cL_law 26 = .ok (.arraylength, 1) := dk_190 (dk_at dksL_law_1 3 rfl rfl)
theorem dL_law_27 : decode cL_law 27 = .ok (.iconst 4, 1) := dk_7 (dk_at dksL_law_1 4 rfl rfl)
theorem dL_law_28 : decode cL_law 28 = .ok (.isub, 1) := dk_100 (dk_at dksL_law_1 5 rfl rfl)
theorem dL_law_29 : decode cL_law 29 = .ok (.if_icmp .gt 2728, 3) := dk_163 10 168 (dk_at dksL_law_1 6 rfl rfl)
theorem dL_law_32 : decode cL_law 32 = .ok (.aload_n 0, 1) := dk_42 (dk_at dksL_law_1 9 rfl rfl)
theorem dL_law_33 : decode cL_law 33 = .ok (.iload 4, 2) := dk_21 4 (dk_at dksL_law_1 10 rfl rfl)
theorem dL_law_35 : decode cL_law 35 = .ok (.iaload, 1) := dk_46 (dk_at dksL_law_1 12 rfl rfl)
theorem dL_law_36 : decode cL_law 36 = .ok (.bipush 63, 2) := dk_16 63 (dk_at dksL_law_1 13 rfl rfl)
theorem dL_law_38 : decode cL_law 38 = .ok (.iand, 1) := dk_126 (dk_at dksL_law_1 15 rfl rfl)
theorem dL_law_39 : decode cL_law 39 = .ok (.tableswitch 2712 0 50 #[217, 297, 353, 409, 422, 478, 558, 571, 584, 597, 610, 623, 679, 735, 791, 847, 903, 987, 1050, 1106, 1162, 1218, 1231, 1256, 1281, 1349, 1429, 1497, 1522, 1547, 1603, 1659, 1715, 1783, 1827, 1840, 1853, 1909, 1965, 2045, 2101, 2181, 2237, 2281, 2337, 2412, 2480, 2543, 2599, 2655, 2668], 217) := by decide +kernel
theorem dL_law_256 : decode cL_law 256 = .ok (.aload_n 1, 1) := dk_43 (dk_at dksL_law_3 0 rfl rfl)
theorem dL_law_257 : decode cL_law 257 = .ok (.aload_n 0, 1) := dk_42 (dk_at dksL_law_3 1 rfl rfl)
theorem dL_law_258 : decode cL_law 258 = .ok (.iload 4, 2) := dk_21 4 (dk_at dksL_law_3 2 rfl rfl)
theorem dL_law_260 : decode cL_law 260 = .ok (.iconst 1, 1) := dk_4 (dk_at dksL_law_3 4 rfl rfl)
theorem dL_law_261 : decode cL_law 261 = .ok (.iadd, 1) := dk_96 (dk_at dksL_law_3 5 rfl rfl)
theorem dL_law_262 : decode cL_law 262 = .ok (.iaload, 1) := dk_46 (dk_at dksL_law_3 6 rfl rfl)
theorem dL_law_263 : decode cL_law 263 = .ok (.aload_n 0, 1) := dk_42 (dk_at dksL_law_3 7 rfl rfl)
theorem dL_law_264 : decode cL_law 264 = .ok (.iload 4, 2) := dk_21 4 (dk_at dksL_law_3 8 rfl rfl)
theorem dL_law_266 : decode cL_law 266 = .ok (.iconst 2, 1) := dk_5 (dk_at dksL_law_3 10 rfl rfl)
theorem dL_law_267 : decode cL_law 267 = .ok (.iadd, 1) := dk_96 (dk_at dksL_law_3 11 rfl rfl)
theorem dL_law_268 : decode cL_law 268 = .ok (.iaload, 1) := dk_46 (dk_at dksL_law_3 12 rfl rfl)
theorem dL_law_269 : decode cL_law 269 = .ok (.aload_n 0, 1) := dk_42 (dk_at dksL_law_3 13 rfl rfl)
theorem dL_law_270 : decode cL_law 270 = .ok (.iload 4, 2) := dk_21 4 (dk_at dksL_law_3 14 rfl rfl)
theorem dL_law_272 : decode cL_law 272 = .ok (.iconst 3, 1) := dk_6 (dk_at dksL_law_3 16 rfl rfl)
theorem dL_law_273 : decode cL_law 273 = .ok (.iadd, 1) := dk_96 (dk_at dksL_law_3 17 rfl rfl)
theorem dL_law_274 : decode cL_law 274 = .ok (.iaload, 1) := dk_46 (dk_at dksL_law_3 18 rfl rfl)
theorem dL_law_275 : decode cL_law 275 = .ok (.aload_n 3, 1) := dk_45 (dk_at dksL_law_3 19 rfl rfl)
theorem dL_law_276 : decode cL_law 276 = .ok (.invokestatic 139, 3) := dk_184 0 139 (dk_at dksL_law_3 20 rfl rfl)
theorem dL_law_279 : decode cL_law 279 = .ok (.istore 5, 2) := dk_54 5 (dk_at dksL_law_4 0 rfl rfl)
theorem dL_law_281 : decode cL_law 281 = .ok (.aload_n 2, 1) := dk_44 (dk_at dksL_law_4 2 rfl rfl)
theorem dL_law_282 : decode cL_law 282 = .ok (.aload_n 0, 1) := dk_42 (dk_at dksL_law_4 3 rfl rfl)
theorem dL_law_283 : decode cL_law 283 = .ok (.iload 4, 2) := dk_21 4 (dk_at dksL_law_4 4 rfl rfl)
theorem dL_law_285 : decode cL_law 285 = .ok (.iconst 1, 1) := dk_4 (dk_at dksL_law_4 6 rfl rfl)
theorem dL_law_286 : decode cL_law 286 = .ok (.iadd, 1) := dk_96 (dk_at dksL_law_4 7 rfl rfl)
theorem dL_law_287 : decode cL_law 287 = .ok (.iaload, 1) := dk_46 (dk_at dksL_law_4 8 rfl rfl)
theorem dL_law_288 : decode cL_law 288 = .ok (.aload_n 0, 1) := dk_42 (dk_at dksL_law_4 9 rfl rfl)
theorem dL_law_289 : decode cL_law 289 = .ok (.iload 4, 2) := dk_21 4 (dk_at dksL_law_4 10 rfl rfl)
theorem dL_law_291 : decode cL_law 291 = .ok (.iconst 2, 1) := dk_5 (dk_at dksL_law_4 12 rfl rfl)
theorem dL_law_292 : decode cL_law 292 = .ok (.iadd, 1) := dk_96 (dk_at dksL_law_4 13 rfl rfl)
theorem dL_law_293 : decode cL_law 293 = .ok (.iaload, 1) := dk_46 (dk_at dksL_law_4 14 rfl rfl)
theorem dL_law_294 : decode cL_law 294 = .ok (.aload_n 0, 1) := dk_42 (dk_at dksL_law_4 15 rfl rfl)
theorem dL_law_295 : decode cL_law 295 = .ok (.iload 4, 2) := dk_21 4 (dk_at dksL_law_4 16 rfl rfl)
theorem dL_law_297 : decode cL_law 297 = .ok (.iconst 3, 1) := dk_6 (dk_at dksL_law_4 18 rfl rfl)
theorem dL_law_298 : decode cL_law 298 = .ok (.iadd, 1) := dk_96 (dk_at dksL_law_4 19 rfl rfl)
theorem dL_law_299 : decode cL_law 299 = .ok (.iaload, 1) := dk_46 (dk_at dksL_law_4 20 rfl rfl)
theorem dL_law_300 : decode cL_law 300 = .ok (.invokevirtual 144, 3) := dk_182 0 144 (dk_at dksL_law_4 21 rfl rfl)
theorem dL_law_303 : decode cL_law 303 = .ok (.istore 6, 2) := dk_54 6 (dk_at dksL_law_5 0 rfl rfl)
theorem dL_law_305 : decode cL_law 305 = .ok (.aload_n 2, 1) := dk_44 (dk_at dksL_law_5 2 rfl rfl)
theorem dL_law_306 : decode cL_law 306 = .ok (.invokevirtual 145, 3) := dk_182 0 145 (dk_at dksL_law_5 3 rfl rfl)
theorem dL_law_309 : decode cL_law 309 = .ok (.iload 5, 2) := dk_21 5 (dk_at dksL_law_5 6 rfl rfl)
theorem dL_law_311 : decode cL_law 311 = .ok (.if_icmp .eq 5, 3) := dk_159 0 5 (dk_at dksL_law_5 8 rfl rfl)
theorem dL_law_314 : decode cL_law 314 = .ok (.iconst 0, 1) := dk_3 (dk_at dksL_law_5 11 rfl rfl)
theorem dL_law_315 : decode cL_law 315 = .ok (.ireturn, 1) := dk_172 (dk_at dksL_law_5 12 rfl rfl)
theorem dL_law_316 : decode cL_law 316 = .ok (.iload 5, 2) := dk_21 5 (dk_at dksL_law_5 13 rfl rfl)
theorem dL_law_318 : decode cL_law 318 = .ok (.ifCond .ne 15, 3) := dk_154 0 15 (dk_at dksL_law_5 15 rfl rfl)
theorem dL_law_321 : decode cL_law 321 = .ok (.aload_n 3, 1) := dk_45 (dk_at dksL_law_5 18 rfl rfl)
theorem dL_law_322 : decode cL_law 322 = .ok (.iconst 0, 1) := dk_3 (dk_at dksL_law_5 19 rfl rfl)
theorem dL_law_323 : decode cL_law 323 = .ok (.laload, 1) := dk_47 (dk_at dksL_law_5 20 rfl rfl)
theorem dL_law_324 : decode cL_law 324 = .ok (.iload 6, 2) := dk_21 6 (dk_at dksL_law_5 21 rfl rfl)
theorem dL_law_326 : decode cL_law 326 = .ok (.i2l, 1) := dk_133 (dk_at dksL_law_5 23 rfl rfl)
theorem dL_law_327 : decode cL_law 327 = .ok (.lcmp, 1) := dk_148 (dk_at dksL_law_6 0 rfl rfl)
theorem dL_law_328 : decode cL_law 328 = .ok (.ifCond .eq 5, 3) := dk_153 0 5 (dk_at dksL_law_6 1 rfl rfl)
theorem dL_law_331 : decode cL_law 331 = .ok (.iconst 0, 1) := dk_3 (dk_at dksL_law_6 4 rfl rfl)
theorem dL_law_332 : decode cL_law 332 = .ok (.ireturn, 1) := dk_172 (dk_at dksL_law_6 5 rfl rfl)
theorem dL_law_333 : decode cL_law 333 = .ok (.goto 2418, 3) := dk_167 9 114 (dk_at dksL_law_6 6 rfl rfl)
theorem dL_law_336 : decode cL_law 336 = .ok (.aload_n 1, 1) := dk_43 (dk_at dksL_law_6 9 rfl rfl)
theorem dL_law_337 : decode cL_law 337 = .ok (.aload_n 0, 1) := dk_42 (dk_at dksL_law_6 10 rfl rfl)
theorem dL_law_338 : decode cL_law 338 = .ok (.iload 4, 2) := dk_21 4 (dk_at dksL_law_6 11 rfl rfl)
theorem dL_law_340 : decode cL_law 340 = .ok (.iconst 1, 1) := dk_4 (dk_at dksL_law_6 13 rfl rfl)
theorem dL_law_341 : decode cL_law 341 = .ok (.iadd, 1) := dk_96 (dk_at dksL_law_6 14 rfl rfl)
theorem dL_law_342 : decode cL_law 342 = .ok (.iaload, 1) := dk_46 (dk_at dksL_law_6 15 rfl rfl)
theorem dL_law_343 : decode cL_law 343 = .ok (.aload_n 3, 1) := dk_45 (dk_at dksL_law_6 16 rfl rfl)
theorem dL_law_344 : decode cL_law 344 = .ok (.invokestatic 148, 3) := dk_184 0 148 (dk_at dksL_law_6 17 rfl rfl)
theorem dL_law_347 : decode cL_law 347 = .ok (.istore 5, 2) := dk_54 5 (dk_at dksL_law_6 20 rfl rfl)
theorem dL_law_349 : decode cL_law 349 = .ok (.aload_n 2, 1) := dk_44 (dk_at dksL_law_6 22 rfl rfl)
theorem dL_law_350 : decode cL_law 350 = .ok (.aload_n 0, 1) := dk_42 (dk_at dksL_law_6 23 rfl rfl)
theorem dL_law_351 : decode cL_law 351 = .ok (.iload 4, 2) := dk_21 4 (dk_at dksL_law_7 0 rfl rfl)
theorem dL_law_353 : decode cL_law 353 = .ok (.iconst 1, 1) := dk_4 (dk_at dksL_law_7 2 rfl rfl)
theorem dL_law_354 : decode cL_law 354 = .ok (.iadd, 1) := dk_96 (dk_at dksL_law_7 3 rfl rfl)
theorem dL_law_355 : decode cL_law 355 = .ok (.iaload, 1) := dk_46 (dk_at dksL_law_7 4 rfl rfl)
theorem dL_law_356 : decode cL_law 356 = .ok (.invokevirtual 151, 3) := dk_182 0 151 (dk_at dksL_law_7 5 rfl rfl)
theorem dL_law_359 : decode cL_law 359 = .ok (.istore 6, 2) := dk_54 6 (dk_at dksL_law_7 8 rfl rfl)
theorem dL_law_361 : decode cL_law 361 = .ok (.aload_n 2, 1) := dk_44 (dk_at dksL_law_7 10 rfl rfl)
theorem dL_law_362 : decode cL_law 362 = .ok (.invokevirtual 145, 3) := dk_182 0 145 (dk_at dksL_law_7 11 rfl rfl)
theorem dL_law_365 : decode cL_law 365 = .ok (.iload 5, 2) := dk_21 5 (dk_at dksL_law_7 14 rfl rfl)
theorem dL_law_367 : decode cL_law 367 = .ok (.if_icmp .eq 5, 3) := dk_159 0 5 (dk_at dksL_law_7 16 rfl rfl)
theorem dL_law_370 : decode cL_law 370 = .ok (.iconst 0, 1) := dk_3 (dk_at dksL_law_7 19 rfl rfl)
theorem dL_law_371 : decode cL_law 371 = .ok (.ireturn, 1) := dk_172 (dk_at dksL_law_7 20 rfl rfl)
theorem dL_law_372 : decode cL_law 372 = .ok (.iload 5, 2) := dk_21 5 (dk_at dksL_law_7 21 rfl rfl)
theorem dL_law_374 : decode cL_law 374 = .ok (.ifCond .ne 15, 3) := dk_154 0 15 (dk_at dksL_law_8 0 rfl rfl)
theorem dL_law_377 : decode cL_law 377 = .ok (.aload_n 3, 1) := dk_45 (dk_at dksL_law_8 3 rfl rfl)
theorem dL_law_378 : decode cL_law 378 = .ok (.iconst 0, 1) := dk_3 (dk_at dksL_law_8 4 rfl rfl)
theorem dL_law_379 : decode cL_law 379 = .ok (.laload, 1) := dk_47 (dk_at dksL_law_8 5 rfl rfl)
theorem dL_law_380 : decode cL_law 380 = .ok (.iload 6, 2) := dk_21 6 (dk_at dksL_law_8 6 rfl rfl)
theorem dL_law_382 : decode cL_law 382 = .ok (.i2l, 1) := dk_133 (dk_at dksL_law_8 8 rfl rfl)
theorem dL_law_383 : decode cL_law 383 = .ok (.lcmp, 1) := dk_148 (dk_at dksL_law_8 9 rfl rfl)
theorem dL_law_384 : decode cL_law 384 = .ok (.ifCond .eq 5, 3) := dk_153 0 5 (dk_at dksL_law_8 10 rfl rfl)
theorem dL_law_387 : decode cL_law 387 = .ok (.iconst 0, 1) := dk_3 (dk_at dksL_law_8 13 rfl rfl)
theorem dL_law_388 : decode cL_law 388 = .ok (.ireturn, 1) := dk_172 (dk_at dksL_law_8 14 rfl rfl)
theorem dL_law_389 : decode cL_law 389 = .ok (.goto 2362, 3) := dk_167 9 58 (dk_at dksL_law_8 15 rfl rfl)
theorem dL_law_392 : decode cL_law 392 = .ok (.aload_n 1, 1) := dk_43 (dk_at dksL_law_8 18 rfl rfl)
theorem dL_law_393 : decode cL_law 393 = .ok (.aload_n 0, 1) := dk_42 (dk_at dksL_law_8 19 rfl rfl)
theorem dL_law_394 : decode cL_law 394 = .ok (.iload 4, 2) := dk_21 4 (dk_at dksL_law_8 20 rfl rfl)
theorem dL_law_396 : decode cL_law 396 = .ok (.iconst 1, 1) := dk_4 (dk_at dksL_law_8 22 rfl rfl)
theorem dL_law_397 : decode cL_law 397 = .ok (.iadd, 1) := dk_96 (dk_at dksL_law_8 23 rfl rfl)
theorem dL_law_398 : decode cL_law 398 = .ok (.iaload, 1) := dk_46 (dk_at dksL_law_9 0 rfl rfl)
theorem dL_law_399 : decode cL_law 399 = .ok (.aload_n 3, 1) := dk_45 (dk_at dksL_law_9 1 rfl rfl)
theorem dL_law_400 : decode cL_law 400 = .ok (.invokestatic 152, 3) := dk_184 0 152 (dk_at dksL_law_9 2 rfl rfl)
theorem dL_law_403 : decode cL_law 403 = .ok (.istore 5, 2) := dk_54 5 (dk_at dksL_law_9 5 rfl rfl)
theorem dL_law_405 : decode cL_law 405 = .ok (.aload_n 2, 1) := dk_44 (dk_at dksL_law_9 7 rfl rfl)
theorem dL_law_406 : decode cL_law 406 = .ok (.aload_n 0, 1) := dk_42 (dk_at dksL_law_9 8 rfl rfl)
theorem dL_law_407 : decode cL_law 407 = .ok (.iload 4, 2) := dk_21 4 (dk_at dksL_law_9 9 rfl rfl)
theorem dL_law_409 : decode cL_law 409 = .ok (.iconst 1, 1) := dk_4 (dk_at dksL_law_9 11 rfl rfl)
theorem dL_law_410 : decode cL_law 410 = .ok (.iadd, 1) := dk_96 (dk_at dksL_law_9 12 rfl rfl)
theorem dL_law_411 : decode cL_law 411 = .ok (.iaload, 1) := dk_46 (dk_at dksL_law_9 13 rfl rfl)
theorem dL_law_412 : decode cL_law 412 = .ok (.invokevirtual 154, 3) := dk_182 0 154 (dk_at dksL_law_9 14 rfl rfl)
theorem dL_law_415 : decode cL_law 415 = .ok (.istore 6, 2) := dk_54 6 (dk_at dksL_law_9 17 rfl rfl)
theorem dL_law_417 : decode cL_law 417 = .ok (.aload_n 2, 1) := dk_44 (dk_at dksL_law_9 19 rfl rfl)
theorem dL_law_418 : decode cL_law 418 = .ok (.invokevirtual 145, 3) := dk_182 0 145 (dk_at dksL_law_9 20 rfl rfl)
theorem dL_law_421 : decode cL_law 421 = .ok (.iload 5, 2) := dk_21 5 (dk_at dksL_law_10 0 rfl rfl)
theorem dL_law_423 : decode cL_law 423 = .ok (.if_icmp .eq 5, 3) := dk_159 0 5 (dk_at dksL_law_10 2 rfl rfl)
theorem dL_law_426 : decode cL_law 426 = .ok (.iconst 0, 1) := dk_3 (dk_at dksL_law_10 5 rfl rfl)
theorem dL_law_427 : decode cL_law 427 = .ok (.ireturn, 1) := dk_172 (dk_at dksL_law_10 6 rfl rfl)
theorem dL_law_428 : decode cL_law 428 = .ok (.iload 5, 2) := dk_21 5 (dk_at dksL_law_10 7 rfl rfl)
theorem dL_law_430 : decode cL_law 430 = .ok (.ifCond .ne 15, 3) := dk_154 0 15 (dk_at dksL_law_10 9 rfl rfl)
theorem dL_law_433 : decode cL_law 433 = .ok (.aload_n 3, 1) := dk_45 (dk_at dksL_law_10 12 rfl rfl)
theorem dL_law_434 : decode cL_law 434 = .ok (.iconst 0, 1) := dk_3 (dk_at dksL_law_10 13 rfl rfl)
theorem dL_law_435 : decode cL_law 435 = .ok (.laload, 1) := dk_47 (dk_at dksL_law_10 14 rfl rfl)
theorem dL_law_436 : decode cL_law 436 = .ok (.iload 6, 2) := dk_21 6 (dk_at dksL_law_10 15 rfl rfl)
theorem dL_law_438 : decode cL_law 438 = .ok (.i2l, 1) := dk_133 (dk_at dksL_law_10 17 rfl rfl)
theorem dL_law_439 : decode cL_law 439 = .ok (.lcmp, 1) := dk_148 (dk_at dksL_law_10 18 rfl rfl)
theorem dL_law_440 : decode cL_law 440 = .ok (.ifCond .eq 5, 3) := dk_153 0 5 (dk_at dksL_law_10 19 rfl rfl)
theorem dL_law_443 : decode cL_law 443 = .ok (.iconst 0, 1) := dk_3 (dk_at dksL_law_10 22 rfl rfl)
theorem dL_law_444 : decode cL_law 444 = .ok (.ireturn, 1) := dk_172 (dk_at dksL_law_10 23 rfl rfl)
theorem dL_law_445 : decode cL_law 445 = .ok (.goto 2306, 3) := dk_167 9 2 (dk_at dksL_law_11 0 rfl rfl)
theorem dL_law_448 : decode cL_law 448 = .ok (.aload_n 1, 1) := dk_43 (dk_at dksL_law_11 3 rfl rfl)
theorem dL_law_449 : decode cL_law 449 = .ok (.invokevirtual 155, 3) := dk_182 0 155 (dk_at dksL_law_11 4 rfl rfl)
theorem dL_law_452 : decode cL_law 452 = .ok (.aload_n 2, 1) := dk_44 (dk_at dksL_law_11 7 rfl rfl)
theorem dL_law_453 : decode cL_law 453 = .ok (.invokevirtual 158, 3) := dk_182 0 158 (dk_at dksL_law_11 8 rfl rfl)
theorem dL_law_456 : decode cL_law 456 = .ok (.if_icmp .eq 2295, 3) := dk_159 8 247 (dk_at dksL_law_11 11 rfl rfl)
theorem dL_law_459 : decode cL_law 459 = .ok (.iconst 0, 1) := dk_3 (dk_at dksL_law_11 14 rfl rfl)
theorem dL_law_460 : decode cL_law 460 = .ok (.ireturn, 1) := dk_172 (dk_at dksL_law_11 15 rfl rfl)
theorem dL_law_461 : decode cL_law 461 = .ok (.aload_n 1, 1) := dk_43 (dk_at dksL_law_11 16 rfl rfl)
theorem dL_law_462 : decode cL_law 462 = .ok (.aload_n 0, 1) := dk_42 (dk_at dksL_law_11 17 rfl rfl)
theorem dL_law_463 : decode cL_law 463 = .ok (.iload 4, 2) := dk_21 4 (dk_at dksL_law_11 18 rfl rfl)
theorem dL_law_465 : decode cL_law 465 = .ok (.iconst 1, 1) := dk_4 (dk_at dksL_law_11 20 rfl rfl)
theorem dL_law_466 : decode cL_law 466 = .ok (.iadd, 1) := dk_96 (dk_at dksL_law_11 21 rfl rfl)
theorem dL_law_467 : decode cL_law 467 = .ok (.iaload, 1) := dk_46 (dk_at dksL_law_11 22 rfl rfl)
theorem dL_law_468 : decode cL_law 468 = .ok (.aload_n 3, 1) := dk_45 (dk_at dksL_law_11 23 rfl rfl)
theorem dL_law_469 : decode cL_law 469 = .ok (.invokestatic 159, 3) := dk_184 0 159 (dk_at dksL_law_12 0 rfl rfl)
theorem dL_law_472 : decode cL_law 472 = .ok (.istore 5, 2) := dk_54 5 (dk_at dksL_law_12 3 rfl rfl)
theorem dL_law_474 : decode cL_law 474 = .ok (.aload_n 2, 1) := dk_44 (dk_at dksL_law_12 5 rfl rfl)
theorem dL_law_475 : decode cL_law 475 = .ok (.aload_n 0, 1) := dk_42 (dk_at dksL_law_12 6 rfl rfl)
theorem dL_law_476 : decode cL_law 476 = .ok (.iload 4, 2) := dk_21 4 (dk_at dksL_law_12 7 rfl rfl)
theorem dL_law_478 : decode cL_law 478 = .ok (.iconst 1, 1) := dk_4 (dk_at dksL_law_12 9 rfl rfl)
theorem dL_law_479 : decode cL_law 479 = .ok (.iadd, 1) := dk_96 (dk_at dksL_law_12 10 rfl rfl)
theorem dL_law_480 : decode cL_law 480 = .ok (.iaload, 1) := dk_46 (dk_at dksL_law_12 11 rfl rfl)
theorem dL_law_481 : decode cL_law 481 = .ok (.invokevirtual 161, 3) := dk_182 0 161 (dk_at dksL_law_12 12 rfl rfl)
theorem dL_law_484 : decode cL_law 484 = .ok (.istore 6, 2) := dk_54 6 (dk_at dksL_law_12 15 rfl rfl)
theorem dL_law_486 : decode cL_law 486 = .ok (.aload_n 2, 1) := dk_44 (dk_at dksL_law_12 17 rfl rfl)
theorem dL_law_487 : decode cL_law 487 = .ok (.invokevirtual 145, 3) := dk_182 0 145 (dk_at dksL_law_12 18 rfl rfl)
theorem dL_law_490 : decode cL_law 490 = .ok (.iload 5, 2) := dk_21 5 (dk_at dksL_law_12 21 rfl rfl)
theorem dL_law_492 : decode cL_law 492 = .ok (.if_icmp .eq 5, 3) := dk_159 0 5 (dk_at dksL_law_13 0 rfl rfl)
theorem dL_law_495 : decode cL_law 495 = .ok (.iconst 0, 1) := dk_3 (dk_at dksL_law_13 3 rfl rfl)
theorem dL_law_496 : decode cL_law 496 = .ok (.ireturn, 1) := dk_172 (dk_at dksL_law_13 4 rfl rfl)
theorem dL_law_497 : decode cL_law 497 = .ok (.iload 5, 2) := dk_21 5 (dk_at dksL_law_13 5 rfl rfl)
theorem dL_law_499 : decode cL_law 499 = .ok (.ifCond .ne 15, 3) := dk_154 0 15 (dk_at dksL_law_13 7 rfl rfl)
theorem dL_law_502 : decode cL_law 502 = .ok (.aload_n 3, 1) := dk_45 (dk_at dksL_law_13 10 rfl rfl)
theorem dL_law_503 : decode cL_law 503 = .ok (.iconst 0, 1) := dk_3 (dk_at dksL_law_13 11 rfl rfl)
theorem dL_law_504 : decode cL_law 504 = .ok (.laload, 1) := dk_47 (dk_at dksL_law_13 12 rfl rfl)
theorem dL_law_505 : decode cL_law 505 = .ok (.iload 6, 2) := dk_21 6 (dk_at dksL_law_13 13 rfl rfl)
theorem dL_law_507 : decode cL_law 507 = .ok (.i2l, 1) := dk_133 (dk_at dksL_law_13 15 rfl rfl)
theorem dL_law_508 : decode cL_law 508 = .ok (.lcmp, 1) := dk_148 (dk_at dksL_law_13 16 rfl rfl)
theorem dL_law_509 : decode cL_law 509 = .ok (.ifCond .eq 5, 3) := dk_153 0 5 (dk_at dksL_law_13 17 rfl rfl)
theorem dL_law_512 : decode cL_law 512 = .ok (.iconst 0, 1) := dk_3 (dk_at dksL_law_13 20 rfl rfl)
theorem dL_law_513 : decode cL_law 513 = .ok (.ireturn, 1) := dk_172 (dk_at dksL_law_13 21 rfl rfl)
theorem dL_law_514 : decode cL_law 514 = .ok (.goto 2237, 3) := dk_167 8 189 (dk_at dksL_law_14 0 rfl rfl)
theorem dL_law_517 : decode cL_law 517 = .ok (.aload_n 1, 1) := dk_43 (dk_at dksL_law_14 3 rfl rfl)
theorem dL_law_518 : decode cL_law 518 = .ok (.aload_n 0, 1) := dk_42 (dk_at dksL_law_14 4 rfl rfl)
theorem dL_law_519 : decode cL_law 519 = .ok (.iload 4, 2) := dk_21 4 (dk_at dksL_law_14 5 rfl rfl)
theorem dL_law_521 : decode cL_law 521 = .ok (.iconst 1, 1) := dk_4 (dk_at dksL_law_14 7 rfl rfl)
theorem dL_law_522 : decode cL_law 522 = .ok (.iadd, 1) := dk_96 (dk_at dksL_law_14 8 rfl rfl)
theorem dL_law_523 : decode cL_law 523 = .ok (.iaload, 1) := dk_46 (dk_at dksL_law_14 9 rfl rfl)
theorem dL_law_524 : decode cL_law 524 = .ok (.aload_n 0, 1) := dk_42 (dk_at dksL_law_14 10 rfl rfl)
theorem dL_law_525 : decode cL_law 525 = .ok (.iload 4, 2) := dk_21 4 (dk_at dksL_law_14 11 rfl rfl)
theorem dL_law_527 : decode cL_law 527 = .ok (.iconst 2, 1) := dk_5 (dk_at dksL_law_14 13 rfl rfl)
theorem dL_law_528 : decode cL_law 528 = .ok (.iadd, 1) := dk_96 (dk_at dksL_law_14 14 rfl rfl)
theorem dL_law_529 : decode cL_law 529 = .ok (.iaload, 1) := dk_46 (dk_at dksL_law_14 15 rfl rfl)
theorem dL_law_530 : decode cL_law 530 = .ok (.aload_n 0, 1) := dk_42 (dk_at dksL_law_14 16 rfl rfl)
theorem dL_law_531 : decode cL_law 531 = .ok (.iload 4, 2) := dk_21 4 (dk_at dksL_law_14 17 rfl rfl)
theorem dL_law_533 : decode cL_law 533 = .ok (.iconst 3, 1) := dk_6 (dk_at dksL_law_14 19 rfl rfl)
theorem dL_law_534 : decode cL_law 534 = .ok (.iadd, 1) := dk_96 (dk_at dksL_law_14 20 rfl rfl)
theorem dL_law_535 : decode cL_law 535 = .ok (.iaload, 1) := dk_46 (dk_at dksL_law_14 21 rfl rfl)
theorem dL_law_536 : decode cL_law 536 = .ok (.aload_n 3, 1) := dk_45 (dk_at dksL_law_14 22 rfl rfl)
theorem dL_law_537 : decode cL_law 537 = .ok (.invokestatic 162, 3) := dk_184 0 162 (dk_at dksL_law_15 0 rfl rfl)
theorem dL_law_540 : decode cL_law 540 = .ok (.istore 5, 2) := dk_54 5 (dk_at dksL_law_15 3 rfl rfl)
theorem dL_law_542 : decode cL_law 542 = .ok (.aload_n 2, 1) := dk_44 (dk_at dksL_law_15 5 rfl rfl)
theorem dL_law_543 : decode cL_law 543 = .ok (.aload_n 0, 1) := dk_42 (dk_at dksL_law_15 6 rfl rfl)
theorem dL_law_544 : decode cL_law 544 = .ok (.iload 4, 2) := dk_21 4 (dk_at dksL_law_15 7 rfl rfl)
theorem dL_law_546 : decode cL_law 546 = .ok (.iconst 1, 1) := dk_4 (dk_at dksL_law_15 9 rfl rfl)
theorem dL_law_547 : decode cL_law 547 = .ok (.iadd, 1) := dk_96 (dk_at dksL_law_15 10 rfl rfl)
theorem dL_law_548 : decode cL_law 548 = .ok (.iaload, 1) := dk_46 (dk_at dksL_law_15 11 rfl rfl)
theorem dL_law_549 : decode cL_law 549 = .ok (.aload_n 0, 1) := dk_42 (dk_at dksL_law_15 12 rfl rfl)
theorem dL_law_550 : decode cL_law 550 = .ok (.iload 4, 2) := dk_21 4 (dk_at dksL_law_15 13 rfl rfl)
theorem dL_law_552 : decode cL_law 552 = .ok (.iconst 2, 1) := dk_5 (dk_at dksL_law_15 15 rfl rfl)
theorem dL_law_553 : decode cL_law 553 = .ok (.iadd, 1) := dk_96 (dk_at dksL_law_15 16 rfl rfl)
theorem dL_law_554 : decode cL_law 554 = .ok (.iaload, 1) := dk_46 (dk_at dksL_law_15 17 rfl rfl)
theorem dL_law_555 : decode cL_law 555 = .ok (.aload_n 0, 1) := dk_42 (dk_at dksL_law_15 18 rfl rfl)
theorem dL_law_556 : decode cL_law 556 = .ok (.iload 4, 2) := dk_21 4 (dk_at dksL_law_15 19 rfl rfl)
theorem dL_law_558 : decode cL_law 558 = .ok (.iconst 3, 1) := dk_6 (dk_at dksL_law_15 21 rfl rfl)
theorem dL_law_559 : decode cL_law 559 = .ok (.iadd, 1) := dk_96 (dk_at dksL_law_15 22 rfl rfl)
theorem dL_law_560 : decode cL_law 560 = .ok (.iaload, 1) := dk_46 (dk_at dksL_law_15 23 rfl rfl)
theorem dL_law_561 : decode cL_law 561 = .ok (.invokevirtual 164, 3) := dk_182 0 164 (dk_at dksL_law_16 0 rfl rfl)
theorem dL_law_564 : decode cL_law 564 = .ok (.istore 6, 2) := dk_54 6 (dk_at dksL_law_16 3 rfl rfl)
theorem dL_law_566 : decode cL_law 566 = .ok (.aload_n 2, 1) := dk_44 (dk_at dksL_law_16 5 rfl rfl)
theorem dL_law_567 : decode cL_law 567 = .ok (.invokevirtual 145, 3) := dk_182 0 145 (dk_at dksL_law_16 6 rfl rfl)
theorem dL_law_570 : decode cL_law 570 = .ok (.iload 5, 2) := dk_21 5 (dk_at dksL_law_16 9 rfl rfl)
theorem dL_law_572 : decode cL_law 572 = .ok (.if_icmp .eq 5, 3) := dk_159 0 5 (dk_at dksL_law_16 11 rfl rfl)
theorem dL_law_575 : decode cL_law 575 = .ok (.iconst 0, 1) := dk_3 (dk_at dksL_law_16 14 rfl rfl)
theorem dL_law_576 : decode cL_law 576 = .ok (.ireturn, 1) := dk_172 (dk_at dksL_law_16 15 rfl rfl)
theorem dL_law_577 : decode cL_law 577 = .ok (.iload 5, 2) := dk_21 5 (dk_at dksL_law_16 16 rfl rfl)
theorem dL_law_579 : decode cL_law 579 = .ok (.ifCond .ne 15, 3) := dk_154 0 15 (dk_at dksL_law_16 18 rfl rfl)
theorem dL_law_582 : decode cL_law 582 = .ok (.aload_n 3, 1) := dk_45 (dk_at dksL_law_16 21 rfl rfl)
theorem dL_law_583 : decode cL_law 583 = .ok (.iconst 0, 1) := dk_3 (dk_at dksL_law_16 22 rfl rfl)
theorem dL_law_584 : decode cL_law 584 = .ok (.laload, 1) := dk_47 (dk_at dksL_law_16 23 rfl rfl)
theorem dL_law_585 : decode cL_law 585 = .ok (.iload 6, 2) := dk_21 6 (dk_at dksL_law_17 0 rfl rfl)
theorem dL_law_587 : decode cL_law 587 = .ok (.i2l, 1) := dk_133 (dk_at dksL_law_17 2 rfl rfl)
theorem dL_law_588 : decode cL_law 588 = .ok (.lcmp, 1) := dk_148 (dk_at dksL_law_17 3 rfl rfl)
theorem dL_law_589 : decode cL_law 589 = .ok (.ifCond .eq 5, 3) := dk_153 0 5 (dk_at dksL_law_17 4 rfl rfl)
theorem dL_law_592 : decode cL_law 592 = .ok (.iconst 0, 1) := dk_3 (dk_at dksL_law_17 7 rfl rfl)
theorem dL_law_593 : decode cL_law 593 = .ok (.ireturn, 1) := dk_172 (dk_at dksL_law_17 8 rfl rfl)
theorem dL_law_594 : decode cL_law 594 = .ok (.goto 2157, 3) := dk_167 8 109 (dk_at dksL_law_17 9 rfl rfl)
theorem dL_law_597 : decode cL_law 597 = .ok (.aload_n 1, 1) := dk_43 (dk_at dksL_law_17 12 rfl rfl)
theorem dL_law_598 : decode cL_law 598 = .ok (.invokevirtual 165, 3) := dk_182 0 165 (dk_at dksL_law_17 13 rfl rfl)
theorem dL_law_601 : decode cL_law 601 = .ok (.aload_n 2, 1) := dk_44 (dk_at dksL_law_17 16 rfl rfl)
theorem dL_law_602 : decode cL_law 602 = .ok (.invokevirtual 168, 3) := dk_182 0 168 (dk_at dksL_law_17 17 rfl rfl)
theorem dL_law_605 : decode cL_law 605 = .ok (.if_icmp .eq 2146, 3) := dk_159 8 98 (dk_at dksL_law_17 20 rfl rfl)
theorem dL_law_608 : decode cL_law 608 = .ok (.iconst 0, 1) := dk_3 (dk_at dksL_law_17 23 rfl rfl)
theorem dL_law_609 : decode cL_law 609 = .ok (.ireturn, 1) := dk_172 (dk_at dksL_law_18 0 rfl rfl)
theorem dL_law_610 : decode cL_law 610 = .ok (.aload_n 1, 1) := dk_43 (dk_at dksL_law_18 1 rfl rfl)
theorem dL_law_611 : decode cL_law 611 = .ok (.invokevirtual 169, 3) := dk_182 0 169 (dk_at dksL_law_18 2 rfl rfl)
theorem dL_law_614 : decode cL_law 614 = .ok (.aload_n 2, 1) := dk_44 (dk_at dksL_law_18 5 rfl rfl)
theorem dL_law_615 : decode cL_law 615 = .ok (.invokevirtual 172, 3) := dk_182 0 172 (dk_at dksL_law_18 6 rfl rfl)
theorem dL_law_618 : decode cL_law 618 = .ok (.if_icmp .eq 2133, 3) := dk_159 8 85 (dk_at dksL_law_18 9 rfl rfl)
theorem dL_law_621 : decode cL_law 621 = .ok (.iconst 0, 1) := dk_3 (dk_at dksL_law_18 12 rfl rfl)
theorem dL_law_622 : decode cL_law 622 = .ok (.ireturn, 1) := dk_172 (dk_at dksL_law_18 13 rfl rfl)
theorem dL_law_623 : decode cL_law 623 = .ok (.aload_n 1, 1) := dk_43 (dk_at dksL_law_18 14 rfl rfl)
theorem dL_law_624 : decode cL_law 624 = .ok (.invokevirtual 173, 3) := dk_182 0 173 (dk_at dksL_law_18 15 rfl rfl)
theorem dL_law_627 : decode cL_law 627 = .ok (.aload_n 2, 1) := dk_44 (dk_at dksL_law_18 18 rfl rfl)
theorem dL_law_628 : decode cL_law 628 = .ok (.invokevirtual 176, 3) := dk_182 0 176 (dk_at dksL_law_18 19 rfl rfl)
theorem dL_law_631 : decode cL_law 631 = .ok (.if_icmp .eq 2120, 3) := dk_159 8 72 (dk_at dksL_law_19 0 rfl rfl)
theorem dL_law_634 : decode cL_law 634 = .ok (.iconst 0, 1) := dk_3 (dk_at dksL_law_19 3 rfl rfl)
theorem dL_law_635 : decode cL_law 635 = .ok (.ireturn, 1) := dk_172 (dk_at dksL_law_19 4 rfl rfl)
theorem dL_law_636 : decode cL_law 636 = .ok (.aload_n 1, 1) := dk_43 (dk_at dksL_law_19 5 rfl rfl)
theorem dL_law_637 : decode cL_law 637 = .ok (.invokevirtual 177, 3) := dk_182 0 177 (dk_at dksL_law_19 6 rfl rfl)
theorem dL_law_640 : decode cL_law 640 = .ok (.aload_n 2, 1) := dk_44 (dk_at dksL_law_19 9 rfl rfl)
theorem dL_law_641 : decode cL_law 641 = .ok (.invokevirtual 180, 3) := dk_182 0 180 (dk_at dksL_law_19 10 rfl rfl)
theorem dL_law_644 : decode cL_law 644 = .ok (.if_icmp .eq 2107, 3) := dk_159 8 59 (dk_at dksL_law_19 13 rfl rfl)
theorem dL_law_647 : decode cL_law 647 = .ok (.iconst 0, 1) := dk_3 (dk_at dksL_law_19 16 rfl rfl)
theorem dL_law_648 : decode cL_law 648 = .ok (.ireturn, 1) := dk_172 (dk_at dksL_law_19 17 rfl rfl)
theorem dL_law_649 : decode cL_law 649 = .ok (.aload_n 1, 1) := dk_43 (dk_at dksL_law_19 18 rfl rfl)
theorem dL_law_650 : decode cL_law 650 = .ok (.invokevirtual 181, 3) := dk_182 0 181 (dk_at dksL_law_19 19 rfl rfl)
theorem dL_law_653 : decode cL_law 653 = .ok (.aload_n 2, 1) := dk_44 (dk_at dksL_law_19 22 rfl rfl)
theorem dL_law_654 : decode cL_law 654 = .ok (.invokevirtual 184, 3) := dk_182 0 184 (dk_at dksL_law_20 0 rfl rfl)
theorem dL_law_657 : decode cL_law 657 = .ok (.if_icmp .eq 2094, 3) := dk_159 8 46 (dk_at dksL_law_20 3 rfl rfl)
theorem dL_law_660 : decode cL_law 660 = .ok (.iconst 0, 1) := dk_3 (dk_at dksL_law_20 6 rfl rfl)
theorem dL_law_661 : decode cL_law 661 = .ok (.ireturn, 1) := dk_172 (dk_at dksL_law_20 7 rfl rfl)
theorem dL_law_662 : decode cL_law 662 = .ok (.aload_n 1, 1) := dk_43 (dk_at dksL_law_20 8 rfl rfl)
theorem dL_law_663 : decode cL_law 663 = .ok (.aload_n 0, 1) := dk_42 (dk_at dksL_law_20 9 rfl rfl)
theorem dL_law_664 : decode cL_law 664 = .ok (.iload 4, 2) := dk_21 4 (dk_at dksL_law_20 10 rfl rfl)
theorem dL_law_666 : decode cL_law 666 = .ok (.iconst 1, 1) := dk_4 (dk_at dksL_law_20 12 rfl rfl)
theorem dL_law_667 : decode cL_law 667 = .ok (.iadd, 1) := dk_96 (dk_at dksL_law_20 13 rfl rfl)
theorem dL_law_668 : decode cL_law 668 = .ok (.iaload, 1) := dk_46 (dk_at dksL_law_20 14 rfl rfl)
theorem dL_law_669 : decode cL_law 669 = .ok (.aload_n 3, 1) := dk_45 (dk_at dksL_law_20 15 rfl rfl)
theorem dL_law_670 : decode cL_law 670 = .ok (.invokestatic 185, 3) := dk_184 0 185 (dk_at dksL_law_20 16 rfl rfl)
theorem dL_law_673 : decode cL_law 673 = .ok (.istore 5, 2) := dk_54 5 (dk_at dksL_law_20 19 rfl rfl)
theorem dL_law_675 : decode cL_law 675 = .ok (.aload_n 2, 1) := dk_44 (dk_at dksL_law_20 21 rfl rfl)
theorem dL_law_676 : decode cL_law 676 = .ok (.aload_n 0, 1) := dk_42 (dk_at dksL_law_20 22 rfl rfl)
theorem dL_law_677 : decode cL_law 677 = .ok (.iload 4, 2) := dk_21 4 (dk_at dksL_law_21 0 rfl rfl)
theorem dL_law_679 : decode cL_law 679 = .ok (.iconst 1, 1) := dk_4 (dk_at dksL_law_21 2 rfl rfl)
theorem dL_law_680 : decode cL_law 680 = .ok (.iadd, 1) := dk_96 (dk_at dksL_law_21 3 rfl rfl)
theorem dL_law_681 : decode cL_law 681 = .ok (.iaload, 1) := dk_46 (dk_at dksL_law_21 4 rfl rfl)
theorem dL_law_682 : decode cL_law 682 = .ok (.invokevirtual 187, 3) := dk_182 0 187 (dk_at dksL_law_21 5 rfl rfl)
theorem dL_law_685 : decode cL_law 685 = .ok (.istore 6, 2) := dk_54 6 (dk_at dksL_law_21 8 rfl rfl)
theorem dL_law_687 : decode cL_law 687 = .ok (.aload_n 2, 1) := dk_44 (dk_at dksL_law_21 10 rfl rfl)
theorem dL_law_688 : decode cL_law 688 = .ok (.invokevirtual 145, 3) := dk_182 0 145 (dk_at dksL_law_21 11 rfl rfl)
theorem dL_law_691 : decode cL_law 691 = .ok (.iload 5, 2) := dk_21 5 (dk_at dksL_law_21 14 rfl rfl)
theorem dL_law_693 : decode cL_law 693 = .ok (.if_icmp .eq 5, 3) := dk_159 0 5 (dk_at dksL_law_21 16 rfl rfl)
theorem dL_law_696 : decode cL_law 696 = .ok (.iconst 0, 1) := dk_3 (dk_at dksL_law_21 19 rfl rfl)
theorem dL_law_697 : decode cL_law 697 = .ok (.ireturn, 1) := dk_172 (dk_at dksL_law_21 20 rfl rfl)
theorem dL_law_698 : decode cL_law 698 = .ok (.iload 5, 2) := dk_21 5 (dk_at dksL_law_21 21 rfl rfl)
theorem dL_law_700 : decode cL_law 700 = .ok (.ifCond .ne 15, 3) := dk_154 0 15 (dk_at dksL_law_22 0 rfl rfl)
theorem dL_law_703 : decode cL_law 703 = .ok (.aload_n 3, 1) := dk_45 (dk_at dksL_law_22 3 rfl rfl)
theorem dL_law_704 : decode cL_law 704 = .ok (.iconst 0, 1) := dk_3 (dk_at dksL_law_22 4 rfl rfl)
theorem dL_law_705 : decode cL_law 705 = .ok (.laload, 1) := dk_47 (dk_at dksL_law_22 5 rfl rfl)
theorem dL_law_706 : decode cL_law 706 = .ok (.iload 6, 2) := dk_21 6 (dk_at dksL_law_22 6 rfl rfl)
theorem dL_law_708 : decode cL_law 708 = .ok (.i2l, 1) := dk_133 (dk_at dksL_law_22 8 rfl rfl)
theorem dL_law_709 : decode cL_law 709 = .ok (.lcmp, 1) := dk_148 (dk_at dksL_law_22 9 rfl rfl)
theorem dL_law_710 : decode cL_law 710 = .ok (.ifCond .eq 5, 3) := dk_153 0 5 (dk_at dksL_law_22 10 rfl rfl)
theorem dL_law_713 : decode cL_law 713 = .ok (.iconst 0, 1) := dk_3 (dk_at dksL_law_22 13 rfl rfl)
theorem dL_law_714 : decode cL_law 714 = .ok (.ireturn, 1) := dk_172 (dk_at dksL_law_22 14 rfl rfl)
theorem dL_law_715 : decode cL_law 715 = .ok (.goto 2036, 3) := dk_167 7 244 (dk_at dksL_law_22 15 rfl rfl)
theorem dL_law_718 : decode cL_law 718 = .ok (.aload_n 1, 1) := dk_43 (dk_at dksL_law_22 18 rfl rfl)
theorem dL_law_719 : decode cL_law 719 = .ok (.aload_n 0, 1) := dk_42 (dk_at dksL_law_22 19 rfl rfl)
theorem dL_law_720 : decode cL_law 720 = .ok (.iload 4, 2) := dk_21 4 (dk_at dksL_law_22 20 rfl rfl)
theorem dL_law_722 : decode cL_law 722 = .ok (.iconst 1, 1) := dk_4 (dk_at dksL_law_22 22 rfl rfl)
theorem dL_law_723 : decode cL_law 723 = .ok (.iadd, 1) := dk_96 (dk_at dksL_law_22 23 rfl rfl)
theorem dL_law_724 : decode cL_law 724 = .ok (.iaload, 1) := dk_46 (dk_at dksL_law_23 0 rfl rfl)
theorem dL_law_725 : decode cL_law 725 = .ok (.aload_n 3, 1) := dk_45 (dk_at dksL_law_23 1 rfl rfl)
theorem dL_law_726 : decode cL_law 726 = .ok (.invokestatic 188, 3) := dk_184 0 188 (dk_at dksL_law_23 2 rfl rfl)
theorem dL_law_729 : decode cL_law 729 = .ok (.istore 5, 2) := dk_54 5 (dk_at dksL_law_23 5 rfl rfl)
theorem dL_law_731 : decode cL_law 731 = .ok (.aload_n 2, 1) := dk_44 (dk_at dksL_law_23 7 rfl rfl)
theorem dL_law_732 : decode cL_law 732 = .ok (.aload_n 0, 1) := dk_42 (dk_at dksL_law_23 8 rfl rfl)
theorem dL_law_733 : decode cL_law 733 = .ok (.iload 4, 2) := dk_21 4 (dk_at dksL_law_23 9 rfl rfl)
theorem dL_law_735 : decode cL_law 735 = .ok (.iconst 1, 1) := dk_4 (dk_at dksL_law_23 11 rfl rfl)
theorem dL_law_736 : decode cL_law 736 = .ok (.iadd, 1) := dk_96 (dk_at dksL_law_23 12 rfl rfl)
theorem dL_law_737 : decode cL_law 737 = .ok (.iaload, 1) := dk_46 (dk_at dksL_law_23 13 rfl rfl)
theorem dL_law_738 : decode cL_law 738 = .ok (.invokevirtual 190, 3) := dk_182 0 190 (dk_at dksL_law_23 14 rfl rfl)
theorem dL_law_741 : decode cL_law 741 = .ok (.istore 6, 2) := dk_54 6 (dk_at dksL_law_23 17 rfl rfl)
theorem dL_law_743 : decode cL_law 743 = .ok (.aload_n 2, 1) := dk_44 (dk_at dksL_law_23 19 rfl rfl)
theorem dL_law_744 : decode cL_law 744 = .ok (.invokevirtual 145, 3) := dk_182 0 145 (dk_at dksL_law_23 20 rfl rfl)
theorem dL_law_747 : decode cL_law 747 = .ok (.iload 5, 2) := dk_21 5 (dk_at dksL_law_24 0 rfl rfl)
theorem dL_law_749 : decode cL_law 749 = .ok (.if_icmp .eq 5, 3) := dk_159 0 5 (dk_at dksL_law_24 2 rfl rfl)
theorem dL_law_752 : decode cL_law 752 = .ok (.iconst 0, 1) := dk_3 (dk_at dksL_law_24 5 rfl rfl)
theorem dL_law_753 : decode cL_law 753 = .ok (.ireturn, 1) := dk_172 (dk_at dksL_law_24 6 rfl rfl)
theorem dL_law_754 : decode cL_law 754 = .ok (.iload 5, 2) := dk_21 5 (dk_at dksL_law_24 7 rfl rfl)
theorem dL_law_756 : decode cL_law 756 = .ok (.ifCond .ne 15, 3) := dk_154 0 15 (dk_at dksL_law_24 9 rfl rfl)
theorem dL_law_759 : decode cL_law 759 = .ok (.aload_n 3, 1) := dk_45 (dk_at dksL_law_24 12 rfl rfl)
theorem dL_law_760 : decode cL_law 760 = .ok (.iconst 0, 1) := dk_3 (dk_at dksL_law_24 13 rfl rfl)
theorem dL_law_761 : decode cL_law 761 = .ok (.laload, 1) := dk_47 (dk_at dksL_law_24 14 rfl rfl)
theorem dL_law_762 : decode cL_law 762 = .ok (.iload 6, 2) := dk_21 6 (dk_at dksL_law_24 15 rfl rfl)
theorem dL_law_764 : decode cL_law 764 = .ok (.i2l, 1) := dk_133 (dk_at dksL_law_24 17 rfl rfl)
theorem dL_law_765 : decode cL_law 765 = .ok (.lcmp, 1) := dk_148 (dk_at dksL_law_24 18 rfl rfl)
theorem dL_law_766 : decode cL_law 766 = .ok (.ifCond .eq 5, 3) := dk_153 0 5 (dk_at dksL_law_24 19 rfl rfl)
theorem dL_law_769 : decode cL_law 769 = .ok (.iconst 0, 1) := dk_3 (dk_at dksL_law_24 22 rfl rfl)
theorem dL_law_770 : decode cL_law 770 = .ok (.ireturn, 1) := dk_172 (dk_at dksL_law_24 23 rfl rfl)
theorem dL_law_771 : decode cL_law 771 = .ok (.goto 1980, 3) := dk_167 7 188 (dk_at dksL_law_25 0 rfl rfl)
theorem dL_law_774 : decode cL_law 774 = .ok (.aload_n 1, 1) := dk_43 (dk_at dksL_law_25 3 rfl rfl)
theorem dL_law_775 : decode cL_law 775 = .ok (.aload_n 0, 1) := dk_42 (dk_at dksL_law_25 4 rfl rfl)
theorem dL_law_776 : decode cL_law 776 = .ok (.iload 4, 2) := dk_21 4 (dk_at dksL_law_25 5 rfl rfl)
theorem dL_law_778 : decode cL_law 778 = .ok (.iconst 1, 1) := dk_4 (dk_at dksL_law_25 7 rfl rfl)
theorem dL_law_779 : decode cL_law 779 = .ok (.iadd, 1) := dk_96 (dk_at dksL_law_25 8 rfl rfl)
theorem dL_law_780 : decode cL_law 780 = .ok (.iaload, 1) := dk_46 (dk_at dksL_law_25 9 rfl rfl)
theorem dL_law_781 : decode cL_law 781 = .ok (.aload_n 3, 1) := dk_45 (dk_at dksL_law_25 10 rfl rfl)
theorem dL_law_782 : decode cL_law 782 = .ok (.invokestatic 191, 3) := dk_184 0 191 (dk_at dksL_law_25 11 rfl rfl)
theorem dL_law_785 : decode cL_law 785 = .ok (.istore 5, 2) := dk_54 5 (dk_at dksL_law_25 14 rfl rfl)
theorem dL_law_787 : decode cL_law 787 = .ok (.aload_n 2, 1) := dk_44 (dk_at dksL_law_25 16 rfl rfl)
theorem dL_law_788 : decode cL_law 788 = .ok (.aload_n 0, 1) := dk_42 (dk_at dksL_law_25 17 rfl rfl)
theorem dL_law_789 : decode cL_law 789 = .ok (.iload 4, 2) := dk_21 4 (dk_at dksL_law_25 18 rfl rfl)
theorem dL_law_791 : decode cL_law 791 = .ok (.iconst 1, 1) := dk_4 (dk_at dksL_law_25 20 rfl rfl)
theorem dL_law_792 : decode cL_law 792 = .ok (.iadd, 1) := dk_96 (dk_at dksL_law_25 21 rfl rfl)
theorem dL_law_793 : decode cL_law 793 = .ok (.iaload, 1) := dk_46 (dk_at dksL_law_25 22 rfl rfl)
theorem dL_law_794 : decode cL_law 794 = .ok (.invokevirtual 193, 3) := dk_182 0 193 (dk_at dksL_law_26 0 rfl rfl)
theorem dL_law_797 : decode cL_law 797 = .ok (.istore 6, 2) := dk_54 6 (dk_at dksL_law_26 3 rfl rfl)
theorem dL_law_799 : decode cL_law 799 = .ok (.aload_n 2, 1) := dk_44 (dk_at dksL_law_26 5 rfl rfl)
theorem dL_law_800 : decode cL_law 800 = .ok (.invokevirtual 145, 3) := dk_182 0 145 (dk_at dksL_law_26 6 rfl rfl)
theorem dL_law_803 : decode cL_law 803 = .ok (.iload 5, 2) := dk_21 5 (dk_at dksL_law_26 9 rfl rfl)
theorem dL_law_805 : decode cL_law 805 = .ok (.if_icmp .eq 5, 3) := dk_159 0 5 (dk_at dksL_law_26 11 rfl rfl)
theorem dL_law_808 : decode cL_law 808 = .ok (.iconst 0, 1) := dk_3 (dk_at dksL_law_26 14 rfl rfl)
theorem dL_law_809 : decode cL_law 809 = .ok (.ireturn, 1) := dk_172 (dk_at dksL_law_26 15 rfl rfl)
theorem dL_law_810 : decode cL_law 810 = .ok (.iload 5, 2) := dk_21 5 (dk_at dksL_law_26 16 rfl rfl)
theorem dL_law_812 : decode cL_law 812 = .ok (.ifCond .ne 15, 3) := dk_154 0 15 (dk_at dksL_law_26 18 rfl rfl)
theorem dL_law_815 : decode cL_law 815 = .ok (.aload_n 3, 1) := dk_45 (dk_at dksL_law_26 21 rfl rfl)
theorem dL_law_816 : decode cL_law 816 = .ok (.iconst 0, 1) := dk_3 (dk_at dksL_law_26 22 rfl rfl)
theorem dL_law_817 : decode cL_law 817 = .ok (.laload, 1) := dk_47 (dk_at dksL_law_26 23 rfl rfl)
theorem dL_law_818 : decode cL_law 818 = .ok (.iload 6, 2) := dk_21 6 (dk_at dksL_law_27 0 rfl rfl)
theorem dL_law_820 : decode cL_law 820 = .ok (.i2l, 1) := dk_133 (dk_at dksL_law_27 2 rfl rfl)
theorem dL_law_821 : decode cL_law 821 = .ok (.lcmp, 1) := dk_148 (dk_at dksL_law_27 3 rfl rfl)
theorem dL_law_822 : decode cL_law 822 = .ok (.ifCond .eq 5, 3) := dk_153 0 5 (dk_at dksL_law_27 4 rfl rfl)
theorem dL_law_825 : decode cL_law 825 = .ok (.iconst 0, 1) := dk_3 (dk_at dksL_law_27 7 rfl rfl)
theorem dL_law_826 : decode cL_law 826 = .ok (.ireturn, 1) := dk_172 (dk_at dksL_law_27 8 rfl rfl)
theorem dL_law_827 : decode cL_law 827 = .ok (.goto 1924, 3) := dk_167 7 132 (dk_at dksL_law_27 9 rfl rfl)
theorem dL_law_830 : decode cL_law 830 = .ok (.aload_n 1, 1) := dk_43 (dk_at dksL_law_27 12 rfl rfl)
theorem dL_law_831 : decode cL_law 831 = .ok (.aload_n 0, 1) := dk_42 (dk_at dksL_law_27 13 rfl rfl)
theorem dL_law_832 : decode cL_law 832 = .ok (.iload 4, 2) := dk_21 4 (dk_at dksL_law_27 14 rfl rfl)
theorem dL_law_834 : decode cL_law 834 = .ok (.iconst 1, 1) := dk_4 (dk_at dksL_law_27 16 rfl rfl)
theorem dL_law_835 : decode cL_law 835 = .ok (.iadd, 1) := dk_96 (dk_at dksL_law_27 17 rfl rfl)
theorem dL_law_836 : decode cL_law 836 = .ok (.iaload, 1) := dk_46 (dk_at dksL_law_27 18 rfl rfl)
theorem dL_law_837 : decode cL_law 837 = .ok (.aload_n 3, 1) := dk_45 (dk_at dksL_law_27 19 rfl rfl)
theorem dL_law_838 : decode cL_law 838 = .ok (.invokestatic 194, 3) := dk_184 0 194 (dk_at dksL_law_27 20 rfl rfl)
theorem dL_law_841 : decode cL_law 841 = .ok (.istore 5, 2) := dk_54 5 (dk_at dksL_law_28 0 rfl rfl)
theorem dL_law_843 : decode cL_law 843 = .ok (.aload_n 2, 1) := dk_44 (dk_at dksL_law_28 2 rfl rfl)
theorem dL_law_844 : decode cL_law 844 = .ok (.aload_n 0, 1) := dk_42 (dk_at dksL_law_28 3 rfl rfl)
theorem dL_law_845 : decode cL_law 845 = .ok (.iload 4, 2) := dk_21 4 (dk_at dksL_law_28 4 rfl rfl)
theorem dL_law_847 : decode cL_law 847 = .ok (.iconst 1, 1) := dk_4 (dk_at dksL_law_28 6 rfl rfl)
theorem dL_law_848 : decode cL_law 848 = .ok (.iadd, 1) := dk_96 (dk_at dksL_law_28 7 rfl rfl)
theorem dL_law_849 : decode cL_law 849 = .ok (.iaload, 1) := dk_46 (dk_at dksL_law_28 8 rfl rfl)
theorem dL_law_850 : decode cL_law 850 = .ok (.invokevirtual 196, 3) := dk_182 0 196 (dk_at dksL_law_28 9 rfl rfl)
theorem dL_law_853 : decode cL_law 853 = .ok (.istore 6, 2) := dk_54 6 (dk_at dksL_law_28 12 rfl rfl)
theorem dL_law_855 : decode cL_law 855 = .ok (.aload_n 2, 1) := dk_44 (dk_at dksL_law_28 14 rfl rfl)
theorem dL_law_856 : decode cL_law 856 = .ok (.invokevirtual 145, 3) := dk_182 0 145 (dk_at dksL_law_28 15 rfl rfl)
theorem dL_law_859 : decode cL_law 859 = .ok (.iload 5, 2) := dk_21 5 (dk_at dksL_law_28 18 rfl rfl)
theorem dL_law_861 : decode cL_law 861 = .ok (.if_icmp .eq 5, 3) := dk_159 0 5 (dk_at dksL_law_28 20 rfl rfl)
theorem dL_law_864 : decode cL_law 864 = .ok (.iconst 0, 1) := dk_3 (dk_at dksL_law_28 23 rfl rfl)
theorem dL_law_865 : decode cL_law 865 = .ok (.ireturn, 1) := dk_172 (dk_at dksL_law_29 0 rfl rfl)
theorem dL_law_866 : decode cL_law 866 = .ok (.iload 5, 2) := dk_21 5 (dk_at dksL_law_29 1 rfl rfl)
theorem dL_law_868 : decode cL_law 868 = .ok (.ifCond .ne 15, 3) := dk_154 0 15 (dk_at dksL_law_29 3 rfl rfl)
theorem dL_law_871 : decode cL_law 871 = .ok (.aload_n 3, 1) := dk_45 (dk_at dksL_law_29 6 rfl rfl)
theorem dL_law_872 : decode cL_law 872 = .ok (.iconst 0, 1) := dk_3 (dk_at dksL_law_29 7 rfl rfl)
theorem dL_law_873 : decode cL_law 873 = .ok (.laload, 1) := dk_47 (dk_at dksL_law_29 8 rfl rfl)
theorem dL_law_874 : decode cL_law 874 = .ok (.iload 6, 2) := dk_21 6 (dk_at dksL_law_29 9 rfl rfl)
theorem dL_law_876 : decode cL_law 876 = .ok (.i2l, 1) := dk_133 (dk_at dksL_law_29 11 rfl rfl)
theorem dL_law_877 : decode cL_law 877 = .ok (.lcmp, 1) := dk_148 (dk_at dksL_law_29 12 rfl rfl)
theorem dL_law_878 : decode cL_law 878 = .ok (.ifCond .eq 5, 3) := dk_153 0 5 (dk_at dksL_law_29 13 rfl rfl)
theorem dL_law_881 : decode cL_law 881 = .ok (.iconst 0, 1) := dk_3 (dk_at dksL_law_29 16 rfl rfl)
theorem dL_law_882 : decode cL_law 882 = .ok (.ireturn, 1) := dk_172 (dk_at dksL_law_29 17 rfl rfl)
theorem dL_law_883 : decode cL_law 883 = .ok (.goto 1868, 3) := dk_167 7 76 (dk_at dksL_law_29 18 rfl rfl)
theorem dL_law_886 : decode cL_law 886 = .ok (.aload_n 1, 1) := dk_43 (dk_at dksL_law_29 21 rfl rfl)
theorem dL_law_887 : decode cL_law 887 = .ok (.aload_n 0, 1) := dk_42 (dk_at dksL_law_29 22 rfl rfl)
theorem dL_law_888 : decode cL_law 888 = .ok (.iload 4, 2) := dk_21 4 (dk_at dksL_law_30 0 rfl rfl)
theorem dL_law_890 : decode cL_law 890 = .ok (.iconst 1, 1) := dk_4 (dk_at dksL_law_30 2 rfl rfl)
theorem dL_law_891 : decode cL_law 891 = .ok (.iadd, 1) := dk_96 (dk_at dksL_law_30 3 rfl rfl)
theorem dL_law_892 : decode cL_law 892 = .ok (.iaload, 1) := dk_46 (dk_at dksL_law_30 4 rfl rfl)
theorem dL_law_893 : decode cL_law 893 = .ok (.aload_n 3, 1) := dk_45 (dk_at dksL_law_30 5 rfl rfl)
theorem dL_law_894 : decode cL_law 894 = .ok (.invokestatic 197, 3) := dk_184 0 197 (dk_at dksL_law_30 6 rfl rfl)
theorem dL_law_897 : decode cL_law 897 = .ok (.istore 5, 2) := dk_54 5 (dk_at dksL_law_30 9 rfl rfl)
theorem dL_law_899 : decode cL_law 899 = .ok (.aload_n 2, 1) := dk_44 (dk_at dksL_law_30 11 rfl rfl)
theorem dL_law_900 : decode cL_law 900 = .ok (.aload_n 0, 1) := dk_42 (dk_at dksL_law_30 12 rfl rfl)
theorem dL_law_901 : decode cL_law 901 = .ok (.iload 4, 2) := dk_21 4 (dk_at dksL_law_30 13 rfl rfl)
theorem dL_law_903 : decode cL_law 903 = .ok (.iconst 1, 1) := dk_4 (dk_at dksL_law_30 15 rfl rfl)
theorem dL_law_904 : decode cL_law 904 = .ok (.iadd, 1) := dk_96 (dk_at dksL_law_30 16 rfl rfl)
theorem dL_law_905 : decode cL_law 905 = .ok (.iaload, 1) := dk_46 (dk_at dksL_law_30 17 rfl rfl)
theorem dL_law_906 : decode cL_law 906 = .ok (.invokevirtual 199, 3) := dk_182 0 199 (dk_at dksL_law_30 18 rfl rfl)
theorem dL_law_909 : decode cL_law 909 = .ok (.istore 6, 2) := dk_54 6 (dk_at dksL_law_30 21 rfl rfl)
theorem dL_law_911 : decode cL_law 911 = .ok (.aload_n 2, 1) := dk_44 (dk_at dksL_law_30 23 rfl rfl)
theorem dL_law_912 : decode cL_law 912 = .ok (.invokevirtual 145, 3) := dk_182 0 145 (dk_at dksL_law_31 0 rfl rfl)
theorem dL_law_915 : decode cL_law 915 = .ok (.iload 5, 2) := dk_21 5 (dk_at dksL_law_31 3 rfl rfl)
theorem dL_law_917 : decode cL_law 917 = .ok (.if_icmp .eq 5, 3) := dk_159 0 5 (dk_at dksL_law_31 5 rfl rfl)
theorem dL_law_920 : decode cL_law 920 = .ok (.iconst 0, 1) := dk_3 (dk_at dksL_law_31 8 rfl rfl)
theorem dL_law_921 : decode cL_law 921 = .ok (.ireturn, 1) := dk_172 (dk_at dksL_law_31 9 rfl rfl)
theorem dL_law_922 : decode cL_law 922 = .ok (.iload 5, 2) := dk_21 5 (dk_at dksL_law_31 10 rfl rfl)
theorem dL_law_924 : decode cL_law 924 = .ok (.ifCond .ne 15, 3) := dk_154 0 15 (dk_at dksL_law_31 12 rfl rfl)
theorem dL_law_927 : decode cL_law 927 = .ok (.aload_n 3, 1) := dk_45 (dk_at dksL_law_31 15 rfl rfl)
theorem dL_law_928 : decode cL_law 928 = .ok (.iconst 0, 1) := dk_3 (dk_at dksL_law_31 16 rfl rfl)
theorem dL_law_929 : decode cL_law 929 = .ok (.laload, 1) := dk_47 (dk_at dksL_law_31 17 rfl rfl)
theorem dL_law_930 : decode cL_law 930 = .ok (.iload 6, 2) := dk_21 6 (dk_at dksL_law_31 18 rfl rfl)
theorem dL_law_932 : decode cL_law 932 = .ok (.i2l, 1) := dk_133 (dk_at dksL_law_31 20 rfl rfl)
theorem dL_law_933 : decode cL_law 933 = .ok (.lcmp, 1) := dk_148 (dk_at dksL_law_31 21 rfl rfl)
theorem dL_law_934 : decode cL_law 934 = .ok (.ifCond .eq 5, 3) := dk_153 0 5 (dk_at dksL_law_32 0 rfl rfl)
theorem dL_law_937 : decode cL_law 937 = .ok (.iconst 0, 1) := dk_3 (dk_at dksL_law_32 3 rfl rfl)
theorem dL_law_938 : decode cL_law 938 = .ok (.ireturn, 1) := dk_172 (dk_at dksL_law_32 4 rfl rfl)
theorem dL_law_939 : decode cL_law 939 = .ok (.goto 1812, 3) := dk_167 7 20 (dk_at dksL_law_32 5 rfl rfl)
theorem dL_law_942 : decode cL_law 942 = .ok (.aload_n 1, 1) := dk_43 (dk_at dksL_law_32 8 rfl rfl)
theorem dL_law_943 : decode cL_law 943 = .ok (.aload_n 0, 1) := dk_42 (dk_at dksL_law_32 9 rfl rfl)
theorem dL_law_944 : decode cL_law 944 = .ok (.iload 4, 2) := dk_21 4 (dk_at dksL_law_32 10 rfl rfl)
theorem dL_law_946 : decode cL_law 946 = .ok (.iconst 1, 1) := dk_4 (dk_at dksL_law_32 12 rfl rfl)
theorem dL_law_947 : decode cL_law 947 = .ok (.iadd, 1) := dk_96 (dk_at dksL_law_32 13 rfl rfl)
theorem dL_law_948 : decode cL_law 948 = .ok (.iaload, 1) := dk_46 (dk_at dksL_law_32 14 rfl rfl)
theorem dL_law_949 : decode cL_law 949 = .ok (.aload_n 0, 1) := dk_42 (dk_at dksL_law_32 15 rfl rfl)
theorem dL_law_950 : decode cL_law 950 = .ok (.iload 4, 2) := dk_21 4 (dk_at dksL_law_32 16 rfl rfl)
theorem dL_law_952 : decode cL_law 952 = .ok (.iconst 2, 1) := dk_5 (dk_at dksL_law_32 18 rfl rfl)
theorem dL_law_953 : decode cL_law 953 = .ok (.iadd, 1) := dk_96 (dk_at dksL_law_32 19 rfl rfl)
theorem dL_law_954 : decode cL_law 954 = .ok (.iaload, 1) := dk_46 (dk_at dksL_law_32 20 rfl rfl)
theorem dL_law_955 : decode cL_law 955 = .ok (.ifCond .eq 7, 3) := dk_153 0 7 (dk_at dksL_law_32 21 rfl rfl)
theorem dL_law_958 : decode cL_law 958 = .ok (.iconst 1, 1) := dk_4 (dk_at dksL_law_33 0 rfl rfl)
theorem dL_law_959 : decode cL_law 959 = .ok (.goto 4, 3) := dk_167 0 4 (dk_at dksL_law_33 1 rfl rfl)
theorem dL_law_962 : decode cL_law 962 = .ok (.iconst 0, 1) := dk_3 (dk_at dksL_law_33 4 rfl rfl)
theorem dL_law_963 : decode cL_law 963 = .ok (.aload_n 3, 1) := dk_45 (dk_at dksL_law_33 5 rfl rfl)
theorem dL_law_964 : decode cL_law 964 = .ok (.invokestatic 200, 3) := dk_184 0 200 (dk_at dksL_law_33 6 rfl rfl)
theorem dL_law_967 : decode cL_law 967 = .ok (.istore 5, 2) := dk_54 5 (dk_at dksL_law_33 9 rfl rfl)
theorem dL_law_969 : decode cL_law 969 = .ok (.aload_n 2, 1) := dk_44 (dk_at dksL_law_33 11 rfl rfl)
theorem dL_law_970 : decode cL_law 970 = .ok (.aload_n 0, 1) := dk_42 (dk_at dksL_law_33 12 rfl rfl)
theorem dL_law_971 : decode cL_law 971 = .ok (.iload 4, 2) := dk_21 4 (dk_at dksL_law_33 13 rfl rfl)
theorem dL_law_973 : decode cL_law 973 = .ok (.iconst 1, 1) := dk_4 (dk_at dksL_law_33 15 rfl rfl)
theorem dL_law_974 : decode cL_law 974 = .ok (.iadd, 1) := dk_96 (dk_at dksL_law_33 16 rfl rfl)
theorem dL_law_975 : decode cL_law 975 = .ok (.iaload, 1) := dk_46 (dk_at dksL_law_33 17 rfl rfl)
theorem dL_law_976 : decode cL_law 976 = .ok (.aload_n 0, 1) := dk_42 (dk_at dksL_law_33 18 rfl rfl)
theorem dL_law_977 : decode cL_law 977 = .ok (.iload 4, 2) := dk_21 4 (dk_at dksL_law_33 19 rfl rfl)
theorem dL_law_979 : decode cL_law 979 = .ok (.iconst 2, 1) := dk_5 (dk_at dksL_law_33 21 rfl rfl)
theorem dL_law_980 : decode cL_law 980 = .ok (.iadd, 1) := dk_96 (dk_at dksL_law_33 22 rfl rfl)
theorem dL_law_981 : decode cL_law 981 = .ok (.iaload, 1) := dk_46 (dk_at dksL_law_33 23 rfl rfl)
theorem dL_law_982 : decode cL_law 982 = .ok (.ifCond .eq 7, 3) := dk_153 0 7 (dk_at dksL_law_34 0 rfl rfl)
theorem dL_law_985 : decode cL_law 985 = .ok (.iconst 1, 1) := dk_4 (dk_at dksL_law_34 3 rfl rfl)
theorem dL_law_986 : decode cL_law 986 = .ok (.goto 4, 3) := dk_167 0 4 (dk_at dksL_law_34 4 rfl rfl)
theorem dL_law_989 : decode cL_law 989 = .ok (.iconst 0, 1) := dk_3 (dk_at dksL_law_34 7 rfl rfl)
theorem dL_law_990 : decode cL_law 990 = .ok (.invokevirtual 203, 3) := dk_182 0 203 (dk_at dksL_law_34 8 rfl rfl)
theorem dL_law_993 : decode cL_law 993 = .ok (.istore 6, 2) := dk_54 6 (dk_at dksL_law_34 11 rfl rfl)
theorem dL_law_995 : decode cL_law 995 = .ok (.aload_n 2, 1) := dk_44 (dk_at dksL_law_34 13 rfl rfl)
theorem dL_law_996 : decode cL_law 996 = .ok (.invokevirtual 145, 3) := dk_182 0 145 (dk_at dksL_law_34 14 rfl rfl)
theorem dL_law_999 : decode cL_law 999 = .ok (.iload 5, 2) := dk_21 5 (dk_at dksL_law_34 17 rfl rfl)
theorem dL_law_1001 : decode cL_law 1001 = .ok (.if_icmp .eq 5, 3) := dk_159 0 5 (dk_at dksL_law_34 19 rfl rfl)
theorem dL_law_1004 : decode cL_law 1004 = .ok (.iconst 0, 1) := dk_3 (dk_at dksL_law_34 22 rfl rfl)
theorem dL_law_1005 : decode cL_law 1005 = .ok (.ireturn, 1) := dk_172 (dk_at dksL_law_34 23 rfl rfl)
theorem dL_law_1006 : decode cL_law 1006 = .ok (.iload 5, 2) := dk_21 5 (dk_at dksL_law_35 0 rfl rfl)
theorem dL_law_1008 : decode cL_law 1008 = .ok (.ifCond .ne 15, 3) := dk_154 0 15 (dk_at dksL_law_35 2 rfl rfl)
theorem dL_law_1011 : decode cL_law 1011 = .ok (.aload_n 3, 1) := dk_45 (dk_at dksL_law_35 5 rfl rfl)
theorem dL_law_1012 : decode cL_law 1012 = .ok (.iconst 0, 1) := dk_3 (dk_at dksL_law_35 6 rfl rfl)
theorem dL_law_1013 : decode cL_law 1013 = .ok (.laload, 1) := dk_47 (dk_at dksL_law_35 7 rfl rfl)
theorem dL_law_1014 : decode cL_law 1014 = .ok (.iload 6, 2) := dk_21 6 (dk_at dksL_law_35 8 rfl rfl)
theorem dL_law_1016 : decode cL_law 1016 = .ok (.i2l, 1) := dk_133 (dk_at dksL_law_35 10 rfl rfl)
theorem dL_law_1017 : decode cL_law 1017 = .ok (.lcmp, 1) := dk_148 (dk_at dksL_law_35 11 rfl rfl)
theorem dL_law_1018 : decode cL_law 1018 = .ok (.ifCond .eq 5, 3) := dk_153 0 5 (dk_at dksL_law_35 12 rfl rfl)
theorem dL_law_1021 : decode cL_law 1021 = .ok (.iconst 0, 1) := dk_3 (dk_at dksL_law_35 15 rfl rfl)
theorem dL_law_1022 : decode cL_law 1022 = .ok (.ireturn, 1) := dk_172 (dk_at dksL_law_35 16 rfl rfl)
theorem dL_law_1023 : decode cL_law 1023 = .ok (.goto 1728, 3) := dk_167 6 192 (dk_at dksL_law_35 17 rfl rfl)
theorem dL_law_1026 : decode cL_law 1026 = .ok (.aload_n 1, 1) := dk_43 (dk_at dksL_law_35 20 rfl rfl)
theorem dL_law_1027 : decode cL_law 1027 = .ok (.aload_n 0, 1) := dk_42 (dk_at dksL_law_35 21 rfl rfl)
theorem dL_law_1028 : decode cL_law 1028 = .ok (.iload 4, 2) := dk_21 4 (dk_at dksL_law_35 22 rfl rfl)
theorem dL_law_1030 : decode cL_law 1030 = .ok (.iconst 1, 1) := dk_4 (dk_at dksL_law_36 0 rfl rfl)
theorem dL_law_1031 : decode cL_law 1031 = .ok (.iadd, 1) := dk_96 (dk_at dksL_law_36 1 rfl rfl)
theorem dL_law_1032 : decode cL_law 1032 = .ok (.iaload, 1) := dk_46 (dk_at dksL_law_36 2 rfl rfl)
theorem dL_law_1033 : decode cL_law 1033 = .ok (.aload_n 3, 1) := dk_45 (dk_at dksL_law_36 3 rfl rfl)
theorem dL_law_1034 : decode cL_law 1034 = .ok (.invokestatic 204, 3) := dk_184 0 204 (dk_at dksL_law_36 4 rfl rfl)
theorem dL_law_1037 : decode cL_law 1037 = .ok (.istore 5, 2) := dk_54 5 (dk_at dksL_law_36 7 rfl rfl)
theorem dL_law_1039 : decode cL_law 1039 = .ok (.aload_n 2, 1) := dk_44 (dk_at dksL_law_36 9 rfl rfl)
theorem dL_law_1040 : decode cL_law 1040 = .ok (.aload_n 0, 1) := dk_42 (dk_at dksL_law_36 10 rfl rfl)
theorem dL_law_1041 : decode cL_law 1041 = .ok (.iload 4, 2) := dk_21 4 (dk_at dksL_law_36 11 rfl rfl)
theorem dL_law_1043 : decode cL_law 1043 = .ok (.iconst 1, 1) := dk_4 (dk_at dksL_law_36 13 rfl rfl)
theorem dL_law_1044 : decode cL_law 1044 = .ok (.iadd, 1) := dk_96 (dk_at dksL_law_36 14 rfl rfl)
theorem dL_law_1045 : decode cL_law 1045 = .ok (.iaload, 1) := dk_46 (dk_at dksL_law_36 15 rfl rfl)
theorem dL_law_1046 : decode cL_law 1046 = .ok (.invokevirtual 206, 3) := dk_182 0 206 (dk_at dksL_law_36 16 rfl rfl)
theorem dL_law_1049 : decode cL_law 1049 = .ok (.istore 6, 2) := dk_54 6 (dk_at dksL_law_36 19 rfl rfl)
theorem dL_law_1051 : decode cL_law 1051 = .ok (.aload_n 2, 1) := dk_44 (dk_at dksL_law_36 21 rfl rfl)
theorem dL_law_1052 : decode cL_law 1052 = .ok (.invokevirtual 145, 3) := dk_182 0 145 (dk_at dksL_law_37 0 rfl rfl)
theorem dL_law_1055 : decode cL_law 1055 = .ok (.iload 5, 2) := dk_21 5 (dk_at dksL_law_37 3 rfl rfl)
theorem dL_law_1057 : decode cL_law 1057 = .ok (.if_icmp .eq 5, 3) := dk_159 0 5 (dk_at dksL_law_37 5 rfl rfl)
theorem dL_law_1060 : decode cL_law 1060 = .ok (.iconst 0, 1) := dk_3 (dk_at dksL_law_37 8 rfl rfl)
theorem dL_law_1061 : decode cL_law 1061 = .ok (.ireturn, 1) := dk_172 (dk_at dksL_law_37 9 rfl rfl)
theorem dL_law_1062 : decode cL_law 1062 = .ok (.iload 5, 2) := dk_21 5 (dk_at dksL_law_37 10 rfl rfl)
theorem dL_law_1064 : decode cL_law 1064 = .ok (.ifCond .ne 22, 3) := dk_154 0 22 (dk_at dksL_law_37 12 rfl rfl)
theorem dL_law_1067 : decode cL_law 1067 = .ok (.aload_n 3, 1) := dk_45 (dk_at dksL_law_37 15 rfl rfl)
theorem dL_law_1068 : decode cL_law 1068 = .ok (.iconst 0, 1) := dk_3 (dk_at dksL_law_37 16 rfl rfl)
theorem dL_law_1069 : decode cL_law 1069 = .ok (.laload, 1) := dk_47 (dk_at dksL_law_37 17 rfl rfl)
theorem dL_law_1070 : decode cL_law 1070 = .ok (.iload 6, 2) := dk_21 6 (dk_at dksL_law_37 18 rfl rfl)
theorem dL_law_1072 : decode cL_law 1072 = .ok (.ifCond .eq 7, 3) := dk_153 0 7 (dk_at dksL_law_37 20 rfl rfl)
theorem dL_law_1075 : decode cL_law 1075 = .ok (.lconst 1, 1) := dk_10 (dk_at dksL_law_37 23 rfl rfl)
theorem dL_law_1076 : decode cL_law 1076 = .ok (.goto 4, 3) := dk_167 0 4 (dk_at dksL_law_38 0 rfl rfl)
theorem dL_law_1079 : decode cL_law 1079 = .ok (.lconst 0, 1) := dk_9 (dk_at dksL_law_38 3 rfl rfl)
theorem dL_law_1080 : decode cL_law 1080 = .ok (.lcmp, 1) := dk_148 (dk_at dksL_law_38 4 rfl rfl)
theorem dL_law_1081 : decode cL_law 1081 = .ok (.ifCond .eq 5, 3) := dk_153 0 5 (dk_at dksL_law_38 5 rfl rfl)
theorem dL_law_1084 : decode cL_law 1084 = .ok (.iconst 0, 1) := dk_3 (dk_at dksL_law_38 8 rfl rfl)
theorem dL_law_1085 : decode cL_law 1085 = .ok (.ireturn, 1) := dk_172 (dk_at dksL_law_38 9 rfl rfl)
theorem dL_law_1086 : decode cL_law 1086 = .ok (.goto 1665, 3) := dk_167 6 129 (dk_at dksL_law_38 10 rfl rfl)
theorem dL_law_1089 : decode cL_law 1089 = .ok (.aload_n 1, 1) := dk_43 (dk_at dksL_law_38 13 rfl rfl)
theorem dL_law_1090 : decode cL_law 1090 = .ok (.aload_n 0, 1) := dk_42 (dk_at dksL_law_38 14 rfl rfl)
theorem dL_law_1091 : decode cL_law 1091 = .ok (.iload 4, 2) := dk_21 4 (dk_at dksL_law_38 15 rfl rfl)
theorem dL_law_1093 : decode cL_law 1093 = .ok (.iconst 1, 1) := dk_4 (dk_at dksL_law_38 17 rfl rfl)
theorem dL_law_1094 : decode cL_law 1094 = .ok (.iadd, 1) := dk_96 (dk_at dksL_law_38 18 rfl rfl)
theorem dL_law_1095 : decode cL_law 1095 = .ok (.iaload, 1) := dk_46 (dk_at dksL_law_38 19 rfl rfl)
theorem dL_law_1096 : decode cL_law 1096 = .ok (.aload_n 3, 1) := dk_45 (dk_at dksL_law_38 20 rfl rfl)
theorem dL_law_1097 : decode cL_law 1097 = .ok (.invokestatic 207, 3) := dk_184 0 207 (dk_at dksL_law_38 21 rfl rfl)
theorem dL_law_1100 : decode cL_law 1100 = .ok (.istore 5, 2) := dk_54 5 (dk_at dksL_law_39 0 rfl rfl)
theorem dL_law_1102 : decode cL_law 1102 = .ok (.aload_n 2, 1) := dk_44 (dk_at dksL_law_39 2 rfl rfl)
theorem dL_law_1103 : decode cL_law 1103 = .ok (.aload_n 0, 1) := dk_42 (dk_at dksL_law_39 3 rfl rfl)
theorem dL_law_1104 : decode cL_law 1104 = .ok (.iload 4, 2) := dk_21 4 (dk_at dksL_law_39 4 rfl rfl)
theorem dL_law_1106 : decode cL_law 1106 = .ok (.iconst 1, 1) := dk_4 (dk_at dksL_law_39 6 rfl rfl)
theorem dL_law_1107 : decode cL_law 1107 = .ok (.iadd, 1) := dk_96 (dk_at dksL_law_39 7 rfl rfl)
theorem dL_law_1108 : decode cL_law 1108 = .ok (.iaload, 1) := dk_46 (dk_at dksL_law_39 8 rfl rfl)
theorem dL_law_1109 : decode cL_law 1109 = .ok (.invokevirtual 209, 3) := dk_182 0 209 (dk_at dksL_law_39 9 rfl rfl)
theorem dL_law_1112 : decode cL_law 1112 = .ok (.istore 6, 2) := dk_54 6 (dk_at dksL_law_39 12 rfl rfl)
theorem dL_law_1114 : decode cL_law 1114 = .ok (.aload_n 2, 1) := dk_44 (dk_at dksL_law_39 14 rfl rfl)
theorem dL_law_1115 : decode cL_law 1115 = .ok (.invokevirtual 145, 3) := dk_182 0 145 (dk_at dksL_law_39 15 rfl rfl)
theorem dL_law_1118 : decode cL_law 1118 = .ok (.iload 5, 2) := dk_21 5 (dk_at dksL_law_39 18 rfl rfl)
theorem dL_law_1120 : decode cL_law 1120 = .ok (.if_icmp .eq 5, 3) := dk_159 0 5 (dk_at dksL_law_39 20 rfl rfl)
theorem dL_law_1123 : decode cL_law 1123 = .ok (.iconst 0, 1) := dk_3 (dk_at dksL_law_39 23 rfl rfl)
theorem dL_law_1124 : decode cL_law 1124 = .ok (.ireturn, 1) := dk_172 (dk_at dksL_law_40 0 rfl rfl)
theorem dL_law_1125 : decode cL_law 1125 = .ok (.iload 5, 2) := dk_21 5 (dk_at dksL_law_40 1 rfl rfl)
theorem dL_law_1127 : decode cL_law 1127 = .ok (.ifCond .ne 15, 3) := dk_154 0 15 (dk_at dksL_law_40 3 rfl rfl)
theorem dL_law_1130 : decode cL_law 1130 = .ok (.aload_n 3, 1) := dk_45 (dk_at dksL_law_40 6 rfl rfl)
theorem dL_law_1131 : decode cL_law 1131 = .ok (.iconst 0, 1) := dk_3 (dk_at dksL_law_40 7 rfl rfl)
theorem dL_law_1132 : decode cL_law 1132 = .ok (.laload, 1) := dk_47 (dk_at dksL_law_40 8 rfl rfl)
theorem dL_law_1133 : decode cL_law 1133 = .ok (.iload 6, 2) := dk_21 6 (dk_at dksL_law_40 9 rfl rfl)
theorem dL_law_1135 : decode cL_law 1135 = .ok (.i2l, 1) := dk_133 (dk_at dksL_law_40 11 rfl rfl)
theorem dL_law_1136 : decode cL_law 1136 = .ok (.lcmp, 1) := dk_148 (dk_at dksL_law_40 12 rfl rfl)
theorem dL_law_1137 : decode cL_law 1137 = .ok (.ifCond .eq 5, 3) := dk_153 0 5 (dk_at dksL_law_40 13 rfl rfl)
theorem dL_law_1140 : decode cL_law 1140 = .ok (.iconst 0, 1) := dk_3 (dk_at dksL_law_40 16 rfl rfl)
theorem dL_law_1141 : decode cL_law 1141 = .ok (.ireturn, 1) := dk_172 (dk_at dksL_law_40 17 rfl rfl)
theorem dL_law_1142 : decode cL_law 1142 = .ok (.goto 1609, 3) := dk_167 6 73 (dk_at dksL_law_40 18 rfl rfl)
theorem dL_law_1145 : decode cL_law 1145 = .ok (.aload_n 1, 1) := dk_43 (dk_at dksL_law_40 21 rfl rfl)
theorem dL_law_1146 : decode cL_law 1146 = .ok (.aload_n 0, 1) := dk_42 (dk_at dksL_law_40 22 rfl rfl)
theorem dL_law_1147 : decode cL_law 1147 = .ok (.iload 4, 2) := dk_21 4 (dk_at dksL_law_41 0 rfl rfl)
theorem dL_law_1149 : decode cL_law 1149 = .ok (.iconst 1, 1) := dk_4 (dk_at dksL_law_41 2 rfl rfl)
theorem dL_law_1150 : decode cL_law 1150 = .ok (.iadd, 1) := dk_96 (dk_at dksL_law_41 3 rfl rfl)
theorem dL_law_1151 : decode cL_law 1151 = .ok (.iaload, 1) := dk_46 (dk_at dksL_law_41 4 rfl rfl)
theorem dL_law_1152 : decode cL_law 1152 = .ok (.aload_n 3, 1) := dk_45 (dk_at dksL_law_41 5 rfl rfl)
theorem dL_law_1153 : decode cL_law 1153 = .ok (.invokestatic 210, 3) := dk_184 0 210 (dk_at dksL_law_41 6 rfl rfl)
theorem dL_law_1156 : decode cL_law 1156 = .ok (.istore 5, 2) := dk_54 5 (dk_at dksL_law_41 9 rfl rfl)
theorem dL_law_1158 : decode cL_law 1158 = .ok (.aload_n 2, 1) := dk_44 (dk_at dksL_law_41 11 rfl rfl)
theorem dL_law_1159 : decode cL_law 1159 = .ok (.aload_n 0, 1) := dk_42 (dk_at dksL_law_41 12 rfl rfl)
theorem dL_law_1160 : decode cL_law 1160 = .ok (.iload 4, 2) := dk_21 4 (dk_at dksL_law_41 13 rfl rfl)
theorem dL_law_1162 : decode cL_law 1162 = .ok (.iconst 1, 1) := dk_4 (dk_at dksL_law_41 15 rfl rfl)
theorem dL_law_1163 : decode cL_law 1163 = .ok (.iadd, 1) := dk_96 (dk_at dksL_law_41 16 rfl rfl)
theorem dL_law_1164 : decode cL_law 1164 = .ok (.iaload, 1) := dk_46 (dk_at dksL_law_41 17 rfl rfl)
theorem dL_law_1165 : decode cL_law 1165 = .ok (.invokevirtual 212, 3) := dk_182 0 212 (dk_at dksL_law_41 18 rfl rfl)
theorem dL_law_1168 : decode cL_law 1168 = .ok (.istore 6, 2) := dk_54 6 (dk_at dksL_law_41 21 rfl rfl)
theorem dL_law_1170 : decode cL_law 1170 = .ok (.aload_n 2, 1) := dk_44 (dk_at dksL_law_41 23 rfl rfl)
theorem dL_law_1171 : decode cL_law 1171 = .ok (.invokevirtual 145, 3) := dk_182 0 145 (dk_at dksL_law_42 0 rfl rfl)
theorem dL_law_1174 : decode cL_law 1174 = .ok (.iload 5, 2) := dk_21 5 (dk_at dksL_law_42 3 rfl rfl)
theorem dL_law_1176 : decode cL_law 1176 = .ok (.if_icmp .eq 5, 3) := dk_159 0 5 (dk_at dksL_law_42 5 rfl rfl)
theorem dL_law_1179 : decode cL_law 1179 = .ok (.iconst 0, 1) := dk_3 (dk_at dksL_law_42 8 rfl rfl)
theorem dL_law_1180 : decode cL_law 1180 = .ok (.ireturn, 1) := dk_172 (dk_at dksL_law_42 9 rfl rfl)
theorem dL_law_1181 : decode cL_law 1181 = .ok (.iload 5, 2) := dk_21 5 (dk_at dksL_law_42 10 rfl rfl)
theorem dL_law_1183 : decode cL_law 1183 = .ok (.ifCond .ne 15, 3) := dk_154 0 15 (dk_at dksL_law_42 12 rfl rfl)
theorem dL_law_1186 : decode cL_law 1186 = .ok (.aload_n 3, 1) := dk_45 (dk_at dksL_law_42 15 rfl rfl)
theorem dL_law_1187 : decode cL_law 1187 = .ok (.iconst 0, 1) := dk_3 (dk_at dksL_law_42 16 rfl rfl)
theorem dL_law_1188 : decode cL_law 1188 = .ok (.laload, 1) := dk_47 (dk_at dksL_law_42 17 rfl rfl)
theorem dL_law_1189 : decode cL_law 1189 = .ok (.iload 6, 2) := dk_21 6 (dk_at dksL_law_42 18 rfl rfl)
theorem dL_law_1191 : decode cL_law 1191 = .ok (.i2l, 1) := dk_133 (dk_at dksL_law_42 20 rfl rfl)
theorem dL_law_1192 : decode cL_law 1192 = .ok (.lcmp, 1) := dk_148 (dk_at dksL_law_42 21 rfl rfl)
theorem dL_law_1193 : decode cL_law 1193 = .ok (.ifCond .eq 5, 3) := dk_153 0 5 (dk_at dksL_law_43 0 rfl rfl)
theorem dL_law_1196 : decode cL_law 1196 = .ok (.iconst 0, 1) := dk_3 (dk_at dksL_law_43 3 rfl rfl)
theorem dL_law_1197 : decode cL_law 1197 = .ok (.ireturn, 1) := dk_172 (dk_at dksL_law_43 4 rfl rfl)
theorem dL_law_1198 : decode cL_law 1198 = .ok (.goto 1553, 3) := dk_167 6 17 (dk_at dksL_law_43 5 rfl rfl)
theorem dL_law_1201 : decode cL_law 1201 = .ok (.aload_n 1, 1) := dk_43 (dk_at dksL_law_43 8 rfl rfl)
theorem dL_law_1202 : decode cL_law 1202 = .ok (.aload_n 0, 1) := dk_42 (dk_at dksL_law_43 9 rfl rfl)
theorem dL_law_1203 : decode cL_law 1203 = .ok (.iload 4, 2) := dk_21 4 (dk_at dksL_law_43 10 rfl rfl)
theorem dL_law_1205 : decode cL_law 1205 = .ok (.iconst 1, 1) := dk_4 (dk_at dksL_law_43 12 rfl rfl)
theorem dL_law_1206 : decode cL_law 1206 = .ok (.iadd, 1) := dk_96 (dk_at dksL_law_43 13 rfl rfl)
theorem dL_law_1207 : decode cL_law 1207 = .ok (.iaload, 1) := dk_46 (dk_at dksL_law_43 14 rfl rfl)
theorem dL_law_1208 : decode cL_law 1208 = .ok (.aload_n 3, 1) := dk_45 (dk_at dksL_law_43 15 rfl rfl)
theorem dL_law_1209 : decode cL_law 1209 = .ok (.invokestatic 213, 3) := dk_184 0 213 (dk_at dksL_law_43 16 rfl rfl)
theorem dL_law_1212 : decode cL_law 1212 = .ok (.istore 5, 2) := dk_54 5 (dk_at dksL_law_43 19 rfl rfl)
theorem dL_law_1214 : decode cL_law 1214 = .ok (.aload_n 2, 1) := dk_44 (dk_at dksL_law_43 21 rfl rfl)
theorem dL_law_1215 : decode cL_law 1215 = .ok (.aload_n 0, 1) := dk_42 (dk_at dksL_law_43 22 rfl rfl)
theorem dL_law_1216 : decode cL_law 1216 = .ok (.iload 4, 2) := dk_21 4 (dk_at dksL_law_44 0 rfl rfl)
theorem dL_law_1218 : decode cL_law 1218 = .ok (.iconst 1, 1) := dk_4 (dk_at dksL_law_44 2 rfl rfl)
theorem dL_law_1219 : decode cL_law 1219 = .ok (.iadd, 1) := dk_96 (dk_at dksL_law_44 3 rfl rfl)
theorem dL_law_1220 : decode cL_law 1220 = .ok (.iaload, 1) := dk_46 (dk_at dksL_law_44 4 rfl rfl)
theorem dL_law_1221 : decode cL_law 1221 = .ok (.invokevirtual 215, 3) := dk_182 0 215 (dk_at dksL_law_44 5 rfl rfl)
theorem dL_law_1224 : decode cL_law 1224 = .ok (.istore 6, 2) := dk_54 6 (dk_at dksL_law_44 8 rfl rfl)
theorem dL_law_1226 : decode cL_law 1226 = .ok (.aload_n 2, 1) := dk_44 (dk_at dksL_law_44 10 rfl rfl)
theorem dL_law_1227 : decode cL_law 1227 = .ok (.invokevirtual 145, 3) := dk_182 0 145 (dk_at dksL_law_44 11 rfl rfl)
theorem dL_law_1230 : decode cL_law 1230 = .ok (.iload 5, 2) := dk_21 5 (dk_at dksL_law_44 14 rfl rfl)
theorem dL_law_1232 : decode cL_law 1232 = .ok (.if_icmp .eq 5, 3) := dk_159 0 5 (dk_at dksL_law_44 16 rfl rfl)
theorem dL_law_1235 : decode cL_law 1235 = .ok (.iconst 0, 1) := dk_3 (dk_at dksL_law_44 19 rfl rfl)
theorem dL_law_1236 : decode cL_law 1236 = .ok (.ireturn, 1) := dk_172 (dk_at dksL_law_44 20 rfl rfl)
theorem dL_law_1237 : decode cL_law 1237 = .ok (.iload 5, 2) := dk_21 5 (dk_at dksL_law_44 21 rfl rfl)
theorem dL_law_1239 : decode cL_law 1239 = .ok (.ifCond .ne 15, 3) := dk_154 0 15 (dk_at dksL_law_45 0 rfl rfl)
theorem dL_law_1242 : decode cL_law 1242 = .ok (.aload_n 3, 1) := dk_45 (dk_at dksL_law_45 3 rfl rfl)
theorem dL_law_1243 : decode cL_law 1243 = .ok (.iconst 0, 1) := dk_3 (dk_at dksL_law_45 4 rfl rfl)
theorem dL_law_1244 : decode cL_law 1244 = .ok (.laload, 1) := dk_47 (dk_at dksL_law_45 5 rfl rfl)
theorem dL_law_1245 : decode cL_law 1245 = .ok (.iload 6, 2) := dk_21 6 (dk_at dksL_law_45 6 rfl rfl)
theorem dL_law_1247 : decode cL_law 1247 = .ok (.i2l, 1) := dk_133 (dk_at dksL_law_45 8 rfl rfl)
theorem dL_law_1248 : decode cL_law 1248 = .ok (.lcmp, 1) := dk_148 (dk_at dksL_law_45 9 rfl rfl)
theorem dL_law_1249 : decode cL_law 1249 = .ok (.ifCond .eq 5, 3) := dk_153 0 5 (dk_at dksL_law_45 10 rfl rfl)
theorem dL_law_1252 : decode cL_law 1252 = .ok (.iconst 0, 1) := dk_3 (dk_at dksL_law_45 13 rfl rfl)
theorem dL_law_1253 : decode cL_law 1253 = .ok (.ireturn, 1) := dk_172 (dk_at dksL_law_45 14 rfl rfl)
theorem dL_law_1254 : decode cL_law 1254 = .ok (.goto 1497, 3) := dk_167 5 217 (dk_at dksL_law_45 15 rfl rfl)
theorem dL_law_1257 : decode cL_law 1257 = .ok (.aload_n 1, 1) := dk_43 (dk_at dksL_law_45 18 rfl rfl)
theorem dL_law_1258 : decode cL_law 1258 = .ok (.invokevirtual 216, 3) := dk_182 0 216 (dk_at dksL_law_45 19 rfl rfl)
theorem dL_law_1261 : decode cL_law 1261 = .ok (.aload_n 2, 1) := dk_44 (dk_at dksL_law_45 22 rfl rfl)
theorem dL_law_1262 : decode cL_law 1262 = .ok (.invokevirtual 219, 3) := dk_182 0 219 (dk_at dksL_law_46 0 rfl rfl)
theorem dL_law_1265 : decode cL_law 1265 = .ok (.if_icmp .eq 1486, 3) := dk_159 5 206 (dk_at dksL_law_46 3 rfl rfl)
theorem dL_law_1268 : decode cL_law 1268 = .ok (.iconst 0, 1) := dk_3 (dk_at dksL_law_46 6 rfl rfl)
theorem dL_law_1269 : decode cL_law 1269 = .ok (.ireturn, 1) := dk_172 (dk_at dksL_law_46 7 rfl rfl)
theorem dL_law_1270 : decode cL_law 1270 = .ok (.aload_n 1, 1) := dk_43 (dk_at dksL_law_46 8 rfl rfl)
theorem dL_law_1271 : decode cL_law 1271 = .ok (.aload_n 0, 1) := dk_42 (dk_at dksL_law_46 9 rfl rfl)
theorem dL_law_1272 : decode cL_law 1272 = .ok (.iload 4, 2) := dk_21 4 (dk_at dksL_law_46 10 rfl rfl)
theorem dL_law_1274 : decode cL_law 1274 = .ok (.iconst 1, 1) := dk_4 (dk_at dksL_law_46 12 rfl rfl)
theorem dL_law_1275 : decode cL_law 1275 = .ok (.iadd, 1) := dk_96 (dk_at dksL_law_46 13 rfl rfl)
theorem dL_law_1276 : decode cL_law 1276 = .ok (.iaload, 1) := dk_46 (dk_at dksL_law_46 14 rfl rfl)
theorem dL_law_1277 : decode cL_law 1277 = .ok (.invokevirtual 220, 3) := dk_182 0 220 (dk_at dksL_law_46 15 rfl rfl)
theorem dL_law_1280 : decode cL_law 1280 = .ok (.aload_n 2, 1) := dk_44 (dk_at dksL_law_46 18 rfl rfl)
theorem dL_law_1281 : decode cL_law 1281 = .ok (.aload_n 0, 1) := dk_42 (dk_at dksL_law_46 19 rfl rfl)
theorem dL_law_1282 : decode cL_law 1282 = .ok (.iload 4, 2) := dk_21 4 (dk_at dksL_law_46 20 rfl rfl)
theorem dL_law_1284 : decode cL_law 1284 = .ok (.iconst 1, 1) := dk_4 (dk_at dksL_law_46 22 rfl rfl)
theorem dL_law_1285 : decode cL_law 1285 = .ok (.iadd, 1) := dk_96 (dk_at dksL_law_46 23 rfl rfl)
theorem dL_law_1286 : decode cL_law 1286 = .ok (.iaload, 1) := dk_46 (dk_at dksL_law_47 0 rfl rfl)
theorem dL_law_1287 : decode cL_law 1287 = .ok (.invokevirtual 223, 3) := dk_182 0 223 (dk_at dksL_law_47 1 rfl rfl)
theorem dL_law_1290 : decode cL_law 1290 = .ok (.if_icmp .eq 1461, 3) := dk_159 5 181 (dk_at dksL_law_47 4 rfl rfl)
theorem dL_law_1293 : decode cL_law 1293 = .ok (.iconst 0, 1) := dk_3 (dk_at dksL_law_47 7 rfl rfl)
theorem dL_law_1294 : decode cL_law 1294 = .ok (.ireturn, 1) := dk_172 (dk_at dksL_law_47 8 rfl rfl)
theorem dL_law_1295 : decode cL_law 1295 = .ok (.aload_n 1, 1) := dk_43 (dk_at dksL_law_47 9 rfl rfl)
theorem dL_law_1296 : decode cL_law 1296 = .ok (.aload_n 0, 1) := dk_42 (dk_at dksL_law_47 10 rfl rfl)
theorem dL_law_1297 : decode cL_law 1297 = .ok (.iload 4, 2) := dk_21 4 (dk_at dksL_law_47 11 rfl rfl)
theorem dL_law_1299 : decode cL_law 1299 = .ok (.iconst 1, 1) := dk_4 (dk_at dksL_law_47 13 rfl rfl)
theorem dL_law_1300 : decode cL_law 1300 = .ok (.iadd, 1) := dk_96 (dk_at dksL_law_47 14 rfl rfl)
theorem dL_law_1301 : decode cL_law 1301 = .ok (.iaload, 1) := dk_46 (dk_at dksL_law_47 15 rfl rfl)
theorem dL_law_1302 : decode cL_law 1302 = .ok (.invokevirtual 224, 3) := dk_182 0 224 (dk_at dksL_law_47 16 rfl rfl)
theorem dL_law_1305 : decode cL_law 1305 = .ok (.aload_n 2, 1) := dk_44 (dk_at dksL_law_47 19 rfl rfl)
theorem dL_law_1306 : decode cL_law 1306 = .ok (.aload_n 0, 1) := dk_42 (dk_at dksL_law_47 20 rfl rfl)
theorem dL_law_1307 : decode cL_law 1307 = .ok (.iload 4, 2) := dk_21 4 (dk_at dksL_law_47 21 rfl rfl)
theorem dL_law_1309 : decode cL_law 1309 = .ok (.iconst 1, 1) := dk_4 (dk_at dksL_law_47 23 rfl rfl)
theorem dL_law_1310 : decode cL_law 1310 = .ok (.iadd, 1) := dk_96 (dk_at dksL_law_48 0 rfl rfl)
theorem dL_law_1311 : decode cL_law 1311 = .ok (.iaload, 1) := dk_46 (dk_at dksL_law_48 1 rfl rfl)
theorem dL_law_1312 : decode cL_law 1312 = .ok (.invokevirtual 227, 3) := dk_182 0 227 (dk_at dksL_law_48 2 rfl rfl)
theorem dL_law_1315 : decode cL_law 1315 = .ok (.if_icmp .eq 1436, 3) := dk_159 5 156 (dk_at dksL_law_48 5 rfl rfl)
theorem dL_law_1318 : decode cL_law 1318 = .ok (.iconst 0, 1) := dk_3 (dk_at dksL_law_48 8 rfl rfl)
theorem dL_law_1319 : decode cL_law 1319 = .ok (.ireturn, 1) := dk_172 (dk_at dksL_law_48 9 rfl rfl)
theorem dL_law_1320 : decode cL_law 1320 = .ok (.aload_n 1, 1) := dk_43 (dk_at dksL_law_48 10 rfl rfl)
theorem dL_law_1321 : decode cL_law 1321 = .ok (.aload_n 0, 1) := dk_42 (dk_at dksL_law_48 11 rfl rfl)
theorem dL_law_1322 : decode cL_law 1322 = .ok (.iload 4, 2) := dk_21 4 (dk_at dksL_law_48 12 rfl rfl)
theorem dL_law_1324 : decode cL_law 1324 = .ok (.iconst 1, 1) := dk_4 (dk_at dksL_law_48 14 rfl rfl)
theorem dL_law_1325 : decode cL_law 1325 = .ok (.iadd, 1) := dk_96 (dk_at dksL_law_48 15 rfl rfl)
theorem dL_law_1326 : decode cL_law 1326 = .ok (.iaload, 1) := dk_46 (dk_at dksL_law_48 16 rfl rfl)
theorem dL_law_1327 : decode cL_law 1327 = .ok (.aload_n 0, 1) := dk_42 (dk_at dksL_law_48 17 rfl rfl)
theorem dL_law_1328 : decode cL_law 1328 = .ok (.iload 4, 2) := dk_21 4 (dk_at dksL_law_48 18 rfl rfl)
theorem dL_law_1330 : decode cL_law 1330 = .ok (.iconst 2, 1) := dk_5 (dk_at dksL_law_48 20 rfl rfl)
theorem dL_law_1331 : decode cL_law 1331 = .ok (.iadd, 1) := dk_96 (dk_at dksL_law_48 21 rfl rfl)
theorem dL_law_1332 : decode cL_law 1332 = .ok (.iaload, 1) := dk_46 (dk_at dksL_law_48 22 rfl rfl)
theorem dL_law_1333 : decode cL_law 1333 = .ok (.aload_n 3, 1) := dk_45 (dk_at dksL_law_48 23 rfl rfl)
theorem dL_law_1334 : decode cL_law 1334 = .ok (.invokestatic 228, 3) := dk_184 0 228 (dk_at dksL_law_49 0 rfl rfl)
theorem dL_law_1337 : decode cL_law 1337 = .ok (.istore 5, 2) := dk_54 5 (dk_at dksL_law_49 3 rfl rfl)
theorem dL_law_1339 : decode cL_law 1339 = .ok (.aload_n 2, 1) := dk_44 (dk_at dksL_law_49 5 rfl rfl)
theorem dL_law_1340 : decode cL_law 1340 = .ok (.aload_n 0, 1) := dk_42 (dk_at dksL_law_49 6 rfl rfl)
theorem dL_law_1341 : decode cL_law 1341 = .ok (.iload 4, 2) := dk_21 4 (dk_at dksL_law_49 7 rfl rfl)
theorem dL_law_1343 : decode cL_law 1343 = .ok (.iconst 1, 1) := dk_4 (dk_at dksL_law_49 9 rfl rfl)
theorem dL_law_1344 : decode cL_law 1344 = .ok (.iadd, 1) := dk_96 (dk_at dksL_law_49 10 rfl rfl)
theorem dL_law_1345 : decode cL_law 1345 = .ok (.iaload, 1) := dk_46 (dk_at dksL_law_49 11 rfl rfl)
theorem dL_law_1346 : decode cL_law 1346 = .ok (.aload_n 0, 1) := dk_42 (dk_at dksL_law_49 12 rfl rfl)
theorem dL_law_1347 : decode cL_law 1347 = .ok (.iload 4, 2) := dk_21 4 (dk_at dksL_law_49 13 rfl rfl)
theorem dL_law_1349 : decode cL_law 1349 = .ok (.iconst 2, 1) := dk_5 (dk_at dksL_law_49 15 rfl rfl)
theorem dL_law_1350 : decode cL_law 1350 = .ok (.iadd, 1) := dk_96 (dk_at dksL_law_49 16 rfl rfl)
theorem dL_law_1351 : decode cL_law 1351 = .ok (.iaload, 1) := dk_46 (dk_at dksL_law_49 17 rfl rfl)
theorem dL_law_1352 : decode cL_law 1352 = .ok (.invokevirtual 231, 3) := dk_182 0 231 (dk_at dksL_law_49 18 rfl rfl)
theorem dL_law_1355 : decode cL_law 1355 = .ok (.istore 6, 2) := dk_54 6 (dk_at dksL_law_49 21 rfl rfl)
theorem dL_law_1357 : decode cL_law 1357 = .ok (.aload_n 2, 1) := dk_44 (dk_at dksL_law_49 23 rfl rfl)
theorem dL_law_1358 : decode cL_law 1358 = .ok (.invokevirtual 145, 3) := dk_182 0 145 (dk_at dksL_law_50 0 rfl rfl)
theorem dL_law_1361 : decode cL_law 1361 = .ok (.iload 5, 2) := dk_21 5 (dk_at dksL_law_50 3 rfl rfl)
theorem dL_law_1363 : decode cL_law 1363 = .ok (.if_icmp .eq 5, 3) := dk_159 0 5 (dk_at dksL_law_50 5 rfl rfl)
theorem dL_law_1366 : decode cL_law 1366 = .ok (.iconst 0, 1) := dk_3 (dk_at dksL_law_50 8 rfl rfl)
theorem dL_law_1367 : decode cL_law 1367 = .ok (.ireturn, 1) := dk_172 (dk_at dksL_law_50 9 rfl rfl)
theorem dL_law_1368 : decode cL_law 1368 = .ok (.iload 5, 2) := dk_21 5 (dk_at dksL_law_50 10 rfl rfl)
theorem dL_law_1370 : decode cL_law 1370 = .ok (.ifCond .ne 15, 3) := dk_154 0 15 (dk_at dksL_law_50 12 rfl rfl)
theorem dL_law_1373 : decode cL_law 1373 = .ok (.aload_n 3, 1) := dk_45 (dk_at dksL_law_50 15 rfl rfl)
theorem dL_law_1374 : decode cL_law 1374 = .ok (.iconst 0, 1) := dk_3 (dk_at dksL_law_50 16 rfl rfl)
theorem dL_law_1375 : decode cL_law 1375 = .ok (.laload, 1) := dk_47 (dk_at dksL_law_50 17 rfl rfl)
theorem dL_law_1376 : decode cL_law 1376 = .ok (.iload 6, 2) := dk_21 6 (dk_at dksL_law_50 18 rfl rfl)
theorem dL_law_1378 : decode cL_law 1378 = .ok (.i2l, 1) := dk_133 (dk_at dksL_law_50 20 rfl rfl)
theorem dL_law_1379 : decode cL_law 1379 = .ok (.lcmp, 1) := dk_148 (dk_at dksL_law_50 21 rfl rfl)
theorem dL_law_1380 : decode cL_law 1380 = .ok (.ifCond .eq 5, 3) := dk_153 0 5 (dk_at dksL_law_51 0 rfl rfl)
theorem dL_law_1383 : decode cL_law 1383 = .ok (.iconst 0, 1) := dk_3 (dk_at dksL_law_51 3 rfl rfl)
theorem dL_law_1384 : decode cL_law 1384 = .ok (.ireturn, 1) := dk_172 (dk_at dksL_law_51 4 rfl rfl)
theorem dL_law_1385 : decode cL_law 1385 = .ok (.goto 1366, 3) := dk_167 5 86 (dk_at dksL_law_51 5 rfl rfl)
theorem dL_law_1388 : decode cL_law 1388 = .ok (.aload_n 1, 1) := dk_43 (dk_at dksL_law_51 8 rfl rfl)
theorem dL_law_1389 : decode cL_law 1389 = .ok (.aload_n 0, 1) := dk_42 (dk_at dksL_law_51 9 rfl rfl)
theorem dL_law_1390 : decode cL_law 1390 = .ok (.iload 4, 2) := dk_21 4 (dk_at dksL_law_51 10 rfl rfl)
theorem dL_law_1392 : decode cL_law 1392 = .ok (.iconst 1, 1) := dk_4 (dk_at dksL_law_51 12 rfl rfl)
theorem dL_law_1393 : decode cL_law 1393 = .ok (.iadd, 1) := dk_96 (dk_at dksL_law_51 13 rfl rfl)
theorem dL_law_1394 : decode cL_law 1394 = .ok (.iaload, 1) := dk_46 (dk_at dksL_law_51 14 rfl rfl)
theorem dL_law_1395 : decode cL_law 1395 = .ok (.aload_n 0, 1) := dk_42 (dk_at dksL_law_51 15 rfl rfl)
theorem dL_law_1396 : decode cL_law 1396 = .ok (.iload 4, 2) := dk_21 4 (dk_at dksL_law_51 16 rfl rfl)
theorem dL_law_1398 : decode cL_law 1398 = .ok (.iconst 2, 1) := dk_5 (dk_at dksL_law_51 18 rfl rfl)
theorem dL_law_1399 : decode cL_law 1399 = .ok (.iadd, 1) := dk_96 (dk_at dksL_law_51 19 rfl rfl)
theorem dL_law_1400 : decode cL_law 1400 = .ok (.iaload, 1) := dk_46 (dk_at dksL_law_51 20 rfl rfl)
theorem dL_law_1401 : decode cL_law 1401 = .ok (.aload_n 0, 1) := dk_42 (dk_at dksL_law_51 21 rfl rfl)
theorem dL_law_1402 : decode cL_law 1402 = .ok (.iload 4, 2) := dk_21 4 (dk_at dksL_law_51 22 rfl rfl)
theorem dL_law_1404 : decode cL_law 1404 = .ok (.iconst 3, 1) := dk_6 (dk_at dksL_law_52 0 rfl rfl)
theorem dL_law_1405 : decode cL_law 1405 = .ok (.iadd, 1) := dk_96 (dk_at dksL_law_52 1 rfl rfl)
theorem dL_law_1406 : decode cL_law 1406 = .ok (.iaload, 1) := dk_46 (dk_at dksL_law_52 2 rfl rfl)
theorem dL_law_1407 : decode cL_law 1407 = .ok (.aload_n 3, 1) := dk_45 (dk_at dksL_law_52 3 rfl rfl)
theorem dL_law_1408 : decode cL_law 1408 = .ok (.invokestatic 232, 3) := dk_184 0 232 (dk_at dksL_law_52 4 rfl rfl)
theorem dL_law_1411 : decode cL_law 1411 = .ok (.istore 5, 2) := dk_54 5 (dk_at dksL_law_52 7 rfl rfl)
theorem dL_law_1413 : decode cL_law 1413 = .ok (.aload_n 2, 1) := dk_44 (dk_at dksL_law_52 9 rfl rfl)
theorem dL_law_1414 : decode cL_law 1414 = .ok (.aload_n 0, 1) := dk_42 (dk_at dksL_law_52 10 rfl rfl)
theorem dL_law_1415 : decode cL_law 1415 = .ok (.iload 4, 2) := dk_21 4 (dk_at dksL_law_52 11 rfl rfl)
theorem dL_law_1417 : decode cL_law 1417 = .ok (.iconst 1, 1) := dk_4 (dk_at dksL_law_52 13 rfl rfl)
theorem dL_law_1418 : decode cL_law 1418 = .ok (.iadd, 1) := dk_96 (dk_at dksL_law_52 14 rfl rfl)
theorem dL_law_1419 : decode cL_law 1419 = .ok (.iaload, 1) := dk_46 (dk_at dksL_law_52 15 rfl rfl)
theorem dL_law_1420 : decode cL_law 1420 = .ok (.aload_n 0, 1) := dk_42 (dk_at dksL_law_52 16 rfl rfl)
theorem dL_law_1421 : decode cL_law 1421 = .ok (.iload 4, 2) := dk_21 4 (dk_at dksL_law_52 17 rfl rfl)
theorem dL_law_1423 : decode cL_law 1423 = .ok (.iconst 2, 1) := dk_5 (dk_at dksL_law_52 19 rfl rfl)
theorem dL_law_1424 : decode cL_law 1424 = .ok (.iadd, 1) := dk_96 (dk_at dksL_law_52 20 rfl rfl)
theorem dL_law_1425 : decode cL_law 1425 = .ok (.iaload, 1) := dk_46 (dk_at dksL_law_52 21 rfl rfl)
theorem dL_law_1426 : decode cL_law 1426 = .ok (.aload_n 0, 1) := dk_42 (dk_at dksL_law_52 22 rfl rfl)
theorem dL_law_1427 : decode cL_law 1427 = .ok (.iload 4, 2) := dk_21 4 (dk_at dksL_law_53 0 rfl rfl)
theorem dL_law_1429 : decode cL_law 1429 = .ok (.iconst 3, 1) := dk_6 (dk_at dksL_law_53 2 rfl rfl)
theorem dL_law_1430 : decode cL_law 1430 = .ok (.iadd, 1) := dk_96 (dk_at dksL_law_53 3 rfl rfl)
theorem dL_law_1431 : decode cL_law 1431 = .ok (.iaload, 1) := dk_46 (dk_at dksL_law_53 4 rfl rfl)
theorem dL_law_1432 : decode cL_law 1432 = .ok (.invokevirtual 234, 3) := dk_182 0 234 (dk_at dksL_law_53 5 rfl rfl)
theorem dL_law_1435 : decode cL_law 1435 = .ok (.istore 6, 2) := dk_54 6 (dk_at dksL_law_53 8 rfl rfl)
theorem dL_law_1437 : decode cL_law 1437 = .ok (.aload_n 2, 1) := dk_44 (dk_at dksL_law_53 10 rfl rfl)
theorem dL_law_1438 : decode cL_law 1438 = .ok (.invokevirtual 145, 3) := dk_182 0 145 (dk_at dksL_law_53 11 rfl rfl)
theorem dL_law_1441 : decode cL_law 1441 = .ok (.iload 5, 2) := dk_21 5 (dk_at dksL_law_53 14 rfl rfl)
theorem dL_law_1443 : decode cL_law 1443 = .ok (.if_icmp .eq 5, 3) := dk_159 0 5 (dk_at dksL_law_53 16 rfl rfl)
theorem dL_law_1446 : decode cL_law 1446 = .ok (.iconst 0, 1) := dk_3 (dk_at dksL_law_53 19 rfl rfl)
theorem dL_law_1447 : decode cL_law 1447 = .ok (.ireturn, 1) := dk_172 (dk_at dksL_law_53 20 rfl rfl)
theorem dL_law_1448 : decode cL_law 1448 = .ok (.iload 5, 2) := dk_21 5 (dk_at dksL_law_53 21 rfl rfl)
theorem dL_law_1450 : decode cL_law 1450 = .ok (.ifCond .ne 15, 3) := dk_154 0 15 (dk_at dksL_law_54 0 rfl rfl)
theorem dL_law_1453 : decode cL_law 1453 = .ok (.aload_n 3, 1) := dk_45 (dk_at dksL_law_54 3 rfl rfl)
theorem dL_law_1454 : decode cL_law 1454 = .ok (.iconst 0, 1) := dk_3 (dk_at dksL_law_54 4 rfl rfl)
theorem dL_law_1455 : decode cL_law 1455 = .ok (.laload, 1) := dk_47 (dk_at dksL_law_54 5 rfl rfl)
theorem dL_law_1456 : decode cL_law 1456 = .ok (.iload 6, 2) := dk_21 6 (dk_at dksL_law_54 6 rfl rfl)
theorem dL_law_1458 : decode cL_law 1458 = .ok (.i2l, 1) := dk_133 (dk_at dksL_law_54 8 rfl rfl)
theorem dL_law_1459 : decode cL_law 1459 = .ok (.lcmp, 1) := dk_148 (dk_at dksL_law_54 9 rfl rfl)
theorem dL_law_1460 : decode cL_law 1460 = .ok (.ifCond .eq 5, 3) := dk_153 0 5 (dk_at dksL_law_54 10 rfl rfl)
theorem dL_law_1463 : decode cL_law 1463 = .ok (.iconst 0, 1) := dk_3 (dk_at dksL_law_54 13 rfl rfl)
theorem dL_law_1464 : decode cL_law 1464 = .ok (.ireturn, 1) := dk_172 (dk_at dksL_law_54 14 rfl rfl)
theorem dL_law_1465 : decode cL_law 1465 = .ok (.goto 1286, 3) := dk_167 5 6 (dk_at dksL_law_54 15 rfl rfl)
theorem dL_law_1468 : decode cL_law 1468 = .ok (.aload_n 1, 1) := dk_43 (dk_at dksL_law_54 18 rfl rfl)
theorem dL_law_1469 : decode cL_law 1469 = .ok (.aload_n 0, 1) := dk_42 (dk_at dksL_law_54 19 rfl rfl)
theorem dL_law_1470 : decode cL_law 1470 = .ok (.iload 4, 2) := dk_21 4 (dk_at dksL_law_54 20 rfl rfl)
theorem dL_law_1472 : decode cL_law 1472 = .ok (.iconst 1, 1) := dk_4 (dk_at dksL_law_54 22 rfl rfl)
theorem dL_law_1473 : decode cL_law 1473 = .ok (.iadd, 1) := dk_96 (dk_at dksL_law_54 23 rfl rfl)
theorem dL_law_1474 : decode cL_law 1474 = .ok (.iaload, 1) := dk_46 (dk_at dksL_law_55 0 rfl rfl)
theorem dL_law_1475 : decode cL_law 1475 = .ok (.aload_n 0, 1) := dk_42 (dk_at dksL_law_55 1 rfl rfl)
theorem dL_law_1476 : decode cL_law 1476 = .ok (.iload 4, 2) := dk_21 4 (dk_at dksL_law_55 2 rfl rfl)
theorem dL_law_1478 : decode cL_law 1478 = .ok (.iconst 2, 1) := dk_5 (dk_at dksL_law_55 4 rfl rfl)
theorem dL_law_1479 : decode cL_law 1479 = .ok (.iadd, 1) := dk_96 (dk_at dksL_law_55 5 rfl rfl)
theorem dL_law_1480 : decode cL_law 1480 = .ok (.iaload, 1) := dk_46 (dk_at dksL_law_55 6 rfl rfl)
theorem dL_law_1481 : decode cL_law 1481 = .ok (.aload_n 3, 1) := dk_45 (dk_at dksL_law_55 7 rfl rfl)
theorem dL_law_1482 : decode cL_law 1482 = .ok (.invokestatic 235, 3) := dk_184 0 235 (dk_at dksL_law_55 8 rfl rfl)
theorem dL_law_1485 : decode cL_law 1485 = .ok (.istore 5, 2) := dk_54 5 (dk_at dksL_law_55 11 rfl rfl)
theorem dL_law_1487 : decode cL_law 1487 = .ok (.aload_n 2, 1) := dk_44 (dk_at dksL_law_55 13 rfl rfl)
theorem dL_law_1488 : decode cL_law 1488 = .ok (.aload_n 0, 1) := dk_42 (dk_at dksL_law_55 14 rfl rfl)
theorem dL_law_1489 : decode cL_law 1489 = .ok (.iload 4, 2) := dk_21 4 (dk_at dksL_law_55 15 rfl rfl)
theorem dL_law_1491 : decode cL_law 1491 = .ok (.iconst 1, 1) := dk_4 (dk_at dksL_law_55 17 rfl rfl)
theorem dL_law_1492 : decode cL_law 1492 = .ok (.iadd, 1) := dk_96 (dk_at dksL_law_55 18 rfl rfl)
theorem dL_law_1493 : decode cL_law 1493 = .ok (.iaload, 1) := dk_46 (dk_at dksL_law_55 19 rfl rfl)
theorem dL_law_1494 : decode cL_law 1494 = .ok (.aload_n 0, 1) := dk_42 (dk_at dksL_law_55 20 rfl rfl)
theorem dL_law_1495 : decode cL_law 1495 = .ok (.iload 4, 2) := dk_21 4 (dk_at dksL_law_55 21 rfl rfl)
theorem dL_law_1497 : decode cL_law 1497 = .ok (.iconst 2, 1) := dk_5 (dk_at dksL_law_55 23 rfl rfl)
theorem dL_law_1498 : decode cL_law 1498 = .ok (.iadd, 1) := dk_96 (dk_at dksL_law_56 0 rfl rfl)
theorem dL_law_1499 : decode cL_law 1499 = .ok (.iaload, 1) := dk_46 (dk_at dksL_law_56 1 rfl rfl)
theorem dL_law_1500 : decode cL_law 1500 = .ok (.invokevirtual 237, 3) := dk_182 0 237 (dk_at dksL_law_56 2 rfl rfl)
theorem dL_law_1503 : decode cL_law 1503 = .ok (.istore 6, 2) := dk_54 6 (dk_at dksL_law_56 5 rfl rfl)
theorem dL_law_1505 : decode cL_law 1505 = .ok (.aload_n 2, 1) := dk_44 (dk_at dksL_law_56 7 rfl rfl)
theorem dL_law_1506 : decode cL_law 1506 = .ok (.invokevirtual 145, 3) := dk_182 0 145 (dk_at dksL_law_56 8 rfl rfl)
theorem dL_law_1509 : decode cL_law 1509 = .ok (.iload 5, 2) := dk_21 5 (dk_at dksL_law_56 11 rfl rfl)
theorem dL_law_1511 : decode cL_law 1511 = .ok (.if_icmp .eq 5, 3) := dk_159 0 5 (dk_at dksL_law_56 13 rfl rfl)
theorem dL_law_1514 : decode cL_law 1514 = .ok (.iconst 0, 1) := dk_3 (dk_at dksL_law_56 16 rfl rfl)
theorem dL_law_1515 : decode cL_law 1515 = .ok (.ireturn, 1) := dk_172 (dk_at dksL_law_56 17 rfl rfl)
theorem dL_law_1516 : decode cL_law 1516 = .ok (.iload 5, 2) := dk_21 5 (dk_at dksL_law_56 18 rfl rfl)
theorem dL_law_1518 : decode cL_law 1518 = .ok (.ifCond .ne 15, 3) := dk_154 0 15 (dk_at dksL_law_56 20 rfl rfl)
theorem dL_law_1521 : decode cL_law 1521 = .ok (.aload_n 3, 1) := dk_45 (dk_at dksL_law_56 23 rfl rfl)
theorem dL_law_1522 : decode cL_law 1522 = .ok (.iconst 0, 1) := dk_3 (dk_at dksL_law_57 0 rfl rfl)
theorem dL_law_1523 : decode cL_law 1523 = .ok (.laload, 1) := dk_47 (dk_at dksL_law_57 1 rfl rfl)
theorem dL_law_1524 : decode cL_law 1524 = .ok (.iload 6, 2) := dk_21 6 (dk_at dksL_law_57 2 rfl rfl)
theorem dL_law_1526 : decode cL_law 1526 = .ok (.i2l, 1) := dk_133 (dk_at dksL_law_57 4 rfl rfl)
theorem dL_law_1527 : decode cL_law 1527 = .ok (.lcmp, 1) := dk_148 (dk_at dksL_law_57 5 rfl rfl)
theorem dL_law_1528 : decode cL_law 1528 = .ok (.ifCond .eq 5, 3) := dk_153 0 5 (dk_at dksL_law_57 6 rfl rfl)
theorem dL_law_1531 : decode cL_law 1531 = .ok (.iconst 0, 1) := dk_3 (dk_at dksL_law_57 9 rfl rfl)
theorem dL_law_1532 : decode cL_law 1532 = .ok (.ireturn, 1) := dk_172 (dk_at dksL_law_57 10 rfl rfl)
theorem dL_law_1533 : decode cL_law 1533 = .ok (.goto 1218, 3) := dk_167 4 194 (dk_at dksL_law_57 11 rfl rfl)
theorem dL_law_1536 : decode cL_law 1536 = .ok (.aload_n 1, 1) := dk_43 (dk_at dksL_law_57 14 rfl rfl)
theorem dL_law_1537 : decode cL_law 1537 = .ok (.aload_n 0, 1) := dk_42 (dk_at dksL_law_57 15 rfl rfl)
theorem dL_law_1538 : decode cL_law 1538 = .ok (.iload 4, 2) := dk_21 4 (dk_at dksL_law_57 16 rfl rfl)
theorem dL_law_1540 : decode cL_law 1540 = .ok (.iconst 1, 1) := dk_4 (dk_at dksL_law_57 18 rfl rfl)
theorem dL_law_1541 : decode cL_law 1541 = .ok (.iadd, 1) := dk_96 (dk_at dksL_law_57 19 rfl rfl)
theorem dL_law_1542 : decode cL_law 1542 = .ok (.iaload, 1) := dk_46 (dk_at dksL_law_57 20 rfl rfl)
theorem dL_law_1543 : decode cL_law 1543 = .ok (.invokevirtual 238, 3) := dk_182 0 238 (dk_at dksL_law_57 21 rfl rfl)
theorem dL_law_1546 : decode cL_law 1546 = .ok (.aload_n 2, 1) := dk_44 (dk_at dksL_law_58 0 rfl rfl)
theorem dL_law_1547 : decode cL_law 1547 = .ok (.aload_n 0, 1) := dk_42 (dk_at dksL_law_58 1 rfl rfl)
theorem dL_law_1548 : decode cL_law 1548 = .ok (.iload 4, 2) := dk_21 4 (dk_at dksL_law_58 2 rfl rfl)
theorem dL_law_1550 : decode cL_law 1550 = .ok (.iconst 1, 1) := dk_4 (dk_at dksL_law_58 4 rfl rfl)
theorem dL_law_1551 : decode cL_law 1551 = .ok (.iadd, 1) := dk_96 (dk_at dksL_law_58 5 rfl rfl)
theorem dL_law_1552 : decode cL_law 1552 = .ok (.iaload, 1) := dk_46 (dk_at dksL_law_58 6 rfl rfl)
theorem dL_law_1553 : decode cL_law 1553 = .ok (.invokevirtual 241, 3) := dk_182 0 241 (dk_at dksL_law_58 7 rfl rfl)
theorem dL_law_1556 : decode cL_law 1556 = .ok (.if_icmp .eq 1195, 3) := dk_159 4 171 (dk_at dksL_law_58 10 rfl rfl)
theorem dL_law_1559 : decode cL_law 1559 = .ok (.iconst 0, 1) := dk_3 (dk_at dksL_law_58 13 rfl rfl)
theorem dL_law_1560 : decode cL_law 1560 = .ok (.ireturn, 1) := dk_172 (dk_at dksL_law_58 14 rfl rfl)
theorem dL_law_1561 : decode cL_law 1561 = .ok (.aload_n 1, 1) := dk_43 (dk_at dksL_law_58 15 rfl rfl)
theorem dL_law_1562 : decode cL_law 1562 = .ok (.aload_n 0, 1) := dk_42 (dk_at dksL_law_58 16 rfl rfl)
theorem dL_law_1563 : decode cL_law 1563 = .ok (.iload 4, 2) := dk_21 4 (dk_at dksL_law_58 17 rfl rfl)
theorem dL_law_1565 : decode cL_law 1565 = .ok (.iconst 1, 1) := dk_4 (dk_at dksL_law_58 19 rfl rfl)
theorem dL_law_1566 : decode cL_law 1566 = .ok (.iadd, 1) := dk_96 (dk_at dksL_law_58 20 rfl rfl)
theorem dL_law_1567 : decode cL_law 1567 = .ok (.iaload, 1) := dk_46 (dk_at dksL_law_58 21 rfl rfl)
theorem dL_law_1568 : decode cL_law 1568 = .ok (.invokevirtual 242, 3) := dk_182 0 242 (dk_at dksL_law_59 0 rfl rfl)
theorem dL_law_1571 : decode cL_law 1571 = .ok (.aload_n 2, 1) := dk_44 (dk_at dksL_law_59 3 rfl rfl)
theorem dL_law_1572 : decode cL_law 1572 = .ok (.aload_n 0, 1) := dk_42 (dk_at dksL_law_59 4 rfl rfl)
theorem dL_law_1573 : decode cL_law 1573 = .ok (.iload 4, 2) := dk_21 4 (dk_at dksL_law_59 5 rfl rfl)
theorem dL_law_1575 : decode cL_law 1575 = .ok (.iconst 1, 1) := dk_4 (dk_at dksL_law_59 7 rfl rfl)
theorem dL_law_1576 : decode cL_law 1576 = .ok (.iadd, 1) := dk_96 (dk_at dksL_law_59 8 rfl rfl)
theorem dL_law_1577 : decode cL_law 1577 = .ok (.iaload, 1) := dk_46 (dk_at dksL_law_59 9 rfl rfl)
theorem dL_law_1578 : decode cL_law 1578 = .ok (.invokevirtual 245, 3) := dk_182 0 245 (dk_at dksL_law_59 10 rfl rfl)
theorem dL_law_1581 : decode cL_law 1581 = .ok (.if_icmp .eq 1170, 3) := dk_159 4 146 (dk_at dksL_law_59 13 rfl rfl)
theorem dL_law_1584 : decode cL_law 1584 = .ok (.iconst 0, 1) := dk_3 (dk_at dksL_law_59 16 rfl rfl)
theorem dL_law_1585 : decode cL_law 1585 = .ok (.ireturn, 1) := dk_172 (dk_at dksL_law_59 17 rfl rfl)
theorem dL_law_1586 : decode cL_law 1586 = .ok (.aload_n 1, 1) := dk_43 (dk_at dksL_law_59 18 rfl rfl)
theorem dL_law_1587 : decode cL_law 1587 = .ok (.aload_n 0, 1) := dk_42 (dk_at dksL_law_59 19 rfl rfl)
theorem dL_law_1588 : decode cL_law 1588 = .ok (.iload 4, 2) := dk_21 4 (dk_at dksL_law_59 20 rfl rfl)
theorem dL_law_1590 : decode cL_law 1590 = .ok (.iconst 1, 1) := dk_4 (dk_at dksL_law_59 22 rfl rfl)
theorem dL_law_1591 : decode cL_law 1591 = .ok (.iadd, 1) := dk_96 (dk_at dksL_law_59 23 rfl rfl)
theorem dL_law_1592 : decode cL_law 1592 = .ok (.iaload, 1) := dk_46 (dk_at dksL_law_60 0 rfl rfl)
theorem dL_law_1593 : decode cL_law 1593 = .ok (.aload_n 3, 1) := dk_45 (dk_at dksL_law_60 1 rfl rfl)
theorem dL_law_1594 : decode cL_law 1594 = .ok (.invokestatic 246, 3) := dk_184 0 246 (dk_at dksL_law_60 2 rfl rfl)
theorem dL_law_1597 : decode cL_law 1597 = .ok (.istore 5, 2) := dk_54 5 (dk_at dksL_law_60 5 rfl rfl)
theorem dL_law_1599 : decode cL_law 1599 = .ok (.aload_n 2, 1) := dk_44 (dk_at dksL_law_60 7 rfl rfl)
theorem dL_law_1600 : decode cL_law 1600 = .ok (.aload_n 0, 1) := dk_42 (dk_at dksL_law_60 8 rfl rfl)
theorem dL_law_1601 : decode cL_law 1601 = .ok (.iload 4, 2) := dk_21 4 (dk_at dksL_law_60 9 rfl rfl)
theorem dL_law_1603 : decode cL_law 1603 = .ok (.iconst 1, 1) := dk_4 (dk_at dksL_law_60 11 rfl rfl)
theorem dL_law_1604 : decode cL_law 1604 = .ok (.iadd, 1) := dk_96 (dk_at dksL_law_60 12 rfl rfl)
theorem dL_law_1605 : decode cL_law 1605 = .ok (.iaload, 1) := dk_46 (dk_at dksL_law_60 13 rfl rfl)
theorem dL_law_1606 : decode cL_law 1606 = .ok (.invokevirtual 248, 3) := dk_182 0 248 (dk_at dksL_law_60 14 rfl rfl)
theorem dL_law_1609 : decode cL_law 1609 = .ok (.istore 6, 2) := dk_54 6 (dk_at dksL_law_60 17 rfl rfl)
theorem dL_law_1611 : decode cL_law 1611 = .ok (.aload_n 2, 1) := dk_44 (dk_at dksL_law_60 19 rfl rfl)
theorem dL_law_1612 : decode cL_law 1612 = .ok (.invokevirtual 145, 3) := dk_182 0 145 (dk_at dksL_law_60 20 rfl rfl)
theorem dL_law_1615 : decode cL_law 1615 = .ok (.iload 5, 2) := dk_21 5 (dk_at dksL_law_61 0 rfl rfl)
theorem dL_law_1617 : decode cL_law 1617 = .ok (.if_icmp .eq 5, 3) := dk_159 0 5 (dk_at dksL_law_61 2 rfl rfl)
theorem dL_law_1620 : decode cL_law 1620 = .ok (.iconst 0, 1) := dk_3 (dk_at dksL_law_61 5 rfl rfl)
theorem dL_law_1621 : decode cL_law 1621 = .ok (.ireturn, 1) := dk_172 (dk_at dksL_law_61 6 rfl rfl)
theorem dL_law_1622 : decode cL_law 1622 = .ok (.iload 5, 2) := dk_21 5 (dk_at dksL_law_61 7 rfl rfl)
theorem dL_law_1624 : decode cL_law 1624 = .ok (.ifCond .ne 15, 3) := dk_154 0 15 (dk_at dksL_law_61 9 rfl rfl)
theorem dL_law_1627 : decode cL_law 1627 = .ok (.aload_n 3, 1) := dk_45 (dk_at dksL_law_61 12 rfl rfl)
theorem dL_law_1628 : decode cL_law 1628 = .ok (.iconst 0, 1) := dk_3 (dk_at dksL_law_61 13 rfl rfl)
theorem dL_law_1629 : decode cL_law 1629 = .ok (.laload, 1) := dk_47 (dk_at dksL_law_61 14 rfl rfl)
theorem dL_law_1630 : decode cL_law 1630 = .ok (.iload 6, 2) := dk_21 6 (dk_at dksL_law_61 15 rfl rfl)
theorem dL_law_1632 : decode cL_law 1632 = .ok (.i2l, 1) := dk_133 (dk_at dksL_law_61 17 rfl rfl)
theorem dL_law_1633 : decode cL_law 1633 = .ok (.lcmp, 1) := dk_148 (dk_at dksL_law_61 18 rfl rfl)
theorem dL_law_1634 : decode cL_law 1634 = .ok (.ifCond .eq 5, 3) := dk_153 0 5 (dk_at dksL_law_61 19 rfl rfl)
theorem dL_law_1637 : decode cL_law 1637 = .ok (.iconst 0, 1) := dk_3 (dk_at dksL_law_61 22 rfl rfl)
theorem dL_law_1638 : decode cL_law 1638 = .ok (.ireturn, 1) := dk_172 (dk_at dksL_law_61 23 rfl rfl)
theorem dL_law_1639 : decode cL_law 1639 = .ok (.goto 1112, 3) := dk_167 4 88 (dk_at dksL_law_62 0 rfl rfl)
theorem dL_law_1642 : decode cL_law 1642 = .ok (.aload_n 1, 1) := dk_43 (dk_at dksL_law_62 3 rfl rfl)
theorem dL_law_1643 : decode cL_law 1643 = .ok (.aload_n 0, 1) := dk_42 (dk_at dksL_law_62 4 rfl rfl)
theorem dL_law_1644 : decode cL_law 1644 = .ok (.iload 4, 2) := dk_21 4 (dk_at dksL_law_62 5 rfl rfl)
theorem dL_law_1646 : decode cL_law 1646 = .ok (.iconst 1, 1) := dk_4 (dk_at dksL_law_62 7 rfl rfl)
theorem dL_law_1647 : decode cL_law 1647 = .ok (.iadd, 1) := dk_96 (dk_at dksL_law_62 8 rfl rfl)
theorem dL_law_1648 : decode cL_law 1648 = .ok (.iaload, 1) := dk_46 (dk_at dksL_law_62 9 rfl rfl)
theorem dL_law_1649 : decode cL_law 1649 = .ok (.aload_n 3, 1) := dk_45 (dk_at dksL_law_62 10 rfl rfl)
theorem dL_law_1650 : decode cL_law 1650 = .ok (.invokestatic 249, 3) := dk_184 0 249 (dk_at dksL_law_62 11 rfl rfl)
theorem dL_law_1653 : decode cL_law 1653 = .ok (.istore 5, 2) := dk_54 5 (dk_at dksL_law_62 14 rfl rfl)
theorem dL_law_1655 : decode cL_law 1655 = .ok (.aload_n 2, 1) := dk_44 (dk_at dksL_law_62 16 rfl rfl)
theorem dL_law_1656 : decode cL_law 1656 = .ok (.aload_n 0, 1) := dk_42 (dk_at dksL_law_62 17 rfl rfl)
theorem dL_law_1657 : decode cL_law 1657 = .ok (.iload 4, 2) := dk_21 4 (dk_at dksL_law_62 18 rfl rfl)
theorem dL_law_1659 : decode cL_law 1659 = .ok (.iconst 1, 1) := dk_4 (dk_at dksL_law_62 20 rfl rfl)
theorem dL_law_1660 : decode cL_law 1660 = .ok (.iadd, 1) := dk_96 (dk_at dksL_law_62 21 rfl rfl)
theorem dL_law_1661 : decode cL_law 1661 = .ok (.iaload, 1) := dk_46 (dk_at dksL_law_62 22 rfl rfl)
theorem dL_law_1662 : decode cL_law 1662 = .ok (.invokevirtual 251, 3) := dk_182 0 251 (dk_at dksL_law_63 0 rfl rfl)
theorem dL_law_1665 : decode cL_law 1665 = .ok (.istore 6, 2) := dk_54 6 (dk_at dksL_law_63 3 rfl rfl)
theorem dL_law_1667 : decode cL_law 1667 = .ok (.aload_n 2, 1) := dk_44 (dk_at dksL_law_63 5 rfl rfl)
theorem dL_law_1668 : decode cL_law 1668 = .ok (.invokevirtual 145, 3) := dk_182 0 145 (dk_at dksL_law_63 6 rfl rfl)
theorem dL_law_1671 : decode cL_law 1671 = .ok (.iload 5, 2) := dk_21 5 (dk_at dksL_law_63 9 rfl rfl)
theorem dL_law_1673 : decode cL_law 1673 = .ok (.if_icmp .eq 5, 3) := dk_159 0 5 (dk_at dksL_law_63 11 rfl rfl)
theorem dL_law_1676 : decode cL_law 1676 = .ok (.iconst 0, 1) := dk_3 (dk_at dksL_law_63 14 rfl rfl)
theorem dL_law_1677 : decode cL_law 1677 = .ok (.ireturn, 1) := dk_172 (dk_at dksL_law_63 15 rfl rfl)
theorem dL_law_1678 : decode cL_law 1678 = .ok (.iload 5, 2) := dk_21 5 (dk_at dksL_law_63 16 rfl rfl)
theorem dL_law_1680 : decode cL_law 1680 = .ok (.ifCond .ne 15, 3) := dk_154 0 15 (dk_at dksL_law_63 18 rfl rfl)
theorem dL_law_1683 : decode cL_law 1683 = .ok (.aload_n 3, 1) := dk_45 (dk_at dksL_law_63 21 rfl rfl)
theorem dL_law_1684 : decode cL_law 1684 = .ok (.iconst 0, 1) := dk_3 (dk_at dksL_law_63 22 rfl rfl)
theorem dL_law_1685 : decode cL_law 1685 = .ok (.laload, 1) := dk_47 (dk_at dksL_law_63 23 rfl rfl)
theorem dL_law_1686 : decode cL_law 1686 = .ok (.iload 6, 2) := dk_21 6 (dk_at dksL_law_64 0 rfl rfl)
theorem dL_law_1688 : decode cL_law 1688 = .ok (.i2l, 1) := dk_133 (dk_at dksL_law_64 2 rfl rfl)
theorem dL_law_1689 : decode cL_law 1689 = .ok (.lcmp, 1) := dk_148 (dk_at dksL_law_64 3 rfl rfl)
theorem dL_law_1690 : decode cL_law 1690 = .ok (.ifCond .eq 5, 3) := dk_153 0 5 (dk_at dksL_law_64 4 rfl rfl)
theorem dL_law_1693 : decode cL_law 1693 = .ok (.iconst 0, 1) := dk_3 (dk_at dksL_law_64 7 rfl rfl)
theorem dL_law_1694 : decode cL_law 1694 = .ok (.ireturn, 1) := dk_172 (dk_at dksL_law_64 8 rfl rfl)
theorem dL_law_1695 : decode cL_law 1695 = .ok (.goto 1056, 3) := dk_167 4 32 (dk_at dksL_law_64 9 rfl rfl)
theorem dL_law_1698 : decode cL_law 1698 = .ok (.aload_n 1, 1) := dk_43 (dk_at dksL_law_64 12 rfl rfl)
theorem dL_law_1699 : decode cL_law 1699 = .ok (.aload_n 0, 1) := dk_42 (dk_at dksL_law_64 13 rfl rfl)
theorem dL_law_1700 : decode cL_law 1700 = .ok (.iload 4, 2) := dk_21 4 (dk_at dksL_law_64 14 rfl rfl)
theorem dL_law_1702 : decode cL_law 1702 = .ok (.iconst 1, 1) := dk_4 (dk_at dksL_law_64 16 rfl rfl)
theorem dL_law_1703 : decode cL_law 1703 = .ok (.iadd, 1) := dk_96 (dk_at dksL_law_64 17 rfl rfl)
theorem dL_law_1704 : decode cL_law 1704 = .ok (.iaload, 1) := dk_46 (dk_at dksL_law_64 18 rfl rfl)
theorem dL_law_1705 : decode cL_law 1705 = .ok (.aload_n 3, 1) := dk_45 (dk_at dksL_law_64 19 rfl rfl)
theorem dL_law_1706 : decode cL_law 1706 = .ok (.invokestatic 252, 3) := dk_184 0 252 (dk_at dksL_law_64 20 rfl rfl)
theorem dL_law_1709 : decode cL_law 1709 = .ok (.istore 5, 2) := dk_54 5 (dk_at dksL_law_65 0 rfl rfl)
theorem dL_law_1711 : decode cL_law 1711 = .ok (.aload_n 2, 1) := dk_44 (dk_at dksL_law_65 2 rfl rfl)
theorem dL_law_1712 : decode cL_law 1712 = .ok (.aload_n 0, 1) := dk_42 (dk_at dksL_law_65 3 rfl rfl)
theorem dL_law_1713 : decode cL_law 1713 = .ok (.iload 4, 2) := dk_21 4 (dk_at dksL_law_65 4 rfl rfl)
theorem dL_law_1715 : decode cL_law 1715 = .ok (.iconst 1, 1) := dk_4 (dk_at dksL_law_65 6 rfl rfl)
theorem dL_law_1716 : decode cL_law 1716 = .ok (.iadd, 1) := dk_96 (dk_at dksL_law_65 7 rfl rfl)
theorem dL_law_1717 : decode cL_law 1717 = .ok (.iaload, 1) := dk_46 (dk_at dksL_law_65 8 rfl rfl)
theorem dL_law_1718 : decode cL_law 1718 = .ok (.invokevirtual 254, 3) := dk_182 0 254 (dk_at dksL_law_65 9 rfl rfl)
theorem dL_law_1721 : decode cL_law 1721 = .ok (.istore 6, 2) := dk_54 6 (dk_at dksL_law_65 12 rfl rfl)
theorem dL_law_1723 : decode cL_law 1723 = .ok (.aload_n 2, 1) := dk_44 (dk_at dksL_law_65 14 rfl rfl)
theorem dL_law_1724 : decode cL_law 1724 = .ok (.invokevirtual 145, 3) := dk_182 0 145 (dk_at dksL_law_65 15 rfl rfl)
theorem dL_law_1727 : decode cL_law 1727 = .ok (.iload 5, 2) := dk_21 5 (dk_at dksL_law_65 18 rfl rfl)
theorem dL_law_1729 : decode cL_law 1729 = .ok (.if_icmp .eq 5, 3) := dk_159 0 5 (dk_at dksL_law_65 20 rfl rfl)
theorem dL_law_1732 : decode cL_law 1732 = .ok (.iconst 0, 1) := dk_3 (dk_at dksL_law_65 23 rfl rfl)
theorem dL_law_1733 : decode cL_law 1733 = .ok (.ireturn, 1) := dk_172 (dk_at dksL_law_66 0 rfl rfl)
theorem dL_law_1734 : decode cL_law 1734 = .ok (.iload 5, 2) := dk_21 5 (dk_at dksL_law_66 1 rfl rfl)
theorem dL_law_1736 : decode cL_law 1736 = .ok (.ifCond .ne 15, 3) := dk_154 0 15 (dk_at dksL_law_66 3 rfl rfl)
theorem dL_law_1739 : decode cL_law 1739 = .ok (.aload_n 3, 1) := dk_45 (dk_at dksL_law_66 6 rfl rfl)
theorem dL_law_1740 : decode cL_law 1740 = .ok (.iconst 0, 1) := dk_3 (dk_at dksL_law_66 7 rfl rfl)
theorem dL_law_1741 : decode cL_law 1741 = .ok (.laload, 1) := dk_47 (dk_at dksL_law_66 8 rfl rfl)
theorem dL_law_1742 : decode cL_law 1742 = .ok (.iload 6, 2) := dk_21 6 (dk_at dksL_law_66 9 rfl rfl)
theorem dL_law_1744 : decode cL_law 1744 = .ok (.i2l, 1) := dk_133 (dk_at dksL_law_66 11 rfl rfl)
theorem dL_law_1745 : decode cL_law 1745 = .ok (.lcmp, 1) := dk_148 (dk_at dksL_law_66 12 rfl rfl)
theorem dL_law_1746 : decode cL_law 1746 = .ok (.ifCond .eq 5, 3) := dk_153 0 5 (dk_at dksL_law_66 13 rfl rfl)
theorem dL_law_1749 : decode cL_law 1749 = .ok (.iconst 0, 1) := dk_3 (dk_at dksL_law_66 16 rfl rfl)
theorem dL_law_1750 : decode cL_law 1750 = .ok (.ireturn, 1) := dk_172 (dk_at dksL_law_66 17 rfl rfl)
theorem dL_law_1751 : decode cL_law 1751 = .ok (.goto 1000, 3) := dk_167 3 232 (dk_at dksL_law_66 18 rfl rfl)
theorem dL_law_1754 : decode cL_law 1754 = .ok (.aload_n 1, 1) := dk_43 (dk_at dksL_law_66 21 rfl rfl)
theorem dL_law_1755 : decode cL_law 1755 = .ok (.aload_n 0, 1) := dk_42 (dk_at dksL_law_66 22 rfl rfl)
theorem dL_law_1756 : decode cL_law 1756 = .ok (.iload 4, 2) := dk_21 4 (dk_at dksL_law_67 0 rfl rfl)
theorem dL_law_1758 : decode cL_law 1758 = .ok (.iconst 1, 1) := dk_4 (dk_at dksL_law_67 2 rfl rfl)
theorem dL_law_1759 : decode cL_law 1759 = .ok (.iadd, 1) := dk_96 (dk_at dksL_law_67 3 rfl rfl)
theorem dL_law_1760 : decode cL_law 1760 = .ok (.iaload, 1) := dk_46 (dk_at dksL_law_67 4 rfl rfl)
theorem dL_law_1761 : decode cL_law 1761 = .ok (.aload_n 0, 1) := dk_42 (dk_at dksL_law_67 5 rfl rfl)
theorem dL_law_1762 : decode cL_law 1762 = .ok (.iload 4, 2) := dk_21 4 (dk_at dksL_law_67 6 rfl rfl)
theorem dL_law_1764 : decode cL_law 1764 = .ok (.iconst 2, 1) := dk_5 (dk_at dksL_law_67 8 rfl rfl)
theorem dL_law_1765 : decode cL_law 1765 = .ok (.iadd, 1) := dk_96 (dk_at dksL_law_67 9 rfl rfl)
theorem dL_law_1766 : decode cL_law 1766 = .ok (.iaload, 1) := dk_46 (dk_at dksL_law_67 10 rfl rfl)
theorem dL_law_1767 : decode cL_law 1767 = .ok (.aload_n 3, 1) := dk_45 (dk_at dksL_law_67 11 rfl rfl)
theorem dL_law_1768 : decode cL_law 1768 = .ok (.invokestatic 255, 3) := dk_184 0 255 (dk_at dksL_law_67 12 rfl rfl)
theorem dL_law_1771 : decode cL_law 1771 = .ok (.istore 5, 2) := dk_54 5 (dk_at dksL_law_67 15 rfl rfl)
theorem dL_law_1773 : decode cL_law 1773 = .ok (.aload_n 2, 1) := dk_44 (dk_at dksL_law_67 17 rfl rfl)
theorem dL_law_1774 : decode cL_law 1774 = .ok (.aload_n 0, 1) := dk_42 (dk_at dksL_law_67 18 rfl rfl)
theorem dL_law_1775 : decode cL_law 1775 = .ok (.iload 4, 2) := dk_21 4 (dk_at dksL_law_67 19 rfl rfl)
theorem dL_law_1777 : decode cL_law 1777 = .ok (.iconst 1, 1) := dk_4 (dk_at dksL_law_67 21 rfl rfl)
theorem dL_law_1778 : decode cL_law 1778 = .ok (.iadd, 1) := dk_96 (dk_at dksL_law_67 22 rfl rfl)
theorem dL_law_1779 : decode cL_law 1779 = .ok (.iaload, 1) := dk_46 (dk_at dksL_law_67 23 rfl rfl)
theorem dL_law_1780 : decode cL_law 1780 = .ok (.aload_n 0, 1) := dk_42 (dk_at dksL_law_68 0 rfl rfl)
theorem dL_law_1781 : decode cL_law 1781 = .ok (.iload 4, 2) := dk_21 4 (dk_at dksL_law_68 1 rfl rfl)
theorem dL_law_1783 : decode cL_law 1783 = .ok (.iconst 2, 1) := dk_5 (dk_at dksL_law_68 3 rfl rfl)
theorem dL_law_1784 : decode cL_law 1784 = .ok (.iadd, 1) := dk_96 (dk_at dksL_law_68 4 rfl rfl)
theorem dL_law_1785 : decode cL_law 1785 = .ok (.iaload, 1) := dk_46 (dk_at dksL_law_68 5 rfl rfl)
theorem dL_law_1786 : decode cL_law 1786 = .ok (.invokevirtual 257, 3) := dk_182 1 1 (dk_at dksL_law_68 6 rfl rfl)
theorem dL_law_1789 : decode cL_law 1789 = .ok (.istore 6, 2) := dk_54 6 (dk_at dksL_law_68 9 rfl rfl)
theorem dL_law_1791 : decode cL_law 1791 = .ok (.aload_n 2, 1) := dk_44 (dk_at dksL_law_68 11 rfl rfl)
theorem dL_law_1792 : decode cL_law 1792 = .ok (.invokevirtual 145, 3) := dk_182 0 145 (dk_at dksL_law_68 12 rfl rfl)
theorem dL_law_1795 : decode cL_law 1795 = .ok (.iload 5, 2) := dk_21 5 (dk_at dksL_law_68 15 rfl rfl)
theorem dL_law_1797 : decode cL_law 1797 = .ok (.if_icmp .eq 5, 3) := dk_159 0 5 (dk_at dksL_law_68 17 rfl rfl)
theorem dL_law_1800 : decode cL_law 1800 = .ok (.iconst 0, 1) := dk_3 (dk_at dksL_law_68 20 rfl rfl)
theorem dL_law_1801 : decode cL_law 1801 = .ok (.ireturn, 1) := dk_172 (dk_at dksL_law_68 21 rfl rfl)
theorem dL_law_1802 : decode cL_law 1802 = .ok (.iload 5, 2) := dk_21 5 (dk_at dksL_law_68 22 rfl rfl)
theorem dL_law_1804 : decode cL_law 1804 = .ok (.ifCond .ne 15, 3) := dk_154 0 15 (dk_at dksL_law_69 0 rfl rfl)
theorem dL_law_1807 : decode cL_law 1807 = .ok (.aload_n 3, 1) := dk_45 (dk_at dksL_law_69 3 rfl rfl)
theorem dL_law_1808 : decode cL_law 1808 = .ok (.iconst 0, 1) := dk_3 (dk_at dksL_law_69 4 rfl rfl)
theorem dL_law_1809 : decode cL_law 1809 = .ok (.laload, 1) := dk_47 (dk_at dksL_law_69 5 rfl rfl)
theorem dL_law_1810 : decode cL_law 1810 = .ok (.iload 6, 2) := dk_21 6 (dk_at dksL_law_69 6 rfl rfl)
theorem dL_law_1812 : decode cL_law 1812 = .ok (.i2l, 1) := dk_133 (dk_at dksL_law_69 8 rfl rfl)
theorem dL_law_1813 : decode cL_law 1813 = .ok (.lcmp, 1) := dk_148 (dk_at dksL_law_69 9 rfl rfl)
theorem dL_law_1814 : decode cL_law 1814 = .ok (.ifCond .eq 5, 3) := dk_153 0 5 (dk_at dksL_law_69 10 rfl rfl)
theorem dL_law_1817 : decode cL_law 1817 = .ok (.iconst 0, 1) := dk_3 (dk_at dksL_law_69 13 rfl rfl)
theorem dL_law_1818 : decode cL_law 1818 = .ok (.ireturn, 1) := dk_172 (dk_at dksL_law_69 14 rfl rfl)
theorem dL_law_1819 : decode cL_law 1819 = .ok (.goto 932, 3) := dk_167 3 164 (dk_at dksL_law_69 15 rfl rfl)
theorem dL_law_1822 : decode cL_law 1822 = .ok (.aload_n 1, 1) := dk_43 (dk_at dksL_law_69 18 rfl rfl)
theorem dL_law_1823 : decode cL_law 1823 = .ok (.aload_n 3, 1) := dk_45 (dk_at dksL_law_69 19 rfl rfl)
theorem dL_law_1824 : decode cL_law 1824 = .ok (.invokestatic 258, 3) := dk_184 1 2 (dk_at dksL_law_69 20 rfl rfl)
theorem dL_law_1827 : decode cL_law 1827 = .ok (.istore 5, 2) := dk_54 5 (dk_at dksL_law_70 0 rfl rfl)
theorem dL_law_1829 : decode cL_law 1829 = .ok (.aload_n 2, 1) := dk_44 (dk_at dksL_law_70 2 rfl rfl)
theorem dL_law_1830 : decode cL_law 1830 = .ok (.invokevirtual 261, 3) := dk_182 1 5 (dk_at dksL_law_70 3 rfl rfl)
theorem dL_law_1833 : decode cL_law 1833 = .ok (.istore 6, 2) := dk_54 6 (dk_at dksL_law_70 6 rfl rfl)
theorem dL_law_1835 : decode cL_law 1835 = .ok (.aload_n 2, 1) := dk_44 (dk_at dksL_law_70 8 rfl rfl)
theorem dL_law_1836 : decode cL_law 1836 = .ok (.invokevirtual 145, 3) := dk_182 0 145 (dk_at dksL_law_70 9 rfl rfl)
theorem dL_law_1839 : decode cL_law 1839 = .ok (.iload 5, 2) := dk_21 5 (dk_at dksL_law_70 12 rfl rfl)
theorem dL_law_1841 : decode cL_law 1841 = .ok (.if_icmp .eq 5, 3) := dk_159 0 5 (dk_at dksL_law_70 14 rfl rfl)
theorem dL_law_1844 : decode cL_law 1844 = .ok (.iconst 0, 1) := dk_3 (dk_at dksL_law_70 17 rfl rfl)
theorem dL_law_1845 : decode cL_law 1845 = .ok (.ireturn, 1) := dk_172 (dk_at dksL_law_70 18 rfl rfl)
theorem dL_law_1846 : decode cL_law 1846 = .ok (.iload 5, 2) := dk_21 5 (dk_at dksL_law_70 19 rfl rfl)
theorem dL_law_1848 : decode cL_law 1848 = .ok (.ifCond .ne 15, 3) := dk_154 0 15 (dk_at dksL_law_70 21 rfl rfl)
theorem dL_law_1851 : decode cL_law 1851 = .ok (.aload_n 3, 1) := dk_45 (dk_at dksL_law_71 0 rfl rfl)
theorem dL_law_1852 : decode cL_law 1852 = .ok (.iconst 0, 1) := dk_3 (dk_at dksL_law_71 1 rfl rfl)
theorem dL_law_1853 : decode cL_law 1853 = .ok (.laload, 1) := dk_47 (dk_at dksL_law_71 2 rfl rfl)
theorem dL_law_1854 : decode cL_law 1854 = .ok (.iload 6, 2) := dk_21 6 (dk_at dksL_law_71 3 rfl rfl)
theorem dL_law_1856 : decode cL_law 1856 = .ok (.i2l, 1) := dk_133 (dk_at dksL_law_71 5 rfl rfl)
theorem dL_law_1857 : decode cL_law 1857 = .ok (.lcmp, 1) := dk_148 (dk_at dksL_law_71 6 rfl rfl)
theorem dL_law_1858 : decode cL_law 1858 = .ok (.ifCond .eq 5, 3) := dk_153 0 5 (dk_at dksL_law_71 7 rfl rfl)
theorem dL_law_1861 : decode cL_law 1861 = .ok (.iconst 0, 1) := dk_3 (dk_at dksL_law_71 10 rfl rfl)
theorem dL_law_1862 : decode cL_law 1862 = .ok (.ireturn, 1) := dk_172 (dk_at dksL_law_71 11 rfl rfl)
theorem dL_law_1863 : decode cL_law 1863 = .ok (.goto 888, 3) := dk_167 3 120 (dk_at dksL_law_71 12 rfl rfl)
theorem dL_law_1866 : decode cL_law 1866 = .ok (.aload_n 1, 1) := dk_43 (dk_at dksL_law_71 15 rfl rfl)
theorem dL_law_1867 : decode cL_law 1867 = .ok (.invokevirtual 262, 3) := dk_182 1 6 (dk_at dksL_law_71 16 rfl rfl)
theorem dL_law_1870 : decode cL_law 1870 = .ok (.aload_n 2, 1) := dk_44 (dk_at dksL_law_71 19 rfl rfl)
theorem dL_law_1871 : decode cL_law 1871 = .ok (.invokevirtual 265, 3) := dk_182 1 9 (dk_at dksL_law_71 20 rfl rfl)
theorem dL_law_1874 : decode cL_law 1874 = .ok (.if_icmp .eq 877, 3) := dk_159 3 109 (dk_at dksL_law_72 0 rfl rfl)
theorem dL_law_1877 : decode cL_law 1877 = .ok (.iconst 0, 1) := dk_3 (dk_at dksL_law_72 3 rfl rfl)
theorem dL_law_1878 : decode cL_law 1878 = .ok (.ireturn, 1) := dk_172 (dk_at dksL_law_72 4 rfl rfl)
theorem dL_law_1879 : decode cL_law 1879 = .ok (.aload_n 1, 1) := dk_43 (dk_at dksL_law_72 5 rfl rfl)
theorem dL_law_1880 : decode cL_law 1880 = .ok (.invokevirtual 266, 3) := dk_182 1 10 (dk_at dksL_law_72 6 rfl rfl)
theorem dL_law_1883 : decode cL_law 1883 = .ok (.aload_n 2, 1) := dk_44 (dk_at dksL_law_72 9 rfl rfl)
theorem dL_law_1884 : decode cL_law 1884 = .ok (.invokevirtual 269, 3) := dk_182 1 13 (dk_at dksL_law_72 10 rfl rfl)
theorem dL_law_1887 : decode cL_law 1887 = .ok (.if_icmp .eq 864, 3) := dk_159 3 96 (dk_at dksL_law_72 13 rfl rfl)
theorem dL_law_1890 : decode cL_law 1890 = .ok (.iconst 0, 1) := dk_3 (dk_at dksL_law_72 16 rfl rfl)
theorem dL_law_1891 : decode cL_law 1891 = .ok (.ireturn, 1) := dk_172 (dk_at dksL_law_72 17 rfl rfl)
theorem dL_law_1892 : decode cL_law 1892 = .ok (.aload_n 1, 1) := dk_43 (dk_at dksL_law_72 18 rfl rfl)
theorem dL_law_1893 : decode cL_law 1893 = .ok (.aload_n 0, 1) := dk_42 (dk_at dksL_law_72 19 rfl rfl)
theorem dL_law_1894 : decode cL_law 1894 = .ok (.iload 4, 2) := dk_21 4 (dk_at dksL_law_72 20 rfl rfl)
theorem dL_law_1896 : decode cL_law 1896 = .ok (.iconst 1, 1) := dk_4 (dk_at dksL_law_72 22 rfl rfl)
theorem dL_law_1897 : decode cL_law 1897 = .ok (.iadd, 1) := dk_96 (dk_at dksL_law_72 23 rfl rfl)
theorem dL_law_1898 : decode cL_law 1898 = .ok (.iaload, 1) := dk_46 (dk_at dksL_law_73 0 rfl rfl)
theorem dL_law_1899 : decode cL_law 1899 = .ok (.aload_n 3, 1) := dk_45 (dk_at dksL_law_73 1 rfl rfl)
theorem dL_law_1900 : decode cL_law 1900 = .ok (.invokestatic 270, 3) := dk_184 1 14 (dk_at dksL_law_73 2 rfl rfl)
theorem dL_law_1903 : decode cL_law 1903 = .ok (.istore 5, 2) := dk_54 5 (dk_at dksL_law_73 5 rfl rfl)
theorem dL_law_1905 : decode cL_law 1905 = .ok (.aload_n 2, 1) := dk_44 (dk_at dksL_law_73 7 rfl rfl)
theorem dL_law_1906 : decode cL_law 1906 = .ok (.aload_n 0, 1) := dk_42 (dk_at dksL_law_73 8 rfl rfl)
theorem dL_law_1907 : decode cL_law 1907 = .ok (.iload 4, 2) := dk_21 4 (dk_at dksL_law_73 9 rfl rfl)
theorem dL_law_1909 : decode cL_law 1909 = .ok (.iconst 1, 1) := dk_4 (dk_at dksL_law_73 11 rfl rfl)
theorem dL_law_1910 : decode cL_law 1910 = .ok (.iadd, 1) := dk_96 (dk_at dksL_law_73 12 rfl rfl)
theorem dL_law_1911 : decode cL_law 1911 = .ok (.iaload, 1) := dk_46 (dk_at dksL_law_73 13 rfl rfl)
theorem dL_law_1912 : decode cL_law 1912 = .ok (.invokevirtual 272, 3) := dk_182 1 16 (dk_at dksL_law_73 14 rfl rfl)
theorem dL_law_1915 : decode cL_law 1915 = .ok (.istore 6, 2) := dk_54 6 (dk_at dksL_law_73 17 rfl rfl)
theorem dL_law_1917 : decode cL_law 1917 = .ok (.aload_n 2, 1) := dk_44 (dk_at dksL_law_73 19 rfl rfl)
theorem dL_law_1918 : decode cL_law 1918 = .ok (.invokevirtual 145, 3) := dk_182 0 145 (dk_at dksL_law_73 20 rfl rfl)
theorem dL_law_1921 : decode cL_law 1921 = .ok (.iload 5, 2) := dk_21 5 (dk_at dksL_law_74 0 rfl rfl)
theorem dL_law_1923 : decode cL_law 1923 = .ok (.if_icmp .eq 5, 3) := dk_159 0 5 (dk_at dksL_law_74 2 rfl rfl)
theorem dL_law_1926 : decode cL_law 1926 = .ok (.iconst 0, 1) := dk_3 (dk_at dksL_law_74 5 rfl rfl)
theorem dL_law_1927 : decode cL_law 1927 = .ok (.ireturn, 1) := dk_172 (dk_at dksL_law_74 6 rfl rfl)
theorem dL_law_1928 : decode cL_law 1928 = .ok (.iload 5, 2) := dk_21 5 (dk_at dksL_law_74 7 rfl rfl)
theorem dL_law_1930 : decode cL_law 1930 = .ok (.ifCond .ne 15, 3) := dk_154 0 15 (dk_at dksL_law_74 9 rfl rfl)
theorem dL_law_1933 : decode cL_law 1933 = .ok (.aload_n 3, 1) := dk_45 (dk_at dksL_law_74 12 rfl rfl)
theorem dL_law_1934 : decode cL_law 1934 = .ok (.iconst 0, 1) := dk_3 (dk_at dksL_law_74 13 rfl rfl)
theorem dL_law_1935 : decode cL_law 1935 = .ok (.laload, 1) := dk_47 (dk_at dksL_law_74 14 rfl rfl)
theorem dL_law_1936 : decode cL_law 1936 = .ok (.iload 6, 2) := dk_21 6 (dk_at dksL_law_74 15 rfl rfl)
theorem dL_law_1938 : decode cL_law 1938 = .ok (.i2l, 1) := dk_133 (dk_at dksL_law_74 17 rfl rfl)
theorem dL_law_1939 : decode cL_law 1939 = .ok (.lcmp, 1) := dk_148 (dk_at dksL_law_74 18 rfl rfl)
theorem dL_law_1940 : decode cL_law 1940 = .ok (.ifCond .eq 5, 3) := dk_153 0 5 (dk_at dksL_law_74 19 rfl rfl)
theorem dL_law_1943 : decode cL_law 1943 = .ok (.iconst 0, 1) := dk_3 (dk_at dksL_law_74 22 rfl rfl)
theorem dL_law_1944 : decode cL_law 1944 = .ok (.ireturn, 1) := dk_172 (dk_at dksL_law_74 23 rfl rfl)
theorem dL_law_1945 : decode cL_law 1945 = .ok (.goto 806, 3) := dk_167 3 38 (dk_at dksL_law_75 0 rfl rfl)
theorem dL_law_1948 : decode cL_law 1948 = .ok (.aload_n 1, 1) := dk_43 (dk_at dksL_law_75 3 rfl rfl)
theorem dL_law_1949 : decode cL_law 1949 = .ok (.aload_n 0, 1) := dk_42 (dk_at dksL_law_75 4 rfl rfl)
theorem dL_law_1950 : decode cL_law 1950 = .ok (.iload 4, 2) := dk_21 4 (dk_at dksL_law_75 5 rfl rfl)
theorem dL_law_1952 : decode cL_law 1952 = .ok (.iconst 1, 1) := dk_4 (dk_at dksL_law_75 7 rfl rfl)
theorem dL_law_1953 : decode cL_law 1953 = .ok (.iadd, 1) := dk_96 (dk_at dksL_law_75 8 rfl rfl)
theorem dL_law_1954 : decode cL_law 1954 = .ok (.iaload, 1) := dk_46 (dk_at dksL_law_75 9 rfl rfl)
theorem dL_law_1955 : decode cL_law 1955 = .ok (.aload_n 3, 1) := dk_45 (dk_at dksL_law_75 10 rfl rfl)
theorem dL_law_1956 : decode cL_law 1956 = .ok (.invokestatic 273, 3) := dk_184 1 17 (dk_at dksL_law_75 11 rfl rfl)
theorem dL_law_1959 : decode cL_law 1959 = .ok (.istore 5, 2) := dk_54 5 (dk_at dksL_law_75 14 rfl rfl)
theorem dL_law_1961 : decode cL_law 1961 = .ok (.aload_n 2, 1) := dk_44 (dk_at dksL_law_75 16 rfl rfl)
theorem dL_law_1962 : decode cL_law 1962 = .ok (.aload_n 0, 1) := dk_42 (dk_at dksL_law_75 17 rfl rfl)
theorem dL_law_1963 : decode cL_law 1963 = .ok (.iload 4, 2) := dk_21 4 (dk_at dksL_law_75 18 rfl rfl)
theorem dL_law_1965 : decode cL_law 1965 = .ok (.iconst 1, 1) := dk_4 (dk_at dksL_law_75 20 rfl rfl)
theorem dL_law_1966 : decode cL_law 1966 = .ok (.iadd, 1) := dk_96 (dk_at dksL_law_75 21 rfl rfl)
theorem dL_law_1967 : decode cL_law 1967 = .ok (.iaload, 1) := dk_46 (dk_at dksL_law_75 22 rfl rfl)
theorem dL_law_1968 : decode cL_law 1968 = .ok (.invokevirtual 275, 3) := dk_182 1 19 (dk_at dksL_law_76 0 rfl rfl)
theorem dL_law_1971 : decode cL_law 1971 = .ok (.istore 6, 2) := dk_54 6 (dk_at dksL_law_76 3 rfl rfl)
theorem dL_law_1973 : decode cL_law 1973 = .ok (.aload_n 2, 1) := dk_44 (dk_at dksL_law_76 5 rfl rfl)
theorem dL_law_1974 : decode cL_law 1974 = .ok (.invokevirtual 145, 3) := dk_182 0 145 (dk_at dksL_law_76 6 rfl rfl)
theorem dL_law_1977 : decode cL_law 1977 = .ok (.iload 5, 2) := dk_21 5 (dk_at dksL_law_76 9 rfl rfl)
theorem dL_law_1979 : decode cL_law 1979 = .ok (.if_icmp .eq 5, 3) := dk_159 0 5 (dk_at dksL_law_76 11 rfl rfl)
theorem dL_law_1982 : decode cL_law 1982 = .ok (.iconst 0, 1) := dk_3 (dk_at dksL_law_76 14 rfl rfl)
theorem dL_law_1983 : decode cL_law 1983 = .ok (.ireturn, 1) := dk_172 (dk_at dksL_law_76 15 rfl rfl)
theorem dL_law_1984 : decode cL_law 1984 = .ok (.iload 5, 2) := dk_21 5 (dk_at dksL_law_76 16 rfl rfl)
theorem dL_law_1986 : decode cL_law 1986 = .ok (.ifCond .ne 15, 3) := dk_154 0 15 (dk_at dksL_law_76 18 rfl rfl)
theorem dL_law_1989 : decode cL_law 1989 = .ok (.aload_n 3, 1) := dk_45 (dk_at dksL_law_76 21 rfl rfl)
theorem dL_law_1990 : decode cL_law 1990 = .ok (.iconst 0, 1) := dk_3 (dk_at dksL_law_76 22 rfl rfl)
theorem dL_law_1991 : decode cL_law 1991 = .ok (.laload, 1) := dk_47 (dk_at dksL_law_76 23 rfl rfl)
theorem dL_law_1992 : decode cL_law 1992 = .ok (.iload 6, 2) := dk_21 6 (dk_at dksL_law_77 0 rfl rfl)
theorem dL_law_1994 : decode cL_law 1994 = .ok (.i2l, 1) := dk_133 (dk_at dksL_law_77 2 rfl rfl)
theorem dL_law_1995 : decode cL_law 1995 = .ok (.lcmp, 1) := dk_148 (dk_at dksL_law_77 3 rfl rfl)
theorem dL_law_1996 : decode cL_law 1996 = .ok (.ifCond .eq 5, 3) := dk_153 0 5 (dk_at dksL_law_77 4 rfl rfl)
theorem dL_law_1999 : decode cL_law 1999 = .ok (.iconst 0, 1) := dk_3 (dk_at dksL_law_77 7 rfl rfl)
theorem dL_law_2000 : decode cL_law 2000 = .ok (.ireturn, 1) := dk_172 (dk_at dksL_law_77 8 rfl rfl)
theorem dL_law_2001 : decode cL_law 2001 = .ok (.goto 750, 3) := dk_167 2 238 (dk_at dksL_law_77 9 rfl rfl)
theorem dL_law_2004 : decode cL_law 2004 = .ok (.aload_n 1, 1) := dk_43 (dk_at dksL_law_77 12 rfl rfl)
theorem dL_law_2005 : decode cL_law 2005 = .ok (.aload_n 0, 1) := dk_42 (dk_at dksL_law_77 13 rfl rfl)
theorem dL_law_2006 : decode cL_law 2006 = .ok (.iload 4, 2) := dk_21 4 (dk_at dksL_law_77 14 rfl rfl)
theorem dL_law_2008 : decode cL_law 2008 = .ok (.iconst 1, 1) := dk_4 (dk_at dksL_law_77 16 rfl rfl)
theorem dL_law_2009 : decode cL_law 2009 = .ok (.iadd, 1) := dk_96 (dk_at dksL_law_77 17 rfl rfl)
theorem dL_law_2010 : decode cL_law 2010 = .ok (.iaload, 1) := dk_46 (dk_at dksL_law_77 18 rfl rfl)
theorem dL_law_2011 : decode cL_law 2011 = .ok (.aload_n 0, 1) := dk_42 (dk_at dksL_law_77 19 rfl rfl)
theorem dL_law_2012 : decode cL_law 2012 = .ok (.iload 4, 2) := dk_21 4 (dk_at dksL_law_77 20 rfl rfl)
theorem dL_law_2014 : decode cL_law 2014 = .ok (.iconst 2, 1) := dk_5 (dk_at dksL_law_77 22 rfl rfl)
theorem dL_law_2015 : decode cL_law 2015 = .ok (.iadd, 1) := dk_96 (dk_at dksL_law_77 23 rfl rfl)
theorem dL_law_2016 : decode cL_law 2016 = .ok (.iaload, 1) := dk_46 (dk_at dksL_law_78 0 rfl rfl)
theorem dL_law_2017 : decode cL_law 2017 = .ok (.aload_n 0, 1) := dk_42 (dk_at dksL_law_78 1 rfl rfl)
theorem dL_law_2018 : decode cL_law 2018 = .ok (.iload 4, 2) := dk_21 4 (dk_at dksL_law_78 2 rfl rfl)
theorem dL_law_2020 : decode cL_law 2020 = .ok (.iconst 3, 1) := dk_6 (dk_at dksL_law_78 4 rfl rfl)
theorem dL_law_2021 : decode cL_law 2021 = .ok (.iadd, 1) := dk_96 (dk_at dksL_law_78 5 rfl rfl)
theorem dL_law_2022 : decode cL_law 2022 = .ok (.iaload, 1) := dk_46 (dk_at dksL_law_78 6 rfl rfl)
theorem dL_law_2023 : decode cL_law 2023 = .ok (.aload_n 3, 1) := dk_45 (dk_at dksL_law_78 7 rfl rfl)
theorem dL_law_2024 : decode cL_law 2024 = .ok (.invokestatic 276, 3) := dk_184 1 20 (dk_at dksL_law_78 8 rfl rfl)
theorem dL_law_2027 : decode cL_law 2027 = .ok (.istore 5, 2) := dk_54 5 (dk_at dksL_law_78 11 rfl rfl)
theorem dL_law_2029 : decode cL_law 2029 = .ok (.aload_n 2, 1) := dk_44 (dk_at dksL_law_78 13 rfl rfl)
theorem dL_law_2030 : decode cL_law 2030 = .ok (.aload_n 0, 1) := dk_42 (dk_at dksL_law_78 14 rfl rfl)
theorem dL_law_2031 : decode cL_law 2031 = .ok (.iload 4, 2) := dk_21 4 (dk_at dksL_law_78 15 rfl rfl)
theorem dL_law_2033 : decode cL_law 2033 = .ok (.iconst 1, 1) := dk_4 (dk_at dksL_law_78 17 rfl rfl)
theorem dL_law_2034 : decode cL_law 2034 = .ok (.iadd, 1) := dk_96 (dk_at dksL_law_78 18 rfl rfl)
theorem dL_law_2035 : decode cL_law 2035 = .ok (.iaload, 1) := dk_46 (dk_at dksL_law_78 19 rfl rfl)
theorem dL_law_2036 : decode cL_law 2036 = .ok (.aload_n 0, 1) := dk_42 (dk_at dksL_law_78 20 rfl rfl)
theorem dL_law_2037 : decode cL_law 2037 = .ok (.iload 4, 2) := dk_21 4 (dk_at dksL_law_78 21 rfl rfl)
theorem dL_law_2039 : decode cL_law 2039 = .ok (.iconst 2, 1) := dk_5 (dk_at dksL_law_78 23 rfl rfl)
theorem dL_law_2040 : decode cL_law 2040 = .ok (.iadd, 1) := dk_96 (dk_at dksL_law_79 0 rfl rfl)
theorem dL_law_2041 : decode cL_law 2041 = .ok (.iaload, 1) := dk_46 (dk_at dksL_law_79 1 rfl rfl)
theorem dL_law_2042 : decode cL_law 2042 = .ok (.aload_n 0, 1) := dk_42 (dk_at dksL_law_79 2 rfl rfl)
theorem dL_law_2043 : decode cL_law 2043 = .ok (.iload 4, 2) := dk_21 4 (dk_at dksL_law_79 3 rfl rfl)
theorem dL_law_2045 : decode cL_law 2045 = .ok (.iconst 3, 1) := dk_6 (dk_at dksL_law_79 5 rfl rfl)
theorem dL_law_2046 : decode cL_law 2046 = .ok (.iadd, 1) := dk_96 (dk_at dksL_law_79 6 rfl rfl)
theorem dL_law_2047 : decode cL_law 2047 = .ok (.iaload, 1) := dk_46 (dk_at dksL_law_79 7 rfl rfl)
theorem dL_law_2048 : decode cL_law 2048 = .ok (.invokevirtual 278, 3) := dk_182 1 22 (dk_at dksL_law_79 8 rfl rfl)
theorem dL_law_2051 : decode cL_law 2051 = .ok (.istore 6, 2) := dk_54 6 (dk_at dksL_law_79 11 rfl rfl)
theorem dL_law_2053 : decode cL_law 2053 = .ok (.aload_n 2, 1) := dk_44 (dk_at dksL_law_79 13 rfl rfl)
theorem dL_law_2054 : decode cL_law 2054 = .ok (.invokevirtual 145, 3) := dk_182 0 145 (dk_at dksL_law_79 14 rfl rfl)
theorem dL_law_2057 : decode cL_law 2057 = .ok (.iload 5, 2) := dk_21 5 (dk_at dksL_law_79 17 rfl rfl)
theorem dL_law_2059 : decode cL_law 2059 = .ok (.if_icmp .eq 5, 3) := dk_159 0 5 (dk_at dksL_law_79 19 rfl rfl)
theorem dL_law_2062 : decode cL_law 2062 = .ok (.iconst 0, 1) := dk_3 (dk_at dksL_law_79 22 rfl rfl)
theorem dL_law_2063 : decode cL_law 2063 = .ok (.ireturn, 1) := dk_172 (dk_at dksL_law_79 23 rfl rfl)
theorem dL_law_2064 : decode cL_law 2064 = .ok (.iload 5, 2) := dk_21 5 (dk_at dksL_law_80 0 rfl rfl)
theorem dL_law_2066 : decode cL_law 2066 = .ok (.ifCond .ne 15, 3) := dk_154 0 15 (dk_at dksL_law_80 2 rfl rfl)
theorem dL_law_2069 : decode cL_law 2069 = .ok (.aload_n 3, 1) := dk_45 (dk_at dksL_law_80 5 rfl rfl)
theorem dL_law_2070 : decode cL_law 2070 = .ok (.iconst 0, 1) := dk_3 (dk_at dksL_law_80 6 rfl rfl)
theorem dL_law_2071 : decode cL_law 2071 = .ok (.laload, 1) := dk_47 (dk_at dksL_law_80 7 rfl rfl)
theorem dL_law_2072 : decode cL_law 2072 = .ok (.iload 6, 2) := dk_21 6 (dk_at dksL_law_80 8 rfl rfl)
theorem dL_law_2074 : decode cL_law 2074 = .ok (.i2l, 1) := dk_133 (dk_at dksL_law_80 10 rfl rfl)
theorem dL_law_2075 : decode cL_law 2075 = .ok (.lcmp, 1) := dk_148 (dk_at dksL_law_80 11 rfl rfl)
theorem dL_law_2076 : decode cL_law 2076 = .ok (.ifCond .eq 5, 3) := dk_153 0 5 (dk_at dksL_law_80 12 rfl rfl)
theorem dL_law_2079 : decode cL_law 2079 = .ok (.iconst 0, 1) := dk_3 (dk_at dksL_law_80 15 rfl rfl)
theorem dL_law_2080 : decode cL_law 2080 = .ok (.ireturn, 1) := dk_172 (dk_at dksL_law_80 16 rfl rfl)
theorem dL_law_2081 : decode cL_law 2081 = .ok (.goto 670, 3) := dk_167 2 158 (dk_at dksL_law_80 17 rfl rfl)
theorem dL_law_2084 : decode cL_law 2084 = .ok (.aload_n 1, 1) := dk_43 (dk_at dksL_law_80 20 rfl rfl)
theorem dL_law_2085 : decode cL_law 2085 = .ok (.aload_n 0, 1) := dk_42 (dk_at dksL_law_80 21 rfl rfl)
theorem dL_law_2086 : decode cL_law 2086 = .ok (.iload 4, 2) := dk_21 4 (dk_at dksL_law_80 22 rfl rfl)
theorem dL_law_2088 : decode cL_law 2088 = .ok (.iconst 1, 1) := dk_4 (dk_at dksL_law_81 0 rfl rfl)
theorem dL_law_2089 : decode cL_law 2089 = .ok (.iadd, 1) := dk_96 (dk_at dksL_law_81 1 rfl rfl)
theorem dL_law_2090 : decode cL_law 2090 = .ok (.iaload, 1) := dk_46 (dk_at dksL_law_81 2 rfl rfl)
theorem dL_law_2091 : decode cL_law 2091 = .ok (.aload_n 3, 1) := dk_45 (dk_at dksL_law_81 3 rfl rfl)
theorem dL_law_2092 : decode cL_law 2092 = .ok (.invokestatic 279, 3) := dk_184 1 23 (dk_at dksL_law_81 4 rfl rfl)
theorem dL_law_2095 : decode cL_law 2095 = .ok (.istore 5, 2) := dk_54 5 (dk_at dksL_law_81 7 rfl rfl)
theorem dL_law_2097 : decode cL_law 2097 = .ok (.aload_n 2, 1) := dk_44 (dk_at dksL_law_81 9 rfl rfl)
theorem dL_law_2098 : decode cL_law 2098 = .ok (.aload_n 0, 1) := dk_42 (dk_at dksL_law_81 10 rfl rfl)
theorem dL_law_2099 : decode cL_law 2099 = .ok (.iload 4, 2) := dk_21 4 (dk_at dksL_law_81 11 rfl rfl)
theorem dL_law_2101 : decode cL_law 2101 = .ok (.iconst 1, 1) := dk_4 (dk_at dksL_law_81 13 rfl rfl)
theorem dL_law_2102 : decode cL_law 2102 = .ok (.iadd, 1) := dk_96 (dk_at dksL_law_81 14 rfl rfl)
theorem dL_law_2103 : decode cL_law 2103 = .ok (.iaload, 1) := dk_46 (dk_at dksL_law_81 15 rfl rfl)
theorem dL_law_2104 : decode cL_law 2104 = .ok (.invokevirtual 281, 3) := dk_182 1 25 (dk_at dksL_law_81 16 rfl rfl)
theorem dL_law_2107 : decode cL_law 2107 = .ok (.istore 6, 2) := dk_54 6 (dk_at dksL_law_81 19 rfl rfl)
theorem dL_law_2109 : decode cL_law 2109 = .ok (.aload_n 2, 1) := dk_44 (dk_at dksL_law_81 21 rfl rfl)
theorem dL_law_2110 : decode cL_law 2110 = .ok (.invokevirtual 145, 3) := dk_182 0 145 (dk_at dksL_law_82 0 rfl rfl)
theorem dL_law_2113 : decode cL_law 2113 = .ok (.iload 5, 2) := dk_21 5 (dk_at dksL_law_82 3 rfl rfl)
theorem dL_law_2115 : decode cL_law 2115 = .ok (.if_icmp .eq 5, 3) := dk_159 0 5 (dk_at dksL_law_82 5 rfl rfl)
theorem dL_law_2118 : decode cL_law 2118 = .ok (.iconst 0, 1) := dk_3 (dk_at dksL_law_82 8 rfl rfl)
theorem dL_law_2119 : decode cL_law 2119 = .ok (.ireturn, 1) := dk_172 (dk_at dksL_law_82 9 rfl rfl)
theorem dL_law_2120 : decode cL_law 2120 = .ok (.iload 5, 2) := dk_21 5 (dk_at dksL_law_82 10 rfl rfl)
theorem dL_law_2122 : decode cL_law 2122 = .ok (.ifCond .ne 15, 3) := dk_154 0 15 (dk_at dksL_law_82 12 rfl rfl)
theorem dL_law_2125 : decode cL_law 2125 = .ok (.aload_n 3, 1) := dk_45 (dk_at dksL_law_82 15 rfl rfl)
theorem dL_law_2126 : decode cL_law 2126 = .ok (.iconst 0, 1) := dk_3 (dk_at dksL_law_82 16 rfl rfl)
theorem dL_law_2127 : decode cL_law 2127 = .ok (.laload, 1) := dk_47 (dk_at dksL_law_82 17 rfl rfl)
theorem dL_law_2128 : decode cL_law 2128 = .ok (.iload 6, 2) := dk_21 6 (dk_at dksL_law_82 18 rfl rfl)
theorem dL_law_2130 : decode cL_law 2130 = .ok (.i2l, 1) := dk_133 (dk_at dksL_law_82 20 rfl rfl)
theorem dL_law_2131 : decode cL_law 2131 = .ok (.lcmp, 1) := dk_148 (dk_at dksL_law_82 21 rfl rfl)
theorem dL_law_2132 : decode cL_law 2132 = .ok (.ifCond .eq 5, 3) := dk_153 0 5 (dk_at dksL_law_83 0 rfl rfl)
theorem dL_law_2135 : decode cL_law 2135 = .ok (.iconst 0, 1) := dk_3 (dk_at dksL_law_83 3 rfl rfl)
theorem dL_law_2136 : decode cL_law 2136 = .ok (.ireturn, 1) := dk_172 (dk_at dksL_law_83 4 rfl rfl)
theorem dL_law_2137 : decode cL_law 2137 = .ok (.goto 614, 3) := dk_167 2 102 (dk_at dksL_law_83 5 rfl rfl)
theorem dL_law_2140 : decode cL_law 2140 = .ok (.aload_n 1, 1) := dk_43 (dk_at dksL_law_83 8 rfl rfl)
theorem dL_law_2141 : decode cL_law 2141 = .ok (.aload_n 0, 1) := dk_42 (dk_at dksL_law_83 9 rfl rfl)
theorem dL_law_2142 : decode cL_law 2142 = .ok (.iload 4, 2) := dk_21 4 (dk_at dksL_law_83 10 rfl rfl)
theorem dL_law_2144 : decode cL_law 2144 = .ok (.iconst 1, 1) := dk_4 (dk_at dksL_law_83 12 rfl rfl)
theorem dL_law_2145 : decode cL_law 2145 = .ok (.iadd, 1) := dk_96 (dk_at dksL_law_83 13 rfl rfl)
theorem dL_law_2146 : decode cL_law 2146 = .ok (.iaload, 1) := dk_46 (dk_at dksL_law_83 14 rfl rfl)
theorem dL_law_2147 : decode cL_law 2147 = .ok (.aload_n 0, 1) := dk_42 (dk_at dksL_law_83 15 rfl rfl)
theorem dL_law_2148 : decode cL_law 2148 = .ok (.iload 4, 2) := dk_21 4 (dk_at dksL_law_83 16 rfl rfl)
theorem dL_law_2150 : decode cL_law 2150 = .ok (.iconst 2, 1) := dk_5 (dk_at dksL_law_83 18 rfl rfl)
theorem dL_law_2151 : decode cL_law 2151 = .ok (.iadd, 1) := dk_96 (dk_at dksL_law_83 19 rfl rfl)
theorem dL_law_2152 : decode cL_law 2152 = .ok (.iaload, 1) := dk_46 (dk_at dksL_law_83 20 rfl rfl)
theorem dL_law_2153 : decode cL_law 2153 = .ok (.aload_n 0, 1) := dk_42 (dk_at dksL_law_83 21 rfl rfl)
theorem dL_law_2154 : decode cL_law 2154 = .ok (.iload 4, 2) := dk_21 4 (dk_at dksL_law_83 22 rfl rfl)
theorem dL_law_2156 : decode cL_law 2156 = .ok (.iconst 3, 1) := dk_6 (dk_at dksL_law_84 0 rfl rfl)
theorem dL_law_2157 : decode cL_law 2157 = .ok (.iadd, 1) := dk_96 (dk_at dksL_law_84 1 rfl rfl)
theorem dL_law_2158 : decode cL_law 2158 = .ok (.iaload, 1) := dk_46 (dk_at dksL_law_84 2 rfl rfl)
theorem dL_law_2159 : decode cL_law 2159 = .ok (.aload_n 3, 1) := dk_45 (dk_at dksL_law_84 3 rfl rfl)
theorem dL_law_2160 : decode cL_law 2160 = .ok (.invokestatic 282, 3) := dk_184 1 26 (dk_at dksL_law_84 4 rfl rfl)
theorem dL_law_2163 : decode cL_law 2163 = .ok (.istore 5, 2) := dk_54 5 (dk_at dksL_law_84 7 rfl rfl)
theorem dL_law_2165 : decode cL_law 2165 = .ok (.aload_n 2, 1) := dk_44 (dk_at dksL_law_84 9 rfl rfl)
theorem dL_law_2166 : decode cL_law 2166 = .ok (.aload_n 0, 1) := dk_42 (dk_at dksL_law_84 10 rfl rfl)
theorem dL_law_2167 : decode cL_law 2167 = .ok (.iload 4, 2) := dk_21 4 (dk_at dksL_law_84 11 rfl rfl)
theorem dL_law_2169 : decode cL_law 2169 = .ok (.iconst 1, 1) := dk_4 (dk_at dksL_law_84 13 rfl rfl)
theorem dL_law_2170 : decode cL_law 2170 = .ok (.iadd, 1) := dk_96 (dk_at dksL_law_84 14 rfl rfl)
theorem dL_law_2171 : decode cL_law 2171 = .ok (.iaload, 1) := dk_46 (dk_at dksL_law_84 15 rfl rfl)
theorem dL_law_2172 : decode cL_law 2172 = .ok (.aload_n 0, 1) := dk_42 (dk_at dksL_law_84 16 rfl rfl)
theorem dL_law_2173 : decode cL_law 2173 = .ok (.iload 4, 2) := dk_21 4 (dk_at dksL_law_84 17 rfl rfl)
theorem dL_law_2175 : decode cL_law 2175 = .ok (.iconst 2, 1) := dk_5 (dk_at dksL_law_84 19 rfl rfl)
theorem dL_law_2176 : decode cL_law 2176 = .ok (.iadd, 1) := dk_96 (dk_at dksL_law_84 20 rfl rfl)
theorem dL_law_2177 : decode cL_law 2177 = .ok (.iaload, 1) := dk_46 (dk_at dksL_law_84 21 rfl rfl)
theorem dL_law_2178 : decode cL_law 2178 = .ok (.aload_n 0, 1) := dk_42 (dk_at dksL_law_84 22 rfl rfl)
theorem dL_law_2179 : decode cL_law 2179 = .ok (.iload 4, 2) := dk_21 4 (dk_at dksL_law_85 0 rfl rfl)
theorem dL_law_2181 : decode cL_law 2181 = .ok (.iconst 3, 1) := dk_6 (dk_at dksL_law_85 2 rfl rfl)
theorem dL_law_2182 : decode cL_law 2182 = .ok (.iadd, 1) := dk_96 (dk_at dksL_law_85 3 rfl rfl)
theorem dL_law_2183 : decode cL_law 2183 = .ok (.iaload, 1) := dk_46 (dk_at dksL_law_85 4 rfl rfl)
theorem dL_law_2184 : decode cL_law 2184 = .ok (.invokevirtual 284, 3) := dk_182 1 28 (dk_at dksL_law_85 5 rfl rfl)
theorem dL_law_2187 : decode cL_law 2187 = .ok (.istore 6, 2) := dk_54 6 (dk_at dksL_law_85 8 rfl rfl)
theorem dL_law_2189 : decode cL_law 2189 = .ok (.aload_n 2, 1) := dk_44 (dk_at dksL_law_85 10 rfl rfl)
theorem dL_law_2190 : decode cL_law 2190 = .ok (.invokevirtual 145, 3) := dk_182 0 145 (dk_at dksL_law_85 11 rfl rfl)
theorem dL_law_2193 : decode cL_law 2193 = .ok (.iload 5, 2) := dk_21 5 (dk_at dksL_law_85 14 rfl rfl)
theorem dL_law_2195 : decode cL_law 2195 = .ok (.if_icmp .eq 5, 3) := dk_159 0 5 (dk_at dksL_law_85 16 rfl rfl)
theorem dL_law_2198 : decode cL_law 2198 = .ok (.iconst 0, 1) := dk_3 (dk_at dksL_law_85 19 rfl rfl)
theorem dL_law_2199 : decode cL_law 2199 = .ok (.ireturn, 1) := dk_172 (dk_at dksL_law_85 20 rfl rfl)
theorem dL_law_2200 : decode cL_law 2200 = .ok (.iload 5, 2) := dk_21 5 (dk_at dksL_law_85 21 rfl rfl)
theorem dL_law_2202 : decode cL_law 2202 = .ok (.ifCond .ne 15, 3) := dk_154 0 15 (dk_at dksL_law_86 0 rfl rfl)
theorem dL_law_2205 : decode cL_law 2205 = .ok (.aload_n 3, 1) := dk_45 (dk_at dksL_law_86 3 rfl rfl)
theorem dL_law_2206 : decode cL_law 2206 = .ok (.iconst 0, 1) := dk_3 (dk_at dksL_law_86 4 rfl rfl)
theorem dL_law_2207 : decode cL_law 2207 = .ok (.laload, 1) := dk_47 (dk_at dksL_law_86 5 rfl rfl)
theorem dL_law_2208 : decode cL_law 2208 = .ok (.iload 6, 2) := dk_21 6 (dk_at dksL_law_86 6 rfl rfl)
theorem dL_law_2210 : decode cL_law 2210 = .ok (.i2l, 1) := dk_133 (dk_at dksL_law_86 8 rfl rfl)
theorem dL_law_2211 : decode cL_law 2211 = .ok (.lcmp, 1) := dk_148 (dk_at dksL_law_86 9 rfl rfl)
theorem dL_law_2212 : decode cL_law 2212 = .ok (.ifCond .eq 5, 3) := dk_153 0 5 (dk_at dksL_law_86 10 rfl rfl)
theorem dL_law_2215 : decode cL_law 2215 = .ok (.iconst 0, 1) := dk_3 (dk_at dksL_law_86 13 rfl rfl)
theorem dL_law_2216 : decode cL_law 2216 = .ok (.ireturn, 1) := dk_172 (dk_at dksL_law_86 14 rfl rfl)
theorem dL_law_2217 : decode cL_law 2217 = .ok (.goto 534, 3) := dk_167 2 22 (dk_at dksL_law_86 15 rfl rfl)
theorem dL_law_2220 : decode cL_law 2220 = .ok (.aload_n 1, 1) := dk_43 (dk_at dksL_law_86 18 rfl rfl)
theorem dL_law_2221 : decode cL_law 2221 = .ok (.aload_n 0, 1) := dk_42 (dk_at dksL_law_86 19 rfl rfl)
theorem dL_law_2222 : decode cL_law 2222 = .ok (.iload 4, 2) := dk_21 4 (dk_at dksL_law_86 20 rfl rfl)
theorem dL_law_2224 : decode cL_law 2224 = .ok (.iconst 1, 1) := dk_4 (dk_at dksL_law_86 22 rfl rfl)
theorem dL_law_2225 : decode cL_law 2225 = .ok (.iadd, 1) := dk_96 (dk_at dksL_law_86 23 rfl rfl)
theorem dL_law_2226 : decode cL_law 2226 = .ok (.iaload, 1) := dk_46 (dk_at dksL_law_87 0 rfl rfl)
theorem dL_law_2227 : decode cL_law 2227 = .ok (.aload_n 3, 1) := dk_45 (dk_at dksL_law_87 1 rfl rfl)
theorem dL_law_2228 : decode cL_law 2228 = .ok (.invokestatic 285, 3) := dk_184 1 29 (dk_at dksL_law_87 2 rfl rfl)
theorem dL_law_2231 : decode cL_law 2231 = .ok (.istore 5, 2) := dk_54 5 (dk_at dksL_law_87 5 rfl rfl)
theorem dL_law_2233 : decode cL_law 2233 = .ok (.aload_n 2, 1) := dk_44 (dk_at dksL_law_87 7 rfl rfl)
theorem dL_law_2234 : decode cL_law 2234 = .ok (.aload_n 0, 1) := dk_42 (dk_at dksL_law_87 8 rfl rfl)
theorem dL_law_2235 : decode cL_law 2235 = .ok (.iload 4, 2) := dk_21 4 (dk_at dksL_law_87 9 rfl rfl)
theorem dL_law_2237 : decode cL_law 2237 = .ok (.iconst 1, 1) := dk_4 (dk_at dksL_law_87 11 rfl rfl)
theorem dL_law_2238 : decode cL_law 2238 = .ok (.iadd, 1) := dk_96 (dk_at dksL_law_87 12 rfl rfl)
theorem dL_law_2239 : decode cL_law 2239 = .ok (.iaload, 1) := dk_46 (dk_at dksL_law_87 13 rfl rfl)
theorem dL_law_2240 : decode cL_law 2240 = .ok (.invokevirtual 287, 3) := dk_182 1 31 (dk_at dksL_law_87 14 rfl rfl)
theorem dL_law_2243 : decode cL_law 2243 = .ok (.istore 6, 2) := dk_54 6 (dk_at dksL_law_87 17 rfl rfl)
theorem dL_law_2245 : decode cL_law 2245 = .ok (.aload_n 2, 1) := dk_44 (dk_at dksL_law_87 19 rfl rfl)
theorem dL_law_2246 : decode cL_law 2246 = .ok (.invokevirtual 145, 3) := dk_182 0 145 (dk_at dksL_law_87 20 rfl rfl)
theorem dL_law_2249 : decode cL_law 2249 = .ok (.iload 5, 2) := dk_21 5 (dk_at dksL_law_88 0 rfl rfl)
theorem dL_law_2251 : decode cL_law 2251 = .ok (.if_icmp .eq 5, 3) := dk_159 0 5 (dk_at dksL_law_88 2 rfl rfl)
theorem dL_law_2254 : decode cL_law 2254 = .ok (.iconst 0, 1) := dk_3 (dk_at dksL_law_88 5 rfl rfl)
theorem dL_law_2255 : decode cL_law 2255 = .ok (.ireturn, 1) := dk_172 (dk_at dksL_law_88 6 rfl rfl)
theorem dL_law_2256 : decode cL_law 2256 = .ok (.iload 5, 2) := dk_21 5 (dk_at dksL_law_88 7 rfl rfl)
theorem dL_law_2258 : decode cL_law 2258 = .ok (.ifCond .ne 15, 3) := dk_154 0 15 (dk_at dksL_law_88 9 rfl rfl)
theorem dL_law_2261 : decode cL_law 2261 = .ok (.aload_n 3, 1) := dk_45 (dk_at dksL_law_88 12 rfl rfl)
theorem dL_law_2262 : decode cL_law 2262 = .ok (.iconst 0, 1) := dk_3 (dk_at dksL_law_88 13 rfl rfl)
theorem dL_law_2263 : decode cL_law 2263 = .ok (.laload, 1) := dk_47 (dk_at dksL_law_88 14 rfl rfl)
theorem dL_law_2264 : decode cL_law 2264 = .ok (.iload 6, 2) := dk_21 6 (dk_at dksL_law_88 15 rfl rfl)
theorem dL_law_2266 : decode cL_law 2266 = .ok (.i2l, 1) := dk_133 (dk_at dksL_law_88 17 rfl rfl)
theorem dL_law_2267 : decode cL_law 2267 = .ok (.lcmp, 1) := dk_148 (dk_at dksL_law_88 18 rfl rfl)
theorem dL_law_2268 : decode cL_law 2268 = .ok (.ifCond .eq 5, 3) := dk_153 0 5 (dk_at dksL_law_88 19 rfl rfl)
theorem dL_law_2271 : decode cL_law 2271 = .ok (.iconst 0, 1) := dk_3 (dk_at dksL_law_88 22 rfl rfl)
theorem dL_law_2272 : decode cL_law 2272 = .ok (.ireturn, 1) := dk_172 (dk_at dksL_law_88 23 rfl rfl)
theorem dL_law_2273 : decode cL_law 2273 = .ok (.goto 478, 3) := dk_167 1 222 (dk_at dksL_law_89 0 rfl rfl)
theorem dL_law_2276 : decode cL_law 2276 = .ok (.aload_n 1, 1) := dk_43 (dk_at dksL_law_89 3 rfl rfl)
theorem dL_law_2277 : decode cL_law 2277 = .ok (.aload_n 3, 1) := dk_45 (dk_at dksL_law_89 4 rfl rfl)
theorem dL_law_2278 : decode cL_law 2278 = .ok (.invokestatic 288, 3) := dk_184 1 32 (dk_at dksL_law_89 5 rfl rfl)
theorem dL_law_2281 : decode cL_law 2281 = .ok (.istore 5, 2) := dk_54 5 (dk_at dksL_law_89 8 rfl rfl)
theorem dL_law_2283 : decode cL_law 2283 = .ok (.aload_n 2, 1) := dk_44 (dk_at dksL_law_89 10 rfl rfl)
theorem dL_law_2284 : decode cL_law 2284 = .ok (.invokevirtual 290, 3) := dk_182 1 34 (dk_at dksL_law_89 11 rfl rfl)
theorem dL_law_2287 : decode cL_law 2287 = .ok (.istore 6, 2) := dk_54 6 (dk_at dksL_law_89 14 rfl rfl)
theorem dL_law_2289 : decode cL_law 2289 = .ok (.aload_n 2, 1) := dk_44 (dk_at dksL_law_89 16 rfl rfl)
theorem dL_law_2290 : decode cL_law 2290 = .ok (.invokevirtual 145, 3) := dk_182 0 145 (dk_at dksL_law_89 17 rfl rfl)
theorem dL_law_2293 : decode cL_law 2293 = .ok (.iload 5, 2) := dk_21 5 (dk_at dksL_law_89 20 rfl rfl)
theorem dL_law_2295 : decode cL_law 2295 = .ok (.if_icmp .eq 5, 3) := dk_159 0 5 (dk_at dksL_law_90 0 rfl rfl)
theorem dL_law_2298 : decode cL_law 2298 = .ok (.iconst 0, 1) := dk_3 (dk_at dksL_law_90 3 rfl rfl)
theorem dL_law_2299 : decode cL_law 2299 = .ok (.ireturn, 1) := dk_172 (dk_at dksL_law_90 4 rfl rfl)
theorem dL_law_2300 : decode cL_law 2300 = .ok (.iload 5, 2) := dk_21 5 (dk_at dksL_law_90 5 rfl rfl)
theorem dL_law_2302 : decode cL_law 2302 = .ok (.ifCond .ne 15, 3) := dk_154 0 15 (dk_at dksL_law_90 7 rfl rfl)
theorem dL_law_2305 : decode cL_law 2305 = .ok (.aload_n 3, 1) := dk_45 (dk_at dksL_law_90 10 rfl rfl)
theorem dL_law_2306 : decode cL_law 2306 = .ok (.iconst 0, 1) := dk_3 (dk_at dksL_law_90 11 rfl rfl)
theorem dL_law_2307 : decode cL_law 2307 = .ok (.laload, 1) := dk_47 (dk_at dksL_law_90 12 rfl rfl)
theorem dL_law_2308 : decode cL_law 2308 = .ok (.iload 6, 2) := dk_21 6 (dk_at dksL_law_90 13 rfl rfl)
theorem dL_law_2310 : decode cL_law 2310 = .ok (.i2l, 1) := dk_133 (dk_at dksL_law_90 15 rfl rfl)
theorem dL_law_2311 : decode cL_law 2311 = .ok (.lcmp, 1) := dk_148 (dk_at dksL_law_90 16 rfl rfl)
theorem dL_law_2312 : decode cL_law 2312 = .ok (.ifCond .eq 5, 3) := dk_153 0 5 (dk_at dksL_law_90 17 rfl rfl)
theorem dL_law_2315 : decode cL_law 2315 = .ok (.iconst 0, 1) := dk_3 (dk_at dksL_law_90 20 rfl rfl)
theorem dL_law_2316 : decode cL_law 2316 = .ok (.ireturn, 1) := dk_172 (dk_at dksL_law_90 21 rfl rfl)
theorem dL_law_2317 : decode cL_law 2317 = .ok (.goto 434, 3) := dk_167 1 178 (dk_at dksL_law_91 0 rfl rfl)
theorem dL_law_2320 : decode cL_law 2320 = .ok (.aload_n 1, 1) := dk_43 (dk_at dksL_law_91 3 rfl rfl)
theorem dL_law_2321 : decode cL_law 2321 = .ok (.aload_n 0, 1) := dk_42 (dk_at dksL_law_91 4 rfl rfl)
theorem dL_law_2322 : decode cL_law 2322 = .ok (.iload 4, 2) := dk_21 4 (dk_at dksL_law_91 5 rfl rfl)
theorem dL_law_2324 : decode cL_law 2324 = .ok (.iconst 1, 1) := dk_4 (dk_at dksL_law_91 7 rfl rfl)
theorem dL_law_2325 : decode cL_law 2325 = .ok (.iadd, 1) := dk_96 (dk_at dksL_law_91 8 rfl rfl)
theorem dL_law_2326 : decode cL_law 2326 = .ok (.iaload, 1) := dk_46 (dk_at dksL_law_91 9 rfl rfl)
theorem dL_law_2327 : decode cL_law 2327 = .ok (.aload_n 3, 1) := dk_45 (dk_at dksL_law_91 10 rfl rfl)
theorem dL_law_2328 : decode cL_law 2328 = .ok (.invokestatic 291, 3) := dk_184 1 35 (dk_at dksL_law_91 11 rfl rfl)
theorem dL_law_2331 : decode cL_law 2331 = .ok (.istore 5, 2) := dk_54 5 (dk_at dksL_law_91 14 rfl rfl)
theorem dL_law_2333 : decode cL_law 2333 = .ok (.aload_n 2, 1) := dk_44 (dk_at dksL_law_91 16 rfl rfl)
theorem dL_law_2334 : decode cL_law 2334 = .ok (.aload_n 0, 1) := dk_42 (dk_at dksL_law_91 17 rfl rfl)
theorem dL_law_2335 : decode cL_law 2335 = .ok (.iload 4, 2) := dk_21 4 (dk_at dksL_law_91 18 rfl rfl)
theorem dL_law_2337 : decode cL_law 2337 = .ok (.iconst 1, 1) := dk_4 (dk_at dksL_law_91 20 rfl rfl)
theorem dL_law_2338 : decode cL_law 2338 = .ok (.iadd, 1) := dk_96 (dk_at dksL_law_91 21 rfl rfl)
theorem dL_law_2339 : decode cL_law 2339 = .ok (.iaload, 1) := dk_46 (dk_at dksL_law_91 22 rfl rfl)
theorem dL_law_2340 : decode cL_law 2340 = .ok (.invokevirtual 293, 3) := dk_182 1 37 (dk_at dksL_law_92 0 rfl rfl)
theorem dL_law_2343 : decode cL_law 2343 = .ok (.istore 6, 2) := dk_54 6 (dk_at dksL_law_92 3 rfl rfl)
theorem dL_law_2345 : decode cL_law 2345 = .ok (.aload_n 2, 1) := dk_44 (dk_at dksL_law_92 5 rfl rfl)
theorem dL_law_2346 : decode cL_law 2346 = .ok (.invokevirtual 145, 3) := dk_182 0 145 (dk_at dksL_law_92 6 rfl rfl)
theorem dL_law_2349 : decode cL_law 2349 = .ok (.iload 5, 2) := dk_21 5 (dk_at dksL_law_92 9 rfl rfl)
theorem dL_law_2351 : decode cL_law 2351 = .ok (.if_icmp .eq 5, 3) := dk_159 0 5 (dk_at dksL_law_92 11 rfl rfl)
theorem dL_law_2354 : decode cL_law 2354 = .ok (.iconst 0, 1) := dk_3 (dk_at dksL_law_92 14 rfl rfl)
theorem dL_law_2355 : decode cL_law 2355 = .ok (.ireturn, 1) := dk_172 (dk_at dksL_law_92 15 rfl rfl)
theorem dL_law_2356 : decode cL_law 2356 = .ok (.iload 5, 2) := dk_21 5 (dk_at dksL_law_92 16 rfl rfl)
theorem dL_law_2358 : decode cL_law 2358 = .ok (.ifCond .ne 15, 3) := dk_154 0 15 (dk_at dksL_law_92 18 rfl rfl)
theorem dL_law_2361 : decode cL_law 2361 = .ok (.aload_n 3, 1) := dk_45 (dk_at dksL_law_92 21 rfl rfl)
theorem dL_law_2362 : decode cL_law 2362 = .ok (.iconst 0, 1) := dk_3 (dk_at dksL_law_92 22 rfl rfl)
theorem dL_law_2363 : decode cL_law 2363 = .ok (.laload, 1) := dk_47 (dk_at dksL_law_92 23 rfl rfl)
theorem dL_law_2364 : decode cL_law 2364 = .ok (.iload 6, 2) := dk_21 6 (dk_at dksL_law_93 0 rfl rfl)
theorem dL_law_2366 : decode cL_law 2366 = .ok (.i2l, 1) := dk_133 (dk_at dksL_law_93 2 rfl rfl)
theorem dL_law_2367 : decode cL_law 2367 = .ok (.lcmp, 1) := dk_148 (dk_at dksL_law_93 3 rfl rfl)
theorem dL_law_2368 : decode cL_law 2368 = .ok (.ifCond .eq 5, 3) := dk_153 0 5 (dk_at dksL_law_93 4 rfl rfl)
theorem dL_law_2371 : decode cL_law 2371 = .ok (.iconst 0, 1) := dk_3 (dk_at dksL_law_93 7 rfl rfl)
theorem dL_law_2372 : decode cL_law 2372 = .ok (.ireturn, 1) := dk_172 (dk_at dksL_law_93 8 rfl rfl)
theorem dL_law_2373 : decode cL_law 2373 = .ok (.goto 378, 3) := dk_167 1 122 (dk_at dksL_law_93 9 rfl rfl)
theorem dL_law_2376 : decode cL_law 2376 = .ok (.aload_n 1, 1) := dk_43 (dk_at dksL_law_93 12 rfl rfl)
theorem dL_law_2377 : decode cL_law 2377 = .ok (.aload_n 0, 1) := dk_42 (dk_at dksL_law_93 13 rfl rfl)
theorem dL_law_2378 : decode cL_law 2378 = .ok (.iload 4, 2) := dk_21 4 (dk_at dksL_law_93 14 rfl rfl)
theorem dL_law_2380 : decode cL_law 2380 = .ok (.iconst 1, 1) := dk_4 (dk_at dksL_law_93 16 rfl rfl)
theorem dL_law_2381 : decode cL_law 2381 = .ok (.iadd, 1) := dk_96 (dk_at dksL_law_93 17 rfl rfl)
theorem dL_law_2382 : decode cL_law 2382 = .ok (.iaload, 1) := dk_46 (dk_at dksL_law_93 18 rfl rfl)
theorem dL_law_2383 : decode cL_law 2383 = .ok (.aload_n 0, 1) := dk_42 (dk_at dksL_law_93 19 rfl rfl)
theorem dL_law_2384 : decode cL_law 2384 = .ok (.iload 4, 2) := dk_21 4 (dk_at dksL_law_93 20 rfl rfl)
theorem dL_law_2386 : decode cL_law 2386 = .ok (.iconst 2, 1) := dk_5 (dk_at dksL_law_93 22 rfl rfl)
theorem dL_law_2387 : decode cL_law 2387 = .ok (.iadd, 1) := dk_96 (dk_at dksL_law_93 23 rfl rfl)
theorem dL_law_2388 : decode cL_law 2388 = .ok (.iaload, 1) := dk_46 (dk_at dksL_law_94 0 rfl rfl)
theorem dL_law_2389 : decode cL_law 2389 = .ok (.aload_n 3, 1) := dk_45 (dk_at dksL_law_94 1 rfl rfl)
theorem dL_law_2390 : decode cL_law 2390 = .ok (.invokestatic 294, 3) := dk_184 1 38 (dk_at dksL_law_94 2 rfl rfl)
theorem dL_law_2393 : decode cL_law 2393 = .ok (.istore 5, 2) := dk_54 5 (dk_at dksL_law_94 5 rfl rfl)
theorem dL_law_2395 : decode cL_law 2395 = .ok (.aload_n 2, 1) := dk_44 (dk_at dksL_law_94 7 rfl rfl)
theorem dL_law_2396 : decode cL_law 2396 = .ok (.aload_n 0, 1) := dk_42 (dk_at dksL_law_94 8 rfl rfl)
theorem dL_law_2397 : decode cL_law 2397 = .ok (.iload 4, 2) := dk_21 4 (dk_at dksL_law_94 9 rfl rfl)
theorem dL_law_2399 : decode cL_law 2399 = .ok (.iconst 1, 1) := dk_4 (dk_at dksL_law_94 11 rfl rfl)
theorem dL_law_2400 : decode cL_law 2400 = .ok (.iadd, 1) := dk_96 (dk_at dksL_law_94 12 rfl rfl)
theorem dL_law_2401 : decode cL_law 2401 = .ok (.iaload, 1) := dk_46 (dk_at dksL_law_94 13 rfl rfl)
theorem dL_law_2402 : decode cL_law 2402 = .ok (.aload_n 0, 1) := dk_42 (dk_at dksL_law_94 14 rfl rfl)
theorem dL_law_2403 : decode cL_law 2403 = .ok (.iload 4, 2) := dk_21 4 (dk_at dksL_law_94 15 rfl rfl)
theorem dL_law_2405 : decode cL_law 2405 = .ok (.iconst 2, 1) := dk_5 (dk_at dksL_law_94 17 rfl rfl)
theorem dL_law_2406 : decode cL_law 2406 = .ok (.iadd, 1) := dk_96 (dk_at dksL_law_94 18 rfl rfl)
theorem dL_law_2407 : decode cL_law 2407 = .ok (.iaload, 1) := dk_46 (dk_at dksL_law_94 19 rfl rfl)
theorem dL_law_2408 : decode cL_law 2408 = .ok (.invokevirtual 296, 3) := dk_182 1 40 (dk_at dksL_law_94 20 rfl rfl)
theorem dL_law_2411 : decode cL_law 2411 = .ok (.istore 6, 2) := dk_54 6 (dk_at dksL_law_95 0 rfl rfl)
theorem dL_law_2413 : decode cL_law 2413 = .ok (.aload_n 2, 1) := dk_44 (dk_at dksL_law_95 2 rfl rfl)
theorem dL_law_2414 : decode cL_law 2414 = .ok (.invokevirtual 145, 3) := dk_182 0 145 (dk_at dksL_law_95 3 rfl rfl)
theorem dL_law_2417 : decode cL_law 2417 = .ok (.iload 5, 2) := dk_21 5 (dk_at dksL_law_95 6 rfl rfl)
theorem dL_law_2419 : decode cL_law 2419 = .ok (.if_icmp .eq 5, 3) := dk_159 0 5 (dk_at dksL_law_95 8 rfl rfl)
theorem dL_law_2422 : decode cL_law 2422 = .ok (.iconst 0, 1) := dk_3 (dk_at dksL_law_95 11 rfl rfl)
theorem dL_law_2423 : decode cL_law 2423 = .ok (.ireturn, 1) := dk_172 (dk_at dksL_law_95 12 rfl rfl)
theorem dL_law_2424 : decode cL_law 2424 = .ok (.iload 5, 2) := dk_21 5 (dk_at dksL_law_95 13 rfl rfl)
theorem dL_law_2426 : decode cL_law 2426 = .ok (.ifCond .ne 22, 3) := dk_154 0 22 (dk_at dksL_law_95 15 rfl rfl)
theorem dL_law_2429 : decode cL_law 2429 = .ok (.aload_n 3, 1) := dk_45 (dk_at dksL_law_95 18 rfl rfl)
theorem dL_law_2430 : decode cL_law 2430 = .ok (.iconst 0, 1) := dk_3 (dk_at dksL_law_95 19 rfl rfl)
theorem dL_law_2431 : decode cL_law 2431 = .ok (.laload, 1) := dk_47 (dk_at dksL_law_95 20 rfl rfl)
theorem dL_law_2432 : decode cL_law 2432 = .ok (.iload 6, 2) := dk_21 6 (dk_at dksL_law_95 21 rfl rfl)
theorem dL_law_2434 : decode cL_law 2434 = .ok (.ifCond .eq 7, 3) := dk_153 0 7 (dk_at dksL_law_96 0 rfl rfl)
theorem dL_law_2437 : decode cL_law 2437 = .ok (.lconst 1, 1) := dk_10 (dk_at dksL_law_96 3 rfl rfl)
theorem dL_law_2438 : decode cL_law 2438 = .ok (.goto 4, 3) := dk_167 0 4 (dk_at dksL_law_96 4 rfl rfl)
theorem dL_law_2441 : decode cL_law 2441 = .ok (.lconst 0, 1) := dk_9 (dk_at dksL_law_96 7 rfl rfl)
theorem dL_law_2442 : decode cL_law 2442 = .ok (.lcmp, 1) := dk_148 (dk_at dksL_law_96 8 rfl rfl)
theorem dL_law_2443 : decode cL_law 2443 = .ok (.ifCond .eq 5, 3) := dk_153 0 5 (dk_at dksL_law_96 9 rfl rfl)
theorem dL_law_2446 : decode cL_law 2446 = .ok (.iconst 0, 1) := dk_3 (dk_at dksL_law_96 12 rfl rfl)
theorem dL_law_2447 : decode cL_law 2447 = .ok (.ireturn, 1) := dk_172 (dk_at dksL_law_96 13 rfl rfl)
theorem dL_law_2448 : decode cL_law 2448 = .ok (.goto 303, 3) := dk_167 1 47 (dk_at dksL_law_96 14 rfl rfl)
theorem dL_law_2451 : decode cL_law 2451 = .ok (.aload_n 1, 1) := dk_43 (dk_at dksL_law_96 17 rfl rfl)
theorem dL_law_2452 : decode cL_law 2452 = .ok (.aload_n 0, 1) := dk_42 (dk_at dksL_law_96 18 rfl rfl)
theorem dL_law_2453 : decode cL_law 2453 = .ok (.iload 4, 2) := dk_21 4 (dk_at dksL_law_96 19 rfl rfl)
theorem dL_law_2455 : decode cL_law 2455 = .ok (.iconst 1, 1) := dk_4 (dk_at dksL_law_96 21 rfl rfl)
theorem dL_law_2456 : decode cL_law 2456 = .ok (.iadd, 1) := dk_96 (dk_at dksL_law_96 22 rfl rfl)
theorem dL_law_2457 : decode cL_law 2457 = .ok (.iaload, 1) := dk_46 (dk_at dksL_law_96 23 rfl rfl)
theorem dL_law_2458 : decode cL_law 2458 = .ok (.aload_n 0, 1) := dk_42 (dk_at dksL_law_97 0 rfl rfl)
theorem dL_law_2459 : decode cL_law 2459 = .ok (.iload 4, 2) := dk_21 4 (dk_at dksL_law_97 1 rfl rfl)
theorem dL_law_2461 : decode cL_law 2461 = .ok (.iconst 2, 1) := dk_5 (dk_at dksL_law_97 3 rfl rfl)
theorem dL_law_2462 : decode cL_law 2462 = .ok (.iadd, 1) := dk_96 (dk_at dksL_law_97 4 rfl rfl)
theorem dL_law_2463 : decode cL_law 2463 = .ok (.iaload, 1) := dk_46 (dk_at dksL_law_97 5 rfl rfl)
theorem dL_law_2464 : decode cL_law 2464 = .ok (.aload_n 3, 1) := dk_45 (dk_at dksL_law_97 6 rfl rfl)
theorem dL_law_2465 : decode cL_law 2465 = .ok (.invokestatic 297, 3) := dk_184 1 41 (dk_at dksL_law_97 7 rfl rfl)
theorem dL_law_2468 : decode cL_law 2468 = .ok (.istore 5, 2) := dk_54 5 (dk_at dksL_law_97 10 rfl rfl)
theorem dL_law_2470 : decode cL_law 2470 = .ok (.aload_n 2, 1) := dk_44 (dk_at dksL_law_97 12 rfl rfl)
theorem dL_law_2471 : decode cL_law 2471 = .ok (.aload_n 0, 1) := dk_42 (dk_at dksL_law_97 13 rfl rfl)
theorem dL_law_2472 : decode cL_law 2472 = .ok (.iload 4, 2) := dk_21 4 (dk_at dksL_law_97 14 rfl rfl)
theorem dL_law_2474 : decode cL_law 2474 = .ok (.iconst 1, 1) := dk_4 (dk_at dksL_law_97 16 rfl rfl)
theorem dL_law_2475 : decode cL_law 2475 = .ok (.iadd, 1) := dk_96 (dk_at dksL_law_97 17 rfl rfl)
theorem dL_law_2476 : decode cL_law 2476 = .ok (.iaload, 1) := dk_46 (dk_at dksL_law_97 18 rfl rfl)
theorem dL_law_2477 : decode cL_law 2477 = .ok (.aload_n 0, 1) := dk_42 (dk_at dksL_law_97 19 rfl rfl)
theorem dL_law_2478 : decode cL_law 2478 = .ok (.iload 4, 2) := dk_21 4 (dk_at dksL_law_97 20 rfl rfl)
theorem dL_law_2480 : decode cL_law 2480 = .ok (.iconst 2, 1) := dk_5 (dk_at dksL_law_97 22 rfl rfl)
theorem dL_law_2481 : decode cL_law 2481 = .ok (.iadd, 1) := dk_96 (dk_at dksL_law_97 23 rfl rfl)
theorem dL_law_2482 : decode cL_law 2482 = .ok (.iaload, 1) := dk_46 (dk_at dksL_law_98 0 rfl rfl)
theorem dL_law_2483 : decode cL_law 2483 = .ok (.invokevirtual 299, 3) := dk_182 1 43 (dk_at dksL_law_98 1 rfl rfl)
theorem dL_law_2486 : decode cL_law 2486 = .ok (.istore 6, 2) := dk_54 6 (dk_at dksL_law_98 4 rfl rfl)
theorem dL_law_2488 : decode cL_law 2488 = .ok (.aload_n 2, 1) := dk_44 (dk_at dksL_law_98 6 rfl rfl)
theorem dL_law_2489 : decode cL_law 2489 = .ok (.invokevirtual 145, 3) := dk_182 0 145 (dk_at dksL_law_98 7 rfl rfl)
theorem dL_law_2492 : decode cL_law 2492 = .ok (.iload 5, 2) := dk_21 5 (dk_at dksL_law_98 10 rfl rfl)
theorem dL_law_2494 : decode cL_law 2494 = .ok (.if_icmp .eq 5, 3) := dk_159 0 5 (dk_at dksL_law_98 12 rfl rfl)
theorem dL_law_2497 : decode cL_law 2497 = .ok (.iconst 0, 1) := dk_3 (dk_at dksL_law_98 15 rfl rfl)
theorem dL_law_2498 : decode cL_law 2498 = .ok (.ireturn, 1) := dk_172 (dk_at dksL_law_98 16 rfl rfl)
theorem dL_law_2499 : decode cL_law 2499 = .ok (.iload 5, 2) := dk_21 5 (dk_at dksL_law_98 17 rfl rfl)
theorem dL_law_2501 : decode cL_law 2501 = .ok (.ifCond .ne 15, 3) := dk_154 0 15 (dk_at dksL_law_98 19 rfl rfl)
theorem dL_law_2504 : decode cL_law 2504 = .ok (.aload_n 3, 1) := dk_45 (dk_at dksL_law_98 22 rfl rfl)
theorem dL_law_2505 : decode cL_law 2505 = .ok (.iconst 0, 1) := dk_3 (dk_at dksL_law_98 23 rfl rfl)
theorem dL_law_2506 : decode cL_law 2506 = .ok (.laload, 1) := dk_47 (dk_at dksL_law_99 0 rfl rfl)
theorem dL_law_2507 : decode cL_law 2507 = .ok (.iload 6, 2) := dk_21 6 (dk_at dksL_law_99 1 rfl rfl)
theorem dL_law_2509 : decode cL_law 2509 = .ok (.i2l, 1) := dk_133 (dk_at dksL_law_99 3 rfl rfl)
theorem dL_law_2510 : decode cL_law 2510 = .ok (.lcmp, 1) := dk_148 (dk_at dksL_law_99 4 rfl rfl)
theorem dL_law_2511 : decode cL_law 2511 = .ok (.ifCond .eq 5, 3) := dk_153 0 5 (dk_at dksL_law_99 5 rfl rfl)
theorem dL_law_2514 : decode cL_law 2514 = .ok (.iconst 0, 1) := dk_3 (dk_at dksL_law_99 8 rfl rfl)
theorem dL_law_2515 : decode cL_law 2515 = .ok (.ireturn, 1) := dk_172 (dk_at dksL_law_99 9 rfl rfl)
theorem dL_law_2516 : decode cL_law 2516 = .ok (.goto 235, 3) := dk_167 0 235 (dk_at dksL_law_99 10 rfl rfl)
theorem dL_law_2519 : decode cL_law 2519 = .ok (.aload_n 1, 1) := dk_43 (dk_at dksL_law_99 13 rfl rfl)
theorem dL_law_2520 : decode cL_law 2520 = .ok (.aload_n 0, 1) := dk_42 (dk_at dksL_law_99 14 rfl rfl)
theorem dL_law_2521 : decode cL_law 2521 = .ok (.iload 4, 2) := dk_21 4 (dk_at dksL_law_99 15 rfl rfl)
theorem dL_law_2523 : decode cL_law 2523 = .ok (.iconst 1, 1) := dk_4 (dk_at dksL_law_99 17 rfl rfl)
theorem dL_law_2524 : decode cL_law 2524 = .ok (.iadd, 1) := dk_96 (dk_at dksL_law_99 18 rfl rfl)
theorem dL_law_2525 : decode cL_law 2525 = .ok (.iaload, 1) := dk_46 (dk_at dksL_law_99 19 rfl rfl)
theorem dL_law_2526 : decode cL_law 2526 = .ok (.aload_n 3, 1) := dk_45 (dk_at dksL_law_99 20 rfl rfl)
theorem dL_law_2527 : decode cL_law 2527 = .ok (.invokestatic 300, 3) := dk_184 1 44 (dk_at dksL_law_99 21 rfl rfl)
theorem dL_law_2530 : decode cL_law 2530 = .ok (.istore 5, 2) := dk_54 5 (dk_at dksL_law_100 0 rfl rfl)
theorem dL_law_2532 : decode cL_law 2532 = .ok (.aload_n 2, 1) := dk_44 (dk_at dksL_law_100 2 rfl rfl)
theorem dL_law_2533 : decode cL_law 2533 = .ok (.aload_n 0, 1) := dk_42 (dk_at dksL_law_100 3 rfl rfl)
theorem dL_law_2534 : decode cL_law 2534 = .ok (.iload 4, 2) := dk_21 4 (dk_at dksL_law_100 4 rfl rfl)
theorem dL_law_2536 : decode cL_law 2536 = .ok (.iconst 1, 1) := dk_4 (dk_at dksL_law_100 6 rfl rfl)
theorem dL_law_2537 : decode cL_law 2537 = .ok (.iadd, 1) := dk_96 (dk_at dksL_law_100 7 rfl rfl)
theorem dL_law_2538 : decode cL_law 2538 = .ok (.iaload, 1) := dk_46 (dk_at dksL_law_100 8 rfl rfl)
theorem dL_law_2539 : decode cL_law 2539 = .ok (.invokevirtual 302, 3) := dk_182 1 46 (dk_at dksL_law_100 9 rfl rfl)
theorem dL_law_2542 : decode cL_law 2542 = .ok (.istore 6, 2) := dk_54 6 (dk_at dksL_law_100 12 rfl rfl)
theorem dL_law_2544 : decode cL_law 2544 = .ok (.aload_n 2, 1) := dk_44 (dk_at dksL_law_100 14 rfl rfl)
theorem dL_law_2545 : decode cL_law 2545 = .ok (.invokevirtual 145, 3) := dk_182 0 145 (dk_at dksL_law_100 15 rfl rfl)
theorem dL_law_2548 : decode cL_law 2548 = .ok (.iload 5, 2) := dk_21 5 (dk_at dksL_law_100 18 rfl rfl)
theorem dL_law_2550 : decode cL_law 2550 = .ok (.if_icmp .eq 5, 3) := dk_159 0 5 (dk_at dksL_law_100 20 rfl rfl)
theorem dL_law_2553 : decode cL_law 2553 = .ok (.iconst 0, 1) := dk_3 (dk_at dksL_law_100 23 rfl rfl)
theorem dL_law_2554 : decode cL_law 2554 = .ok (.ireturn, 1) := dk_172 (dk_at dksL_law_101 0 rfl rfl)
theorem dL_law_2555 : decode cL_law 2555 = .ok (.iload 5, 2) := dk_21 5 (dk_at dksL_law_101 1 rfl rfl)
theorem dL_law_2557 : decode cL_law 2557 = .ok (.ifCond .ne 22, 3) := dk_154 0 22 (dk_at dksL_law_101 3 rfl rfl)
theorem dL_law_2560 : decode cL_law 2560 = .ok (.aload_n 3, 1) := dk_45 (dk_at dksL_law_101 6 rfl rfl)
theorem dL_law_2561 : decode cL_law 2561 = .ok (.iconst 0, 1) := dk_3 (dk_at dksL_law_101 7 rfl rfl)
theorem dL_law_2562 : decode cL_law 2562 = .ok (.laload, 1) := dk_47 (dk_at dksL_law_101 8 rfl rfl)
theorem dL_law_2563 : decode cL_law 2563 = .ok (.iload 6, 2) := dk_21 6 (dk_at dksL_law_101 9 rfl rfl)
theorem dL_law_2565 : decode cL_law 2565 = .ok (.ifCond .eq 7, 3) := dk_153 0 7 (dk_at dksL_law_101 11 rfl rfl)
theorem dL_law_2568 : decode cL_law 2568 = .ok (.lconst 1, 1) := dk_10 (dk_at dksL_law_101 14 rfl rfl)
theorem dL_law_2569 : decode cL_law 2569 = .ok (.goto 4, 3) := dk_167 0 4 (dk_at dksL_law_101 15 rfl rfl)
theorem dL_law_2572 : decode cL_law 2572 = .ok (.lconst 0, 1) := dk_9 (dk_at dksL_law_101 18 rfl rfl)
theorem dL_law_2573 : decode cL_law 2573 = .ok (.lcmp, 1) := dk_148 (dk_at dksL_law_101 19 rfl rfl)
theorem dL_law_2574 : decode cL_law 2574 = .ok (.ifCond .eq 5, 3) := dk_153 0 5 (dk_at dksL_law_101 20 rfl rfl)
theorem dL_law_2577 : decode cL_law 2577 = .ok (.iconst 0, 1) := dk_3 (dk_at dksL_law_101 23 rfl rfl)
theorem dL_law_2578 : decode cL_law 2578 = .ok (.ireturn, 1) := dk_172 (dk_at dksL_law_102 0 rfl rfl)
theorem dL_law_2579 : decode cL_law 2579 = .ok (.goto 172, 3) := dk_167 0 172 (dk_at dksL_law_102 1 rfl rfl)
theorem dL_law_2582 : decode cL_law 2582 = .ok (.aload_n 1, 1) := dk_43 (dk_at dksL_law_102 4 rfl rfl)
theorem dL_law_2583 : decode cL_law 2583 = .ok (.aload_n 0, 1) := dk_42 (dk_at dksL_law_102 5 rfl rfl)
theorem dL_law_2584 : decode cL_law 2584 = .ok (.iload 4, 2) := dk_21 4 (dk_at dksL_law_102 6 rfl rfl)
theorem dL_law_2586 : decode cL_law 2586 = .ok (.iconst 1, 1) := dk_4 (dk_at dksL_law_102 8 rfl rfl)
theorem dL_law_2587 : decode cL_law 2587 = .ok (.iadd, 1) := dk_96 (dk_at dksL_law_102 9 rfl rfl)
theorem dL_law_2588 : decode cL_law 2588 = .ok (.iaload, 1) := dk_46 (dk_at dksL_law_102 10 rfl rfl)
theorem dL_law_2589 : decode cL_law 2589 = .ok (.aload_n 3, 1) := dk_45 (dk_at dksL_law_102 11 rfl rfl)
theorem dL_law_2590 : decode cL_law 2590 = .ok (.invokestatic 303, 3) := dk_184 1 47 (dk_at dksL_law_102 12 rfl rfl)
theorem dL_law_2593 : decode cL_law 2593 = .ok (.istore 5, 2) := dk_54 5 (dk_at dksL_law_102 15 rfl rfl)
theorem dL_law_2595 : decode cL_law 2595 = .ok (.aload_n 2, 1) := dk_44 (dk_at dksL_law_102 17 rfl rfl)
theorem dL_law_2596 : decode cL_law 2596 = .ok (.aload_n 0, 1) := dk_42 (dk_at dksL_law_102 18 rfl rfl)
theorem dL_law_2597 : decode cL_law 2597 = .ok (.iload 4, 2) := dk_21 4 (dk_at dksL_law_102 19 rfl rfl)
theorem dL_law_2599 : decode cL_law 2599 = .ok (.iconst 1, 1) := dk_4 (dk_at dksL_law_102 21 rfl rfl)
theorem dL_law_2600 : decode cL_law 2600 = .ok (.iadd, 1) := dk_96 (dk_at dksL_law_102 22 rfl rfl)
theorem dL_law_2601 : decode cL_law 2601 = .ok (.iaload, 1) := dk_46 (dk_at dksL_law_102 23 rfl rfl)
theorem dL_law_2602 : decode cL_law 2602 = .ok (.invokevirtual 305, 3) := dk_182 1 49 (dk_at dksL_law_103 0 rfl rfl)
theorem dL_law_2605 : decode cL_law 2605 = .ok (.istore 6, 2) := dk_54 6 (dk_at dksL_law_103 3 rfl rfl)
theorem dL_law_2607 : decode cL_law 2607 = .ok (.aload_n 2, 1) := dk_44 (dk_at dksL_law_103 5 rfl rfl)
theorem dL_law_2608 : decode cL_law 2608 = .ok (.invokevirtual 145, 3) := dk_182 0 145 (dk_at dksL_law_103 6 rfl rfl)
theorem dL_law_2611 : decode cL_law 2611 = .ok (.iload 5, 2) := dk_21 5 (dk_at dksL_law_103 9 rfl rfl)
theorem dL_law_2613 : decode cL_law 2613 = .ok (.if_icmp .eq 5, 3) := dk_159 0 5 (dk_at dksL_law_103 11 rfl rfl)
theorem dL_law_2616 : decode cL_law 2616 = .ok (.iconst 0, 1) := dk_3 (dk_at dksL_law_103 14 rfl rfl)
theorem dL_law_2617 : decode cL_law 2617 = .ok (.ireturn, 1) := dk_172 (dk_at dksL_law_103 15 rfl rfl)
theorem dL_law_2618 : decode cL_law 2618 = .ok (.iload 5, 2) := dk_21 5 (dk_at dksL_law_103 16 rfl rfl)
theorem dL_law_2620 : decode cL_law 2620 = .ok (.ifCond .ne 15, 3) := dk_154 0 15 (dk_at dksL_law_103 18 rfl rfl)
theorem dL_law_2623 : decode cL_law 2623 = .ok (.aload_n 3, 1) := dk_45 (dk_at dksL_law_103 21 rfl rfl)
theorem dL_law_2624 : decode cL_law 2624 = .ok (.iconst 0, 1) := dk_3 (dk_at dksL_law_103 22 rfl rfl)
theorem dL_law_2625 : decode cL_law 2625 = .ok (.laload, 1) := dk_47 (dk_at dksL_law_103 23 rfl rfl)
theorem dL_law_2626 : decode cL_law 2626 = .ok (.iload 6, 2) := dk_21 6 (dk_at dksL_law_104 0 rfl rfl)
theorem dL_law_2628 : decode cL_law 2628 = .ok (.i2l, 1) := dk_133 (dk_at dksL_law_104 2 rfl rfl)
theorem dL_law_2629 : decode cL_law 2629 = .ok (.lcmp, 1) := dk_148 (dk_at dksL_law_104 3 rfl rfl)
theorem dL_law_2630 : decode cL_law 2630 = .ok (.ifCond .eq 5, 3) := dk_153 0 5 (dk_at dksL_law_104 4 rfl rfl)
theorem dL_law_2633 : decode cL_law 2633 = .ok (.iconst 0, 1) := dk_3 (dk_at dksL_law_104 7 rfl rfl)
theorem dL_law_2634 : decode cL_law 2634 = .ok (.ireturn, 1) := dk_172 (dk_at dksL_law_104 8 rfl rfl)
theorem dL_law_2635 : decode cL_law 2635 = .ok (.goto 116, 3) := dk_167 0 116 (dk_at dksL_law_104 9 rfl rfl)
theorem dL_law_2638 : decode cL_law 2638 = .ok (.aload_n 1, 1) := dk_43 (dk_at dksL_law_104 12 rfl rfl)
theorem dL_law_2639 : decode cL_law 2639 = .ok (.aload_n 0, 1) := dk_42 (dk_at dksL_law_104 13 rfl rfl)
theorem dL_law_2640 : decode cL_law 2640 = .ok (.iload 4, 2) := dk_21 4 (dk_at dksL_law_104 14 rfl rfl)
theorem dL_law_2642 : decode cL_law 2642 = .ok (.iconst 1, 1) := dk_4 (dk_at dksL_law_104 16 rfl rfl)
theorem dL_law_2643 : decode cL_law 2643 = .ok (.iadd, 1) := dk_96 (dk_at dksL_law_104 17 rfl rfl)
theorem dL_law_2644 : decode cL_law 2644 = .ok (.iaload, 1) := dk_46 (dk_at dksL_law_104 18 rfl rfl)
theorem dL_law_2645 : decode cL_law 2645 = .ok (.aload_n 3, 1) := dk_45 (dk_at dksL_law_104 19 rfl rfl)
theorem dL_law_2646 : decode cL_law 2646 = .ok (.invokestatic 306, 3) := dk_184 1 50 (dk_at dksL_law_104 20 rfl rfl)
theorem dL_law_2649 : decode cL_law 2649 = .ok (.istore 5, 2) := dk_54 5 (dk_at dksL_law_105 0 rfl rfl)
theorem dL_law_2651 : decode cL_law 2651 = .ok (.aload_n 2, 1) := dk_44 (dk_at dksL_law_105 2 rfl rfl)
theorem dL_law_2652 : decode cL_law 2652 = .ok (.aload_n 0, 1) := dk_42 (dk_at dksL_law_105 3 rfl rfl)
theorem dL_law_2653 : decode cL_law 2653 = .ok (.iload 4, 2) := dk_21 4 (dk_at dksL_law_105 4 rfl rfl)
theorem dL_law_2655 : decode cL_law 2655 = .ok (.iconst 1, 1) := dk_4 (dk_at dksL_law_105 6 rfl rfl)
theorem dL_law_2656 : decode cL_law 2656 = .ok (.iadd, 1) := dk_96 (dk_at dksL_law_105 7 rfl rfl)
theorem dL_law_2657 : decode cL_law 2657 = .ok (.iaload, 1) := dk_46 (dk_at dksL_law_105 8 rfl rfl)
theorem dL_law_2658 : decode cL_law 2658 = .ok (.invokevirtual 308, 3) := dk_182 1 52 (dk_at dksL_law_105 9 rfl rfl)
theorem dL_law_2661 : decode cL_law 2661 = .ok (.istore 6, 2) := dk_54 6 (dk_at dksL_law_105 12 rfl rfl)
theorem dL_law_2663 : decode cL_law 2663 = .ok (.aload_n 2, 1) := dk_44 (dk_at dksL_law_105 14 rfl rfl)
theorem dL_law_2664 : decode cL_law 2664 = .ok (.invokevirtual 145, 3) := dk_182 0 145 (dk_at dksL_law_105 15 rfl rfl)
theorem dL_law_2667 : decode cL_law 2667 = .ok (.iload 5, 2) := dk_21 5 (dk_at dksL_law_105 18 rfl rfl)
theorem dL_law_2669 : decode cL_law 2669 = .ok (.if_icmp .eq 5, 3) := dk_159 0 5 (dk_at dksL_law_105 20 rfl rfl)
theorem dL_law_2672 : decode cL_law 2672 = .ok (.iconst 0, 1) := dk_3 (dk_at dksL_law_105 23 rfl rfl)
theorem dL_law_2673 : decode cL_law 2673 = .ok (.ireturn, 1) := dk_172 (dk_at dksL_law_106 0 rfl rfl)
theorem dL_law_2674 : decode cL_law 2674 = .ok (.iload 5, 2) := dk_21 5 (dk_at dksL_law_106 1 rfl rfl)
theorem dL_law_2676 : decode cL_law 2676 = .ok (.ifCond .ne 15, 3) := dk_154 0 15 (dk_at dksL_law_106 3 rfl rfl)
theorem dL_law_2679 : decode cL_law 2679 = .ok (.aload_n 3, 1) := dk_45 (dk_at dksL_law_106 6 rfl rfl)
theorem dL_law_2680 : decode cL_law 2680 = .ok (.iconst 0, 1) := dk_3 (dk_at dksL_law_106 7 rfl rfl)
theorem dL_law_2681 : decode cL_law 2681 = .ok (.laload, 1) := dk_47 (dk_at dksL_law_106 8 rfl rfl)
theorem dL_law_2682 : decode cL_law 2682 = .ok (.iload 6, 2) := dk_21 6 (dk_at dksL_law_106 9 rfl rfl)
theorem dL_law_2684 : decode cL_law 2684 = .ok (.i2l, 1) := dk_133 (dk_at dksL_law_106 11 rfl rfl)
theorem dL_law_2685 : decode cL_law 2685 = .ok (.lcmp, 1) := dk_148 (dk_at dksL_law_106 12 rfl rfl)
theorem dL_law_2686 : decode cL_law 2686 = .ok (.ifCond .eq 5, 3) := dk_153 0 5 (dk_at dksL_law_106 13 rfl rfl)
theorem dL_law_2689 : decode cL_law 2689 = .ok (.iconst 0, 1) := dk_3 (dk_at dksL_law_106 16 rfl rfl)
theorem dL_law_2690 : decode cL_law 2690 = .ok (.ireturn, 1) := dk_172 (dk_at dksL_law_106 17 rfl rfl)
theorem dL_law_2691 : decode cL_law 2691 = .ok (.goto 60, 3) := dk_167 0 60 (dk_at dksL_law_106 18 rfl rfl)
theorem dL_law_2694 : decode cL_law 2694 = .ok (.aload_n 1, 1) := dk_43 (dk_at dksL_law_106 21 rfl rfl)
theorem dL_law_2695 : decode cL_law 2695 = .ok (.invokevirtual 309, 3) := dk_182 1 53 (dk_at dksL_law_107 0 rfl rfl)
theorem dL_law_2698 : decode cL_law 2698 = .ok (.aload_n 2, 1) := dk_44 (dk_at dksL_law_107 3 rfl rfl)
theorem dL_law_2699 : decode cL_law 2699 = .ok (.invokevirtual 312, 3) := dk_182 1 56 (dk_at dksL_law_107 4 rfl rfl)
theorem dL_law_2702 : decode cL_law 2702 = .ok (.if_icmp .eq 49, 3) := dk_159 0 49 (dk_at dksL_law_107 7 rfl rfl)
theorem dL_law_2705 : decode cL_law 2705 = .ok (.iconst 0, 1) := dk_3 (dk_at dksL_law_107 10 rfl rfl)
theorem dL_law_2706 : decode cL_law 2706 = .ok (.ireturn, 1) := dk_172 (dk_at dksL_law_107 11 rfl rfl)
theorem dL_law_2707 : decode cL_law 2707 = .ok (.aload_n 1, 1) := dk_43 (dk_at dksL_law_107 12 rfl rfl)
theorem dL_law_2708 : decode cL_law 2708 = .ok (.aload_n 3, 1) := dk_45 (dk_at dksL_law_107 13 rfl rfl)
theorem dL_law_2709 : decode cL_law 2709 = .ok (.invokestatic 313, 3) := dk_184 1 57 (dk_at dksL_law_107 14 rfl rfl)
theorem dL_law_2712 : decode cL_law 2712 = .ok (.istore 5, 2) := dk_54 5 (dk_at dksL_law_107 17 rfl rfl)
theorem dL_law_2714 : decode cL_law 2714 = .ok (.aload_n 2, 1) := dk_44 (dk_at dksL_law_107 19 rfl rfl)
theorem dL_law_2715 : decode cL_law 2715 = .ok (.invokevirtual 315, 3) := dk_182 1 59 (dk_at dksL_law_107 20 rfl rfl)
theorem dL_law_2718 : decode cL_law 2718 = .ok (.istore 6, 2) := dk_54 6 (dk_at dksL_law_108 0 rfl rfl)
theorem dL_law_2720 : decode cL_law 2720 = .ok (.aload_n 2, 1) := dk_44 (dk_at dksL_law_108 2 rfl rfl)
theorem dL_law_2721 : decode cL_law 2721 = .ok (.invokevirtual 145, 3) := dk_182 0 145 (dk_at dksL_law_108 3 rfl rfl)
theorem dL_law_2724 : decode cL_law 2724 = .ok (.iload 5, 2) := dk_21 5 (dk_at dksL_law_108 6 rfl rfl)
theorem dL_law_2726 : decode cL_law 2726 = .ok (.if_icmp .eq 5, 3) := dk_159 0 5 (dk_at dksL_law_108 8 rfl rfl)
theorem dL_law_2729 : decode cL_law 2729 = .ok (.iconst 0, 1) := dk_3 (dk_at dksL_law_108 11 rfl rfl)
theorem dL_law_2730 : decode cL_law 2730 = .ok (.ireturn, 1) := dk_172 (dk_at dksL_law_108 12 rfl rfl)
theorem dL_law_2731 : decode cL_law 2731 = .ok (.iload 5, 2) := dk_21 5 (dk_at dksL_law_108 13 rfl rfl)
theorem dL_law_2733 : decode cL_law 2733 = .ok (.ifCond .ne 15, 3) := dk_154 0 15 (dk_at dksL_law_108 15 rfl rfl)
theorem dL_law_2736 : decode cL_law 2736 = .ok (.aload_n 3, 1) := dk_45 (dk_at dksL_law_108 18 rfl rfl)
theorem dL_law_2737 : decode cL_law 2737 = .ok (.iconst 0, 1) := dk_3 (dk_at dksL_law_108 19 rfl rfl)
theorem dL_law_2738 : decode cL_law 2738 = .ok (.laload, 1) := dk_47 (dk_at dksL_law_108 20 rfl rfl)
theorem dL_law_2739 : decode cL_law 2739 = .ok (.iload 6, 2) := dk_21 6 (dk_at dksL_law_108 21 rfl rfl)
theorem dL_law_2741 : decode cL_law 2741 = .ok (.i2l, 1) := dk_133 (dk_at dksL_law_108 23 rfl rfl)
theorem dL_law_2742 : decode cL_law 2742 = .ok (.lcmp, 1) := dk_148 (dk_at dksL_law_109 0 rfl rfl)
theorem dL_law_2743 : decode cL_law 2743 = .ok (.ifCond .eq 5, 3) := dk_153 0 5 (dk_at dksL_law_109 1 rfl rfl)
theorem dL_law_2746 : decode cL_law 2746 = .ok (.iconst 0, 1) := dk_3 (dk_at dksL_law_109 4 rfl rfl)
theorem dL_law_2747 : decode cL_law 2747 = .ok (.ireturn, 1) := dk_172 (dk_at dksL_law_109 5 rfl rfl)
theorem dL_law_2748 : decode cL_law 2748 = .ok (.goto 3, 3) := dk_167 0 3 (dk_at dksL_law_109 6 rfl rfl)
theorem dL_law_2751 : decode cL_law 2751 = .ok (.iinc 4 4, 3) := dk_132 4 4 (dk_at dksL_law_109 9 rfl rfl)
theorem dL_law_2754 : decode cL_law 2754 = .ok (.goto (-2731), 3) := dk_167 245 85 (dk_at dksL_law_109 12 rfl rfl)
theorem dL_law_2757 : decode cL_law 2757 = .ok (.iconst 1, 1) := dk_4 (dk_at dksL_law_109 15 rfl rfl)
theorem dL_law_2758 : decode cL_law 2758 = .ok (.ireturn, 1) := dk_172 (dk_at dksL_law_109 16 rfl rfl)
