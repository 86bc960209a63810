/-! TrainingDiaryLaw -/
set_option maxRecDepth 100000
def RX0 : String := "TrainingDiaryLaw"
abbrev cX0_pass : ByteArray := method_3_code
def yX0_pass : MethodName := ⟨RX0, "pass", "(LTrainingDiary;I[J)I"⟩
def dkwX0_pass_0 : List UInt8 := [44, 3, 42, 27, 182, 0, 7, 133, 80, 167, 0, 9, 78, 4, 172, 78, 5, 172, 3, 172]
abbrev dktX0_pass_0 : List UInt8 := dkwX0_pass_0 ++ []
theorem dksX0_pass_0 : cX0_pass.data.toList.drop 0 = dktX0_pass_0 := by decide +kernel
theorem dX0_pass_0 : decode cX0_pass 0 = .ok (.aload_n 2, 1) := dk_44 (dk_at dksX0_pass_0 0 rfl rfl)
theorem dX0_pass_1 : decode cX0_pass 1 = .ok (.iconst 0, 1) := dk_3 (dk_at dksX0_pass_0 1 rfl rfl)
theorem dX0_pass_2 : decode cX0_pass 2 = .ok (.aload_n 0, 1) := dk_42 (dk_at dksX0_pass_0 2 rfl rfl)
theorem dX0_pass_3 : decode cX0_pass 3 = .ok (.iload_n 1, 1) := dk_27 (dk_at dksX0_pass_0 3 rfl rfl)
theorem dX0_pass_4 : decode cX0_pass 4 = .ok (.invokevirtual 7, 3) := dk_182 0 7 (dk_at dksX0_pass_0 4 rfl rfl)
theorem dX0_pass_7 : decode cX0_pass 7 = .ok (.i2l, 1) := dk_133 (dk_at dksX0_pass_0 7 rfl rfl)
theorem dX0_pass_8 : decode cX0_pass 8 = .ok (.lastore, 1) := dk_80 (dk_at dksX0_pass_0 8 rfl rfl)
theorem dX0_pass_9 : decode cX0_pass 9 = .ok (.goto 9, 3) := dk_167 0 9 (dk_at dksX0_pass_0 9 rfl rfl)
theorem dX0_pass_12 : decode cX0_pass 12 = .ok (.astore_n 3, 1) := dk_78 (dk_at dksX0_pass_0 12 rfl rfl)
theorem dX0_pass_13 : decode cX0_pass 13 = .ok (.iconst 1, 1) := dk_4 (dk_at dksX0_pass_0 13 rfl rfl)
theorem dX0_pass_14 : decode cX0_pass 14 = .ok (.ireturn, 1) := dk_172 (dk_at dksX0_pass_0 14 rfl rfl)
theorem dX0_pass_15 : decode cX0_pass 15 = .ok (.astore_n 3, 1) := dk_78 (dk_at dksX0_pass_0 15 rfl rfl)
theorem dX0_pass_16 : decode cX0_pass 16 = .ok (.iconst 2, 1) := dk_5 (dk_at dksX0_pass_0 16 rfl rfl)
theorem dX0_pass_17 : decode cX0_pass 17 = .ok (.ireturn, 1) := dk_172 (dk_at dksX0_pass_0 17 rfl rfl)
theorem dX0_pass_18 : decode cX0_pass 18 = .ok (.iconst 0, 1) := dk_3 (dk_at dksX0_pass_0 18 rfl rfl)
theorem dX0_pass_19 : decode cX0_pass 19 = .ok (.ireturn, 1) := dk_172 (dk_at dksX0_pass_0 19 rfl rfl)
abbrev cX0_addTest : ByteArray := method_4_code
def yX0_addTest : MethodName := ⟨RX0, "addTest", "(LTrainingDiary;II[J)I"⟩
def dkwX0_addTest_0 : List UInt8 := [45, 3, 42, 27, 28, 182, 0, 17, 133, 80, 167, 0, 11, 58, 4, 4, 172, 58, 4, 5, 172, 3, 172]
abbrev dktX0_addTest_0 : List UInt8 := dkwX0_addTest_0 ++ []
theorem dksX0_addTest_0 : cX0_addTest.data.toList.drop 0 = dktX0_addTest_0 := by decide +kernel
theorem dX0_addTest_0 : decode cX0_addTest 0 = .ok (.aload_n 3, 1) := dk_45 (dk_at dksX0_addTest_0 0 rfl rfl)
theorem dX0_addTest_1 : decode cX0_addTest 1 = .ok (.iconst 0, 1) := dk_3 (dk_at dksX0_addTest_0 1 rfl rfl)
theorem dX0_addTest_2 : decode cX0_addTest 2 = .ok (.aload_n 0, 1) := dk_42 (dk_at dksX0_addTest_0 2 rfl rfl)
theorem dX0_addTest_3 : decode cX0_addTest 3 = .ok (.iload_n 1, 1) := dk_27 (dk_at dksX0_addTest_0 3 rfl rfl)
theorem dX0_addTest_4 : decode cX0_addTest 4 = .ok (.iload_n 2, 1) := dk_28 (dk_at dksX0_addTest_0 4 rfl rfl)
theorem dX0_addTest_5 : decode cX0_addTest 5 = .ok (.invokevirtual 17, 3) := dk_182 0 17 (dk_at dksX0_addTest_0 5 rfl rfl)
theorem dX0_addTest_8 : decode cX0_addTest 8 = .ok (.i2l, 1) := dk_133 (dk_at dksX0_addTest_0 8 rfl rfl)
theorem dX0_addTest_9 : decode cX0_addTest 9 = .ok (.lastore, 1) := dk_80 (dk_at dksX0_addTest_0 9 rfl rfl)
theorem dX0_addTest_10 : decode cX0_addTest 10 = .ok (.goto 11, 3) := dk_167 0 11 (dk_at dksX0_addTest_0 10 rfl rfl)
theorem dX0_addTest_13 : decode cX0_addTest 13 = .ok (.astore 4, 2) := dk_58 4 (dk_at dksX0_addTest_0 13 rfl rfl)
theorem dX0_addTest_15 : decode cX0_addTest 15 = .ok (.iconst 1, 1) := dk_4 (dk_at dksX0_addTest_0 15 rfl rfl)
theorem dX0_addTest_16 : decode cX0_addTest 16 = .ok (.ireturn, 1) := dk_172 (dk_at dksX0_addTest_0 16 rfl rfl)
theorem dX0_addTest_17 : decode cX0_addTest 17 = .ok (.astore 4, 2) := dk_58 4 (dk_at dksX0_addTest_0 17 rfl rfl)
theorem dX0_addTest_19 : decode cX0_addTest 19 = .ok (.iconst 2, 1) := dk_5 (dk_at dksX0_addTest_0 19 rfl rfl)
theorem dX0_addTest_20 : decode cX0_addTest 20 = .ok (.ireturn, 1) := dk_172 (dk_at dksX0_addTest_0 20 rfl rfl)
theorem dX0_addTest_21 : decode cX0_addTest 21 = .ok (.iconst 0, 1) := dk_3 (dk_at dksX0_addTest_0 21 rfl rfl)
theorem dX0_addTest_22 : decode cX0_addTest 22 = .ok (.ireturn, 1) := dk_172 (dk_at dksX0_addTest_0 22 rfl rfl)
abbrev cX0_removeTest : ByteArray := method_5_code
def yX0_removeTest : MethodName := ⟨RX0, "removeTest", "(LTrainingDiary;I[J)I"⟩
def dkwX0_removeTest_0 : List UInt8 := [44, 3, 42, 27, 182, 0, 21, 133, 80, 167, 0, 6, 78, 4, 172, 3, 172]
abbrev dktX0_removeTest_0 : List UInt8 := dkwX0_removeTest_0 ++ []
theorem dksX0_removeTest_0 : cX0_removeTest.data.toList.drop 0 = dktX0_removeTest_0 := by decide +kernel
theorem dX0_removeTest_0 : decode cX0_removeTest 0 = .ok (.aload_n 2, 1) := dk_44 (dk_at dksX0_removeTest_0 0 rfl rfl)
theorem dX0_removeTest_1 : decode cX0_removeTest 1 = .ok (.iconst 0, 1) := dk_3 (dk_at dksX0_removeTest_0 1 rfl rfl)
theorem dX0_removeTest_2 : decode cX0_removeTest 2 = .ok (.aload_n 0, 1) := dk_42 (dk_at dksX0_removeTest_0 2 rfl rfl)
theorem dX0_removeTest_3 : decode cX0_removeTest 3 = .ok (.iload_n 1, 1) := dk_27 (dk_at dksX0_removeTest_0 3 rfl rfl)
theorem dX0_removeTest_4 : decode cX0_removeTest 4 = .ok (.invokevirtual 21, 3) := dk_182 0 21 (dk_at dksX0_removeTest_0 4 rfl rfl)
theorem dX0_removeTest_7 : decode cX0_removeTest 7 = .ok (.i2l, 1) := dk_133 (dk_at dksX0_removeTest_0 7 rfl rfl)
theorem dX0_removeTest_8 : decode cX0_removeTest 8 = .ok (.lastore, 1) := dk_80 (dk_at dksX0_removeTest_0 8 rfl rfl)
theorem dX0_removeTest_9 : decode cX0_removeTest 9 = .ok (.goto 6, 3) := dk_167 0 6 (dk_at dksX0_removeTest_0 9 rfl rfl)
theorem dX0_removeTest_12 : decode cX0_removeTest 12 = .ok (.astore_n 3, 1) := dk_78 (dk_at dksX0_removeTest_0 12 rfl rfl)
theorem dX0_removeTest_13 : decode cX0_removeTest 13 = .ok (.iconst 1, 1) := dk_4 (dk_at dksX0_removeTest_0 13 rfl rfl)
theorem dX0_removeTest_14 : decode cX0_removeTest 14 = .ok (.ireturn, 1) := dk_172 (dk_at dksX0_removeTest_0 14 rfl rfl)
theorem dX0_removeTest_15 : decode cX0_removeTest 15 = .ok (.iconst 0, 1) := dk_3 (dk_at dksX0_removeTest_0 15 rfl rfl)
theorem dX0_removeTest_16 : decode cX0_removeTest 16 = .ok (.ireturn, 1) := dk_172 (dk_at dksX0_removeTest_0 16 rfl rfl)
abbrev cX0_thresholdOn : ByteArray := method_6_code
def yX0_thresholdOn : MethodName := ⟨RX0, "thresholdOn", "(LTrainingDiary;I[J)I"⟩
def dkwX0_thresholdOn_0 : List UInt8 := [44, 3, 42, 27, 182, 0, 26, 133, 80, 167, 0, 6, 78, 4, 172, 3, 172]
abbrev dktX0_thresholdOn_0 : List UInt8 := dkwX0_thresholdOn_0 ++ []
theorem dksX0_thresholdOn_0 : cX0_thresholdOn.data.toList.drop 0 = dktX0_thresholdOn_0 := by decide +kernel
theorem dX0_thresholdOn_0 : decode cX0_thresholdOn 0 = .ok (.aload_n 2, 1) := dk_44 (dk_at dksX0_thresholdOn_0 0 rfl rfl)
theorem dX0_thresholdOn_1 : decode cX0_thresholdOn 1 = .ok (.iconst 0, 1) := dk_3 (dk_at dksX0_thresholdOn_0 1 rfl rfl)
theorem dX0_thresholdOn_2 : decode cX0_thresholdOn 2 = .ok (.aload_n 0, 1) := dk_42 (dk_at dksX0_thresholdOn_0 2 rfl rfl)
theorem dX0_thresholdOn_3 : decode cX0_thresholdOn 3 = .ok (.iload_n 1, 1) := dk_27 (dk_at dksX0_thresholdOn_0 3 rfl rfl)
theorem dX0_thresholdOn_4 : decode cX0_thresholdOn 4 = .ok (.invokevirtual 26, 3) := dk_182 0 26 (dk_at dksX0_thresholdOn_0 4 rfl rfl)
theorem dX0_thresholdOn_7 : decode cX0_thresholdOn 7 = .ok (.i2l, 1) := dk_133 (dk_at dksX0_thresholdOn_0 7 rfl rfl)
theorem dX0_thresholdOn_8 : decode cX0_thresholdOn 8 = .ok (.lastore, 1) := dk_80 (dk_at dksX0_thresholdOn_0 8 rfl rfl)
theorem dX0_thresholdOn_9 : decode cX0_thresholdOn 9 = .ok (.goto 6, 3) := dk_167 0 6 (dk_at dksX0_thresholdOn_0 9 rfl rfl)
theorem dX0_thresholdOn_12 : decode cX0_thresholdOn 12 = .ok (.astore_n 3, 1) := dk_78 (dk_at dksX0_thresholdOn_0 12 rfl rfl)
theorem dX0_thresholdOn_13 : decode cX0_thresholdOn 13 = .ok (.iconst 1, 1) := dk_4 (dk_at dksX0_thresholdOn_0 13 rfl rfl)
theorem dX0_thresholdOn_14 : decode cX0_thresholdOn 14 = .ok (.ireturn, 1) := dk_172 (dk_at dksX0_thresholdOn_0 14 rfl rfl)
theorem dX0_thresholdOn_15 : decode cX0_thresholdOn 15 = .ok (.iconst 0, 1) := dk_3 (dk_at dksX0_thresholdOn_0 15 rfl rfl)
theorem dX0_thresholdOn_16 : decode cX0_thresholdOn 16 = .ok (.ireturn, 1) := dk_172 (dk_at dksX0_thresholdOn_0 16 rfl rfl)
abbrev cX0_setBound : ByteArray := method_7_code
def yX0_setBound : MethodName := ⟨RX0, "setBound", "(LTrainingDiary;II[J)I"⟩
def dkwX0_setBound_0 : List UInt8 := [45, 3, 42, 27, 28, 182, 0, 29, 133, 80, 167, 0, 11, 58, 4, 4, 172, 58, 4, 5, 172, 3, 172]
abbrev dktX0_setBound_0 : List UInt8 := dkwX0_setBound_0 ++ []
theorem dksX0_setBound_0 : cX0_setBound.data.toList.drop 0 = dktX0_setBound_0 := by decide +kernel
theorem dX0_setBound_0 : decode cX0_setBound 0 = .ok (.aload_n 3, 1) := dk_45 (dk_at dksX0_setBound_0 0 rfl rfl)
theorem dX0_setBound_1 : decode cX0_setBound 1 = .ok (.iconst 0, 1) := dk_3 (dk_at dksX0_setBound_0 1 rfl rfl)
theorem dX0_setBound_2 : decode cX0_setBound 2 = .ok (.aload_n 0, 1) := dk_42 (dk_at dksX0_setBound_0 2 rfl rfl)
theorem dX0_setBound_3 : decode cX0_setBound 3 = .ok (.iload_n 1, 1) := dk_27 (dk_at dksX0_setBound_0 3 rfl rfl)
theorem dX0_setBound_4 : decode cX0_setBound 4 = .ok (.iload_n 2, 1) := dk_28 (dk_at dksX0_setBound_0 4 rfl rfl)
theorem dX0_setBound_5 : decode cX0_setBound 5 = .ok (.invokevirtual 29, 3) := dk_182 0 29 (dk_at dksX0_setBound_0 5 rfl rfl)
theorem dX0_setBound_8 : decode cX0_setBound 8 = .ok (.i2l, 1) := dk_133 (dk_at dksX0_setBound_0 8 rfl rfl)
theorem dX0_setBound_9 : decode cX0_setBound 9 = .ok (.lastore, 1) := dk_80 (dk_at dksX0_setBound_0 9 rfl rfl)
theorem dX0_setBound_10 : decode cX0_setBound 10 = .ok (.goto 11, 3) := dk_167 0 11 (dk_at dksX0_setBound_0 10 rfl rfl)
theorem dX0_setBound_13 : decode cX0_setBound 13 = .ok (.astore 4, 2) := dk_58 4 (dk_at dksX0_setBound_0 13 rfl rfl)
theorem dX0_setBound_15 : decode cX0_setBound 15 = .ok (.iconst 1, 1) := dk_4 (dk_at dksX0_setBound_0 15 rfl rfl)
theorem dX0_setBound_16 : decode cX0_setBound 16 = .ok (.ireturn, 1) := dk_172 (dk_at dksX0_setBound_0 16 rfl rfl)
theorem dX0_setBound_17 : decode cX0_setBound 17 = .ok (.astore 4, 2) := dk_58 4 (dk_at dksX0_setBound_0 17 rfl rfl)
theorem dX0_setBound_19 : decode cX0_setBound 19 = .ok (.iconst 2, 1) := dk_5 (dk_at dksX0_setBound_0 19 rfl rfl)
theorem dX0_setBound_20 : decode cX0_setBound 20 = .ok (.ireturn, 1) := dk_172 (dk_at dksX0_setBound_0 20 rfl rfl)
theorem dX0_setBound_21 : decode cX0_setBound 21 = .ok (.iconst 0, 1) := dk_3 (dk_at dksX0_setBound_0 21 rfl rfl)
theorem dX0_setBound_22 : decode cX0_setBound 22 = .ok (.ireturn, 1) := dk_172 (dk_at dksX0_setBound_0 22 rfl rfl)
abbrev cX0_boundOf : ByteArray := method_8_code
def yX0_boundOf : MethodName := ⟨RX0, "boundOf", "(LTrainingDiary;I[J)I"⟩
def dkwX0_boundOf_0 : List UInt8 := [44, 3, 42, 27, 182, 0, 32, 133, 80, 167, 0, 6, 78, 4, 172, 3, 172]
abbrev dktX0_boundOf_0 : List UInt8 := dkwX0_boundOf_0 ++ []
theorem dksX0_boundOf_0 : cX0_boundOf.data.toList.drop 0 = dktX0_boundOf_0 := by decide +kernel
theorem dX0_boundOf_0 : decode cX0_boundOf 0 = .ok (.aload_n 2, 1) := dk_44 (dk_at dksX0_boundOf_0 0 rfl rfl)
theorem dX0_boundOf_1 : decode cX0_boundOf 1 = .ok (.iconst 0, 1) := dk_3 (dk_at dksX0_boundOf_0 1 rfl rfl)
theorem dX0_boundOf_2 : decode cX0_boundOf 2 = .ok (.aload_n 0, 1) := dk_42 (dk_at dksX0_boundOf_0 2 rfl rfl)
theorem dX0_boundOf_3 : decode cX0_boundOf 3 = .ok (.iload_n 1, 1) := dk_27 (dk_at dksX0_boundOf_0 3 rfl rfl)
theorem dX0_boundOf_4 : decode cX0_boundOf 4 = .ok (.invokevirtual 32, 3) := dk_182 0 32 (dk_at dksX0_boundOf_0 4 rfl rfl)
theorem dX0_boundOf_7 : decode cX0_boundOf 7 = .ok (.i2l, 1) := dk_133 (dk_at dksX0_boundOf_0 7 rfl rfl)
theorem dX0_boundOf_8 : decode cX0_boundOf 8 = .ok (.lastore, 1) := dk_80 (dk_at dksX0_boundOf_0 8 rfl rfl)
theorem dX0_boundOf_9 : decode cX0_boundOf 9 = .ok (.goto 6, 3) := dk_167 0 6 (dk_at dksX0_boundOf_0 9 rfl rfl)
theorem dX0_boundOf_12 : decode cX0_boundOf 12 = .ok (.astore_n 3, 1) := dk_78 (dk_at dksX0_boundOf_0 12 rfl rfl)
theorem dX0_boundOf_13 : decode cX0_boundOf 13 = .ok (.iconst 1, 1) := dk_4 (dk_at dksX0_boundOf_0 13 rfl rfl)
theorem dX0_boundOf_14 : decode cX0_boundOf 14 = .ok (.ireturn, 1) := dk_172 (dk_at dksX0_boundOf_0 14 rfl rfl)
theorem dX0_boundOf_15 : decode cX0_boundOf 15 = .ok (.iconst 0, 1) := dk_3 (dk_at dksX0_boundOf_0 15 rfl rfl)
theorem dX0_boundOf_16 : decode cX0_boundOf 16 = .ok (.ireturn, 1) := dk_172 (dk_at dksX0_boundOf_0 16 rfl rfl)
abbrev cX0_setWeight : ByteArray := method_9_code
def yX0_setWeight : MethodName := ⟨RX0, "setWeight", "(LTrainingDiary;II[J)I"⟩
def dkwX0_setWeight_0 : List UInt8 := [45, 3, 42, 27, 28, 182, 0, 35, 133, 80, 167, 0, 7, 58, 4, 4, 172, 3, 172]
abbrev dktX0_setWeight_0 : List UInt8 := dkwX0_setWeight_0 ++ []
theorem dksX0_setWeight_0 : cX0_setWeight.data.toList.drop 0 = dktX0_setWeight_0 := by decide +kernel
theorem dX0_setWeight_0 : decode cX0_setWeight 0 = .ok (.aload_n 3, 1) := dk_45 (dk_at dksX0_setWeight_0 0 rfl rfl)
theorem dX0_setWeight_1 : decode cX0_setWeight 1 = .ok (.iconst 0, 1) := dk_3 (dk_at dksX0_setWeight_0 1 rfl rfl)
theorem dX0_setWeight_2 : decode cX0_setWeight 2 = .ok (.aload_n 0, 1) := dk_42 (dk_at dksX0_setWeight_0 2 rfl rfl)
theorem dX0_setWeight_3 : decode cX0_setWeight 3 = .ok (.iload_n 1, 1) := dk_27 (dk_at dksX0_setWeight_0 3 rfl rfl)
theorem dX0_setWeight_4 : decode cX0_setWeight 4 = .ok (.iload_n 2, 1) := dk_28 (dk_at dksX0_setWeight_0 4 rfl rfl)
theorem dX0_setWeight_5 : decode cX0_setWeight 5 = .ok (.invokevirtual 35, 3) := dk_182 0 35 (dk_at dksX0_setWeight_0 5 rfl rfl)
theorem dX0_setWeight_8 : decode cX0_setWeight 8 = .ok (.i2l, 1) := dk_133 (dk_at dksX0_setWeight_0 8 rfl rfl)
theorem dX0_setWeight_9 : decode cX0_setWeight 9 = .ok (.lastore, 1) := dk_80 (dk_at dksX0_setWeight_0 9 rfl rfl)
theorem dX0_setWeight_10 : decode cX0_setWeight 10 = .ok (.goto 7, 3) := dk_167 0 7 (dk_at dksX0_setWeight_0 10 rfl rfl)
theorem dX0_setWeight_13 : decode cX0_setWeight 13 = .ok (.astore 4, 2) := dk_58 4 (dk_at dksX0_setWeight_0 13 rfl rfl)
theorem dX0_setWeight_15 : decode cX0_setWeight 15 = .ok (.iconst 1, 1) := dk_4 (dk_at dksX0_setWeight_0 15 rfl rfl)
theorem dX0_setWeight_16 : decode cX0_setWeight 16 = .ok (.ireturn, 1) := dk_172 (dk_at dksX0_setWeight_0 16 rfl rfl)
theorem dX0_setWeight_17 : decode cX0_setWeight 17 = .ok (.iconst 0, 1) := dk_3 (dk_at dksX0_setWeight_0 17 rfl rfl)
theorem dX0_setWeight_18 : decode cX0_setWeight 18 = .ok (.ireturn, 1) := dk_172 (dk_at dksX0_setWeight_0 18 rfl rfl)
abbrev cX0_weightOf : ByteArray := method_10_code
def yX0_weightOf : MethodName := ⟨RX0, "weightOf", "(LTrainingDiary;I[J)I"⟩
def dkwX0_weightOf_0 : List UInt8 := [44, 3, 42, 27, 182, 0, 38, 133, 80, 167, 0, 6, 78, 4, 172, 3, 172]
abbrev dktX0_weightOf_0 : List UInt8 := dkwX0_weightOf_0 ++ []
theorem dksX0_weightOf_0 : cX0_weightOf.data.toList.drop 0 = dktX0_weightOf_0 := by decide +kernel
theorem dX0_weightOf_0 : decode cX0_weightOf 0 = .ok (.aload_n 2, 1) := dk_44 (dk_at dksX0_weightOf_0 0 rfl rfl)
theorem dX0_weightOf_1 : decode cX0_weightOf 1 = .ok (.iconst 0, 1) := dk_3 (dk_at dksX0_weightOf_0 1 rfl rfl)
theorem dX0_weightOf_2 : decode cX0_weightOf 2 = .ok (.aload_n 0, 1) := dk_42 (dk_at dksX0_weightOf_0 2 rfl rfl)
theorem dX0_weightOf_3 : decode cX0_weightOf 3 = .ok (.iload_n 1, 1) := dk_27 (dk_at dksX0_weightOf_0 3 rfl rfl)
theorem dX0_weightOf_4 : decode cX0_weightOf 4 = .ok (.invokevirtual 38, 3) := dk_182 0 38 (dk_at dksX0_weightOf_0 4 rfl rfl)
theorem dX0_weightOf_7 : decode cX0_weightOf 7 = .ok (.i2l, 1) := dk_133 (dk_at dksX0_weightOf_0 7 rfl rfl)
theorem dX0_weightOf_8 : decode cX0_weightOf 8 = .ok (.lastore, 1) := dk_80 (dk_at dksX0_weightOf_0 8 rfl rfl)
theorem dX0_weightOf_9 : decode cX0_weightOf 9 = .ok (.goto 6, 3) := dk_167 0 6 (dk_at dksX0_weightOf_0 9 rfl rfl)
theorem dX0_weightOf_12 : decode cX0_weightOf 12 = .ok (.astore_n 3, 1) := dk_78 (dk_at dksX0_weightOf_0 12 rfl rfl)
theorem dX0_weightOf_13 : decode cX0_weightOf 13 = .ok (.iconst 1, 1) := dk_4 (dk_at dksX0_weightOf_0 13 rfl rfl)
theorem dX0_weightOf_14 : decode cX0_weightOf 14 = .ok (.ireturn, 1) := dk_172 (dk_at dksX0_weightOf_0 14 rfl rfl)
theorem dX0_weightOf_15 : decode cX0_weightOf 15 = .ok (.iconst 0, 1) := dk_3 (dk_at dksX0_weightOf_0 15 rfl rfl)
theorem dX0_weightOf_16 : decode cX0_weightOf 16 = .ok (.ireturn, 1) := dk_172 (dk_at dksX0_weightOf_0 16 rfl rfl)
abbrev cX0_zoneOf : ByteArray := method_11_code
def yX0_zoneOf : MethodName := ⟨RX0, "zoneOf", "(LTrainingDiary;II[J)I"⟩
def dkwX0_zoneOf_0 : List UInt8 := [45, 3, 42, 27, 28, 182, 0, 41, 133, 80, 167, 0, 7, 58, 4, 4, 172, 3, 172]
abbrev dktX0_zoneOf_0 : List UInt8 := dkwX0_zoneOf_0 ++ []
theorem dksX0_zoneOf_0 : cX0_zoneOf.data.toList.drop 0 = dktX0_zoneOf_0 := by decide +kernel
theorem dX0_zoneOf_0 : decode cX0_zoneOf 0 = .ok (.aload_n 3, 1) := dk_45 (dk_at dksX0_zoneOf_0 0 rfl rfl)
theorem dX0_zoneOf_1 : decode cX0_zoneOf 1 = .ok (.iconst 0, 1) := dk_3 (dk_at dksX0_zoneOf_0 1 rfl rfl)
theorem dX0_zoneOf_2 : decode cX0_zoneOf 2 = .ok (.aload_n 0, 1) := dk_42 (dk_at dksX0_zoneOf_0 2 rfl rfl)
theorem dX0_zoneOf_3 : decode cX0_zoneOf 3 = .ok (.iload_n 1, 1) := dk_27 (dk_at dksX0_zoneOf_0 3 rfl rfl)
theorem dX0_zoneOf_4 : decode cX0_zoneOf 4 = .ok (.iload_n 2, 1) := dk_28 (dk_at dksX0_zoneOf_0 4 rfl rfl)
theorem dX0_zoneOf_5 : decode cX0_zoneOf 5 = .ok (.invokevirtual 41, 3) := dk_182 0 41 (dk_at dksX0_zoneOf_0 5 rfl rfl)
theorem dX0_zoneOf_8 : decode cX0_zoneOf 8 = .ok (.i2l, 1) := dk_133 (dk_at dksX0_zoneOf_0 8 rfl rfl)
theorem dX0_zoneOf_9 : decode cX0_zoneOf 9 = .ok (.lastore, 1) := dk_80 (dk_at dksX0_zoneOf_0 9 rfl rfl)
theorem dX0_zoneOf_10 : decode cX0_zoneOf 10 = .ok (.goto 7, 3) := dk_167 0 7 (dk_at dksX0_zoneOf_0 10 rfl rfl)
theorem dX0_zoneOf_13 : decode cX0_zoneOf 13 = .ok (.astore 4, 2) := dk_58 4 (dk_at dksX0_zoneOf_0 13 rfl rfl)
theorem dX0_zoneOf_15 : decode cX0_zoneOf 15 = .ok (.iconst 1, 1) := dk_4 (dk_at dksX0_zoneOf_0 15 rfl rfl)
theorem dX0_zoneOf_16 : decode cX0_zoneOf 16 = .ok (.ireturn, 1) := dk_172 (dk_at dksX0_zoneOf_0 16 rfl rfl)
theorem dX0_zoneOf_17 : decode cX0_zoneOf 17 = .ok (.iconst 0, 1) := dk_3 (dk_at dksX0_zoneOf_0 17 rfl rfl)
theorem dX0_zoneOf_18 : decode cX0_zoneOf 18 = .ok (.ireturn, 1) := dk_172 (dk_at dksX0_zoneOf_0 18 rfl rfl)
abbrev cX0_addSession : ByteArray := method_12_code
def yX0_addSession : MethodName := ⟨RX0, "addSession", "(LTrainingDiary;I[J)I"⟩
def dkwX0_addSession_0 : List UInt8 := [44, 3, 42, 27, 182, 0, 44, 133, 80, 167, 0, 9, 78, 4, 172, 78, 5, 172, 3, 172]
abbrev dktX0_addSession_0 : List UInt8 := dkwX0_addSession_0 ++ []
theorem dksX0_addSession_0 : cX0_addSession.data.toList.drop 0 = dktX0_addSession_0 := by decide +kernel
theorem dX0_addSession_0 : decode cX0_addSession 0 = .ok (.aload_n 2, 1) := dk_44 (dk_at dksX0_addSession_0 0 rfl rfl)
theorem dX0_addSession_1 : decode cX0_addSession 1 = .ok (.iconst 0, 1) := dk_3 (dk_at dksX0_addSession_0 1 rfl rfl)
theorem dX0_addSession_2 : decode cX0_addSession 2 = .ok (.aload_n 0, 1) := dk_42 (dk_at dksX0_addSession_0 2 rfl rfl)
theorem dX0_addSession_3 : decode cX0_addSession 3 = .ok (.iload_n 1, 1) := dk_27 (dk_at dksX0_addSession_0 3 rfl rfl)
theorem dX0_addSession_4 : decode cX0_addSession 4 = .ok (.invokevirtual 44, 3) := dk_182 0 44 (dk_at dksX0_addSession_0 4 rfl rfl)
theorem dX0_addSession_7 : decode cX0_addSession 7 = .ok (.i2l, 1) := dk_133 (dk_at dksX0_addSession_0 7 rfl rfl)
theorem dX0_addSession_8 : decode cX0_addSession 8 = .ok (.lastore, 1) := dk_80 (dk_at dksX0_addSession_0 8 rfl rfl)
theorem dX0_addSession_9 : decode cX0_addSession 9 = .ok (.goto 9, 3) := dk_167 0 9 (dk_at dksX0_addSession_0 9 rfl rfl)
theorem dX0_addSession_12 : decode cX0_addSession 12 = .ok (.astore_n 3, 1) := dk_78 (dk_at dksX0_addSession_0 12 rfl rfl)
theorem dX0_addSession_13 : decode cX0_addSession 13 = .ok (.iconst 1, 1) := dk_4 (dk_at dksX0_addSession_0 13 rfl rfl)
theorem dX0_addSession_14 : decode cX0_addSession 14 = .ok (.ireturn, 1) := dk_172 (dk_at dksX0_addSession_0 14 rfl rfl)
theorem dX0_addSession_15 : decode cX0_addSession 15 = .ok (.astore_n 3, 1) := dk_78 (dk_at dksX0_addSession_0 15 rfl rfl)
theorem dX0_addSession_16 : decode cX0_addSession 16 = .ok (.iconst 2, 1) := dk_5 (dk_at dksX0_addSession_0 16 rfl rfl)
theorem dX0_addSession_17 : decode cX0_addSession 17 = .ok (.ireturn, 1) := dk_172 (dk_at dksX0_addSession_0 17 rfl rfl)
theorem dX0_addSession_18 : decode cX0_addSession 18 = .ok (.iconst 0, 1) := dk_3 (dk_at dksX0_addSession_0 18 rfl rfl)
theorem dX0_addSession_19 : decode cX0_addSession 19 = .ok (.ireturn, 1) := dk_172 (dk_at dksX0_addSession_0 19 rfl rfl)
abbrev cX0_addPart : ByteArray := method_13_code
def yX0_addPart : MethodName := ⟨RX0, "addPart", "(LTrainingDiary;III[J)I"⟩
def dkwX0_addPart_1 : List UInt8 := [58, 5, 6, 172, 3, 172]
abbrev dktX0_addPart_1 : List UInt8 := dkwX0_addPart_1 ++ []
def dkwX0_addPart_0 : List UInt8 := [25, 4, 3, 42, 27, 28, 29, 182, 0, 47, 133, 80, 167, 0, 15, 58, 5, 4, 172, 58, 5, 5, 172]
abbrev dktX0_addPart_0 : List UInt8 := dkwX0_addPart_0 ++ dktX0_addPart_1
theorem dksX0_addPart_0 : cX0_addPart.data.toList.drop 0 = dktX0_addPart_0 := by decide +kernel
theorem dksX0_addPart_1 : cX0_addPart.data.toList.drop 23 = dktX0_addPart_1 := dk_seg dksX0_addPart_0 23 rfl rfl
theorem dX0_addPart_0 : decode cX0_addPart 0 = .ok (.aload 4, 2) := dk_25 4 (dk_at dksX0_addPart_0 0 rfl rfl)
theorem dX0_addPart_2 : decode cX0_addPart 2 = .ok (.iconst 0, 1) := dk_3 (dk_at dksX0_addPart_0 2 rfl rfl)
theorem dX0_addPart_3 : decode cX0_addPart 3 = .ok (.aload_n 0, 1) := dk_42 (dk_at dksX0_addPart_0 3 rfl rfl)
theorem dX0_addPart_4 : decode cX0_addPart 4 = .ok (.iload_n 1, 1) := dk_27 (dk_at dksX0_addPart_0 4 rfl rfl)
theorem dX0_addPart_5 : decode cX0_addPart 5 = .ok (.iload_n 2, 1) := dk_28 (dk_at dksX0_addPart_0 5 rfl rfl)
theorem dX0_addPart_6 : decode cX0_addPart 6 = .ok (.iload_n 3, 1) := dk_29 (dk_at dksX0_addPart_0 6 rfl rfl)
theorem dX0_addPart_7 : decode cX0_addPart 7 = .ok (.invokevirtual 47, 3) := dk_182 0 47 (dk_at dksX0_addPart_0 7 rfl rfl)
theorem dX0_addPart_10 : decode cX0_addPart 10 = .ok (.i2l, 1) := dk_133 (dk_at dksX0_addPart_0 10 rfl rfl)
theorem dX0_addPart_11 : decode cX0_addPart 11 = .ok (.lastore, 1) := dk_80 (dk_at dksX0_addPart_0 11 rfl rfl)
theorem dX0_addPart_12 : decode cX0_addPart 12 = .ok (.goto 15, 3) := dk_167 0 15 (dk_at dksX0_addPart_0 12 rfl rfl)
theorem dX0_addPart_15 : decode cX0_addPart 15 = .ok (.astore 5, 2) := dk_58 5 (dk_at dksX0_addPart_0 15 rfl rfl)
theorem dX0_addPart_17 : decode cX0_addPart 17 = .ok (.iconst 1, 1) := dk_4 (dk_at dksX0_addPart_0 17 rfl rfl)
theorem dX0_addPart_18 : decode cX0_addPart 18 = .ok (.ireturn, 1) := dk_172 (dk_at dksX0_addPart_0 18 rfl rfl)
theorem dX0_addPart_19 : decode cX0_addPart 19 = .ok (.astore 5, 2) := dk_58 5 (dk_at dksX0_addPart_0 19 rfl rfl)
theorem dX0_addPart_21 : decode cX0_addPart 21 = .ok (.iconst 2, 1) := dk_5 (dk_at dksX0_addPart_0 21 rfl rfl)
theorem dX0_addPart_22 : decode cX0_addPart 22 = .ok (.ireturn, 1) := dk_172 (dk_at dksX0_addPart_0 22 rfl rfl)
theorem dX0_addPart_23 : decode cX0_addPart 23 = .ok (.astore 5, 2) := dk_58 5 (dk_at dksX0_addPart_1 0 rfl rfl)
theorem dX0_addPart_25 : decode cX0_addPart 25 = .ok (.iconst 3, 1) := dk_6 (dk_at dksX0_addPart_1 2 rfl rfl)
theorem dX0_addPart_26 : decode cX0_addPart 26 = .ok (.ireturn, 1) := dk_172 (dk_at dksX0_addPart_1 3 rfl rfl)
theorem dX0_addPart_27 : decode cX0_addPart 27 = .ok (.iconst 0, 1) := dk_3 (dk_at dksX0_addPart_1 4 rfl rfl)
theorem dX0_addPart_28 : decode cX0_addPart 28 = .ok (.ireturn, 1) := dk_172 (dk_at dksX0_addPart_1 5 rfl rfl)
abbrev cX0_clearParts : ByteArray := method_14_code
def yX0_clearParts : MethodName := ⟨RX0, "clearParts", "(LTrainingDiary;I[J)I"⟩
def dkwX0_clearParts_0 : List UInt8 := [44, 3, 42, 27, 182, 0, 51, 133, 80, 167, 0, 6, 78, 4, 172, 3, 172]
abbrev dktX0_clearParts_0 : List UInt8 := dkwX0_clearParts_0 ++ []
theorem dksX0_clearParts_0 : cX0_clearParts.data.toList.drop 0 = dktX0_clearParts_0 := by decide +kernel
theorem dX0_clearParts_0 : decode cX0_clearParts 0 = .ok (.aload_n 2, 1) := dk_44 (dk_at dksX0_clearParts_0 0 rfl rfl)
theorem dX0_clearParts_1 : decode cX0_clearParts 1 = .ok (.iconst 0, 1) := dk_3 (dk_at dksX0_clearParts_0 1 rfl rfl)
theorem dX0_clearParts_2 : decode cX0_clearParts 2 = .ok (.aload_n 0, 1) := dk_42 (dk_at dksX0_clearParts_0 2 rfl rfl)
theorem dX0_clearParts_3 : decode cX0_clearParts 3 = .ok (.iload_n 1, 1) := dk_27 (dk_at dksX0_clearParts_0 3 rfl rfl)
theorem dX0_clearParts_4 : decode cX0_clearParts 4 = .ok (.invokevirtual 51, 3) := dk_182 0 51 (dk_at dksX0_clearParts_0 4 rfl rfl)
theorem dX0_clearParts_7 : decode cX0_clearParts 7 = .ok (.i2l, 1) := dk_133 (dk_at dksX0_clearParts_0 7 rfl rfl)
theorem dX0_clearParts_8 : decode cX0_clearParts 8 = .ok (.lastore, 1) := dk_80 (dk_at dksX0_clearParts_0 8 rfl rfl)
theorem dX0_clearParts_9 : decode cX0_clearParts 9 = .ok (.goto 6, 3) := dk_167 0 6 (dk_at dksX0_clearParts_0 9 rfl rfl)
theorem dX0_clearParts_12 : decode cX0_clearParts 12 = .ok (.astore_n 3, 1) := dk_78 (dk_at dksX0_clearParts_0 12 rfl rfl)
theorem dX0_clearParts_13 : decode cX0_clearParts 13 = .ok (.iconst 1, 1) := dk_4 (dk_at dksX0_clearParts_0 13 rfl rfl)
theorem dX0_clearParts_14 : decode cX0_clearParts 14 = .ok (.ireturn, 1) := dk_172 (dk_at dksX0_clearParts_0 14 rfl rfl)
theorem dX0_clearParts_15 : decode cX0_clearParts 15 = .ok (.iconst 0, 1) := dk_3 (dk_at dksX0_clearParts_0 15 rfl rfl)
theorem dX0_clearParts_16 : decode cX0_clearParts 16 = .ok (.ireturn, 1) := dk_172 (dk_at dksX0_clearParts_0 16 rfl rfl)
abbrev cX0_moveSession : ByteArray := method_15_code
def yX0_moveSession : MethodName := ⟨RX0, "moveSession", "(LTrainingDiary;II[J)I"⟩
def dkwX0_moveSession_0 : List UInt8 := [45, 3, 42, 27, 28, 182, 0, 54, 133, 80, 167, 0, 11, 58, 4, 4, 172, 58, 4, 5, 172, 3, 172]
abbrev dktX0_moveSession_0 : List UInt8 := dkwX0_moveSession_0 ++ []
theorem dksX0_moveSession_0 : cX0_moveSession.data.toList.drop 0 = dktX0_moveSession_0 := by decide +kernel
theorem dX0_moveSession_0 : decode cX0_moveSession 0 = .ok (.aload_n 3, 1) := dk_45 (dk_at dksX0_moveSession_0 0 rfl rfl)
theorem dX0_moveSession_1 : decode cX0_moveSession 1 = .ok (.iconst 0, 1) := dk_3 (dk_at dksX0_moveSession_0 1 rfl rfl)
theorem dX0_moveSession_2 : decode cX0_moveSession 2 = .ok (.aload_n 0, 1) := dk_42 (dk_at dksX0_moveSession_0 2 rfl rfl)
theorem dX0_moveSession_3 : decode cX0_moveSession 3 = .ok (.iload_n 1, 1) := dk_27 (dk_at dksX0_moveSession_0 3 rfl rfl)
theorem dX0_moveSession_4 : decode cX0_moveSession 4 = .ok (.iload_n 2, 1) := dk_28 (dk_at dksX0_moveSession_0 4 rfl rfl)
theorem dX0_moveSession_5 : decode cX0_moveSession 5 = .ok (.invokevirtual 54, 3) := dk_182 0 54 (dk_at dksX0_moveSession_0 5 rfl rfl)
theorem dX0_moveSession_8 : decode cX0_moveSession 8 = .ok (.i2l, 1) := dk_133 (dk_at dksX0_moveSession_0 8 rfl rfl)
theorem dX0_moveSession_9 : decode cX0_moveSession 9 = .ok (.lastore, 1) := dk_80 (dk_at dksX0_moveSession_0 9 rfl rfl)
theorem dX0_moveSession_10 : decode cX0_moveSession 10 = .ok (.goto 11, 3) := dk_167 0 11 (dk_at dksX0_moveSession_0 10 rfl rfl)
theorem dX0_moveSession_13 : decode cX0_moveSession 13 = .ok (.astore 4, 2) := dk_58 4 (dk_at dksX0_moveSession_0 13 rfl rfl)
theorem dX0_moveSession_15 : decode cX0_moveSession 15 = .ok (.iconst 1, 1) := dk_4 (dk_at dksX0_moveSession_0 15 rfl rfl)
theorem dX0_moveSession_16 : decode cX0_moveSession 16 = .ok (.ireturn, 1) := dk_172 (dk_at dksX0_moveSession_0 16 rfl rfl)
theorem dX0_moveSession_17 : decode cX0_moveSession 17 = .ok (.astore 4, 2) := dk_58 4 (dk_at dksX0_moveSession_0 17 rfl rfl)
theorem dX0_moveSession_19 : decode cX0_moveSession 19 = .ok (.iconst 2, 1) := dk_5 (dk_at dksX0_moveSession_0 19 rfl rfl)
theorem dX0_moveSession_20 : decode cX0_moveSession 20 = .ok (.ireturn, 1) := dk_172 (dk_at dksX0_moveSession_0 20 rfl rfl)
theorem dX0_moveSession_21 : decode cX0_moveSession 21 = .ok (.iconst 0, 1) := dk_3 (dk_at dksX0_moveSession_0 21 rfl rfl)
theorem dX0_moveSession_22 : decode cX0_moveSession 22 = .ok (.ireturn, 1) := dk_172 (dk_at dksX0_moveSession_0 22 rfl rfl)
abbrev cX0_removeSession : ByteArray := method_16_code
def yX0_removeSession : MethodName := ⟨RX0, "removeSession", "(LTrainingDiary;I[J)I"⟩
def dkwX0_removeSession_0 : List UInt8 := [44, 3, 42, 27, 182, 0, 57, 133, 80, 167, 0, 6, 78, 4, 172, 3, 172]
abbrev dktX0_removeSession_0 : List UInt8 := dkwX0_removeSession_0 ++ []
theorem dksX0_removeSession_0 : cX0_removeSession.data.toList.drop 0 = dktX0_removeSession_0 := by decide +kernel
theorem dX0_removeSession_0 : decode cX0_removeSession 0 = .ok (.aload_n 2, 1) := dk_44 (dk_at dksX0_removeSession_0 0 rfl rfl)
theorem dX0_removeSession_1 : decode cX0_removeSession 1 = .ok (.iconst 0, 1) := dk_3 (dk_at dksX0_removeSession_0 1 rfl rfl)
theorem dX0_removeSession_2 : decode cX0_removeSession 2 = .ok (.aload_n 0, 1) := dk_42 (dk_at dksX0_removeSession_0 2 rfl rfl)
theorem dX0_removeSession_3 : decode cX0_removeSession 3 = .ok (.iload_n 1, 1) := dk_27 (dk_at dksX0_removeSession_0 3 rfl rfl)
theorem dX0_removeSession_4 : decode cX0_removeSession 4 = .ok (.invokevirtual 57, 3) := dk_182 0 57 (dk_at dksX0_removeSession_0 4 rfl rfl)
theorem dX0_removeSession_7 : decode cX0_removeSession 7 = .ok (.i2l, 1) := dk_133 (dk_at dksX0_removeSession_0 7 rfl rfl)
theorem dX0_removeSession_8 : decode cX0_removeSession 8 = .ok (.lastore, 1) := dk_80 (dk_at dksX0_removeSession_0 8 rfl rfl)
theorem dX0_removeSession_9 : decode cX0_removeSession 9 = .ok (.goto 6, 3) := dk_167 0 6 (dk_at dksX0_removeSession_0 9 rfl rfl)
theorem dX0_removeSession_12 : decode cX0_removeSession 12 = .ok (.astore_n 3, 1) := dk_78 (dk_at dksX0_removeSession_0 12 rfl rfl)
theorem dX0_removeSession_13 : decode cX0_removeSession 13 = .ok (.iconst 1, 1) := dk_4 (dk_at dksX0_removeSession_0 13 rfl rfl)
theorem dX0_removeSession_14 : decode cX0_removeSession 14 = .ok (.ireturn, 1) := dk_172 (dk_at dksX0_removeSession_0 14 rfl rfl)
theorem dX0_removeSession_15 : decode cX0_removeSession 15 = .ok (.iconst 0, 1) := dk_3 (dk_at dksX0_removeSession_0 15 rfl rfl)
theorem dX0_removeSession_16 : decode cX0_removeSession 16 = .ok (.ireturn, 1) := dk_172 (dk_at dksX0_removeSession_0 16 rfl rfl)
abbrev cX0_sessionAt : ByteArray := method_17_code
def yX0_sessionAt : MethodName := ⟨RX0, "sessionAt", "(LTrainingDiary;I[J)I"⟩
def dkwX0_sessionAt_0 : List UInt8 := [44, 3, 42, 27, 182, 0, 60, 133, 80, 167, 0, 6, 78, 4, 172, 3, 172]
abbrev dktX0_sessionAt_0 : List UInt8 := dkwX0_sessionAt_0 ++ []
theorem dksX0_sessionAt_0 : cX0_sessionAt.data.toList.drop 0 = dktX0_sessionAt_0 := by decide +kernel
theorem dX0_sessionAt_0 : decode cX0_sessionAt 0 = .ok (.aload_n 2, 1) := dk_44 (dk_at dksX0_sessionAt_0 0 rfl rfl)
theorem dX0_sessionAt_1 : decode cX0_sessionAt 1 = .ok (.iconst 0, 1) := dk_3 (dk_at dksX0_sessionAt_0 1 rfl rfl)
theorem dX0_sessionAt_2 : decode cX0_sessionAt 2 = .ok (.aload_n 0, 1) := dk_42 (dk_at dksX0_sessionAt_0 2 rfl rfl)
theorem dX0_sessionAt_3 : decode cX0_sessionAt 3 = .ok (.iload_n 1, 1) := dk_27 (dk_at dksX0_sessionAt_0 3 rfl rfl)
theorem dX0_sessionAt_4 : decode cX0_sessionAt 4 = .ok (.invokevirtual 60, 3) := dk_182 0 60 (dk_at dksX0_sessionAt_0 4 rfl rfl)
theorem dX0_sessionAt_7 : decode cX0_sessionAt 7 = .ok (.i2l, 1) := dk_133 (dk_at dksX0_sessionAt_0 7 rfl rfl)
theorem dX0_sessionAt_8 : decode cX0_sessionAt 8 = .ok (.lastore, 1) := dk_80 (dk_at dksX0_sessionAt_0 8 rfl rfl)
theorem dX0_sessionAt_9 : decode cX0_sessionAt 9 = .ok (.goto 6, 3) := dk_167 0 6 (dk_at dksX0_sessionAt_0 9 rfl rfl)
theorem dX0_sessionAt_12 : decode cX0_sessionAt 12 = .ok (.astore_n 3, 1) := dk_78 (dk_at dksX0_sessionAt_0 12 rfl rfl)
theorem dX0_sessionAt_13 : decode cX0_sessionAt 13 = .ok (.iconst 1, 1) := dk_4 (dk_at dksX0_sessionAt_0 13 rfl rfl)
theorem dX0_sessionAt_14 : decode cX0_sessionAt 14 = .ok (.ireturn, 1) := dk_172 (dk_at dksX0_sessionAt_0 14 rfl rfl)
theorem dX0_sessionAt_15 : decode cX0_sessionAt 15 = .ok (.iconst 0, 1) := dk_3 (dk_at dksX0_sessionAt_0 15 rfl rfl)
theorem dX0_sessionAt_16 : decode cX0_sessionAt 16 = .ok (.ireturn, 1) := dk_172 (dk_at dksX0_sessionAt_0 16 rfl rfl)
abbrev cX0_dayOf : ByteArray := method_18_code
def yX0_dayOf : MethodName := ⟨RX0, "dayOf", "(LTrainingDiary;I[J)I"⟩
def dkwX0_dayOf_0 : List UInt8 := [44, 3, 42, 27, 182, 0, 65, 133, 80, 167, 0, 6, 78, 4, 172, 3, 172]
abbrev dktX0_dayOf_0 : List UInt8 := dkwX0_dayOf_0 ++ []
theorem dksX0_dayOf_0 : cX0_dayOf.data.toList.drop 0 = dktX0_dayOf_0 := by decide +kernel
theorem dX0_dayOf_0 : decode cX0_dayOf 0 = .ok (.aload_n 2, 1) := dk_44 (dk_at dksX0_dayOf_0 0 rfl rfl)
theorem dX0_dayOf_1 : decode cX0_dayOf 1 = .ok (.iconst 0, 1) := dk_3 (dk_at dksX0_dayOf_0 1 rfl rfl)
theorem dX0_dayOf_2 : decode cX0_dayOf 2 = .ok (.aload_n 0, 1) := dk_42 (dk_at dksX0_dayOf_0 2 rfl rfl)
theorem dX0_dayOf_3 : decode cX0_dayOf 3 = .ok (.iload_n 1, 1) := dk_27 (dk_at dksX0_dayOf_0 3 rfl rfl)
theorem dX0_dayOf_4 : decode cX0_dayOf 4 = .ok (.invokevirtual 65, 3) := dk_182 0 65 (dk_at dksX0_dayOf_0 4 rfl rfl)
theorem dX0_dayOf_7 : decode cX0_dayOf 7 = .ok (.i2l, 1) := dk_133 (dk_at dksX0_dayOf_0 7 rfl rfl)
theorem dX0_dayOf_8 : decode cX0_dayOf 8 = .ok (.lastore, 1) := dk_80 (dk_at dksX0_dayOf_0 8 rfl rfl)
theorem dX0_dayOf_9 : decode cX0_dayOf 9 = .ok (.goto 6, 3) := dk_167 0 6 (dk_at dksX0_dayOf_0 9 rfl rfl)
theorem dX0_dayOf_12 : decode cX0_dayOf 12 = .ok (.astore_n 3, 1) := dk_78 (dk_at dksX0_dayOf_0 12 rfl rfl)
theorem dX0_dayOf_13 : decode cX0_dayOf 13 = .ok (.iconst 1, 1) := dk_4 (dk_at dksX0_dayOf_0 13 rfl rfl)
theorem dX0_dayOf_14 : decode cX0_dayOf 14 = .ok (.ireturn, 1) := dk_172 (dk_at dksX0_dayOf_0 14 rfl rfl)
theorem dX0_dayOf_15 : decode cX0_dayOf 15 = .ok (.iconst 0, 1) := dk_3 (dk_at dksX0_dayOf_0 15 rfl rfl)
theorem dX0_dayOf_16 : decode cX0_dayOf 16 = .ok (.ireturn, 1) := dk_172 (dk_at dksX0_dayOf_0 16 rfl rfl)
abbrev cX0_minutesOf : ByteArray := method_19_code
def yX0_minutesOf : MethodName := ⟨RX0, "minutesOf", "(LTrainingDiary;I[J)I"⟩
def dkwX0_minutesOf_0 : List UInt8 := [44, 3, 42, 27, 182, 0, 68, 133, 80, 167, 0, 6, 78, 4, 172, 3, 172]
abbrev dktX0_minutesOf_0 : List UInt8 := dkwX0_minutesOf_0 ++ []
theorem dksX0_minutesOf_0 : cX0_minutesOf.data.toList.drop 0 = dktX0_minutesOf_0 := by decide +kernel
theorem dX0_minutesOf_0 : decode cX0_minutesOf 0 = .ok (.aload_n 2, 1) := dk_44 (dk_at dksX0_minutesOf_0 0 rfl rfl)
theorem dX0_minutesOf_1 : decode cX0_minutesOf 1 = .ok (.iconst 0, 1) := dk_3 (dk_at dksX0_minutesOf_0 1 rfl rfl)
theorem dX0_minutesOf_2 : decode cX0_minutesOf 2 = .ok (.aload_n 0, 1) := dk_42 (dk_at dksX0_minutesOf_0 2 rfl rfl)
theorem dX0_minutesOf_3 : decode cX0_minutesOf 3 = .ok (.iload_n 1, 1) := dk_27 (dk_at dksX0_minutesOf_0 3 rfl rfl)
theorem dX0_minutesOf_4 : decode cX0_minutesOf 4 = .ok (.invokevirtual 68, 3) := dk_182 0 68 (dk_at dksX0_minutesOf_0 4 rfl rfl)
theorem dX0_minutesOf_7 : decode cX0_minutesOf 7 = .ok (.i2l, 1) := dk_133 (dk_at dksX0_minutesOf_0 7 rfl rfl)
theorem dX0_minutesOf_8 : decode cX0_minutesOf 8 = .ok (.lastore, 1) := dk_80 (dk_at dksX0_minutesOf_0 8 rfl rfl)
theorem dX0_minutesOf_9 : decode cX0_minutesOf 9 = .ok (.goto 6, 3) := dk_167 0 6 (dk_at dksX0_minutesOf_0 9 rfl rfl)
theorem dX0_minutesOf_12 : decode cX0_minutesOf 12 = .ok (.astore_n 3, 1) := dk_78 (dk_at dksX0_minutesOf_0 12 rfl rfl)
theorem dX0_minutesOf_13 : decode cX0_minutesOf 13 = .ok (.iconst 1, 1) := dk_4 (dk_at dksX0_minutesOf_0 13 rfl rfl)
theorem dX0_minutesOf_14 : decode cX0_minutesOf 14 = .ok (.ireturn, 1) := dk_172 (dk_at dksX0_minutesOf_0 14 rfl rfl)
theorem dX0_minutesOf_15 : decode cX0_minutesOf 15 = .ok (.iconst 0, 1) := dk_3 (dk_at dksX0_minutesOf_0 15 rfl rfl)
theorem dX0_minutesOf_16 : decode cX0_minutesOf 16 = .ok (.ireturn, 1) := dk_172 (dk_at dksX0_minutesOf_0 16 rfl rfl)
abbrev cX0_minutesInZone : ByteArray := method_20_code
def yX0_minutesInZone : MethodName := ⟨RX0, "minutesInZone", "(LTrainingDiary;II[J)I"⟩
def dkwX0_minutesInZone_0 : List UInt8 := [45, 3, 42, 27, 28, 182, 0, 71, 133, 80, 167, 0, 11, 58, 4, 4, 172, 58, 4, 5, 172, 3, 172]
abbrev dktX0_minutesInZone_0 : List UInt8 := dkwX0_minutesInZone_0 ++ []
theorem dksX0_minutesInZone_0 : cX0_minutesInZone.data.toList.drop 0 = dktX0_minutesInZone_0 := by decide +kernel
theorem dX0_minutesInZone_0 : decode cX0_minutesInZone 0 = .ok (.aload_n 3, 1) := dk_45 (dk_at dksX0_minutesInZone_0 0 rfl rfl)
theorem dX0_minutesInZone_1 : decode cX0_minutesInZone 1 = .ok (.iconst 0, 1) := dk_3 (dk_at dksX0_minutesInZone_0 1 rfl rfl)
theorem dX0_minutesInZone_2 : decode cX0_minutesInZone 2 = .ok (.aload_n 0, 1) := dk_42 (dk_at dksX0_minutesInZone_0 2 rfl rfl)
theorem dX0_minutesInZone_3 : decode cX0_minutesInZone 3 = .ok (.iload_n 1, 1) := dk_27 (dk_at dksX0_minutesInZone_0 3 rfl rfl)
theorem dX0_minutesInZone_4 : decode cX0_minutesInZone 4 = .ok (.iload_n 2, 1) := dk_28 (dk_at dksX0_minutesInZone_0 4 rfl rfl)
theorem dX0_minutesInZone_5 : decode cX0_minutesInZone 5 = .ok (.invokevirtual 71, 3) := dk_182 0 71 (dk_at dksX0_minutesInZone_0 5 rfl rfl)
theorem dX0_minutesInZone_8 : decode cX0_minutesInZone 8 = .ok (.i2l, 1) := dk_133 (dk_at dksX0_minutesInZone_0 8 rfl rfl)
theorem dX0_minutesInZone_9 : decode cX0_minutesInZone 9 = .ok (.lastore, 1) := dk_80 (dk_at dksX0_minutesInZone_0 9 rfl rfl)
theorem dX0_minutesInZone_10 : decode cX0_minutesInZone 10 = .ok (.goto 11, 3) := dk_167 0 11 (dk_at dksX0_minutesInZone_0 10 rfl rfl)
theorem dX0_minutesInZone_13 : decode cX0_minutesInZone 13 = .ok (.astore 4, 2) := dk_58 4 (dk_at dksX0_minutesInZone_0 13 rfl rfl)
theorem dX0_minutesInZone_15 : decode cX0_minutesInZone 15 = .ok (.iconst 1, 1) := dk_4 (dk_at dksX0_minutesInZone_0 15 rfl rfl)
theorem dX0_minutesInZone_16 : decode cX0_minutesInZone 16 = .ok (.ireturn, 1) := dk_172 (dk_at dksX0_minutesInZone_0 16 rfl rfl)
theorem dX0_minutesInZone_17 : decode cX0_minutesInZone 17 = .ok (.astore 4, 2) := dk_58 4 (dk_at dksX0_minutesInZone_0 17 rfl rfl)
theorem dX0_minutesInZone_19 : decode cX0_minutesInZone 19 = .ok (.iconst 2, 1) := dk_5 (dk_at dksX0_minutesInZone_0 19 rfl rfl)
theorem dX0_minutesInZone_20 : decode cX0_minutesInZone 20 = .ok (.ireturn, 1) := dk_172 (dk_at dksX0_minutesInZone_0 20 rfl rfl)
theorem dX0_minutesInZone_21 : decode cX0_minutesInZone 21 = .ok (.iconst 0, 1) := dk_3 (dk_at dksX0_minutesInZone_0 21 rfl rfl)
theorem dX0_minutesInZone_22 : decode cX0_minutesInZone 22 = .ok (.ireturn, 1) := dk_172 (dk_at dksX0_minutesInZone_0 22 rfl rfl)
abbrev cX0_loadOf : ByteArray := method_21_code
def yX0_loadOf : MethodName := ⟨RX0, "loadOf", "(LTrainingDiary;I[J)I"⟩
def dkwX0_loadOf_0 : List UInt8 := [44, 3, 42, 27, 182, 0, 74, 133, 80, 167, 0, 6, 78, 4, 172, 3, 172]
abbrev dktX0_loadOf_0 : List UInt8 := dkwX0_loadOf_0 ++ []
theorem dksX0_loadOf_0 : cX0_loadOf.data.toList.drop 0 = dktX0_loadOf_0 := by decide +kernel
theorem dX0_loadOf_0 : decode cX0_loadOf 0 = .ok (.aload_n 2, 1) := dk_44 (dk_at dksX0_loadOf_0 0 rfl rfl)
theorem dX0_loadOf_1 : decode cX0_loadOf 1 = .ok (.iconst 0, 1) := dk_3 (dk_at dksX0_loadOf_0 1 rfl rfl)
theorem dX0_loadOf_2 : decode cX0_loadOf 2 = .ok (.aload_n 0, 1) := dk_42 (dk_at dksX0_loadOf_0 2 rfl rfl)
theorem dX0_loadOf_3 : decode cX0_loadOf 3 = .ok (.iload_n 1, 1) := dk_27 (dk_at dksX0_loadOf_0 3 rfl rfl)
theorem dX0_loadOf_4 : decode cX0_loadOf 4 = .ok (.invokevirtual 74, 3) := dk_182 0 74 (dk_at dksX0_loadOf_0 4 rfl rfl)
theorem dX0_loadOf_7 : decode cX0_loadOf 7 = .ok (.i2l, 1) := dk_133 (dk_at dksX0_loadOf_0 7 rfl rfl)
theorem dX0_loadOf_8 : decode cX0_loadOf 8 = .ok (.lastore, 1) := dk_80 (dk_at dksX0_loadOf_0 8 rfl rfl)
theorem dX0_loadOf_9 : decode cX0_loadOf 9 = .ok (.goto 6, 3) := dk_167 0 6 (dk_at dksX0_loadOf_0 9 rfl rfl)
theorem dX0_loadOf_12 : decode cX0_loadOf 12 = .ok (.astore_n 3, 1) := dk_78 (dk_at dksX0_loadOf_0 12 rfl rfl)
theorem dX0_loadOf_13 : decode cX0_loadOf 13 = .ok (.iconst 1, 1) := dk_4 (dk_at dksX0_loadOf_0 13 rfl rfl)
theorem dX0_loadOf_14 : decode cX0_loadOf 14 = .ok (.ireturn, 1) := dk_172 (dk_at dksX0_loadOf_0 14 rfl rfl)
theorem dX0_loadOf_15 : decode cX0_loadOf 15 = .ok (.iconst 0, 1) := dk_3 (dk_at dksX0_loadOf_0 15 rfl rfl)
theorem dX0_loadOf_16 : decode cX0_loadOf 16 = .ok (.ireturn, 1) := dk_172 (dk_at dksX0_loadOf_0 16 rfl rfl)
abbrev cX0_loadOn : ByteArray := method_22_code
def yX0_loadOn : MethodName := ⟨RX0, "loadOn", "(LTrainingDiary;I[J)I"⟩
def dkwX0_loadOn_0 : List UInt8 := [44, 3, 42, 27, 182, 0, 77, 133, 80, 167, 0, 6, 78, 4, 172, 3, 172]
abbrev dktX0_loadOn_0 : List UInt8 := dkwX0_loadOn_0 ++ []
theorem dksX0_loadOn_0 : cX0_loadOn.data.toList.drop 0 = dktX0_loadOn_0 := by decide +kernel
theorem dX0_loadOn_0 : decode cX0_loadOn 0 = .ok (.aload_n 2, 1) := dk_44 (dk_at dksX0_loadOn_0 0 rfl rfl)
theorem dX0_loadOn_1 : decode cX0_loadOn 1 = .ok (.iconst 0, 1) := dk_3 (dk_at dksX0_loadOn_0 1 rfl rfl)
theorem dX0_loadOn_2 : decode cX0_loadOn 2 = .ok (.aload_n 0, 1) := dk_42 (dk_at dksX0_loadOn_0 2 rfl rfl)
theorem dX0_loadOn_3 : decode cX0_loadOn 3 = .ok (.iload_n 1, 1) := dk_27 (dk_at dksX0_loadOn_0 3 rfl rfl)
theorem dX0_loadOn_4 : decode cX0_loadOn 4 = .ok (.invokevirtual 77, 3) := dk_182 0 77 (dk_at dksX0_loadOn_0 4 rfl rfl)
theorem dX0_loadOn_7 : decode cX0_loadOn 7 = .ok (.i2l, 1) := dk_133 (dk_at dksX0_loadOn_0 7 rfl rfl)
theorem dX0_loadOn_8 : decode cX0_loadOn 8 = .ok (.lastore, 1) := dk_80 (dk_at dksX0_loadOn_0 8 rfl rfl)
theorem dX0_loadOn_9 : decode cX0_loadOn 9 = .ok (.goto 6, 3) := dk_167 0 6 (dk_at dksX0_loadOn_0 9 rfl rfl)
theorem dX0_loadOn_12 : decode cX0_loadOn 12 = .ok (.astore_n 3, 1) := dk_78 (dk_at dksX0_loadOn_0 12 rfl rfl)
theorem dX0_loadOn_13 : decode cX0_loadOn 13 = .ok (.iconst 1, 1) := dk_4 (dk_at dksX0_loadOn_0 13 rfl rfl)
theorem dX0_loadOn_14 : decode cX0_loadOn 14 = .ok (.ireturn, 1) := dk_172 (dk_at dksX0_loadOn_0 14 rfl rfl)
theorem dX0_loadOn_15 : decode cX0_loadOn 15 = .ok (.iconst 0, 1) := dk_3 (dk_at dksX0_loadOn_0 15 rfl rfl)
theorem dX0_loadOn_16 : decode cX0_loadOn 16 = .ok (.ireturn, 1) := dk_172 (dk_at dksX0_loadOn_0 16 rfl rfl)
abbrev cX0_zoneShare : ByteArray := method_23_code
def yX0_zoneShare : MethodName := ⟨RX0, "zoneShare", "(LTrainingDiary;I[D)I"⟩
def dkwX0_zoneShare_0 : List UInt8 := [44, 3, 42, 27, 182, 0, 80, 141, 82, 167, 0, 9, 78, 4, 172, 78, 5, 172, 3, 172]
abbrev dktX0_zoneShare_0 : List UInt8 := dkwX0_zoneShare_0 ++ []
theorem dksX0_zoneShare_0 : cX0_zoneShare.data.toList.drop 0 = dktX0_zoneShare_0 := by decide +kernel
theorem dX0_zoneShare_0 : decode cX0_zoneShare 0 = .ok (.aload_n 2, 1) := dk_44 (dk_at dksX0_zoneShare_0 0 rfl rfl)
theorem dX0_zoneShare_1 : decode cX0_zoneShare 1 = .ok (.iconst 0, 1) := dk_3 (dk_at dksX0_zoneShare_0 1 rfl rfl)
theorem dX0_zoneShare_2 : decode cX0_zoneShare 2 = .ok (.aload_n 0, 1) := dk_42 (dk_at dksX0_zoneShare_0 2 rfl rfl)
theorem dX0_zoneShare_3 : decode cX0_zoneShare 3 = .ok (.iload_n 1, 1) := dk_27 (dk_at dksX0_zoneShare_0 3 rfl rfl)
theorem dX0_zoneShare_4 : decode cX0_zoneShare 4 = .ok (.invokevirtual 80, 3) := dk_182 0 80 (dk_at dksX0_zoneShare_0 4 rfl rfl)
theorem dX0_zoneShare_7 : decode cX0_zoneShare 7 = .ok (.f2d, 1) := dk_141 (dk_at dksX0_zoneShare_0 7 rfl rfl)
theorem dX0_zoneShare_8 : decode cX0_zoneShare 8 = .ok (.dastore, 1) := dk_82 (dk_at dksX0_zoneShare_0 8 rfl rfl)
theorem dX0_zoneShare_9 : decode cX0_zoneShare 9 = .ok (.goto 9, 3) := dk_167 0 9 (dk_at dksX0_zoneShare_0 9 rfl rfl)
theorem dX0_zoneShare_12 : decode cX0_zoneShare 12 = .ok (.astore_n 3, 1) := dk_78 (dk_at dksX0_zoneShare_0 12 rfl rfl)
theorem dX0_zoneShare_13 : decode cX0_zoneShare 13 = .ok (.iconst 1, 1) := dk_4 (dk_at dksX0_zoneShare_0 13 rfl rfl)
theorem dX0_zoneShare_14 : decode cX0_zoneShare 14 = .ok (.ireturn, 1) := dk_172 (dk_at dksX0_zoneShare_0 14 rfl rfl)
theorem dX0_zoneShare_15 : decode cX0_zoneShare 15 = .ok (.astore_n 3, 1) := dk_78 (dk_at dksX0_zoneShare_0 15 rfl rfl)
theorem dX0_zoneShare_16 : decode cX0_zoneShare 16 = .ok (.iconst 2, 1) := dk_5 (dk_at dksX0_zoneShare_0 16 rfl rfl)
theorem dX0_zoneShare_17 : decode cX0_zoneShare 17 = .ok (.ireturn, 1) := dk_172 (dk_at dksX0_zoneShare_0 17 rfl rfl)
theorem dX0_zoneShare_18 : decode cX0_zoneShare 18 = .ok (.iconst 0, 1) := dk_3 (dk_at dksX0_zoneShare_0 18 rfl rfl)
theorem dX0_zoneShare_19 : decode cX0_zoneShare 19 = .ok (.ireturn, 1) := dk_172 (dk_at dksX0_zoneShare_0 19 rfl rfl)
abbrev cX0_fitnessOn : ByteArray := method_24_code
def yX0_fitnessOn : MethodName := ⟨RX0, "fitnessOn", "(LTrainingDiary;I[J)I"⟩
def dkwX0_fitnessOn_0 : List UInt8 := [44, 3, 42, 27, 182, 0, 86, 133, 80, 167, 0, 6, 78, 4, 172, 3, 172]
abbrev dktX0_fitnessOn_0 : List UInt8 := dkwX0_fitnessOn_0 ++ []
theorem dksX0_fitnessOn_0 : cX0_fitnessOn.data.toList.drop 0 = dktX0_fitnessOn_0 := by decide +kernel
theorem dX0_fitnessOn_0 : decode cX0_fitnessOn 0 = .ok (.aload_n 2, 1) := dk_44 (dk_at dksX0_fitnessOn_0 0 rfl rfl)
theorem dX0_fitnessOn_1 : decode cX0_fitnessOn 1 = .ok (.iconst 0, 1) := dk_3 (dk_at dksX0_fitnessOn_0 1 rfl rfl)
theorem dX0_fitnessOn_2 : decode cX0_fitnessOn 2 = .ok (.aload_n 0, 1) := dk_42 (dk_at dksX0_fitnessOn_0 2 rfl rfl)
theorem dX0_fitnessOn_3 : decode cX0_fitnessOn 3 = .ok (.iload_n 1, 1) := dk_27 (dk_at dksX0_fitnessOn_0 3 rfl rfl)
theorem dX0_fitnessOn_4 : decode cX0_fitnessOn 4 = .ok (.invokevirtual 86, 3) := dk_182 0 86 (dk_at dksX0_fitnessOn_0 4 rfl rfl)
theorem dX0_fitnessOn_7 : decode cX0_fitnessOn 7 = .ok (.i2l, 1) := dk_133 (dk_at dksX0_fitnessOn_0 7 rfl rfl)
theorem dX0_fitnessOn_8 : decode cX0_fitnessOn 8 = .ok (.lastore, 1) := dk_80 (dk_at dksX0_fitnessOn_0 8 rfl rfl)
theorem dX0_fitnessOn_9 : decode cX0_fitnessOn 9 = .ok (.goto 6, 3) := dk_167 0 6 (dk_at dksX0_fitnessOn_0 9 rfl rfl)
theorem dX0_fitnessOn_12 : decode cX0_fitnessOn 12 = .ok (.astore_n 3, 1) := dk_78 (dk_at dksX0_fitnessOn_0 12 rfl rfl)
theorem dX0_fitnessOn_13 : decode cX0_fitnessOn 13 = .ok (.iconst 1, 1) := dk_4 (dk_at dksX0_fitnessOn_0 13 rfl rfl)
theorem dX0_fitnessOn_14 : decode cX0_fitnessOn 14 = .ok (.ireturn, 1) := dk_172 (dk_at dksX0_fitnessOn_0 14 rfl rfl)
theorem dX0_fitnessOn_15 : decode cX0_fitnessOn 15 = .ok (.iconst 0, 1) := dk_3 (dk_at dksX0_fitnessOn_0 15 rfl rfl)
theorem dX0_fitnessOn_16 : decode cX0_fitnessOn 16 = .ok (.ireturn, 1) := dk_172 (dk_at dksX0_fitnessOn_0 16 rfl rfl)
abbrev cX0_fitnessFromStart : ByteArray := method_25_code
def yX0_fitnessFromStart : MethodName := ⟨RX0, "fitnessFromStart", "(LTrainingDiary;I[J)I"⟩
def dkwX0_fitnessFromStart_0 : List UInt8 := [44, 3, 42, 27, 182, 0, 89, 133, 80, 167, 0, 6, 78, 4, 172, 3, 172]
abbrev dktX0_fitnessFromStart_0 : List UInt8 := dkwX0_fitnessFromStart_0 ++ []
theorem dksX0_fitnessFromStart_0 : cX0_fitnessFromStart.data.toList.drop 0 = dktX0_fitnessFromStart_0 := by decide +kernel
theorem dX0_fitnessFromStart_0 : decode cX0_fitnessFromStart 0 = .ok (.aload_n 2, 1) := dk_44 (dk_at dksX0_fitnessFromStart_0 0 rfl rfl)
theorem dX0_fitnessFromStart_1 : decode cX0_fitnessFromStart 1 = .ok (.iconst 0, 1) := dk_3 (dk_at dksX0_fitnessFromStart_0 1 rfl rfl)
theorem dX0_fitnessFromStart_2 : decode cX0_fitnessFromStart 2 = .ok (.aload_n 0, 1) := dk_42 (dk_at dksX0_fitnessFromStart_0 2 rfl rfl)
theorem dX0_fitnessFromStart_3 : decode cX0_fitnessFromStart 3 = .ok (.iload_n 1, 1) := dk_27 (dk_at dksX0_fitnessFromStart_0 3 rfl rfl)
theorem dX0_fitnessFromStart_4 : decode cX0_fitnessFromStart 4 = .ok (.invokevirtual 89, 3) := dk_182 0 89 (dk_at dksX0_fitnessFromStart_0 4 rfl rfl)
theorem dX0_fitnessFromStart_7 : decode cX0_fitnessFromStart 7 = .ok (.i2l, 1) := dk_133 (dk_at dksX0_fitnessFromStart_0 7 rfl rfl)
theorem dX0_fitnessFromStart_8 : decode cX0_fitnessFromStart 8 = .ok (.lastore, 1) := dk_80 (dk_at dksX0_fitnessFromStart_0 8 rfl rfl)
theorem dX0_fitnessFromStart_9 : decode cX0_fitnessFromStart 9 = .ok (.goto 6, 3) := dk_167 0 6 (dk_at dksX0_fitnessFromStart_0 9 rfl rfl)
theorem dX0_fitnessFromStart_12 : decode cX0_fitnessFromStart 12 = .ok (.astore_n 3, 1) := dk_78 (dk_at dksX0_fitnessFromStart_0 12 rfl rfl)
theorem dX0_fitnessFromStart_13 : decode cX0_fitnessFromStart 13 = .ok (.iconst 1, 1) := dk_4 (dk_at dksX0_fitnessFromStart_0 13 rfl rfl)
theorem dX0_fitnessFromStart_14 : decode cX0_fitnessFromStart 14 = .ok (.ireturn, 1) := dk_172 (dk_at dksX0_fitnessFromStart_0 14 rfl rfl)
theorem dX0_fitnessFromStart_15 : decode cX0_fitnessFromStart 15 = .ok (.iconst 0, 1) := dk_3 (dk_at dksX0_fitnessFromStart_0 15 rfl rfl)
theorem dX0_fitnessFromStart_16 : decode cX0_fitnessFromStart 16 = .ok (.ireturn, 1) := dk_172 (dk_at dksX0_fitnessFromStart_0 16 rfl rfl)
abbrev cX0_fatigueOn : ByteArray := method_26_code
def yX0_fatigueOn : MethodName := ⟨RX0, "fatigueOn", "(LTrainingDiary;I[J)I"⟩
def dkwX0_fatigueOn_0 : List UInt8 := [44, 3, 42, 27, 182, 0, 92, 133, 80, 167, 0, 6, 78, 4, 172, 3, 172]
abbrev dktX0_fatigueOn_0 : List UInt8 := dkwX0_fatigueOn_0 ++ []
theorem dksX0_fatigueOn_0 : cX0_fatigueOn.data.toList.drop 0 = dktX0_fatigueOn_0 := by decide +kernel
theorem dX0_fatigueOn_0 : decode cX0_fatigueOn 0 = .ok (.aload_n 2, 1) := dk_44 (dk_at dksX0_fatigueOn_0 0 rfl rfl)
theorem dX0_fatigueOn_1 : decode cX0_fatigueOn 1 = .ok (.iconst 0, 1) := dk_3 (dk_at dksX0_fatigueOn_0 1 rfl rfl)
theorem dX0_fatigueOn_2 : decode cX0_fatigueOn 2 = .ok (.aload_n 0, 1) := dk_42 (dk_at dksX0_fatigueOn_0 2 rfl rfl)
theorem dX0_fatigueOn_3 : decode cX0_fatigueOn 3 = .ok (.iload_n 1, 1) := dk_27 (dk_at dksX0_fatigueOn_0 3 rfl rfl)
theorem dX0_fatigueOn_4 : decode cX0_fatigueOn 4 = .ok (.invokevirtual 92, 3) := dk_182 0 92 (dk_at dksX0_fatigueOn_0 4 rfl rfl)
theorem dX0_fatigueOn_7 : decode cX0_fatigueOn 7 = .ok (.i2l, 1) := dk_133 (dk_at dksX0_fatigueOn_0 7 rfl rfl)
theorem dX0_fatigueOn_8 : decode cX0_fatigueOn 8 = .ok (.lastore, 1) := dk_80 (dk_at dksX0_fatigueOn_0 8 rfl rfl)
theorem dX0_fatigueOn_9 : decode cX0_fatigueOn 9 = .ok (.goto 6, 3) := dk_167 0 6 (dk_at dksX0_fatigueOn_0 9 rfl rfl)
theorem dX0_fatigueOn_12 : decode cX0_fatigueOn 12 = .ok (.astore_n 3, 1) := dk_78 (dk_at dksX0_fatigueOn_0 12 rfl rfl)
theorem dX0_fatigueOn_13 : decode cX0_fatigueOn 13 = .ok (.iconst 1, 1) := dk_4 (dk_at dksX0_fatigueOn_0 13 rfl rfl)
theorem dX0_fatigueOn_14 : decode cX0_fatigueOn 14 = .ok (.ireturn, 1) := dk_172 (dk_at dksX0_fatigueOn_0 14 rfl rfl)
theorem dX0_fatigueOn_15 : decode cX0_fatigueOn 15 = .ok (.iconst 0, 1) := dk_3 (dk_at dksX0_fatigueOn_0 15 rfl rfl)
theorem dX0_fatigueOn_16 : decode cX0_fatigueOn 16 = .ok (.ireturn, 1) := dk_172 (dk_at dksX0_fatigueOn_0 16 rfl rfl)
abbrev cX0_fatigueFromStart : ByteArray := method_27_code
def yX0_fatigueFromStart : MethodName := ⟨RX0, "fatigueFromStart", "(LTrainingDiary;I[J)I"⟩
def dkwX0_fatigueFromStart_0 : List UInt8 := [44, 3, 42, 27, 182, 0, 95, 133, 80, 167, 0, 6, 78, 4, 172, 3, 172]
abbrev dktX0_fatigueFromStart_0 : List UInt8 := dkwX0_fatigueFromStart_0 ++ []
theorem dksX0_fatigueFromStart_0 : cX0_fatigueFromStart.data.toList.drop 0 = dktX0_fatigueFromStart_0 := by decide +kernel
theorem dX0_fatigueFromStart_0 : decode cX0_fatigueFromStart 0 = .ok (.aload_n 2, 1) := dk_44 (dk_at dksX0_fatigueFromStart_0 0 rfl rfl)
theorem dX0_fatigueFromStart_1 : decode cX0_fatigueFromStart 1 = .ok (.iconst 0, 1) := dk_3 (dk_at dksX0_fatigueFromStart_0 1 rfl rfl)
theorem dX0_fatigueFromStart_2 : decode cX0_fatigueFromStart 2 = .ok (.aload_n 0, 1) := dk_42 (dk_at dksX0_fatigueFromStart_0 2 rfl rfl)
theorem dX0_fatigueFromStart_3 : decode cX0_fatigueFromStart 3 = .ok (.iload_n 1, 1) := dk_27 (dk_at dksX0_fatigueFromStart_0 3 rfl rfl)
theorem dX0_fatigueFromStart_4 : decode cX0_fatigueFromStart 4 = .ok (.invokevirtual 95, 3) := dk_182 0 95 (dk_at dksX0_fatigueFromStart_0 4 rfl rfl)
theorem dX0_fatigueFromStart_7 : decode cX0_fatigueFromStart 7 = .ok (.i2l, 1) := dk_133 (dk_at dksX0_fatigueFromStart_0 7 rfl rfl)
theorem dX0_fatigueFromStart_8 : decode cX0_fatigueFromStart 8 = .ok (.lastore, 1) := dk_80 (dk_at dksX0_fatigueFromStart_0 8 rfl rfl)
theorem dX0_fatigueFromStart_9 : decode cX0_fatigueFromStart 9 = .ok (.goto 6, 3) := dk_167 0 6 (dk_at dksX0_fatigueFromStart_0 9 rfl rfl)
theorem dX0_fatigueFromStart_12 : decode cX0_fatigueFromStart 12 = .ok (.astore_n 3, 1) := dk_78 (dk_at dksX0_fatigueFromStart_0 12 rfl rfl)
theorem dX0_fatigueFromStart_13 : decode cX0_fatigueFromStart 13 = .ok (.iconst 1, 1) := dk_4 (dk_at dksX0_fatigueFromStart_0 13 rfl rfl)
theorem dX0_fatigueFromStart_14 : decode cX0_fatigueFromStart 14 = .ok (.ireturn, 1) := dk_172 (dk_at dksX0_fatigueFromStart_0 14 rfl rfl)
theorem dX0_fatigueFromStart_15 : decode cX0_fatigueFromStart 15 = .ok (.iconst 0, 1) := dk_3 (dk_at dksX0_fatigueFromStart_0 15 rfl rfl)
theorem dX0_fatigueFromStart_16 : decode cX0_fatigueFromStart 16 = .ok (.ireturn, 1) := dk_172 (dk_at dksX0_fatigueFromStart_0 16 rfl rfl)
abbrev cX0_formOn : ByteArray := method_28_code
def yX0_formOn : MethodName := ⟨RX0, "formOn", "(LTrainingDiary;I[J)I"⟩
def dkwX0_formOn_0 : List UInt8 := [44, 3, 42, 27, 182, 0, 98, 133, 80, 167, 0, 6, 78, 4, 172, 3, 172]
abbrev dktX0_formOn_0 : List UInt8 := dkwX0_formOn_0 ++ []
theorem dksX0_formOn_0 : cX0_formOn.data.toList.drop 0 = dktX0_formOn_0 := by decide +kernel
theorem dX0_formOn_0 : decode cX0_formOn 0 = .ok (.aload_n 2, 1) := dk_44 (dk_at dksX0_formOn_0 0 rfl rfl)
theorem dX0_formOn_1 : decode cX0_formOn 1 = .ok (.iconst 0, 1) := dk_3 (dk_at dksX0_formOn_0 1 rfl rfl)
theorem dX0_formOn_2 : decode cX0_formOn 2 = .ok (.aload_n 0, 1) := dk_42 (dk_at dksX0_formOn_0 2 rfl rfl)
theorem dX0_formOn_3 : decode cX0_formOn 3 = .ok (.iload_n 1, 1) := dk_27 (dk_at dksX0_formOn_0 3 rfl rfl)
theorem dX0_formOn_4 : decode cX0_formOn 4 = .ok (.invokevirtual 98, 3) := dk_182 0 98 (dk_at dksX0_formOn_0 4 rfl rfl)
theorem dX0_formOn_7 : decode cX0_formOn 7 = .ok (.i2l, 1) := dk_133 (dk_at dksX0_formOn_0 7 rfl rfl)
theorem dX0_formOn_8 : decode cX0_formOn 8 = .ok (.lastore, 1) := dk_80 (dk_at dksX0_formOn_0 8 rfl rfl)
theorem dX0_formOn_9 : decode cX0_formOn 9 = .ok (.goto 6, 3) := dk_167 0 6 (dk_at dksX0_formOn_0 9 rfl rfl)
theorem dX0_formOn_12 : decode cX0_formOn 12 = .ok (.astore_n 3, 1) := dk_78 (dk_at dksX0_formOn_0 12 rfl rfl)
theorem dX0_formOn_13 : decode cX0_formOn 13 = .ok (.iconst 1, 1) := dk_4 (dk_at dksX0_formOn_0 13 rfl rfl)
theorem dX0_formOn_14 : decode cX0_formOn 14 = .ok (.ireturn, 1) := dk_172 (dk_at dksX0_formOn_0 14 rfl rfl)
theorem dX0_formOn_15 : decode cX0_formOn 15 = .ok (.iconst 0, 1) := dk_3 (dk_at dksX0_formOn_0 15 rfl rfl)
theorem dX0_formOn_16 : decode cX0_formOn 16 = .ok (.ireturn, 1) := dk_172 (dk_at dksX0_formOn_0 16 rfl rfl)
abbrev cX0_daysToForm : ByteArray := method_29_code
def yX0_daysToForm : MethodName := ⟨RX0, "daysToForm", "(LTrainingDiary;I[J)I"⟩
def dkwX0_daysToForm_0 : List UInt8 := [44, 3, 42, 27, 182, 0, 101, 133, 80, 167, 0, 9, 78, 4, 172, 78, 5, 172, 3, 172]
abbrev dktX0_daysToForm_0 : List UInt8 := dkwX0_daysToForm_0 ++ []
theorem dksX0_daysToForm_0 : cX0_daysToForm.data.toList.drop 0 = dktX0_daysToForm_0 := by decide +kernel
theorem dX0_daysToForm_0 : decode cX0_daysToForm 0 = .ok (.aload_n 2, 1) := dk_44 (dk_at dksX0_daysToForm_0 0 rfl rfl)
theorem dX0_daysToForm_1 : decode cX0_daysToForm 1 = .ok (.iconst 0, 1) := dk_3 (dk_at dksX0_daysToForm_0 1 rfl rfl)
theorem dX0_daysToForm_2 : decode cX0_daysToForm 2 = .ok (.aload_n 0, 1) := dk_42 (dk_at dksX0_daysToForm_0 2 rfl rfl)
theorem dX0_daysToForm_3 : decode cX0_daysToForm 3 = .ok (.iload_n 1, 1) := dk_27 (dk_at dksX0_daysToForm_0 3 rfl rfl)
theorem dX0_daysToForm_4 : decode cX0_daysToForm 4 = .ok (.invokevirtual 101, 3) := dk_182 0 101 (dk_at dksX0_daysToForm_0 4 rfl rfl)
theorem dX0_daysToForm_7 : decode cX0_daysToForm 7 = .ok (.i2l, 1) := dk_133 (dk_at dksX0_daysToForm_0 7 rfl rfl)
theorem dX0_daysToForm_8 : decode cX0_daysToForm 8 = .ok (.lastore, 1) := dk_80 (dk_at dksX0_daysToForm_0 8 rfl rfl)
theorem dX0_daysToForm_9 : decode cX0_daysToForm 9 = .ok (.goto 9, 3) := dk_167 0 9 (dk_at dksX0_daysToForm_0 9 rfl rfl)
theorem dX0_daysToForm_12 : decode cX0_daysToForm 12 = .ok (.astore_n 3, 1) := dk_78 (dk_at dksX0_daysToForm_0 12 rfl rfl)
theorem dX0_daysToForm_13 : decode cX0_daysToForm 13 = .ok (.iconst 1, 1) := dk_4 (dk_at dksX0_daysToForm_0 13 rfl rfl)
theorem dX0_daysToForm_14 : decode cX0_daysToForm 14 = .ok (.ireturn, 1) := dk_172 (dk_at dksX0_daysToForm_0 14 rfl rfl)
theorem dX0_daysToForm_15 : decode cX0_daysToForm 15 = .ok (.astore_n 3, 1) := dk_78 (dk_at dksX0_daysToForm_0 15 rfl rfl)
theorem dX0_daysToForm_16 : decode cX0_daysToForm 16 = .ok (.iconst 2, 1) := dk_5 (dk_at dksX0_daysToForm_0 16 rfl rfl)
theorem dX0_daysToForm_17 : decode cX0_daysToForm 17 = .ok (.ireturn, 1) := dk_172 (dk_at dksX0_daysToForm_0 17 rfl rfl)
theorem dX0_daysToForm_18 : decode cX0_daysToForm 18 = .ok (.iconst 0, 1) := dk_3 (dk_at dksX0_daysToForm_0 18 rfl rfl)
theorem dX0_daysToForm_19 : decode cX0_daysToForm 19 = .ok (.ireturn, 1) := dk_172 (dk_at dksX0_daysToForm_0 19 rfl rfl)
abbrev cX0_bestDays : ByteArray := method_30_code
def yX0_bestDays : MethodName := ⟨RX0, "bestDays", "(LTrainingDiary;I[J)I"⟩
def dkwX0_bestDays_0 : List UInt8 := [44, 3, 42, 27, 182, 0, 104, 133, 80, 167, 0, 9, 78, 4, 172, 78, 5, 172, 3, 172]
abbrev dktX0_bestDays_0 : List UInt8 := dkwX0_bestDays_0 ++ []
theorem dksX0_bestDays_0 : cX0_bestDays.data.toList.drop 0 = dktX0_bestDays_0 := by decide +kernel
theorem dX0_bestDays_0 : decode cX0_bestDays 0 = .ok (.aload_n 2, 1) := dk_44 (dk_at dksX0_bestDays_0 0 rfl rfl)
theorem dX0_bestDays_1 : decode cX0_bestDays 1 = .ok (.iconst 0, 1) := dk_3 (dk_at dksX0_bestDays_0 1 rfl rfl)
theorem dX0_bestDays_2 : decode cX0_bestDays 2 = .ok (.aload_n 0, 1) := dk_42 (dk_at dksX0_bestDays_0 2 rfl rfl)
theorem dX0_bestDays_3 : decode cX0_bestDays 3 = .ok (.iload_n 1, 1) := dk_27 (dk_at dksX0_bestDays_0 3 rfl rfl)
theorem dX0_bestDays_4 : decode cX0_bestDays 4 = .ok (.invokevirtual 104, 3) := dk_182 0 104 (dk_at dksX0_bestDays_0 4 rfl rfl)
theorem dX0_bestDays_7 : decode cX0_bestDays 7 = .ok (.i2l, 1) := dk_133 (dk_at dksX0_bestDays_0 7 rfl rfl)
theorem dX0_bestDays_8 : decode cX0_bestDays 8 = .ok (.lastore, 1) := dk_80 (dk_at dksX0_bestDays_0 8 rfl rfl)
theorem dX0_bestDays_9 : decode cX0_bestDays 9 = .ok (.goto 9, 3) := dk_167 0 9 (dk_at dksX0_bestDays_0 9 rfl rfl)
theorem dX0_bestDays_12 : decode cX0_bestDays 12 = .ok (.astore_n 3, 1) := dk_78 (dk_at dksX0_bestDays_0 12 rfl rfl)
theorem dX0_bestDays_13 : decode cX0_bestDays 13 = .ok (.iconst 1, 1) := dk_4 (dk_at dksX0_bestDays_0 13 rfl rfl)
theorem dX0_bestDays_14 : decode cX0_bestDays 14 = .ok (.ireturn, 1) := dk_172 (dk_at dksX0_bestDays_0 14 rfl rfl)
theorem dX0_bestDays_15 : decode cX0_bestDays 15 = .ok (.astore_n 3, 1) := dk_78 (dk_at dksX0_bestDays_0 15 rfl rfl)
theorem dX0_bestDays_16 : decode cX0_bestDays 16 = .ok (.iconst 2, 1) := dk_5 (dk_at dksX0_bestDays_0 16 rfl rfl)
theorem dX0_bestDays_17 : decode cX0_bestDays 17 = .ok (.ireturn, 1) := dk_172 (dk_at dksX0_bestDays_0 17 rfl rfl)
theorem dX0_bestDays_18 : decode cX0_bestDays 18 = .ok (.iconst 0, 1) := dk_3 (dk_at dksX0_bestDays_0 18 rfl rfl)
theorem dX0_bestDays_19 : decode cX0_bestDays 19 = .ok (.ireturn, 1) := dk_172 (dk_at dksX0_bestDays_0 19 rfl rfl)
abbrev cX0_bestDaysByTrying : ByteArray := method_31_code
def yX0_bestDaysByTrying : MethodName := ⟨RX0, "bestDaysByTrying", "(LTrainingDiary;I[J)I"⟩
def dkwX0_bestDaysByTrying_0 : List UInt8 := [44, 3, 42, 27, 182, 0, 107, 133, 80, 167, 0, 9, 78, 4, 172, 78, 5, 172, 3, 172]
abbrev dktX0_bestDaysByTrying_0 : List UInt8 := dkwX0_bestDaysByTrying_0 ++ []
theorem dksX0_bestDaysByTrying_0 : cX0_bestDaysByTrying.data.toList.drop 0 = dktX0_bestDaysByTrying_0 := by decide +kernel
theorem dX0_bestDaysByTrying_0 : decode cX0_bestDaysByTrying 0 = .ok (.aload_n 2, 1) := dk_44 (dk_at dksX0_bestDaysByTrying_0 0 rfl rfl)
theorem dX0_bestDaysByTrying_1 : decode cX0_bestDaysByTrying 1 = .ok (.iconst 0, 1) := dk_3 (dk_at dksX0_bestDaysByTrying_0 1 rfl rfl)
theorem dX0_bestDaysByTrying_2 : decode cX0_bestDaysByTrying 2 = .ok (.aload_n 0, 1) := dk_42 (dk_at dksX0_bestDaysByTrying_0 2 rfl rfl)
theorem dX0_bestDaysByTrying_3 : decode cX0_bestDaysByTrying 3 = .ok (.iload_n 1, 1) := dk_27 (dk_at dksX0_bestDaysByTrying_0 3 rfl rfl)
theorem dX0_bestDaysByTrying_4 : decode cX0_bestDaysByTrying 4 = .ok (.invokevirtual 107, 3) := dk_182 0 107 (dk_at dksX0_bestDaysByTrying_0 4 rfl rfl)
theorem dX0_bestDaysByTrying_7 : decode cX0_bestDaysByTrying 7 = .ok (.i2l, 1) := dk_133 (dk_at dksX0_bestDaysByTrying_0 7 rfl rfl)
theorem dX0_bestDaysByTrying_8 : decode cX0_bestDaysByTrying 8 = .ok (.lastore, 1) := dk_80 (dk_at dksX0_bestDaysByTrying_0 8 rfl rfl)
theorem dX0_bestDaysByTrying_9 : decode cX0_bestDaysByTrying 9 = .ok (.goto 9, 3) := dk_167 0 9 (dk_at dksX0_bestDaysByTrying_0 9 rfl rfl)
theorem dX0_bestDaysByTrying_12 : decode cX0_bestDaysByTrying 12 = .ok (.astore_n 3, 1) := dk_78 (dk_at dksX0_bestDaysByTrying_0 12 rfl rfl)
theorem dX0_bestDaysByTrying_13 : decode cX0_bestDaysByTrying 13 = .ok (.iconst 1, 1) := dk_4 (dk_at dksX0_bestDaysByTrying_0 13 rfl rfl)
theorem dX0_bestDaysByTrying_14 : decode cX0_bestDaysByTrying 14 = .ok (.ireturn, 1) := dk_172 (dk_at dksX0_bestDaysByTrying_0 14 rfl rfl)
theorem dX0_bestDaysByTrying_15 : decode cX0_bestDaysByTrying 15 = .ok (.astore_n 3, 1) := dk_78 (dk_at dksX0_bestDaysByTrying_0 15 rfl rfl)
theorem dX0_bestDaysByTrying_16 : decode cX0_bestDaysByTrying 16 = .ok (.iconst 2, 1) := dk_5 (dk_at dksX0_bestDaysByTrying_0 16 rfl rfl)
theorem dX0_bestDaysByTrying_17 : decode cX0_bestDaysByTrying 17 = .ok (.ireturn, 1) := dk_172 (dk_at dksX0_bestDaysByTrying_0 17 rfl rfl)
theorem dX0_bestDaysByTrying_18 : decode cX0_bestDaysByTrying 18 = .ok (.iconst 0, 1) := dk_3 (dk_at dksX0_bestDaysByTrying_0 18 rfl rfl)
theorem dX0_bestDaysByTrying_19 : decode cX0_bestDaysByTrying 19 = .ok (.ireturn, 1) := dk_172 (dk_at dksX0_bestDaysByTrying_0 19 rfl rfl)
abbrev cX0_bestDaysStart : ByteArray := method_32_code
def yX0_bestDaysStart : MethodName := ⟨RX0, "bestDaysStart", "(LTrainingDiary;I[J)I"⟩
def dkwX0_bestDaysStart_0 : List UInt8 := [44, 3, 42, 27, 182, 0, 110, 133, 80, 167, 0, 9, 78, 4, 172, 78, 5, 172, 3, 172]
abbrev dktX0_bestDaysStart_0 : List UInt8 := dkwX0_bestDaysStart_0 ++ []
theorem dksX0_bestDaysStart_0 : cX0_bestDaysStart.data.toList.drop 0 = dktX0_bestDaysStart_0 := by decide +kernel
theorem dX0_bestDaysStart_0 : decode cX0_bestDaysStart 0 = .ok (.aload_n 2, 1) := dk_44 (dk_at dksX0_bestDaysStart_0 0 rfl rfl)
theorem dX0_bestDaysStart_1 : decode cX0_bestDaysStart 1 = .ok (.iconst 0, 1) := dk_3 (dk_at dksX0_bestDaysStart_0 1 rfl rfl)
theorem dX0_bestDaysStart_2 : decode cX0_bestDaysStart 2 = .ok (.aload_n 0, 1) := dk_42 (dk_at dksX0_bestDaysStart_0 2 rfl rfl)
theorem dX0_bestDaysStart_3 : decode cX0_bestDaysStart 3 = .ok (.iload_n 1, 1) := dk_27 (dk_at dksX0_bestDaysStart_0 3 rfl rfl)
theorem dX0_bestDaysStart_4 : decode cX0_bestDaysStart 4 = .ok (.invokevirtual 110, 3) := dk_182 0 110 (dk_at dksX0_bestDaysStart_0 4 rfl rfl)
theorem dX0_bestDaysStart_7 : decode cX0_bestDaysStart 7 = .ok (.i2l, 1) := dk_133 (dk_at dksX0_bestDaysStart_0 7 rfl rfl)
theorem dX0_bestDaysStart_8 : decode cX0_bestDaysStart 8 = .ok (.lastore, 1) := dk_80 (dk_at dksX0_bestDaysStart_0 8 rfl rfl)
theorem dX0_bestDaysStart_9 : decode cX0_bestDaysStart 9 = .ok (.goto 9, 3) := dk_167 0 9 (dk_at dksX0_bestDaysStart_0 9 rfl rfl)
theorem dX0_bestDaysStart_12 : decode cX0_bestDaysStart 12 = .ok (.astore_n 3, 1) := dk_78 (dk_at dksX0_bestDaysStart_0 12 rfl rfl)
theorem dX0_bestDaysStart_13 : decode cX0_bestDaysStart 13 = .ok (.iconst 1, 1) := dk_4 (dk_at dksX0_bestDaysStart_0 13 rfl rfl)
theorem dX0_bestDaysStart_14 : decode cX0_bestDaysStart 14 = .ok (.ireturn, 1) := dk_172 (dk_at dksX0_bestDaysStart_0 14 rfl rfl)
theorem dX0_bestDaysStart_15 : decode cX0_bestDaysStart 15 = .ok (.astore_n 3, 1) := dk_78 (dk_at dksX0_bestDaysStart_0 15 rfl rfl)
theorem dX0_bestDaysStart_16 : decode cX0_bestDaysStart 16 = .ok (.iconst 2, 1) := dk_5 (dk_at dksX0_bestDaysStart_0 16 rfl rfl)
theorem dX0_bestDaysStart_17 : decode cX0_bestDaysStart 17 = .ok (.ireturn, 1) := dk_172 (dk_at dksX0_bestDaysStart_0 17 rfl rfl)
theorem dX0_bestDaysStart_18 : decode cX0_bestDaysStart 18 = .ok (.iconst 0, 1) := dk_3 (dk_at dksX0_bestDaysStart_0 18 rfl rfl)
theorem dX0_bestDaysStart_19 : decode cX0_bestDaysStart 19 = .ok (.ireturn, 1) := dk_172 (dk_at dksX0_bestDaysStart_0 19 rfl rfl)
abbrev cX0_bestEffort : ByteArray := method_33_code
def yX0_bestEffort : MethodName := ⟨RX0, "bestEffort", "(LTrainingDiary;I[J)I"⟩
def dkwX0_bestEffort_0 : List UInt8 := [44, 3, 42, 27, 182, 0, 113, 133, 80, 167, 0, 9, 78, 4, 172, 78, 5, 172, 3, 172]
abbrev dktX0_bestEffort_0 : List UInt8 := dkwX0_bestEffort_0 ++ []
theorem dksX0_bestEffort_0 : cX0_bestEffort.data.toList.drop 0 = dktX0_bestEffort_0 := by decide +kernel
theorem dX0_bestEffort_0 : decode cX0_bestEffort 0 = .ok (.aload_n 2, 1) := dk_44 (dk_at dksX0_bestEffort_0 0 rfl rfl)
theorem dX0_bestEffort_1 : decode cX0_bestEffort 1 = .ok (.iconst 0, 1) := dk_3 (dk_at dksX0_bestEffort_0 1 rfl rfl)
theorem dX0_bestEffort_2 : decode cX0_bestEffort 2 = .ok (.aload_n 0, 1) := dk_42 (dk_at dksX0_bestEffort_0 2 rfl rfl)
theorem dX0_bestEffort_3 : decode cX0_bestEffort 3 = .ok (.iload_n 1, 1) := dk_27 (dk_at dksX0_bestEffort_0 3 rfl rfl)
theorem dX0_bestEffort_4 : decode cX0_bestEffort 4 = .ok (.invokevirtual 113, 3) := dk_182 0 113 (dk_at dksX0_bestEffort_0 4 rfl rfl)
theorem dX0_bestEffort_7 : decode cX0_bestEffort 7 = .ok (.i2l, 1) := dk_133 (dk_at dksX0_bestEffort_0 7 rfl rfl)
theorem dX0_bestEffort_8 : decode cX0_bestEffort 8 = .ok (.lastore, 1) := dk_80 (dk_at dksX0_bestEffort_0 8 rfl rfl)
theorem dX0_bestEffort_9 : decode cX0_bestEffort 9 = .ok (.goto 9, 3) := dk_167 0 9 (dk_at dksX0_bestEffort_0 9 rfl rfl)
theorem dX0_bestEffort_12 : decode cX0_bestEffort 12 = .ok (.astore_n 3, 1) := dk_78 (dk_at dksX0_bestEffort_0 12 rfl rfl)
theorem dX0_bestEffort_13 : decode cX0_bestEffort 13 = .ok (.iconst 1, 1) := dk_4 (dk_at dksX0_bestEffort_0 13 rfl rfl)
theorem dX0_bestEffort_14 : decode cX0_bestEffort 14 = .ok (.ireturn, 1) := dk_172 (dk_at dksX0_bestEffort_0 14 rfl rfl)
theorem dX0_bestEffort_15 : decode cX0_bestEffort 15 = .ok (.astore_n 3, 1) := dk_78 (dk_at dksX0_bestEffort_0 15 rfl rfl)
theorem dX0_bestEffort_16 : decode cX0_bestEffort 16 = .ok (.iconst 2, 1) := dk_5 (dk_at dksX0_bestEffort_0 16 rfl rfl)
theorem dX0_bestEffort_17 : decode cX0_bestEffort 17 = .ok (.ireturn, 1) := dk_172 (dk_at dksX0_bestEffort_0 17 rfl rfl)
theorem dX0_bestEffort_18 : decode cX0_bestEffort 18 = .ok (.iconst 0, 1) := dk_3 (dk_at dksX0_bestEffort_0 18 rfl rfl)
theorem dX0_bestEffort_19 : decode cX0_bestEffort 19 = .ok (.ireturn, 1) := dk_172 (dk_at dksX0_bestEffort_0 19 rfl rfl)
abbrev cX0_bestEffortByTrying : ByteArray := method_34_code
def yX0_bestEffortByTrying : MethodName := ⟨RX0, "bestEffortByTrying", "(LTrainingDiary;I[J)I"⟩
def dkwX0_bestEffortByTrying_0 : List UInt8 := [44, 3, 42, 27, 182, 0, 116, 133, 80, 167, 0, 9, 78, 4, 172, 78, 5, 172, 3, 172]
abbrev dktX0_bestEffortByTrying_0 : List UInt8 := dkwX0_bestEffortByTrying_0 ++ []
theorem dksX0_bestEffortByTrying_0 : cX0_bestEffortByTrying.data.toList.drop 0 = dktX0_bestEffortByTrying_0 := by decide +kernel
theorem dX0_bestEffortByTrying_0 : decode cX0_bestEffortByTrying 0 = .ok (.aload_n 2, 1) := dk_44 (dk_at dksX0_bestEffortByTrying_0 0 rfl rfl)
theorem dX0_bestEffortByTrying_1 : decode cX0_bestEffortByTrying 1 = .ok (.iconst 0, 1) := dk_3 (dk_at dksX0_bestEffortByTrying_0 1 rfl rfl)
theorem dX0_bestEffortByTrying_2 : decode cX0_bestEffortByTrying 2 = .ok (.aload_n 0, 1) := dk_42 (dk_at dksX0_bestEffortByTrying_0 2 rfl rfl)
theorem dX0_bestEffortByTrying_3 : decode cX0_bestEffortByTrying 3 = .ok (.iload_n 1, 1) := dk_27 (dk_at dksX0_bestEffortByTrying_0 3 rfl rfl)
theorem dX0_bestEffortByTrying_4 : decode cX0_bestEffortByTrying 4 = .ok (.invokevirtual 116, 3) := dk_182 0 116 (dk_at dksX0_bestEffortByTrying_0 4 rfl rfl)
theorem dX0_bestEffortByTrying_7 : decode cX0_bestEffortByTrying 7 = .ok (.i2l, 1) := dk_133 (dk_at dksX0_bestEffortByTrying_0 7 rfl rfl)
theorem dX0_bestEffortByTrying_8 : decode cX0_bestEffortByTrying 8 = .ok (.lastore, 1) := dk_80 (dk_at dksX0_bestEffortByTrying_0 8 rfl rfl)
theorem dX0_bestEffortByTrying_9 : decode cX0_bestEffortByTrying 9 = .ok (.goto 9, 3) := dk_167 0 9 (dk_at dksX0_bestEffortByTrying_0 9 rfl rfl)
theorem dX0_bestEffortByTrying_12 : decode cX0_bestEffortByTrying 12 = .ok (.astore_n 3, 1) := dk_78 (dk_at dksX0_bestEffortByTrying_0 12 rfl rfl)
theorem dX0_bestEffortByTrying_13 : decode cX0_bestEffortByTrying 13 = .ok (.iconst 1, 1) := dk_4 (dk_at dksX0_bestEffortByTrying_0 13 rfl rfl)
theorem dX0_bestEffortByTrying_14 : decode cX0_bestEffortByTrying 14 = .ok (.ireturn, 1) := dk_172 (dk_at dksX0_bestEffortByTrying_0 14 rfl rfl)
theorem dX0_bestEffortByTrying_15 : decode cX0_bestEffortByTrying 15 = .ok (.astore_n 3, 1) := dk_78 (dk_at dksX0_bestEffortByTrying_0 15 rfl rfl)
theorem dX0_bestEffortByTrying_16 : decode cX0_bestEffortByTrying 16 = .ok (.iconst 2, 1) := dk_5 (dk_at dksX0_bestEffortByTrying_0 16 rfl rfl)
theorem dX0_bestEffortByTrying_17 : decode cX0_bestEffortByTrying 17 = .ok (.ireturn, 1) := dk_172 (dk_at dksX0_bestEffortByTrying_0 17 rfl rfl)
theorem dX0_bestEffortByTrying_18 : decode cX0_bestEffortByTrying 18 = .ok (.iconst 0, 1) := dk_3 (dk_at dksX0_bestEffortByTrying_0 18 rfl rfl)
theorem dX0_bestEffortByTrying_19 : decode cX0_bestEffortByTrying 19 = .ok (.ireturn, 1) := dk_172 (dk_at dksX0_bestEffortByTrying_0 19 rfl rfl)
abbrev cX0_bestEffortSession : ByteArray := method_35_code
def yX0_bestEffortSession : MethodName := ⟨RX0, "bestEffortSession", "(LTrainingDiary;I[J)I"⟩
def dkwX0_bestEffortSession_0 : List UInt8 := [44, 3, 42, 27, 182, 0, 119, 133, 80, 167, 0, 9, 78, 4, 172, 78, 5, 172, 3, 172]
abbrev dktX0_bestEffortSession_0 : List UInt8 := dkwX0_bestEffortSession_0 ++ []
theorem dksX0_bestEffortSession_0 : cX0_bestEffortSession.data.toList.drop 0 = dktX0_bestEffortSession_0 := by decide +kernel
theorem dX0_bestEffortSession_0 : decode cX0_bestEffortSession 0 = .ok (.aload_n 2, 1) := dk_44 (dk_at dksX0_bestEffortSession_0 0 rfl rfl)
theorem dX0_bestEffortSession_1 : decode cX0_bestEffortSession 1 = .ok (.iconst 0, 1) := dk_3 (dk_at dksX0_bestEffortSession_0 1 rfl rfl)
theorem dX0_bestEffortSession_2 : decode cX0_bestEffortSession 2 = .ok (.aload_n 0, 1) := dk_42 (dk_at dksX0_bestEffortSession_0 2 rfl rfl)
theorem dX0_bestEffortSession_3 : decode cX0_bestEffortSession 3 = .ok (.iload_n 1, 1) := dk_27 (dk_at dksX0_bestEffortSession_0 3 rfl rfl)
theorem dX0_bestEffortSession_4 : decode cX0_bestEffortSession 4 = .ok (.invokevirtual 119, 3) := dk_182 0 119 (dk_at dksX0_bestEffortSession_0 4 rfl rfl)
theorem dX0_bestEffortSession_7 : decode cX0_bestEffortSession 7 = .ok (.i2l, 1) := dk_133 (dk_at dksX0_bestEffortSession_0 7 rfl rfl)
theorem dX0_bestEffortSession_8 : decode cX0_bestEffortSession 8 = .ok (.lastore, 1) := dk_80 (dk_at dksX0_bestEffortSession_0 8 rfl rfl)
theorem dX0_bestEffortSession_9 : decode cX0_bestEffortSession 9 = .ok (.goto 9, 3) := dk_167 0 9 (dk_at dksX0_bestEffortSession_0 9 rfl rfl)
theorem dX0_bestEffortSession_12 : decode cX0_bestEffortSession 12 = .ok (.astore_n 3, 1) := dk_78 (dk_at dksX0_bestEffortSession_0 12 rfl rfl)
theorem dX0_bestEffortSession_13 : decode cX0_bestEffortSession 13 = .ok (.iconst 1, 1) := dk_4 (dk_at dksX0_bestEffortSession_0 13 rfl rfl)
theorem dX0_bestEffortSession_14 : decode cX0_bestEffortSession 14 = .ok (.ireturn, 1) := dk_172 (dk_at dksX0_bestEffortSession_0 14 rfl rfl)
theorem dX0_bestEffortSession_15 : decode cX0_bestEffortSession 15 = .ok (.astore_n 3, 1) := dk_78 (dk_at dksX0_bestEffortSession_0 15 rfl rfl)
theorem dX0_bestEffortSession_16 : decode cX0_bestEffortSession 16 = .ok (.iconst 2, 1) := dk_5 (dk_at dksX0_bestEffortSession_0 16 rfl rfl)
theorem dX0_bestEffortSession_17 : decode cX0_bestEffortSession 17 = .ok (.ireturn, 1) := dk_172 (dk_at dksX0_bestEffortSession_0 17 rfl rfl)
theorem dX0_bestEffortSession_18 : decode cX0_bestEffortSession 18 = .ok (.iconst 0, 1) := dk_3 (dk_at dksX0_bestEffortSession_0 18 rfl rfl)
theorem dX0_bestEffortSession_19 : decode cX0_bestEffortSession 19 = .ok (.ireturn, 1) := dk_172 (dk_at dksX0_bestEffortSession_0 19 rfl rfl)
abbrev cX0_addTarget : ByteArray := method_36_code
def yX0_addTarget : MethodName := ⟨RX0, "addTarget", "(LTrainingDiary;I[J)I"⟩
def dkwX0_addTarget_0 : List UInt8 := [44, 3, 42, 27, 182, 0, 122, 133, 80, 167, 0, 9, 78, 4, 172, 78, 5, 172, 3, 172]
abbrev dktX0_addTarget_0 : List UInt8 := dkwX0_addTarget_0 ++ []
theorem dksX0_addTarget_0 : cX0_addTarget.data.toList.drop 0 = dktX0_addTarget_0 := by decide +kernel
theorem dX0_addTarget_0 : decode cX0_addTarget 0 = .ok (.aload_n 2, 1) := dk_44 (dk_at dksX0_addTarget_0 0 rfl rfl)
theorem dX0_addTarget_1 : decode cX0_addTarget 1 = .ok (.iconst 0, 1) := dk_3 (dk_at dksX0_addTarget_0 1 rfl rfl)
theorem dX0_addTarget_2 : decode cX0_addTarget 2 = .ok (.aload_n 0, 1) := dk_42 (dk_at dksX0_addTarget_0 2 rfl rfl)
theorem dX0_addTarget_3 : decode cX0_addTarget 3 = .ok (.iload_n 1, 1) := dk_27 (dk_at dksX0_addTarget_0 3 rfl rfl)
theorem dX0_addTarget_4 : decode cX0_addTarget 4 = .ok (.invokevirtual 122, 3) := dk_182 0 122 (dk_at dksX0_addTarget_0 4 rfl rfl)
theorem dX0_addTarget_7 : decode cX0_addTarget 7 = .ok (.i2l, 1) := dk_133 (dk_at dksX0_addTarget_0 7 rfl rfl)
theorem dX0_addTarget_8 : decode cX0_addTarget 8 = .ok (.lastore, 1) := dk_80 (dk_at dksX0_addTarget_0 8 rfl rfl)
theorem dX0_addTarget_9 : decode cX0_addTarget 9 = .ok (.goto 9, 3) := dk_167 0 9 (dk_at dksX0_addTarget_0 9 rfl rfl)
theorem dX0_addTarget_12 : decode cX0_addTarget 12 = .ok (.astore_n 3, 1) := dk_78 (dk_at dksX0_addTarget_0 12 rfl rfl)
theorem dX0_addTarget_13 : decode cX0_addTarget 13 = .ok (.iconst 1, 1) := dk_4 (dk_at dksX0_addTarget_0 13 rfl rfl)
theorem dX0_addTarget_14 : decode cX0_addTarget 14 = .ok (.ireturn, 1) := dk_172 (dk_at dksX0_addTarget_0 14 rfl rfl)
theorem dX0_addTarget_15 : decode cX0_addTarget 15 = .ok (.astore_n 3, 1) := dk_78 (dk_at dksX0_addTarget_0 15 rfl rfl)
theorem dX0_addTarget_16 : decode cX0_addTarget 16 = .ok (.iconst 2, 1) := dk_5 (dk_at dksX0_addTarget_0 16 rfl rfl)
theorem dX0_addTarget_17 : decode cX0_addTarget 17 = .ok (.ireturn, 1) := dk_172 (dk_at dksX0_addTarget_0 17 rfl rfl)
theorem dX0_addTarget_18 : decode cX0_addTarget 18 = .ok (.iconst 0, 1) := dk_3 (dk_at dksX0_addTarget_0 18 rfl rfl)
theorem dX0_addTarget_19 : decode cX0_addTarget 19 = .ok (.ireturn, 1) := dk_172 (dk_at dksX0_addTarget_0 19 rfl rfl)
abbrev cX0_targetAt : ByteArray := method_37_code
def yX0_targetAt : MethodName := ⟨RX0, "targetAt", "(LTrainingDiary;I[J)I"⟩
def dkwX0_targetAt_0 : List UInt8 := [44, 3, 42, 27, 182, 0, 125, 133, 80, 167, 0, 6, 78, 4, 172, 3, 172]
abbrev dktX0_targetAt_0 : List UInt8 := dkwX0_targetAt_0 ++ []
theorem dksX0_targetAt_0 : cX0_targetAt.data.toList.drop 0 = dktX0_targetAt_0 := by decide +kernel
theorem dX0_targetAt_0 : decode cX0_targetAt 0 = .ok (.aload_n 2, 1) := dk_44 (dk_at dksX0_targetAt_0 0 rfl rfl)
theorem dX0_targetAt_1 : decode cX0_targetAt 1 = .ok (.iconst 0, 1) := dk_3 (dk_at dksX0_targetAt_0 1 rfl rfl)
theorem dX0_targetAt_2 : decode cX0_targetAt 2 = .ok (.aload_n 0, 1) := dk_42 (dk_at dksX0_targetAt_0 2 rfl rfl)
theorem dX0_targetAt_3 : decode cX0_targetAt 3 = .ok (.iload_n 1, 1) := dk_27 (dk_at dksX0_targetAt_0 3 rfl rfl)
theorem dX0_targetAt_4 : decode cX0_targetAt 4 = .ok (.invokevirtual 125, 3) := dk_182 0 125 (dk_at dksX0_targetAt_0 4 rfl rfl)
theorem dX0_targetAt_7 : decode cX0_targetAt 7 = .ok (.i2l, 1) := dk_133 (dk_at dksX0_targetAt_0 7 rfl rfl)
theorem dX0_targetAt_8 : decode cX0_targetAt 8 = .ok (.lastore, 1) := dk_80 (dk_at dksX0_targetAt_0 8 rfl rfl)
theorem dX0_targetAt_9 : decode cX0_targetAt 9 = .ok (.goto 6, 3) := dk_167 0 6 (dk_at dksX0_targetAt_0 9 rfl rfl)
theorem dX0_targetAt_12 : decode cX0_targetAt 12 = .ok (.astore_n 3, 1) := dk_78 (dk_at dksX0_targetAt_0 12 rfl rfl)
theorem dX0_targetAt_13 : decode cX0_targetAt 13 = .ok (.iconst 1, 1) := dk_4 (dk_at dksX0_targetAt_0 13 rfl rfl)
theorem dX0_targetAt_14 : decode cX0_targetAt 14 = .ok (.ireturn, 1) := dk_172 (dk_at dksX0_targetAt_0 14 rfl rfl)
theorem dX0_targetAt_15 : decode cX0_targetAt 15 = .ok (.iconst 0, 1) := dk_3 (dk_at dksX0_targetAt_0 15 rfl rfl)
theorem dX0_targetAt_16 : decode cX0_targetAt 16 = .ok (.ireturn, 1) := dk_172 (dk_at dksX0_targetAt_0 16 rfl rfl)
abbrev cX0_dueEntry : ByteArray := method_38_code
def yX0_dueEntry : MethodName := ⟨RX0, "dueEntry", "(LTrainingDiary;[J)I"⟩
def dkwX0_dueEntry_0 : List UInt8 := [43, 3, 42, 182, 0, 128, 133, 80, 167, 0, 6, 77, 4, 172, 3, 172]
abbrev dktX0_dueEntry_0 : List UInt8 := dkwX0_dueEntry_0 ++ []
theorem dksX0_dueEntry_0 : cX0_dueEntry.data.toList.drop 0 = dktX0_dueEntry_0 := by decide +kernel
theorem dX0_dueEntry_0 : decode cX0_dueEntry 0 = .ok (.aload_n 1, 1) := dk_43 (dk_at dksX0_dueEntry_0 0 rfl rfl)
theorem dX0_dueEntry_1 : decode cX0_dueEntry 1 = .ok (.iconst 0, 1) := dk_3 (dk_at dksX0_dueEntry_0 1 rfl rfl)
theorem dX0_dueEntry_2 : decode cX0_dueEntry 2 = .ok (.aload_n 0, 1) := dk_42 (dk_at dksX0_dueEntry_0 2 rfl rfl)
theorem dX0_dueEntry_3 : decode cX0_dueEntry 3 = .ok (.invokevirtual 128, 3) := dk_182 0 128 (dk_at dksX0_dueEntry_0 3 rfl rfl)
theorem dX0_dueEntry_6 : decode cX0_dueEntry 6 = .ok (.i2l, 1) := dk_133 (dk_at dksX0_dueEntry_0 6 rfl rfl)
theorem dX0_dueEntry_7 : decode cX0_dueEntry 7 = .ok (.lastore, 1) := dk_80 (dk_at dksX0_dueEntry_0 7 rfl rfl)
theorem dX0_dueEntry_8 : decode cX0_dueEntry 8 = .ok (.goto 6, 3) := dk_167 0 6 (dk_at dksX0_dueEntry_0 8 rfl rfl)
theorem dX0_dueEntry_11 : decode cX0_dueEntry 11 = .ok (.astore_n 2, 1) := dk_77 (dk_at dksX0_dueEntry_0 11 rfl rfl)
theorem dX0_dueEntry_12 : decode cX0_dueEntry 12 = .ok (.iconst 1, 1) := dk_4 (dk_at dksX0_dueEntry_0 12 rfl rfl)
theorem dX0_dueEntry_13 : decode cX0_dueEntry 13 = .ok (.ireturn, 1) := dk_172 (dk_at dksX0_dueEntry_0 13 rfl rfl)
theorem dX0_dueEntry_14 : decode cX0_dueEntry 14 = .ok (.iconst 0, 1) := dk_3 (dk_at dksX0_dueEntry_0 14 rfl rfl)
theorem dX0_dueEntry_15 : decode cX0_dueEntry 15 = .ok (.ireturn, 1) := dk_172 (dk_at dksX0_dueEntry_0 15 rfl rfl)
abbrev cX0_planEnd : ByteArray := method_39_code
def yX0_planEnd : MethodName := ⟨RX0, "planEnd", "(LTrainingDiary;[J)I"⟩
def dkwX0_planEnd_0 : List UInt8 := [43, 3, 42, 182, 0, 132, 133, 80, 167, 0, 6, 77, 4, 172, 3, 172]
abbrev dktX0_planEnd_0 : List UInt8 := dkwX0_planEnd_0 ++ []
theorem dksX0_planEnd_0 : cX0_planEnd.data.toList.drop 0 = dktX0_planEnd_0 := by decide +kernel
theorem dX0_planEnd_0 : decode cX0_planEnd 0 = .ok (.aload_n 1, 1) := dk_43 (dk_at dksX0_planEnd_0 0 rfl rfl)
theorem dX0_planEnd_1 : decode cX0_planEnd 1 = .ok (.iconst 0, 1) := dk_3 (dk_at dksX0_planEnd_0 1 rfl rfl)
theorem dX0_planEnd_2 : decode cX0_planEnd 2 = .ok (.aload_n 0, 1) := dk_42 (dk_at dksX0_planEnd_0 2 rfl rfl)
theorem dX0_planEnd_3 : decode cX0_planEnd 3 = .ok (.invokevirtual 132, 3) := dk_182 0 132 (dk_at dksX0_planEnd_0 3 rfl rfl)
theorem dX0_planEnd_6 : decode cX0_planEnd 6 = .ok (.i2l, 1) := dk_133 (dk_at dksX0_planEnd_0 6 rfl rfl)
theorem dX0_planEnd_7 : decode cX0_planEnd 7 = .ok (.lastore, 1) := dk_80 (dk_at dksX0_planEnd_0 7 rfl rfl)
theorem dX0_planEnd_8 : decode cX0_planEnd 8 = .ok (.goto 6, 3) := dk_167 0 6 (dk_at dksX0_planEnd_0 8 rfl rfl)
theorem dX0_planEnd_11 : decode cX0_planEnd 11 = .ok (.astore_n 2, 1) := dk_77 (dk_at dksX0_planEnd_0 11 rfl rfl)
theorem dX0_planEnd_12 : decode cX0_planEnd 12 = .ok (.iconst 1, 1) := dk_4 (dk_at dksX0_planEnd_0 12 rfl rfl)
theorem dX0_planEnd_13 : decode cX0_planEnd 13 = .ok (.ireturn, 1) := dk_172 (dk_at dksX0_planEnd_0 13 rfl rfl)
theorem dX0_planEnd_14 : decode cX0_planEnd 14 = .ok (.iconst 0, 1) := dk_3 (dk_at dksX0_planEnd_0 14 rfl rfl)
theorem dX0_planEnd_15 : decode cX0_planEnd 15 = .ok (.ireturn, 1) := dk_172 (dk_at dksX0_planEnd_0 15 rfl rfl)
abbrev cX0_writeWeek : ByteArray := method_40_code
def yX0_writeWeek : MethodName := ⟨RX0, "writeWeek", "(LTrainingDiary;I[J)I"⟩
def dkwX0_writeWeek_0 : List UInt8 := [44, 3, 42, 27, 182, 0, 135, 133, 80, 167, 0, 6, 78, 4, 172, 3, 172]
abbrev dktX0_writeWeek_0 : List UInt8 := dkwX0_writeWeek_0 ++ []
theorem dksX0_writeWeek_0 : cX0_writeWeek.data.toList.drop 0 = dktX0_writeWeek_0 := by decide +kernel
theorem dX0_writeWeek_0 : decode cX0_writeWeek 0 = .ok (.aload_n 2, 1) := dk_44 (dk_at dksX0_writeWeek_0 0 rfl rfl)
theorem dX0_writeWeek_1 : decode cX0_writeWeek 1 = .ok (.iconst 0, 1) := dk_3 (dk_at dksX0_writeWeek_0 1 rfl rfl)
theorem dX0_writeWeek_2 : decode cX0_writeWeek 2 = .ok (.aload_n 0, 1) := dk_42 (dk_at dksX0_writeWeek_0 2 rfl rfl)
theorem dX0_writeWeek_3 : decode cX0_writeWeek 3 = .ok (.iload_n 1, 1) := dk_27 (dk_at dksX0_writeWeek_0 3 rfl rfl)
theorem dX0_writeWeek_4 : decode cX0_writeWeek 4 = .ok (.invokevirtual 135, 3) := dk_182 0 135 (dk_at dksX0_writeWeek_0 4 rfl rfl)
theorem dX0_writeWeek_7 : decode cX0_writeWeek 7 = .ok (.i2l, 1) := dk_133 (dk_at dksX0_writeWeek_0 7 rfl rfl)
theorem dX0_writeWeek_8 : decode cX0_writeWeek 8 = .ok (.lastore, 1) := dk_80 (dk_at dksX0_writeWeek_0 8 rfl rfl)
theorem dX0_writeWeek_9 : decode cX0_writeWeek 9 = .ok (.goto 6, 3) := dk_167 0 6 (dk_at dksX0_writeWeek_0 9 rfl rfl)
theorem dX0_writeWeek_12 : decode cX0_writeWeek 12 = .ok (.astore_n 3, 1) := dk_78 (dk_at dksX0_writeWeek_0 12 rfl rfl)
theorem dX0_writeWeek_13 : decode cX0_writeWeek 13 = .ok (.iconst 1, 1) := dk_4 (dk_at dksX0_writeWeek_0 13 rfl rfl)
theorem dX0_writeWeek_14 : decode cX0_writeWeek 14 = .ok (.ireturn, 1) := dk_172 (dk_at dksX0_writeWeek_0 14 rfl rfl)
theorem dX0_writeWeek_15 : decode cX0_writeWeek 15 = .ok (.iconst 0, 1) := dk_3 (dk_at dksX0_writeWeek_0 15 rfl rfl)
theorem dX0_writeWeek_16 : decode cX0_writeWeek 16 = .ok (.ireturn, 1) := dk_172 (dk_at dksX0_writeWeek_0 16 rfl rfl)
abbrev cX0_lineAt : ByteArray := method_41_code
def yX0_lineAt : MethodName := ⟨RX0, "lineAt", "(LTrainingDiary;I[J)I"⟩
def dkwX0_lineAt_0 : List UInt8 := [44, 3, 42, 27, 182, 0, 138, 133, 80, 167, 0, 6, 78, 4, 172, 3, 172]
abbrev dktX0_lineAt_0 : List UInt8 := dkwX0_lineAt_0 ++ []
theorem dksX0_lineAt_0 : cX0_lineAt.data.toList.drop 0 = dktX0_lineAt_0 := by decide +kernel
theorem dX0_lineAt_0 : decode cX0_lineAt 0 = .ok (.aload_n 2, 1) := dk_44 (dk_at dksX0_lineAt_0 0 rfl rfl)
theorem dX0_lineAt_1 : decode cX0_lineAt 1 = .ok (.iconst 0, 1) := dk_3 (dk_at dksX0_lineAt_0 1 rfl rfl)
theorem dX0_lineAt_2 : decode cX0_lineAt 2 = .ok (.aload_n 0, 1) := dk_42 (dk_at dksX0_lineAt_0 2 rfl rfl)
theorem dX0_lineAt_3 : decode cX0_lineAt 3 = .ok (.iload_n 1, 1) := dk_27 (dk_at dksX0_lineAt_0 3 rfl rfl)
theorem dX0_lineAt_4 : decode cX0_lineAt 4 = .ok (.invokevirtual 138, 3) := dk_182 0 138 (dk_at dksX0_lineAt_0 4 rfl rfl)
theorem dX0_lineAt_7 : decode cX0_lineAt 7 = .ok (.i2l, 1) := dk_133 (dk_at dksX0_lineAt_0 7 rfl rfl)
theorem dX0_lineAt_8 : decode cX0_lineAt 8 = .ok (.lastore, 1) := dk_80 (dk_at dksX0_lineAt_0 8 rfl rfl)
theorem dX0_lineAt_9 : decode cX0_lineAt 9 = .ok (.goto 6, 3) := dk_167 0 6 (dk_at dksX0_lineAt_0 9 rfl rfl)
theorem dX0_lineAt_12 : decode cX0_lineAt 12 = .ok (.astore_n 3, 1) := dk_78 (dk_at dksX0_lineAt_0 12 rfl rfl)
theorem dX0_lineAt_13 : decode cX0_lineAt 13 = .ok (.iconst 1, 1) := dk_4 (dk_at dksX0_lineAt_0 13 rfl rfl)
theorem dX0_lineAt_14 : decode cX0_lineAt 14 = .ok (.ireturn, 1) := dk_172 (dk_at dksX0_lineAt_0 14 rfl rfl)
theorem dX0_lineAt_15 : decode cX0_lineAt 15 = .ok (.iconst 0, 1) := dk_3 (dk_at dksX0_lineAt_0 15 rfl rfl)
theorem dX0_lineAt_16 : decode cX0_lineAt 16 = .ok (.ireturn, 1) := dk_172 (dk_at dksX0_lineAt_0 16 rfl rfl)
abbrev cX0_undo : ByteArray := method_42_code
def yX0_undo : MethodName := ⟨RX0, "undo", "(LTrainingDiary;[J)I"⟩
def dkwX0_undo_0 : List UInt8 := [43, 3, 42, 182, 0, 142, 133, 80, 167, 0, 6, 77, 4, 172, 3, 172]
abbrev dktX0_undo_0 : List UInt8 := dkwX0_undo_0 ++ []
theorem dksX0_undo_0 : cX0_undo.data.toList.drop 0 = dktX0_undo_0 := by decide +kernel
theorem dX0_undo_0 : decode cX0_undo 0 = .ok (.aload_n 1, 1) := dk_43 (dk_at dksX0_undo_0 0 rfl rfl)
theorem dX0_undo_1 : decode cX0_undo 1 = .ok (.iconst 0, 1) := dk_3 (dk_at dksX0_undo_0 1 rfl rfl)
theorem dX0_undo_2 : decode cX0_undo 2 = .ok (.aload_n 0, 1) := dk_42 (dk_at dksX0_undo_0 2 rfl rfl)
theorem dX0_undo_3 : decode cX0_undo 3 = .ok (.invokevirtual 142, 3) := dk_182 0 142 (dk_at dksX0_undo_0 3 rfl rfl)
theorem dX0_undo_6 : decode cX0_undo 6 = .ok (.i2l, 1) := dk_133 (dk_at dksX0_undo_0 6 rfl rfl)
theorem dX0_undo_7 : decode cX0_undo 7 = .ok (.lastore, 1) := dk_80 (dk_at dksX0_undo_0 7 rfl rfl)
theorem dX0_undo_8 : decode cX0_undo 8 = .ok (.goto 6, 3) := dk_167 0 6 (dk_at dksX0_undo_0 8 rfl rfl)
theorem dX0_undo_11 : decode cX0_undo 11 = .ok (.astore_n 2, 1) := dk_77 (dk_at dksX0_undo_0 11 rfl rfl)
theorem dX0_undo_12 : decode cX0_undo 12 = .ok (.iconst 1, 1) := dk_4 (dk_at dksX0_undo_0 12 rfl rfl)
theorem dX0_undo_13 : decode cX0_undo 13 = .ok (.ireturn, 1) := dk_172 (dk_at dksX0_undo_0 13 rfl rfl)
theorem dX0_undo_14 : decode cX0_undo 14 = .ok (.iconst 0, 1) := dk_3 (dk_at dksX0_undo_0 14 rfl rfl)
theorem dX0_undo_15 : decode cX0_undo 15 = .ok (.ireturn, 1) := dk_172 (dk_at dksX0_undo_0 15 rfl rfl)
abbrev cX0_restore : ByteArray := method_43_code
def yX0_restore : MethodName := ⟨RX0, "restore", "(LTrainingDiary;[J)I"⟩
def dkwX0_restore_0 : List UInt8 := [43, 3, 42, 182, 0, 145, 133, 80, 167, 0, 6, 77, 4, 172, 3, 172]
abbrev dktX0_restore_0 : List UInt8 := dkwX0_restore_0 ++ []
theorem dksX0_restore_0 : cX0_restore.data.toList.drop 0 = dktX0_restore_0 := by decide +kernel
theorem dX0_restore_0 : decode cX0_restore 0 = .ok (.aload_n 1, 1) := dk_43 (dk_at dksX0_restore_0 0 rfl rfl)
theorem dX0_restore_1 : decode cX0_restore 1 = .ok (.iconst 0, 1) := dk_3 (dk_at dksX0_restore_0 1 rfl rfl)
theorem dX0_restore_2 : decode cX0_restore 2 = .ok (.aload_n 0, 1) := dk_42 (dk_at dksX0_restore_0 2 rfl rfl)
theorem dX0_restore_3 : decode cX0_restore 3 = .ok (.invokevirtual 145, 3) := dk_182 0 145 (dk_at dksX0_restore_0 3 rfl rfl)
theorem dX0_restore_6 : decode cX0_restore 6 = .ok (.i2l, 1) := dk_133 (dk_at dksX0_restore_0 6 rfl rfl)
theorem dX0_restore_7 : decode cX0_restore 7 = .ok (.lastore, 1) := dk_80 (dk_at dksX0_restore_0 7 rfl rfl)
theorem dX0_restore_8 : decode cX0_restore 8 = .ok (.goto 6, 3) := dk_167 0 6 (dk_at dksX0_restore_0 8 rfl rfl)
theorem dX0_restore_11 : decode cX0_restore 11 = .ok (.astore_n 2, 1) := dk_77 (dk_at dksX0_restore_0 11 rfl rfl)
theorem dX0_restore_12 : decode cX0_restore 12 = .ok (.iconst 1, 1) := dk_4 (dk_at dksX0_restore_0 12 rfl rfl)
theorem dX0_restore_13 : decode cX0_restore 13 = .ok (.ireturn, 1) := dk_172 (dk_at dksX0_restore_0 13 rfl rfl)
theorem dX0_restore_14 : decode cX0_restore 14 = .ok (.iconst 0, 1) := dk_3 (dk_at dksX0_restore_0 14 rfl rfl)
theorem dX0_restore_15 : decode cX0_restore 15 = .ok (.ireturn, 1) := dk_172 (dk_at dksX0_restore_0 15 rfl rfl)
theorem q46 : (Jvm.Cond.initialized "TrainingDiaryLaw") ∈ lw_all := lw_g (lw_at lw_m1 0 rfl) rfl
theorem q83 : (Jvm.Cond.classLink "TrainingDiaryLaw" (8 : Nat) "TrainingDiary") ∈ lw_all := lw_g (lw_at lw_m1 37 rfl) rfl
theorem q85 : (Jvm.Cond.methodLink "TrainingDiaryLaw" (148 : Nat) ({ cls := "TrainingDiary", name := "<init>", desc := "()V" } : Jvm.MethodName)) ∈ lw_all := lw_g (lw_at lw_m1 39 rfl) rfl
theorem q251 : (Jvm.Cond.methodLink "TrainingDiaryLaw" (161 : Nat) ({ cls := "TrainingDiary", name := "today", desc := "()I" } : Jvm.MethodName)) ∈ lw_all := lw_g (lw_at lw_m1 205 rfl) rfl
theorem q255 : (Jvm.Cond.methodLink "TrainingDiaryLaw" (172 : Nat) ({ cls := "TrainingDiary", name := "testCount", desc := "()I" } : Jvm.MethodName)) ∈ lw_all := lw_g (lw_at lw_m1 209 rfl) rfl
theorem q267 : (Jvm.Cond.methodLink "TrainingDiaryLaw" (210 : Nat) ({ cls := "TrainingDiary", name := "sessionCount", desc := "()I" } : Jvm.MethodName)) ∈ lw_all := lw_g (lw_at lw_m1 221 rfl) rfl
theorem q271 : (Jvm.Cond.methodLink "TrainingDiaryLaw" (236 : Nat) ({ cls := "TrainingDiary", name := "meanLoad", desc := "()D" } : Jvm.MethodName)) ∈ lw_all := lw_g (lw_at lw_m1 225 rfl) rfl
theorem q454 : (Jvm.Cond.methodLink "TrainingDiaryLaw" (256 : Nat) ({ cls := "TrainingDiary", name := "bestFormDay", desc := "()I" } : Jvm.MethodName)) ∈ lw_all := lw_g (lw_at lw_m2 168 rfl) rfl
theorem q470 : (Jvm.Cond.methodLink "TrainingDiaryLaw" (281 : Nat) ({ cls := "TrainingDiary", name := "startPlan", desc := "()I" } : Jvm.MethodName)) ∈ lw_all := lw_g (lw_at lw_m2 184 rfl) rfl
theorem q623 : (Jvm.Cond.methodLink "TrainingDiaryLaw" (295 : Nat) ({ cls := "TrainingDiary", name := "missedDays", desc := "()I" } : Jvm.MethodName)) ∈ lw_all := lw_g (lw_at lw_m3 97 rfl) rfl
theorem q661 : (Jvm.Cond.methodLink "TrainingDiaryLaw" (299 : Nat) ({ cls := "TrainingDiary", name := "droppedEntries", desc := "()I" } : Jvm.MethodName)) ∈ lw_all := lw_g (lw_at lw_m3 135 rfl) rfl
theorem q665 : (Jvm.Cond.methodLink "TrainingDiaryLaw" (306 : Nat) ({ cls := "TrainingDiary", name := "isPlanOver", desc := "()Z" } : Jvm.MethodName)) ∈ lw_all := lw_g (lw_at lw_m3 139 rfl) rfl
theorem q673 : (Jvm.Cond.methodLink "TrainingDiaryLaw" (320 : Nat) ({ cls := "TrainingDiary", name := "save", desc := "()I" } : Jvm.MethodName)) ∈ lw_all := lw_g (lw_at lw_m3 147 rfl) rfl
theorem q677 : (Jvm.Cond.methodLink "TrainingDiaryLaw" (152 : Nat) ({ cls := "TrainingDiaryLaw", name := "pass", desc := "(LTrainingDiary;I[J)I" } : Jvm.MethodName)) ∈ lw_all := lw_g (lw_at lw_m3 151 rfl) rfl
theorem q678 : (Jvm.Cond.static ({ cls := "TrainingDiaryLaw", name := "pass", desc := "(LTrainingDiary;I[J)I" } : Jvm.MethodName)) ∈ lw_all := lw_g (lw_at lw_m3 152 rfl) rfl
theorem q679 : (Jvm.Cond.codeWith ({ cls := "TrainingDiaryLaw", name := "pass", desc := "(LTrainingDiary;I[J)I" } : Jvm.MethodName) method_3_code (4 : Nat) (Option.some Jvm.ClassFile.FieldType.int) [((0 : Nat), (9 : Nat), (12 : Nat), (13 : Nat)), ((0 : Nat), (9 : Nat), (15 : Nat), (15 : Nat))]) ∈ lw_all := lw_g (lw_at lw_m3 153 rfl) rfl
theorem q680 : (Jvm.Cond.classLink "TrainingDiaryLaw" (13 : Nat) "java/lang/IllegalArgumentException") ∈ lw_all := lw_g (lw_at lw_m3 154 rfl) rfl
theorem q681 : (Jvm.Cond.classLink "TrainingDiaryLaw" (15 : Nat) "java/lang/IllegalStateException") ∈ lw_all := lw_g (lw_at lw_m3 155 rfl) rfl
theorem q682 : (Jvm.Cond.methodLink "TrainingDiaryLaw" (7 : Nat) ({ cls := "TrainingDiary", name := "pass", desc := "(I)I" } : Jvm.MethodName)) ∈ lw_all := lw_g (lw_at lw_m3 156 rfl) rfl
theorem q718 : (Jvm.Cond.methodLink "TrainingDiaryLaw" (165 : Nat) ({ cls := "TrainingDiaryLaw", name := "addTest", desc := "(LTrainingDiary;II[J)I" } : Jvm.MethodName)) ∈ lw_all := lw_g (lw_at lw_m3 192 rfl) rfl
theorem q719 : (Jvm.Cond.static ({ cls := "TrainingDiaryLaw", name := "addTest", desc := "(LTrainingDiary;II[J)I" } : Jvm.MethodName)) ∈ lw_all := lw_g (lw_at lw_m3 193 rfl) rfl
theorem q720 : (Jvm.Cond.codeWith ({ cls := "TrainingDiaryLaw", name := "addTest", desc := "(LTrainingDiary;II[J)I" } : Jvm.MethodName) method_4_code (5 : Nat) (Option.some Jvm.ClassFile.FieldType.int) [((0 : Nat), (10 : Nat), (13 : Nat), (13 : Nat)), ((0 : Nat), (10 : Nat), (17 : Nat), (15 : Nat))]) ∈ lw_all := lw_g (lw_at lw_m3 194 rfl) rfl
theorem q721 : (Jvm.Cond.methodLink "TrainingDiaryLaw" (17 : Nat) ({ cls := "TrainingDiary", name := "addTest", desc := "(II)I" } : Jvm.MethodName)) ∈ lw_all := lw_g (lw_at lw_m3 195 rfl) rfl
theorem q1010 : (Jvm.Cond.methodLink "TrainingDiaryLaw" (169 : Nat) ({ cls := "TrainingDiaryLaw", name := "removeTest", desc := "(LTrainingDiary;I[J)I" } : Jvm.MethodName)) ∈ lw_all := lw_g (lw_at lw_m5 4 rfl) rfl
theorem q1011 : (Jvm.Cond.static ({ cls := "TrainingDiaryLaw", name := "removeTest", desc := "(LTrainingDiary;I[J)I" } : Jvm.MethodName)) ∈ lw_all := lw_g (lw_at lw_m5 5 rfl) rfl
theorem q1012 : (Jvm.Cond.codeWith ({ cls := "TrainingDiaryLaw", name := "removeTest", desc := "(LTrainingDiary;I[J)I" } : Jvm.MethodName) method_5_code (4 : Nat) (Option.some Jvm.ClassFile.FieldType.int) [((0 : Nat), (9 : Nat), (12 : Nat), (24 : Nat))]) ∈ lw_all := lw_g (lw_at lw_m5 6 rfl) rfl
theorem q1013 : (Jvm.Cond.classLink "TrainingDiaryLaw" (24 : Nat) "java/util/NoSuchElementException") ∈ lw_all := lw_g (lw_at lw_m5 7 rfl) rfl
theorem q1014 : (Jvm.Cond.methodLink "TrainingDiaryLaw" (21 : Nat) ({ cls := "TrainingDiary", name := "removeTest", desc := "(I)I" } : Jvm.MethodName)) ∈ lw_all := lw_g (lw_at lw_m5 8 rfl) rfl
theorem q1035 : (Jvm.Cond.methodLink "TrainingDiaryLaw" (176 : Nat) ({ cls := "TrainingDiaryLaw", name := "thresholdOn", desc := "(LTrainingDiary;I[J)I" } : Jvm.MethodName)) ∈ lw_all := lw_g (lw_at lw_m5 29 rfl) rfl
theorem q1036 : (Jvm.Cond.static ({ cls := "TrainingDiaryLaw", name := "thresholdOn", desc := "(LTrainingDiary;I[J)I" } : Jvm.MethodName)) ∈ lw_all := lw_g (lw_at lw_m5 30 rfl) rfl
theorem q1037 : (Jvm.Cond.codeWith ({ cls := "TrainingDiaryLaw", name := "thresholdOn", desc := "(LTrainingDiary;I[J)I" } : Jvm.MethodName) method_6_code (4 : Nat) (Option.some Jvm.ClassFile.FieldType.int) [((0 : Nat), (9 : Nat), (12 : Nat), (13 : Nat))]) ∈ lw_all := lw_g (lw_at lw_m5 31 rfl) rfl
theorem q1038 : (Jvm.Cond.methodLink "TrainingDiaryLaw" (26 : Nat) ({ cls := "TrainingDiary", name := "thresholdOn", desc := "(I)I" } : Jvm.MethodName)) ∈ lw_all := lw_g (lw_at lw_m5 32 rfl) rfl
theorem q1045 : (Jvm.Cond.methodLink "TrainingDiaryLaw" (179 : Nat) ({ cls := "TrainingDiaryLaw", name := "setBound", desc := "(LTrainingDiary;II[J)I" } : Jvm.MethodName)) ∈ lw_all := lw_g (lw_at lw_m5 39 rfl) rfl
theorem q1046 : (Jvm.Cond.static ({ cls := "TrainingDiaryLaw", name := "setBound", desc := "(LTrainingDiary;II[J)I" } : Jvm.MethodName)) ∈ lw_all := lw_g (lw_at lw_m5 40 rfl) rfl
theorem q1047 : (Jvm.Cond.codeWith ({ cls := "TrainingDiaryLaw", name := "setBound", desc := "(LTrainingDiary;II[J)I" } : Jvm.MethodName) method_7_code (5 : Nat) (Option.some Jvm.ClassFile.FieldType.int) [((0 : Nat), (10 : Nat), (13 : Nat), (13 : Nat)), ((0 : Nat), (10 : Nat), (17 : Nat), (15 : Nat))]) ∈ lw_all := lw_g (lw_at lw_m5 41 rfl) rfl
theorem q1048 : (Jvm.Cond.methodLink "TrainingDiaryLaw" (29 : Nat) ({ cls := "TrainingDiary", name := "setBound", desc := "(II)I" } : Jvm.MethodName)) ∈ lw_all := lw_g (lw_at lw_m5 42 rfl) rfl
theorem q1056 : (Jvm.Cond.methodLink "TrainingDiaryLaw" (182 : Nat) ({ cls := "TrainingDiaryLaw", name := "boundOf", desc := "(LTrainingDiary;I[J)I" } : Jvm.MethodName)) ∈ lw_all := lw_g (lw_at lw_m5 50 rfl) rfl
theorem q1057 : (Jvm.Cond.static ({ cls := "TrainingDiaryLaw", name := "boundOf", desc := "(LTrainingDiary;I[J)I" } : Jvm.MethodName)) ∈ lw_all := lw_g (lw_at lw_m5 51 rfl) rfl
theorem q1058 : (Jvm.Cond.codeWith ({ cls := "TrainingDiaryLaw", name := "boundOf", desc := "(LTrainingDiary;I[J)I" } : Jvm.MethodName) method_8_code (4 : Nat) (Option.some Jvm.ClassFile.FieldType.int) [((0 : Nat), (9 : Nat), (12 : Nat), (13 : Nat))]) ∈ lw_all := lw_g (lw_at lw_m5 52 rfl) rfl
theorem q1059 : (Jvm.Cond.methodLink "TrainingDiaryLaw" (32 : Nat) ({ cls := "TrainingDiary", name := "boundOf", desc := "(I)I" } : Jvm.MethodName)) ∈ lw_all := lw_g (lw_at lw_m5 53 rfl) rfl
theorem q1063 : (Jvm.Cond.methodLink "TrainingDiaryLaw" (185 : Nat) ({ cls := "TrainingDiaryLaw", name := "setWeight", desc := "(LTrainingDiary;II[J)I" } : Jvm.MethodName)) ∈ lw_all := lw_g (lw_at lw_m5 57 rfl) rfl
theorem q1064 : (Jvm.Cond.static ({ cls := "TrainingDiaryLaw", name := "setWeight", desc := "(LTrainingDiary;II[J)I" } : Jvm.MethodName)) ∈ lw_all := lw_g (lw_at lw_m5 58 rfl) rfl
theorem q1065 : (Jvm.Cond.codeWith ({ cls := "TrainingDiaryLaw", name := "setWeight", desc := "(LTrainingDiary;II[J)I" } : Jvm.MethodName) method_9_code (5 : Nat) (Option.some Jvm.ClassFile.FieldType.int) [((0 : Nat), (10 : Nat), (13 : Nat), (13 : Nat))]) ∈ lw_all := lw_g (lw_at lw_m5 59 rfl) rfl
theorem q1066 : (Jvm.Cond.methodLink "TrainingDiaryLaw" (35 : Nat) ({ cls := "TrainingDiary", name := "setWeight", desc := "(II)I" } : Jvm.MethodName)) ∈ lw_all := lw_g (lw_at lw_m5 60 rfl) rfl
theorem q1074 : (Jvm.Cond.methodLink "TrainingDiaryLaw" (188 : Nat) ({ cls := "TrainingDiaryLaw", name := "weightOf", desc := "(LTrainingDiary;I[J)I" } : Jvm.MethodName)) ∈ lw_all := lw_g (lw_at lw_m5 68 rfl) rfl
theorem q1075 : (Jvm.Cond.static ({ cls := "TrainingDiaryLaw", name := "weightOf", desc := "(LTrainingDiary;I[J)I" } : Jvm.MethodName)) ∈ lw_all := lw_g (lw_at lw_m5 69 rfl) rfl
theorem q1076 : (Jvm.Cond.codeWith ({ cls := "TrainingDiaryLaw", name := "weightOf", desc := "(LTrainingDiary;I[J)I" } : Jvm.MethodName) method_10_code (4 : Nat) (Option.some Jvm.ClassFile.FieldType.int) [((0 : Nat), (9 : Nat), (12 : Nat), (13 : Nat))]) ∈ lw_all := lw_g (lw_at lw_m5 70 rfl) rfl
theorem q1077 : (Jvm.Cond.methodLink "TrainingDiaryLaw" (38 : Nat) ({ cls := "TrainingDiary", name := "weightOf", desc := "(I)I" } : Jvm.MethodName)) ∈ lw_all := lw_g (lw_at lw_m5 71 rfl) rfl
theorem q1084 : (Jvm.Cond.methodLink "TrainingDiaryLaw" (191 : Nat) ({ cls := "TrainingDiaryLaw", name := "zoneOf", desc := "(LTrainingDiary;II[J)I" } : Jvm.MethodName)) ∈ lw_all := lw_g (lw_at lw_m5 78 rfl) rfl
theorem q1085 : (Jvm.Cond.static ({ cls := "TrainingDiaryLaw", name := "zoneOf", desc := "(LTrainingDiary;II[J)I" } : Jvm.MethodName)) ∈ lw_all := lw_g (lw_at lw_m5 79 rfl) rfl
theorem q1086 : (Jvm.Cond.codeWith ({ cls := "TrainingDiaryLaw", name := "zoneOf", desc := "(LTrainingDiary;II[J)I" } : Jvm.MethodName) method_11_code (5 : Nat) (Option.some Jvm.ClassFile.FieldType.int) [((0 : Nat), (10 : Nat), (13 : Nat), (13 : Nat))]) ∈ lw_all := lw_g (lw_at lw_m5 80 rfl) rfl
theorem q1087 : (Jvm.Cond.methodLink "TrainingDiaryLaw" (41 : Nat) ({ cls := "TrainingDiary", name := "zoneOf", desc := "(II)I" } : Jvm.MethodName)) ∈ lw_all := lw_g (lw_at lw_m5 81 rfl) rfl
theorem q1092 : (Jvm.Cond.methodLink "TrainingDiaryLaw" (194 : Nat) ({ cls := "TrainingDiaryLaw", name := "addSession", desc := "(LTrainingDiary;I[J)I" } : Jvm.MethodName)) ∈ lw_all := lw_g (lw_at lw_m5 86 rfl) rfl
theorem q1093 : (Jvm.Cond.static ({ cls := "TrainingDiaryLaw", name := "addSession", desc := "(LTrainingDiary;I[J)I" } : Jvm.MethodName)) ∈ lw_all := lw_g (lw_at lw_m5 87 rfl) rfl
theorem q1094 : (Jvm.Cond.codeWith ({ cls := "TrainingDiaryLaw", name := "addSession", desc := "(LTrainingDiary;I[J)I" } : Jvm.MethodName) method_12_code (4 : Nat) (Option.some Jvm.ClassFile.FieldType.int) [((0 : Nat), (9 : Nat), (12 : Nat), (13 : Nat)), ((0 : Nat), (9 : Nat), (15 : Nat), (15 : Nat))]) ∈ lw_all := lw_g (lw_at lw_m5 88 rfl) rfl
theorem q1095 : (Jvm.Cond.methodLink "TrainingDiaryLaw" (44 : Nat) ({ cls := "TrainingDiary", name := "addSession", desc := "(I)I" } : Jvm.MethodName)) ∈ lw_all := lw_g (lw_at lw_m5 89 rfl) rfl
theorem q1127 : (Jvm.Cond.methodLink "TrainingDiaryLaw" (197 : Nat) ({ cls := "TrainingDiaryLaw", name := "addPart", desc := "(LTrainingDiary;III[J)I" } : Jvm.MethodName)) ∈ lw_all := lw_g (lw_at lw_m5 121 rfl) rfl
theorem q1128 : (Jvm.Cond.static ({ cls := "TrainingDiaryLaw", name := "addPart", desc := "(LTrainingDiary;III[J)I" } : Jvm.MethodName)) ∈ lw_all := lw_g (lw_at lw_m5 122 rfl) rfl
theorem q1129 : (Jvm.Cond.codeWith ({ cls := "TrainingDiaryLaw", name := "addPart", desc := "(LTrainingDiary;III[J)I" } : Jvm.MethodName) method_13_code (6 : Nat) (Option.some Jvm.ClassFile.FieldType.int) [((0 : Nat), (12 : Nat), (15 : Nat), (24 : Nat)), ((0 : Nat), (12 : Nat), (19 : Nat), (13 : Nat)), ((0 : Nat), (12 : Nat), (23 : Nat), (15 : Nat))]) ∈ lw_all := lw_g (lw_at lw_m5 123 rfl) rfl
theorem q1130 : (Jvm.Cond.methodLink "TrainingDiaryLaw" (47 : Nat) ({ cls := "TrainingDiary", name := "addPart", desc := "(III)I" } : Jvm.MethodName)) ∈ lw_all := lw_g (lw_at lw_m5 124 rfl) rfl
theorem q1157 : (Jvm.Cond.methodLink "TrainingDiaryLaw" (201 : Nat) ({ cls := "TrainingDiaryLaw", name := "clearParts", desc := "(LTrainingDiary;I[J)I" } : Jvm.MethodName)) ∈ lw_all := lw_g (lw_at lw_m5 151 rfl) rfl
theorem q1158 : (Jvm.Cond.static ({ cls := "TrainingDiaryLaw", name := "clearParts", desc := "(LTrainingDiary;I[J)I" } : Jvm.MethodName)) ∈ lw_all := lw_g (lw_at lw_m5 152 rfl) rfl
theorem q1159 : (Jvm.Cond.codeWith ({ cls := "TrainingDiaryLaw", name := "clearParts", desc := "(LTrainingDiary;I[J)I" } : Jvm.MethodName) method_14_code (4 : Nat) (Option.some Jvm.ClassFile.FieldType.int) [((0 : Nat), (9 : Nat), (12 : Nat), (24 : Nat))]) ∈ lw_all := lw_g (lw_at lw_m5 153 rfl) rfl
theorem q1160 : (Jvm.Cond.methodLink "TrainingDiaryLaw" (51 : Nat) ({ cls := "TrainingDiary", name := "clearParts", desc := "(I)I" } : Jvm.MethodName)) ∈ lw_all := lw_g (lw_at lw_m5 154 rfl) rfl
theorem q1168 : (Jvm.Cond.methodLink "TrainingDiaryLaw" (204 : Nat) ({ cls := "TrainingDiaryLaw", name := "moveSession", desc := "(LTrainingDiary;II[J)I" } : Jvm.MethodName)) ∈ lw_all := lw_g (lw_at lw_m5 162 rfl) rfl
theorem q1169 : (Jvm.Cond.static ({ cls := "TrainingDiaryLaw", name := "moveSession", desc := "(LTrainingDiary;II[J)I" } : Jvm.MethodName)) ∈ lw_all := lw_g (lw_at lw_m5 163 rfl) rfl
theorem q1170 : (Jvm.Cond.codeWith ({ cls := "TrainingDiaryLaw", name := "moveSession", desc := "(LTrainingDiary;II[J)I" } : Jvm.MethodName) method_15_code (5 : Nat) (Option.some Jvm.ClassFile.FieldType.int) [((0 : Nat), (10 : Nat), (13 : Nat), (24 : Nat)), ((0 : Nat), (10 : Nat), (17 : Nat), (13 : Nat))]) ∈ lw_all := lw_g (lw_at lw_m5 164 rfl) rfl
theorem q1171 : (Jvm.Cond.methodLink "TrainingDiaryLaw" (54 : Nat) ({ cls := "TrainingDiary", name := "moveSession", desc := "(II)I" } : Jvm.MethodName)) ∈ lw_all := lw_g (lw_at lw_m5 165 rfl) rfl
theorem q1183 : (Jvm.Cond.methodLink "TrainingDiaryLaw" (207 : Nat) ({ cls := "TrainingDiaryLaw", name := "removeSession", desc := "(LTrainingDiary;I[J)I" } : Jvm.MethodName)) ∈ lw_all := lw_g (lw_at lw_m5 177 rfl) rfl
theorem q1184 : (Jvm.Cond.static ({ cls := "TrainingDiaryLaw", name := "removeSession", desc := "(LTrainingDiary;I[J)I" } : Jvm.MethodName)) ∈ lw_all := lw_g (lw_at lw_m5 178 rfl) rfl
theorem q1185 : (Jvm.Cond.codeWith ({ cls := "TrainingDiaryLaw", name := "removeSession", desc := "(LTrainingDiary;I[J)I" } : Jvm.MethodName) method_16_code (4 : Nat) (Option.some Jvm.ClassFile.FieldType.int) [((0 : Nat), (9 : Nat), (12 : Nat), (24 : Nat))]) ∈ lw_all := lw_g (lw_at lw_m5 179 rfl) rfl
theorem q1186 : (Jvm.Cond.methodLink "TrainingDiaryLaw" (57 : Nat) ({ cls := "TrainingDiary", name := "removeSession", desc := "(I)I" } : Jvm.MethodName)) ∈ lw_all := lw_g (lw_at lw_m5 180 rfl) rfl
theorem q1194 : (Jvm.Cond.methodLink "TrainingDiaryLaw" (214 : Nat) ({ cls := "TrainingDiaryLaw", name := "sessionAt", desc := "(LTrainingDiary;I[J)I" } : Jvm.MethodName)) ∈ lw_all := lw_g (lw_at lw_m5 188 rfl) rfl
theorem q1195 : (Jvm.Cond.static ({ cls := "TrainingDiaryLaw", name := "sessionAt", desc := "(LTrainingDiary;I[J)I" } : Jvm.MethodName)) ∈ lw_all := lw_g (lw_at lw_m5 189 rfl) rfl
theorem q1196 : (Jvm.Cond.codeWith ({ cls := "TrainingDiaryLaw", name := "sessionAt", desc := "(LTrainingDiary;I[J)I" } : Jvm.MethodName) method_17_code (4 : Nat) (Option.some Jvm.ClassFile.FieldType.int) [((0 : Nat), (9 : Nat), (12 : Nat), (63 : Nat))]) ∈ lw_all := lw_g (lw_at lw_m5 190 rfl) rfl
theorem q1197 : (Jvm.Cond.classLink "TrainingDiaryLaw" (63 : Nat) "java/lang/IndexOutOfBoundsException") ∈ lw_all := lw_g (lw_at lw_m5 191 rfl) rfl
theorem q1213 : (Jvm.Cond.methodLink "TrainingDiaryLaw" (60 : Nat) ({ cls := "TrainingDiary", name := "sessionAt", desc := "(I)I" } : Jvm.MethodName)) ∈ lw_all := lw_g (lw_at lw_m5 207 rfl) rfl
theorem q1225 : (Jvm.Cond.methodLink "TrainingDiaryLaw" (217 : Nat) ({ cls := "TrainingDiaryLaw", name := "dayOf", desc := "(LTrainingDiary;I[J)I" } : Jvm.MethodName)) ∈ lw_all := lw_g (lw_at lw_m5 219 rfl) rfl
theorem q1226 : (Jvm.Cond.static ({ cls := "TrainingDiaryLaw", name := "dayOf", desc := "(LTrainingDiary;I[J)I" } : Jvm.MethodName)) ∈ lw_all := lw_g (lw_at lw_m5 220 rfl) rfl
theorem q1227 : (Jvm.Cond.codeWith ({ cls := "TrainingDiaryLaw", name := "dayOf", desc := "(LTrainingDiary;I[J)I" } : Jvm.MethodName) method_18_code (4 : Nat) (Option.some Jvm.ClassFile.FieldType.int) [((0 : Nat), (9 : Nat), (12 : Nat), (24 : Nat))]) ∈ lw_all := lw_g (lw_at lw_m5 221 rfl) rfl
theorem q1228 : (Jvm.Cond.methodLink "TrainingDiaryLaw" (65 : Nat) ({ cls := "TrainingDiary", name := "dayOf", desc := "(I)I" } : Jvm.MethodName)) ∈ lw_all := lw_g (lw_at lw_m5 222 rfl) rfl
theorem q1237 : (Jvm.Cond.methodLink "TrainingDiaryLaw" (220 : Nat) ({ cls := "TrainingDiaryLaw", name := "minutesOf", desc := "(LTrainingDiary;I[J)I" } : Jvm.MethodName)) ∈ lw_all := lw_g (lw_at lw_m5 231 rfl) rfl
theorem q1238 : (Jvm.Cond.static ({ cls := "TrainingDiaryLaw", name := "minutesOf", desc := "(LTrainingDiary;I[J)I" } : Jvm.MethodName)) ∈ lw_all := lw_g (lw_at lw_m5 232 rfl) rfl
theorem q1239 : (Jvm.Cond.codeWith ({ cls := "TrainingDiaryLaw", name := "minutesOf", desc := "(LTrainingDiary;I[J)I" } : Jvm.MethodName) method_19_code (4 : Nat) (Option.some Jvm.ClassFile.FieldType.int) [((0 : Nat), (9 : Nat), (12 : Nat), (24 : Nat))]) ∈ lw_all := lw_g (lw_at lw_m5 233 rfl) rfl
theorem q1240 : (Jvm.Cond.methodLink "TrainingDiaryLaw" (68 : Nat) ({ cls := "TrainingDiary", name := "minutesOf", desc := "(I)I" } : Jvm.MethodName)) ∈ lw_all := lw_g (lw_at lw_m5 234 rfl) rfl
theorem q1245 : (Jvm.Cond.methodLink "TrainingDiaryLaw" (223 : Nat) ({ cls := "TrainingDiaryLaw", name := "minutesInZone", desc := "(LTrainingDiary;II[J)I" } : Jvm.MethodName)) ∈ lw_all := lw_g (lw_at lw_m5 239 rfl) rfl
theorem q1246 : (Jvm.Cond.static ({ cls := "TrainingDiaryLaw", name := "minutesInZone", desc := "(LTrainingDiary;II[J)I" } : Jvm.MethodName)) ∈ lw_all := lw_g (lw_at lw_m6 0 rfl) rfl
theorem q1247 : (Jvm.Cond.codeWith ({ cls := "TrainingDiaryLaw", name := "minutesInZone", desc := "(LTrainingDiary;II[J)I" } : Jvm.MethodName) method_20_code (5 : Nat) (Option.some Jvm.ClassFile.FieldType.int) [((0 : Nat), (10 : Nat), (13 : Nat), (24 : Nat)), ((0 : Nat), (10 : Nat), (17 : Nat), (13 : Nat))]) ∈ lw_all := lw_g (lw_at lw_m6 1 rfl) rfl
theorem q1248 : (Jvm.Cond.methodLink "TrainingDiaryLaw" (71 : Nat) ({ cls := "TrainingDiary", name := "minutesInZone", desc := "(II)I" } : Jvm.MethodName)) ∈ lw_all := lw_g (lw_at lw_m6 2 rfl) rfl
theorem q1256 : (Jvm.Cond.methodLink "TrainingDiaryLaw" (226 : Nat) ({ cls := "TrainingDiaryLaw", name := "loadOf", desc := "(LTrainingDiary;I[J)I" } : Jvm.MethodName)) ∈ lw_all := lw_g (lw_at lw_m6 10 rfl) rfl
theorem q1257 : (Jvm.Cond.static ({ cls := "TrainingDiaryLaw", name := "loadOf", desc := "(LTrainingDiary;I[J)I" } : Jvm.MethodName)) ∈ lw_all := lw_g (lw_at lw_m6 11 rfl) rfl
theorem q1258 : (Jvm.Cond.codeWith ({ cls := "TrainingDiaryLaw", name := "loadOf", desc := "(LTrainingDiary;I[J)I" } : Jvm.MethodName) method_21_code (4 : Nat) (Option.some Jvm.ClassFile.FieldType.int) [((0 : Nat), (9 : Nat), (12 : Nat), (24 : Nat))]) ∈ lw_all := lw_g (lw_at lw_m6 12 rfl) rfl
theorem q1259 : (Jvm.Cond.methodLink "TrainingDiaryLaw" (74 : Nat) ({ cls := "TrainingDiary", name := "loadOf", desc := "(I)I" } : Jvm.MethodName)) ∈ lw_all := lw_g (lw_at lw_m6 13 rfl) rfl
theorem q1264 : (Jvm.Cond.methodLink "TrainingDiaryLaw" (229 : Nat) ({ cls := "TrainingDiaryLaw", name := "loadOn", desc := "(LTrainingDiary;I[J)I" } : Jvm.MethodName)) ∈ lw_all := lw_g (lw_at lw_m6 18 rfl) rfl
theorem q1265 : (Jvm.Cond.static ({ cls := "TrainingDiaryLaw", name := "loadOn", desc := "(LTrainingDiary;I[J)I" } : Jvm.MethodName)) ∈ lw_all := lw_g (lw_at lw_m6 19 rfl) rfl
theorem q1266 : (Jvm.Cond.codeWith ({ cls := "TrainingDiaryLaw", name := "loadOn", desc := "(LTrainingDiary;I[J)I" } : Jvm.MethodName) method_22_code (4 : Nat) (Option.some Jvm.ClassFile.FieldType.int) [((0 : Nat), (9 : Nat), (12 : Nat), (13 : Nat))]) ∈ lw_all := lw_g (lw_at lw_m6 20 rfl) rfl
theorem q1267 : (Jvm.Cond.methodLink "TrainingDiaryLaw" (77 : Nat) ({ cls := "TrainingDiary", name := "loadOn", desc := "(I)I" } : Jvm.MethodName)) ∈ lw_all := lw_g (lw_at lw_m6 21 rfl) rfl
theorem q1275 : (Jvm.Cond.methodLink "TrainingDiaryLaw" (232 : Nat) ({ cls := "TrainingDiaryLaw", name := "zoneShare", desc := "(LTrainingDiary;I[D)I" } : Jvm.MethodName)) ∈ lw_all := lw_g (lw_at lw_m6 29 rfl) rfl
theorem q1276 : (Jvm.Cond.static ({ cls := "TrainingDiaryLaw", name := "zoneShare", desc := "(LTrainingDiary;I[D)I" } : Jvm.MethodName)) ∈ lw_all := lw_g (lw_at lw_m6 30 rfl) rfl
theorem q1277 : (Jvm.Cond.codeWith ({ cls := "TrainingDiaryLaw", name := "zoneShare", desc := "(LTrainingDiary;I[D)I" } : Jvm.MethodName) method_23_code (4 : Nat) (Option.some Jvm.ClassFile.FieldType.int) [((0 : Nat), (9 : Nat), (12 : Nat), (13 : Nat)), ((0 : Nat), (9 : Nat), (15 : Nat), (84 : Nat))]) ∈ lw_all := lw_g (lw_at lw_m6 31 rfl) rfl
theorem q1278 : (Jvm.Cond.classLink "TrainingDiaryLaw" (84 : Nat) "java/lang/ArithmeticException") ∈ lw_all := lw_g (lw_at lw_m6 32 rfl) rfl
theorem q1292 : (Jvm.Cond.methodLink "TrainingDiaryLaw" (80 : Nat) ({ cls := "TrainingDiary", name := "zoneShare", desc := "(I)F" } : Jvm.MethodName)) ∈ lw_all := lw_g (lw_at lw_m6 46 rfl) rfl
theorem q1299 : (Jvm.Cond.methodLink "TrainingDiaryLaw" (241 : Nat) ({ cls := "TrainingDiaryLaw", name := "fitnessOn", desc := "(LTrainingDiary;I[J)I" } : Jvm.MethodName)) ∈ lw_all := lw_g (lw_at lw_m6 53 rfl) rfl
theorem q1300 : (Jvm.Cond.static ({ cls := "TrainingDiaryLaw", name := "fitnessOn", desc := "(LTrainingDiary;I[J)I" } : Jvm.MethodName)) ∈ lw_all := lw_g (lw_at lw_m6 54 rfl) rfl
theorem q1301 : (Jvm.Cond.codeWith ({ cls := "TrainingDiaryLaw", name := "fitnessOn", desc := "(LTrainingDiary;I[J)I" } : Jvm.MethodName) method_24_code (4 : Nat) (Option.some Jvm.ClassFile.FieldType.int) [((0 : Nat), (9 : Nat), (12 : Nat), (13 : Nat))]) ∈ lw_all := lw_g (lw_at lw_m6 55 rfl) rfl
theorem q1302 : (Jvm.Cond.methodLink "TrainingDiaryLaw" (86 : Nat) ({ cls := "TrainingDiary", name := "fitnessOn", desc := "(I)I" } : Jvm.MethodName)) ∈ lw_all := lw_g (lw_at lw_m6 56 rfl) rfl
theorem q1307 : (Jvm.Cond.methodLink "TrainingDiaryLaw" (244 : Nat) ({ cls := "TrainingDiaryLaw", name := "fitnessFromStart", desc := "(LTrainingDiary;I[J)I" } : Jvm.MethodName)) ∈ lw_all := lw_g (lw_at lw_m6 61 rfl) rfl
theorem q1308 : (Jvm.Cond.static ({ cls := "TrainingDiaryLaw", name := "fitnessFromStart", desc := "(LTrainingDiary;I[J)I" } : Jvm.MethodName)) ∈ lw_all := lw_g (lw_at lw_m6 62 rfl) rfl
theorem q1309 : (Jvm.Cond.codeWith ({ cls := "TrainingDiaryLaw", name := "fitnessFromStart", desc := "(LTrainingDiary;I[J)I" } : Jvm.MethodName) method_25_code (4 : Nat) (Option.some Jvm.ClassFile.FieldType.int) [((0 : Nat), (9 : Nat), (12 : Nat), (13 : Nat))]) ∈ lw_all := lw_g (lw_at lw_m6 63 rfl) rfl
theorem q1310 : (Jvm.Cond.methodLink "TrainingDiaryLaw" (89 : Nat) ({ cls := "TrainingDiary", name := "fitnessFromStart", desc := "(I)I" } : Jvm.MethodName)) ∈ lw_all := lw_g (lw_at lw_m6 64 rfl) rfl
theorem q1318 : (Jvm.Cond.methodLink "TrainingDiaryLaw" (247 : Nat) ({ cls := "TrainingDiaryLaw", name := "fatigueOn", desc := "(LTrainingDiary;I[J)I" } : Jvm.MethodName)) ∈ lw_all := lw_g (lw_at lw_m6 72 rfl) rfl
theorem q1319 : (Jvm.Cond.static ({ cls := "TrainingDiaryLaw", name := "fatigueOn", desc := "(LTrainingDiary;I[J)I" } : Jvm.MethodName)) ∈ lw_all := lw_g (lw_at lw_m6 73 rfl) rfl
theorem q1320 : (Jvm.Cond.codeWith ({ cls := "TrainingDiaryLaw", name := "fatigueOn", desc := "(LTrainingDiary;I[J)I" } : Jvm.MethodName) method_26_code (4 : Nat) (Option.some Jvm.ClassFile.FieldType.int) [((0 : Nat), (9 : Nat), (12 : Nat), (13 : Nat))]) ∈ lw_all := lw_g (lw_at lw_m6 74 rfl) rfl
theorem q1321 : (Jvm.Cond.methodLink "TrainingDiaryLaw" (92 : Nat) ({ cls := "TrainingDiary", name := "fatigueOn", desc := "(I)I" } : Jvm.MethodName)) ∈ lw_all := lw_g (lw_at lw_m6 75 rfl) rfl
theorem q1326 : (Jvm.Cond.methodLink "TrainingDiaryLaw" (250 : Nat) ({ cls := "TrainingDiaryLaw", name := "fatigueFromStart", desc := "(LTrainingDiary;I[J)I" } : Jvm.MethodName)) ∈ lw_all := lw_g (lw_at lw_m6 80 rfl) rfl
theorem q1327 : (Jvm.Cond.static ({ cls := "TrainingDiaryLaw", name := "fatigueFromStart", desc := "(LTrainingDiary;I[J)I" } : Jvm.MethodName)) ∈ lw_all := lw_g (lw_at lw_m6 81 rfl) rfl
theorem q1328 : (Jvm.Cond.codeWith ({ cls := "TrainingDiaryLaw", name := "fatigueFromStart", desc := "(LTrainingDiary;I[J)I" } : Jvm.MethodName) method_27_code (4 : Nat) (Option.some Jvm.ClassFile.FieldType.int) [((0 : Nat), (9 : Nat), (12 : Nat), (13 : Nat))]) ∈ lw_all := lw_g (lw_at lw_m6 82 rfl) rfl
theorem q1329 : (Jvm.Cond.methodLink "TrainingDiaryLaw" (95 : Nat) ({ cls := "TrainingDiary", name := "fatigueFromStart", desc := "(I)I" } : Jvm.MethodName)) ∈ lw_all := lw_g (lw_at lw_m6 83 rfl) rfl
theorem q1333 : (Jvm.Cond.methodLink "TrainingDiaryLaw" (253 : Nat) ({ cls := "TrainingDiaryLaw", name := "formOn", desc := "(LTrainingDiary;I[J)I" } : Jvm.MethodName)) ∈ lw_all := lw_g (lw_at lw_m6 87 rfl) rfl
theorem q1334 : (Jvm.Cond.static ({ cls := "TrainingDiaryLaw", name := "formOn", desc := "(LTrainingDiary;I[J)I" } : Jvm.MethodName)) ∈ lw_all := lw_g (lw_at lw_m6 88 rfl) rfl
theorem q1335 : (Jvm.Cond.codeWith ({ cls := "TrainingDiaryLaw", name := "formOn", desc := "(LTrainingDiary;I[J)I" } : Jvm.MethodName) method_28_code (4 : Nat) (Option.some Jvm.ClassFile.FieldType.int) [((0 : Nat), (9 : Nat), (12 : Nat), (13 : Nat))]) ∈ lw_all := lw_g (lw_at lw_m6 89 rfl) rfl
theorem q1336 : (Jvm.Cond.methodLink "TrainingDiaryLaw" (98 : Nat) ({ cls := "TrainingDiary", name := "formOn", desc := "(I)I" } : Jvm.MethodName)) ∈ lw_all := lw_g (lw_at lw_m6 90 rfl) rfl
theorem q1340 : (Jvm.Cond.methodLink "TrainingDiaryLaw" (260 : Nat) ({ cls := "TrainingDiaryLaw", name := "daysToForm", desc := "(LTrainingDiary;I[J)I" } : Jvm.MethodName)) ∈ lw_all := lw_g (lw_at lw_m6 94 rfl) rfl
theorem q1341 : (Jvm.Cond.static ({ cls := "TrainingDiaryLaw", name := "daysToForm", desc := "(LTrainingDiary;I[J)I" } : Jvm.MethodName)) ∈ lw_all := lw_g (lw_at lw_m6 95 rfl) rfl
theorem q1342 : (Jvm.Cond.codeWith ({ cls := "TrainingDiaryLaw", name := "daysToForm", desc := "(LTrainingDiary;I[J)I" } : Jvm.MethodName) method_29_code (4 : Nat) (Option.some Jvm.ClassFile.FieldType.int) [((0 : Nat), (9 : Nat), (12 : Nat), (13 : Nat)), ((0 : Nat), (9 : Nat), (15 : Nat), (24 : Nat))]) ∈ lw_all := lw_g (lw_at lw_m6 96 rfl) rfl
theorem q1343 : (Jvm.Cond.methodLink "TrainingDiaryLaw" (101 : Nat) ({ cls := "TrainingDiary", name := "daysToForm", desc := "(I)I" } : Jvm.MethodName)) ∈ lw_all := lw_g (lw_at lw_m6 97 rfl) rfl
theorem q1350 : (Jvm.Cond.methodLink "TrainingDiaryLaw" (263 : Nat) ({ cls := "TrainingDiaryLaw", name := "bestDays", desc := "(LTrainingDiary;I[J)I" } : Jvm.MethodName)) ∈ lw_all := lw_g (lw_at lw_m6 104 rfl) rfl
theorem q1351 : (Jvm.Cond.static ({ cls := "TrainingDiaryLaw", name := "bestDays", desc := "(LTrainingDiary;I[J)I" } : Jvm.MethodName)) ∈ lw_all := lw_g (lw_at lw_m6 105 rfl) rfl
theorem q1352 : (Jvm.Cond.codeWith ({ cls := "TrainingDiaryLaw", name := "bestDays", desc := "(LTrainingDiary;I[J)I" } : Jvm.MethodName) method_30_code (4 : Nat) (Option.some Jvm.ClassFile.FieldType.int) [((0 : Nat), (9 : Nat), (12 : Nat), (13 : Nat)), ((0 : Nat), (9 : Nat), (15 : Nat), (24 : Nat))]) ∈ lw_all := lw_g (lw_at lw_m6 106 rfl) rfl
theorem q1353 : (Jvm.Cond.methodLink "TrainingDiaryLaw" (104 : Nat) ({ cls := "TrainingDiary", name := "bestDays", desc := "(I)I" } : Jvm.MethodName)) ∈ lw_all := lw_g (lw_at lw_m6 107 rfl) rfl
theorem q1370 : (Jvm.Cond.methodLink "TrainingDiaryLaw" (266 : Nat) ({ cls := "TrainingDiaryLaw", name := "bestDaysByTrying", desc := "(LTrainingDiary;I[J)I" } : Jvm.MethodName)) ∈ lw_all := lw_g (lw_at lw_m6 124 rfl) rfl
theorem q1371 : (Jvm.Cond.static ({ cls := "TrainingDiaryLaw", name := "bestDaysByTrying", desc := "(LTrainingDiary;I[J)I" } : Jvm.MethodName)) ∈ lw_all := lw_g (lw_at lw_m6 125 rfl) rfl
theorem q1372 : (Jvm.Cond.codeWith ({ cls := "TrainingDiaryLaw", name := "bestDaysByTrying", desc := "(LTrainingDiary;I[J)I" } : Jvm.MethodName) method_31_code (4 : Nat) (Option.some Jvm.ClassFile.FieldType.int) [((0 : Nat), (9 : Nat), (12 : Nat), (13 : Nat)), ((0 : Nat), (9 : Nat), (15 : Nat), (24 : Nat))]) ∈ lw_all := lw_g (lw_at lw_m6 126 rfl) rfl
theorem q1373 : (Jvm.Cond.methodLink "TrainingDiaryLaw" (107 : Nat) ({ cls := "TrainingDiary", name := "bestDaysByTrying", desc := "(I)I" } : Jvm.MethodName)) ∈ lw_all := lw_g (lw_at lw_m6 127 rfl) rfl
theorem q1377 : (Jvm.Cond.methodLink "TrainingDiaryLaw" (269 : Nat) ({ cls := "TrainingDiaryLaw", name := "bestDaysStart", desc := "(LTrainingDiary;I[J)I" } : Jvm.MethodName)) ∈ lw_all := lw_g (lw_at lw_m6 131 rfl) rfl
theorem q1378 : (Jvm.Cond.static ({ cls := "TrainingDiaryLaw", name := "bestDaysStart", desc := "(LTrainingDiary;I[J)I" } : Jvm.MethodName)) ∈ lw_all := lw_g (lw_at lw_m6 132 rfl) rfl
theorem q1379 : (Jvm.Cond.codeWith ({ cls := "TrainingDiaryLaw", name := "bestDaysStart", desc := "(LTrainingDiary;I[J)I" } : Jvm.MethodName) method_32_code (4 : Nat) (Option.some Jvm.ClassFile.FieldType.int) [((0 : Nat), (9 : Nat), (12 : Nat), (13 : Nat)), ((0 : Nat), (9 : Nat), (15 : Nat), (24 : Nat))]) ∈ lw_all := lw_g (lw_at lw_m6 133 rfl) rfl
theorem q1380 : (Jvm.Cond.methodLink "TrainingDiaryLaw" (110 : Nat) ({ cls := "TrainingDiary", name := "bestDaysStart", desc := "(I)I" } : Jvm.MethodName)) ∈ lw_all := lw_g (lw_at lw_m6 134 rfl) rfl
theorem q1384 : (Jvm.Cond.methodLink "TrainingDiaryLaw" (272 : Nat) ({ cls := "TrainingDiaryLaw", name := "bestEffort", desc := "(LTrainingDiary;I[J)I" } : Jvm.MethodName)) ∈ lw_all := lw_g (lw_at lw_m6 138 rfl) rfl
theorem q1385 : (Jvm.Cond.static ({ cls := "TrainingDiaryLaw", name := "bestEffort", desc := "(LTrainingDiary;I[J)I" } : Jvm.MethodName)) ∈ lw_all := lw_g (lw_at lw_m6 139 rfl) rfl
theorem q1386 : (Jvm.Cond.codeWith ({ cls := "TrainingDiaryLaw", name := "bestEffort", desc := "(LTrainingDiary;I[J)I" } : Jvm.MethodName) method_33_code (4 : Nat) (Option.some Jvm.ClassFile.FieldType.int) [((0 : Nat), (9 : Nat), (12 : Nat), (13 : Nat)), ((0 : Nat), (9 : Nat), (15 : Nat), (24 : Nat))]) ∈ lw_all := lw_g (lw_at lw_m6 140 rfl) rfl
theorem q1387 : (Jvm.Cond.methodLink "TrainingDiaryLaw" (113 : Nat) ({ cls := "TrainingDiary", name := "bestEffort", desc := "(I)I" } : Jvm.MethodName)) ∈ lw_all := lw_g (lw_at lw_m6 141 rfl) rfl
theorem q1399 : (Jvm.Cond.methodLink "TrainingDiaryLaw" (275 : Nat) ({ cls := "TrainingDiaryLaw", name := "bestEffortByTrying", desc := "(LTrainingDiary;I[J)I" } : Jvm.MethodName)) ∈ lw_all := lw_g (lw_at lw_m6 153 rfl) rfl
theorem q1400 : (Jvm.Cond.static ({ cls := "TrainingDiaryLaw", name := "bestEffortByTrying", desc := "(LTrainingDiary;I[J)I" } : Jvm.MethodName)) ∈ lw_all := lw_g (lw_at lw_m6 154 rfl) rfl
theorem q1401 : (Jvm.Cond.codeWith ({ cls := "TrainingDiaryLaw", name := "bestEffortByTrying", desc := "(LTrainingDiary;I[J)I" } : Jvm.MethodName) method_34_code (4 : Nat) (Option.some Jvm.ClassFile.FieldType.int) [((0 : Nat), (9 : Nat), (12 : Nat), (13 : Nat)), ((0 : Nat), (9 : Nat), (15 : Nat), (24 : Nat))]) ∈ lw_all := lw_g (lw_at lw_m6 155 rfl) rfl
theorem q1402 : (Jvm.Cond.methodLink "TrainingDiaryLaw" (116 : Nat) ({ cls := "TrainingDiary", name := "bestEffortByTrying", desc := "(I)I" } : Jvm.MethodName)) ∈ lw_all := lw_g (lw_at lw_m6 156 rfl) rfl
theorem q1406 : (Jvm.Cond.methodLink "TrainingDiaryLaw" (278 : Nat) ({ cls := "TrainingDiaryLaw", name := "bestEffortSession", desc := "(LTrainingDiary;I[J)I" } : Jvm.MethodName)) ∈ lw_all := lw_g (lw_at lw_m6 160 rfl) rfl
theorem q1407 : (Jvm.Cond.static ({ cls := "TrainingDiaryLaw", name := "bestEffortSession", desc := "(LTrainingDiary;I[J)I" } : Jvm.MethodName)) ∈ lw_all := lw_g (lw_at lw_m6 161 rfl) rfl
theorem q1408 : (Jvm.Cond.codeWith ({ cls := "TrainingDiaryLaw", name := "bestEffortSession", desc := "(LTrainingDiary;I[J)I" } : Jvm.MethodName) method_35_code (4 : Nat) (Option.some Jvm.ClassFile.FieldType.int) [((0 : Nat), (9 : Nat), (12 : Nat), (13 : Nat)), ((0 : Nat), (9 : Nat), (15 : Nat), (24 : Nat))]) ∈ lw_all := lw_g (lw_at lw_m6 162 rfl) rfl
theorem q1409 : (Jvm.Cond.methodLink "TrainingDiaryLaw" (119 : Nat) ({ cls := "TrainingDiary", name := "bestEffortSession", desc := "(I)I" } : Jvm.MethodName)) ∈ lw_all := lw_g (lw_at lw_m6 163 rfl) rfl
theorem q1413 : (Jvm.Cond.methodLink "TrainingDiaryLaw" (285 : Nat) ({ cls := "TrainingDiaryLaw", name := "addTarget", desc := "(LTrainingDiary;I[J)I" } : Jvm.MethodName)) ∈ lw_all := lw_g (lw_at lw_m6 167 rfl) rfl
theorem q1414 : (Jvm.Cond.static ({ cls := "TrainingDiaryLaw", name := "addTarget", desc := "(LTrainingDiary;I[J)I" } : Jvm.MethodName)) ∈ lw_all := lw_g (lw_at lw_m6 168 rfl) rfl
theorem q1415 : (Jvm.Cond.codeWith ({ cls := "TrainingDiaryLaw", name := "addTarget", desc := "(LTrainingDiary;I[J)I" } : Jvm.MethodName) method_36_code (4 : Nat) (Option.some Jvm.ClassFile.FieldType.int) [((0 : Nat), (9 : Nat), (12 : Nat), (13 : Nat)), ((0 : Nat), (9 : Nat), (15 : Nat), (15 : Nat))]) ∈ lw_all := lw_g (lw_at lw_m6 169 rfl) rfl
theorem q1416 : (Jvm.Cond.methodLink "TrainingDiaryLaw" (122 : Nat) ({ cls := "TrainingDiary", name := "addTarget", desc := "(I)I" } : Jvm.MethodName)) ∈ lw_all := lw_g (lw_at lw_m6 170 rfl) rfl
theorem q1424 : (Jvm.Cond.methodLink "TrainingDiaryLaw" (288 : Nat) ({ cls := "TrainingDiaryLaw", name := "targetAt", desc := "(LTrainingDiary;I[J)I" } : Jvm.MethodName)) ∈ lw_all := lw_g (lw_at lw_m6 178 rfl) rfl
theorem q1425 : (Jvm.Cond.static ({ cls := "TrainingDiaryLaw", name := "targetAt", desc := "(LTrainingDiary;I[J)I" } : Jvm.MethodName)) ∈ lw_all := lw_g (lw_at lw_m6 179 rfl) rfl
theorem q1426 : (Jvm.Cond.codeWith ({ cls := "TrainingDiaryLaw", name := "targetAt", desc := "(LTrainingDiary;I[J)I" } : Jvm.MethodName) method_37_code (4 : Nat) (Option.some Jvm.ClassFile.FieldType.int) [((0 : Nat), (9 : Nat), (12 : Nat), (63 : Nat))]) ∈ lw_all := lw_g (lw_at lw_m6 180 rfl) rfl
theorem q1427 : (Jvm.Cond.methodLink "TrainingDiaryLaw" (125 : Nat) ({ cls := "TrainingDiary", name := "targetAt", desc := "(I)I" } : Jvm.MethodName)) ∈ lw_all := lw_g (lw_at lw_m6 181 rfl) rfl
theorem q1431 : (Jvm.Cond.methodLink "TrainingDiaryLaw" (291 : Nat) ({ cls := "TrainingDiaryLaw", name := "dueEntry", desc := "(LTrainingDiary;[J)I" } : Jvm.MethodName)) ∈ lw_all := lw_g (lw_at lw_m6 185 rfl) rfl
theorem q1432 : (Jvm.Cond.static ({ cls := "TrainingDiaryLaw", name := "dueEntry", desc := "(LTrainingDiary;[J)I" } : Jvm.MethodName)) ∈ lw_all := lw_g (lw_at lw_m6 186 rfl) rfl
theorem q1433 : (Jvm.Cond.codeWith ({ cls := "TrainingDiaryLaw", name := "dueEntry", desc := "(LTrainingDiary;[J)I" } : Jvm.MethodName) method_38_code (3 : Nat) (Option.some Jvm.ClassFile.FieldType.int) [((0 : Nat), (8 : Nat), (11 : Nat), (24 : Nat))]) ∈ lw_all := lw_g (lw_at lw_m6 187 rfl) rfl
theorem q1434 : (Jvm.Cond.methodLink "TrainingDiaryLaw" (128 : Nat) ({ cls := "TrainingDiary", name := "dueEntry", desc := "()I" } : Jvm.MethodName)) ∈ lw_all := lw_g (lw_at lw_m6 188 rfl) rfl
theorem q1438 : (Jvm.Cond.methodLink "TrainingDiaryLaw" (303 : Nat) ({ cls := "TrainingDiaryLaw", name := "planEnd", desc := "(LTrainingDiary;[J)I" } : Jvm.MethodName)) ∈ lw_all := lw_g (lw_at lw_m6 192 rfl) rfl
theorem q1439 : (Jvm.Cond.static ({ cls := "TrainingDiaryLaw", name := "planEnd", desc := "(LTrainingDiary;[J)I" } : Jvm.MethodName)) ∈ lw_all := lw_g (lw_at lw_m6 193 rfl) rfl
theorem q1440 : (Jvm.Cond.codeWith ({ cls := "TrainingDiaryLaw", name := "planEnd", desc := "(LTrainingDiary;[J)I" } : Jvm.MethodName) method_39_code (3 : Nat) (Option.some Jvm.ClassFile.FieldType.int) [((0 : Nat), (8 : Nat), (11 : Nat), (24 : Nat))]) ∈ lw_all := lw_g (lw_at lw_m6 194 rfl) rfl
theorem q1441 : (Jvm.Cond.methodLink "TrainingDiaryLaw" (132 : Nat) ({ cls := "TrainingDiary", name := "planEnd", desc := "()I" } : Jvm.MethodName)) ∈ lw_all := lw_g (lw_at lw_m6 195 rfl) rfl
theorem q1445 : (Jvm.Cond.methodLink "TrainingDiaryLaw" (311 : Nat) ({ cls := "TrainingDiaryLaw", name := "writeWeek", desc := "(LTrainingDiary;I[J)I" } : Jvm.MethodName)) ∈ lw_all := lw_g (lw_at lw_m6 199 rfl) rfl
theorem q1446 : (Jvm.Cond.static ({ cls := "TrainingDiaryLaw", name := "writeWeek", desc := "(LTrainingDiary;I[J)I" } : Jvm.MethodName)) ∈ lw_all := lw_g (lw_at lw_m6 200 rfl) rfl
theorem q1447 : (Jvm.Cond.codeWith ({ cls := "TrainingDiaryLaw", name := "writeWeek", desc := "(LTrainingDiary;I[J)I" } : Jvm.MethodName) method_40_code (4 : Nat) (Option.some Jvm.ClassFile.FieldType.int) [((0 : Nat), (9 : Nat), (12 : Nat), (13 : Nat))]) ∈ lw_all := lw_g (lw_at lw_m6 201 rfl) rfl
theorem q1448 : (Jvm.Cond.methodLink "TrainingDiaryLaw" (135 : Nat) ({ cls := "TrainingDiary", name := "writeWeek", desc := "(I)I" } : Jvm.MethodName)) ∈ lw_all := lw_g (lw_at lw_m6 202 rfl) rfl
theorem q1534 : (Jvm.Cond.methodLink "TrainingDiaryLaw" (314 : Nat) ({ cls := "TrainingDiaryLaw", name := "lineAt", desc := "(LTrainingDiary;I[J)I" } : Jvm.MethodName)) ∈ lw_all := lw_g (lw_at lw_m7 48 rfl) rfl
theorem q1535 : (Jvm.Cond.static ({ cls := "TrainingDiaryLaw", name := "lineAt", desc := "(LTrainingDiary;I[J)I" } : Jvm.MethodName)) ∈ lw_all := lw_g (lw_at lw_m7 49 rfl) rfl
theorem q1536 : (Jvm.Cond.codeWith ({ cls := "TrainingDiaryLaw", name := "lineAt", desc := "(LTrainingDiary;I[J)I" } : Jvm.MethodName) method_41_code (4 : Nat) (Option.some Jvm.ClassFile.FieldType.int) [((0 : Nat), (9 : Nat), (12 : Nat), (63 : Nat))]) ∈ lw_all := lw_g (lw_at lw_m7 50 rfl) rfl
theorem q1537 : (Jvm.Cond.methodLink "TrainingDiaryLaw" (138 : Nat) ({ cls := "TrainingDiary", name := "lineAt", desc := "(I)C" } : Jvm.MethodName)) ∈ lw_all := lw_g (lw_at lw_m7 51 rfl) rfl
theorem q1551 : (Jvm.Cond.methodLink "TrainingDiaryLaw" (317 : Nat) ({ cls := "TrainingDiaryLaw", name := "undo", desc := "(LTrainingDiary;[J)I" } : Jvm.MethodName)) ∈ lw_all := lw_g (lw_at lw_m7 65 rfl) rfl
theorem q1552 : (Jvm.Cond.static ({ cls := "TrainingDiaryLaw", name := "undo", desc := "(LTrainingDiary;[J)I" } : Jvm.MethodName)) ∈ lw_all := lw_g (lw_at lw_m7 66 rfl) rfl
theorem q1553 : (Jvm.Cond.codeWith ({ cls := "TrainingDiaryLaw", name := "undo", desc := "(LTrainingDiary;[J)I" } : Jvm.MethodName) method_42_code (3 : Nat) (Option.some Jvm.ClassFile.FieldType.int) [((0 : Nat), (8 : Nat), (11 : Nat), (15 : Nat))]) ∈ lw_all := lw_g (lw_at lw_m7 67 rfl) rfl
theorem q1554 : (Jvm.Cond.methodLink "TrainingDiaryLaw" (142 : Nat) ({ cls := "TrainingDiary", name := "undo", desc := "()I" } : Jvm.MethodName)) ∈ lw_all := lw_g (lw_at lw_m7 68 rfl) rfl
theorem q1574 : (Jvm.Cond.methodLink "TrainingDiaryLaw" (324 : Nat) ({ cls := "TrainingDiaryLaw", name := "restore", desc := "(LTrainingDiary;[J)I" } : Jvm.MethodName)) ∈ lw_all := lw_g (lw_at lw_m7 88 rfl) rfl
theorem q1575 : (Jvm.Cond.static ({ cls := "TrainingDiaryLaw", name := "restore", desc := "(LTrainingDiary;[J)I" } : Jvm.MethodName)) ∈ lw_all := lw_g (lw_at lw_m7 89 rfl) rfl
theorem q1576 : (Jvm.Cond.codeWith ({ cls := "TrainingDiaryLaw", name := "restore", desc := "(LTrainingDiary;[J)I" } : Jvm.MethodName) method_43_code (3 : Nat) (Option.some Jvm.ClassFile.FieldType.int) [((0 : Nat), (8 : Nat), (11 : Nat), (15 : Nat))]) ∈ lw_all := lw_g (lw_at lw_m7 90 rfl) rfl
theorem q1577 : (Jvm.Cond.methodLink "TrainingDiaryLaw" (145 : Nat) ({ cls := "TrainingDiary", name := "restore", desc := "()I" } : Jvm.MethodName)) ∈ lw_all := lw_g (lw_at lw_m7 91 rfl) rfl
theorem q1588 : (Jvm.Cond.classLink "TrainingDiaryLaw" (149 : Nat) "TrainingDiaryModel") ∈ lw_all := lw_g (lw_at lw_m7 102 rfl) rfl
theorem q1590 : (Jvm.Cond.methodLink "TrainingDiaryLaw" (151 : Nat) ({ cls := "TrainingDiaryModel", name := "<init>", desc := "()V" } : Jvm.MethodName)) ∈ lw_all := lw_g (lw_at lw_m7 104 rfl) rfl
theorem q1639 : (Jvm.Cond.methodLink "TrainingDiaryLaw" (158 : Nat) ({ cls := "TrainingDiaryModel", name := "thrown", desc := "()I" } : Jvm.MethodName)) ∈ lw_all := lw_g (lw_at lw_m7 153 rfl) rfl
theorem q1643 : (Jvm.Cond.methodLink "TrainingDiaryLaw" (157 : Nat) ({ cls := "TrainingDiaryModel", name := "pass", desc := "(I)I" } : Jvm.MethodName)) ∈ lw_all := lw_g (lw_at lw_m7 157 rfl) rfl
theorem q1659 : (Jvm.Cond.methodLink "TrainingDiaryLaw" (164 : Nat) ({ cls := "TrainingDiaryModel", name := "today", desc := "()I" } : Jvm.MethodName)) ∈ lw_all := lw_g (lw_at lw_m7 173 rfl) rfl
theorem q1663 : (Jvm.Cond.methodLink "TrainingDiaryLaw" (168 : Nat) ({ cls := "TrainingDiaryModel", name := "addTest", desc := "(II)I" } : Jvm.MethodName)) ∈ lw_all := lw_g (lw_at lw_m7 177 rfl) rfl
theorem q1699 : (Jvm.Cond.methodLink "TrainingDiaryLaw" (171 : Nat) ({ cls := "TrainingDiaryModel", name := "removeTest", desc := "(I)I" } : Jvm.MethodName)) ∈ lw_all := lw_g (lw_at lw_m7 213 rfl) rfl
theorem q1703 : (Jvm.Cond.methodLink "TrainingDiaryLaw" (175 : Nat) ({ cls := "TrainingDiaryModel", name := "testCount", desc := "()I" } : Jvm.MethodName)) ∈ lw_all := lw_g (lw_at lw_m7 217 rfl) rfl
theorem q1707 : (Jvm.Cond.methodLink "TrainingDiaryLaw" (178 : Nat) ({ cls := "TrainingDiaryModel", name := "thresholdOn", desc := "(I)I" } : Jvm.MethodName)) ∈ lw_all := lw_g (lw_at lw_m7 221 rfl) rfl
theorem q1711 : (Jvm.Cond.methodLink "TrainingDiaryLaw" (181 : Nat) ({ cls := "TrainingDiaryModel", name := "setBound", desc := "(II)I" } : Jvm.MethodName)) ∈ lw_all := lw_g (lw_at lw_m7 225 rfl) rfl
theorem q1715 : (Jvm.Cond.methodLink "TrainingDiaryLaw" (184 : Nat) ({ cls := "TrainingDiaryModel", name := "boundOf", desc := "(I)I" } : Jvm.MethodName)) ∈ lw_all := lw_g (lw_at lw_m7 229 rfl) rfl
theorem q1719 : (Jvm.Cond.methodLink "TrainingDiaryLaw" (187 : Nat) ({ cls := "TrainingDiaryModel", name := "setWeight", desc := "(II)I" } : Jvm.MethodName)) ∈ lw_all := lw_g (lw_at lw_m7 233 rfl) rfl
theorem q1723 : (Jvm.Cond.methodLink "TrainingDiaryLaw" (190 : Nat) ({ cls := "TrainingDiaryModel", name := "weightOf", desc := "(I)I" } : Jvm.MethodName)) ∈ lw_all := lw_g (lw_at lw_m7 237 rfl) rfl
theorem q1727 : (Jvm.Cond.methodLink "TrainingDiaryLaw" (193 : Nat) ({ cls := "TrainingDiaryModel", name := "zoneOf", desc := "(II)I" } : Jvm.MethodName)) ∈ lw_all := lw_g (lw_at lw_m8 1 rfl) rfl
theorem q1731 : (Jvm.Cond.methodLink "TrainingDiaryLaw" (196 : Nat) ({ cls := "TrainingDiaryModel", name := "addSession", desc := "(I)I" } : Jvm.MethodName)) ∈ lw_all := lw_g (lw_at lw_m8 5 rfl) rfl
theorem q1735 : (Jvm.Cond.methodLink "TrainingDiaryLaw" (200 : Nat) ({ cls := "TrainingDiaryModel", name := "addPart", desc := "(III)I" } : Jvm.MethodName)) ∈ lw_all := lw_g (lw_at lw_m8 9 rfl) rfl
theorem q1747 : (Jvm.Cond.methodLink "TrainingDiaryLaw" (203 : Nat) ({ cls := "TrainingDiaryModel", name := "clearParts", desc := "(I)I" } : Jvm.MethodName)) ∈ lw_all := lw_g (lw_at lw_m8 21 rfl) rfl
theorem q1755 : (Jvm.Cond.methodLink "TrainingDiaryLaw" (206 : Nat) ({ cls := "TrainingDiaryModel", name := "moveSession", desc := "(II)I" } : Jvm.MethodName)) ∈ lw_all := lw_g (lw_at lw_m8 29 rfl) rfl
theorem q1759 : (Jvm.Cond.methodLink "TrainingDiaryLaw" (209 : Nat) ({ cls := "TrainingDiaryModel", name := "removeSession", desc := "(I)I" } : Jvm.MethodName)) ∈ lw_all := lw_g (lw_at lw_m8 33 rfl) rfl
theorem q1763 : (Jvm.Cond.methodLink "TrainingDiaryLaw" (213 : Nat) ({ cls := "TrainingDiaryModel", name := "sessionCount", desc := "()I" } : Jvm.MethodName)) ∈ lw_all := lw_g (lw_at lw_m8 37 rfl) rfl
theorem q1767 : (Jvm.Cond.methodLink "TrainingDiaryLaw" (216 : Nat) ({ cls := "TrainingDiaryModel", name := "sessionAt", desc := "(I)I" } : Jvm.MethodName)) ∈ lw_all := lw_g (lw_at lw_m8 41 rfl) rfl
theorem q1775 : (Jvm.Cond.methodLink "TrainingDiaryLaw" (219 : Nat) ({ cls := "TrainingDiaryModel", name := "dayOf", desc := "(I)I" } : Jvm.MethodName)) ∈ lw_all := lw_g (lw_at lw_m8 49 rfl) rfl
theorem q1779 : (Jvm.Cond.methodLink "TrainingDiaryLaw" (222 : Nat) ({ cls := "TrainingDiaryModel", name := "minutesOf", desc := "(I)I" } : Jvm.MethodName)) ∈ lw_all := lw_g (lw_at lw_m8 53 rfl) rfl
theorem q1783 : (Jvm.Cond.methodLink "TrainingDiaryLaw" (225 : Nat) ({ cls := "TrainingDiaryModel", name := "minutesInZone", desc := "(II)I" } : Jvm.MethodName)) ∈ lw_all := lw_g (lw_at lw_m8 57 rfl) rfl
theorem q1787 : (Jvm.Cond.methodLink "TrainingDiaryLaw" (228 : Nat) ({ cls := "TrainingDiaryModel", name := "loadOf", desc := "(I)I" } : Jvm.MethodName)) ∈ lw_all := lw_g (lw_at lw_m8 61 rfl) rfl
theorem q1791 : (Jvm.Cond.methodLink "TrainingDiaryLaw" (231 : Nat) ({ cls := "TrainingDiaryModel", name := "loadOn", desc := "(I)I" } : Jvm.MethodName)) ∈ lw_all := lw_g (lw_at lw_m8 65 rfl) rfl
theorem q1799 : (Jvm.Cond.methodLink "TrainingDiaryLaw" (235 : Nat) ({ cls := "TrainingDiaryModel", name := "zoneShare", desc := "(I)F" } : Jvm.MethodName)) ∈ lw_all := lw_g (lw_at lw_m8 73 rfl) rfl
theorem q1803 : (Jvm.Cond.methodLink "TrainingDiaryLaw" (240 : Nat) ({ cls := "TrainingDiaryModel", name := "meanLoad", desc := "()D" } : Jvm.MethodName)) ∈ lw_all := lw_g (lw_at lw_m8 77 rfl) rfl
theorem q1807 : (Jvm.Cond.methodLink "TrainingDiaryLaw" (243 : Nat) ({ cls := "TrainingDiaryModel", name := "fitnessOn", desc := "(I)I" } : Jvm.MethodName)) ∈ lw_all := lw_g (lw_at lw_m8 81 rfl) rfl
theorem q1815 : (Jvm.Cond.methodLink "TrainingDiaryLaw" (246 : Nat) ({ cls := "TrainingDiaryModel", name := "fitnessFromStart", desc := "(I)I" } : Jvm.MethodName)) ∈ lw_all := lw_g (lw_at lw_m8 89 rfl) rfl
theorem q1820 : (Jvm.Cond.methodLink "TrainingDiaryLaw" (249 : Nat) ({ cls := "TrainingDiaryModel", name := "fatigueOn", desc := "(I)I" } : Jvm.MethodName)) ∈ lw_all := lw_g (lw_at lw_m8 94 rfl) rfl
theorem q1824 : (Jvm.Cond.methodLink "TrainingDiaryLaw" (252 : Nat) ({ cls := "TrainingDiaryModel", name := "fatigueFromStart", desc := "(I)I" } : Jvm.MethodName)) ∈ lw_all := lw_g (lw_at lw_m8 98 rfl) rfl
theorem q1829 : (Jvm.Cond.methodLink "TrainingDiaryLaw" (255 : Nat) ({ cls := "TrainingDiaryModel", name := "formOn", desc := "(I)I" } : Jvm.MethodName)) ∈ lw_all := lw_g (lw_at lw_m8 103 rfl) rfl
theorem q1837 : (Jvm.Cond.methodLink "TrainingDiaryLaw" (259 : Nat) ({ cls := "TrainingDiaryModel", name := "bestFormDay", desc := "()I" } : Jvm.MethodName)) ∈ lw_all := lw_g (lw_at lw_m8 111 rfl) rfl
theorem q1841 : (Jvm.Cond.methodLink "TrainingDiaryLaw" (262 : Nat) ({ cls := "TrainingDiaryModel", name := "daysToForm", desc := "(I)I" } : Jvm.MethodName)) ∈ lw_all := lw_g (lw_at lw_m8 115 rfl) rfl
theorem q1847 : (Jvm.Cond.methodLink "TrainingDiaryLaw" (265 : Nat) ({ cls := "TrainingDiaryModel", name := "bestDays", desc := "(I)I" } : Jvm.MethodName)) ∈ lw_all := lw_g (lw_at lw_m8 121 rfl) rfl
theorem q1863 : (Jvm.Cond.methodLink "TrainingDiaryLaw" (268 : Nat) ({ cls := "TrainingDiaryModel", name := "bestDaysByTrying", desc := "(I)I" } : Jvm.MethodName)) ∈ lw_all := lw_g (lw_at lw_m8 137 rfl) rfl
theorem q1868 : (Jvm.Cond.methodLink "TrainingDiaryLaw" (271 : Nat) ({ cls := "TrainingDiaryModel", name := "bestDaysStart", desc := "(I)I" } : Jvm.MethodName)) ∈ lw_all := lw_g (lw_at lw_m8 142 rfl) rfl
theorem q1872 : (Jvm.Cond.methodLink "TrainingDiaryLaw" (274 : Nat) ({ cls := "TrainingDiaryModel", name := "bestEffort", desc := "(I)I" } : Jvm.MethodName)) ∈ lw_all := lw_g (lw_at lw_m8 146 rfl) rfl
theorem q1893 : (Jvm.Cond.methodLink "TrainingDiaryLaw" (277 : Nat) ({ cls := "TrainingDiaryModel", name := "bestEffortByTrying", desc := "(I)I" } : Jvm.MethodName)) ∈ lw_all := lw_g (lw_at lw_m8 167 rfl) rfl
theorem q1898 : (Jvm.Cond.methodLink "TrainingDiaryLaw" (280 : Nat) ({ cls := "TrainingDiaryModel", name := "bestEffortSession", desc := "(I)I" } : Jvm.MethodName)) ∈ lw_all := lw_g (lw_at lw_m8 172 rfl) rfl
theorem q1902 : (Jvm.Cond.methodLink "TrainingDiaryLaw" (284 : Nat) ({ cls := "TrainingDiaryModel", name := "startPlan", desc := "()I" } : Jvm.MethodName)) ∈ lw_all := lw_g (lw_at lw_m8 176 rfl) rfl
theorem q1906 : (Jvm.Cond.methodLink "TrainingDiaryLaw" (287 : Nat) ({ cls := "TrainingDiaryModel", name := "addTarget", desc := "(I)I" } : Jvm.MethodName)) ∈ lw_all := lw_g (lw_at lw_m8 180 rfl) rfl
theorem q1910 : (Jvm.Cond.methodLink "TrainingDiaryLaw" (290 : Nat) ({ cls := "TrainingDiaryModel", name := "targetAt", desc := "(I)I" } : Jvm.MethodName)) ∈ lw_all := lw_g (lw_at lw_m8 184 rfl) rfl
theorem q1914 : (Jvm.Cond.methodLink "TrainingDiaryLaw" (294 : Nat) ({ cls := "TrainingDiaryModel", name := "dueEntry", desc := "()I" } : Jvm.MethodName)) ∈ lw_all := lw_g (lw_at lw_m8 188 rfl) rfl
theorem q1922 : (Jvm.Cond.methodLink "TrainingDiaryLaw" (298 : Nat) ({ cls := "TrainingDiaryModel", name := "missedDays", desc := "()I" } : Jvm.MethodName)) ∈ lw_all := lw_g (lw_at lw_m8 196 rfl) rfl
theorem q1926 : (Jvm.Cond.methodLink "TrainingDiaryLaw" (302 : Nat) ({ cls := "TrainingDiaryModel", name := "droppedEntries", desc := "()I" } : Jvm.MethodName)) ∈ lw_all := lw_g (lw_at lw_m8 200 rfl) rfl
theorem q1930 : (Jvm.Cond.methodLink "TrainingDiaryLaw" (305 : Nat) ({ cls := "TrainingDiaryModel", name := "planEnd", desc := "()I" } : Jvm.MethodName)) ∈ lw_all := lw_g (lw_at lw_m8 204 rfl) rfl
theorem q1934 : (Jvm.Cond.methodLink "TrainingDiaryLaw" (310 : Nat) ({ cls := "TrainingDiaryModel", name := "isPlanOver", desc := "()Z" } : Jvm.MethodName)) ∈ lw_all := lw_g (lw_at lw_m8 208 rfl) rfl
theorem q1938 : (Jvm.Cond.methodLink "TrainingDiaryLaw" (313 : Nat) ({ cls := "TrainingDiaryModel", name := "writeWeek", desc := "(I)I" } : Jvm.MethodName)) ∈ lw_all := lw_g (lw_at lw_m8 212 rfl) rfl
theorem q1946 : (Jvm.Cond.methodLink "TrainingDiaryLaw" (316 : Nat) ({ cls := "TrainingDiaryModel", name := "lineAt", desc := "(I)C" } : Jvm.MethodName)) ∈ lw_all := lw_g (lw_at lw_m8 220 rfl) rfl
theorem q1950 : (Jvm.Cond.methodLink "TrainingDiaryLaw" (319 : Nat) ({ cls := "TrainingDiaryModel", name := "undo", desc := "()I" } : Jvm.MethodName)) ∈ lw_all := lw_g (lw_at lw_m8 224 rfl) rfl
theorem q1954 : (Jvm.Cond.methodLink "TrainingDiaryLaw" (323 : Nat) ({ cls := "TrainingDiaryModel", name := "save", desc := "()I" } : Jvm.MethodName)) ∈ lw_all := lw_g (lw_at lw_m8 228 rfl) rfl
theorem q1958 : (Jvm.Cond.methodLink "TrainingDiaryLaw" (326 : Nat) ({ cls := "TrainingDiaryModel", name := "restore", desc := "()I" } : Jvm.MethodName)) ∈ lw_all := lw_g (lw_at lw_m8 232 rfl) rfl
/-! the law's own entry -/
set_option maxRecDepth 100000
abbrev cL_law : ByteArray := code
def dkwL_law_111 : List UInt8 := [4, 172]
abbrev dktL_law_111 : List UInt8 := dkwL_law_111 ++ []
def dkwL_law_110 : List UInt8 := [154, 0, 15, 45, 3, 47, 21, 7, 133, 148, 153, 0, 5, 3, 172, 167, 0, 3, 132, 5, 4, 167, 245, 53]
abbrev dktL_law_110 : List UInt8 := dkwL_law_110 ++ dktL_law_111
def dkwL_law_109 : List UInt8 := [184, 1, 68, 54, 6, 44, 182, 1, 70, 54, 7, 44, 182, 0, 158, 21, 6, 159, 0, 5, 3, 172, 21, 6]
abbrev dktL_law_109 : List UInt8 := dkwL_law_109 ++ dktL_law_110
def dkwL_law_108 : List UInt8 := [148, 153, 0, 5, 3, 172, 167, 0, 60, 43, 182, 1, 64, 44, 182, 1, 67, 159, 0, 49, 3, 172, 43, 45]
abbrev dktL_law_108 : List UInt8 := dkwL_law_108 ++ dktL_law_109
def dkwL_law_107 : List UInt8 := [54, 7, 44, 182, 0, 158, 21, 6, 159, 0, 5, 3, 172, 21, 6, 154, 0, 15, 45, 3, 47, 21, 7, 133]
abbrev dktL_law_107 : List UInt8 := dkwL_law_107 ++ dktL_law_108
def dkwL_law_106 : List UInt8 := [21, 7, 133, 148, 153, 0, 5, 3, 172, 167, 0, 104, 43, 45, 184, 1, 61, 54, 6, 44, 182, 1, 63]
abbrev dktL_law_106 : List UInt8 := dkwL_law_106 ++ dktL_law_107
def dkwL_law_105 : List UInt8 := [182, 1, 60, 54, 7, 44, 182, 0, 158, 21, 6, 159, 0, 5, 3, 172, 21, 6, 154, 0, 15, 45, 3, 47]
abbrev dktL_law_105 : List UInt8 := dkwL_law_105 ++ dktL_law_106
def dkwL_law_104 : List UInt8 := [167, 0, 160, 43, 42, 21, 5, 4, 96, 46, 45, 184, 1, 58, 54, 6, 44, 42, 21, 5, 4, 96, 46]
abbrev dktL_law_104 : List UInt8 := dkwL_law_104 ++ dktL_law_105
def dkwL_law_103 : List UInt8 := [159, 0, 5, 3, 172, 21, 6, 154, 0, 15, 45, 3, 47, 21, 7, 133, 148, 153, 0, 5, 3, 172]
abbrev dktL_law_103 : List UInt8 := dkwL_law_103 ++ dktL_law_104
def dkwL_law_102 : List UInt8 := [184, 1, 55, 54, 6, 44, 42, 21, 5, 4, 96, 46, 182, 1, 57, 54, 7, 44, 182, 0, 158, 21, 6]
abbrev dktL_law_102 : List UInt8 := dkwL_law_102 ++ dktL_law_103
def dkwL_law_101 : List UInt8 := [167, 0, 229, 43, 182, 1, 50, 44, 182, 1, 54, 159, 0, 218, 3, 172, 43, 42, 21, 5, 4, 96, 46, 45]
abbrev dktL_law_101 : List UInt8 := dkwL_law_101 ++ dktL_law_102
def dkwL_law_100 : List UInt8 := [159, 0, 5, 3, 172, 21, 6, 154, 0, 15, 45, 3, 47, 21, 7, 133, 148, 153, 0, 5, 3, 172]
abbrev dktL_law_100 : List UInt8 := dkwL_law_100 ++ dktL_law_101
def dkwL_law_99 : List UInt8 := [159, 1, 19, 3, 172, 43, 45, 184, 1, 47, 54, 6, 44, 182, 1, 49, 54, 7, 44, 182, 0, 158, 21, 6]
abbrev dktL_law_99 : List UInt8 := dkwL_law_99 ++ dktL_law_100
def dkwL_law_98 : List UInt8 := [167, 1, 43, 43, 182, 1, 39, 44, 182, 1, 42, 159, 1, 32, 3, 172, 43, 182, 1, 43, 44, 182, 1, 46]
abbrev dktL_law_98 : List UInt8 := dkwL_law_98 ++ dktL_law_99
def dkwL_law_97 : List UInt8 := [159, 0, 5, 3, 172, 21, 6, 154, 0, 15, 45, 3, 47, 21, 7, 133, 148, 153, 0, 5, 3, 172]
abbrev dktL_law_97 : List UInt8 := dkwL_law_97 ++ dktL_law_98
def dkwL_law_96 : List UInt8 := [167, 1, 87, 43, 45, 184, 1, 35, 54, 6, 44, 182, 1, 38, 54, 7, 44, 182, 0, 158, 21, 6]
abbrev dktL_law_96 : List UInt8 := dkwL_law_96 ++ dktL_law_97
def dkwL_law_95 : List UInt8 := [21, 6, 159, 0, 5, 3, 172, 21, 6, 154, 0, 15, 45, 3, 47, 21, 7, 133, 148, 153, 0, 5, 3, 172]
abbrev dktL_law_95 : List UInt8 := dkwL_law_95 ++ dktL_law_96
def dkwL_law_94 : List UInt8 := [46, 45, 184, 1, 32, 54, 6, 44, 42, 21, 5, 4, 96, 46, 182, 1, 34, 54, 7, 44, 182, 0, 158]
abbrev dktL_law_94 : List UInt8 := dkwL_law_94 ++ dktL_law_95
def dkwL_law_93 : List UInt8 := [154, 0, 15, 45, 3, 47, 21, 7, 133, 148, 153, 0, 5, 3, 172, 167, 1, 143, 43, 42, 21, 5, 4, 96]
abbrev dktL_law_93 : List UInt8 := dkwL_law_93 ++ dktL_law_94
def dkwL_law_92 : List UInt8 := [21, 5, 4, 96, 46, 182, 1, 31, 54, 7, 44, 182, 0, 158, 21, 6, 159, 0, 5, 3, 172, 21, 6]
abbrev dktL_law_92 : List UInt8 := dkwL_law_92 ++ dktL_law_93
def dkwL_law_91 : List UInt8 := [182, 1, 28, 159, 1, 201, 3, 172, 43, 42, 21, 5, 4, 96, 46, 45, 184, 1, 29, 54, 6, 44, 42]
abbrev dktL_law_91 : List UInt8 := dkwL_law_91 ++ dktL_law_92
def dkwL_law_90 : List UInt8 := [154, 0, 15, 45, 3, 47, 21, 7, 133, 148, 153, 0, 5, 3, 172, 167, 1, 212, 43, 182, 1, 25, 44]
abbrev dktL_law_90 : List UInt8 := dkwL_law_90 ++ dktL_law_91
def dkwL_law_89 : List UInt8 := [21, 5, 4, 96, 46, 182, 1, 24, 54, 7, 44, 182, 0, 158, 21, 6, 159, 0, 5, 3, 172, 21, 6]
abbrev dktL_law_89 : List UInt8 := dkwL_law_89 ++ dktL_law_90
def dkwL_law_88 : List UInt8 := [153, 0, 5, 3, 172, 167, 2, 12, 43, 42, 21, 5, 4, 96, 46, 45, 184, 1, 22, 54, 6, 44, 42]
abbrev dktL_law_88 : List UInt8 := dkwL_law_88 ++ dktL_law_89
def dkwL_law_87 : List UInt8 := [182, 0, 158, 21, 6, 159, 0, 5, 3, 172, 21, 6, 154, 0, 15, 45, 3, 47, 21, 7, 133, 148]
abbrev dktL_law_87 : List UInt8 := dkwL_law_87 ++ dktL_law_88
def dkwL_law_86 : List UInt8 := [21, 5, 4, 96, 46, 45, 184, 1, 19, 54, 6, 44, 42, 21, 5, 4, 96, 46, 182, 1, 21, 54, 7, 44]
abbrev dktL_law_86 : List UInt8 := dkwL_law_86 ++ dktL_law_87
def dkwL_law_85 : List UInt8 := [172, 21, 6, 154, 0, 15, 45, 3, 47, 21, 7, 133, 148, 153, 0, 5, 3, 172, 167, 2, 68, 43, 42]
abbrev dktL_law_85 : List UInt8 := dkwL_law_85 ++ dktL_law_86
def dkwL_law_84 : List UInt8 := [54, 6, 44, 42, 21, 5, 4, 96, 46, 182, 1, 18, 54, 7, 44, 182, 0, 158, 21, 6, 159, 0, 5, 3]
abbrev dktL_law_84 : List UInt8 := dkwL_law_84 ++ dktL_law_85
def dkwL_law_83 : List UInt8 := [21, 7, 133, 148, 153, 0, 5, 3, 172, 167, 2, 124, 43, 42, 21, 5, 4, 96, 46, 45, 184, 1, 16]
abbrev dktL_law_83 : List UInt8 := dkwL_law_83 ++ dktL_law_84
def dkwL_law_82 : List UInt8 := [182, 1, 15, 54, 7, 44, 182, 0, 158, 21, 6, 159, 0, 5, 3, 172, 21, 6, 154, 0, 15, 45, 3, 47]
abbrev dktL_law_82 : List UInt8 := dkwL_law_82 ++ dktL_law_83
def dkwL_law_81 : List UInt8 := [167, 2, 180, 43, 42, 21, 5, 4, 96, 46, 45, 184, 1, 13, 54, 6, 44, 42, 21, 5, 4, 96, 46]
abbrev dktL_law_81 : List UInt8 := dkwL_law_81 ++ dktL_law_82
def dkwL_law_80 : List UInt8 := [21, 6, 159, 0, 5, 3, 172, 21, 6, 154, 0, 15, 45, 3, 47, 21, 7, 133, 148, 153, 0, 5, 3, 172]
abbrev dktL_law_80 : List UInt8 := dkwL_law_80 ++ dktL_law_81
def dkwL_law_79 : List UInt8 := [46, 45, 184, 1, 10, 54, 6, 44, 42, 21, 5, 4, 96, 46, 182, 1, 12, 54, 7, 44, 182, 0, 158]
abbrev dktL_law_79 : List UInt8 := dkwL_law_79 ++ dktL_law_80
def dkwL_law_78 : List UInt8 := [154, 0, 15, 45, 3, 47, 21, 7, 133, 148, 153, 0, 5, 3, 172, 167, 2, 236, 43, 42, 21, 5, 4, 96]
abbrev dktL_law_78 : List UInt8 := dkwL_law_78 ++ dktL_law_79
def dkwL_law_77 : List UInt8 := [21, 5, 4, 96, 46, 182, 1, 9, 54, 7, 44, 182, 0, 158, 21, 6, 159, 0, 5, 3, 172, 21, 6]
abbrev dktL_law_77 : List UInt8 := dkwL_law_77 ++ dktL_law_78
def dkwL_law_76 : List UInt8 := [148, 153, 0, 5, 3, 172, 167, 3, 36, 43, 42, 21, 5, 4, 96, 46, 45, 184, 1, 7, 54, 6, 44, 42]
abbrev dktL_law_76 : List UInt8 := dkwL_law_76 ++ dktL_law_77
def dkwL_law_75 : List UInt8 := [54, 7, 44, 182, 0, 158, 21, 6, 159, 0, 5, 3, 172, 21, 6, 154, 0, 15, 45, 3, 47, 21, 7, 133]
abbrev dktL_law_75 : List UInt8 := dkwL_law_75 ++ dktL_law_76
def dkwL_law_74 : List UInt8 := [172, 43, 42, 21, 5, 4, 96, 46, 45, 184, 1, 4, 54, 6, 44, 42, 21, 5, 4, 96, 46, 182, 1, 6]
abbrev dktL_law_74 : List UInt8 := dkwL_law_74 ++ dktL_law_75
def dkwL_law_73 : List UInt8 := [21, 7, 133, 148, 153, 0, 5, 3, 172, 167, 3, 105, 43, 182, 1, 0, 44, 182, 1, 3, 159, 3, 94, 3]
abbrev dktL_law_73 : List UInt8 := dkwL_law_73 ++ dktL_law_74
def dkwL_law_72 : List UInt8 := [182, 0, 255, 54, 7, 44, 182, 0, 158, 21, 6, 159, 0, 5, 3, 172, 21, 6, 154, 0, 15, 45, 3, 47]
abbrev dktL_law_72 : List UInt8 := dkwL_law_72 ++ dktL_law_73
def dkwL_law_71 : List UInt8 := [167, 3, 161, 43, 42, 21, 5, 4, 96, 46, 45, 184, 0, 253, 54, 6, 44, 42, 21, 5, 4, 96, 46]
abbrev dktL_law_71 : List UInt8 := dkwL_law_71 ++ dktL_law_72
def dkwL_law_70 : List UInt8 := [21, 6, 159, 0, 5, 3, 172, 21, 6, 154, 0, 15, 45, 3, 47, 21, 7, 133, 148, 153, 0, 5, 3, 172]
abbrev dktL_law_70 : List UInt8 := dkwL_law_70 ++ dktL_law_71
def dkwL_law_69 : List UInt8 := [46, 45, 184, 0, 250, 54, 6, 44, 42, 21, 5, 4, 96, 46, 182, 0, 252, 54, 7, 44, 182, 0, 158]
abbrev dktL_law_69 : List UInt8 := dkwL_law_69 ++ dktL_law_70
def dkwL_law_68 : List UInt8 := [154, 0, 15, 45, 3, 47, 21, 7, 133, 148, 153, 0, 5, 3, 172, 167, 3, 217, 43, 42, 21, 5, 4, 96]
abbrev dktL_law_68 : List UInt8 := dkwL_law_68 ++ dktL_law_69
def dkwL_law_67 : List UInt8 := [21, 5, 4, 96, 46, 182, 0, 249, 54, 7, 44, 182, 0, 158, 21, 6, 159, 0, 5, 3, 172, 21, 6]
abbrev dktL_law_67 : List UInt8 := dkwL_law_67 ++ dktL_law_68
def dkwL_law_66 : List UInt8 := [153, 0, 5, 3, 172, 167, 4, 17, 43, 42, 21, 5, 4, 96, 46, 45, 184, 0, 247, 54, 6, 44, 42]
abbrev dktL_law_66 : List UInt8 := dkwL_law_66 ++ dktL_law_67
def dkwL_law_65 : List UInt8 := [182, 0, 158, 21, 6, 159, 0, 5, 3, 172, 21, 6, 154, 0, 15, 45, 3, 47, 21, 7, 133, 148]
abbrev dktL_law_65 : List UInt8 := dkwL_law_65 ++ dktL_law_66
def dkwL_law_64 : List UInt8 := [4, 96, 46, 45, 184, 0, 244, 54, 6, 44, 42, 21, 5, 4, 96, 46, 182, 0, 246, 54, 7, 44]
abbrev dktL_law_64 : List UInt8 := dkwL_law_64 ++ dktL_law_65
def dkwL_law_63 : List UInt8 := [21, 6, 154, 0, 15, 45, 3, 47, 21, 7, 133, 148, 153, 0, 5, 3, 172, 167, 4, 73, 43, 42, 21, 5]
abbrev dktL_law_63 : List UInt8 := dkwL_law_63 ++ dktL_law_64
def dkwL_law_62 : List UInt8 := [44, 42, 21, 5, 4, 96, 46, 182, 0, 243, 54, 7, 44, 182, 0, 158, 21, 6, 159, 0, 5, 3, 172]
abbrev dktL_law_62 : List UInt8 := dkwL_law_62 ++ dktL_law_63
def dkwL_law_61 : List UInt8 := [24, 8, 151, 154, 0, 5, 3, 172, 167, 4, 129, 43, 42, 21, 5, 4, 96, 46, 45, 184, 0, 241, 54, 6]
abbrev dktL_law_61 : List UInt8 := dkwL_law_61 ++ dktL_law_62
def dkwL_law_60 : List UInt8 := [44, 182, 0, 240, 57, 8, 24, 6, 24, 8, 151, 153, 0, 21, 24, 6, 24, 6, 151, 153, 0, 11, 24, 8]
abbrev dktL_law_60 : List UInt8 := dkwL_law_60 ++ dktL_law_61
def dkwL_law_59 : List UInt8 := [49, 151, 153, 0, 11, 23, 7, 23, 7, 149, 154, 0, 5, 3, 172, 167, 4, 170, 43, 182, 0, 236, 57, 6]
abbrev dktL_law_59 : List UInt8 := dkwL_law_59 ++ dktL_law_60
def dkwL_law_58 : List UInt8 := [172, 21, 6, 154, 0, 36, 25, 4, 3, 49, 23, 7, 141, 151, 153, 0, 25, 25, 4, 3, 49, 25, 4, 3]
abbrev dktL_law_58 : List UInt8 := dkwL_law_58 ++ dktL_law_59
def dkwL_law_57 : List UInt8 := [54, 6, 44, 42, 21, 5, 4, 96, 46, 182, 0, 235, 56, 7, 44, 182, 0, 158, 21, 6, 159, 0, 5, 3]
abbrev dktL_law_57 : List UInt8 := dkwL_law_57 ++ dktL_law_58
def dkwL_law_56 : List UInt8 := [21, 7, 133, 148, 153, 0, 5, 3, 172, 167, 4, 248, 43, 42, 21, 5, 4, 96, 46, 25, 4, 184, 0, 232]
abbrev dktL_law_56 : List UInt8 := dkwL_law_56 ++ dktL_law_57
def dkwL_law_55 : List UInt8 := [182, 0, 231, 54, 7, 44, 182, 0, 158, 21, 6, 159, 0, 5, 3, 172, 21, 6, 154, 0, 15, 45, 3, 47]
abbrev dktL_law_55 : List UInt8 := dkwL_law_55 ++ dktL_law_56
def dkwL_law_54 : List UInt8 := [167, 5, 48, 43, 42, 21, 5, 4, 96, 46, 45, 184, 0, 229, 54, 6, 44, 42, 21, 5, 4, 96, 46]
abbrev dktL_law_54 : List UInt8 := dkwL_law_54 ++ dktL_law_55
def dkwL_law_53 : List UInt8 := [21, 6, 159, 0, 5, 3, 172, 21, 6, 154, 0, 15, 45, 3, 47, 21, 7, 133, 148, 153, 0, 5, 3, 172]
abbrev dktL_law_53 : List UInt8 := dkwL_law_53 ++ dktL_law_54
def dkwL_law_52 : List UInt8 := [46, 45, 184, 0, 226, 54, 6, 44, 42, 21, 5, 4, 96, 46, 182, 0, 228, 54, 7, 44, 182, 0, 158]
abbrev dktL_law_52 : List UInt8 := dkwL_law_52 ++ dktL_law_53
def dkwL_law_51 : List UInt8 := [154, 0, 15, 45, 3, 47, 21, 7, 133, 148, 153, 0, 5, 3, 172, 167, 5, 104, 43, 42, 21, 5, 4, 96]
abbrev dktL_law_51 : List UInt8 := dkwL_law_51 ++ dktL_law_52
def dkwL_law_50 : List UInt8 := [42, 21, 5, 5, 96, 46, 182, 0, 225, 54, 7, 44, 182, 0, 158, 21, 6, 159, 0, 5, 3, 172, 21, 6]
abbrev dktL_law_50 : List UInt8 := dkwL_law_50 ++ dktL_law_51
def dkwL_law_49 : List UInt8 := [21, 5, 4, 96, 46, 42, 21, 5, 5, 96, 46, 45, 184, 0, 223, 54, 6, 44, 42, 21, 5, 4, 96, 46]
abbrev dktL_law_49 : List UInt8 := dkwL_law_49 ++ dktL_law_50
def dkwL_law_48 : List UInt8 := [172, 21, 6, 154, 0, 15, 45, 3, 47, 21, 7, 133, 148, 153, 0, 5, 3, 172, 167, 5, 172, 43, 42]
abbrev dktL_law_48 : List UInt8 := dkwL_law_48 ++ dktL_law_49
def dkwL_law_47 : List UInt8 := [54, 6, 44, 42, 21, 5, 4, 96, 46, 182, 0, 222, 54, 7, 44, 182, 0, 158, 21, 6, 159, 0, 5, 3]
abbrev dktL_law_47 : List UInt8 := dkwL_law_47 ++ dktL_law_48
def dkwL_law_46 : List UInt8 := [21, 7, 133, 148, 153, 0, 5, 3, 172, 167, 5, 228, 43, 42, 21, 5, 4, 96, 46, 45, 184, 0, 220]
abbrev dktL_law_46 : List UInt8 := dkwL_law_46 ++ dktL_law_47
def dkwL_law_45 : List UInt8 := [182, 0, 219, 54, 7, 44, 182, 0, 158, 21, 6, 159, 0, 5, 3, 172, 21, 6, 154, 0, 15, 45, 3, 47]
abbrev dktL_law_45 : List UInt8 := dkwL_law_45 ++ dktL_law_46
def dkwL_law_44 : List UInt8 := [167, 6, 28, 43, 42, 21, 5, 4, 96, 46, 45, 184, 0, 217, 54, 6, 44, 42, 21, 5, 4, 96, 46]
abbrev dktL_law_44 : List UInt8 := dkwL_law_44 ++ dktL_law_45
def dkwL_law_43 : List UInt8 := [159, 0, 5, 3, 172, 21, 6, 154, 0, 15, 45, 3, 47, 21, 7, 133, 148, 153, 0, 5, 3, 172]
abbrev dktL_law_43 : List UInt8 := dkwL_law_43 ++ dktL_law_44
def dkwL_law_42 : List UInt8 := [184, 0, 214, 54, 6, 44, 42, 21, 5, 4, 96, 46, 182, 0, 216, 54, 7, 44, 182, 0, 158, 21, 6]
abbrev dktL_law_42 : List UInt8 := dkwL_law_42 ++ dktL_law_43
def dkwL_law_41 : List UInt8 := [167, 6, 97, 43, 182, 0, 210, 44, 182, 0, 213, 159, 6, 86, 3, 172, 43, 42, 21, 5, 4, 96, 46, 45]
abbrev dktL_law_41 : List UInt8 := dkwL_law_41 ++ dktL_law_42
def dkwL_law_40 : List UInt8 := [21, 6, 159, 0, 5, 3, 172, 21, 6, 154, 0, 15, 45, 3, 47, 21, 7, 133, 148, 153, 0, 5, 3, 172]
abbrev dktL_law_40 : List UInt8 := dkwL_law_40 ++ dktL_law_41
def dkwL_law_39 : List UInt8 := [46, 45, 184, 0, 207, 54, 6, 44, 42, 21, 5, 4, 96, 46, 182, 0, 209, 54, 7, 44, 182, 0, 158]
abbrev dktL_law_39 : List UInt8 := dkwL_law_39 ++ dktL_law_40
def dkwL_law_38 : List UInt8 := [154, 0, 15, 45, 3, 47, 21, 7, 133, 148, 153, 0, 5, 3, 172, 167, 6, 153, 43, 42, 21, 5, 4, 96]
abbrev dktL_law_38 : List UInt8 := dkwL_law_38 ++ dktL_law_39
def dkwL_law_37 : List UInt8 := [42, 21, 5, 5, 96, 46, 182, 0, 206, 54, 7, 44, 182, 0, 158, 21, 6, 159, 0, 5, 3, 172, 21, 6]
abbrev dktL_law_37 : List UInt8 := dkwL_law_37 ++ dktL_law_38
def dkwL_law_36 : List UInt8 := [21, 5, 4, 96, 46, 42, 21, 5, 5, 96, 46, 45, 184, 0, 204, 54, 6, 44, 42, 21, 5, 4, 96, 46]
abbrev dktL_law_36 : List UInt8 := dkwL_law_36 ++ dktL_law_37
def dkwL_law_35 : List UInt8 := [172, 21, 6, 154, 0, 15, 45, 3, 47, 21, 7, 133, 148, 153, 0, 5, 3, 172, 167, 6, 221, 43, 42]
abbrev dktL_law_35 : List UInt8 := dkwL_law_35 ++ dktL_law_36
def dkwL_law_34 : List UInt8 := [54, 6, 44, 42, 21, 5, 4, 96, 46, 182, 0, 203, 54, 7, 44, 182, 0, 158, 21, 6, 159, 0, 5, 3]
abbrev dktL_law_34 : List UInt8 := dkwL_law_34 ++ dktL_law_35
def dkwL_law_33 : List UInt8 := [21, 7, 133, 148, 153, 0, 5, 3, 172, 167, 7, 21, 43, 42, 21, 5, 4, 96, 46, 45, 184, 0, 201]
abbrev dktL_law_33 : List UInt8 := dkwL_law_33 ++ dktL_law_34
def dkwL_law_32 : List UInt8 := [182, 0, 200, 54, 7, 44, 182, 0, 158, 21, 6, 159, 0, 5, 3, 172, 21, 6, 154, 0, 15, 45, 3, 47]
abbrev dktL_law_32 : List UInt8 := dkwL_law_32 ++ dktL_law_33
def dkwL_law_31 : List UInt8 := [184, 0, 197, 54, 6, 44, 42, 21, 5, 4, 96, 46, 42, 21, 5, 5, 96, 46, 42, 21, 5, 6, 96, 46]
abbrev dktL_law_31 : List UInt8 := dkwL_law_31 ++ dktL_law_32
def dkwL_law_30 : List UInt8 := [167, 7, 101, 43, 42, 21, 5, 4, 96, 46, 42, 21, 5, 5, 96, 46, 42, 21, 5, 6, 96, 46, 45]
abbrev dktL_law_30 : List UInt8 := dkwL_law_30 ++ dktL_law_31
def dkwL_law_29 : List UInt8 := [159, 0, 5, 3, 172, 21, 6, 154, 0, 15, 45, 3, 47, 21, 7, 133, 148, 153, 0, 5, 3, 172]
abbrev dktL_law_29 : List UInt8 := dkwL_law_29 ++ dktL_law_30
def dkwL_law_28 : List UInt8 := [184, 0, 194, 54, 6, 44, 42, 21, 5, 4, 96, 46, 182, 0, 196, 54, 7, 44, 182, 0, 158, 21, 6]
abbrev dktL_law_28 : List UInt8 := dkwL_law_28 ++ dktL_law_29
def dkwL_law_27 : List UInt8 := [3, 47, 21, 7, 133, 148, 153, 0, 5, 3, 172, 167, 7, 157, 43, 42, 21, 5, 4, 96, 46, 45]
abbrev dktL_law_27 : List UInt8 := dkwL_law_27 ++ dktL_law_28
def dkwL_law_26 : List UInt8 := [96, 46, 182, 0, 193, 54, 7, 44, 182, 0, 158, 21, 6, 159, 0, 5, 3, 172, 21, 6, 154, 0, 15, 45]
abbrev dktL_law_26 : List UInt8 := dkwL_law_26 ++ dktL_law_27
def dkwL_law_25 : List UInt8 := [46, 42, 21, 5, 5, 96, 46, 45, 184, 0, 191, 54, 6, 44, 42, 21, 5, 4, 96, 46, 42, 21, 5, 5]
abbrev dktL_law_25 : List UInt8 := dkwL_law_25 ++ dktL_law_26
def dkwL_law_24 : List UInt8 := [154, 0, 15, 45, 3, 47, 21, 7, 133, 148, 153, 0, 5, 3, 172, 167, 7, 225, 43, 42, 21, 5, 4, 96]
abbrev dktL_law_24 : List UInt8 := dkwL_law_24 ++ dktL_law_25
def dkwL_law_23 : List UInt8 := [21, 5, 4, 96, 46, 182, 0, 190, 54, 7, 44, 182, 0, 158, 21, 6, 159, 0, 5, 3, 172, 21, 6]
abbrev dktL_law_23 : List UInt8 := dkwL_law_23 ++ dktL_law_24
def dkwL_law_22 : List UInt8 := [148, 153, 0, 5, 3, 172, 167, 8, 25, 43, 42, 21, 5, 4, 96, 46, 45, 184, 0, 188, 54, 6, 44, 42]
abbrev dktL_law_22 : List UInt8 := dkwL_law_22 ++ dktL_law_23
def dkwL_law_21 : List UInt8 := [54, 7, 44, 182, 0, 158, 21, 6, 159, 0, 5, 3, 172, 21, 6, 154, 0, 15, 45, 3, 47, 21, 7, 133]
abbrev dktL_law_21 : List UInt8 := dkwL_law_21 ++ dktL_law_22
def dkwL_law_20 : List UInt8 := [46, 45, 184, 0, 185, 54, 6, 44, 42, 21, 5, 4, 96, 46, 42, 21, 5, 5, 96, 46, 182, 0, 187]
abbrev dktL_law_20 : List UInt8 := dkwL_law_20 ++ dktL_law_21
def dkwL_law_19 : List UInt8 := [21, 7, 133, 148, 153, 0, 5, 3, 172, 167, 8, 93, 43, 42, 21, 5, 4, 96, 46, 42, 21, 5, 5, 96]
abbrev dktL_law_19 : List UInt8 := dkwL_law_19 ++ dktL_law_20
def dkwL_law_18 : List UInt8 := [182, 0, 184, 54, 7, 44, 182, 0, 158, 21, 6, 159, 0, 5, 3, 172, 21, 6, 154, 0, 15, 45, 3, 47]
abbrev dktL_law_18 : List UInt8 := dkwL_law_18 ++ dktL_law_19
def dkwL_law_17 : List UInt8 := [167, 8, 149, 43, 42, 21, 5, 4, 96, 46, 45, 184, 0, 182, 54, 6, 44, 42, 21, 5, 4, 96, 46]
abbrev dktL_law_17 : List UInt8 := dkwL_law_17 ++ dktL_law_18
def dkwL_law_16 : List UInt8 := [159, 0, 5, 3, 172, 21, 6, 154, 0, 15, 45, 3, 47, 21, 7, 133, 148, 153, 0, 5, 3, 172]
abbrev dktL_law_16 : List UInt8 := dkwL_law_16 ++ dktL_law_17
def dkwL_law_15 : List UInt8 := [21, 5, 4, 96, 46, 42, 21, 5, 5, 96, 46, 182, 0, 181, 54, 7, 44, 182, 0, 158, 21, 6]
abbrev dktL_law_15 : List UInt8 := dkwL_law_15 ++ dktL_law_16
def dkwL_law_14 : List UInt8 := [167, 8, 217, 43, 42, 21, 5, 4, 96, 46, 42, 21, 5, 5, 96, 46, 45, 184, 0, 179, 54, 6, 44, 42]
abbrev dktL_law_14 : List UInt8 := dkwL_law_14 ++ dktL_law_15
def dkwL_law_13 : List UInt8 := [159, 0, 5, 3, 172, 21, 6, 154, 0, 15, 45, 3, 47, 21, 7, 133, 148, 153, 0, 5, 3, 172]
abbrev dktL_law_13 : List UInt8 := dkwL_law_13 ++ dktL_law_14
def dkwL_law_12 : List UInt8 := [184, 0, 176, 54, 6, 44, 42, 21, 5, 4, 96, 46, 182, 0, 178, 54, 7, 44, 182, 0, 158, 21, 6]
abbrev dktL_law_12 : List UInt8 := dkwL_law_12 ++ dktL_law_13
def dkwL_law_11 : List UInt8 := [167, 9, 30, 43, 182, 0, 172, 44, 182, 0, 175, 159, 9, 19, 3, 172, 43, 42, 21, 5, 4, 96, 46, 45]
abbrev dktL_law_11 : List UInt8 := dkwL_law_11 ++ dktL_law_12
def dkwL_law_10 : List UInt8 := [21, 6, 159, 0, 5, 3, 172, 21, 6, 154, 0, 15, 45, 3, 47, 21, 7, 133, 148, 153, 0, 5, 3, 172]
abbrev dktL_law_10 : List UInt8 := dkwL_law_10 ++ dktL_law_11
def dkwL_law_9 : List UInt8 := [46, 45, 184, 0, 169, 54, 6, 44, 42, 21, 5, 4, 96, 46, 182, 0, 171, 54, 7, 44, 182, 0, 158]
abbrev dktL_law_9 : List UInt8 := dkwL_law_9 ++ dktL_law_10
def dkwL_law_8 : List UInt8 := [154, 0, 15, 45, 3, 47, 21, 7, 133, 148, 153, 0, 5, 3, 172, 167, 9, 86, 43, 42, 21, 5, 4, 96]
abbrev dktL_law_8 : List UInt8 := dkwL_law_8 ++ dktL_law_9
def dkwL_law_7 : List UInt8 := [42, 21, 5, 5, 96, 46, 182, 0, 168, 54, 7, 44, 182, 0, 158, 21, 6, 159, 0, 5, 3, 172, 21, 6]
abbrev dktL_law_7 : List UInt8 := dkwL_law_7 ++ dktL_law_8
def dkwL_law_6 : List UInt8 := [21, 5, 4, 96, 46, 42, 21, 5, 5, 96, 46, 45, 184, 0, 165, 54, 6, 44, 42, 21, 5, 4, 96, 46]
abbrev dktL_law_6 : List UInt8 := dkwL_law_6 ++ dktL_law_7
def dkwL_law_5 : List UInt8 := [148, 153, 0, 5, 3, 172, 167, 9, 167, 43, 182, 0, 161, 44, 182, 0, 164, 159, 9, 156, 3, 172, 43, 42]
abbrev dktL_law_5 : List UInt8 := dkwL_law_5 ++ dktL_law_6
def dkwL_law_4 : List UInt8 := [54, 7, 44, 182, 0, 158, 21, 6, 159, 0, 5, 3, 172, 21, 6, 154, 0, 15, 45, 3, 47, 21, 7, 133]
abbrev dktL_law_4 : List UInt8 := dkwL_law_4 ++ dktL_law_5
def dkwL_law_3 : List UInt8 := [43, 42, 21, 5, 4, 96, 46, 45, 184, 0, 152, 54, 6, 44, 42, 21, 5, 4, 96, 46, 182, 0, 157]
abbrev dktL_law_3 : List UInt8 := dkwL_law_3 ++ dktL_law_4
def dkwL_law_2 : List UInt8 := [170, 0, 0, 0, 0, 0, 10, 184, 0, 0, 0, 0, 0, 0, 0, 50, 0, 0, 0, 220, 0, 0, 1, 20, 0, 0, 1, 33, 0, 0, 1, 101, 0, 0, 1, 157, 0, 0, 1, 170, 0, 0, 1, 226, 0, 0, 2, 38, 0, 0, 2, 94, 0, 0, 2, 162, 0, 0, 2, 218, 0, 0, 3, 30, 0, 0, 3, 86, 0, 0, 3, 166, 0, 0, 3, 222, 0, 0, 4, 34, 0, 0, 4, 90, 0, 0, 4, 103, 0, 0, 4, 159, 0, 0, 4, 215, 0, 0, 5, 15, 0, 0, 5, 83, 0, 0, 5, 139, 0, 0, 5, 195, 0, 0, 6, 17, 0, 0, 6, 58, 0, 0, 6, 114, 0, 0, 6, 170, 0, 0, 6, 226, 0, 0, 7, 26, 0, 0, 7, 82, 0, 0, 7, 95, 0, 0, 7, 151, 0, 0, 7, 207, 0, 0, 8, 7, 0, 0, 8, 63, 0, 0, 8, 119, 0, 0, 8, 175, 0, 0, 8, 231, 0, 0, 8, 244, 0, 0, 9, 44, 0, 0, 9, 100, 0, 0, 9, 144, 0, 0, 9, 157, 0, 0, 9, 170, 0, 0, 9, 214, 0, 0, 9, 227, 0, 0, 10, 27, 0, 0, 10, 83, 0, 0, 10, 127, 0, 0, 10, 140]
abbrev dktL_law_2 : List UInt8 := dkwL_law_2 ++ dktL_law_3
def dkwL_law_1 : List UInt8 := [58, 4, 3, 54, 5, 21, 5, 42, 190, 7, 100, 163, 10, 200, 42, 21, 5, 46, 16, 63, 126]
abbrev dktL_law_1 : List UInt8 := dkwL_law_1 ++ dktL_law_2
def dkwL_law_0 : List UInt8 := [187, 0, 8, 89, 183, 0, 148, 76, 187, 0, 149, 89, 183, 0, 151, 77, 4, 188, 11, 78, 4, 188, 7]
abbrev dktL_law_0 : List UInt8 := dkwL_law_0 ++ dktL_law_1
theorem dksL_law_0 : cL_law.data.toList.drop 0 = dktL_law_0 := by decide +kernel
theorem dksL_law_1 : cL_law.data.toList.drop 23 = dktL_law_1 := dk_seg dksL_law_0 23 rfl rfl
theorem dksL_law_2 : cL_law.data.toList.drop 44 = dktL_law_2 := dk_seg dksL_law_1 21 rfl rfl
theorem dksL_law_3 : cL_law.data.toList.drop 264 = dktL_law_3 := dk_seg dksL_law_2 220 rfl rfl
theorem dksL_law_4 : cL_law.data.toList.drop 287 = dktL_law_4 := dk_seg dksL_law_3 23 rfl rfl
theorem dksL_law_5 : cL_law.data.toList.drop 311 = dktL_law_5 := dk_seg dksL_law_4 24 rfl rfl
theorem dksL_law_6 : cL_law.data.toList.drop 335 = dktL_law_6 := dk_seg dksL_law_5 24 rfl rfl
theorem dksL_law_7 : cL_law.data.toList.drop 359 = dktL_law_7 := dk_seg dksL_law_6 24 rfl rfl
theorem dksL_law_8 : cL_law.data.toList.drop 383 = dktL_law_8 := dk_seg dksL_law_7 24 rfl rfl
theorem dksL_law_9 : cL_law.data.toList.drop 407 = dktL_law_9 := dk_seg dksL_law_8 24 rfl rfl
theorem dksL_law_10 : cL_law.data.toList.drop 430 = dktL_law_10 := dk_seg dksL_law_9 23 rfl rfl
theorem dksL_law_11 : cL_law.data.toList.drop 454 = dktL_law_11 := dk_seg dksL_law_10 24 rfl rfl
theorem dksL_law_12 : cL_law.data.toList.drop 478 = dktL_law_12 := dk_seg dksL_law_11 24 rfl rfl
theorem dksL_law_13 : cL_law.data.toList.drop 501 = dktL_law_13 := dk_seg dksL_law_12 23 rfl rfl
theorem dksL_law_14 : cL_law.data.toList.drop 523 = dktL_law_14 := dk_seg dksL_law_13 22 rfl rfl
theorem dksL_law_15 : cL_law.data.toList.drop 547 = dktL_law_15 := dk_seg dksL_law_14 24 rfl rfl
theorem dksL_law_16 : cL_law.data.toList.drop 569 = dktL_law_16 := dk_seg dksL_law_15 22 rfl rfl
theorem dksL_law_17 : cL_law.data.toList.drop 591 = dktL_law_17 := dk_seg dksL_law_16 22 rfl rfl
theorem dksL_law_18 : cL_law.data.toList.drop 614 = dktL_law_18 := dk_seg dksL_law_17 23 rfl rfl
theorem dksL_law_19 : cL_law.data.toList.drop 638 = dktL_law_19 := dk_seg dksL_law_18 24 rfl rfl
theorem dksL_law_20 : cL_law.data.toList.drop 662 = dktL_law_20 := dk_seg dksL_law_19 24 rfl rfl
theorem dksL_law_21 : cL_law.data.toList.drop 685 = dktL_law_21 := dk_seg dksL_law_20 23 rfl rfl
theorem dksL_law_22 : cL_law.data.toList.drop 709 = dktL_law_22 := dk_seg dksL_law_21 24 rfl rfl
theorem dksL_law_23 : cL_law.data.toList.drop 733 = dktL_law_23 := dk_seg dksL_law_22 24 rfl rfl
theorem dksL_law_24 : cL_law.data.toList.drop 756 = dktL_law_24 := dk_seg dksL_law_23 23 rfl rfl
theorem dksL_law_25 : cL_law.data.toList.drop 780 = dktL_law_25 := dk_seg dksL_law_24 24 rfl rfl
theorem dksL_law_26 : cL_law.data.toList.drop 804 = dktL_law_26 := dk_seg dksL_law_25 24 rfl rfl
theorem dksL_law_27 : cL_law.data.toList.drop 828 = dktL_law_27 := dk_seg dksL_law_26 24 rfl rfl
theorem dksL_law_28 : cL_law.data.toList.drop 850 = dktL_law_28 := dk_seg dksL_law_27 22 rfl rfl
theorem dksL_law_29 : cL_law.data.toList.drop 873 = dktL_law_29 := dk_seg dksL_law_28 23 rfl rfl
theorem dksL_law_30 : cL_law.data.toList.drop 895 = dktL_law_30 := dk_seg dksL_law_29 22 rfl rfl
theorem dksL_law_31 : cL_law.data.toList.drop 918 = dktL_law_31 := dk_seg dksL_law_30 23 rfl rfl
theorem dksL_law_32 : cL_law.data.toList.drop 942 = dktL_law_32 := dk_seg dksL_law_31 24 rfl rfl
theorem dksL_law_33 : cL_law.data.toList.drop 966 = dktL_law_33 := dk_seg dksL_law_32 24 rfl rfl
theorem dksL_law_34 : cL_law.data.toList.drop 989 = dktL_law_34 := dk_seg dksL_law_33 23 rfl rfl
theorem dksL_law_35 : cL_law.data.toList.drop 1013 = dktL_law_35 := dk_seg dksL_law_34 24 rfl rfl
theorem dksL_law_36 : cL_law.data.toList.drop 1036 = dktL_law_36 := dk_seg dksL_law_35 23 rfl rfl
theorem dksL_law_37 : cL_law.data.toList.drop 1060 = dktL_law_37 := dk_seg dksL_law_36 24 rfl rfl
theorem dksL_law_38 : cL_law.data.toList.drop 1084 = dktL_law_38 := dk_seg dksL_law_37 24 rfl rfl
theorem dksL_law_39 : cL_law.data.toList.drop 1108 = dktL_law_39 := dk_seg dksL_law_38 24 rfl rfl
theorem dksL_law_40 : cL_law.data.toList.drop 1131 = dktL_law_40 := dk_seg dksL_law_39 23 rfl rfl
theorem dksL_law_41 : cL_law.data.toList.drop 1155 = dktL_law_41 := dk_seg dksL_law_40 24 rfl rfl
theorem dksL_law_42 : cL_law.data.toList.drop 1179 = dktL_law_42 := dk_seg dksL_law_41 24 rfl rfl
theorem dksL_law_43 : cL_law.data.toList.drop 1202 = dktL_law_43 := dk_seg dksL_law_42 23 rfl rfl
theorem dksL_law_44 : cL_law.data.toList.drop 1224 = dktL_law_44 := dk_seg dksL_law_43 22 rfl rfl
theorem dksL_law_45 : cL_law.data.toList.drop 1247 = dktL_law_45 := dk_seg dksL_law_44 23 rfl rfl
theorem dksL_law_46 : cL_law.data.toList.drop 1271 = dktL_law_46 := dk_seg dksL_law_45 24 rfl rfl
theorem dksL_law_47 : cL_law.data.toList.drop 1294 = dktL_law_47 := dk_seg dksL_law_46 23 rfl rfl
theorem dksL_law_48 : cL_law.data.toList.drop 1318 = dktL_law_48 := dk_seg dksL_law_47 24 rfl rfl
theorem dksL_law_49 : cL_law.data.toList.drop 1341 = dktL_law_49 := dk_seg dksL_law_48 23 rfl rfl
theorem dksL_law_50 : cL_law.data.toList.drop 1365 = dktL_law_50 := dk_seg dksL_law_49 24 rfl rfl
theorem dksL_law_51 : cL_law.data.toList.drop 1389 = dktL_law_51 := dk_seg dksL_law_50 24 rfl rfl
theorem dksL_law_52 : cL_law.data.toList.drop 1413 = dktL_law_52 := dk_seg dksL_law_51 24 rfl rfl
theorem dksL_law_53 : cL_law.data.toList.drop 1436 = dktL_law_53 := dk_seg dksL_law_52 23 rfl rfl
theorem dksL_law_54 : cL_law.data.toList.drop 1460 = dktL_law_54 := dk_seg dksL_law_53 24 rfl rfl
theorem dksL_law_55 : cL_law.data.toList.drop 1483 = dktL_law_55 := dk_seg dksL_law_54 23 rfl rfl
theorem dksL_law_56 : cL_law.data.toList.drop 1507 = dktL_law_56 := dk_seg dksL_law_55 24 rfl rfl
theorem dksL_law_57 : cL_law.data.toList.drop 1531 = dktL_law_57 := dk_seg dksL_law_56 24 rfl rfl
theorem dksL_law_58 : cL_law.data.toList.drop 1555 = dktL_law_58 := dk_seg dksL_law_57 24 rfl rfl
theorem dksL_law_59 : cL_law.data.toList.drop 1579 = dktL_law_59 := dk_seg dksL_law_58 24 rfl rfl
theorem dksL_law_60 : cL_law.data.toList.drop 1603 = dktL_law_60 := dk_seg dksL_law_59 24 rfl rfl
theorem dksL_law_61 : cL_law.data.toList.drop 1627 = dktL_law_61 := dk_seg dksL_law_60 24 rfl rfl
theorem dksL_law_62 : cL_law.data.toList.drop 1651 = dktL_law_62 := dk_seg dksL_law_61 24 rfl rfl
theorem dksL_law_63 : cL_law.data.toList.drop 1674 = dktL_law_63 := dk_seg dksL_law_62 23 rfl rfl
theorem dksL_law_64 : cL_law.data.toList.drop 1698 = dktL_law_64 := dk_seg dksL_law_63 24 rfl rfl
theorem dksL_law_65 : cL_law.data.toList.drop 1720 = dktL_law_65 := dk_seg dksL_law_64 22 rfl rfl
theorem dksL_law_66 : cL_law.data.toList.drop 1742 = dktL_law_66 := dk_seg dksL_law_65 22 rfl rfl
theorem dksL_law_67 : cL_law.data.toList.drop 1765 = dktL_law_67 := dk_seg dksL_law_66 23 rfl rfl
theorem dksL_law_68 : cL_law.data.toList.drop 1788 = dktL_law_68 := dk_seg dksL_law_67 23 rfl rfl
theorem dksL_law_69 : cL_law.data.toList.drop 1812 = dktL_law_69 := dk_seg dksL_law_68 24 rfl rfl
theorem dksL_law_70 : cL_law.data.toList.drop 1835 = dktL_law_70 := dk_seg dksL_law_69 23 rfl rfl
theorem dksL_law_71 : cL_law.data.toList.drop 1859 = dktL_law_71 := dk_seg dksL_law_70 24 rfl rfl
theorem dksL_law_72 : cL_law.data.toList.drop 1882 = dktL_law_72 := dk_seg dksL_law_71 23 rfl rfl
theorem dksL_law_73 : cL_law.data.toList.drop 1906 = dktL_law_73 := dk_seg dksL_law_72 24 rfl rfl
theorem dksL_law_74 : cL_law.data.toList.drop 1930 = dktL_law_74 := dk_seg dksL_law_73 24 rfl rfl
theorem dksL_law_75 : cL_law.data.toList.drop 1954 = dktL_law_75 := dk_seg dksL_law_74 24 rfl rfl
theorem dksL_law_76 : cL_law.data.toList.drop 1978 = dktL_law_76 := dk_seg dksL_law_75 24 rfl rfl
theorem dksL_law_77 : cL_law.data.toList.drop 2002 = dktL_law_77 := dk_seg dksL_law_76 24 rfl rfl
theorem dksL_law_78 : cL_law.data.toList.drop 2025 = dktL_law_78 := dk_seg dksL_law_77 23 rfl rfl
theorem dksL_law_79 : cL_law.data.toList.drop 2049 = dktL_law_79 := dk_seg dksL_law_78 24 rfl rfl
theorem dksL_law_80 : cL_law.data.toList.drop 2072 = dktL_law_80 := dk_seg dksL_law_79 23 rfl rfl
theorem dksL_law_81 : cL_law.data.toList.drop 2096 = dktL_law_81 := dk_seg dksL_law_80 24 rfl rfl
theorem dksL_law_82 : cL_law.data.toList.drop 2119 = dktL_law_82 := dk_seg dksL_law_81 23 rfl rfl
theorem dksL_law_83 : cL_law.data.toList.drop 2143 = dktL_law_83 := dk_seg dksL_law_82 24 rfl rfl
theorem dksL_law_84 : cL_law.data.toList.drop 2166 = dktL_law_84 := dk_seg dksL_law_83 23 rfl rfl
theorem dksL_law_85 : cL_law.data.toList.drop 2190 = dktL_law_85 := dk_seg dksL_law_84 24 rfl rfl
theorem dksL_law_86 : cL_law.data.toList.drop 2213 = dktL_law_86 := dk_seg dksL_law_85 23 rfl rfl
theorem dksL_law_87 : cL_law.data.toList.drop 2237 = dktL_law_87 := dk_seg dksL_law_86 24 rfl rfl
theorem dksL_law_88 : cL_law.data.toList.drop 2259 = dktL_law_88 := dk_seg dksL_law_87 22 rfl rfl
theorem dksL_law_89 : cL_law.data.toList.drop 2282 = dktL_law_89 := dk_seg dksL_law_88 23 rfl rfl
theorem dksL_law_90 : cL_law.data.toList.drop 2305 = dktL_law_90 := dk_seg dksL_law_89 23 rfl rfl
theorem dksL_law_91 : cL_law.data.toList.drop 2328 = dktL_law_91 := dk_seg dksL_law_90 23 rfl rfl
theorem dksL_law_92 : cL_law.data.toList.drop 2351 = dktL_law_92 := dk_seg dksL_law_91 23 rfl rfl
theorem dksL_law_93 : cL_law.data.toList.drop 2374 = dktL_law_93 := dk_seg dksL_law_92 23 rfl rfl
theorem dksL_law_94 : cL_law.data.toList.drop 2398 = dktL_law_94 := dk_seg dksL_law_93 24 rfl rfl
theorem dksL_law_95 : cL_law.data.toList.drop 2421 = dktL_law_95 := dk_seg dksL_law_94 23 rfl rfl
theorem dksL_law_96 : cL_law.data.toList.drop 2445 = dktL_law_96 := dk_seg dksL_law_95 24 rfl rfl
theorem dksL_law_97 : cL_law.data.toList.drop 2467 = dktL_law_97 := dk_seg dksL_law_96 22 rfl rfl
theorem dksL_law_98 : cL_law.data.toList.drop 2489 = dktL_law_98 := dk_seg dksL_law_97 22 rfl rfl
theorem dksL_law_99 : cL_law.data.toList.drop 2513 = dktL_law_99 := dk_seg dksL_law_98 24 rfl rfl
theorem dksL_law_100 : cL_law.data.toList.drop 2537 = dktL_law_100 := dk_seg dksL_law_99 24 rfl rfl
theorem dksL_law_101 : cL_law.data.toList.drop 2559 = dktL_law_101 := dk_seg dksL_law_100 22 rfl rfl
theorem dksL_law_102 : cL_law.data.toList.drop 2583 = dktL_law_102 := dk_seg dksL_law_101 24 rfl rfl
theorem dksL_law_103 : cL_law.data.toList.drop 2606 = dktL_law_103 := dk_seg dksL_law_102 23 rfl rfl
theorem dksL_law_104 : cL_law.data.toList.drop 2628 = dktL_law_104 := dk_seg dksL_law_103 22 rfl rfl
theorem dksL_law_105 : cL_law.data.toList.drop 2651 = dktL_law_105 := dk_seg dksL_law_104 23 rfl rfl
theorem dksL_law_106 : cL_law.data.toList.drop 2675 = dktL_law_106 := dk_seg dksL_law_105 24 rfl rfl
theorem dksL_law_107 : cL_law.data.toList.drop 2698 = dktL_law_107 := dk_seg dksL_law_106 23 rfl rfl
theorem dksL_law_108 : cL_law.data.toList.drop 2722 = dktL_law_108 := dk_seg dksL_law_107 24 rfl rfl
theorem dksL_law_109 : cL_law.data.toList.drop 2746 = dktL_law_109 := dk_seg dksL_law_108 24 rfl rfl
theorem dksL_law_110 : cL_law.data.toList.drop 2770 = dktL_law_110 := dk_seg dksL_law_109 24 rfl rfl
theorem dksL_law_111 : cL_law.data.toList.drop 2794 = dktL_law_111 := dk_seg dksL_law_110 24 rfl rfl
theorem dL_law_0 : decode cL_law 0 = .ok (.new 8, 3) := dk_187 0 8 (dk_at dksL_law_0 0 rfl rfl)
theorem dL_law_3 : decode cL_law 3 = .ok (.dup, 1) := dk_89 (dk_at dksL_law_0 3 rfl rfl)
theorem dL_law_4 : decode cL_law 4 = .ok (.invokespecial 148, 3) := dk_183 0 148 (dk_at dksL_law_0 4 rfl rfl)
theorem dL_law_7 : decode cL_law 7 = .ok (.astore_n 1, 1) := dk_76 (dk_at dksL_law_0 7 rfl rfl)
theorem dL_law_8 : decode cL_law 8 = .ok (.new 149, 3) := dk_187 0 149 (dk_at dksL_law_0 8 rfl rfl)
theorem dL_law_11 : decode cL_law 11 = .ok (.dup, 1) := dk_89 (dk_at dksL_law_0 11 rfl rfl)
theorem dL_law_12 : decode cL_law 12 = .ok (.invokespecial 151, 3) := dk_183 0 151 (dk_at dksL_law_0 12 rfl rfl)
theorem dL_law_15 : decode cL_law 15 = .ok (.astore_n 2, 1) := dk_77 (dk_at dksL_law_0 15 rfl rfl)
theorem dL_law_16 : decode cL_law 16 = .ok (.iconst 1, 1) := dk_4 (dk_at dksL_law_0 16 rfl rfl)
theorem dL_law_17 : decode cL_law 17 = .ok (.newarray .long, 2) := dk_188_11 (dk_at dksL_law_0 17 rfl rfl)
theorem dL_law_19 : decode cL_law 19 = .ok (.astore_n 3, 1) := dk_78 (dk_at dksL_law_0 19 rfl rfl)
theorem dL_law_20 : decode cL_law 20 = .ok (.iconst 1, 1) := dk_4 (dk_at dksL_law_0 20 rfl rfl)
theorem dL_law_21 : decode cL_law 21 = .ok (.newarray .double, 2) := dk_188_7 (dk_at dksL_law_0 21 rfl rfl)
theorem dL_law_23 : decode cL_law 23 = .ok (.astore 4, 2) := dk_58 4 (dk_at dksL_law_1 0 rfl rfl)
theorem dL_law_25 : decode cL_law 25 = .ok (.iconst 0, 1) := dk_3 (dk_at dksL_law_1 2 rfl rfl)
theorem dL_law_26 : decode cL_law 26 = .ok (.istore 5, 2) := dk_54 5 (dk_at dksL_law_1 3 rfl rfl)
theorem dL_law_28 : decode cL_law 28 = .ok (.iload 5, 2) := dk_21 5 (dk_at dksL_law_1 5 rfl rfl)
theorem dL_law_30 : decode cL_law 30 = .ok (.aload_n 0, 1) := dk_42 (dk_at dksL_law_1 7 rfl rfl)
theorem dL_law_31 : decode cL_law 31 = .ok (.arraylength, 1) := dk_190 (dk_at dksL_law_1 8 rfl rfl)
theorem dL_law_32 : decode cL_law 32 = .ok (.iconst 4, 1) := dk_7 (dk_at dksL_law_1 9 rfl rfl)
theorem dL_law_33 : decode cL_law 33 = .ok (.isub, 1) := dk_100 (dk_at dksL_law_1 10 rfl rfl)
theorem dL_law_34 : decode cL_law 34 = .ok (.if_icmp .gt 2760, 3) := dk_163 10 200 (dk_at dksL_law_1 11 rfl rfl)
theorem dL_law_37 : decode cL_law 37 = .ok (.aload_n 0, 1) := dk_42 (dk_at dksL_law_1 14 rfl rfl)
theorem dL_law_38 : decode cL_law 38 = .ok (.iload 5, 2) := dk_21 5 (dk_at dksL_law_1 15 rfl rfl)
theorem dL_law_40 : decode cL_law 40 = .ok (.iaload, 1) := dk_46 (dk_at dksL_law_1 17 rfl rfl)
theorem dL_law_41 : decode cL_law 41 = .ok (.bipush 63, 2) := dk_16 63 (dk_at dksL_law_1 18 rfl rfl)
theorem dL_law_43 : decode cL_law 43 = .ok (.iand, 1) := dk_126 (dk_at dksL_law_1 20 rfl rfl)
theorem dL_law_44 : decode cL_law 44 = .ok (.tableswitch 2744 0 50 #[220, 276, 289, 357, 413, 426, 482, 550, 606, 674, 730, 798, 854, 934, 990, 1058, 1114, 1127, 1183, 1239, 1295, 1363, 1419, 1475, 1553, 1594, 1650, 1706, 1762, 1818, 1874, 1887, 1943, 1999, 2055, 2111, 2167, 2223, 2279, 2292, 2348, 2404, 2448, 2461, 2474, 2518, 2531, 2587, 2643, 2687, 2700], 220) := by decide +kernel
theorem dL_law_264 : decode cL_law 264 = .ok (.aload_n 1, 1) := dk_43 (dk_at dksL_law_3 0 rfl rfl)
theorem dL_law_265 : decode cL_law 265 = .ok (.aload_n 0, 1) := dk_42 (dk_at dksL_law_3 1 rfl rfl)
theorem dL_law_266 : decode cL_law 266 = .ok (.iload 5, 2) := dk_21 5 (dk_at dksL_law_3 2 rfl rfl)
theorem dL_law_268 : decode cL_law 268 = .ok (.iconst 1, 1) := dk_4 (dk_at dksL_law_3 4 rfl rfl)
theorem dL_law_269 : decode cL_law 269 = .ok (.iadd, 1) := dk_96 (dk_at dksL_law_3 5 rfl rfl)
theorem dL_law_270 : decode cL_law 270 = .ok (.iaload, 1) := dk_46 (dk_at dksL_law_3 6 rfl rfl)
theorem dL_law_271 : decode cL_law 271 = .ok (.aload_n 3, 1) := dk_45 (dk_at dksL_law_3 7 rfl rfl)
theorem dL_law_272 : decode cL_law 272 = .ok (.invokestatic 152, 3) := dk_184 0 152 (dk_at dksL_law_3 8 rfl rfl)
theorem dL_law_275 : decode cL_law 275 = .ok (.istore 6, 2) := dk_54 6 (dk_at dksL_law_3 11 rfl rfl)
theorem dL_law_277 : decode cL_law 277 = .ok (.aload_n 2, 1) := dk_44 (dk_at dksL_law_3 13 rfl rfl)
theorem dL_law_278 : decode cL_law 278 = .ok (.aload_n 0, 1) := dk_42 (dk_at dksL_law_3 14 rfl rfl)
theorem dL_law_279 : decode cL_law 279 = .ok (.iload 5, 2) := dk_21 5 (dk_at dksL_law_3 15 rfl rfl)
theorem dL_law_281 : decode cL_law 281 = .ok (.iconst 1, 1) := dk_4 (dk_at dksL_law_3 17 rfl rfl)
theorem dL_law_282 : decode cL_law 282 = .ok (.iadd, 1) := dk_96 (dk_at dksL_law_3 18 rfl rfl)
theorem dL_law_283 : decode cL_law 283 = .ok (.iaload, 1) := dk_46 (dk_at dksL_law_3 19 rfl rfl)
theorem dL_law_284 : decode cL_law 284 = .ok (.invokevirtual 157, 3) := dk_182 0 157 (dk_at dksL_law_3 20 rfl rfl)
theorem dL_law_287 : decode cL_law 287 = .ok (.istore 7, 2) := dk_54 7 (dk_at dksL_law_4 0 rfl rfl)
theorem dL_law_289 : decode cL_law 289 = .ok (.aload_n 2, 1) := dk_44 (dk_at dksL_law_4 2 rfl rfl)
theorem dL_law_290 : decode cL_law 290 = .ok (.invokevirtual 158, 3) := dk_182 0 158 (dk_at dksL_law_4 3 rfl rfl)
theorem dL_law_293 : decode cL_law 293 = .ok (.iload 6, 2) := dk_21 6 (dk_at dksL_law_4 6 rfl rfl)
theorem dL_law_295 : decode cL_law 295 = .ok (.if_icmp .eq 5, 3) := dk_159 0 5 (dk_at dksL_law_4 8 rfl rfl)
theorem dL_law_298 : decode cL_law 298 = .ok (.iconst 0, 1) := dk_3 (dk_at dksL_law_4 11 rfl rfl)
theorem dL_law_299 : decode cL_law 299 = .ok (.ireturn, 1) := dk_172 (dk_at dksL_law_4 12 rfl rfl)
theorem dL_law_300 : decode cL_law 300 = .ok (.iload 6, 2) := dk_21 6 (dk_at dksL_law_4 13 rfl rfl)
theorem dL_law_302 : decode cL_law 302 = .ok (.ifCond .ne 15, 3) := dk_154 0 15 (dk_at dksL_law_4 15 rfl rfl)
theorem dL_law_305 : decode cL_law 305 = .ok (.aload_n 3, 1) := dk_45 (dk_at dksL_law_4 18 rfl rfl)
theorem dL_law_306 : decode cL_law 306 = .ok (.iconst 0, 1) := dk_3 (dk_at dksL_law_4 19 rfl rfl)
theorem dL_law_307 : decode cL_law 307 = .ok (.laload, 1) := dk_47 (dk_at dksL_law_4 20 rfl rfl)
theorem dL_law_308 : decode cL_law 308 = .ok (.iload 7, 2) := dk_21 7 (dk_at dksL_law_4 21 rfl rfl)
theorem dL_law_310 : decode cL_law 310 = .ok (.i2l, 1) := dk_133 (dk_at dksL_law_4 23 rfl rfl)
theorem dL_law_311 : decode cL_law 311 = .ok (.lcmp, 1) := dk_148 (dk_at dksL_law_5 0 rfl rfl)
theorem dL_law_312 : decode cL_law 312 = .ok (.ifCond .eq 5, 3) := dk_153 0 5 (dk_at dksL_law_5 1 rfl rfl)
theorem dL_law_315 : decode cL_law 315 = .ok (.iconst 0, 1) := dk_3 (dk_at dksL_law_5 4 rfl rfl)
theorem dL_law_316 : decode cL_law 316 = .ok (.ireturn, 1) := dk_172 (dk_at dksL_law_5 5 rfl rfl)
theorem dL_law_317 : decode cL_law 317 = .ok (.goto 2471, 3) := dk_167 9 167 (dk_at dksL_law_5 6 rfl rfl)
theorem dL_law_320 : decode cL_law 320 = .ok (.aload_n 1, 1) := dk_43 (dk_at dksL_law_5 9 rfl rfl)
theorem dL_law_321 : decode cL_law 321 = .ok (.invokevirtual 161, 3) := dk_182 0 161 (dk_at dksL_law_5 10 rfl rfl)
theorem dL_law_324 : decode cL_law 324 = .ok (.aload_n 2, 1) := dk_44 (dk_at dksL_law_5 13 rfl rfl)
theorem dL_law_325 : decode cL_law 325 = .ok (.invokevirtual 164, 3) := dk_182 0 164 (dk_at dksL_law_5 14 rfl rfl)
theorem dL_law_328 : decode cL_law 328 = .ok (.if_icmp .eq 2460, 3) := dk_159 9 156 (dk_at dksL_law_5 17 rfl rfl)
theorem dL_law_331 : decode cL_law 331 = .ok (.iconst 0, 1) := dk_3 (dk_at dksL_law_5 20 rfl rfl)
theorem dL_law_332 : decode cL_law 332 = .ok (.ireturn, 1) := dk_172 (dk_at dksL_law_5 21 rfl rfl)
theorem dL_law_333 : decode cL_law 333 = .ok (.aload_n 1, 1) := dk_43 (dk_at dksL_law_5 22 rfl rfl)
theorem dL_law_334 : decode cL_law 334 = .ok (.aload_n 0, 1) := dk_42 (dk_at dksL_law_5 23 rfl rfl)
theorem dL_law_335 : decode cL_law 335 = .ok (.iload 5, 2) := dk_21 5 (dk_at dksL_law_6 0 rfl rfl)
theorem dL_law_337 : decode cL_law 337 = .ok (.iconst 1, 1) := dk_4 (dk_at dksL_law_6 2 rfl rfl)
theorem dL_law_338 : decode cL_law 338 = .ok (.iadd, 1) := dk_96 (dk_at dksL_law_6 3 rfl rfl)
theorem dL_law_339 : decode cL_law 339 = .ok (.iaload, 1) := dk_46 (dk_at dksL_law_6 4 rfl rfl)
theorem dL_law_340 : decode cL_law 340 = .ok (.aload_n 0, 1) := dk_42 (dk_at dksL_law_6 5 rfl rfl)
theorem dL_law_341 : decode cL_law 341 = .ok (.iload 5, 2) := dk_21 5 (dk_at dksL_law_6 6 rfl rfl)
theorem dL_law_343 : decode cL_law 343 = .ok (.iconst 2, 1) := dk_5 (dk_at dksL_law_6 8 rfl rfl)
theorem dL_law_344 : decode cL_law 344 = .ok (.iadd, 1) := dk_96 (dk_at dksL_law_6 9 rfl rfl)
theorem dL_law_345 : decode cL_law 345 = .ok (.iaload, 1) := dk_46 (dk_at dksL_law_6 10 rfl rfl)
theorem dL_law_346 : decode cL_law 346 = .ok (.aload_n 3, 1) := dk_45 (dk_at dksL_law_6 11 rfl rfl)
theorem dL_law_347 : decode cL_law 347 = .ok (.invokestatic 165, 3) := dk_184 0 165 (dk_at dksL_law_6 12 rfl rfl)
theorem dL_law_350 : decode cL_law 350 = .ok (.istore 6, 2) := dk_54 6 (dk_at dksL_law_6 15 rfl rfl)
theorem dL_law_352 : decode cL_law 352 = .ok (.aload_n 2, 1) := dk_44 (dk_at dksL_law_6 17 rfl rfl)
theorem dL_law_353 : decode cL_law 353 = .ok (.aload_n 0, 1) := dk_42 (dk_at dksL_law_6 18 rfl rfl)
theorem dL_law_354 : decode cL_law 354 = .ok (.iload 5, 2) := dk_21 5 (dk_at dksL_law_6 19 rfl rfl)
theorem dL_law_356 : decode cL_law 356 = .ok (.iconst 1, 1) := dk_4 (dk_at dksL_law_6 21 rfl rfl)
theorem dL_law_357 : decode cL_law 357 = .ok (.iadd, 1) := dk_96 (dk_at dksL_law_6 22 rfl rfl)
theorem dL_law_358 : decode cL_law 358 = .ok (.iaload, 1) := dk_46 (dk_at dksL_law_6 23 rfl rfl)
theorem dL_law_359 : decode cL_law 359 = .ok (.aload_n 0, 1) := dk_42 (dk_at dksL_law_7 0 rfl rfl)
theorem dL_law_360 : decode cL_law 360 = .ok (.iload 5, 2) := dk_21 5 (dk_at dksL_law_7 1 rfl rfl)
theorem dL_law_362 : decode cL_law 362 = .ok (.iconst 2, 1) := dk_5 (dk_at dksL_law_7 3 rfl rfl)
theorem dL_law_363 : decode cL_law 363 = .ok (.iadd, 1) := dk_96 (dk_at dksL_law_7 4 rfl rfl)
theorem dL_law_364 : decode cL_law 364 = .ok (.iaload, 1) := dk_46 (dk_at dksL_law_7 5 rfl rfl)
theorem dL_law_365 : decode cL_law 365 = .ok (.invokevirtual 168, 3) := dk_182 0 168 (dk_at dksL_law_7 6 rfl rfl)
theorem dL_law_368 : decode cL_law 368 = .ok (.istore 7, 2) := dk_54 7 (dk_at dksL_law_7 9 rfl rfl)
theorem dL_law_370 : decode cL_law 370 = .ok (.aload_n 2, 1) := dk_44 (dk_at dksL_law_7 11 rfl rfl)
theorem dL_law_371 : decode cL_law 371 = .ok (.invokevirtual 158, 3) := dk_182 0 158 (dk_at dksL_law_7 12 rfl rfl)
theorem dL_law_374 : decode cL_law 374 = .ok (.iload 6, 2) := dk_21 6 (dk_at dksL_law_7 15 rfl rfl)
theorem dL_law_376 : decode cL_law 376 = .ok (.if_icmp .eq 5, 3) := dk_159 0 5 (dk_at dksL_law_7 17 rfl rfl)
theorem dL_law_379 : decode cL_law 379 = .ok (.iconst 0, 1) := dk_3 (dk_at dksL_law_7 20 rfl rfl)
theorem dL_law_380 : decode cL_law 380 = .ok (.ireturn, 1) := dk_172 (dk_at dksL_law_7 21 rfl rfl)
theorem dL_law_381 : decode cL_law 381 = .ok (.iload 6, 2) := dk_21 6 (dk_at dksL_law_7 22 rfl rfl)
theorem dL_law_383 : decode cL_law 383 = .ok (.ifCond .ne 15, 3) := dk_154 0 15 (dk_at dksL_law_8 0 rfl rfl)
theorem dL_law_386 : decode cL_law 386 = .ok (.aload_n 3, 1) := dk_45 (dk_at dksL_law_8 3 rfl rfl)
theorem dL_law_387 : decode cL_law 387 = .ok (.iconst 0, 1) := dk_3 (dk_at dksL_law_8 4 rfl rfl)
theorem dL_law_388 : decode cL_law 388 = .ok (.laload, 1) := dk_47 (dk_at dksL_law_8 5 rfl rfl)
theorem dL_law_389 : decode cL_law 389 = .ok (.iload 7, 2) := dk_21 7 (dk_at dksL_law_8 6 rfl rfl)
theorem dL_law_391 : decode cL_law 391 = .ok (.i2l, 1) := dk_133 (dk_at dksL_law_8 8 rfl rfl)
theorem dL_law_392 : decode cL_law 392 = .ok (.lcmp, 1) := dk_148 (dk_at dksL_law_8 9 rfl rfl)
theorem dL_law_393 : decode cL_law 393 = .ok (.ifCond .eq 5, 3) := dk_153 0 5 (dk_at dksL_law_8 10 rfl rfl)
theorem dL_law_396 : decode cL_law 396 = .ok (.iconst 0, 1) := dk_3 (dk_at dksL_law_8 13 rfl rfl)
theorem dL_law_397 : decode cL_law 397 = .ok (.ireturn, 1) := dk_172 (dk_at dksL_law_8 14 rfl rfl)
theorem dL_law_398 : decode cL_law 398 = .ok (.goto 2390, 3) := dk_167 9 86 (dk_at dksL_law_8 15 rfl rfl)
theorem dL_law_401 : decode cL_law 401 = .ok (.aload_n 1, 1) := dk_43 (dk_at dksL_law_8 18 rfl rfl)
theorem dL_law_402 : decode cL_law 402 = .ok (.aload_n 0, 1) := dk_42 (dk_at dksL_law_8 19 rfl rfl)
theorem dL_law_403 : decode cL_law 403 = .ok (.iload 5, 2) := dk_21 5 (dk_at dksL_law_8 20 rfl rfl)
theorem dL_law_405 : decode cL_law 405 = .ok (.iconst 1, 1) := dk_4 (dk_at dksL_law_8 22 rfl rfl)
theorem dL_law_406 : decode cL_law 406 = .ok (.iadd, 1) := dk_96 (dk_at dksL_law_8 23 rfl rfl)
theorem dL_law_407 : decode cL_law 407 = .ok (.iaload, 1) := dk_46 (dk_at dksL_law_9 0 rfl rfl)
theorem dL_law_408 : decode cL_law 408 = .ok (.aload_n 3, 1) := dk_45 (dk_at dksL_law_9 1 rfl rfl)
theorem dL_law_409 : decode cL_law 409 = .ok (.invokestatic 169, 3) := dk_184 0 169 (dk_at dksL_law_9 2 rfl rfl)
theorem dL_law_412 : decode cL_law 412 = .ok (.istore 6, 2) := dk_54 6 (dk_at dksL_law_9 5 rfl rfl)
theorem dL_law_414 : decode cL_law 414 = .ok (.aload_n 2, 1) := dk_44 (dk_at dksL_law_9 7 rfl rfl)
theorem dL_law_415 : decode cL_law 415 = .ok (.aload_n 0, 1) := dk_42 (dk_at dksL_law_9 8 rfl rfl)
theorem dL_law_416 : decode cL_law 416 = .ok (.iload 5, 2) := dk_21 5 (dk_at dksL_law_9 9 rfl rfl)
theorem dL_law_418 : decode cL_law 418 = .ok (.iconst 1, 1) := dk_4 (dk_at dksL_law_9 11 rfl rfl)
theorem dL_law_419 : decode cL_law 419 = .ok (.iadd, 1) := dk_96 (dk_at dksL_law_9 12 rfl rfl)
theorem dL_law_420 : decode cL_law 420 = .ok (.iaload, 1) := dk_46 (dk_at dksL_law_9 13 rfl rfl)
theorem dL_law_421 : decode cL_law 421 = .ok (.invokevirtual 171, 3) := dk_182 0 171 (dk_at dksL_law_9 14 rfl rfl)
theorem dL_law_424 : decode cL_law 424 = .ok (.istore 7, 2) := dk_54 7 (dk_at dksL_law_9 17 rfl rfl)
theorem dL_law_426 : decode cL_law 426 = .ok (.aload_n 2, 1) := dk_44 (dk_at dksL_law_9 19 rfl rfl)
theorem dL_law_427 : decode cL_law 427 = .ok (.invokevirtual 158, 3) := dk_182 0 158 (dk_at dksL_law_9 20 rfl rfl)
theorem dL_law_430 : decode cL_law 430 = .ok (.iload 6, 2) := dk_21 6 (dk_at dksL_law_10 0 rfl rfl)
theorem dL_law_432 : decode cL_law 432 = .ok (.if_icmp .eq 5, 3) := dk_159 0 5 (dk_at dksL_law_10 2 rfl rfl)
theorem dL_law_435 : decode cL_law 435 = .ok (.iconst 0, 1) := dk_3 (dk_at dksL_law_10 5 rfl rfl)
theorem dL_law_436 : decode cL_law 436 = .ok (.ireturn, 1) := dk_172 (dk_at dksL_law_10 6 rfl rfl)
theorem dL_law_437 : decode cL_law 437 = .ok (.iload 6, 2) := dk_21 6 (dk_at dksL_law_10 7 rfl rfl)
theorem dL_law_439 : decode cL_law 439 = .ok (.ifCond .ne 15, 3) := dk_154 0 15 (dk_at dksL_law_10 9 rfl rfl)
theorem dL_law_442 : decode cL_law 442 = .ok (.aload_n 3, 1) := dk_45 (dk_at dksL_law_10 12 rfl rfl)
theorem dL_law_443 : decode cL_law 443 = .ok (.iconst 0, 1) := dk_3 (dk_at dksL_law_10 13 rfl rfl)
theorem dL_law_444 : decode cL_law 444 = .ok (.laload, 1) := dk_47 (dk_at dksL_law_10 14 rfl rfl)
theorem dL_law_445 : decode cL_law 445 = .ok (.iload 7, 2) := dk_21 7 (dk_at dksL_law_10 15 rfl rfl)
theorem dL_law_447 : decode cL_law 447 = .ok (.i2l, 1) := dk_133 (dk_at dksL_law_10 17 rfl rfl)
theorem dL_law_448 : decode cL_law 448 = .ok (.lcmp, 1) := dk_148 (dk_at dksL_law_10 18 rfl rfl)
theorem dL_law_449 : decode cL_law 449 = .ok (.ifCond .eq 5, 3) := dk_153 0 5 (dk_at dksL_law_10 19 rfl rfl)
theorem dL_law_452 : decode cL_law 452 = .ok (.iconst 0, 1) := dk_3 (dk_at dksL_law_10 22 rfl rfl)
theorem dL_law_453 : decode cL_law 453 = .ok (.ireturn, 1) := dk_172 (dk_at dksL_law_10 23 rfl rfl)
theorem dL_law_454 : decode cL_law 454 = .ok (.goto 2334, 3) := dk_167 9 30 (dk_at dksL_law_11 0 rfl rfl)
theorem dL_law_457 : decode cL_law 457 = .ok (.aload_n 1, 1) := dk_43 (dk_at dksL_law_11 3 rfl rfl)
theorem dL_law_458 : decode cL_law 458 = .ok (.invokevirtual 172, 3) := dk_182 0 172 (dk_at dksL_law_11 4 rfl rfl)
theorem dL_law_461 : decode cL_law 461 = .ok (.aload_n 2, 1) := dk_44 (dk_at dksL_law_11 7 rfl rfl)
theorem dL_law_462 : decode cL_law 462 = .ok (.invokevirtual 175, 3) := dk_182 0 175 (dk_at dksL_law_11 8 rfl rfl)
theorem dL_law_465 : decode cL_law 465 = .ok (.if_icmp .eq 2323, 3) := dk_159 9 19 (dk_at dksL_law_11 11 rfl rfl)
theorem dL_law_468 : decode cL_law 468 = .ok (.iconst 0, 1) := dk_3 (dk_at dksL_law_11 14 rfl rfl)
theorem dL_law_469 : decode cL_law 469 = .ok (.ireturn, 1) := dk_172 (dk_at dksL_law_11 15 rfl rfl)
theorem dL_law_470 : decode cL_law 470 = .ok (.aload_n 1, 1) := dk_43 (dk_at dksL_law_11 16 rfl rfl)
theorem dL_law_471 : decode cL_law 471 = .ok (.aload_n 0, 1) := dk_42 (dk_at dksL_law_11 17 rfl rfl)
theorem dL_law_472 : decode cL_law 472 = .ok (.iload 5, 2) := dk_21 5 (dk_at dksL_law_11 18 rfl rfl)
theorem dL_law_474 : decode cL_law 474 = .ok (.iconst 1, 1) := dk_4 (dk_at dksL_law_11 20 rfl rfl)
theorem dL_law_475 : decode cL_law 475 = .ok (.iadd, 1) := dk_96 (dk_at dksL_law_11 21 rfl rfl)
theorem dL_law_476 : decode cL_law 476 = .ok (.iaload, 1) := dk_46 (dk_at dksL_law_11 22 rfl rfl)
theorem dL_law_477 : decode cL_law 477 = .ok (.aload_n 3, 1) := dk_45 (dk_at dksL_law_11 23 rfl rfl)
theorem dL_law_478 : decode cL_law 478 = .ok (.invokestatic 176, 3) := dk_184 0 176 (dk_at dksL_law_12 0 rfl rfl)
theorem dL_law_481 : decode cL_law 481 = .ok (.istore 6, 2) := dk_54 6 (dk_at dksL_law_12 3 rfl rfl)
theorem dL_law_483 : decode cL_law 483 = .ok (.aload_n 2, 1) := dk_44 (dk_at dksL_law_12 5 rfl rfl)
theorem dL_law_484 : decode cL_law 484 = .ok (.aload_n 0, 1) := dk_42 (dk_at dksL_law_12 6 rfl rfl)
theorem dL_law_485 : decode cL_law 485 = .ok (.iload 5, 2) := dk_21 5 (dk_at dksL_law_12 7 rfl rfl)
theorem dL_law_487 : decode cL_law 487 = .ok (.iconst 1, 1) := dk_4 (dk_at dksL_law_12 9 rfl rfl)
theorem dL_law_488 : decode cL_law 488 = .ok (.iadd, 1) := dk_96 (dk_at dksL_law_12 10 rfl rfl)
theorem dL_law_489 : decode cL_law 489 = .ok (.iaload, 1) := dk_46 (dk_at dksL_law_12 11 rfl rfl)
theorem dL_law_490 : decode cL_law 490 = .ok (.invokevirtual 178, 3) := dk_182 0 178 (dk_at dksL_law_12 12 rfl rfl)
theorem dL_law_493 : decode cL_law 493 = .ok (.istore 7, 2) := dk_54 7 (dk_at dksL_law_12 15 rfl rfl)
theorem dL_law_495 : decode cL_law 495 = .ok (.aload_n 2, 1) := dk_44 (dk_at dksL_law_12 17 rfl rfl)
theorem dL_law_496 : decode cL_law 496 = .ok (.invokevirtual 158, 3) := dk_182 0 158 (dk_at dksL_law_12 18 rfl rfl)
theorem dL_law_499 : decode cL_law 499 = .ok (.iload 6, 2) := dk_21 6 (dk_at dksL_law_12 21 rfl rfl)
theorem dL_law_501 : decode cL_law 501 = .ok (.if_icmp .eq 5, 3) := dk_159 0 5 (dk_at dksL_law_13 0 rfl rfl)
theorem dL_law_504 : decode cL_law 504 = .ok (.iconst 0, 1) := dk_3 (dk_at dksL_law_13 3 rfl rfl)
theorem dL_law_505 : decode cL_law 505 = .ok (.ireturn, 1) := dk_172 (dk_at dksL_law_13 4 rfl rfl)
theorem dL_law_506 : decode cL_law 506 = .ok (.iload 6, 2) := dk_21 6 (dk_at dksL_law_13 5 rfl rfl)
theorem dL_law_508 : decode cL_law 508 = .ok (.ifCond .ne 15, 3) := dk_154 0 15 (dk_at dksL_law_13 7 rfl rfl)
theorem dL_law_511 : decode cL_law 511 = .ok (.aload_n 3, 1) := dk_45 (dk_at dksL_law_13 10 rfl rfl)
theorem dL_law_512 : decode cL_law 512 = .ok (.iconst 0, 1) := dk_3 (dk_at dksL_law_13 11 rfl rfl)
theorem dL_law_513 : decode cL_law 513 = .ok (.laload, 1) := dk_47 (dk_at dksL_law_13 12 rfl rfl)
theorem dL_law_514 : decode cL_law 514 = .ok (.iload 7, 2) := dk_21 7 (dk_at dksL_law_13 13 rfl rfl)
theorem dL_law_516 : decode cL_law 516 = .ok (.i2l, 1) := dk_133 (dk_at dksL_law_13 15 rfl rfl)
theorem dL_law_517 : decode cL_law 517 = .ok (.lcmp, 1) := dk_148 (dk_at dksL_law_13 16 rfl rfl)
theorem dL_law_518 : decode cL_law 518 = .ok (.ifCond .eq 5, 3) := dk_153 0 5 (dk_at dksL_law_13 17 rfl rfl)
theorem dL_law_521 : decode cL_law 521 = .ok (.iconst 0, 1) := dk_3 (dk_at dksL_law_13 20 rfl rfl)
theorem dL_law_522 : decode cL_law 522 = .ok (.ireturn, 1) := dk_172 (dk_at dksL_law_13 21 rfl rfl)
theorem dL_law_523 : decode cL_law 523 = .ok (.goto 2265, 3) := dk_167 8 217 (dk_at dksL_law_14 0 rfl rfl)
theorem dL_law_526 : decode cL_law 526 = .ok (.aload_n 1, 1) := dk_43 (dk_at dksL_law_14 3 rfl rfl)
theorem dL_law_527 : decode cL_law 527 = .ok (.aload_n 0, 1) := dk_42 (dk_at dksL_law_14 4 rfl rfl)
theorem dL_law_528 : decode cL_law 528 = .ok (.iload 5, 2) := dk_21 5 (dk_at dksL_law_14 5 rfl rfl)
theorem dL_law_530 : decode cL_law 530 = .ok (.iconst 1, 1) := dk_4 (dk_at dksL_law_14 7 rfl rfl)
theorem dL_law_531 : decode cL_law 531 = .ok (.iadd, 1) := dk_96 (dk_at dksL_law_14 8 rfl rfl)
theorem dL_law_532 : decode cL_law 532 = .ok (.iaload, 1) := dk_46 (dk_at dksL_law_14 9 rfl rfl)
theorem dL_law_533 : decode cL_law 533 = .ok (.aload_n 0, 1) := dk_42 (dk_at dksL_law_14 10 rfl rfl)
theorem dL_law_534 : decode cL_law 534 = .ok (.iload 5, 2) := dk_21 5 (dk_at dksL_law_14 11 rfl rfl)
theorem dL_law_536 : decode cL_law 536 = .ok (.iconst 2, 1) := dk_5 (dk_at dksL_law_14 13 rfl rfl)
theorem dL_law_537 : decode cL_law 537 = .ok (.iadd, 1) := dk_96 (dk_at dksL_law_14 14 rfl rfl)
theorem dL_law_538 : decode cL_law 538 = .ok (.iaload, 1) := dk_46 (dk_at dksL_law_14 15 rfl rfl)
theorem dL_law_539 : decode cL_law 539 = .ok (.aload_n 3, 1) := dk_45 (dk_at dksL_law_14 16 rfl rfl)
theorem dL_law_540 : decode cL_law 540 = .ok (.invokestatic 179, 3) := dk_184 0 179 (dk_at dksL_law_14 17 rfl rfl)
theorem dL_law_543 : decode cL_law 543 = .ok (.istore 6, 2) := dk_54 6 (dk_at dksL_law_14 20 rfl rfl)
theorem dL_law_545 : decode cL_law 545 = .ok (.aload_n 2, 1) := dk_44 (dk_at dksL_law_14 22 rfl rfl)
theorem dL_law_546 : decode cL_law 546 = .ok (.aload_n 0, 1) := dk_42 (dk_at dksL_law_14 23 rfl rfl)
theorem dL_law_547 : decode cL_law 547 = .ok (.iload 5, 2) := dk_21 5 (dk_at dksL_law_15 0 rfl rfl)
theorem dL_law_549 : decode cL_law 549 = .ok (.iconst 1, 1) := dk_4 (dk_at dksL_law_15 2 rfl rfl)
theorem dL_law_550 : decode cL_law 550 = .ok (.iadd, 1) := dk_96 (dk_at dksL_law_15 3 rfl rfl)
theorem dL_law_551 : decode cL_law 551 = .ok (.iaload, 1) := dk_46 (dk_at dksL_law_15 4 rfl rfl)
theorem dL_law_552 : decode cL_law 552 = .ok (.aload_n 0, 1) := dk_42 (dk_at dksL_law_15 5 rfl rfl)
theorem dL_law_553 : decode cL_law 553 = .ok (.iload 5, 2) := dk_21 5 (dk_at dksL_law_15 6 rfl rfl)
theorem dL_law_555 : decode cL_law 555 = .ok (.iconst 2, 1) := dk_5 (dk_at dksL_law_15 8 rfl rfl)
theorem dL_law_556 : decode cL_law 556 = .ok (.iadd, 1) := dk_96 (dk_at dksL_law_15 9 rfl rfl)
theorem dL_law_557 : decode cL_law 557 = .ok (.iaload, 1) := dk_46 (dk_at dksL_law_15 10 rfl rfl)
theorem dL_law_558 : decode cL_law 558 = .ok (.invokevirtual 181, 3) := dk_182 0 181 (dk_at dksL_law_15 11 rfl rfl)
theorem dL_law_561 : decode cL_law 561 = .ok (.istore 7, 2) := dk_54 7 (dk_at dksL_law_15 14 rfl rfl)
theorem dL_law_563 : decode cL_law 563 = .ok (.aload_n 2, 1) := dk_44 (dk_at dksL_law_15 16 rfl rfl)
theorem dL_law_564 : decode cL_law 564 = .ok (.invokevirtual 158, 3) := dk_182 0 158 (dk_at dksL_law_15 17 rfl rfl)
theorem dL_law_567 : decode cL_law 567 = .ok (.iload 6, 2) := dk_21 6 (dk_at dksL_law_15 20 rfl rfl)
theorem dL_law_569 : decode cL_law 569 = .ok (.if_icmp .eq 5, 3) := dk_159 0 5 (dk_at dksL_law_16 0 rfl rfl)
theorem dL_law_572 : decode cL_law 572 = .ok (.iconst 0, 1) := dk_3 (dk_at dksL_law_16 3 rfl rfl)
theorem dL_law_573 : decode cL_law 573 = .ok (.ireturn, 1) := dk_172 (dk_at dksL_law_16 4 rfl rfl)
theorem dL_law_574 : decode cL_law 574 = .ok (.iload 6, 2) := dk_21 6 (dk_at dksL_law_16 5 rfl rfl)
theorem dL_law_576 : decode cL_law 576 = .ok (.ifCond .ne 15, 3) := dk_154 0 15 (dk_at dksL_law_16 7 rfl rfl)
theorem dL_law_579 : decode cL_law 579 = .ok (.aload_n 3, 1) := dk_45 (dk_at dksL_law_16 10 rfl rfl)
theorem dL_law_580 : decode cL_law 580 = .ok (.iconst 0, 1) := dk_3 (dk_at dksL_law_16 11 rfl rfl)
theorem dL_law_581 : decode cL_law 581 = .ok (.laload, 1) := dk_47 (dk_at dksL_law_16 12 rfl rfl)
theorem dL_law_582 : decode cL_law 582 = .ok (.iload 7, 2) := dk_21 7 (dk_at dksL_law_16 13 rfl rfl)
theorem dL_law_584 : decode cL_law 584 = .ok (.i2l, 1) := dk_133 (dk_at dksL_law_16 15 rfl rfl)
theorem dL_law_585 : decode cL_law 585 = .ok (.lcmp, 1) := dk_148 (dk_at dksL_law_16 16 rfl rfl)
theorem dL_law_586 : decode cL_law 586 = .ok (.ifCond .eq 5, 3) := dk_153 0 5 (dk_at dksL_law_16 17 rfl rfl)
theorem dL_law_589 : decode cL_law 589 = .ok (.iconst 0, 1) := dk_3 (dk_at dksL_law_16 20 rfl rfl)
theorem dL_law_590 : decode cL_law 590 = .ok (.ireturn, 1) := dk_172 (dk_at dksL_law_16 21 rfl rfl)
theorem dL_law_591 : decode cL_law 591 = .ok (.goto 2197, 3) := dk_167 8 149 (dk_at dksL_law_17 0 rfl rfl)
theorem dL_law_594 : decode cL_law 594 = .ok (.aload_n 1, 1) := dk_43 (dk_at dksL_law_17 3 rfl rfl)
theorem dL_law_595 : decode cL_law 595 = .ok (.aload_n 0, 1) := dk_42 (dk_at dksL_law_17 4 rfl rfl)
theorem dL_law_596 : decode cL_law 596 = .ok (.iload 5, 2) := dk_21 5 (dk_at dksL_law_17 5 rfl rfl)
theorem dL_law_598 : decode cL_law 598 = .ok (.iconst 1, 1) := dk_4 (dk_at dksL_law_17 7 rfl rfl)
theorem dL_law_599 : decode cL_law 599 = .ok (.iadd, 1) := dk_96 (dk_at dksL_law_17 8 rfl rfl)
theorem dL_law_600 : decode cL_law 600 = .ok (.iaload, 1) := dk_46 (dk_at dksL_law_17 9 rfl rfl)
theorem dL_law_601 : decode cL_law 601 = .ok (.aload_n 3, 1) := dk_45 (dk_at dksL_law_17 10 rfl rfl)
theorem dL_law_602 : decode cL_law 602 = .ok (.invokestatic 182, 3) := dk_184 0 182 (dk_at dksL_law_17 11 rfl rfl)
theorem dL_law_605 : decode cL_law 605 = .ok (.istore 6, 2) := dk_54 6 (dk_at dksL_law_17 14 rfl rfl)
theorem dL_law_607 : decode cL_law 607 = .ok (.aload_n 2, 1) := dk_44 (dk_at dksL_law_17 16 rfl rfl)
theorem dL_law_608 : decode cL_law 608 = .ok (.aload_n 0, 1) := dk_42 (dk_at dksL_law_17 17 rfl rfl)
theorem dL_law_609 : decode cL_law 609 = .ok (.iload 5, 2) := dk_21 5 (dk_at dksL_law_17 18 rfl rfl)
theorem dL_law_611 : decode cL_law 611 = .ok (.iconst 1, 1) := dk_4 (dk_at dksL_law_17 20 rfl rfl)
theorem dL_law_612 : decode cL_law 612 = .ok (.iadd, 1) := dk_96 (dk_at dksL_law_17 21 rfl rfl)
theorem dL_law_613 : decode cL_law 613 = .ok (.iaload, 1) := dk_46 (dk_at dksL_law_17 22 rfl rfl)
theorem dL_law_614 : decode cL_law 614 = .ok (.invokevirtual 184, 3) := dk_182 0 184 (dk_at dksL_law_18 0 rfl rfl)
theorem dL_law_617 : decode cL_law 617 = .ok (.istore 7, 2) := dk_54 7 (dk_at dksL_law_18 3 rfl rfl)
theorem dL_law_619 : decode cL_law 619 = .ok (.aload_n 2, 1) := dk_44 (dk_at dksL_law_18 5 rfl rfl)
theorem dL_law_620 : decode cL_law 620 = .ok (.invokevirtual 158, 3) := dk_182 0 158 (dk_at dksL_law_18 6 rfl rfl)
theorem dL_law_623 : decode cL_law 623 = .ok (.iload 6, 2) := dk_21 6 (dk_at dksL_law_18 9 rfl rfl)
theorem dL_law_625 : decode cL_law 625 = .ok (.if_icmp .eq 5, 3) := dk_159 0 5 (dk_at dksL_law_18 11 rfl rfl)
theorem dL_law_628 : decode cL_law 628 = .ok (.iconst 0, 1) := dk_3 (dk_at dksL_law_18 14 rfl rfl)
theorem dL_law_629 : decode cL_law 629 = .ok (.ireturn, 1) := dk_172 (dk_at dksL_law_18 15 rfl rfl)
theorem dL_law_630 : decode cL_law 630 = .ok (.iload 6, 2) := dk_21 6 (dk_at dksL_law_18 16 rfl rfl)
theorem dL_law_632 : decode cL_law 632 = .ok (.ifCond .ne 15, 3) := dk_154 0 15 (dk_at dksL_law_18 18 rfl rfl)
theorem dL_law_635 : decode cL_law 635 = .ok (.aload_n 3, 1) := dk_45 (dk_at dksL_law_18 21 rfl rfl)
theorem dL_law_636 : decode cL_law 636 = .ok (.iconst 0, 1) := dk_3 (dk_at dksL_law_18 22 rfl rfl)
theorem dL_law_637 : decode cL_law 637 = .ok (.laload, 1) := dk_47 (dk_at dksL_law_18 23 rfl rfl)
theorem dL_law_638 : decode cL_law 638 = .ok (.iload 7, 2) := dk_21 7 (dk_at dksL_law_19 0 rfl rfl)
theorem dL_law_640 : decode cL_law 640 = .ok (.i2l, 1) := dk_133 (dk_at dksL_law_19 2 rfl rfl)
theorem dL_law_641 : decode cL_law 641 = .ok (.lcmp, 1) := dk_148 (dk_at dksL_law_19 3 rfl rfl)
theorem dL_law_642 : decode cL_law 642 = .ok (.ifCond .eq 5, 3) := dk_153 0 5 (dk_at dksL_law_19 4 rfl rfl)
theorem dL_law_645 : decode cL_law 645 = .ok (.iconst 0, 1) := dk_3 (dk_at dksL_law_19 7 rfl rfl)
theorem dL_law_646 : decode cL_law 646 = .ok (.ireturn, 1) := dk_172 (dk_at dksL_law_19 8 rfl rfl)
theorem dL_law_647 : decode cL_law 647 = .ok (.goto 2141, 3) := dk_167 8 93 (dk_at dksL_law_19 9 rfl rfl)
theorem dL_law_650 : decode cL_law 650 = .ok (.aload_n 1, 1) := dk_43 (dk_at dksL_law_19 12 rfl rfl)
theorem dL_law_651 : decode cL_law 651 = .ok (.aload_n 0, 1) := dk_42 (dk_at dksL_law_19 13 rfl rfl)
theorem dL_law_652 : decode cL_law 652 = .ok (.iload 5, 2) := dk_21 5 (dk_at dksL_law_19 14 rfl rfl)
theorem dL_law_654 : decode cL_law 654 = .ok (.iconst 1, 1) := dk_4 (dk_at dksL_law_19 16 rfl rfl)
theorem dL_law_655 : decode cL_law 655 = .ok (.iadd, 1) := dk_96 (dk_at dksL_law_19 17 rfl rfl)
theorem dL_law_656 : decode cL_law 656 = .ok (.iaload, 1) := dk_46 (dk_at dksL_law_19 18 rfl rfl)
theorem dL_law_657 : decode cL_law 657 = .ok (.aload_n 0, 1) := dk_42 (dk_at dksL_law_19 19 rfl rfl)
theorem dL_law_658 : decode cL_law 658 = .ok (.iload 5, 2) := dk_21 5 (dk_at dksL_law_19 20 rfl rfl)
theorem dL_law_660 : decode cL_law 660 = .ok (.iconst 2, 1) := dk_5 (dk_at dksL_law_19 22 rfl rfl)
theorem dL_law_661 : decode cL_law 661 = .ok (.iadd, 1) := dk_96 (dk_at dksL_law_19 23 rfl rfl)
theorem dL_law_662 : decode cL_law 662 = .ok (.iaload, 1) := dk_46 (dk_at dksL_law_20 0 rfl rfl)
theorem dL_law_663 : decode cL_law 663 = .ok (.aload_n 3, 1) := dk_45 (dk_at dksL_law_20 1 rfl rfl)
theorem dL_law_664 : decode cL_law 664 = .ok (.invokestatic 185, 3) := dk_184 0 185 (dk_at dksL_law_20 2 rfl rfl)
theorem dL_law_667 : decode cL_law 667 = .ok (.istore 6, 2) := dk_54 6 (dk_at dksL_law_20 5 rfl rfl)
theorem dL_law_669 : decode cL_law 669 = .ok (.aload_n 2, 1) := dk_44 (dk_at dksL_law_20 7 rfl rfl)
theorem dL_law_670 : decode cL_law 670 = .ok (.aload_n 0, 1) := dk_42 (dk_at dksL_law_20 8 rfl rfl)
theorem dL_law_671 : decode cL_law 671 = .ok (.iload 5, 2) := dk_21 5 (dk_at dksL_law_20 9 rfl rfl)
theorem dL_law_673 : decode cL_law 673 = .ok (.iconst 1, 1) := dk_4 (dk_at dksL_law_20 11 rfl rfl)
theorem dL_law_674 : decode cL_law 674 = .ok (.iadd, 1) := dk_96 (dk_at dksL_law_20 12 rfl rfl)
theorem dL_law_675 : decode cL_law 675 = .ok (.iaload, 1) := dk_46 (dk_at dksL_law_20 13 rfl rfl)
theorem dL_law_676 : decode cL_law 676 = .ok (.aload_n 0, 1) := dk_42 (dk_at dksL_law_20 14 rfl rfl)
theorem dL_law_677 : decode cL_law 677 = .ok (.iload 5, 2) := dk_21 5 (dk_at dksL_law_20 15 rfl rfl)
theorem dL_law_679 : decode cL_law 679 = .ok (.iconst 2, 1) := dk_5 (dk_at dksL_law_20 17 rfl rfl)
theorem dL_law_680 : decode cL_law 680 = .ok (.iadd, 1) := dk_96 (dk_at dksL_law_20 18 rfl rfl)
theorem dL_law_681 : decode cL_law 681 = .ok (.iaload, 1) := dk_46 (dk_at dksL_law_20 19 rfl rfl)
theorem dL_law_682 : decode cL_law 682 = .ok (.invokevirtual 187, 3) := dk_182 0 187 (dk_at dksL_law_20 20 rfl rfl)
theorem dL_law_685 : decode cL_law 685 = .ok (.istore 7, 2) := dk_54 7 (dk_at dksL_law_21 0 rfl rfl)
theorem dL_law_687 : decode cL_law 687 = .ok (.aload_n 2, 1) := dk_44 (dk_at dksL_law_21 2 rfl rfl)
theorem dL_law_688 : decode cL_law 688 = .ok (.invokevirtual 158, 3) := dk_182 0 158 (dk_at dksL_law_21 3 rfl rfl)
theorem dL_law_691 : decode cL_law 691 = .ok (.iload 6, 2) := dk_21 6 (dk_at dksL_law_21 6 rfl rfl)
theorem dL_law_693 : decode cL_law 693 = .ok (.if_icmp .eq 5, 3) := dk_159 0 5 (dk_at dksL_law_21 8 rfl rfl)
theorem dL_law_696 : decode cL_law 696 = .ok (.iconst 0, 1) := dk_3 (dk_at dksL_law_21 11 rfl rfl)
theorem dL_law_697 : decode cL_law 697 = .ok (.ireturn, 1) := dk_172 (dk_at dksL_law_21 12 rfl rfl)
theorem dL_law_698 : decode cL_law 698 = .ok (.iload 6, 2) := dk_21 6 (dk_at dksL_law_21 13 rfl rfl)
theorem dL_law_700 : decode cL_law 700 = .ok (.ifCond .ne 15, 3) := dk_154 0 15 (dk_at dksL_law_21 15 rfl rfl)
theorem dL_law_703 : decode cL_law 703 = .ok (.aload_n 3, 1) := dk_45 (dk_at dksL_law_21 18 rfl rfl)
theorem dL_law_704 : decode cL_law 704 = .ok (.iconst 0, 1) := dk_3 (dk_at dksL_law_21 19 rfl rfl)
theorem dL_law_705 : decode cL_law 705 = .ok (.laload, 1) := dk_47 (dk_at dksL_law_21 20 rfl rfl)
theorem dL_law_706 : decode cL_law 706 = .ok (.iload 7, 2) := dk_21 7 (dk_at dksL_law_21 21 rfl rfl)
theorem dL_law_708 : decode cL_law 708 = .ok (.i2l, 1) := dk_133 (dk_at dksL_law_21 23 rfl rfl)
theorem dL_law_709 : decode cL_law 709 = .ok (.lcmp, 1) := dk_148 (dk_at dksL_law_22 0 rfl rfl)
theorem dL_law_710 : decode cL_law 710 = .ok (.ifCond .eq 5, 3) := dk_153 0 5 (dk_at dksL_law_22 1 rfl rfl)
theorem dL_law_713 : decode cL_law 713 = .ok (.iconst 0, 1) := dk_3 (dk_at dksL_law_22 4 rfl rfl)
theorem dL_law_714 : decode cL_law 714 = .ok (.ireturn, 1) := dk_172 (dk_at dksL_law_22 5 rfl rfl)
theorem dL_law_715 : decode cL_law 715 = .ok (.goto 2073, 3) := dk_167 8 25 (dk_at dksL_law_22 6 rfl rfl)
theorem dL_law_718 : decode cL_law 718 = .ok (.aload_n 1, 1) := dk_43 (dk_at dksL_law_22 9 rfl rfl)
theorem dL_law_719 : decode cL_law 719 = .ok (.aload_n 0, 1) := dk_42 (dk_at dksL_law_22 10 rfl rfl)
theorem dL_law_720 : decode cL_law 720 = .ok (.iload 5, 2) := dk_21 5 (dk_at dksL_law_22 11 rfl rfl)
theorem dL_law_722 : decode cL_law 722 = .ok (.iconst 1, 1) := dk_4 (dk_at dksL_law_22 13 rfl rfl)
theorem dL_law_723 : decode cL_law 723 = .ok (.iadd, 1) := dk_96 (dk_at dksL_law_22 14 rfl rfl)
theorem dL_law_724 : decode cL_law 724 = .ok (.iaload, 1) := dk_46 (dk_at dksL_law_22 15 rfl rfl)
theorem dL_law_725 : decode cL_law 725 = .ok (.aload_n 3, 1) := dk_45 (dk_at dksL_law_22 16 rfl rfl)
theorem dL_law_726 : decode cL_law 726 = .ok (.invokestatic 188, 3) := dk_184 0 188 (dk_at dksL_law_22 17 rfl rfl)
theorem dL_law_729 : decode cL_law 729 = .ok (.istore 6, 2) := dk_54 6 (dk_at dksL_law_22 20 rfl rfl)
theorem dL_law_731 : decode cL_law 731 = .ok (.aload_n 2, 1) := dk_44 (dk_at dksL_law_22 22 rfl rfl)
theorem dL_law_732 : decode cL_law 732 = .ok (.aload_n 0, 1) := dk_42 (dk_at dksL_law_22 23 rfl rfl)
theorem dL_law_733 : decode cL_law 733 = .ok (.iload 5, 2) := dk_21 5 (dk_at dksL_law_23 0 rfl rfl)
theorem dL_law_735 : decode cL_law 735 = .ok (.iconst 1, 1) := dk_4 (dk_at dksL_law_23 2 rfl rfl)
theorem dL_law_736 : decode cL_law 736 = .ok (.iadd, 1) := dk_96 (dk_at dksL_law_23 3 rfl rfl)
theorem dL_law_737 : decode cL_law 737 = .ok (.iaload, 1) := dk_46 (dk_at dksL_law_23 4 rfl rfl)
theorem dL_law_738 : decode cL_law 738 = .ok (.invokevirtual 190, 3) := dk_182 0 190 (dk_at dksL_law_23 5 rfl rfl)
theorem dL_law_741 : decode cL_law 741 = .ok (.istore 7, 2) := dk_54 7 (dk_at dksL_law_23 8 rfl rfl)
theorem dL_law_743 : decode cL_law 743 = .ok (.aload_n 2, 1) := dk_44 (dk_at dksL_law_23 10 rfl rfl)
theorem dL_law_744 : decode cL_law 744 = .ok (.invokevirtual 158, 3) := dk_182 0 158 (dk_at dksL_law_23 11 rfl rfl)
theorem dL_law_747 : decode cL_law 747 = .ok (.iload 6, 2) := dk_21 6 (dk_at dksL_law_23 14 rfl rfl)
theorem dL_law_749 : decode cL_law 749 = .ok (.if_icmp .eq 5, 3) := dk_159 0 5 (dk_at dksL_law_23 16 rfl rfl)
theorem dL_law_752 : decode cL_law 752 = .ok (.iconst 0, 1) := dk_3 (dk_at dksL_law_23 19 rfl rfl)
theorem dL_law_753 : decode cL_law 753 = .ok (.ireturn, 1) := dk_172 (dk_at dksL_law_23 20 rfl rfl)
theorem dL_law_754 : decode cL_law 754 = .ok (.iload 6, 2) := dk_21 6 (dk_at dksL_law_23 21 rfl rfl)
theorem dL_law_756 : decode cL_law 756 = .ok (.ifCond .ne 15, 3) := dk_154 0 15 (dk_at dksL_law_24 0 rfl rfl)
theorem dL_law_759 : decode cL_law 759 = .ok (.aload_n 3, 1) := dk_45 (dk_at dksL_law_24 3 rfl rfl)
theorem dL_law_760 : decode cL_law 760 = .ok (.iconst 0, 1) := dk_3 (dk_at dksL_law_24 4 rfl rfl)
theorem dL_law_761 : decode cL_law 761 = .ok (.laload, 1) := dk_47 (dk_at dksL_law_24 5 rfl rfl)
theorem dL_law_762 : decode cL_law 762 = .ok (.iload 7, 2) := dk_21 7 (dk_at dksL_law_24 6 rfl rfl)
theorem dL_law_764 : decode cL_law 764 = .ok (.i2l, 1) := dk_133 (dk_at dksL_law_24 8 rfl rfl)
theorem dL_law_765 : decode cL_law 765 = .ok (.lcmp, 1) := dk_148 (dk_at dksL_law_24 9 rfl rfl)
theorem dL_law_766 : decode cL_law 766 = .ok (.ifCond .eq 5, 3) := dk_153 0 5 (dk_at dksL_law_24 10 rfl rfl)
theorem dL_law_769 : decode cL_law 769 = .ok (.iconst 0, 1) := dk_3 (dk_at dksL_law_24 13 rfl rfl)
theorem dL_law_770 : decode cL_law 770 = .ok (.ireturn, 1) := dk_172 (dk_at dksL_law_24 14 rfl rfl)
theorem dL_law_771 : decode cL_law 771 = .ok (.goto 2017, 3) := dk_167 7 225 (dk_at dksL_law_24 15 rfl rfl)
theorem dL_law_774 : decode cL_law 774 = .ok (.aload_n 1, 1) := dk_43 (dk_at dksL_law_24 18 rfl rfl)
theorem dL_law_775 : decode cL_law 775 = .ok (.aload_n 0, 1) := dk_42 (dk_at dksL_law_24 19 rfl rfl)
theorem dL_law_776 : decode cL_law 776 = .ok (.iload 5, 2) := dk_21 5 (dk_at dksL_law_24 20 rfl rfl)
theorem dL_law_778 : decode cL_law 778 = .ok (.iconst 1, 1) := dk_4 (dk_at dksL_law_24 22 rfl rfl)
theorem dL_law_779 : decode cL_law 779 = .ok (.iadd, 1) := dk_96 (dk_at dksL_law_24 23 rfl rfl)
theorem dL_law_780 : decode cL_law 780 = .ok (.iaload, 1) := dk_46 (dk_at dksL_law_25 0 rfl rfl)
theorem dL_law_781 : decode cL_law 781 = .ok (.aload_n 0, 1) := dk_42 (dk_at dksL_law_25 1 rfl rfl)
theorem dL_law_782 : decode cL_law 782 = .ok (.iload 5, 2) := dk_21 5 (dk_at dksL_law_25 2 rfl rfl)
theorem dL_law_784 : decode cL_law 784 = .ok (.iconst 2, 1) := dk_5 (dk_at dksL_law_25 4 rfl rfl)
theorem dL_law_785 : decode cL_law 785 = .ok (.iadd, 1) := dk_96 (dk_at dksL_law_25 5 rfl rfl)
theorem dL_law_786 : decode cL_law 786 = .ok (.iaload, 1) := dk_46 (dk_at dksL_law_25 6 rfl rfl)
theorem dL_law_787 : decode cL_law 787 = .ok (.aload_n 3, 1) := dk_45 (dk_at dksL_law_25 7 rfl rfl)
theorem dL_law_788 : decode cL_law 788 = .ok (.invokestatic 191, 3) := dk_184 0 191 (dk_at dksL_law_25 8 rfl rfl)
theorem dL_law_791 : decode cL_law 791 = .ok (.istore 6, 2) := dk_54 6 (dk_at dksL_law_25 11 rfl rfl)
theorem dL_law_793 : decode cL_law 793 = .ok (.aload_n 2, 1) := dk_44 (dk_at dksL_law_25 13 rfl rfl)
theorem dL_law_794 : decode cL_law 794 = .ok (.aload_n 0, 1) := dk_42 (dk_at dksL_law_25 14 rfl rfl)
theorem dL_law_795 : decode cL_law 795 = .ok (.iload 5, 2) := dk_21 5 (dk_at dksL_law_25 15 rfl rfl)
theorem dL_law_797 : decode cL_law 797 = .ok (.iconst 1, 1) := dk_4 (dk_at dksL_law_25 17 rfl rfl)
theorem dL_law_798 : decode cL_law 798 = .ok (.iadd, 1) := dk_96 (dk_at dksL_law_25 18 rfl rfl)
theorem dL_law_799 : decode cL_law 799 = .ok (.iaload, 1) := dk_46 (dk_at dksL_law_25 19 rfl rfl)
theorem dL_law_800 : decode cL_law 800 = .ok (.aload_n 0, 1) := dk_42 (dk_at dksL_law_25 20 rfl rfl)
theorem dL_law_801 : decode cL_law 801 = .ok (.iload 5, 2) := dk_21 5 (dk_at dksL_law_25 21 rfl rfl)
theorem dL_law_803 : decode cL_law 803 = .ok (.iconst 2, 1) := dk_5 (dk_at dksL_law_25 23 rfl rfl)
theorem dL_law_804 : decode cL_law 804 = .ok (.iadd, 1) := dk_96 (dk_at dksL_law_26 0 rfl rfl)
theorem dL_law_805 : decode cL_law 805 = .ok (.iaload, 1) := dk_46 (dk_at dksL_law_26 1 rfl rfl)
theorem dL_law_806 : decode cL_law 806 = .ok (.invokevirtual 193, 3) := dk_182 0 193 (dk_at dksL_law_26 2 rfl rfl)
theorem dL_law_809 : decode cL_law 809 = .ok (.istore 7, 2) := dk_54 7 (dk_at dksL_law_26 5 rfl rfl)
theorem dL_law_811 : decode cL_law 811 = .ok (.aload_n 2, 1) := dk_44 (dk_at dksL_law_26 7 rfl rfl)
theorem dL_law_812 : decode cL_law 812 = .ok (.invokevirtual 158, 3) := dk_182 0 158 (dk_at dksL_law_26 8 rfl rfl)
theorem dL_law_815 : decode cL_law 815 = .ok (.iload 6, 2) := dk_21 6 (dk_at dksL_law_26 11 rfl rfl)
theorem dL_law_817 : decode cL_law 817 = .ok (.if_icmp .eq 5, 3) := dk_159 0 5 (dk_at dksL_law_26 13 rfl rfl)
theorem dL_law_820 : decode cL_law 820 = .ok (.iconst 0, 1) := dk_3 (dk_at dksL_law_26 16 rfl rfl)
theorem dL_law_821 : decode cL_law 821 = .ok (.ireturn, 1) := dk_172 (dk_at dksL_law_26 17 rfl rfl)
theorem dL_law_822 : decode cL_law 822 = .ok (.iload 6, 2) := dk_21 6 (dk_at dksL_law_26 18 rfl rfl)
theorem dL_law_824 : decode cL_law 824 = .ok (.ifCond .ne 15, 3) := dk_154 0 15 (dk_at dksL_law_26 20 rfl rfl)
theorem dL_law_827 : decode cL_law 827 = .ok (.aload_n 3, 1) := dk_45 (dk_at dksL_law_26 23 rfl rfl)
theorem dL_law_828 : decode cL_law 828 = .ok (.iconst 0, 1) := dk_3 (dk_at dksL_law_27 0 rfl rfl)
theorem dL_law_829 : decode cL_law 829 = .ok (.laload, 1) := dk_47 (dk_at dksL_law_27 1 rfl rfl)
theorem dL_law_830 : decode cL_law 830 = .ok (.iload 7, 2) := dk_21 7 (dk_at dksL_law_27 2 rfl rfl)
theorem dL_law_832 : decode cL_law 832 = .ok (.i2l, 1) := dk_133 (dk_at dksL_law_27 4 rfl rfl)
theorem dL_law_833 : decode cL_law 833 = .ok (.lcmp, 1) := dk_148 (dk_at dksL_law_27 5 rfl rfl)
theorem dL_law_834 : decode cL_law 834 = .ok (.ifCond .eq 5, 3) := dk_153 0 5 (dk_at dksL_law_27 6 rfl rfl)
theorem dL_law_837 : decode cL_law 837 = .ok (.iconst 0, 1) := dk_3 (dk_at dksL_law_27 9 rfl rfl)
theorem dL_law_838 : decode cL_law 838 = .ok (.ireturn, 1) := dk_172 (dk_at dksL_law_27 10 rfl rfl)
theorem dL_law_839 : decode cL_law 839 = .ok (.goto 1949, 3) := dk_167 7 157 (dk_at dksL_law_27 11 rfl rfl)
theorem dL_law_842 : decode cL_law 842 = .ok (.aload_n 1, 1) := dk_43 (dk_at dksL_law_27 14 rfl rfl)
theorem dL_law_843 : decode cL_law 843 = .ok (.aload_n 0, 1) := dk_42 (dk_at dksL_law_27 15 rfl rfl)
theorem dL_law_844 : decode cL_law 844 = .ok (.iload 5, 2) := dk_21 5 (dk_at dksL_law_27 16 rfl rfl)
theorem dL_law_846 : decode cL_law 846 = .ok (.iconst 1, 1) := dk_4 (dk_at dksL_law_27 18 rfl rfl)
theorem dL_law_847 : decode cL_law 847 = .ok (.iadd, 1) := dk_96 (dk_at dksL_law_27 19 rfl rfl)
theorem dL_law_848 : decode cL_law 848 = .ok (.iaload, 1) := dk_46 (dk_at dksL_law_27 20 rfl rfl)
theorem dL_law_849 : decode cL_law 849 = .ok (.aload_n 3, 1) := dk_45 (dk_at dksL_law_27 21 rfl rfl)
theorem dL_law_850 : decode cL_law 850 = .ok (.invokestatic 194, 3) := dk_184 0 194 (dk_at dksL_law_28 0 rfl rfl)
theorem dL_law_853 : decode cL_law 853 = .ok (.istore 6, 2) := dk_54 6 (dk_at dksL_law_28 3 rfl rfl)
theorem dL_law_855 : decode cL_law 855 = .ok (.aload_n 2, 1) := dk_44 (dk_at dksL_law_28 5 rfl rfl)
theorem dL_law_856 : decode cL_law 856 = .ok (.aload_n 0, 1) := dk_42 (dk_at dksL_law_28 6 rfl rfl)
theorem dL_law_857 : decode cL_law 857 = .ok (.iload 5, 2) := dk_21 5 (dk_at dksL_law_28 7 rfl rfl)
theorem dL_law_859 : decode cL_law 859 = .ok (.iconst 1, 1) := dk_4 (dk_at dksL_law_28 9 rfl rfl)
theorem dL_law_860 : decode cL_law 860 = .ok (.iadd, 1) := dk_96 (dk_at dksL_law_28 10 rfl rfl)
theorem dL_law_861 : decode cL_law 861 = .ok (.iaload, 1) := dk_46 (dk_at dksL_law_28 11 rfl rfl)
theorem dL_law_862 : decode cL_law 862 = .ok (.invokevirtual 196, 3) := dk_182 0 196 (dk_at dksL_law_28 12 rfl rfl)
theorem dL_law_865 : decode cL_law 865 = .ok (.istore 7, 2) := dk_54 7 (dk_at dksL_law_28 15 rfl rfl)
theorem dL_law_867 : decode cL_law 867 = .ok (.aload_n 2, 1) := dk_44 (dk_at dksL_law_28 17 rfl rfl)
theorem dL_law_868 : decode cL_law 868 = .ok (.invokevirtual 158, 3) := dk_182 0 158 (dk_at dksL_law_28 18 rfl rfl)
theorem dL_law_871 : decode cL_law 871 = .ok (.iload 6, 2) := dk_21 6 (dk_at dksL_law_28 21 rfl rfl)
theorem dL_law_873 : decode cL_law 873 = .ok (.if_icmp .eq 5, 3) := dk_159 0 5 (dk_at dksL_law_29 0 rfl rfl)
theorem dL_law_876 : decode cL_law 876 = .ok (.iconst 0, 1) := dk_3 (dk_at dksL_law_29 3 rfl rfl)
theorem dL_law_877 : decode cL_law 877 = .ok (.ireturn, 1) := dk_172 (dk_at dksL_law_29 4 rfl rfl)
theorem dL_law_878 : decode cL_law 878 = .ok (.iload 6, 2) := dk_21 6 (dk_at dksL_law_29 5 rfl rfl)
theorem dL_law_880 : decode cL_law 880 = .ok (.ifCond .ne 15, 3) := dk_154 0 15 (dk_at dksL_law_29 7 rfl rfl)
theorem dL_law_883 : decode cL_law 883 = .ok (.aload_n 3, 1) := dk_45 (dk_at dksL_law_29 10 rfl rfl)
theorem dL_law_884 : decode cL_law 884 = .ok (.iconst 0, 1) := dk_3 (dk_at dksL_law_29 11 rfl rfl)
theorem dL_law_885 : decode cL_law 885 = .ok (.laload, 1) := dk_47 (dk_at dksL_law_29 12 rfl rfl)
theorem dL_law_886 : decode cL_law 886 = .ok (.iload 7, 2) := dk_21 7 (dk_at dksL_law_29 13 rfl rfl)
theorem dL_law_888 : decode cL_law 888 = .ok (.i2l, 1) := dk_133 (dk_at dksL_law_29 15 rfl rfl)
theorem dL_law_889 : decode cL_law 889 = .ok (.lcmp, 1) := dk_148 (dk_at dksL_law_29 16 rfl rfl)
theorem dL_law_890 : decode cL_law 890 = .ok (.ifCond .eq 5, 3) := dk_153 0 5 (dk_at dksL_law_29 17 rfl rfl)
theorem dL_law_893 : decode cL_law 893 = .ok (.iconst 0, 1) := dk_3 (dk_at dksL_law_29 20 rfl rfl)
theorem dL_law_894 : decode cL_law 894 = .ok (.ireturn, 1) := dk_172 (dk_at dksL_law_29 21 rfl rfl)
theorem dL_law_895 : decode cL_law 895 = .ok (.goto 1893, 3) := dk_167 7 101 (dk_at dksL_law_30 0 rfl rfl)
theorem dL_law_898 : decode cL_law 898 = .ok (.aload_n 1, 1) := dk_43 (dk_at dksL_law_30 3 rfl rfl)
theorem dL_law_899 : decode cL_law 899 = .ok (.aload_n 0, 1) := dk_42 (dk_at dksL_law_30 4 rfl rfl)
theorem dL_law_900 : decode cL_law 900 = .ok (.iload 5, 2) := dk_21 5 (dk_at dksL_law_30 5 rfl rfl)
theorem dL_law_902 : decode cL_law 902 = .ok (.iconst 1, 1) := dk_4 (dk_at dksL_law_30 7 rfl rfl)
theorem dL_law_903 : decode cL_law 903 = .ok (.iadd, 1) := dk_96 (dk_at dksL_law_30 8 rfl rfl)
theorem dL_law_904 : decode cL_law 904 = .ok (.iaload, 1) := dk_46 (dk_at dksL_law_30 9 rfl rfl)
theorem dL_law_905 : decode cL_law 905 = .ok (.aload_n 0, 1) := dk_42 (dk_at dksL_law_30 10 rfl rfl)
theorem dL_law_906 : decode cL_law 906 = .ok (.iload 5, 2) := dk_21 5 (dk_at dksL_law_30 11 rfl rfl)
theorem dL_law_908 : decode cL_law 908 = .ok (.iconst 2, 1) := dk_5 (dk_at dksL_law_30 13 rfl rfl)
theorem dL_law_909 : decode cL_law 909 = .ok (.iadd, 1) := dk_96 (dk_at dksL_law_30 14 rfl rfl)
theorem dL_law_910 : decode cL_law 910 = .ok (.iaload, 1) := dk_46 (dk_at dksL_law_30 15 rfl rfl)
theorem dL_law_911 : decode cL_law 911 = .ok (.aload_n 0, 1) := dk_42 (dk_at dksL_law_30 16 rfl rfl)
theorem dL_law_912 : decode cL_law 912 = .ok (.iload 5, 2) := dk_21 5 (dk_at dksL_law_30 17 rfl rfl)
theorem dL_law_914 : decode cL_law 914 = .ok (.iconst 3, 1) := dk_6 (dk_at dksL_law_30 19 rfl rfl)
theorem dL_law_915 : decode cL_law 915 = .ok (.iadd, 1) := dk_96 (dk_at dksL_law_30 20 rfl rfl)
theorem dL_law_916 : decode cL_law 916 = .ok (.iaload, 1) := dk_46 (dk_at dksL_law_30 21 rfl rfl)
theorem dL_law_917 : decode cL_law 917 = .ok (.aload_n 3, 1) := dk_45 (dk_at dksL_law_30 22 rfl rfl)
theorem dL_law_918 : decode cL_law 918 = .ok (.invokestatic 197, 3) := dk_184 0 197 (dk_at dksL_law_31 0 rfl rfl)
theorem dL_law_921 : decode cL_law 921 = .ok (.istore 6, 2) := dk_54 6 (dk_at dksL_law_31 3 rfl rfl)
theorem dL_law_923 : decode cL_law 923 = .ok (.aload_n 2, 1) := dk_44 (dk_at dksL_law_31 5 rfl rfl)
theorem dL_law_924 : decode cL_law 924 = .ok (.aload_n 0, 1) := dk_42 (dk_at dksL_law_31 6 rfl rfl)
theorem dL_law_925 : decode cL_law 925 = .ok (.iload 5, 2) := dk_21 5 (dk_at dksL_law_31 7 rfl rfl)
theorem dL_law_927 : decode cL_law 927 = .ok (.iconst 1, 1) := dk_4 (dk_at dksL_law_31 9 rfl rfl)
theorem dL_law_928 : decode cL_law 928 = .ok (.iadd, 1) := dk_96 (dk_at dksL_law_31 10 rfl rfl)
theorem dL_law_929 : decode cL_law 929 = .ok (.iaload, 1) := dk_46 (dk_at dksL_law_31 11 rfl rfl)
theorem dL_law_930 : decode cL_law 930 = .ok (.aload_n 0, 1) := dk_42 (dk_at dksL_law_31 12 rfl rfl)
theorem dL_law_931 : decode cL_law 931 = .ok (.iload 5, 2) := dk_21 5 (dk_at dksL_law_31 13 rfl rfl)
theorem dL_law_933 : decode cL_law 933 = .ok (.iconst 2, 1) := dk_5 (dk_at dksL_law_31 15 rfl rfl)
theorem dL_law_934 : decode cL_law 934 = .ok (.iadd, 1) := dk_96 (dk_at dksL_law_31 16 rfl rfl)
theorem dL_law_935 : decode cL_law 935 = .ok (.iaload, 1) := dk_46 (dk_at dksL_law_31 17 rfl rfl)
theorem dL_law_936 : decode cL_law 936 = .ok (.aload_n 0, 1) := dk_42 (dk_at dksL_law_31 18 rfl rfl)
theorem dL_law_937 : decode cL_law 937 = .ok (.iload 5, 2) := dk_21 5 (dk_at dksL_law_31 19 rfl rfl)
theorem dL_law_939 : decode cL_law 939 = .ok (.iconst 3, 1) := dk_6 (dk_at dksL_law_31 21 rfl rfl)
theorem dL_law_940 : decode cL_law 940 = .ok (.iadd, 1) := dk_96 (dk_at dksL_law_31 22 rfl rfl)
theorem dL_law_941 : decode cL_law 941 = .ok (.iaload, 1) := dk_46 (dk_at dksL_law_31 23 rfl rfl)
theorem dL_law_942 : decode cL_law 942 = .ok (.invokevirtual 200, 3) := dk_182 0 200 (dk_at dksL_law_32 0 rfl rfl)
theorem dL_law_945 : decode cL_law 945 = .ok (.istore 7, 2) := dk_54 7 (dk_at dksL_law_32 3 rfl rfl)
theorem dL_law_947 : decode cL_law 947 = .ok (.aload_n 2, 1) := dk_44 (dk_at dksL_law_32 5 rfl rfl)
theorem dL_law_948 : decode cL_law 948 = .ok (.invokevirtual 158, 3) := dk_182 0 158 (dk_at dksL_law_32 6 rfl rfl)
theorem dL_law_951 : decode cL_law 951 = .ok (.iload 6, 2) := dk_21 6 (dk_at dksL_law_32 9 rfl rfl)
theorem dL_law_953 : decode cL_law 953 = .ok (.if_icmp .eq 5, 3) := dk_159 0 5 (dk_at dksL_law_32 11 rfl rfl)
theorem dL_law_956 : decode cL_law 956 = .ok (.iconst 0, 1) := dk_3 (dk_at dksL_law_32 14 rfl rfl)
theorem dL_law_957 : decode cL_law 957 = .ok (.ireturn, 1) := dk_172 (dk_at dksL_law_32 15 rfl rfl)
theorem dL_law_958 : decode cL_law 958 = .ok (.iload 6, 2) := dk_21 6 (dk_at dksL_law_32 16 rfl rfl)
theorem dL_law_960 : decode cL_law 960 = .ok (.ifCond .ne 15, 3) := dk_154 0 15 (dk_at dksL_law_32 18 rfl rfl)
theorem dL_law_963 : decode cL_law 963 = .ok (.aload_n 3, 1) := dk_45 (dk_at dksL_law_32 21 rfl rfl)
theorem dL_law_964 : decode cL_law 964 = .ok (.iconst 0, 1) := dk_3 (dk_at dksL_law_32 22 rfl rfl)
theorem dL_law_965 : decode cL_law 965 = .ok (.laload, 1) := dk_47 (dk_at dksL_law_32 23 rfl rfl)
theorem dL_law_966 : decode cL_law 966 = .ok (.iload 7, 2) := dk_21 7 (dk_at dksL_law_33 0 rfl rfl)
theorem dL_law_968 : decode cL_law 968 = .ok (.i2l, 1) := dk_133 (dk_at dksL_law_33 2 rfl rfl)
theorem dL_law_969 : decode cL_law 969 = .ok (.lcmp, 1) := dk_148 (dk_at dksL_law_33 3 rfl rfl)
theorem dL_law_970 : decode cL_law 970 = .ok (.ifCond .eq 5, 3) := dk_153 0 5 (dk_at dksL_law_33 4 rfl rfl)
theorem dL_law_973 : decode cL_law 973 = .ok (.iconst 0, 1) := dk_3 (dk_at dksL_law_33 7 rfl rfl)
theorem dL_law_974 : decode cL_law 974 = .ok (.ireturn, 1) := dk_172 (dk_at dksL_law_33 8 rfl rfl)
theorem dL_law_975 : decode cL_law 975 = .ok (.goto 1813, 3) := dk_167 7 21 (dk_at dksL_law_33 9 rfl rfl)
theorem dL_law_978 : decode cL_law 978 = .ok (.aload_n 1, 1) := dk_43 (dk_at dksL_law_33 12 rfl rfl)
theorem dL_law_979 : decode cL_law 979 = .ok (.aload_n 0, 1) := dk_42 (dk_at dksL_law_33 13 rfl rfl)
theorem dL_law_980 : decode cL_law 980 = .ok (.iload 5, 2) := dk_21 5 (dk_at dksL_law_33 14 rfl rfl)
theorem dL_law_982 : decode cL_law 982 = .ok (.iconst 1, 1) := dk_4 (dk_at dksL_law_33 16 rfl rfl)
theorem dL_law_983 : decode cL_law 983 = .ok (.iadd, 1) := dk_96 (dk_at dksL_law_33 17 rfl rfl)
theorem dL_law_984 : decode cL_law 984 = .ok (.iaload, 1) := dk_46 (dk_at dksL_law_33 18 rfl rfl)
theorem dL_law_985 : decode cL_law 985 = .ok (.aload_n 3, 1) := dk_45 (dk_at dksL_law_33 19 rfl rfl)
theorem dL_law_986 : decode cL_law 986 = .ok (.invokestatic 201, 3) := dk_184 0 201 (dk_at dksL_law_33 20 rfl rfl)
theorem dL_law_989 : decode cL_law 989 = .ok (.istore 6, 2) := dk_54 6 (dk_at dksL_law_34 0 rfl rfl)
theorem dL_law_991 : decode cL_law 991 = .ok (.aload_n 2, 1) := dk_44 (dk_at dksL_law_34 2 rfl rfl)
theorem dL_law_992 : decode cL_law 992 = .ok (.aload_n 0, 1) := dk_42 (dk_at dksL_law_34 3 rfl rfl)
theorem dL_law_993 : decode cL_law 993 = .ok (.iload 5, 2) := dk_21 5 (dk_at dksL_law_34 4 rfl rfl)
theorem dL_law_995 : decode cL_law 995 = .ok (.iconst 1, 1) := dk_4 (dk_at dksL_law_34 6 rfl rfl)
theorem dL_law_996 : decode cL_law 996 = .ok (.iadd, 1) := dk_96 (dk_at dksL_law_34 7 rfl rfl)
theorem dL_law_997 : decode cL_law 997 = .ok (.iaload, 1) := dk_46 (dk_at dksL_law_34 8 rfl rfl)
theorem dL_law_998 : decode cL_law 998 = .ok (.invokevirtual 203, 3) := dk_182 0 203 (dk_at dksL_law_34 9 rfl rfl)
theorem dL_law_1001 : decode cL_law 1001 = .ok (.istore 7, 2) := dk_54 7 (dk_at dksL_law_34 12 rfl rfl)
theorem dL_law_1003 : decode cL_law 1003 = .ok (.aload_n 2, 1) := dk_44 (dk_at dksL_law_34 14 rfl rfl)
theorem dL_law_1004 : decode cL_law 1004 = .ok (.invokevirtual 158, 3) := dk_182 0 158 (dk_at dksL_law_34 15 rfl rfl)
theorem dL_law_1007 : decode cL_law 1007 = .ok (.iload 6, 2) := dk_21 6 (dk_at dksL_law_34 18 rfl rfl)
theorem dL_law_1009 : decode cL_law 1009 = .ok (.if_icmp .eq 5, 3) := dk_159 0 5 (dk_at dksL_law_34 20 rfl rfl)
theorem dL_law_1012 : decode cL_law 1012 = .ok (.iconst 0, 1) := dk_3 (dk_at dksL_law_34 23 rfl rfl)
theorem dL_law_1013 : decode cL_law 1013 = .ok (.ireturn, 1) := dk_172 (dk_at dksL_law_35 0 rfl rfl)
theorem dL_law_1014 : decode cL_law 1014 = .ok (.iload 6, 2) := dk_21 6 (dk_at dksL_law_35 1 rfl rfl)
theorem dL_law_1016 : decode cL_law 1016 = .ok (.ifCond .ne 15, 3) := dk_154 0 15 (dk_at dksL_law_35 3 rfl rfl)
theorem dL_law_1019 : decode cL_law 1019 = .ok (.aload_n 3, 1) := dk_45 (dk_at dksL_law_35 6 rfl rfl)
theorem dL_law_1020 : decode cL_law 1020 = .ok (.iconst 0, 1) := dk_3 (dk_at dksL_law_35 7 rfl rfl)
theorem dL_law_1021 : decode cL_law 1021 = .ok (.laload, 1) := dk_47 (dk_at dksL_law_35 8 rfl rfl)
theorem dL_law_1022 : decode cL_law 1022 = .ok (.iload 7, 2) := dk_21 7 (dk_at dksL_law_35 9 rfl rfl)
theorem dL_law_1024 : decode cL_law 1024 = .ok (.i2l, 1) := dk_133 (dk_at dksL_law_35 11 rfl rfl)
theorem dL_law_1025 : decode cL_law 1025 = .ok (.lcmp, 1) := dk_148 (dk_at dksL_law_35 12 rfl rfl)
theorem dL_law_1026 : decode cL_law 1026 = .ok (.ifCond .eq 5, 3) := dk_153 0 5 (dk_at dksL_law_35 13 rfl rfl)
theorem dL_law_1029 : decode cL_law 1029 = .ok (.iconst 0, 1) := dk_3 (dk_at dksL_law_35 16 rfl rfl)
theorem dL_law_1030 : decode cL_law 1030 = .ok (.ireturn, 1) := dk_172 (dk_at dksL_law_35 17 rfl rfl)
theorem dL_law_1031 : decode cL_law 1031 = .ok (.goto 1757, 3) := dk_167 6 221 (dk_at dksL_law_35 18 rfl rfl)
theorem dL_law_1034 : decode cL_law 1034 = .ok (.aload_n 1, 1) := dk_43 (dk_at dksL_law_35 21 rfl rfl)
theorem dL_law_1035 : decode cL_law 1035 = .ok (.aload_n 0, 1) := dk_42 (dk_at dksL_law_35 22 rfl rfl)
theorem dL_law_1036 : decode cL_law 1036 = .ok (.iload 5, 2) := dk_21 5 (dk_at dksL_law_36 0 rfl rfl)
theorem dL_law_1038 : decode cL_law 1038 = .ok (.iconst 1, 1) := dk_4 (dk_at dksL_law_36 2 rfl rfl)
theorem dL_law_1039 : decode cL_law 1039 = .ok (.iadd, 1) := dk_96 (dk_at dksL_law_36 3 rfl rfl)
theorem dL_law_1040 : decode cL_law 1040 = .ok (.iaload, 1) := dk_46 (dk_at dksL_law_36 4 rfl rfl)
theorem dL_law_1041 : decode cL_law 1041 = .ok (.aload_n 0, 1) := dk_42 (dk_at dksL_law_36 5 rfl rfl)
theorem dL_law_1042 : decode cL_law 1042 = .ok (.iload 5, 2) := dk_21 5 (dk_at dksL_law_36 6 rfl rfl)
theorem dL_law_1044 : decode cL_law 1044 = .ok (.iconst 2, 1) := dk_5 (dk_at dksL_law_36 8 rfl rfl)
theorem dL_law_1045 : decode cL_law 1045 = .ok (.iadd, 1) := dk_96 (dk_at dksL_law_36 9 rfl rfl)
theorem dL_law_1046 : decode cL_law 1046 = .ok (.iaload, 1) := dk_46 (dk_at dksL_law_36 10 rfl rfl)
theorem dL_law_1047 : decode cL_law 1047 = .ok (.aload_n 3, 1) := dk_45 (dk_at dksL_law_36 11 rfl rfl)
theorem dL_law_1048 : decode cL_law 1048 = .ok (.invokestatic 204, 3) := dk_184 0 204 (dk_at dksL_law_36 12 rfl rfl)
theorem dL_law_1051 : decode cL_law 1051 = .ok (.istore 6, 2) := dk_54 6 (dk_at dksL_law_36 15 rfl rfl)
theorem dL_law_1053 : decode cL_law 1053 = .ok (.aload_n 2, 1) := dk_44 (dk_at dksL_law_36 17 rfl rfl)
theorem dL_law_1054 : decode cL_law 1054 = .ok (.aload_n 0, 1) := dk_42 (dk_at dksL_law_36 18 rfl rfl)
theorem dL_law_1055 : decode cL_law 1055 = .ok (.iload 5, 2) := dk_21 5 (dk_at dksL_law_36 19 rfl rfl)
theorem dL_law_1057 : decode cL_law 1057 = .ok (.iconst 1, 1) := dk_4 (dk_at dksL_law_36 21 rfl rfl)
theorem dL_law_1058 : decode cL_law 1058 = .ok (.iadd, 1) := dk_96 (dk_at dksL_law_36 22 rfl rfl)
theorem dL_law_1059 : decode cL_law 1059 = .ok (.iaload, 1) := dk_46 (dk_at dksL_law_36 23 rfl rfl)
theorem dL_law_1060 : decode cL_law 1060 = .ok (.aload_n 0, 1) := dk_42 (dk_at dksL_law_37 0 rfl rfl)
theorem dL_law_1061 : decode cL_law 1061 = .ok (.iload 5, 2) := dk_21 5 (dk_at dksL_law_37 1 rfl rfl)
theorem dL_law_1063 : decode cL_law 1063 = .ok (.iconst 2, 1) := dk_5 (dk_at dksL_law_37 3 rfl rfl)
theorem dL_law_1064 : decode cL_law 1064 = .ok (.iadd, 1) := dk_96 (dk_at dksL_law_37 4 rfl rfl)
theorem dL_law_1065 : decode cL_law 1065 = .ok (.iaload, 1) := dk_46 (dk_at dksL_law_37 5 rfl rfl)
theorem dL_law_1066 : decode cL_law 1066 = .ok (.invokevirtual 206, 3) := dk_182 0 206 (dk_at dksL_law_37 6 rfl rfl)
theorem dL_law_1069 : decode cL_law 1069 = .ok (.istore 7, 2) := dk_54 7 (dk_at dksL_law_37 9 rfl rfl)
theorem dL_law_1071 : decode cL_law 1071 = .ok (.aload_n 2, 1) := dk_44 (dk_at dksL_law_37 11 rfl rfl)
theorem dL_law_1072 : decode cL_law 1072 = .ok (.invokevirtual 158, 3) := dk_182 0 158 (dk_at dksL_law_37 12 rfl rfl)
theorem dL_law_1075 : decode cL_law 1075 = .ok (.iload 6, 2) := dk_21 6 (dk_at dksL_law_37 15 rfl rfl)
theorem dL_law_1077 : decode cL_law 1077 = .ok (.if_icmp .eq 5, 3) := dk_159 0 5 (dk_at dksL_law_37 17 rfl rfl)
theorem dL_law_1080 : decode cL_law 1080 = .ok (.iconst 0, 1) := dk_3 (dk_at dksL_law_37 20 rfl rfl)
theorem dL_law_1081 : decode cL_law 1081 = .ok (.ireturn, 1) := dk_172 (dk_at dksL_law_37 21 rfl rfl)
theorem dL_law_1082 : decode cL_law 1082 = .ok (.iload 6, 2) := dk_21 6 (dk_at dksL_law_37 22 rfl rfl)
theorem dL_law_1084 : decode cL_law 1084 = .ok (.ifCond .ne 15, 3) := dk_154 0 15 (dk_at dksL_law_38 0 rfl rfl)
theorem dL_law_1087 : decode cL_law 1087 = .ok (.aload_n 3, 1) := dk_45 (dk_at dksL_law_38 3 rfl rfl)
theorem dL_law_1088 : decode cL_law 1088 = .ok (.iconst 0, 1) := dk_3 (dk_at dksL_law_38 4 rfl rfl)
theorem dL_law_1089 : decode cL_law 1089 = .ok (.laload, 1) := dk_47 (dk_at dksL_law_38 5 rfl rfl)
theorem dL_law_1090 : decode cL_law 1090 = .ok (.iload 7, 2) := dk_21 7 (dk_at dksL_law_38 6 rfl rfl)
theorem dL_law_1092 : decode cL_law 1092 = .ok (.i2l, 1) := dk_133 (dk_at dksL_law_38 8 rfl rfl)
theorem dL_law_1093 : decode cL_law 1093 = .ok (.lcmp, 1) := dk_148 (dk_at dksL_law_38 9 rfl rfl)
theorem dL_law_1094 : decode cL_law 1094 = .ok (.ifCond .eq 5, 3) := dk_153 0 5 (dk_at dksL_law_38 10 rfl rfl)
theorem dL_law_1097 : decode cL_law 1097 = .ok (.iconst 0, 1) := dk_3 (dk_at dksL_law_38 13 rfl rfl)
theorem dL_law_1098 : decode cL_law 1098 = .ok (.ireturn, 1) := dk_172 (dk_at dksL_law_38 14 rfl rfl)
theorem dL_law_1099 : decode cL_law 1099 = .ok (.goto 1689, 3) := dk_167 6 153 (dk_at dksL_law_38 15 rfl rfl)
theorem dL_law_1102 : decode cL_law 1102 = .ok (.aload_n 1, 1) := dk_43 (dk_at dksL_law_38 18 rfl rfl)
theorem dL_law_1103 : decode cL_law 1103 = .ok (.aload_n 0, 1) := dk_42 (dk_at dksL_law_38 19 rfl rfl)
theorem dL_law_1104 : decode cL_law 1104 = .ok (.iload 5, 2) := dk_21 5 (dk_at dksL_law_38 20 rfl rfl)
theorem dL_law_1106 : decode cL_law 1106 = .ok (.iconst 1, 1) := dk_4 (dk_at dksL_law_38 22 rfl rfl)
theorem dL_law_1107 : decode cL_law 1107 = .ok (.iadd, 1) := dk_96 (dk_at dksL_law_38 23 rfl rfl)
theorem dL_law_1108 : decode cL_law 1108 = .ok (.iaload, 1) := dk_46 (dk_at dksL_law_39 0 rfl rfl)
theorem dL_law_1109 : decode cL_law 1109 = .ok (.aload_n 3, 1) := dk_45 (dk_at dksL_law_39 1 rfl rfl)
theorem dL_law_1110 : decode cL_law 1110 = .ok (.invokestatic 207, 3) := dk_184 0 207 (dk_at dksL_law_39 2 rfl rfl)
theorem dL_law_1113 : decode cL_law 1113 = .ok (.istore 6, 2) := dk_54 6 (dk_at dksL_law_39 5 rfl rfl)
theorem dL_law_1115 : decode cL_law 1115 = .ok (.aload_n 2, 1) := dk_44 (dk_at dksL_law_39 7 rfl rfl)
theorem dL_law_1116 : decode cL_law 1116 = .ok (.aload_n 0, 1) := dk_42 (dk_at dksL_law_39 8 rfl rfl)
theorem dL_law_1117 : decode cL_law 1117 = .ok (.iload 5, 2) := dk_21 5 (dk_at dksL_law_39 9 rfl rfl)
theorem dL_law_1119 : decode cL_law 1119 = .ok (.iconst 1, 1) := dk_4 (dk_at dksL_law_39 11 rfl rfl)
theorem dL_law_1120 : decode cL_law 1120 = .ok (.iadd, 1) := dk_96 (dk_at dksL_law_39 12 rfl rfl)
theorem dL_law_1121 : decode cL_law 1121 = .ok (.iaload, 1) := dk_46 (dk_at dksL_law_39 13 rfl rfl)
theorem dL_law_1122 : decode cL_law 1122 = .ok (.invokevirtual 209, 3) := dk_182 0 209 (dk_at dksL_law_39 14 rfl rfl)
theorem dL_law_1125 : decode cL_law 1125 = .ok (.istore 7, 2) := dk_54 7 (dk_at dksL_law_39 17 rfl rfl)
theorem dL_law_1127 : decode cL_law 1127 = .ok (.aload_n 2, 1) := dk_44 (dk_at dksL_law_39 19 rfl rfl)
theorem dL_law_1128 : decode cL_law 1128 = .ok (.invokevirtual 158, 3) := dk_182 0 158 (dk_at dksL_law_39 20 rfl rfl)
theorem dL_law_1131 : decode cL_law 1131 = .ok (.iload 6, 2) := dk_21 6 (dk_at dksL_law_40 0 rfl rfl)
theorem dL_law_1133 : decode cL_law 1133 = .ok (.if_icmp .eq 5, 3) := dk_159 0 5 (dk_at dksL_law_40 2 rfl rfl)
theorem dL_law_1136 : decode cL_law 1136 = .ok (.iconst 0, 1) := dk_3 (dk_at dksL_law_40 5 rfl rfl)
theorem dL_law_1137 : decode cL_law 1137 = .ok (.ireturn, 1) := dk_172 (dk_at dksL_law_40 6 rfl rfl)
theorem dL_law_1138 : decode cL_law 1138 = .ok (.iload 6, 2) := dk_21 6 (dk_at dksL_law_40 7 rfl rfl)
theorem dL_law_1140 : decode cL_law 1140 = .ok (.ifCond .ne 15, 3) := dk_154 0 15 (dk_at dksL_law_40 9 rfl rfl)
theorem dL_law_1143 : decode cL_law 1143 = .ok (.aload_n 3, 1) := dk_45 (dk_at dksL_law_40 12 rfl rfl)
theorem dL_law_1144 : decode cL_law 1144 = .ok (.iconst 0, 1) := dk_3 (dk_at dksL_law_40 13 rfl rfl)
theorem dL_law_1145 : decode cL_law 1145 = .ok (.laload, 1) := dk_47 (dk_at dksL_law_40 14 rfl rfl)
theorem dL_law_1146 : decode cL_law 1146 = .ok (.iload 7, 2) := dk_21 7 (dk_at dksL_law_40 15 rfl rfl)
theorem dL_law_1148 : decode cL_law 1148 = .ok (.i2l, 1) := dk_133 (dk_at dksL_law_40 17 rfl rfl)
theorem dL_law_1149 : decode cL_law 1149 = .ok (.lcmp, 1) := dk_148 (dk_at dksL_law_40 18 rfl rfl)
theorem dL_law_1150 : decode cL_law 1150 = .ok (.ifCond .eq 5, 3) := dk_153 0 5 (dk_at dksL_law_40 19 rfl rfl)
theorem dL_law_1153 : decode cL_law 1153 = .ok (.iconst 0, 1) := dk_3 (dk_at dksL_law_40 22 rfl rfl)
theorem dL_law_1154 : decode cL_law 1154 = .ok (.ireturn, 1) := dk_172 (dk_at dksL_law_40 23 rfl rfl)
theorem dL_law_1155 : decode cL_law 1155 = .ok (.goto 1633, 3) := dk_167 6 97 (dk_at dksL_law_41 0 rfl rfl)
theorem dL_law_1158 : decode cL_law 1158 = .ok (.aload_n 1, 1) := dk_43 (dk_at dksL_law_41 3 rfl rfl)
theorem dL_law_1159 : decode cL_law 1159 = .ok (.invokevirtual 210, 3) := dk_182 0 210 (dk_at dksL_law_41 4 rfl rfl)
theorem dL_law_1162 : decode cL_law 1162 = .ok (.aload_n 2, 1) := dk_44 (dk_at dksL_law_41 7 rfl rfl)
theorem dL_law_1163 : decode cL_law 1163 = .ok (.invokevirtual 213, 3) := dk_182 0 213 (dk_at dksL_law_41 8 rfl rfl)
theorem dL_law_1166 : decode cL_law 1166 = .ok (.if_icmp .eq 1622, 3) := dk_159 6 86 (dk_at dksL_law_41 11 rfl rfl)
theorem dL_law_1169 : decode cL_law 1169 = .ok (.iconst 0, 1) := dk_3 (dk_at dksL_law_41 14 rfl rfl)
theorem dL_law_1170 : decode cL_law 1170 = .ok (.ireturn, 1) := dk_172 (dk_at dksL_law_41 15 rfl rfl)
theorem dL_law_1171 : decode cL_law 1171 = .ok (.aload_n 1, 1) := dk_43 (dk_at dksL_law_41 16 rfl rfl)
theorem dL_law_1172 : decode cL_law 1172 = .ok (.aload_n 0, 1) := dk_42 (dk_at dksL_law_41 17 rfl rfl)
theorem dL_law_1173 : decode cL_law 1173 = .ok (.iload 5, 2) := dk_21 5 (dk_at dksL_law_41 18 rfl rfl)
theorem dL_law_1175 : decode cL_law 1175 = .ok (.iconst 1, 1) := dk_4 (dk_at dksL_law_41 20 rfl rfl)
theorem dL_law_1176 : decode cL_law 1176 = .ok (.iadd, 1) := dk_96 (dk_at dksL_law_41 21 rfl rfl)
theorem dL_law_1177 : decode cL_law 1177 = .ok (.iaload, 1) := dk_46 (dk_at dksL_law_41 22 rfl rfl)
theorem dL_law_1178 : decode cL_law 1178 = .ok (.aload_n 3, 1) := dk_45 (dk_at dksL_law_41 23 rfl rfl)
theorem dL_law_1179 : decode cL_law 1179 = .ok (.invokestatic 214, 3) := dk_184 0 214 (dk_at dksL_law_42 0 rfl rfl)
theorem dL_law_1182 : decode cL_law 1182 = .ok (.istore 6, 2) := dk_54 6 (dk_at dksL_law_42 3 rfl rfl)
theorem dL_law_1184 : decode cL_law 1184 = .ok (.aload_n 2, 1) := dk_44 (dk_at dksL_law_42 5 rfl rfl)
theorem dL_law_1185 : decode cL_law 1185 = .ok (.aload_n 0, 1) := dk_42 (dk_at dksL_law_42 6 rfl rfl)
theorem dL_law_1186 : decode cL_law 1186 = .ok (.iload 5, 2) := dk_21 5 (dk_at dksL_law_42 7 rfl rfl)
theorem dL_law_1188 : decode cL_law 1188 = .ok (.iconst 1, 1) := dk_4 (dk_at dksL_law_42 9 rfl rfl)
theorem dL_law_1189 : decode cL_law 1189 = .ok (.iadd, 1) := dk_96 (dk_at dksL_law_42 10 rfl rfl)
theorem dL_law_1190 : decode cL_law 1190 = .ok (.iaload, 1) := dk_46 (dk_at dksL_law_42 11 rfl rfl)
theorem dL_law_1191 : decode cL_law 1191 = .ok (.invokevirtual 216, 3) := dk_182 0 216 (dk_at dksL_law_42 12 rfl rfl)
theorem dL_law_1194 : decode cL_law 1194 = .ok (.istore 7, 2) := dk_54 7 (dk_at dksL_law_42 15 rfl rfl)
theorem dL_law_1196 : decode cL_law 1196 = .ok (.aload_n 2, 1) := dk_44 (dk_at dksL_law_42 17 rfl rfl)
theorem dL_law_1197 : decode cL_law 1197 = .ok (.invokevirtual 158, 3) := dk_182 0 158 (dk_at dksL_law_42 18 rfl rfl)
theorem dL_law_1200 : decode cL_law 1200 = .ok (.iload 6, 2) := dk_21 6 (dk_at dksL_law_42 21 rfl rfl)
theorem dL_law_1202 : decode cL_law 1202 = .ok (.if_icmp .eq 5, 3) := dk_159 0 5 (dk_at dksL_law_43 0 rfl rfl)
theorem dL_law_1205 : decode cL_law 1205 = .ok (.iconst 0, 1) := dk_3 (dk_at dksL_law_43 3 rfl rfl)
theorem dL_law_1206 : decode cL_law 1206 = .ok (.ireturn, 1) := dk_172 (dk_at dksL_law_43 4 rfl rfl)
theorem dL_law_1207 : decode cL_law 1207 = .ok (.iload 6, 2) := dk_21 6 (dk_at dksL_law_43 5 rfl rfl)
theorem dL_law_1209 : decode cL_law 1209 = .ok (.ifCond .ne 15, 3) := dk_154 0 15 (dk_at dksL_law_43 7 rfl rfl)
theorem dL_law_1212 : decode cL_law 1212 = .ok (.aload_n 3, 1) := dk_45 (dk_at dksL_law_43 10 rfl rfl)
theorem dL_law_1213 : decode cL_law 1213 = .ok (.iconst 0, 1) := dk_3 (dk_at dksL_law_43 11 rfl rfl)
theorem dL_law_1214 : decode cL_law 1214 = .ok (.laload, 1) := dk_47 (dk_at dksL_law_43 12 rfl rfl)
theorem dL_law_1215 : decode cL_law 1215 = .ok (.iload 7, 2) := dk_21 7 (dk_at dksL_law_43 13 rfl rfl)
theorem dL_law_1217 : decode cL_law 1217 = .ok (.i2l, 1) := dk_133 (dk_at dksL_law_43 15 rfl rfl)
theorem dL_law_1218 : decode cL_law 1218 = .ok (.lcmp, 1) := dk_148 (dk_at dksL_law_43 16 rfl rfl)
theorem dL_law_1219 : decode cL_law 1219 = .ok (.ifCond .eq 5, 3) := dk_153 0 5 (dk_at dksL_law_43 17 rfl rfl)
theorem dL_law_1222 : decode cL_law 1222 = .ok (.iconst 0, 1) := dk_3 (dk_at dksL_law_43 20 rfl rfl)
theorem dL_law_1223 : decode cL_law 1223 = .ok (.ireturn, 1) := dk_172 (dk_at dksL_law_43 21 rfl rfl)
theorem dL_law_1224 : decode cL_law 1224 = .ok (.goto 1564, 3) := dk_167 6 28 (dk_at dksL_law_44 0 rfl rfl)
theorem dL_law_1227 : decode cL_law 1227 = .ok (.aload_n 1, 1) := dk_43 (dk_at dksL_law_44 3 rfl rfl)
theorem dL_law_1228 : decode cL_law 1228 = .ok (.aload_n 0, 1) := dk_42 (dk_at dksL_law_44 4 rfl rfl)
theorem dL_law_1229 : decode cL_law 1229 = .ok (.iload 5, 2) := dk_21 5 (dk_at dksL_law_44 5 rfl rfl)
theorem dL_law_1231 : decode cL_law 1231 = .ok (.iconst 1, 1) := dk_4 (dk_at dksL_law_44 7 rfl rfl)
theorem dL_law_1232 : decode cL_law 1232 = .ok (.iadd, 1) := dk_96 (dk_at dksL_law_44 8 rfl rfl)
theorem dL_law_1233 : decode cL_law 1233 = .ok (.iaload, 1) := dk_46 (dk_at dksL_law_44 9 rfl rfl)
theorem dL_law_1234 : decode cL_law 1234 = .ok (.aload_n 3, 1) := dk_45 (dk_at dksL_law_44 10 rfl rfl)
theorem dL_law_1235 : decode cL_law 1235 = .ok (.invokestatic 217, 3) := dk_184 0 217 (dk_at dksL_law_44 11 rfl rfl)
theorem dL_law_1238 : decode cL_law 1238 = .ok (.istore 6, 2) := dk_54 6 (dk_at dksL_law_44 14 rfl rfl)
theorem dL_law_1240 : decode cL_law 1240 = .ok (.aload_n 2, 1) := dk_44 (dk_at dksL_law_44 16 rfl rfl)
theorem dL_law_1241 : decode cL_law 1241 = .ok (.aload_n 0, 1) := dk_42 (dk_at dksL_law_44 17 rfl rfl)
theorem dL_law_1242 : decode cL_law 1242 = .ok (.iload 5, 2) := dk_21 5 (dk_at dksL_law_44 18 rfl rfl)
theorem dL_law_1244 : decode cL_law 1244 = .ok (.iconst 1, 1) := dk_4 (dk_at dksL_law_44 20 rfl rfl)
theorem dL_law_1245 : decode cL_law 1245 = .ok (.iadd, 1) := dk_96 (dk_at dksL_law_44 21 rfl rfl)
theorem dL_law_1246 : decode cL_law 1246 = .ok (.iaload, 1) := dk_46 (dk_at dksL_law_44 22 rfl rfl)
theorem dL_law_1247 : decode cL_law 1247 = .ok (.invokevirtual 219, 3) := dk_182 0 219 (dk_at dksL_law_45 0 rfl rfl)
theorem dL_law_1250 : decode cL_law 1250 = .ok (.istore 7, 2) := dk_54 7 (dk_at dksL_law_45 3 rfl rfl)
theorem dL_law_1252 : decode cL_law 1252 = .ok (.aload_n 2, 1) := dk_44 (dk_at dksL_law_45 5 rfl rfl)
theorem dL_law_1253 : decode cL_law 1253 = .ok (.invokevirtual 158, 3) := dk_182 0 158 (dk_at dksL_law_45 6 rfl rfl)
theorem dL_law_1256 : decode cL_law 1256 = .ok (.iload 6, 2) := dk_21 6 (dk_at dksL_law_45 9 rfl rfl)
theorem dL_law_1258 : decode cL_law 1258 = .ok (.if_icmp .eq 5, 3) := dk_159 0 5 (dk_at dksL_law_45 11 rfl rfl)
theorem dL_law_1261 : decode cL_law 1261 = .ok (.iconst 0, 1) := dk_3 (dk_at dksL_law_45 14 rfl rfl)
theorem dL_law_1262 : decode cL_law 1262 = .ok (.ireturn, 1) := dk_172 (dk_at dksL_law_45 15 rfl rfl)
theorem dL_law_1263 : decode cL_law 1263 = .ok (.iload 6, 2) := dk_21 6 (dk_at dksL_law_45 16 rfl rfl)
theorem dL_law_1265 : decode cL_law 1265 = .ok (.ifCond .ne 15, 3) := dk_154 0 15 (dk_at dksL_law_45 18 rfl rfl)
theorem dL_law_1268 : decode cL_law 1268 = .ok (.aload_n 3, 1) := dk_45 (dk_at dksL_law_45 21 rfl rfl)
theorem dL_law_1269 : decode cL_law 1269 = .ok (.iconst 0, 1) := dk_3 (dk_at dksL_law_45 22 rfl rfl)
theorem dL_law_1270 : decode cL_law 1270 = .ok (.laload, 1) := dk_47 (dk_at dksL_law_45 23 rfl rfl)
theorem dL_law_1271 : decode cL_law 1271 = .ok (.iload 7, 2) := dk_21 7 (dk_at dksL_law_46 0 rfl rfl)
theorem dL_law_1273 : decode cL_law 1273 = .ok (.i2l, 1) := dk_133 (dk_at dksL_law_46 2 rfl rfl)
theorem dL_law_1274 : decode cL_law 1274 = .ok (.lcmp, 1) := dk_148 (dk_at dksL_law_46 3 rfl rfl)
theorem dL_law_1275 : decode cL_law 1275 = .ok (.ifCond .eq 5, 3) := dk_153 0 5 (dk_at dksL_law_46 4 rfl rfl)
theorem dL_law_1278 : decode cL_law 1278 = .ok (.iconst 0, 1) := dk_3 (dk_at dksL_law_46 7 rfl rfl)
theorem dL_law_1279 : decode cL_law 1279 = .ok (.ireturn, 1) := dk_172 (dk_at dksL_law_46 8 rfl rfl)
theorem dL_law_1280 : decode cL_law 1280 = .ok (.goto 1508, 3) := dk_167 5 228 (dk_at dksL_law_46 9 rfl rfl)
theorem dL_law_1283 : decode cL_law 1283 = .ok (.aload_n 1, 1) := dk_43 (dk_at dksL_law_46 12 rfl rfl)
theorem dL_law_1284 : decode cL_law 1284 = .ok (.aload_n 0, 1) := dk_42 (dk_at dksL_law_46 13 rfl rfl)
theorem dL_law_1285 : decode cL_law 1285 = .ok (.iload 5, 2) := dk_21 5 (dk_at dksL_law_46 14 rfl rfl)
theorem dL_law_1287 : decode cL_law 1287 = .ok (.iconst 1, 1) := dk_4 (dk_at dksL_law_46 16 rfl rfl)
theorem dL_law_1288 : decode cL_law 1288 = .ok (.iadd, 1) := dk_96 (dk_at dksL_law_46 17 rfl rfl)
theorem dL_law_1289 : decode cL_law 1289 = .ok (.iaload, 1) := dk_46 (dk_at dksL_law_46 18 rfl rfl)
theorem dL_law_1290 : decode cL_law 1290 = .ok (.aload_n 3, 1) := dk_45 (dk_at dksL_law_46 19 rfl rfl)
theorem dL_law_1291 : decode cL_law 1291 = .ok (.invokestatic 220, 3) := dk_184 0 220 (dk_at dksL_law_46 20 rfl rfl)
theorem dL_law_1294 : decode cL_law 1294 = .ok (.istore 6, 2) := dk_54 6 (dk_at dksL_law_47 0 rfl rfl)
theorem dL_law_1296 : decode cL_law 1296 = .ok (.aload_n 2, 1) := dk_44 (dk_at dksL_law_47 2 rfl rfl)
theorem dL_law_1297 : decode cL_law 1297 = .ok (.aload_n 0, 1) := dk_42 (dk_at dksL_law_47 3 rfl rfl)
theorem dL_law_1298 : decode cL_law 1298 = .ok (.iload 5, 2) := dk_21 5 (dk_at dksL_law_47 4 rfl rfl)
theorem dL_law_1300 : decode cL_law 1300 = .ok (.iconst 1, 1) := dk_4 (dk_at dksL_law_47 6 rfl rfl)
theorem dL_law_1301 : decode cL_law 1301 = .ok (.iadd, 1) := dk_96 (dk_at dksL_law_47 7 rfl rfl)
theorem dL_law_1302 : decode cL_law 1302 = .ok (.iaload, 1) := dk_46 (dk_at dksL_law_47 8 rfl rfl)
theorem dL_law_1303 : decode cL_law 1303 = .ok (.invokevirtual 222, 3) := dk_182 0 222 (dk_at dksL_law_47 9 rfl rfl)
theorem dL_law_1306 : decode cL_law 1306 = .ok (.istore 7, 2) := dk_54 7 (dk_at dksL_law_47 12 rfl rfl)
theorem dL_law_1308 : decode cL_law 1308 = .ok (.aload_n 2, 1) := dk_44 (dk_at dksL_law_47 14 rfl rfl)
theorem dL_law_1309 : decode cL_law 1309 = .ok (.invokevirtual 158, 3) := dk_182 0 158 (dk_at dksL_law_47 15 rfl rfl)
theorem dL_law_1312 : decode cL_law 1312 = .ok (.iload 6, 2) := dk_21 6 (dk_at dksL_law_47 18 rfl rfl)
theorem dL_law_1314 : decode cL_law 1314 = .ok (.if_icmp .eq 5, 3) := dk_159 0 5 (dk_at dksL_law_47 20 rfl rfl)
theorem dL_law_1317 : decode cL_law 1317 = .ok (.iconst 0, 1) := dk_3 (dk_at dksL_law_47 23 rfl rfl)
theorem dL_law_1318 : decode cL_law 1318 = .ok (.ireturn, 1) := dk_172 (dk_at dksL_law_48 0 rfl rfl)
theorem dL_law_1319 : decode cL_law 1319 = .ok (.iload 6, 2) := dk_21 6 (dk_at dksL_law_48 1 rfl rfl)
theorem dL_law_1321 : decode cL_law 1321 = .ok (.ifCond .ne 15, 3) := dk_154 0 15 (dk_at dksL_law_48 3 rfl rfl)
theorem dL_law_1324 : decode cL_law 1324 = .ok (.aload_n 3, 1) := dk_45 (dk_at dksL_law_48 6 rfl rfl)
theorem dL_law_1325 : decode cL_law 1325 = .ok (.iconst 0, 1) := dk_3 (dk_at dksL_law_48 7 rfl rfl)
theorem dL_law_1326 : decode cL_law 1326 = .ok (.laload, 1) := dk_47 (dk_at dksL_law_48 8 rfl rfl)
theorem dL_law_1327 : decode cL_law 1327 = .ok (.iload 7, 2) := dk_21 7 (dk_at dksL_law_48 9 rfl rfl)
theorem dL_law_1329 : decode cL_law 1329 = .ok (.i2l, 1) := dk_133 (dk_at dksL_law_48 11 rfl rfl)
theorem dL_law_1330 : decode cL_law 1330 = .ok (.lcmp, 1) := dk_148 (dk_at dksL_law_48 12 rfl rfl)
theorem dL_law_1331 : decode cL_law 1331 = .ok (.ifCond .eq 5, 3) := dk_153 0 5 (dk_at dksL_law_48 13 rfl rfl)
theorem dL_law_1334 : decode cL_law 1334 = .ok (.iconst 0, 1) := dk_3 (dk_at dksL_law_48 16 rfl rfl)
theorem dL_law_1335 : decode cL_law 1335 = .ok (.ireturn, 1) := dk_172 (dk_at dksL_law_48 17 rfl rfl)
theorem dL_law_1336 : decode cL_law 1336 = .ok (.goto 1452, 3) := dk_167 5 172 (dk_at dksL_law_48 18 rfl rfl)
theorem dL_law_1339 : decode cL_law 1339 = .ok (.aload_n 1, 1) := dk_43 (dk_at dksL_law_48 21 rfl rfl)
theorem dL_law_1340 : decode cL_law 1340 = .ok (.aload_n 0, 1) := dk_42 (dk_at dksL_law_48 22 rfl rfl)
theorem dL_law_1341 : decode cL_law 1341 = .ok (.iload 5, 2) := dk_21 5 (dk_at dksL_law_49 0 rfl rfl)
theorem dL_law_1343 : decode cL_law 1343 = .ok (.iconst 1, 1) := dk_4 (dk_at dksL_law_49 2 rfl rfl)
theorem dL_law_1344 : decode cL_law 1344 = .ok (.iadd, 1) := dk_96 (dk_at dksL_law_49 3 rfl rfl)
theorem dL_law_1345 : decode cL_law 1345 = .ok (.iaload, 1) := dk_46 (dk_at dksL_law_49 4 rfl rfl)
theorem dL_law_1346 : decode cL_law 1346 = .ok (.aload_n 0, 1) := dk_42 (dk_at dksL_law_49 5 rfl rfl)
theorem dL_law_1347 : decode cL_law 1347 = .ok (.iload 5, 2) := dk_21 5 (dk_at dksL_law_49 6 rfl rfl)
theorem dL_law_1349 : decode cL_law 1349 = .ok (.iconst 2, 1) := dk_5 (dk_at dksL_law_49 8 rfl rfl)
theorem dL_law_1350 : decode cL_law 1350 = .ok (.iadd, 1) := dk_96 (dk_at dksL_law_49 9 rfl rfl)
theorem dL_law_1351 : decode cL_law 1351 = .ok (.iaload, 1) := dk_46 (dk_at dksL_law_49 10 rfl rfl)
theorem dL_law_1352 : decode cL_law 1352 = .ok (.aload_n 3, 1) := dk_45 (dk_at dksL_law_49 11 rfl rfl)
theorem dL_law_1353 : decode cL_law 1353 = .ok (.invokestatic 223, 3) := dk_184 0 223 (dk_at dksL_law_49 12 rfl rfl)
theorem dL_law_1356 : decode cL_law 1356 = .ok (.istore 6, 2) := dk_54 6 (dk_at dksL_law_49 15 rfl rfl)
theorem dL_law_1358 : decode cL_law 1358 = .ok (.aload_n 2, 1) := dk_44 (dk_at dksL_law_49 17 rfl rfl)
theorem dL_law_1359 : decode cL_law 1359 = .ok (.aload_n 0, 1) := dk_42 (dk_at dksL_law_49 18 rfl rfl)
theorem dL_law_1360 : decode cL_law 1360 = .ok (.iload 5, 2) := dk_21 5 (dk_at dksL_law_49 19 rfl rfl)
theorem dL_law_1362 : decode cL_law 1362 = .ok (.iconst 1, 1) := dk_4 (dk_at dksL_law_49 21 rfl rfl)
theorem dL_law_1363 : decode cL_law 1363 = .ok (.iadd, 1) := dk_96 (dk_at dksL_law_49 22 rfl rfl)
theorem dL_law_1364 : decode cL_law 1364 = .ok (.iaload, 1) := dk_46 (dk_at dksL_law_49 23 rfl rfl)
theorem dL_law_1365 : decode cL_law 1365 = .ok (.aload_n 0, 1) := dk_42 (dk_at dksL_law_50 0 rfl rfl)
theorem dL_law_1366 : decode cL_law 1366 = .ok (.iload 5, 2) := dk_21 5 (dk_at dksL_law_50 1 rfl rfl)
theorem dL_law_1368 : decode cL_law 1368 = .ok (.iconst 2, 1) := dk_5 (dk_at dksL_law_50 3 rfl rfl)
theorem dL_law_1369 : decode cL_law 1369 = .ok (.iadd, 1) := dk_96 (dk_at dksL_law_50 4 rfl rfl)
theorem dL_law_1370 : decode cL_law 1370 = .ok (.iaload, 1) := dk_46 (dk_at dksL_law_50 5 rfl rfl)
theorem dL_law_1371 : decode cL_law 1371 = .ok (.invokevirtual 225, 3) := dk_182 0 225 (dk_at dksL_law_50 6 rfl rfl)
theorem dL_law_1374 : decode cL_law 1374 = .ok (.istore 7, 2) := dk_54 7 (dk_at dksL_law_50 9 rfl rfl)
theorem dL_law_1376 : decode cL_law 1376 = .ok (.aload_n 2, 1) := dk_44 (dk_at dksL_law_50 11 rfl rfl)
theorem dL_law_1377 : decode cL_law 1377 = .ok (.invokevirtual 158, 3) := dk_182 0 158 (dk_at dksL_law_50 12 rfl rfl)
theorem dL_law_1380 : decode cL_law 1380 = .ok (.iload 6, 2) := dk_21 6 (dk_at dksL_law_50 15 rfl rfl)
theorem dL_law_1382 : decode cL_law 1382 = .ok (.if_icmp .eq 5, 3) := dk_159 0 5 (dk_at dksL_law_50 17 rfl rfl)
theorem dL_law_1385 : decode cL_law 1385 = .ok (.iconst 0, 1) := dk_3 (dk_at dksL_law_50 20 rfl rfl)
theorem dL_law_1386 : decode cL_law 1386 = .ok (.ireturn, 1) := dk_172 (dk_at dksL_law_50 21 rfl rfl)
theorem dL_law_1387 : decode cL_law 1387 = .ok (.iload 6, 2) := dk_21 6 (dk_at dksL_law_50 22 rfl rfl)
theorem dL_law_1389 : decode cL_law 1389 = .ok (.ifCond .ne 15, 3) := dk_154 0 15 (dk_at dksL_law_51 0 rfl rfl)
theorem dL_law_1392 : decode cL_law 1392 = .ok (.aload_n 3, 1) := dk_45 (dk_at dksL_law_51 3 rfl rfl)
theorem dL_law_1393 : decode cL_law 1393 = .ok (.iconst 0, 1) := dk_3 (dk_at dksL_law_51 4 rfl rfl)
theorem dL_law_1394 : decode cL_law 1394 = .ok (.laload, 1) := dk_47 (dk_at dksL_law_51 5 rfl rfl)
theorem dL_law_1395 : decode cL_law 1395 = .ok (.iload 7, 2) := dk_21 7 (dk_at dksL_law_51 6 rfl rfl)
theorem dL_law_1397 : decode cL_law 1397 = .ok (.i2l, 1) := dk_133 (dk_at dksL_law_51 8 rfl rfl)
theorem dL_law_1398 : decode cL_law 1398 = .ok (.lcmp, 1) := dk_148 (dk_at dksL_law_51 9 rfl rfl)
theorem dL_law_1399 : decode cL_law 1399 = .ok (.ifCond .eq 5, 3) := dk_153 0 5 (dk_at dksL_law_51 10 rfl rfl)
theorem dL_law_1402 : decode cL_law 1402 = .ok (.iconst 0, 1) := dk_3 (dk_at dksL_law_51 13 rfl rfl)
theorem dL_law_1403 : decode cL_law 1403 = .ok (.ireturn, 1) := dk_172 (dk_at dksL_law_51 14 rfl rfl)
theorem dL_law_1404 : decode cL_law 1404 = .ok (.goto 1384, 3) := dk_167 5 104 (dk_at dksL_law_51 15 rfl rfl)
theorem dL_law_1407 : decode cL_law 1407 = .ok (.aload_n 1, 1) := dk_43 (dk_at dksL_law_51 18 rfl rfl)
theorem dL_law_1408 : decode cL_law 1408 = .ok (.aload_n 0, 1) := dk_42 (dk_at dksL_law_51 19 rfl rfl)
theorem dL_law_1409 : decode cL_law 1409 = .ok (.iload 5, 2) := dk_21 5 (dk_at dksL_law_51 20 rfl rfl)
theorem dL_law_1411 : decode cL_law 1411 = .ok (.iconst 1, 1) := dk_4 (dk_at dksL_law_51 22 rfl rfl)
theorem dL_law_1412 : decode cL_law 1412 = .ok (.iadd, 1) := dk_96 (dk_at dksL_law_51 23 rfl rfl)
theorem dL_law_1413 : decode cL_law 1413 = .ok (.iaload, 1) := dk_46 (dk_at dksL_law_52 0 rfl rfl)
theorem dL_law_1414 : decode cL_law 1414 = .ok (.aload_n 3, 1) := dk_45 (dk_at dksL_law_52 1 rfl rfl)
theorem dL_law_1415 : decode cL_law 1415 = .ok (.invokestatic 226, 3) := dk_184 0 226 (dk_at dksL_law_52 2 rfl rfl)
theorem dL_law_1418 : decode cL_law 1418 = .ok (.istore 6, 2) := dk_54 6 (dk_at dksL_law_52 5 rfl rfl)
theorem dL_law_1420 : decode cL_law 1420 = .ok (.aload_n 2, 1) := dk_44 (dk_at dksL_law_52 7 rfl rfl)
theorem dL_law_1421 : decode cL_law 1421 = .ok (.aload_n 0, 1) := dk_42 (dk_at dksL_law_52 8 rfl rfl)
theorem dL_law_1422 : decode cL_law 1422 = .ok (.iload 5, 2) := dk_21 5 (dk_at dksL_law_52 9 rfl rfl)
theorem dL_law_1424 : decode cL_law 1424 = .ok (.iconst 1, 1) := dk_4 (dk_at dksL_law_52 11 rfl rfl)
theorem dL_law_1425 : decode cL_law 1425 = .ok (.iadd, 1) := dk_96 (dk_at dksL_law_52 12 rfl rfl)
theorem dL_law_1426 : decode cL_law 1426 = .ok (.iaload, 1) := dk_46 (dk_at dksL_law_52 13 rfl rfl)
theorem dL_law_1427 : decode cL_law 1427 = .ok (.invokevirtual 228, 3) := dk_182 0 228 (dk_at dksL_law_52 14 rfl rfl)
theorem dL_law_1430 : decode cL_law 1430 = .ok (.istore 7, 2) := dk_54 7 (dk_at dksL_law_52 17 rfl rfl)
theorem dL_law_1432 : decode cL_law 1432 = .ok (.aload_n 2, 1) := dk_44 (dk_at dksL_law_52 19 rfl rfl)
theorem dL_law_1433 : decode cL_law 1433 = .ok (.invokevirtual 158, 3) := dk_182 0 158 (dk_at dksL_law_52 20 rfl rfl)
theorem dL_law_1436 : decode cL_law 1436 = .ok (.iload 6, 2) := dk_21 6 (dk_at dksL_law_53 0 rfl rfl)
theorem dL_law_1438 : decode cL_law 1438 = .ok (.if_icmp .eq 5, 3) := dk_159 0 5 (dk_at dksL_law_53 2 rfl rfl)
theorem dL_law_1441 : decode cL_law 1441 = .ok (.iconst 0, 1) := dk_3 (dk_at dksL_law_53 5 rfl rfl)
theorem dL_law_1442 : decode cL_law 1442 = .ok (.ireturn, 1) := dk_172 (dk_at dksL_law_53 6 rfl rfl)
theorem dL_law_1443 : decode cL_law 1443 = .ok (.iload 6, 2) := dk_21 6 (dk_at dksL_law_53 7 rfl rfl)
theorem dL_law_1445 : decode cL_law 1445 = .ok (.ifCond .ne 15, 3) := dk_154 0 15 (dk_at dksL_law_53 9 rfl rfl)
theorem dL_law_1448 : decode cL_law 1448 = .ok (.aload_n 3, 1) := dk_45 (dk_at dksL_law_53 12 rfl rfl)
theorem dL_law_1449 : decode cL_law 1449 = .ok (.iconst 0, 1) := dk_3 (dk_at dksL_law_53 13 rfl rfl)
theorem dL_law_1450 : decode cL_law 1450 = .ok (.laload, 1) := dk_47 (dk_at dksL_law_53 14 rfl rfl)
theorem dL_law_1451 : decode cL_law 1451 = .ok (.iload 7, 2) := dk_21 7 (dk_at dksL_law_53 15 rfl rfl)
theorem dL_law_1453 : decode cL_law 1453 = .ok (.i2l, 1) := dk_133 (dk_at dksL_law_53 17 rfl rfl)
theorem dL_law_1454 : decode cL_law 1454 = .ok (.lcmp, 1) := dk_148 (dk_at dksL_law_53 18 rfl rfl)
theorem dL_law_1455 : decode cL_law 1455 = .ok (.ifCond .eq 5, 3) := dk_153 0 5 (dk_at dksL_law_53 19 rfl rfl)
theorem dL_law_1458 : decode cL_law 1458 = .ok (.iconst 0, 1) := dk_3 (dk_at dksL_law_53 22 rfl rfl)
theorem dL_law_1459 : decode cL_law 1459 = .ok (.ireturn, 1) := dk_172 (dk_at dksL_law_53 23 rfl rfl)
theorem dL_law_1460 : decode cL_law 1460 = .ok (.goto 1328, 3) := dk_167 5 48 (dk_at dksL_law_54 0 rfl rfl)
theorem dL_law_1463 : decode cL_law 1463 = .ok (.aload_n 1, 1) := dk_43 (dk_at dksL_law_54 3 rfl rfl)
theorem dL_law_1464 : decode cL_law 1464 = .ok (.aload_n 0, 1) := dk_42 (dk_at dksL_law_54 4 rfl rfl)
theorem dL_law_1465 : decode cL_law 1465 = .ok (.iload 5, 2) := dk_21 5 (dk_at dksL_law_54 5 rfl rfl)
theorem dL_law_1467 : decode cL_law 1467 = .ok (.iconst 1, 1) := dk_4 (dk_at dksL_law_54 7 rfl rfl)
theorem dL_law_1468 : decode cL_law 1468 = .ok (.iadd, 1) := dk_96 (dk_at dksL_law_54 8 rfl rfl)
theorem dL_law_1469 : decode cL_law 1469 = .ok (.iaload, 1) := dk_46 (dk_at dksL_law_54 9 rfl rfl)
theorem dL_law_1470 : decode cL_law 1470 = .ok (.aload_n 3, 1) := dk_45 (dk_at dksL_law_54 10 rfl rfl)
theorem dL_law_1471 : decode cL_law 1471 = .ok (.invokestatic 229, 3) := dk_184 0 229 (dk_at dksL_law_54 11 rfl rfl)
theorem dL_law_1474 : decode cL_law 1474 = .ok (.istore 6, 2) := dk_54 6 (dk_at dksL_law_54 14 rfl rfl)
theorem dL_law_1476 : decode cL_law 1476 = .ok (.aload_n 2, 1) := dk_44 (dk_at dksL_law_54 16 rfl rfl)
theorem dL_law_1477 : decode cL_law 1477 = .ok (.aload_n 0, 1) := dk_42 (dk_at dksL_law_54 17 rfl rfl)
theorem dL_law_1478 : decode cL_law 1478 = .ok (.iload 5, 2) := dk_21 5 (dk_at dksL_law_54 18 rfl rfl)
theorem dL_law_1480 : decode cL_law 1480 = .ok (.iconst 1, 1) := dk_4 (dk_at dksL_law_54 20 rfl rfl)
theorem dL_law_1481 : decode cL_law 1481 = .ok (.iadd, 1) := dk_96 (dk_at dksL_law_54 21 rfl rfl)
theorem dL_law_1482 : decode cL_law 1482 = .ok (.iaload, 1) := dk_46 (dk_at dksL_law_54 22 rfl rfl)
theorem dL_law_1483 : decode cL_law 1483 = .ok (.invokevirtual 231, 3) := dk_182 0 231 (dk_at dksL_law_55 0 rfl rfl)
theorem dL_law_1486 : decode cL_law 1486 = .ok (.istore 7, 2) := dk_54 7 (dk_at dksL_law_55 3 rfl rfl)
theorem dL_law_1488 : decode cL_law 1488 = .ok (.aload_n 2, 1) := dk_44 (dk_at dksL_law_55 5 rfl rfl)
theorem dL_law_1489 : decode cL_law 1489 = .ok (.invokevirtual 158, 3) := dk_182 0 158 (dk_at dksL_law_55 6 rfl rfl)
theorem dL_law_1492 : decode cL_law 1492 = .ok (.iload 6, 2) := dk_21 6 (dk_at dksL_law_55 9 rfl rfl)
theorem dL_law_1494 : decode cL_law 1494 = .ok (.if_icmp .eq 5, 3) := dk_159 0 5 (dk_at dksL_law_55 11 rfl rfl)
theorem dL_law_1497 : decode cL_law 1497 = .ok (.iconst 0, 1) := dk_3 (dk_at dksL_law_55 14 rfl rfl)
theorem dL_law_1498 : decode cL_law 1498 = .ok (.ireturn, 1) := dk_172 (dk_at dksL_law_55 15 rfl rfl)
theorem dL_law_1499 : decode cL_law 1499 = .ok (.iload 6, 2) := dk_21 6 (dk_at dksL_law_55 16 rfl rfl)
theorem dL_law_1501 : decode cL_law 1501 = .ok (.ifCond .ne 15, 3) := dk_154 0 15 (dk_at dksL_law_55 18 rfl rfl)
theorem dL_law_1504 : decode cL_law 1504 = .ok (.aload_n 3, 1) := dk_45 (dk_at dksL_law_55 21 rfl rfl)
theorem dL_law_1505 : decode cL_law 1505 = .ok (.iconst 0, 1) := dk_3 (dk_at dksL_law_55 22 rfl rfl)
theorem dL_law_1506 : decode cL_law 1506 = .ok (.laload, 1) := dk_47 (dk_at dksL_law_55 23 rfl rfl)
theorem dL_law_1507 : decode cL_law 1507 = .ok (.iload 7, 2) := dk_21 7 (dk_at dksL_law_56 0 rfl rfl)
theorem dL_law_1509 : decode cL_law 1509 = .ok (.i2l, 1) := dk_133 (dk_at dksL_law_56 2 rfl rfl)
theorem dL_law_1510 : decode cL_law 1510 = .ok (.lcmp, 1) := dk_148 (dk_at dksL_law_56 3 rfl rfl)
theorem dL_law_1511 : decode cL_law 1511 = .ok (.ifCond .eq 5, 3) := dk_153 0 5 (dk_at dksL_law_56 4 rfl rfl)
theorem dL_law_1514 : decode cL_law 1514 = .ok (.iconst 0, 1) := dk_3 (dk_at dksL_law_56 7 rfl rfl)
theorem dL_law_1515 : decode cL_law 1515 = .ok (.ireturn, 1) := dk_172 (dk_at dksL_law_56 8 rfl rfl)
theorem dL_law_1516 : decode cL_law 1516 = .ok (.goto 1272, 3) := dk_167 4 248 (dk_at dksL_law_56 9 rfl rfl)
theorem dL_law_1519 : decode cL_law 1519 = .ok (.aload_n 1, 1) := dk_43 (dk_at dksL_law_56 12 rfl rfl)
theorem dL_law_1520 : decode cL_law 1520 = .ok (.aload_n 0, 1) := dk_42 (dk_at dksL_law_56 13 rfl rfl)
theorem dL_law_1521 : decode cL_law 1521 = .ok (.iload 5, 2) := dk_21 5 (dk_at dksL_law_56 14 rfl rfl)
theorem dL_law_1523 : decode cL_law 1523 = .ok (.iconst 1, 1) := dk_4 (dk_at dksL_law_56 16 rfl rfl)
theorem dL_law_1524 : decode cL_law 1524 = .ok (.iadd, 1) := dk_96 (dk_at dksL_law_56 17 rfl rfl)
theorem dL_law_1525 : decode cL_law 1525 = .ok (.iaload, 1) := dk_46 (dk_at dksL_law_56 18 rfl rfl)
theorem dL_law_1526 : decode cL_law 1526 = .ok (.aload 4, 2) := dk_25 4 (dk_at dksL_law_56 19 rfl rfl)
theorem dL_law_1528 : decode cL_law 1528 = .ok (.invokestatic 232, 3) := dk_184 0 232 (dk_at dksL_law_56 21 rfl rfl)
theorem dL_law_1531 : decode cL_law 1531 = .ok (.istore 6, 2) := dk_54 6 (dk_at dksL_law_57 0 rfl rfl)
theorem dL_law_1533 : decode cL_law 1533 = .ok (.aload_n 2, 1) := dk_44 (dk_at dksL_law_57 2 rfl rfl)
theorem dL_law_1534 : decode cL_law 1534 = .ok (.aload_n 0, 1) := dk_42 (dk_at dksL_law_57 3 rfl rfl)
theorem dL_law_1535 : decode cL_law 1535 = .ok (.iload 5, 2) := dk_21 5 (dk_at dksL_law_57 4 rfl rfl)
theorem dL_law_1537 : decode cL_law 1537 = .ok (.iconst 1, 1) := dk_4 (dk_at dksL_law_57 6 rfl rfl)
theorem dL_law_1538 : decode cL_law 1538 = .ok (.iadd, 1) := dk_96 (dk_at dksL_law_57 7 rfl rfl)
theorem dL_law_1539 : decode cL_law 1539 = .ok (.iaload, 1) := dk_46 (dk_at dksL_law_57 8 rfl rfl)
theorem dL_law_1540 : decode cL_law 1540 = .ok (.invokevirtual 235, 3) := dk_182 0 235 (dk_at dksL_law_57 9 rfl rfl)
theorem dL_law_1543 : decode cL_law 1543 = .ok (.fstore 7, 2) := dk_56 7 (dk_at dksL_law_57 12 rfl rfl)
theorem dL_law_1545 : decode cL_law 1545 = .ok (.aload_n 2, 1) := dk_44 (dk_at dksL_law_57 14 rfl rfl)
theorem dL_law_1546 : decode cL_law 1546 = .ok (.invokevirtual 158, 3) := dk_182 0 158 (dk_at dksL_law_57 15 rfl rfl)
theorem dL_law_1549 : decode cL_law 1549 = .ok (.iload 6, 2) := dk_21 6 (dk_at dksL_law_57 18 rfl rfl)
theorem dL_law_1551 : decode cL_law 1551 = .ok (.if_icmp .eq 5, 3) := dk_159 0 5 (dk_at dksL_law_57 20 rfl rfl)
theorem dL_law_1554 : decode cL_law 1554 = .ok (.iconst 0, 1) := dk_3 (dk_at dksL_law_57 23 rfl rfl)
theorem dL_law_1555 : decode cL_law 1555 = .ok (.ireturn, 1) := dk_172 (dk_at dksL_law_58 0 rfl rfl)
theorem dL_law_1556 : decode cL_law 1556 = .ok (.iload 6, 2) := dk_21 6 (dk_at dksL_law_58 1 rfl rfl)
theorem dL_law_1558 : decode cL_law 1558 = .ok (.ifCond .ne 36, 3) := dk_154 0 36 (dk_at dksL_law_58 3 rfl rfl)
theorem dL_law_1561 : decode cL_law 1561 = .ok (.aload 4, 2) := dk_25 4 (dk_at dksL_law_58 6 rfl rfl)
theorem dL_law_1563 : decode cL_law 1563 = .ok (.iconst 0, 1) := dk_3 (dk_at dksL_law_58 8 rfl rfl)
theorem dL_law_1564 : decode cL_law 1564 = .ok (.daload, 1) := dk_49 (dk_at dksL_law_58 9 rfl rfl)
theorem dL_law_1565 : decode cL_law 1565 = .ok (.fload 7, 2) := dk_23 7 (dk_at dksL_law_58 10 rfl rfl)
theorem dL_law_1567 : decode cL_law 1567 = .ok (.f2d, 1) := dk_141 (dk_at dksL_law_58 12 rfl rfl)
theorem dL_law_1568 : decode cL_law 1568 = .ok (.dcmp .l, 1) := dk_151 (dk_at dksL_law_58 13 rfl rfl)
theorem dL_law_1569 : decode cL_law 1569 = .ok (.ifCond .eq 25, 3) := dk_153 0 25 (dk_at dksL_law_58 14 rfl rfl)
theorem dL_law_1572 : decode cL_law 1572 = .ok (.aload 4, 2) := dk_25 4 (dk_at dksL_law_58 17 rfl rfl)
theorem dL_law_1574 : decode cL_law 1574 = .ok (.iconst 0, 1) := dk_3 (dk_at dksL_law_58 19 rfl rfl)
theorem dL_law_1575 : decode cL_law 1575 = .ok (.daload, 1) := dk_49 (dk_at dksL_law_58 20 rfl rfl)
theorem dL_law_1576 : decode cL_law 1576 = .ok (.aload 4, 2) := dk_25 4 (dk_at dksL_law_58 21 rfl rfl)
theorem dL_law_1578 : decode cL_law 1578 = .ok (.iconst 0, 1) := dk_3 (dk_at dksL_law_58 23 rfl rfl)
theorem dL_law_1579 : decode cL_law 1579 = .ok (.daload, 1) := dk_49 (dk_at dksL_law_59 0 rfl rfl)
theorem dL_law_1580 : decode cL_law 1580 = .ok (.dcmp .l, 1) := dk_151 (dk_at dksL_law_59 1 rfl rfl)
theorem dL_law_1581 : decode cL_law 1581 = .ok (.ifCond .eq 11, 3) := dk_153 0 11 (dk_at dksL_law_59 2 rfl rfl)
theorem dL_law_1584 : decode cL_law 1584 = .ok (.fload 7, 2) := dk_23 7 (dk_at dksL_law_59 5 rfl rfl)
theorem dL_law_1586 : decode cL_law 1586 = .ok (.fload 7, 2) := dk_23 7 (dk_at dksL_law_59 7 rfl rfl)
theorem dL_law_1588 : decode cL_law 1588 = .ok (.fcmp .l, 1) := dk_149 (dk_at dksL_law_59 9 rfl rfl)
theorem dL_law_1589 : decode cL_law 1589 = .ok (.ifCond .ne 5, 3) := dk_154 0 5 (dk_at dksL_law_59 10 rfl rfl)
theorem dL_law_1592 : decode cL_law 1592 = .ok (.iconst 0, 1) := dk_3 (dk_at dksL_law_59 13 rfl rfl)
theorem dL_law_1593 : decode cL_law 1593 = .ok (.ireturn, 1) := dk_172 (dk_at dksL_law_59 14 rfl rfl)
theorem dL_law_1594 : decode cL_law 1594 = .ok (.goto 1194, 3) := dk_167 4 170 (dk_at dksL_law_59 15 rfl rfl)
theorem dL_law_1597 : decode cL_law 1597 = .ok (.aload_n 1, 1) := dk_43 (dk_at dksL_law_59 18 rfl rfl)
theorem dL_law_1598 : decode cL_law 1598 = .ok (.invokevirtual 236, 3) := dk_182 0 236 (dk_at dksL_law_59 19 rfl rfl)
theorem dL_law_1601 : decode cL_law 1601 = .ok (.dstore 6, 2) := dk_57 6 (dk_at dksL_law_59 22 rfl rfl)
theorem dL_law_1603 : decode cL_law 1603 = .ok (.aload_n 2, 1) := dk_44 (dk_at dksL_law_60 0 rfl rfl)
theorem dL_law_1604 : decode cL_law 1604 = .ok (.invokevirtual 240, 3) := dk_182 0 240 (dk_at dksL_law_60 1 rfl rfl)
theorem dL_law_1607 : decode cL_law 1607 = .ok (.dstore 8, 2) := dk_57 8 (dk_at dksL_law_60 4 rfl rfl)
theorem dL_law_1609 : decode cL_law 1609 = .ok (.dload 6, 2) := dk_24 6 (dk_at dksL_law_60 6 rfl rfl)
theorem dL_law_1611 : decode cL_law 1611 = .ok (.dload 8, 2) := dk_24 8 (dk_at dksL_law_60 8 rfl rfl)
theorem dL_law_1613 : decode cL_law 1613 = .ok (.dcmp .l, 1) := dk_151 (dk_at dksL_law_60 10 rfl rfl)
theorem dL_law_1614 : decode cL_law 1614 = .ok (.ifCond .eq 21, 3) := dk_153 0 21 (dk_at dksL_law_60 11 rfl rfl)
theorem dL_law_1617 : decode cL_law 1617 = .ok (.dload 6, 2) := dk_24 6 (dk_at dksL_law_60 14 rfl rfl)
theorem dL_law_1619 : decode cL_law 1619 = .ok (.dload 6, 2) := dk_24 6 (dk_at dksL_law_60 16 rfl rfl)
theorem dL_law_1621 : decode cL_law 1621 = .ok (.dcmp .l, 1) := dk_151 (dk_at dksL_law_60 18 rfl rfl)
theorem dL_law_1622 : decode cL_law 1622 = .ok (.ifCond .eq 11, 3) := dk_153 0 11 (dk_at dksL_law_60 19 rfl rfl)
theorem dL_law_1625 : decode cL_law 1625 = .ok (.dload 8, 2) := dk_24 8 (dk_at dksL_law_60 22 rfl rfl)
theorem dL_law_1627 : decode cL_law 1627 = .ok (.dload 8, 2) := dk_24 8 (dk_at dksL_law_61 0 rfl rfl)
theorem dL_law_1629 : decode cL_law 1629 = .ok (.dcmp .l, 1) := dk_151 (dk_at dksL_law_61 2 rfl rfl)
theorem dL_law_1630 : decode cL_law 1630 = .ok (.ifCond .ne 5, 3) := dk_154 0 5 (dk_at dksL_law_61 3 rfl rfl)
theorem dL_law_1633 : decode cL_law 1633 = .ok (.iconst 0, 1) := dk_3 (dk_at dksL_law_61 6 rfl rfl)
theorem dL_law_1634 : decode cL_law 1634 = .ok (.ireturn, 1) := dk_172 (dk_at dksL_law_61 7 rfl rfl)
theorem dL_law_1635 : decode cL_law 1635 = .ok (.goto 1153, 3) := dk_167 4 129 (dk_at dksL_law_61 8 rfl rfl)
theorem dL_law_1638 : decode cL_law 1638 = .ok (.aload_n 1, 1) := dk_43 (dk_at dksL_law_61 11 rfl rfl)
theorem dL_law_1639 : decode cL_law 1639 = .ok (.aload_n 0, 1) := dk_42 (dk_at dksL_law_61 12 rfl rfl)
theorem dL_law_1640 : decode cL_law 1640 = .ok (.iload 5, 2) := dk_21 5 (dk_at dksL_law_61 13 rfl rfl)
theorem dL_law_1642 : decode cL_law 1642 = .ok (.iconst 1, 1) := dk_4 (dk_at dksL_law_61 15 rfl rfl)
theorem dL_law_1643 : decode cL_law 1643 = .ok (.iadd, 1) := dk_96 (dk_at dksL_law_61 16 rfl rfl)
theorem dL_law_1644 : decode cL_law 1644 = .ok (.iaload, 1) := dk_46 (dk_at dksL_law_61 17 rfl rfl)
theorem dL_law_1645 : decode cL_law 1645 = .ok (.aload_n 3, 1) := dk_45 (dk_at dksL_law_61 18 rfl rfl)
theorem dL_law_1646 : decode cL_law 1646 = .ok (.invokestatic 241, 3) := dk_184 0 241 (dk_at dksL_law_61 19 rfl rfl)
theorem dL_law_1649 : decode cL_law 1649 = .ok (.istore 6, 2) := dk_54 6 (dk_at dksL_law_61 22 rfl rfl)
theorem dL_law_1651 : decode cL_law 1651 = .ok (.aload_n 2, 1) := dk_44 (dk_at dksL_law_62 0 rfl rfl)
theorem dL_law_1652 : decode cL_law 1652 = .ok (.aload_n 0, 1) := dk_42 (dk_at dksL_law_62 1 rfl rfl)
theorem dL_law_1653 : decode cL_law 1653 = .ok (.iload 5, 2) := dk_21 5 (dk_at dksL_law_62 2 rfl rfl)
theorem dL_law_1655 : decode cL_law 1655 = .ok (.iconst 1, 1) := dk_4 (dk_at dksL_law_62 4 rfl rfl)
theorem dL_law_1656 : decode cL_law 1656 = .ok (.iadd, 1) := dk_96 (dk_at dksL_law_62 5 rfl rfl)
theorem dL_law_1657 : decode cL_law 1657 = .ok (.iaload, 1) := dk_46 (dk_at dksL_law_62 6 rfl rfl)
theorem dL_law_1658 : decode cL_law 1658 = .ok (.invokevirtual 243, 3) := dk_182 0 243 (dk_at dksL_law_62 7 rfl rfl)
theorem dL_law_1661 : decode cL_law 1661 = .ok (.istore 7, 2) := dk_54 7 (dk_at dksL_law_62 10 rfl rfl)
theorem dL_law_1663 : decode cL_law 1663 = .ok (.aload_n 2, 1) := dk_44 (dk_at dksL_law_62 12 rfl rfl)
theorem dL_law_1664 : decode cL_law 1664 = .ok (.invokevirtual 158, 3) := dk_182 0 158 (dk_at dksL_law_62 13 rfl rfl)
theorem dL_law_1667 : decode cL_law 1667 = .ok (.iload 6, 2) := dk_21 6 (dk_at dksL_law_62 16 rfl rfl)
theorem dL_law_1669 : decode cL_law 1669 = .ok (.if_icmp .eq 5, 3) := dk_159 0 5 (dk_at dksL_law_62 18 rfl rfl)
theorem dL_law_1672 : decode cL_law 1672 = .ok (.iconst 0, 1) := dk_3 (dk_at dksL_law_62 21 rfl rfl)
theorem dL_law_1673 : decode cL_law 1673 = .ok (.ireturn, 1) := dk_172 (dk_at dksL_law_62 22 rfl rfl)
theorem dL_law_1674 : decode cL_law 1674 = .ok (.iload 6, 2) := dk_21 6 (dk_at dksL_law_63 0 rfl rfl)
theorem dL_law_1676 : decode cL_law 1676 = .ok (.ifCond .ne 15, 3) := dk_154 0 15 (dk_at dksL_law_63 2 rfl rfl)
theorem dL_law_1679 : decode cL_law 1679 = .ok (.aload_n 3, 1) := dk_45 (dk_at dksL_law_63 5 rfl rfl)
theorem dL_law_1680 : decode cL_law 1680 = .ok (.iconst 0, 1) := dk_3 (dk_at dksL_law_63 6 rfl rfl)
theorem dL_law_1681 : decode cL_law 1681 = .ok (.laload, 1) := dk_47 (dk_at dksL_law_63 7 rfl rfl)
theorem dL_law_1682 : decode cL_law 1682 = .ok (.iload 7, 2) := dk_21 7 (dk_at dksL_law_63 8 rfl rfl)
theorem dL_law_1684 : decode cL_law 1684 = .ok (.i2l, 1) := dk_133 (dk_at dksL_law_63 10 rfl rfl)
theorem dL_law_1685 : decode cL_law 1685 = .ok (.lcmp, 1) := dk_148 (dk_at dksL_law_63 11 rfl rfl)
theorem dL_law_1686 : decode cL_law 1686 = .ok (.ifCond .eq 5, 3) := dk_153 0 5 (dk_at dksL_law_63 12 rfl rfl)
theorem dL_law_1689 : decode cL_law 1689 = .ok (.iconst 0, 1) := dk_3 (dk_at dksL_law_63 15 rfl rfl)
theorem dL_law_1690 : decode cL_law 1690 = .ok (.ireturn, 1) := dk_172 (dk_at dksL_law_63 16 rfl rfl)
theorem dL_law_1691 : decode cL_law 1691 = .ok (.goto 1097, 3) := dk_167 4 73 (dk_at dksL_law_63 17 rfl rfl)
theorem dL_law_1694 : decode cL_law 1694 = .ok (.aload_n 1, 1) := dk_43 (dk_at dksL_law_63 20 rfl rfl)
theorem dL_law_1695 : decode cL_law 1695 = .ok (.aload_n 0, 1) := dk_42 (dk_at dksL_law_63 21 rfl rfl)
theorem dL_law_1696 : decode cL_law 1696 = .ok (.iload 5, 2) := dk_21 5 (dk_at dksL_law_63 22 rfl rfl)
theorem dL_law_1698 : decode cL_law 1698 = .ok (.iconst 1, 1) := dk_4 (dk_at dksL_law_64 0 rfl rfl)
theorem dL_law_1699 : decode cL_law 1699 = .ok (.iadd, 1) := dk_96 (dk_at dksL_law_64 1 rfl rfl)
theorem dL_law_1700 : decode cL_law 1700 = .ok (.iaload, 1) := dk_46 (dk_at dksL_law_64 2 rfl rfl)
theorem dL_law_1701 : decode cL_law 1701 = .ok (.aload_n 3, 1) := dk_45 (dk_at dksL_law_64 3 rfl rfl)
theorem dL_law_1702 : decode cL_law 1702 = .ok (.invokestatic 244, 3) := dk_184 0 244 (dk_at dksL_law_64 4 rfl rfl)
theorem dL_law_1705 : decode cL_law 1705 = .ok (.istore 6, 2) := dk_54 6 (dk_at dksL_law_64 7 rfl rfl)
theorem dL_law_1707 : decode cL_law 1707 = .ok (.aload_n 2, 1) := dk_44 (dk_at dksL_law_64 9 rfl rfl)
theorem dL_law_1708 : decode cL_law 1708 = .ok (.aload_n 0, 1) := dk_42 (dk_at dksL_law_64 10 rfl rfl)
theorem dL_law_1709 : decode cL_law 1709 = .ok (.iload 5, 2) := dk_21 5 (dk_at dksL_law_64 11 rfl rfl)
theorem dL_law_1711 : decode cL_law 1711 = .ok (.iconst 1, 1) := dk_4 (dk_at dksL_law_64 13 rfl rfl)
theorem dL_law_1712 : decode cL_law 1712 = .ok (.iadd, 1) := dk_96 (dk_at dksL_law_64 14 rfl rfl)
theorem dL_law_1713 : decode cL_law 1713 = .ok (.iaload, 1) := dk_46 (dk_at dksL_law_64 15 rfl rfl)
theorem dL_law_1714 : decode cL_law 1714 = .ok (.invokevirtual 246, 3) := dk_182 0 246 (dk_at dksL_law_64 16 rfl rfl)
theorem dL_law_1717 : decode cL_law 1717 = .ok (.istore 7, 2) := dk_54 7 (dk_at dksL_law_64 19 rfl rfl)
theorem dL_law_1719 : decode cL_law 1719 = .ok (.aload_n 2, 1) := dk_44 (dk_at dksL_law_64 21 rfl rfl)
theorem dL_law_1720 : decode cL_law 1720 = .ok (.invokevirtual 158, 3) := dk_182 0 158 (dk_at dksL_law_65 0 rfl rfl)
theorem dL_law_1723 : decode cL_law 1723 = .ok (.iload 6, 2) := dk_21 6 (dk_at dksL_law_65 3 rfl rfl)
theorem dL_law_1725 : decode cL_law 1725 = .ok (.if_icmp .eq 5, 3) := dk_159 0 5 (dk_at dksL_law_65 5 rfl rfl)
theorem dL_law_1728 : decode cL_law 1728 = .ok (.iconst 0, 1) := dk_3 (dk_at dksL_law_65 8 rfl rfl)
theorem dL_law_1729 : decode cL_law 1729 = .ok (.ireturn, 1) := dk_172 (dk_at dksL_law_65 9 rfl rfl)
theorem dL_law_1730 : decode cL_law 1730 = .ok (.iload 6, 2) := dk_21 6 (dk_at dksL_law_65 10 rfl rfl)
theorem dL_law_1732 : decode cL_law 1732 = .ok (.ifCond .ne 15, 3) := dk_154 0 15 (dk_at dksL_law_65 12 rfl rfl)
theorem dL_law_1735 : decode cL_law 1735 = .ok (.aload_n 3, 1) := dk_45 (dk_at dksL_law_65 15 rfl rfl)
theorem dL_law_1736 : decode cL_law 1736 = .ok (.iconst 0, 1) := dk_3 (dk_at dksL_law_65 16 rfl rfl)
theorem dL_law_1737 : decode cL_law 1737 = .ok (.laload, 1) := dk_47 (dk_at dksL_law_65 17 rfl rfl)
theorem dL_law_1738 : decode cL_law 1738 = .ok (.iload 7, 2) := dk_21 7 (dk_at dksL_law_65 18 rfl rfl)
theorem dL_law_1740 : decode cL_law 1740 = .ok (.i2l, 1) := dk_133 (dk_at dksL_law_65 20 rfl rfl)
theorem dL_law_1741 : decode cL_law 1741 = .ok (.lcmp, 1) := dk_148 (dk_at dksL_law_65 21 rfl rfl)
theorem dL_law_1742 : decode cL_law 1742 = .ok (.ifCond .eq 5, 3) := dk_153 0 5 (dk_at dksL_law_66 0 rfl rfl)
theorem dL_law_1745 : decode cL_law 1745 = .ok (.iconst 0, 1) := dk_3 (dk_at dksL_law_66 3 rfl rfl)
theorem dL_law_1746 : decode cL_law 1746 = .ok (.ireturn, 1) := dk_172 (dk_at dksL_law_66 4 rfl rfl)
theorem dL_law_1747 : decode cL_law 1747 = .ok (.goto 1041, 3) := dk_167 4 17 (dk_at dksL_law_66 5 rfl rfl)
theorem dL_law_1750 : decode cL_law 1750 = .ok (.aload_n 1, 1) := dk_43 (dk_at dksL_law_66 8 rfl rfl)
theorem dL_law_1751 : decode cL_law 1751 = .ok (.aload_n 0, 1) := dk_42 (dk_at dksL_law_66 9 rfl rfl)
theorem dL_law_1752 : decode cL_law 1752 = .ok (.iload 5, 2) := dk_21 5 (dk_at dksL_law_66 10 rfl rfl)
theorem dL_law_1754 : decode cL_law 1754 = .ok (.iconst 1, 1) := dk_4 (dk_at dksL_law_66 12 rfl rfl)
theorem dL_law_1755 : decode cL_law 1755 = .ok (.iadd, 1) := dk_96 (dk_at dksL_law_66 13 rfl rfl)
theorem dL_law_1756 : decode cL_law 1756 = .ok (.iaload, 1) := dk_46 (dk_at dksL_law_66 14 rfl rfl)
theorem dL_law_1757 : decode cL_law 1757 = .ok (.aload_n 3, 1) := dk_45 (dk_at dksL_law_66 15 rfl rfl)
theorem dL_law_1758 : decode cL_law 1758 = .ok (.invokestatic 247, 3) := dk_184 0 247 (dk_at dksL_law_66 16 rfl rfl)
theorem dL_law_1761 : decode cL_law 1761 = .ok (.istore 6, 2) := dk_54 6 (dk_at dksL_law_66 19 rfl rfl)
theorem dL_law_1763 : decode cL_law 1763 = .ok (.aload_n 2, 1) := dk_44 (dk_at dksL_law_66 21 rfl rfl)
theorem dL_law_1764 : decode cL_law 1764 = .ok (.aload_n 0, 1) := dk_42 (dk_at dksL_law_66 22 rfl rfl)
theorem dL_law_1765 : decode cL_law 1765 = .ok (.iload 5, 2) := dk_21 5 (dk_at dksL_law_67 0 rfl rfl)
theorem dL_law_1767 : decode cL_law 1767 = .ok (.iconst 1, 1) := dk_4 (dk_at dksL_law_67 2 rfl rfl)
theorem dL_law_1768 : decode cL_law 1768 = .ok (.iadd, 1) := dk_96 (dk_at dksL_law_67 3 rfl rfl)
theorem dL_law_1769 : decode cL_law 1769 = .ok (.iaload, 1) := dk_46 (dk_at dksL_law_67 4 rfl rfl)
theorem dL_law_1770 : decode cL_law 1770 = .ok (.invokevirtual 249, 3) := dk_182 0 249 (dk_at dksL_law_67 5 rfl rfl)
theorem dL_law_1773 : decode cL_law 1773 = .ok (.istore 7, 2) := dk_54 7 (dk_at dksL_law_67 8 rfl rfl)
theorem dL_law_1775 : decode cL_law 1775 = .ok (.aload_n 2, 1) := dk_44 (dk_at dksL_law_67 10 rfl rfl)
theorem dL_law_1776 : decode cL_law 1776 = .ok (.invokevirtual 158, 3) := dk_182 0 158 (dk_at dksL_law_67 11 rfl rfl)
theorem dL_law_1779 : decode cL_law 1779 = .ok (.iload 6, 2) := dk_21 6 (dk_at dksL_law_67 14 rfl rfl)
theorem dL_law_1781 : decode cL_law 1781 = .ok (.if_icmp .eq 5, 3) := dk_159 0 5 (dk_at dksL_law_67 16 rfl rfl)
theorem dL_law_1784 : decode cL_law 1784 = .ok (.iconst 0, 1) := dk_3 (dk_at dksL_law_67 19 rfl rfl)
theorem dL_law_1785 : decode cL_law 1785 = .ok (.ireturn, 1) := dk_172 (dk_at dksL_law_67 20 rfl rfl)
theorem dL_law_1786 : decode cL_law 1786 = .ok (.iload 6, 2) := dk_21 6 (dk_at dksL_law_67 21 rfl rfl)
theorem dL_law_1788 : decode cL_law 1788 = .ok (.ifCond .ne 15, 3) := dk_154 0 15 (dk_at dksL_law_68 0 rfl rfl)
theorem dL_law_1791 : decode cL_law 1791 = .ok (.aload_n 3, 1) := dk_45 (dk_at dksL_law_68 3 rfl rfl)
theorem dL_law_1792 : decode cL_law 1792 = .ok (.iconst 0, 1) := dk_3 (dk_at dksL_law_68 4 rfl rfl)
theorem dL_law_1793 : decode cL_law 1793 = .ok (.laload, 1) := dk_47 (dk_at dksL_law_68 5 rfl rfl)
theorem dL_law_1794 : decode cL_law 1794 = .ok (.iload 7, 2) := dk_21 7 (dk_at dksL_law_68 6 rfl rfl)
theorem dL_law_1796 : decode cL_law 1796 = .ok (.i2l, 1) := dk_133 (dk_at dksL_law_68 8 rfl rfl)
theorem dL_law_1797 : decode cL_law 1797 = .ok (.lcmp, 1) := dk_148 (dk_at dksL_law_68 9 rfl rfl)
theorem dL_law_1798 : decode cL_law 1798 = .ok (.ifCond .eq 5, 3) := dk_153 0 5 (dk_at dksL_law_68 10 rfl rfl)
theorem dL_law_1801 : decode cL_law 1801 = .ok (.iconst 0, 1) := dk_3 (dk_at dksL_law_68 13 rfl rfl)
theorem dL_law_1802 : decode cL_law 1802 = .ok (.ireturn, 1) := dk_172 (dk_at dksL_law_68 14 rfl rfl)
theorem dL_law_1803 : decode cL_law 1803 = .ok (.goto 985, 3) := dk_167 3 217 (dk_at dksL_law_68 15 rfl rfl)
theorem dL_law_1806 : decode cL_law 1806 = .ok (.aload_n 1, 1) := dk_43 (dk_at dksL_law_68 18 rfl rfl)
theorem dL_law_1807 : decode cL_law 1807 = .ok (.aload_n 0, 1) := dk_42 (dk_at dksL_law_68 19 rfl rfl)
theorem dL_law_1808 : decode cL_law 1808 = .ok (.iload 5, 2) := dk_21 5 (dk_at dksL_law_68 20 rfl rfl)
theorem dL_law_1810 : decode cL_law 1810 = .ok (.iconst 1, 1) := dk_4 (dk_at dksL_law_68 22 rfl rfl)
theorem dL_law_1811 : decode cL_law 1811 = .ok (.iadd, 1) := dk_96 (dk_at dksL_law_68 23 rfl rfl)
theorem dL_law_1812 : decode cL_law 1812 = .ok (.iaload, 1) := dk_46 (dk_at dksL_law_69 0 rfl rfl)
theorem dL_law_1813 : decode cL_law 1813 = .ok (.aload_n 3, 1) := dk_45 (dk_at dksL_law_69 1 rfl rfl)
theorem dL_law_1814 : decode cL_law 1814 = .ok (.invokestatic 250, 3) := dk_184 0 250 (dk_at dksL_law_69 2 rfl rfl)
theorem dL_law_1817 : decode cL_law 1817 = .ok (.istore 6, 2) := dk_54 6 (dk_at dksL_law_69 5 rfl rfl)
theorem dL_law_1819 : decode cL_law 1819 = .ok (.aload_n 2, 1) := dk_44 (dk_at dksL_law_69 7 rfl rfl)
theorem dL_law_1820 : decode cL_law 1820 = .ok (.aload_n 0, 1) := dk_42 (dk_at dksL_law_69 8 rfl rfl)
theorem dL_law_1821 : decode cL_law 1821 = .ok (.iload 5, 2) := dk_21 5 (dk_at dksL_law_69 9 rfl rfl)
theorem dL_law_1823 : decode cL_law 1823 = .ok (.iconst 1, 1) := dk_4 (dk_at dksL_law_69 11 rfl rfl)
theorem dL_law_1824 : decode cL_law 1824 = .ok (.iadd, 1) := dk_96 (dk_at dksL_law_69 12 rfl rfl)
theorem dL_law_1825 : decode cL_law 1825 = .ok (.iaload, 1) := dk_46 (dk_at dksL_law_69 13 rfl rfl)
theorem dL_law_1826 : decode cL_law 1826 = .ok (.invokevirtual 252, 3) := dk_182 0 252 (dk_at dksL_law_69 14 rfl rfl)
theorem dL_law_1829 : decode cL_law 1829 = .ok (.istore 7, 2) := dk_54 7 (dk_at dksL_law_69 17 rfl rfl)
theorem dL_law_1831 : decode cL_law 1831 = .ok (.aload_n 2, 1) := dk_44 (dk_at dksL_law_69 19 rfl rfl)
theorem dL_law_1832 : decode cL_law 1832 = .ok (.invokevirtual 158, 3) := dk_182 0 158 (dk_at dksL_law_69 20 rfl rfl)
theorem dL_law_1835 : decode cL_law 1835 = .ok (.iload 6, 2) := dk_21 6 (dk_at dksL_law_70 0 rfl rfl)
theorem dL_law_1837 : decode cL_law 1837 = .ok (.if_icmp .eq 5, 3) := dk_159 0 5 (dk_at dksL_law_70 2 rfl rfl)
theorem dL_law_1840 : decode cL_law 1840 = .ok (.iconst 0, 1) := dk_3 (dk_at dksL_law_70 5 rfl rfl)
theorem dL_law_1841 : decode cL_law 1841 = .ok (.ireturn, 1) := dk_172 (dk_at dksL_law_70 6 rfl rfl)
theorem dL_law_1842 : decode cL_law 1842 = .ok (.iload 6, 2) := dk_21 6 (dk_at dksL_law_70 7 rfl rfl)
theorem dL_law_1844 : decode cL_law 1844 = .ok (.ifCond .ne 15, 3) := dk_154 0 15 (dk_at dksL_law_70 9 rfl rfl)
theorem dL_law_1847 : decode cL_law 1847 = .ok (.aload_n 3, 1) := dk_45 (dk_at dksL_law_70 12 rfl rfl)
theorem dL_law_1848 : decode cL_law 1848 = .ok (.iconst 0, 1) := dk_3 (dk_at dksL_law_70 13 rfl rfl)
theorem dL_law_1849 : decode cL_law 1849 = .ok (.laload, 1) := dk_47 (dk_at dksL_law_70 14 rfl rfl)
theorem dL_law_1850 : decode cL_law 1850 = .ok (.iload 7, 2) := dk_21 7 (dk_at dksL_law_70 15 rfl rfl)
theorem dL_law_1852 : decode cL_law 1852 = .ok (.i2l, 1) := dk_133 (dk_at dksL_law_70 17 rfl rfl)
theorem dL_law_1853 : decode cL_law 1853 = .ok (.lcmp, 1) := dk_148 (dk_at dksL_law_70 18 rfl rfl)
theorem dL_law_1854 : decode cL_law 1854 = .ok (.ifCond .eq 5, 3) := dk_153 0 5 (dk_at dksL_law_70 19 rfl rfl)
theorem dL_law_1857 : decode cL_law 1857 = .ok (.iconst 0, 1) := dk_3 (dk_at dksL_law_70 22 rfl rfl)
theorem dL_law_1858 : decode cL_law 1858 = .ok (.ireturn, 1) := dk_172 (dk_at dksL_law_70 23 rfl rfl)
theorem dL_law_1859 : decode cL_law 1859 = .ok (.goto 929, 3) := dk_167 3 161 (dk_at dksL_law_71 0 rfl rfl)
theorem dL_law_1862 : decode cL_law 1862 = .ok (.aload_n 1, 1) := dk_43 (dk_at dksL_law_71 3 rfl rfl)
theorem dL_law_1863 : decode cL_law 1863 = .ok (.aload_n 0, 1) := dk_42 (dk_at dksL_law_71 4 rfl rfl)
theorem dL_law_1864 : decode cL_law 1864 = .ok (.iload 5, 2) := dk_21 5 (dk_at dksL_law_71 5 rfl rfl)
theorem dL_law_1866 : decode cL_law 1866 = .ok (.iconst 1, 1) := dk_4 (dk_at dksL_law_71 7 rfl rfl)
theorem dL_law_1867 : decode cL_law 1867 = .ok (.iadd, 1) := dk_96 (dk_at dksL_law_71 8 rfl rfl)
theorem dL_law_1868 : decode cL_law 1868 = .ok (.iaload, 1) := dk_46 (dk_at dksL_law_71 9 rfl rfl)
theorem dL_law_1869 : decode cL_law 1869 = .ok (.aload_n 3, 1) := dk_45 (dk_at dksL_law_71 10 rfl rfl)
theorem dL_law_1870 : decode cL_law 1870 = .ok (.invokestatic 253, 3) := dk_184 0 253 (dk_at dksL_law_71 11 rfl rfl)
theorem dL_law_1873 : decode cL_law 1873 = .ok (.istore 6, 2) := dk_54 6 (dk_at dksL_law_71 14 rfl rfl)
theorem dL_law_1875 : decode cL_law 1875 = .ok (.aload_n 2, 1) := dk_44 (dk_at dksL_law_71 16 rfl rfl)
theorem dL_law_1876 : decode cL_law 1876 = .ok (.aload_n 0, 1) := dk_42 (dk_at dksL_law_71 17 rfl rfl)
theorem dL_law_1877 : decode cL_law 1877 = .ok (.iload 5, 2) := dk_21 5 (dk_at dksL_law_71 18 rfl rfl)
theorem dL_law_1879 : decode cL_law 1879 = .ok (.iconst 1, 1) := dk_4 (dk_at dksL_law_71 20 rfl rfl)
theorem dL_law_1880 : decode cL_law 1880 = .ok (.iadd, 1) := dk_96 (dk_at dksL_law_71 21 rfl rfl)
theorem dL_law_1881 : decode cL_law 1881 = .ok (.iaload, 1) := dk_46 (dk_at dksL_law_71 22 rfl rfl)
theorem dL_law_1882 : decode cL_law 1882 = .ok (.invokevirtual 255, 3) := dk_182 0 255 (dk_at dksL_law_72 0 rfl rfl)
theorem dL_law_1885 : decode cL_law 1885 = .ok (.istore 7, 2) := dk_54 7 (dk_at dksL_law_72 3 rfl rfl)
theorem dL_law_1887 : decode cL_law 1887 = .ok (.aload_n 2, 1) := dk_44 (dk_at dksL_law_72 5 rfl rfl)
theorem dL_law_1888 : decode cL_law 1888 = .ok (.invokevirtual 158, 3) := dk_182 0 158 (dk_at dksL_law_72 6 rfl rfl)
theorem dL_law_1891 : decode cL_law 1891 = .ok (.iload 6, 2) := dk_21 6 (dk_at dksL_law_72 9 rfl rfl)
theorem dL_law_1893 : decode cL_law 1893 = .ok (.if_icmp .eq 5, 3) := dk_159 0 5 (dk_at dksL_law_72 11 rfl rfl)
theorem dL_law_1896 : decode cL_law 1896 = .ok (.iconst 0, 1) := dk_3 (dk_at dksL_law_72 14 rfl rfl)
theorem dL_law_1897 : decode cL_law 1897 = .ok (.ireturn, 1) := dk_172 (dk_at dksL_law_72 15 rfl rfl)
theorem dL_law_1898 : decode cL_law 1898 = .ok (.iload 6, 2) := dk_21 6 (dk_at dksL_law_72 16 rfl rfl)
theorem dL_law_1900 : decode cL_law 1900 = .ok (.ifCond .ne 15, 3) := dk_154 0 15 (dk_at dksL_law_72 18 rfl rfl)
theorem dL_law_1903 : decode cL_law 1903 = .ok (.aload_n 3, 1) := dk_45 (dk_at dksL_law_72 21 rfl rfl)
theorem dL_law_1904 : decode cL_law 1904 = .ok (.iconst 0, 1) := dk_3 (dk_at dksL_law_72 22 rfl rfl)
theorem dL_law_1905 : decode cL_law 1905 = .ok (.laload, 1) := dk_47 (dk_at dksL_law_72 23 rfl rfl)
theorem dL_law_1906 : decode cL_law 1906 = .ok (.iload 7, 2) := dk_21 7 (dk_at dksL_law_73 0 rfl rfl)
theorem dL_law_1908 : decode cL_law 1908 = .ok (.i2l, 1) := dk_133 (dk_at dksL_law_73 2 rfl rfl)
theorem dL_law_1909 : decode cL_law 1909 = .ok (.lcmp, 1) := dk_148 (dk_at dksL_law_73 3 rfl rfl)
theorem dL_law_1910 : decode cL_law 1910 = .ok (.ifCond .eq 5, 3) := dk_153 0 5 (dk_at dksL_law_73 4 rfl rfl)
theorem dL_law_1913 : decode cL_law 1913 = .ok (.iconst 0, 1) := dk_3 (dk_at dksL_law_73 7 rfl rfl)
theorem dL_law_1914 : decode cL_law 1914 = .ok (.ireturn, 1) := dk_172 (dk_at dksL_law_73 8 rfl rfl)
theorem dL_law_1915 : decode cL_law 1915 = .ok (.goto 873, 3) := dk_167 3 105 (dk_at dksL_law_73 9 rfl rfl)
theorem dL_law_1918 : decode cL_law 1918 = .ok (.aload_n 1, 1) := dk_43 (dk_at dksL_law_73 12 rfl rfl)
theorem dL_law_1919 : decode cL_law 1919 = .ok (.invokevirtual 256, 3) := dk_182 1 0 (dk_at dksL_law_73 13 rfl rfl)
theorem dL_law_1922 : decode cL_law 1922 = .ok (.aload_n 2, 1) := dk_44 (dk_at dksL_law_73 16 rfl rfl)
theorem dL_law_1923 : decode cL_law 1923 = .ok (.invokevirtual 259, 3) := dk_182 1 3 (dk_at dksL_law_73 17 rfl rfl)
theorem dL_law_1926 : decode cL_law 1926 = .ok (.if_icmp .eq 862, 3) := dk_159 3 94 (dk_at dksL_law_73 20 rfl rfl)
theorem dL_law_1929 : decode cL_law 1929 = .ok (.iconst 0, 1) := dk_3 (dk_at dksL_law_73 23 rfl rfl)
theorem dL_law_1930 : decode cL_law 1930 = .ok (.ireturn, 1) := dk_172 (dk_at dksL_law_74 0 rfl rfl)
theorem dL_law_1931 : decode cL_law 1931 = .ok (.aload_n 1, 1) := dk_43 (dk_at dksL_law_74 1 rfl rfl)
theorem dL_law_1932 : decode cL_law 1932 = .ok (.aload_n 0, 1) := dk_42 (dk_at dksL_law_74 2 rfl rfl)
theorem dL_law_1933 : decode cL_law 1933 = .ok (.iload 5, 2) := dk_21 5 (dk_at dksL_law_74 3 rfl rfl)
theorem dL_law_1935 : decode cL_law 1935 = .ok (.iconst 1, 1) := dk_4 (dk_at dksL_law_74 5 rfl rfl)
theorem dL_law_1936 : decode cL_law 1936 = .ok (.iadd, 1) := dk_96 (dk_at dksL_law_74 6 rfl rfl)
theorem dL_law_1937 : decode cL_law 1937 = .ok (.iaload, 1) := dk_46 (dk_at dksL_law_74 7 rfl rfl)
theorem dL_law_1938 : decode cL_law 1938 = .ok (.aload_n 3, 1) := dk_45 (dk_at dksL_law_74 8 rfl rfl)
theorem dL_law_1939 : decode cL_law 1939 = .ok (.invokestatic 260, 3) := dk_184 1 4 (dk_at dksL_law_74 9 rfl rfl)
theorem dL_law_1942 : decode cL_law 1942 = .ok (.istore 6, 2) := dk_54 6 (dk_at dksL_law_74 12 rfl rfl)
theorem dL_law_1944 : decode cL_law 1944 = .ok (.aload_n 2, 1) := dk_44 (dk_at dksL_law_74 14 rfl rfl)
theorem dL_law_1945 : decode cL_law 1945 = .ok (.aload_n 0, 1) := dk_42 (dk_at dksL_law_74 15 rfl rfl)
theorem dL_law_1946 : decode cL_law 1946 = .ok (.iload 5, 2) := dk_21 5 (dk_at dksL_law_74 16 rfl rfl)
theorem dL_law_1948 : decode cL_law 1948 = .ok (.iconst 1, 1) := dk_4 (dk_at dksL_law_74 18 rfl rfl)
theorem dL_law_1949 : decode cL_law 1949 = .ok (.iadd, 1) := dk_96 (dk_at dksL_law_74 19 rfl rfl)
theorem dL_law_1950 : decode cL_law 1950 = .ok (.iaload, 1) := dk_46 (dk_at dksL_law_74 20 rfl rfl)
theorem dL_law_1951 : decode cL_law 1951 = .ok (.invokevirtual 262, 3) := dk_182 1 6 (dk_at dksL_law_74 21 rfl rfl)
theorem dL_law_1954 : decode cL_law 1954 = .ok (.istore 7, 2) := dk_54 7 (dk_at dksL_law_75 0 rfl rfl)
theorem dL_law_1956 : decode cL_law 1956 = .ok (.aload_n 2, 1) := dk_44 (dk_at dksL_law_75 2 rfl rfl)
theorem dL_law_1957 : decode cL_law 1957 = .ok (.invokevirtual 158, 3) := dk_182 0 158 (dk_at dksL_law_75 3 rfl rfl)
theorem dL_law_1960 : decode cL_law 1960 = .ok (.iload 6, 2) := dk_21 6 (dk_at dksL_law_75 6 rfl rfl)
theorem dL_law_1962 : decode cL_law 1962 = .ok (.if_icmp .eq 5, 3) := dk_159 0 5 (dk_at dksL_law_75 8 rfl rfl)
theorem dL_law_1965 : decode cL_law 1965 = .ok (.iconst 0, 1) := dk_3 (dk_at dksL_law_75 11 rfl rfl)
theorem dL_law_1966 : decode cL_law 1966 = .ok (.ireturn, 1) := dk_172 (dk_at dksL_law_75 12 rfl rfl)
theorem dL_law_1967 : decode cL_law 1967 = .ok (.iload 6, 2) := dk_21 6 (dk_at dksL_law_75 13 rfl rfl)
theorem dL_law_1969 : decode cL_law 1969 = .ok (.ifCond .ne 15, 3) := dk_154 0 15 (dk_at dksL_law_75 15 rfl rfl)
theorem dL_law_1972 : decode cL_law 1972 = .ok (.aload_n 3, 1) := dk_45 (dk_at dksL_law_75 18 rfl rfl)
theorem dL_law_1973 : decode cL_law 1973 = .ok (.iconst 0, 1) := dk_3 (dk_at dksL_law_75 19 rfl rfl)
theorem dL_law_1974 : decode cL_law 1974 = .ok (.laload, 1) := dk_47 (dk_at dksL_law_75 20 rfl rfl)
theorem dL_law_1975 : decode cL_law 1975 = .ok (.iload 7, 2) := dk_21 7 (dk_at dksL_law_75 21 rfl rfl)
theorem dL_law_1977 : decode cL_law 1977 = .ok (.i2l, 1) := dk_133 (dk_at dksL_law_75 23 rfl rfl)
theorem dL_law_1978 : decode cL_law 1978 = .ok (.lcmp, 1) := dk_148 (dk_at dksL_law_76 0 rfl rfl)
theorem dL_law_1979 : decode cL_law 1979 = .ok (.ifCond .eq 5, 3) := dk_153 0 5 (dk_at dksL_law_76 1 rfl rfl)
theorem dL_law_1982 : decode cL_law 1982 = .ok (.iconst 0, 1) := dk_3 (dk_at dksL_law_76 4 rfl rfl)
theorem dL_law_1983 : decode cL_law 1983 = .ok (.ireturn, 1) := dk_172 (dk_at dksL_law_76 5 rfl rfl)
theorem dL_law_1984 : decode cL_law 1984 = .ok (.goto 804, 3) := dk_167 3 36 (dk_at dksL_law_76 6 rfl rfl)
theorem dL_law_1987 : decode cL_law 1987 = .ok (.aload_n 1, 1) := dk_43 (dk_at dksL_law_76 9 rfl rfl)
theorem dL_law_1988 : decode cL_law 1988 = .ok (.aload_n 0, 1) := dk_42 (dk_at dksL_law_76 10 rfl rfl)
theorem dL_law_1989 : decode cL_law 1989 = .ok (.iload 5, 2) := dk_21 5 (dk_at dksL_law_76 11 rfl rfl)
theorem dL_law_1991 : decode cL_law 1991 = .ok (.iconst 1, 1) := dk_4 (dk_at dksL_law_76 13 rfl rfl)
theorem dL_law_1992 : decode cL_law 1992 = .ok (.iadd, 1) := dk_96 (dk_at dksL_law_76 14 rfl rfl)
theorem dL_law_1993 : decode cL_law 1993 = .ok (.iaload, 1) := dk_46 (dk_at dksL_law_76 15 rfl rfl)
theorem dL_law_1994 : decode cL_law 1994 = .ok (.aload_n 3, 1) := dk_45 (dk_at dksL_law_76 16 rfl rfl)
theorem dL_law_1995 : decode cL_law 1995 = .ok (.invokestatic 263, 3) := dk_184 1 7 (dk_at dksL_law_76 17 rfl rfl)
theorem dL_law_1998 : decode cL_law 1998 = .ok (.istore 6, 2) := dk_54 6 (dk_at dksL_law_76 20 rfl rfl)
theorem dL_law_2000 : decode cL_law 2000 = .ok (.aload_n 2, 1) := dk_44 (dk_at dksL_law_76 22 rfl rfl)
theorem dL_law_2001 : decode cL_law 2001 = .ok (.aload_n 0, 1) := dk_42 (dk_at dksL_law_76 23 rfl rfl)
theorem dL_law_2002 : decode cL_law 2002 = .ok (.iload 5, 2) := dk_21 5 (dk_at dksL_law_77 0 rfl rfl)
theorem dL_law_2004 : decode cL_law 2004 = .ok (.iconst 1, 1) := dk_4 (dk_at dksL_law_77 2 rfl rfl)
theorem dL_law_2005 : decode cL_law 2005 = .ok (.iadd, 1) := dk_96 (dk_at dksL_law_77 3 rfl rfl)
theorem dL_law_2006 : decode cL_law 2006 = .ok (.iaload, 1) := dk_46 (dk_at dksL_law_77 4 rfl rfl)
theorem dL_law_2007 : decode cL_law 2007 = .ok (.invokevirtual 265, 3) := dk_182 1 9 (dk_at dksL_law_77 5 rfl rfl)
theorem dL_law_2010 : decode cL_law 2010 = .ok (.istore 7, 2) := dk_54 7 (dk_at dksL_law_77 8 rfl rfl)
theorem dL_law_2012 : decode cL_law 2012 = .ok (.aload_n 2, 1) := dk_44 (dk_at dksL_law_77 10 rfl rfl)
theorem dL_law_2013 : decode cL_law 2013 = .ok (.invokevirtual 158, 3) := dk_182 0 158 (dk_at dksL_law_77 11 rfl rfl)
theorem dL_law_2016 : decode cL_law 2016 = .ok (.iload 6, 2) := dk_21 6 (dk_at dksL_law_77 14 rfl rfl)
theorem dL_law_2018 : decode cL_law 2018 = .ok (.if_icmp .eq 5, 3) := dk_159 0 5 (dk_at dksL_law_77 16 rfl rfl)
theorem dL_law_2021 : decode cL_law 2021 = .ok (.iconst 0, 1) := dk_3 (dk_at dksL_law_77 19 rfl rfl)
theorem dL_law_2022 : decode cL_law 2022 = .ok (.ireturn, 1) := dk_172 (dk_at dksL_law_77 20 rfl rfl)
theorem dL_law_2023 : decode cL_law 2023 = .ok (.iload 6, 2) := dk_21 6 (dk_at dksL_law_77 21 rfl rfl)
theorem dL_law_2025 : decode cL_law 2025 = .ok (.ifCond .ne 15, 3) := dk_154 0 15 (dk_at dksL_law_78 0 rfl rfl)
theorem dL_law_2028 : decode cL_law 2028 = .ok (.aload_n 3, 1) := dk_45 (dk_at dksL_law_78 3 rfl rfl)
theorem dL_law_2029 : decode cL_law 2029 = .ok (.iconst 0, 1) := dk_3 (dk_at dksL_law_78 4 rfl rfl)
theorem dL_law_2030 : decode cL_law 2030 = .ok (.laload, 1) := dk_47 (dk_at dksL_law_78 5 rfl rfl)
theorem dL_law_2031 : decode cL_law 2031 = .ok (.iload 7, 2) := dk_21 7 (dk_at dksL_law_78 6 rfl rfl)
theorem dL_law_2033 : decode cL_law 2033 = .ok (.i2l, 1) := dk_133 (dk_at dksL_law_78 8 rfl rfl)
theorem dL_law_2034 : decode cL_law 2034 = .ok (.lcmp, 1) := dk_148 (dk_at dksL_law_78 9 rfl rfl)
theorem dL_law_2035 : decode cL_law 2035 = .ok (.ifCond .eq 5, 3) := dk_153 0 5 (dk_at dksL_law_78 10 rfl rfl)
theorem dL_law_2038 : decode cL_law 2038 = .ok (.iconst 0, 1) := dk_3 (dk_at dksL_law_78 13 rfl rfl)
theorem dL_law_2039 : decode cL_law 2039 = .ok (.ireturn, 1) := dk_172 (dk_at dksL_law_78 14 rfl rfl)
theorem dL_law_2040 : decode cL_law 2040 = .ok (.goto 748, 3) := dk_167 2 236 (dk_at dksL_law_78 15 rfl rfl)
theorem dL_law_2043 : decode cL_law 2043 = .ok (.aload_n 1, 1) := dk_43 (dk_at dksL_law_78 18 rfl rfl)
theorem dL_law_2044 : decode cL_law 2044 = .ok (.aload_n 0, 1) := dk_42 (dk_at dksL_law_78 19 rfl rfl)
theorem dL_law_2045 : decode cL_law 2045 = .ok (.iload 5, 2) := dk_21 5 (dk_at dksL_law_78 20 rfl rfl)
theorem dL_law_2047 : decode cL_law 2047 = .ok (.iconst 1, 1) := dk_4 (dk_at dksL_law_78 22 rfl rfl)
theorem dL_law_2048 : decode cL_law 2048 = .ok (.iadd, 1) := dk_96 (dk_at dksL_law_78 23 rfl rfl)
theorem dL_law_2049 : decode cL_law 2049 = .ok (.iaload, 1) := dk_46 (dk_at dksL_law_79 0 rfl rfl)
theorem dL_law_2050 : decode cL_law 2050 = .ok (.aload_n 3, 1) := dk_45 (dk_at dksL_law_79 1 rfl rfl)
theorem dL_law_2051 : decode cL_law 2051 = .ok (.invokestatic 266, 3) := dk_184 1 10 (dk_at dksL_law_79 2 rfl rfl)
theorem dL_law_2054 : decode cL_law 2054 = .ok (.istore 6, 2) := dk_54 6 (dk_at dksL_law_79 5 rfl rfl)
theorem dL_law_2056 : decode cL_law 2056 = .ok (.aload_n 2, 1) := dk_44 (dk_at dksL_law_79 7 rfl rfl)
theorem dL_law_2057 : decode cL_law 2057 = .ok (.aload_n 0, 1) := dk_42 (dk_at dksL_law_79 8 rfl rfl)
theorem dL_law_2058 : decode cL_law 2058 = .ok (.iload 5, 2) := dk_21 5 (dk_at dksL_law_79 9 rfl rfl)
theorem dL_law_2060 : decode cL_law 2060 = .ok (.iconst 1, 1) := dk_4 (dk_at dksL_law_79 11 rfl rfl)
theorem dL_law_2061 : decode cL_law 2061 = .ok (.iadd, 1) := dk_96 (dk_at dksL_law_79 12 rfl rfl)
theorem dL_law_2062 : decode cL_law 2062 = .ok (.iaload, 1) := dk_46 (dk_at dksL_law_79 13 rfl rfl)
theorem dL_law_2063 : decode cL_law 2063 = .ok (.invokevirtual 268, 3) := dk_182 1 12 (dk_at dksL_law_79 14 rfl rfl)
theorem dL_law_2066 : decode cL_law 2066 = .ok (.istore 7, 2) := dk_54 7 (dk_at dksL_law_79 17 rfl rfl)
theorem dL_law_2068 : decode cL_law 2068 = .ok (.aload_n 2, 1) := dk_44 (dk_at dksL_law_79 19 rfl rfl)
theorem dL_law_2069 : decode cL_law 2069 = .ok (.invokevirtual 158, 3) := dk_182 0 158 (dk_at dksL_law_79 20 rfl rfl)
theorem dL_law_2072 : decode cL_law 2072 = .ok (.iload 6, 2) := dk_21 6 (dk_at dksL_law_80 0 rfl rfl)
theorem dL_law_2074 : decode cL_law 2074 = .ok (.if_icmp .eq 5, 3) := dk_159 0 5 (dk_at dksL_law_80 2 rfl rfl)
theorem dL_law_2077 : decode cL_law 2077 = .ok (.iconst 0, 1) := dk_3 (dk_at dksL_law_80 5 rfl rfl)
theorem dL_law_2078 : decode cL_law 2078 = .ok (.ireturn, 1) := dk_172 (dk_at dksL_law_80 6 rfl rfl)
theorem dL_law_2079 : decode cL_law 2079 = .ok (.iload 6, 2) := dk_21 6 (dk_at dksL_law_80 7 rfl rfl)
theorem dL_law_2081 : decode cL_law 2081 = .ok (.ifCond .ne 15, 3) := dk_154 0 15 (dk_at dksL_law_80 9 rfl rfl)
theorem dL_law_2084 : decode cL_law 2084 = .ok (.aload_n 3, 1) := dk_45 (dk_at dksL_law_80 12 rfl rfl)
theorem dL_law_2085 : decode cL_law 2085 = .ok (.iconst 0, 1) := dk_3 (dk_at dksL_law_80 13 rfl rfl)
theorem dL_law_2086 : decode cL_law 2086 = .ok (.laload, 1) := dk_47 (dk_at dksL_law_80 14 rfl rfl)
theorem dL_law_2087 : decode cL_law 2087 = .ok (.iload 7, 2) := dk_21 7 (dk_at dksL_law_80 15 rfl rfl)
theorem dL_law_2089 : decode cL_law 2089 = .ok (.i2l, 1) := dk_133 (dk_at dksL_law_80 17 rfl rfl)
theorem dL_law_2090 : decode cL_law 2090 = .ok (.lcmp, 1) := dk_148 (dk_at dksL_law_80 18 rfl rfl)
theorem dL_law_2091 : decode cL_law 2091 = .ok (.ifCond .eq 5, 3) := dk_153 0 5 (dk_at dksL_law_80 19 rfl rfl)
theorem dL_law_2094 : decode cL_law 2094 = .ok (.iconst 0, 1) := dk_3 (dk_at dksL_law_80 22 rfl rfl)
theorem dL_law_2095 : decode cL_law 2095 = .ok (.ireturn, 1) := dk_172 (dk_at dksL_law_80 23 rfl rfl)
theorem dL_law_2096 : decode cL_law 2096 = .ok (.goto 692, 3) := dk_167 2 180 (dk_at dksL_law_81 0 rfl rfl)
theorem dL_law_2099 : decode cL_law 2099 = .ok (.aload_n 1, 1) := dk_43 (dk_at dksL_law_81 3 rfl rfl)
theorem dL_law_2100 : decode cL_law 2100 = .ok (.aload_n 0, 1) := dk_42 (dk_at dksL_law_81 4 rfl rfl)
theorem dL_law_2101 : decode cL_law 2101 = .ok (.iload 5, 2) := dk_21 5 (dk_at dksL_law_81 5 rfl rfl)
theorem dL_law_2103 : decode cL_law 2103 = .ok (.iconst 1, 1) := dk_4 (dk_at dksL_law_81 7 rfl rfl)
theorem dL_law_2104 : decode cL_law 2104 = .ok (.iadd, 1) := dk_96 (dk_at dksL_law_81 8 rfl rfl)
theorem dL_law_2105 : decode cL_law 2105 = .ok (.iaload, 1) := dk_46 (dk_at dksL_law_81 9 rfl rfl)
theorem dL_law_2106 : decode cL_law 2106 = .ok (.aload_n 3, 1) := dk_45 (dk_at dksL_law_81 10 rfl rfl)
theorem dL_law_2107 : decode cL_law 2107 = .ok (.invokestatic 269, 3) := dk_184 1 13 (dk_at dksL_law_81 11 rfl rfl)
theorem dL_law_2110 : decode cL_law 2110 = .ok (.istore 6, 2) := dk_54 6 (dk_at dksL_law_81 14 rfl rfl)
theorem dL_law_2112 : decode cL_law 2112 = .ok (.aload_n 2, 1) := dk_44 (dk_at dksL_law_81 16 rfl rfl)
theorem dL_law_2113 : decode cL_law 2113 = .ok (.aload_n 0, 1) := dk_42 (dk_at dksL_law_81 17 rfl rfl)
theorem dL_law_2114 : decode cL_law 2114 = .ok (.iload 5, 2) := dk_21 5 (dk_at dksL_law_81 18 rfl rfl)
theorem dL_law_2116 : decode cL_law 2116 = .ok (.iconst 1, 1) := dk_4 (dk_at dksL_law_81 20 rfl rfl)
theorem dL_law_2117 : decode cL_law 2117 = .ok (.iadd, 1) := dk_96 (dk_at dksL_law_81 21 rfl rfl)
theorem dL_law_2118 : decode cL_law 2118 = .ok (.iaload, 1) := dk_46 (dk_at dksL_law_81 22 rfl rfl)
theorem dL_law_2119 : decode cL_law 2119 = .ok (.invokevirtual 271, 3) := dk_182 1 15 (dk_at dksL_law_82 0 rfl rfl)
theorem dL_law_2122 : decode cL_law 2122 = .ok (.istore 7, 2) := dk_54 7 (dk_at dksL_law_82 3 rfl rfl)
theorem dL_law_2124 : decode cL_law 2124 = .ok (.aload_n 2, 1) := dk_44 (dk_at dksL_law_82 5 rfl rfl)
theorem dL_law_2125 : decode cL_law 2125 = .ok (.invokevirtual 158, 3) := dk_182 0 158 (dk_at dksL_law_82 6 rfl rfl)
theorem dL_law_2128 : decode cL_law 2128 = .ok (.iload 6, 2) := dk_21 6 (dk_at dksL_law_82 9 rfl rfl)
theorem dL_law_2130 : decode cL_law 2130 = .ok (.if_icmp .eq 5, 3) := dk_159 0 5 (dk_at dksL_law_82 11 rfl rfl)
theorem dL_law_2133 : decode cL_law 2133 = .ok (.iconst 0, 1) := dk_3 (dk_at dksL_law_82 14 rfl rfl)
theorem dL_law_2134 : decode cL_law 2134 = .ok (.ireturn, 1) := dk_172 (dk_at dksL_law_82 15 rfl rfl)
theorem dL_law_2135 : decode cL_law 2135 = .ok (.iload 6, 2) := dk_21 6 (dk_at dksL_law_82 16 rfl rfl)
theorem dL_law_2137 : decode cL_law 2137 = .ok (.ifCond .ne 15, 3) := dk_154 0 15 (dk_at dksL_law_82 18 rfl rfl)
theorem dL_law_2140 : decode cL_law 2140 = .ok (.aload_n 3, 1) := dk_45 (dk_at dksL_law_82 21 rfl rfl)
theorem dL_law_2141 : decode cL_law 2141 = .ok (.iconst 0, 1) := dk_3 (dk_at dksL_law_82 22 rfl rfl)
theorem dL_law_2142 : decode cL_law 2142 = .ok (.laload, 1) := dk_47 (dk_at dksL_law_82 23 rfl rfl)
theorem dL_law_2143 : decode cL_law 2143 = .ok (.iload 7, 2) := dk_21 7 (dk_at dksL_law_83 0 rfl rfl)
theorem dL_law_2145 : decode cL_law 2145 = .ok (.i2l, 1) := dk_133 (dk_at dksL_law_83 2 rfl rfl)
theorem dL_law_2146 : decode cL_law 2146 = .ok (.lcmp, 1) := dk_148 (dk_at dksL_law_83 3 rfl rfl)
theorem dL_law_2147 : decode cL_law 2147 = .ok (.ifCond .eq 5, 3) := dk_153 0 5 (dk_at dksL_law_83 4 rfl rfl)
theorem dL_law_2150 : decode cL_law 2150 = .ok (.iconst 0, 1) := dk_3 (dk_at dksL_law_83 7 rfl rfl)
theorem dL_law_2151 : decode cL_law 2151 = .ok (.ireturn, 1) := dk_172 (dk_at dksL_law_83 8 rfl rfl)
theorem dL_law_2152 : decode cL_law 2152 = .ok (.goto 636, 3) := dk_167 2 124 (dk_at dksL_law_83 9 rfl rfl)
theorem dL_law_2155 : decode cL_law 2155 = .ok (.aload_n 1, 1) := dk_43 (dk_at dksL_law_83 12 rfl rfl)
theorem dL_law_2156 : decode cL_law 2156 = .ok (.aload_n 0, 1) := dk_42 (dk_at dksL_law_83 13 rfl rfl)
theorem dL_law_2157 : decode cL_law 2157 = .ok (.iload 5, 2) := dk_21 5 (dk_at dksL_law_83 14 rfl rfl)
theorem dL_law_2159 : decode cL_law 2159 = .ok (.iconst 1, 1) := dk_4 (dk_at dksL_law_83 16 rfl rfl)
theorem dL_law_2160 : decode cL_law 2160 = .ok (.iadd, 1) := dk_96 (dk_at dksL_law_83 17 rfl rfl)
theorem dL_law_2161 : decode cL_law 2161 = .ok (.iaload, 1) := dk_46 (dk_at dksL_law_83 18 rfl rfl)
theorem dL_law_2162 : decode cL_law 2162 = .ok (.aload_n 3, 1) := dk_45 (dk_at dksL_law_83 19 rfl rfl)
theorem dL_law_2163 : decode cL_law 2163 = .ok (.invokestatic 272, 3) := dk_184 1 16 (dk_at dksL_law_83 20 rfl rfl)
theorem dL_law_2166 : decode cL_law 2166 = .ok (.istore 6, 2) := dk_54 6 (dk_at dksL_law_84 0 rfl rfl)
theorem dL_law_2168 : decode cL_law 2168 = .ok (.aload_n 2, 1) := dk_44 (dk_at dksL_law_84 2 rfl rfl)
theorem dL_law_2169 : decode cL_law 2169 = .ok (.aload_n 0, 1) := dk_42 (dk_at dksL_law_84 3 rfl rfl)
theorem dL_law_2170 : decode cL_law 2170 = .ok (.iload 5, 2) := dk_21 5 (dk_at dksL_law_84 4 rfl rfl)
theorem dL_law_2172 : decode cL_law 2172 = .ok (.iconst 1, 1) := dk_4 (dk_at dksL_law_84 6 rfl rfl)
theorem dL_law_2173 : decode cL_law 2173 = .ok (.iadd, 1) := dk_96 (dk_at dksL_law_84 7 rfl rfl)
theorem dL_law_2174 : decode cL_law 2174 = .ok (.iaload, 1) := dk_46 (dk_at dksL_law_84 8 rfl rfl)
theorem dL_law_2175 : decode cL_law 2175 = .ok (.invokevirtual 274, 3) := dk_182 1 18 (dk_at dksL_law_84 9 rfl rfl)
theorem dL_law_2178 : decode cL_law 2178 = .ok (.istore 7, 2) := dk_54 7 (dk_at dksL_law_84 12 rfl rfl)
theorem dL_law_2180 : decode cL_law 2180 = .ok (.aload_n 2, 1) := dk_44 (dk_at dksL_law_84 14 rfl rfl)
theorem dL_law_2181 : decode cL_law 2181 = .ok (.invokevirtual 158, 3) := dk_182 0 158 (dk_at dksL_law_84 15 rfl rfl)
theorem dL_law_2184 : decode cL_law 2184 = .ok (.iload 6, 2) := dk_21 6 (dk_at dksL_law_84 18 rfl rfl)
theorem dL_law_2186 : decode cL_law 2186 = .ok (.if_icmp .eq 5, 3) := dk_159 0 5 (dk_at dksL_law_84 20 rfl rfl)
theorem dL_law_2189 : decode cL_law 2189 = .ok (.iconst 0, 1) := dk_3 (dk_at dksL_law_84 23 rfl rfl)
theorem dL_law_2190 : decode cL_law 2190 = .ok (.ireturn, 1) := dk_172 (dk_at dksL_law_85 0 rfl rfl)
theorem dL_law_2191 : decode cL_law 2191 = .ok (.iload 6, 2) := dk_21 6 (dk_at dksL_law_85 1 rfl rfl)
theorem dL_law_2193 : decode cL_law 2193 = .ok (.ifCond .ne 15, 3) := dk_154 0 15 (dk_at dksL_law_85 3 rfl rfl)
theorem dL_law_2196 : decode cL_law 2196 = .ok (.aload_n 3, 1) := dk_45 (dk_at dksL_law_85 6 rfl rfl)
theorem dL_law_2197 : decode cL_law 2197 = .ok (.iconst 0, 1) := dk_3 (dk_at dksL_law_85 7 rfl rfl)
theorem dL_law_2198 : decode cL_law 2198 = .ok (.laload, 1) := dk_47 (dk_at dksL_law_85 8 rfl rfl)
theorem dL_law_2199 : decode cL_law 2199 = .ok (.iload 7, 2) := dk_21 7 (dk_at dksL_law_85 9 rfl rfl)
theorem dL_law_2201 : decode cL_law 2201 = .ok (.i2l, 1) := dk_133 (dk_at dksL_law_85 11 rfl rfl)
theorem dL_law_2202 : decode cL_law 2202 = .ok (.lcmp, 1) := dk_148 (dk_at dksL_law_85 12 rfl rfl)
theorem dL_law_2203 : decode cL_law 2203 = .ok (.ifCond .eq 5, 3) := dk_153 0 5 (dk_at dksL_law_85 13 rfl rfl)
theorem dL_law_2206 : decode cL_law 2206 = .ok (.iconst 0, 1) := dk_3 (dk_at dksL_law_85 16 rfl rfl)
theorem dL_law_2207 : decode cL_law 2207 = .ok (.ireturn, 1) := dk_172 (dk_at dksL_law_85 17 rfl rfl)
theorem dL_law_2208 : decode cL_law 2208 = .ok (.goto 580, 3) := dk_167 2 68 (dk_at dksL_law_85 18 rfl rfl)
theorem dL_law_2211 : decode cL_law 2211 = .ok (.aload_n 1, 1) := dk_43 (dk_at dksL_law_85 21 rfl rfl)
theorem dL_law_2212 : decode cL_law 2212 = .ok (.aload_n 0, 1) := dk_42 (dk_at dksL_law_85 22 rfl rfl)
theorem dL_law_2213 : decode cL_law 2213 = .ok (.iload 5, 2) := dk_21 5 (dk_at dksL_law_86 0 rfl rfl)
theorem dL_law_2215 : decode cL_law 2215 = .ok (.iconst 1, 1) := dk_4 (dk_at dksL_law_86 2 rfl rfl)
theorem dL_law_2216 : decode cL_law 2216 = .ok (.iadd, 1) := dk_96 (dk_at dksL_law_86 3 rfl rfl)
theorem dL_law_2217 : decode cL_law 2217 = .ok (.iaload, 1) := dk_46 (dk_at dksL_law_86 4 rfl rfl)
theorem dL_law_2218 : decode cL_law 2218 = .ok (.aload_n 3, 1) := dk_45 (dk_at dksL_law_86 5 rfl rfl)
theorem dL_law_2219 : decode cL_law 2219 = .ok (.invokestatic 275, 3) := dk_184 1 19 (dk_at dksL_law_86 6 rfl rfl)
theorem dL_law_2222 : decode cL_law 2222 = .ok (.istore 6, 2) := dk_54 6 (dk_at dksL_law_86 9 rfl rfl)
theorem dL_law_2224 : decode cL_law 2224 = .ok (.aload_n 2, 1) := dk_44 (dk_at dksL_law_86 11 rfl rfl)
theorem dL_law_2225 : decode cL_law 2225 = .ok (.aload_n 0, 1) := dk_42 (dk_at dksL_law_86 12 rfl rfl)
theorem dL_law_2226 : decode cL_law 2226 = .ok (.iload 5, 2) := dk_21 5 (dk_at dksL_law_86 13 rfl rfl)
theorem dL_law_2228 : decode cL_law 2228 = .ok (.iconst 1, 1) := dk_4 (dk_at dksL_law_86 15 rfl rfl)
theorem dL_law_2229 : decode cL_law 2229 = .ok (.iadd, 1) := dk_96 (dk_at dksL_law_86 16 rfl rfl)
theorem dL_law_2230 : decode cL_law 2230 = .ok (.iaload, 1) := dk_46 (dk_at dksL_law_86 17 rfl rfl)
theorem dL_law_2231 : decode cL_law 2231 = .ok (.invokevirtual 277, 3) := dk_182 1 21 (dk_at dksL_law_86 18 rfl rfl)
theorem dL_law_2234 : decode cL_law 2234 = .ok (.istore 7, 2) := dk_54 7 (dk_at dksL_law_86 21 rfl rfl)
theorem dL_law_2236 : decode cL_law 2236 = .ok (.aload_n 2, 1) := dk_44 (dk_at dksL_law_86 23 rfl rfl)
theorem dL_law_2237 : decode cL_law 2237 = .ok (.invokevirtual 158, 3) := dk_182 0 158 (dk_at dksL_law_87 0 rfl rfl)
theorem dL_law_2240 : decode cL_law 2240 = .ok (.iload 6, 2) := dk_21 6 (dk_at dksL_law_87 3 rfl rfl)
theorem dL_law_2242 : decode cL_law 2242 = .ok (.if_icmp .eq 5, 3) := dk_159 0 5 (dk_at dksL_law_87 5 rfl rfl)
theorem dL_law_2245 : decode cL_law 2245 = .ok (.iconst 0, 1) := dk_3 (dk_at dksL_law_87 8 rfl rfl)
theorem dL_law_2246 : decode cL_law 2246 = .ok (.ireturn, 1) := dk_172 (dk_at dksL_law_87 9 rfl rfl)
theorem dL_law_2247 : decode cL_law 2247 = .ok (.iload 6, 2) := dk_21 6 (dk_at dksL_law_87 10 rfl rfl)
theorem dL_law_2249 : decode cL_law 2249 = .ok (.ifCond .ne 15, 3) := dk_154 0 15 (dk_at dksL_law_87 12 rfl rfl)
theorem dL_law_2252 : decode cL_law 2252 = .ok (.aload_n 3, 1) := dk_45 (dk_at dksL_law_87 15 rfl rfl)
theorem dL_law_2253 : decode cL_law 2253 = .ok (.iconst 0, 1) := dk_3 (dk_at dksL_law_87 16 rfl rfl)
theorem dL_law_2254 : decode cL_law 2254 = .ok (.laload, 1) := dk_47 (dk_at dksL_law_87 17 rfl rfl)
theorem dL_law_2255 : decode cL_law 2255 = .ok (.iload 7, 2) := dk_21 7 (dk_at dksL_law_87 18 rfl rfl)
theorem dL_law_2257 : decode cL_law 2257 = .ok (.i2l, 1) := dk_133 (dk_at dksL_law_87 20 rfl rfl)
theorem dL_law_2258 : decode cL_law 2258 = .ok (.lcmp, 1) := dk_148 (dk_at dksL_law_87 21 rfl rfl)
theorem dL_law_2259 : decode cL_law 2259 = .ok (.ifCond .eq 5, 3) := dk_153 0 5 (dk_at dksL_law_88 0 rfl rfl)
theorem dL_law_2262 : decode cL_law 2262 = .ok (.iconst 0, 1) := dk_3 (dk_at dksL_law_88 3 rfl rfl)
theorem dL_law_2263 : decode cL_law 2263 = .ok (.ireturn, 1) := dk_172 (dk_at dksL_law_88 4 rfl rfl)
theorem dL_law_2264 : decode cL_law 2264 = .ok (.goto 524, 3) := dk_167 2 12 (dk_at dksL_law_88 5 rfl rfl)
theorem dL_law_2267 : decode cL_law 2267 = .ok (.aload_n 1, 1) := dk_43 (dk_at dksL_law_88 8 rfl rfl)
theorem dL_law_2268 : decode cL_law 2268 = .ok (.aload_n 0, 1) := dk_42 (dk_at dksL_law_88 9 rfl rfl)
theorem dL_law_2269 : decode cL_law 2269 = .ok (.iload 5, 2) := dk_21 5 (dk_at dksL_law_88 10 rfl rfl)
theorem dL_law_2271 : decode cL_law 2271 = .ok (.iconst 1, 1) := dk_4 (dk_at dksL_law_88 12 rfl rfl)
theorem dL_law_2272 : decode cL_law 2272 = .ok (.iadd, 1) := dk_96 (dk_at dksL_law_88 13 rfl rfl)
theorem dL_law_2273 : decode cL_law 2273 = .ok (.iaload, 1) := dk_46 (dk_at dksL_law_88 14 rfl rfl)
theorem dL_law_2274 : decode cL_law 2274 = .ok (.aload_n 3, 1) := dk_45 (dk_at dksL_law_88 15 rfl rfl)
theorem dL_law_2275 : decode cL_law 2275 = .ok (.invokestatic 278, 3) := dk_184 1 22 (dk_at dksL_law_88 16 rfl rfl)
theorem dL_law_2278 : decode cL_law 2278 = .ok (.istore 6, 2) := dk_54 6 (dk_at dksL_law_88 19 rfl rfl)
theorem dL_law_2280 : decode cL_law 2280 = .ok (.aload_n 2, 1) := dk_44 (dk_at dksL_law_88 21 rfl rfl)
theorem dL_law_2281 : decode cL_law 2281 = .ok (.aload_n 0, 1) := dk_42 (dk_at dksL_law_88 22 rfl rfl)
theorem dL_law_2282 : decode cL_law 2282 = .ok (.iload 5, 2) := dk_21 5 (dk_at dksL_law_89 0 rfl rfl)
theorem dL_law_2284 : decode cL_law 2284 = .ok (.iconst 1, 1) := dk_4 (dk_at dksL_law_89 2 rfl rfl)
theorem dL_law_2285 : decode cL_law 2285 = .ok (.iadd, 1) := dk_96 (dk_at dksL_law_89 3 rfl rfl)
theorem dL_law_2286 : decode cL_law 2286 = .ok (.iaload, 1) := dk_46 (dk_at dksL_law_89 4 rfl rfl)
theorem dL_law_2287 : decode cL_law 2287 = .ok (.invokevirtual 280, 3) := dk_182 1 24 (dk_at dksL_law_89 5 rfl rfl)
theorem dL_law_2290 : decode cL_law 2290 = .ok (.istore 7, 2) := dk_54 7 (dk_at dksL_law_89 8 rfl rfl)
theorem dL_law_2292 : decode cL_law 2292 = .ok (.aload_n 2, 1) := dk_44 (dk_at dksL_law_89 10 rfl rfl)
theorem dL_law_2293 : decode cL_law 2293 = .ok (.invokevirtual 158, 3) := dk_182 0 158 (dk_at dksL_law_89 11 rfl rfl)
theorem dL_law_2296 : decode cL_law 2296 = .ok (.iload 6, 2) := dk_21 6 (dk_at dksL_law_89 14 rfl rfl)
theorem dL_law_2298 : decode cL_law 2298 = .ok (.if_icmp .eq 5, 3) := dk_159 0 5 (dk_at dksL_law_89 16 rfl rfl)
theorem dL_law_2301 : decode cL_law 2301 = .ok (.iconst 0, 1) := dk_3 (dk_at dksL_law_89 19 rfl rfl)
theorem dL_law_2302 : decode cL_law 2302 = .ok (.ireturn, 1) := dk_172 (dk_at dksL_law_89 20 rfl rfl)
theorem dL_law_2303 : decode cL_law 2303 = .ok (.iload 6, 2) := dk_21 6 (dk_at dksL_law_89 21 rfl rfl)
theorem dL_law_2305 : decode cL_law 2305 = .ok (.ifCond .ne 15, 3) := dk_154 0 15 (dk_at dksL_law_90 0 rfl rfl)
theorem dL_law_2308 : decode cL_law 2308 = .ok (.aload_n 3, 1) := dk_45 (dk_at dksL_law_90 3 rfl rfl)
theorem dL_law_2309 : decode cL_law 2309 = .ok (.iconst 0, 1) := dk_3 (dk_at dksL_law_90 4 rfl rfl)
theorem dL_law_2310 : decode cL_law 2310 = .ok (.laload, 1) := dk_47 (dk_at dksL_law_90 5 rfl rfl)
theorem dL_law_2311 : decode cL_law 2311 = .ok (.iload 7, 2) := dk_21 7 (dk_at dksL_law_90 6 rfl rfl)
theorem dL_law_2313 : decode cL_law 2313 = .ok (.i2l, 1) := dk_133 (dk_at dksL_law_90 8 rfl rfl)
theorem dL_law_2314 : decode cL_law 2314 = .ok (.lcmp, 1) := dk_148 (dk_at dksL_law_90 9 rfl rfl)
theorem dL_law_2315 : decode cL_law 2315 = .ok (.ifCond .eq 5, 3) := dk_153 0 5 (dk_at dksL_law_90 10 rfl rfl)
theorem dL_law_2318 : decode cL_law 2318 = .ok (.iconst 0, 1) := dk_3 (dk_at dksL_law_90 13 rfl rfl)
theorem dL_law_2319 : decode cL_law 2319 = .ok (.ireturn, 1) := dk_172 (dk_at dksL_law_90 14 rfl rfl)
theorem dL_law_2320 : decode cL_law 2320 = .ok (.goto 468, 3) := dk_167 1 212 (dk_at dksL_law_90 15 rfl rfl)
theorem dL_law_2323 : decode cL_law 2323 = .ok (.aload_n 1, 1) := dk_43 (dk_at dksL_law_90 18 rfl rfl)
theorem dL_law_2324 : decode cL_law 2324 = .ok (.invokevirtual 281, 3) := dk_182 1 25 (dk_at dksL_law_90 19 rfl rfl)
theorem dL_law_2327 : decode cL_law 2327 = .ok (.aload_n 2, 1) := dk_44 (dk_at dksL_law_90 22 rfl rfl)
theorem dL_law_2328 : decode cL_law 2328 = .ok (.invokevirtual 284, 3) := dk_182 1 28 (dk_at dksL_law_91 0 rfl rfl)
theorem dL_law_2331 : decode cL_law 2331 = .ok (.if_icmp .eq 457, 3) := dk_159 1 201 (dk_at dksL_law_91 3 rfl rfl)
theorem dL_law_2334 : decode cL_law 2334 = .ok (.iconst 0, 1) := dk_3 (dk_at dksL_law_91 6 rfl rfl)
theorem dL_law_2335 : decode cL_law 2335 = .ok (.ireturn, 1) := dk_172 (dk_at dksL_law_91 7 rfl rfl)
theorem dL_law_2336 : decode cL_law 2336 = .ok (.aload_n 1, 1) := dk_43 (dk_at dksL_law_91 8 rfl rfl)
theorem dL_law_2337 : decode cL_law 2337 = .ok (.aload_n 0, 1) := dk_42 (dk_at dksL_law_91 9 rfl rfl)
theorem dL_law_2338 : decode cL_law 2338 = .ok (.iload 5, 2) := dk_21 5 (dk_at dksL_law_91 10 rfl rfl)
theorem dL_law_2340 : decode cL_law 2340 = .ok (.iconst 1, 1) := dk_4 (dk_at dksL_law_91 12 rfl rfl)
theorem dL_law_2341 : decode cL_law 2341 = .ok (.iadd, 1) := dk_96 (dk_at dksL_law_91 13 rfl rfl)
theorem dL_law_2342 : decode cL_law 2342 = .ok (.iaload, 1) := dk_46 (dk_at dksL_law_91 14 rfl rfl)
theorem dL_law_2343 : decode cL_law 2343 = .ok (.aload_n 3, 1) := dk_45 (dk_at dksL_law_91 15 rfl rfl)
theorem dL_law_2344 : decode cL_law 2344 = .ok (.invokestatic 285, 3) := dk_184 1 29 (dk_at dksL_law_91 16 rfl rfl)
theorem dL_law_2347 : decode cL_law 2347 = .ok (.istore 6, 2) := dk_54 6 (dk_at dksL_law_91 19 rfl rfl)
theorem dL_law_2349 : decode cL_law 2349 = .ok (.aload_n 2, 1) := dk_44 (dk_at dksL_law_91 21 rfl rfl)
theorem dL_law_2350 : decode cL_law 2350 = .ok (.aload_n 0, 1) := dk_42 (dk_at dksL_law_91 22 rfl rfl)
theorem dL_law_2351 : decode cL_law 2351 = .ok (.iload 5, 2) := dk_21 5 (dk_at dksL_law_92 0 rfl rfl)
theorem dL_law_2353 : decode cL_law 2353 = .ok (.iconst 1, 1) := dk_4 (dk_at dksL_law_92 2 rfl rfl)
theorem dL_law_2354 : decode cL_law 2354 = .ok (.iadd, 1) := dk_96 (dk_at dksL_law_92 3 rfl rfl)
theorem dL_law_2355 : decode cL_law 2355 = .ok (.iaload, 1) := dk_46 (dk_at dksL_law_92 4 rfl rfl)
theorem dL_law_2356 : decode cL_law 2356 = .ok (.invokevirtual 287, 3) := dk_182 1 31 (dk_at dksL_law_92 5 rfl rfl)
theorem dL_law_2359 : decode cL_law 2359 = .ok (.istore 7, 2) := dk_54 7 (dk_at dksL_law_92 8 rfl rfl)
theorem dL_law_2361 : decode cL_law 2361 = .ok (.aload_n 2, 1) := dk_44 (dk_at dksL_law_92 10 rfl rfl)
theorem dL_law_2362 : decode cL_law 2362 = .ok (.invokevirtual 158, 3) := dk_182 0 158 (dk_at dksL_law_92 11 rfl rfl)
theorem dL_law_2365 : decode cL_law 2365 = .ok (.iload 6, 2) := dk_21 6 (dk_at dksL_law_92 14 rfl rfl)
theorem dL_law_2367 : decode cL_law 2367 = .ok (.if_icmp .eq 5, 3) := dk_159 0 5 (dk_at dksL_law_92 16 rfl rfl)
theorem dL_law_2370 : decode cL_law 2370 = .ok (.iconst 0, 1) := dk_3 (dk_at dksL_law_92 19 rfl rfl)
theorem dL_law_2371 : decode cL_law 2371 = .ok (.ireturn, 1) := dk_172 (dk_at dksL_law_92 20 rfl rfl)
theorem dL_law_2372 : decode cL_law 2372 = .ok (.iload 6, 2) := dk_21 6 (dk_at dksL_law_92 21 rfl rfl)
theorem dL_law_2374 : decode cL_law 2374 = .ok (.ifCond .ne 15, 3) := dk_154 0 15 (dk_at dksL_law_93 0 rfl rfl)
theorem dL_law_2377 : decode cL_law 2377 = .ok (.aload_n 3, 1) := dk_45 (dk_at dksL_law_93 3 rfl rfl)
theorem dL_law_2378 : decode cL_law 2378 = .ok (.iconst 0, 1) := dk_3 (dk_at dksL_law_93 4 rfl rfl)
theorem dL_law_2379 : decode cL_law 2379 = .ok (.laload, 1) := dk_47 (dk_at dksL_law_93 5 rfl rfl)
theorem dL_law_2380 : decode cL_law 2380 = .ok (.iload 7, 2) := dk_21 7 (dk_at dksL_law_93 6 rfl rfl)
theorem dL_law_2382 : decode cL_law 2382 = .ok (.i2l, 1) := dk_133 (dk_at dksL_law_93 8 rfl rfl)
theorem dL_law_2383 : decode cL_law 2383 = .ok (.lcmp, 1) := dk_148 (dk_at dksL_law_93 9 rfl rfl)
theorem dL_law_2384 : decode cL_law 2384 = .ok (.ifCond .eq 5, 3) := dk_153 0 5 (dk_at dksL_law_93 10 rfl rfl)
theorem dL_law_2387 : decode cL_law 2387 = .ok (.iconst 0, 1) := dk_3 (dk_at dksL_law_93 13 rfl rfl)
theorem dL_law_2388 : decode cL_law 2388 = .ok (.ireturn, 1) := dk_172 (dk_at dksL_law_93 14 rfl rfl)
theorem dL_law_2389 : decode cL_law 2389 = .ok (.goto 399, 3) := dk_167 1 143 (dk_at dksL_law_93 15 rfl rfl)
theorem dL_law_2392 : decode cL_law 2392 = .ok (.aload_n 1, 1) := dk_43 (dk_at dksL_law_93 18 rfl rfl)
theorem dL_law_2393 : decode cL_law 2393 = .ok (.aload_n 0, 1) := dk_42 (dk_at dksL_law_93 19 rfl rfl)
theorem dL_law_2394 : decode cL_law 2394 = .ok (.iload 5, 2) := dk_21 5 (dk_at dksL_law_93 20 rfl rfl)
theorem dL_law_2396 : decode cL_law 2396 = .ok (.iconst 1, 1) := dk_4 (dk_at dksL_law_93 22 rfl rfl)
theorem dL_law_2397 : decode cL_law 2397 = .ok (.iadd, 1) := dk_96 (dk_at dksL_law_93 23 rfl rfl)
theorem dL_law_2398 : decode cL_law 2398 = .ok (.iaload, 1) := dk_46 (dk_at dksL_law_94 0 rfl rfl)
theorem dL_law_2399 : decode cL_law 2399 = .ok (.aload_n 3, 1) := dk_45 (dk_at dksL_law_94 1 rfl rfl)
theorem dL_law_2400 : decode cL_law 2400 = .ok (.invokestatic 288, 3) := dk_184 1 32 (dk_at dksL_law_94 2 rfl rfl)
theorem dL_law_2403 : decode cL_law 2403 = .ok (.istore 6, 2) := dk_54 6 (dk_at dksL_law_94 5 rfl rfl)
theorem dL_law_2405 : decode cL_law 2405 = .ok (.aload_n 2, 1) := dk_44 (dk_at dksL_law_94 7 rfl rfl)
theorem dL_law_2406 : decode cL_law 2406 = .ok (.aload_n 0, 1) := dk_42 (dk_at dksL_law_94 8 rfl rfl)
theorem dL_law_2407 : decode cL_law 2407 = .ok (.iload 5, 2) := dk_21 5 (dk_at dksL_law_94 9 rfl rfl)
theorem dL_law_2409 : decode cL_law 2409 = .ok (.iconst 1, 1) := dk_4 (dk_at dksL_law_94 11 rfl rfl)
theorem dL_law_2410 : decode cL_law 2410 = .ok (.iadd, 1) := dk_96 (dk_at dksL_law_94 12 rfl rfl)
theorem dL_law_2411 : decode cL_law 2411 = .ok (.iaload, 1) := dk_46 (dk_at dksL_law_94 13 rfl rfl)
theorem dL_law_2412 : decode cL_law 2412 = .ok (.invokevirtual 290, 3) := dk_182 1 34 (dk_at dksL_law_94 14 rfl rfl)
theorem dL_law_2415 : decode cL_law 2415 = .ok (.istore 7, 2) := dk_54 7 (dk_at dksL_law_94 17 rfl rfl)
theorem dL_law_2417 : decode cL_law 2417 = .ok (.aload_n 2, 1) := dk_44 (dk_at dksL_law_94 19 rfl rfl)
theorem dL_law_2418 : decode cL_law 2418 = .ok (.invokevirtual 158, 3) := dk_182 0 158 (dk_at dksL_law_94 20 rfl rfl)
theorem dL_law_2421 : decode cL_law 2421 = .ok (.iload 6, 2) := dk_21 6 (dk_at dksL_law_95 0 rfl rfl)
theorem dL_law_2423 : decode cL_law 2423 = .ok (.if_icmp .eq 5, 3) := dk_159 0 5 (dk_at dksL_law_95 2 rfl rfl)
theorem dL_law_2426 : decode cL_law 2426 = .ok (.iconst 0, 1) := dk_3 (dk_at dksL_law_95 5 rfl rfl)
theorem dL_law_2427 : decode cL_law 2427 = .ok (.ireturn, 1) := dk_172 (dk_at dksL_law_95 6 rfl rfl)
theorem dL_law_2428 : decode cL_law 2428 = .ok (.iload 6, 2) := dk_21 6 (dk_at dksL_law_95 7 rfl rfl)
theorem dL_law_2430 : decode cL_law 2430 = .ok (.ifCond .ne 15, 3) := dk_154 0 15 (dk_at dksL_law_95 9 rfl rfl)
theorem dL_law_2433 : decode cL_law 2433 = .ok (.aload_n 3, 1) := dk_45 (dk_at dksL_law_95 12 rfl rfl)
theorem dL_law_2434 : decode cL_law 2434 = .ok (.iconst 0, 1) := dk_3 (dk_at dksL_law_95 13 rfl rfl)
theorem dL_law_2435 : decode cL_law 2435 = .ok (.laload, 1) := dk_47 (dk_at dksL_law_95 14 rfl rfl)
theorem dL_law_2436 : decode cL_law 2436 = .ok (.iload 7, 2) := dk_21 7 (dk_at dksL_law_95 15 rfl rfl)
theorem dL_law_2438 : decode cL_law 2438 = .ok (.i2l, 1) := dk_133 (dk_at dksL_law_95 17 rfl rfl)
theorem dL_law_2439 : decode cL_law 2439 = .ok (.lcmp, 1) := dk_148 (dk_at dksL_law_95 18 rfl rfl)
theorem dL_law_2440 : decode cL_law 2440 = .ok (.ifCond .eq 5, 3) := dk_153 0 5 (dk_at dksL_law_95 19 rfl rfl)
theorem dL_law_2443 : decode cL_law 2443 = .ok (.iconst 0, 1) := dk_3 (dk_at dksL_law_95 22 rfl rfl)
theorem dL_law_2444 : decode cL_law 2444 = .ok (.ireturn, 1) := dk_172 (dk_at dksL_law_95 23 rfl rfl)
theorem dL_law_2445 : decode cL_law 2445 = .ok (.goto 343, 3) := dk_167 1 87 (dk_at dksL_law_96 0 rfl rfl)
theorem dL_law_2448 : decode cL_law 2448 = .ok (.aload_n 1, 1) := dk_43 (dk_at dksL_law_96 3 rfl rfl)
theorem dL_law_2449 : decode cL_law 2449 = .ok (.aload_n 3, 1) := dk_45 (dk_at dksL_law_96 4 rfl rfl)
theorem dL_law_2450 : decode cL_law 2450 = .ok (.invokestatic 291, 3) := dk_184 1 35 (dk_at dksL_law_96 5 rfl rfl)
theorem dL_law_2453 : decode cL_law 2453 = .ok (.istore 6, 2) := dk_54 6 (dk_at dksL_law_96 8 rfl rfl)
theorem dL_law_2455 : decode cL_law 2455 = .ok (.aload_n 2, 1) := dk_44 (dk_at dksL_law_96 10 rfl rfl)
theorem dL_law_2456 : decode cL_law 2456 = .ok (.invokevirtual 294, 3) := dk_182 1 38 (dk_at dksL_law_96 11 rfl rfl)
theorem dL_law_2459 : decode cL_law 2459 = .ok (.istore 7, 2) := dk_54 7 (dk_at dksL_law_96 14 rfl rfl)
theorem dL_law_2461 : decode cL_law 2461 = .ok (.aload_n 2, 1) := dk_44 (dk_at dksL_law_96 16 rfl rfl)
theorem dL_law_2462 : decode cL_law 2462 = .ok (.invokevirtual 158, 3) := dk_182 0 158 (dk_at dksL_law_96 17 rfl rfl)
theorem dL_law_2465 : decode cL_law 2465 = .ok (.iload 6, 2) := dk_21 6 (dk_at dksL_law_96 20 rfl rfl)
theorem dL_law_2467 : decode cL_law 2467 = .ok (.if_icmp .eq 5, 3) := dk_159 0 5 (dk_at dksL_law_97 0 rfl rfl)
theorem dL_law_2470 : decode cL_law 2470 = .ok (.iconst 0, 1) := dk_3 (dk_at dksL_law_97 3 rfl rfl)
theorem dL_law_2471 : decode cL_law 2471 = .ok (.ireturn, 1) := dk_172 (dk_at dksL_law_97 4 rfl rfl)
theorem dL_law_2472 : decode cL_law 2472 = .ok (.iload 6, 2) := dk_21 6 (dk_at dksL_law_97 5 rfl rfl)
theorem dL_law_2474 : decode cL_law 2474 = .ok (.ifCond .ne 15, 3) := dk_154 0 15 (dk_at dksL_law_97 7 rfl rfl)
theorem dL_law_2477 : decode cL_law 2477 = .ok (.aload_n 3, 1) := dk_45 (dk_at dksL_law_97 10 rfl rfl)
theorem dL_law_2478 : decode cL_law 2478 = .ok (.iconst 0, 1) := dk_3 (dk_at dksL_law_97 11 rfl rfl)
theorem dL_law_2479 : decode cL_law 2479 = .ok (.laload, 1) := dk_47 (dk_at dksL_law_97 12 rfl rfl)
theorem dL_law_2480 : decode cL_law 2480 = .ok (.iload 7, 2) := dk_21 7 (dk_at dksL_law_97 13 rfl rfl)
theorem dL_law_2482 : decode cL_law 2482 = .ok (.i2l, 1) := dk_133 (dk_at dksL_law_97 15 rfl rfl)
theorem dL_law_2483 : decode cL_law 2483 = .ok (.lcmp, 1) := dk_148 (dk_at dksL_law_97 16 rfl rfl)
theorem dL_law_2484 : decode cL_law 2484 = .ok (.ifCond .eq 5, 3) := dk_153 0 5 (dk_at dksL_law_97 17 rfl rfl)
theorem dL_law_2487 : decode cL_law 2487 = .ok (.iconst 0, 1) := dk_3 (dk_at dksL_law_97 20 rfl rfl)
theorem dL_law_2488 : decode cL_law 2488 = .ok (.ireturn, 1) := dk_172 (dk_at dksL_law_97 21 rfl rfl)
theorem dL_law_2489 : decode cL_law 2489 = .ok (.goto 299, 3) := dk_167 1 43 (dk_at dksL_law_98 0 rfl rfl)
theorem dL_law_2492 : decode cL_law 2492 = .ok (.aload_n 1, 1) := dk_43 (dk_at dksL_law_98 3 rfl rfl)
theorem dL_law_2493 : decode cL_law 2493 = .ok (.invokevirtual 295, 3) := dk_182 1 39 (dk_at dksL_law_98 4 rfl rfl)
theorem dL_law_2496 : decode cL_law 2496 = .ok (.aload_n 2, 1) := dk_44 (dk_at dksL_law_98 7 rfl rfl)
theorem dL_law_2497 : decode cL_law 2497 = .ok (.invokevirtual 298, 3) := dk_182 1 42 (dk_at dksL_law_98 8 rfl rfl)
theorem dL_law_2500 : decode cL_law 2500 = .ok (.if_icmp .eq 288, 3) := dk_159 1 32 (dk_at dksL_law_98 11 rfl rfl)
theorem dL_law_2503 : decode cL_law 2503 = .ok (.iconst 0, 1) := dk_3 (dk_at dksL_law_98 14 rfl rfl)
theorem dL_law_2504 : decode cL_law 2504 = .ok (.ireturn, 1) := dk_172 (dk_at dksL_law_98 15 rfl rfl)
theorem dL_law_2505 : decode cL_law 2505 = .ok (.aload_n 1, 1) := dk_43 (dk_at dksL_law_98 16 rfl rfl)
theorem dL_law_2506 : decode cL_law 2506 = .ok (.invokevirtual 299, 3) := dk_182 1 43 (dk_at dksL_law_98 17 rfl rfl)
theorem dL_law_2509 : decode cL_law 2509 = .ok (.aload_n 2, 1) := dk_44 (dk_at dksL_law_98 20 rfl rfl)
theorem dL_law_2510 : decode cL_law 2510 = .ok (.invokevirtual 302, 3) := dk_182 1 46 (dk_at dksL_law_98 21 rfl rfl)
theorem dL_law_2513 : decode cL_law 2513 = .ok (.if_icmp .eq 275, 3) := dk_159 1 19 (dk_at dksL_law_99 0 rfl rfl)
theorem dL_law_2516 : decode cL_law 2516 = .ok (.iconst 0, 1) := dk_3 (dk_at dksL_law_99 3 rfl rfl)
theorem dL_law_2517 : decode cL_law 2517 = .ok (.ireturn, 1) := dk_172 (dk_at dksL_law_99 4 rfl rfl)
theorem dL_law_2518 : decode cL_law 2518 = .ok (.aload_n 1, 1) := dk_43 (dk_at dksL_law_99 5 rfl rfl)
theorem dL_law_2519 : decode cL_law 2519 = .ok (.aload_n 3, 1) := dk_45 (dk_at dksL_law_99 6 rfl rfl)
theorem dL_law_2520 : decode cL_law 2520 = .ok (.invokestatic 303, 3) := dk_184 1 47 (dk_at dksL_law_99 7 rfl rfl)
theorem dL_law_2523 : decode cL_law 2523 = .ok (.istore 6, 2) := dk_54 6 (dk_at dksL_law_99 10 rfl rfl)
theorem dL_law_2525 : decode cL_law 2525 = .ok (.aload_n 2, 1) := dk_44 (dk_at dksL_law_99 12 rfl rfl)
theorem dL_law_2526 : decode cL_law 2526 = .ok (.invokevirtual 305, 3) := dk_182 1 49 (dk_at dksL_law_99 13 rfl rfl)
theorem dL_law_2529 : decode cL_law 2529 = .ok (.istore 7, 2) := dk_54 7 (dk_at dksL_law_99 16 rfl rfl)
theorem dL_law_2531 : decode cL_law 2531 = .ok (.aload_n 2, 1) := dk_44 (dk_at dksL_law_99 18 rfl rfl)
theorem dL_law_2532 : decode cL_law 2532 = .ok (.invokevirtual 158, 3) := dk_182 0 158 (dk_at dksL_law_99 19 rfl rfl)
theorem dL_law_2535 : decode cL_law 2535 = .ok (.iload 6, 2) := dk_21 6 (dk_at dksL_law_99 22 rfl rfl)
theorem dL_law_2537 : decode cL_law 2537 = .ok (.if_icmp .eq 5, 3) := dk_159 0 5 (dk_at dksL_law_100 0 rfl rfl)
theorem dL_law_2540 : decode cL_law 2540 = .ok (.iconst 0, 1) := dk_3 (dk_at dksL_law_100 3 rfl rfl)
theorem dL_law_2541 : decode cL_law 2541 = .ok (.ireturn, 1) := dk_172 (dk_at dksL_law_100 4 rfl rfl)
theorem dL_law_2542 : decode cL_law 2542 = .ok (.iload 6, 2) := dk_21 6 (dk_at dksL_law_100 5 rfl rfl)
theorem dL_law_2544 : decode cL_law 2544 = .ok (.ifCond .ne 15, 3) := dk_154 0 15 (dk_at dksL_law_100 7 rfl rfl)
theorem dL_law_2547 : decode cL_law 2547 = .ok (.aload_n 3, 1) := dk_45 (dk_at dksL_law_100 10 rfl rfl)
theorem dL_law_2548 : decode cL_law 2548 = .ok (.iconst 0, 1) := dk_3 (dk_at dksL_law_100 11 rfl rfl)
theorem dL_law_2549 : decode cL_law 2549 = .ok (.laload, 1) := dk_47 (dk_at dksL_law_100 12 rfl rfl)
theorem dL_law_2550 : decode cL_law 2550 = .ok (.iload 7, 2) := dk_21 7 (dk_at dksL_law_100 13 rfl rfl)
theorem dL_law_2552 : decode cL_law 2552 = .ok (.i2l, 1) := dk_133 (dk_at dksL_law_100 15 rfl rfl)
theorem dL_law_2553 : decode cL_law 2553 = .ok (.lcmp, 1) := dk_148 (dk_at dksL_law_100 16 rfl rfl)
theorem dL_law_2554 : decode cL_law 2554 = .ok (.ifCond .eq 5, 3) := dk_153 0 5 (dk_at dksL_law_100 17 rfl rfl)
theorem dL_law_2557 : decode cL_law 2557 = .ok (.iconst 0, 1) := dk_3 (dk_at dksL_law_100 20 rfl rfl)
theorem dL_law_2558 : decode cL_law 2558 = .ok (.ireturn, 1) := dk_172 (dk_at dksL_law_100 21 rfl rfl)
theorem dL_law_2559 : decode cL_law 2559 = .ok (.goto 229, 3) := dk_167 0 229 (dk_at dksL_law_101 0 rfl rfl)
theorem dL_law_2562 : decode cL_law 2562 = .ok (.aload_n 1, 1) := dk_43 (dk_at dksL_law_101 3 rfl rfl)
theorem dL_law_2563 : decode cL_law 2563 = .ok (.invokevirtual 306, 3) := dk_182 1 50 (dk_at dksL_law_101 4 rfl rfl)
theorem dL_law_2566 : decode cL_law 2566 = .ok (.aload_n 2, 1) := dk_44 (dk_at dksL_law_101 7 rfl rfl)
theorem dL_law_2567 : decode cL_law 2567 = .ok (.invokevirtual 310, 3) := dk_182 1 54 (dk_at dksL_law_101 8 rfl rfl)
theorem dL_law_2570 : decode cL_law 2570 = .ok (.if_icmp .eq 218, 3) := dk_159 0 218 (dk_at dksL_law_101 11 rfl rfl)
theorem dL_law_2573 : decode cL_law 2573 = .ok (.iconst 0, 1) := dk_3 (dk_at dksL_law_101 14 rfl rfl)
theorem dL_law_2574 : decode cL_law 2574 = .ok (.ireturn, 1) := dk_172 (dk_at dksL_law_101 15 rfl rfl)
theorem dL_law_2575 : decode cL_law 2575 = .ok (.aload_n 1, 1) := dk_43 (dk_at dksL_law_101 16 rfl rfl)
theorem dL_law_2576 : decode cL_law 2576 = .ok (.aload_n 0, 1) := dk_42 (dk_at dksL_law_101 17 rfl rfl)
theorem dL_law_2577 : decode cL_law 2577 = .ok (.iload 5, 2) := dk_21 5 (dk_at dksL_law_101 18 rfl rfl)
theorem dL_law_2579 : decode cL_law 2579 = .ok (.iconst 1, 1) := dk_4 (dk_at dksL_law_101 20 rfl rfl)
theorem dL_law_2580 : decode cL_law 2580 = .ok (.iadd, 1) := dk_96 (dk_at dksL_law_101 21 rfl rfl)
theorem dL_law_2581 : decode cL_law 2581 = .ok (.iaload, 1) := dk_46 (dk_at dksL_law_101 22 rfl rfl)
theorem dL_law_2582 : decode cL_law 2582 = .ok (.aload_n 3, 1) := dk_45 (dk_at dksL_law_101 23 rfl rfl)
theorem dL_law_2583 : decode cL_law 2583 = .ok (.invokestatic 311, 3) := dk_184 1 55 (dk_at dksL_law_102 0 rfl rfl)
theorem dL_law_2586 : decode cL_law 2586 = .ok (.istore 6, 2) := dk_54 6 (dk_at dksL_law_102 3 rfl rfl)
theorem dL_law_2588 : decode cL_law 2588 = .ok (.aload_n 2, 1) := dk_44 (dk_at dksL_law_102 5 rfl rfl)
theorem dL_law_2589 : decode cL_law 2589 = .ok (.aload_n 0, 1) := dk_42 (dk_at dksL_law_102 6 rfl rfl)
theorem dL_law_2590 : decode cL_law 2590 = .ok (.iload 5, 2) := dk_21 5 (dk_at dksL_law_102 7 rfl rfl)
theorem dL_law_2592 : decode cL_law 2592 = .ok (.iconst 1, 1) := dk_4 (dk_at dksL_law_102 9 rfl rfl)
theorem dL_law_2593 : decode cL_law 2593 = .ok (.iadd, 1) := dk_96 (dk_at dksL_law_102 10 rfl rfl)
theorem dL_law_2594 : decode cL_law 2594 = .ok (.iaload, 1) := dk_46 (dk_at dksL_law_102 11 rfl rfl)
theorem dL_law_2595 : decode cL_law 2595 = .ok (.invokevirtual 313, 3) := dk_182 1 57 (dk_at dksL_law_102 12 rfl rfl)
theorem dL_law_2598 : decode cL_law 2598 = .ok (.istore 7, 2) := dk_54 7 (dk_at dksL_law_102 15 rfl rfl)
theorem dL_law_2600 : decode cL_law 2600 = .ok (.aload_n 2, 1) := dk_44 (dk_at dksL_law_102 17 rfl rfl)
theorem dL_law_2601 : decode cL_law 2601 = .ok (.invokevirtual 158, 3) := dk_182 0 158 (dk_at dksL_law_102 18 rfl rfl)
theorem dL_law_2604 : decode cL_law 2604 = .ok (.iload 6, 2) := dk_21 6 (dk_at dksL_law_102 21 rfl rfl)
theorem dL_law_2606 : decode cL_law 2606 = .ok (.if_icmp .eq 5, 3) := dk_159 0 5 (dk_at dksL_law_103 0 rfl rfl)
theorem dL_law_2609 : decode cL_law 2609 = .ok (.iconst 0, 1) := dk_3 (dk_at dksL_law_103 3 rfl rfl)
theorem dL_law_2610 : decode cL_law 2610 = .ok (.ireturn, 1) := dk_172 (dk_at dksL_law_103 4 rfl rfl)
theorem dL_law_2611 : decode cL_law 2611 = .ok (.iload 6, 2) := dk_21 6 (dk_at dksL_law_103 5 rfl rfl)
theorem dL_law_2613 : decode cL_law 2613 = .ok (.ifCond .ne 15, 3) := dk_154 0 15 (dk_at dksL_law_103 7 rfl rfl)
theorem dL_law_2616 : decode cL_law 2616 = .ok (.aload_n 3, 1) := dk_45 (dk_at dksL_law_103 10 rfl rfl)
theorem dL_law_2617 : decode cL_law 2617 = .ok (.iconst 0, 1) := dk_3 (dk_at dksL_law_103 11 rfl rfl)
theorem dL_law_2618 : decode cL_law 2618 = .ok (.laload, 1) := dk_47 (dk_at dksL_law_103 12 rfl rfl)
theorem dL_law_2619 : decode cL_law 2619 = .ok (.iload 7, 2) := dk_21 7 (dk_at dksL_law_103 13 rfl rfl)
theorem dL_law_2621 : decode cL_law 2621 = .ok (.i2l, 1) := dk_133 (dk_at dksL_law_103 15 rfl rfl)
theorem dL_law_2622 : decode cL_law 2622 = .ok (.lcmp, 1) := dk_148 (dk_at dksL_law_103 16 rfl rfl)
theorem dL_law_2623 : decode cL_law 2623 = .ok (.ifCond .eq 5, 3) := dk_153 0 5 (dk_at dksL_law_103 17 rfl rfl)
theorem dL_law_2626 : decode cL_law 2626 = .ok (.iconst 0, 1) := dk_3 (dk_at dksL_law_103 20 rfl rfl)
theorem dL_law_2627 : decode cL_law 2627 = .ok (.ireturn, 1) := dk_172 (dk_at dksL_law_103 21 rfl rfl)
theorem dL_law_2628 : decode cL_law 2628 = .ok (.goto 160, 3) := dk_167 0 160 (dk_at dksL_law_104 0 rfl rfl)
theorem dL_law_2631 : decode cL_law 2631 = .ok (.aload_n 1, 1) := dk_43 (dk_at dksL_law_104 3 rfl rfl)
theorem dL_law_2632 : decode cL_law 2632 = .ok (.aload_n 0, 1) := dk_42 (dk_at dksL_law_104 4 rfl rfl)
theorem dL_law_2633 : decode cL_law 2633 = .ok (.iload 5, 2) := dk_21 5 (dk_at dksL_law_104 5 rfl rfl)
theorem dL_law_2635 : decode cL_law 2635 = .ok (.iconst 1, 1) := dk_4 (dk_at dksL_law_104 7 rfl rfl)
theorem dL_law_2636 : decode cL_law 2636 = .ok (.iadd, 1) := dk_96 (dk_at dksL_law_104 8 rfl rfl)
theorem dL_law_2637 : decode cL_law 2637 = .ok (.iaload, 1) := dk_46 (dk_at dksL_law_104 9 rfl rfl)
theorem dL_law_2638 : decode cL_law 2638 = .ok (.aload_n 3, 1) := dk_45 (dk_at dksL_law_104 10 rfl rfl)
theorem dL_law_2639 : decode cL_law 2639 = .ok (.invokestatic 314, 3) := dk_184 1 58 (dk_at dksL_law_104 11 rfl rfl)
theorem dL_law_2642 : decode cL_law 2642 = .ok (.istore 6, 2) := dk_54 6 (dk_at dksL_law_104 14 rfl rfl)
theorem dL_law_2644 : decode cL_law 2644 = .ok (.aload_n 2, 1) := dk_44 (dk_at dksL_law_104 16 rfl rfl)
theorem dL_law_2645 : decode cL_law 2645 = .ok (.aload_n 0, 1) := dk_42 (dk_at dksL_law_104 17 rfl rfl)
theorem dL_law_2646 : decode cL_law 2646 = .ok (.iload 5, 2) := dk_21 5 (dk_at dksL_law_104 18 rfl rfl)
theorem dL_law_2648 : decode cL_law 2648 = .ok (.iconst 1, 1) := dk_4 (dk_at dksL_law_104 20 rfl rfl)
theorem dL_law_2649 : decode cL_law 2649 = .ok (.iadd, 1) := dk_96 (dk_at dksL_law_104 21 rfl rfl)
theorem dL_law_2650 : decode cL_law 2650 = .ok (.iaload, 1) := dk_46 (dk_at dksL_law_104 22 rfl rfl)
theorem dL_law_2651 : decode cL_law 2651 = .ok (.invokevirtual 316, 3) := dk_182 1 60 (dk_at dksL_law_105 0 rfl rfl)
theorem dL_law_2654 : decode cL_law 2654 = .ok (.istore 7, 2) := dk_54 7 (dk_at dksL_law_105 3 rfl rfl)
theorem dL_law_2656 : decode cL_law 2656 = .ok (.aload_n 2, 1) := dk_44 (dk_at dksL_law_105 5 rfl rfl)
theorem dL_law_2657 : decode cL_law 2657 = .ok (.invokevirtual 158, 3) := dk_182 0 158 (dk_at dksL_law_105 6 rfl rfl)
theorem dL_law_2660 : decode cL_law 2660 = .ok (.iload 6, 2) := dk_21 6 (dk_at dksL_law_105 9 rfl rfl)
theorem dL_law_2662 : decode cL_law 2662 = .ok (.if_icmp .eq 5, 3) := dk_159 0 5 (dk_at dksL_law_105 11 rfl rfl)
theorem dL_law_2665 : decode cL_law 2665 = .ok (.iconst 0, 1) := dk_3 (dk_at dksL_law_105 14 rfl rfl)
theorem dL_law_2666 : decode cL_law 2666 = .ok (.ireturn, 1) := dk_172 (dk_at dksL_law_105 15 rfl rfl)
theorem dL_law_2667 : decode cL_law 2667 = .ok (.iload 6, 2) := dk_21 6 (dk_at dksL_law_105 16 rfl rfl)
theorem dL_law_2669 : decode cL_law 2669 = .ok (.ifCond .ne 15, 3) := dk_154 0 15 (dk_at dksL_law_105 18 rfl rfl)
theorem dL_law_2672 : decode cL_law 2672 = .ok (.aload_n 3, 1) := dk_45 (dk_at dksL_law_105 21 rfl rfl)
theorem dL_law_2673 : decode cL_law 2673 = .ok (.iconst 0, 1) := dk_3 (dk_at dksL_law_105 22 rfl rfl)
theorem dL_law_2674 : decode cL_law 2674 = .ok (.laload, 1) := dk_47 (dk_at dksL_law_105 23 rfl rfl)
theorem dL_law_2675 : decode cL_law 2675 = .ok (.iload 7, 2) := dk_21 7 (dk_at dksL_law_106 0 rfl rfl)
theorem dL_law_2677 : decode cL_law 2677 = .ok (.i2l, 1) := dk_133 (dk_at dksL_law_106 2 rfl rfl)
theorem dL_law_2678 : decode cL_law 2678 = .ok (.lcmp, 1) := dk_148 (dk_at dksL_law_106 3 rfl rfl)
theorem dL_law_2679 : decode cL_law 2679 = .ok (.ifCond .eq 5, 3) := dk_153 0 5 (dk_at dksL_law_106 4 rfl rfl)
theorem dL_law_2682 : decode cL_law 2682 = .ok (.iconst 0, 1) := dk_3 (dk_at dksL_law_106 7 rfl rfl)
theorem dL_law_2683 : decode cL_law 2683 = .ok (.ireturn, 1) := dk_172 (dk_at dksL_law_106 8 rfl rfl)
theorem dL_law_2684 : decode cL_law 2684 = .ok (.goto 104, 3) := dk_167 0 104 (dk_at dksL_law_106 9 rfl rfl)
theorem dL_law_2687 : decode cL_law 2687 = .ok (.aload_n 1, 1) := dk_43 (dk_at dksL_law_106 12 rfl rfl)
theorem dL_law_2688 : decode cL_law 2688 = .ok (.aload_n 3, 1) := dk_45 (dk_at dksL_law_106 13 rfl rfl)
theorem dL_law_2689 : decode cL_law 2689 = .ok (.invokestatic 317, 3) := dk_184 1 61 (dk_at dksL_law_106 14 rfl rfl)
theorem dL_law_2692 : decode cL_law 2692 = .ok (.istore 6, 2) := dk_54 6 (dk_at dksL_law_106 17 rfl rfl)
theorem dL_law_2694 : decode cL_law 2694 = .ok (.aload_n 2, 1) := dk_44 (dk_at dksL_law_106 19 rfl rfl)
theorem dL_law_2695 : decode cL_law 2695 = .ok (.invokevirtual 319, 3) := dk_182 1 63 (dk_at dksL_law_106 20 rfl rfl)
theorem dL_law_2698 : decode cL_law 2698 = .ok (.istore 7, 2) := dk_54 7 (dk_at dksL_law_107 0 rfl rfl)
theorem dL_law_2700 : decode cL_law 2700 = .ok (.aload_n 2, 1) := dk_44 (dk_at dksL_law_107 2 rfl rfl)
theorem dL_law_2701 : decode cL_law 2701 = .ok (.invokevirtual 158, 3) := dk_182 0 158 (dk_at dksL_law_107 3 rfl rfl)
theorem dL_law_2704 : decode cL_law 2704 = .ok (.iload 6, 2) := dk_21 6 (dk_at dksL_law_107 6 rfl rfl)
theorem dL_law_2706 : decode cL_law 2706 = .ok (.if_icmp .eq 5, 3) := dk_159 0 5 (dk_at dksL_law_107 8 rfl rfl)
theorem dL_law_2709 : decode cL_law 2709 = .ok (.iconst 0, 1) := dk_3 (dk_at dksL_law_107 11 rfl rfl)
theorem dL_law_2710 : decode cL_law 2710 = .ok (.ireturn, 1) := dk_172 (dk_at dksL_law_107 12 rfl rfl)
theorem dL_law_2711 : decode cL_law 2711 = .ok (.iload 6, 2) := dk_21 6 (dk_at dksL_law_107 13 rfl rfl)
theorem dL_law_2713 : decode cL_law 2713 = .ok (.ifCond .ne 15, 3) := dk_154 0 15 (dk_at dksL_law_107 15 rfl rfl)
theorem dL_law_2716 : decode cL_law 2716 = .ok (.aload_n 3, 1) := dk_45 (dk_at dksL_law_107 18 rfl rfl)
theorem dL_law_2717 : decode cL_law 2717 = .ok (.iconst 0, 1) := dk_3 (dk_at dksL_law_107 19 rfl rfl)
theorem dL_law_2718 : decode cL_law 2718 = .ok (.laload, 1) := dk_47 (dk_at dksL_law_107 20 rfl rfl)
theorem dL_law_2719 : decode cL_law 2719 = .ok (.iload 7, 2) := dk_21 7 (dk_at dksL_law_107 21 rfl rfl)
theorem dL_law_2721 : decode cL_law 2721 = .ok (.i2l, 1) := dk_133 (dk_at dksL_law_107 23 rfl rfl)
theorem dL_law_2722 : decode cL_law 2722 = .ok (.lcmp, 1) := dk_148 (dk_at dksL_law_108 0 rfl rfl)
theorem dL_law_2723 : decode cL_law 2723 = .ok (.ifCond .eq 5, 3) := dk_153 0 5 (dk_at dksL_law_108 1 rfl rfl)
theorem dL_law_2726 : decode cL_law 2726 = .ok (.iconst 0, 1) := dk_3 (dk_at dksL_law_108 4 rfl rfl)
theorem dL_law_2727 : decode cL_law 2727 = .ok (.ireturn, 1) := dk_172 (dk_at dksL_law_108 5 rfl rfl)
theorem dL_law_2728 : decode cL_law 2728 = .ok (.goto 60, 3) := dk_167 0 60 (dk_at dksL_law_108 6 rfl rfl)
theorem dL_law_2731 : decode cL_law 2731 = .ok (.aload_n 1, 1) := dk_43 (dk_at dksL_law_108 9 rfl rfl)
theorem dL_law_2732 : decode cL_law 2732 = .ok (.invokevirtual 320, 3) := dk_182 1 64 (dk_at dksL_law_108 10 rfl rfl)
theorem dL_law_2735 : decode cL_law 2735 = .ok (.aload_n 2, 1) := dk_44 (dk_at dksL_law_108 13 rfl rfl)
theorem dL_law_2736 : decode cL_law 2736 = .ok (.invokevirtual 323, 3) := dk_182 1 67 (dk_at dksL_law_108 14 rfl rfl)
theorem dL_law_2739 : decode cL_law 2739 = .ok (.if_icmp .eq 49, 3) := dk_159 0 49 (dk_at dksL_law_108 17 rfl rfl)
theorem dL_law_2742 : decode cL_law 2742 = .ok (.iconst 0, 1) := dk_3 (dk_at dksL_law_108 20 rfl rfl)
theorem dL_law_2743 : decode cL_law 2743 = .ok (.ireturn, 1) := dk_172 (dk_at dksL_law_108 21 rfl rfl)
theorem dL_law_2744 : decode cL_law 2744 = .ok (.aload_n 1, 1) := dk_43 (dk_at dksL_law_108 22 rfl rfl)
theorem dL_law_2745 : decode cL_law 2745 = .ok (.aload_n 3, 1) := dk_45 (dk_at dksL_law_108 23 rfl rfl)
theorem dL_law_2746 : decode cL_law 2746 = .ok (.invokestatic 324, 3) := dk_184 1 68 (dk_at dksL_law_109 0 rfl rfl)
theorem dL_law_2749 : decode cL_law 2749 = .ok (.istore 6, 2) := dk_54 6 (dk_at dksL_law_109 3 rfl rfl)
theorem dL_law_2751 : decode cL_law 2751 = .ok (.aload_n 2, 1) := dk_44 (dk_at dksL_law_109 5 rfl rfl)
theorem dL_law_2752 : decode cL_law 2752 = .ok (.invokevirtual 326, 3) := dk_182 1 70 (dk_at dksL_law_109 6 rfl rfl)
theorem dL_law_2755 : decode cL_law 2755 = .ok (.istore 7, 2) := dk_54 7 (dk_at dksL_law_109 9 rfl rfl)
theorem dL_law_2757 : decode cL_law 2757 = .ok (.aload_n 2, 1) := dk_44 (dk_at dksL_law_109 11 rfl rfl)
theorem dL_law_2758 : decode cL_law 2758 = .ok (.invokevirtual 158, 3) := dk_182 0 158 (dk_at dksL_law_109 12 rfl rfl)
theorem dL_law_2761 : decode cL_law 2761 = .ok (.iload 6, 2) := dk_21 6 (dk_at dksL_law_109 15 rfl rfl)
theorem dL_law_2763 : decode cL_law 2763 = .ok (.if_icmp .eq 5, 3) := dk_159 0 5 (dk_at dksL_law_109 17 rfl rfl)
theorem dL_law_2766 : decode cL_law 2766 = .ok (.iconst 0, 1) := dk_3 (dk_at dksL_law_109 20 rfl rfl)
theorem dL_law_2767 : decode cL_law 2767 = .ok (.ireturn, 1) := dk_172 (dk_at dksL_law_109 21 rfl rfl)
theorem dL_law_2768 : decode cL_law 2768 = .ok (.iload 6, 2) := dk_21 6 (dk_at dksL_law_109 22 rfl rfl)
theorem dL_law_2770 : decode cL_law 2770 = .ok (.ifCond .ne 15, 3) := dk_154 0 15 (dk_at dksL_law_110 0 rfl rfl)
theorem dL_law_2773 : decode cL_law 2773 = .ok (.aload_n 3, 1) := dk_45 (dk_at dksL_law_110 3 rfl rfl)
theorem dL_law_2774 : decode cL_law 2774 = .ok (.iconst 0, 1) := dk_3 (dk_at dksL_law_110 4 rfl rfl)
theorem dL_law_2775 : decode cL_law 2775 = .ok (.laload, 1) := dk_47 (dk_at dksL_law_110 5 rfl rfl)
theorem dL_law_2776 : decode cL_law 2776 = .ok (.iload 7, 2) := dk_21 7 (dk_at dksL_law_110 6 rfl rfl)
theorem dL_law_2778 : decode cL_law 2778 = .ok (.i2l, 1) := dk_133 (dk_at dksL_law_110 8 rfl rfl)
theorem dL_law_2779 : decode cL_law 2779 = .ok (.lcmp, 1) := dk_148 (dk_at dksL_law_110 9 rfl rfl)
theorem dL_law_2780 : decode cL_law 2780 = .ok (.ifCond .eq 5, 3) := dk_153 0 5 (dk_at dksL_law_110 10 rfl rfl)
theorem dL_law_2783 : decode cL_law 2783 = .ok (.iconst 0, 1) := dk_3 (dk_at dksL_law_110 13 rfl rfl)
theorem dL_law_2784 : decode cL_law 2784 = .ok (.ireturn, 1) := dk_172 (dk_at dksL_law_110 14 rfl rfl)
theorem dL_law_2785 : decode cL_law 2785 = .ok (.goto 3, 3) := dk_167 0 3 (dk_at dksL_law_110 15 rfl rfl)
theorem dL_law_2788 : decode cL_law 2788 = .ok (.iinc 5 4, 3) := dk_132 5 4 (dk_at dksL_law_110 18 rfl rfl)
theorem dL_law_2791 : decode cL_law 2791 = .ok (.goto (-2763), 3) := dk_167 245 53 (dk_at dksL_law_110 21 rfl rfl)
theorem dL_law_2794 : decode cL_law 2794 = .ok (.iconst 1, 1) := dk_4 (dk_at dksL_law_111 0 rfl rfl)
theorem dL_law_2795 : decode cL_law 2795 = .ok (.ireturn, 1) := dk_172 (dk_at dksL_law_111 1 rfl rfl)
